/-! PURE SIDE: the upper level: the model's rank -/
set_option maxRecDepth 100000
section
variable {ms : MS} {n : Nat}
theorem m_isBit {b : Int} (hb : -2147483648 ≤ b ∧ b < 2147483648) : d_M_isBit ms (ii b) = dI (ii (bn (decide (0 ≤ b ∧ b ≤ 1)))) ms := by
  refine dEqI ?_
  unfold d_M_isBit
  rw [il_0, il_1]
  refine d_isIn (by omega) ?_
  cases decide (0 ≤ b ∧ b ≤ 1)
  · exact d_dZ0 ⟨rfl, rfl⟩
  · exact d_dZ1 ⟨rfl, rfl⟩
theorem m_rank {x y b : Int} {A : Nat → LL} (hm : ms.1 14 0 = ii n) (hn : n ≤ 4) (hx : -2147483648 ≤ x ∧ x < 2147483648) (hy : -2147483648 ≤ y ∧ y < 2147483648) (hb : -2147483648 ≤ b ∧ b < 2147483648) (M : ∀ r, r < n → MR (ms.1 14) r (A r) ∧ (A r).flatten.length ≤ 600) : d_M_rank ms (ii x) (ii y) (ii b) = dI (if (0 ≤ x ∧ x < n) ∧ (0 ≤ y ∧ y ≤ ((A x.toNat).flatten.length : Int)) ∧ 0 ≤ b ∧ b ≤ 1 then ii (cb (decide (b = 1)) ((A x.toNat).flatten.take y.toNat)) else ii (-1)) (mset ms 0 0 0) := by
  refine dEqI ?_
  unfold d_M_rank
  refine d_nm ?_
  have hm' : (mset ms 0 0 0).1 14 = ms.1 14 := ms_nk (by decide)
  refine d_bIe (m_isRow (by rw [hm']; exact hm) hn hx) ?_
  by_cases c : 0 ≤ x ∧ x < n
  · rw [decide_eq_true c]
    refine d_neg _ (by decide) ?_
    obtain ⟨k, rfl⟩ : ∃ k : Nat, x = k := ⟨x.toNat, by omega⟩
    rw [Int.toNat_natCast]
    obtain ⟨M1, M2⟩ := M k (by omega)
    have M1' : MR ((mset ms 0 0 0).1 14) k (A k) := by rw [hm']; exact M1
    refine d_bIe (m_isBit hb) ?_
    by_cases c3 : 0 ≤ b ∧ b ≤ 1
    · rw [decide_eq_true c3]
      refine d_neg _ (by decide) ?_
      refine d_bIe (m_sizeOf M1' (by omega)) ?_
      rw [il_0, il_1]
      refine d_isIn (by omega) ?_
      by_cases c2 : 0 ≤ y ∧ y ≤ ((A k).flatten.length : Int)
      · rw [decide_eq_true c2]
        have cc : (0 ≤ (k : Int) ∧ (k : Int) < n) ∧ (0 ≤ y ∧ y ≤ ((A k).flatten.length : Int)) ∧ 0 ≤ b ∧ b ≤ 1 := ⟨c, c2, c3⟩
        refine d_neg _ (by decide) ?_
        obtain ⟨i, rfl⟩ : ∃ i : Nat, y = i := ⟨y.toNat, by omega⟩
        have mo := m_onesIn (i := 0) (j := i) M1' (by omega) M2 (by omega) (by omega)
        rw [List.take_zero, cnt_nil] at mo
        refine d_bIe mo ?_
        rw [Int.toNat_natCast]
        have cf := cb_false ((A k).flatten.take i)
        rw [List.length_take] at cf
        by_cases q : b = 1
        · refine d_pos _ (ii_eqT q) ?_
          refine d_dI ⟨?_, rfl⟩
          rw [if_pos cc, decide_eq_true q, cb_true]
          exact congrArg (fun z => some (Value.int (ii z))) (by omega)
        · refine d_neg _ (ii_eqF (by omega)) ?_
          rw [ii_sub]
          refine d_dI ⟨?_, rfl⟩
          rw [if_pos cc, decide_eq_false q]
          exact congrArg (fun z => some (Value.int (ii z))) (by omega)
      · rw [decide_eq_false c2]
        have cc : ¬ ((0 ≤ (k : Int) ∧ (k : Int) < n) ∧ (0 ≤ y ∧ y ≤ ((A k).flatten.length : Int)) ∧ 0 ≤ b ∧ b ≤ 1) := fun q => c2 q.2.1
        refine d_pos _ rfl ?_
        exact d_dI ⟨by rw [if_neg cc]; rfl, rfl⟩
    · rw [decide_eq_false c3]
      have cc : ¬ ((0 ≤ (k : Int) ∧ (k : Int) < n) ∧ (0 ≤ y ∧ y ≤ ((A k).flatten.length : Int)) ∧ 0 ≤ b ∧ b ≤ 1) := fun q => c3 q.2.2
      refine d_pos _ rfl ?_
      exact d_dI ⟨by rw [if_neg cc]; rfl, rfl⟩
  · rw [decide_eq_false c]
    have cc : ¬ ((0 ≤ x ∧ x < n) ∧ (0 ≤ y ∧ y ≤ ((A x.toNat).flatten.length : Int)) ∧ 0 ≤ b ∧ b ≤ 1) := fun q => c q.1
    refine d_pos _ rfl ?_
    exact d_dI ⟨by rw [if_neg cc]; rfl, rfl⟩
end
