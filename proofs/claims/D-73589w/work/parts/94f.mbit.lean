/-! PURE SIDE: the upper level: the model's bit -/
set_option maxRecDepth 100000
section
variable {ms : MS} {n : Nat}
theorem m_bit {x y : Int} {A : Nat → LL} (hm : ms.1 14 0 = ii n) (hn : n ≤ 4) (hx : -2147483648 ≤ x ∧ x < 2147483648) (hy : -2147483648 ≤ y ∧ y < 2147483648) (M : ∀ r, r < n → MR (ms.1 14) r (A r) ∧ (A r).flatten.length ≤ 600) : d_M_bit ms (ii x) (ii y) = dI (if (0 ≤ x ∧ x < n) ∧ 0 ≤ y ∧ y < ((A x.toNat).flatten.length : Int) then ii (bn (gb (A x.toNat).flatten y.toNat)) else ii (-1)) (mset ms 0 0 0) := by
  refine dEqI ?_
  unfold d_M_bit
  refine d_nm ?_
  have hm' : (mset ms 0 0 0).1 14 = ms.1 14 := ms_nk (by decide)
  refine d_bIe (m_isRow (by rw [hm']; exact hm) hn hx) ?_
  by_cases c : 0 ≤ x ∧ x < n
  · rw [decide_eq_true c]
    refine d_neg _ (by decide) ?_
    obtain ⟨k, rfl⟩ : ∃ k : Nat, x = k := ⟨x.toNat, by omega⟩
    rw [Int.toNat_natCast]
    obtain ⟨M1, M2⟩ := M k (by omega)
    have M1' : MR ((mset ms 0 0 0).1 14) k (A k) := by rw [hm']; exact M1
    have it : d_M_isThere (mset ms 0 0 0) (ii k) (ii y) = dI (ii (bn (decide (0 ≤ y ∧ y ≤ ((A k).flatten.length : Int) - 1)))) (mset ms 0 0 0) := by
      refine dEqI ?_
      unfold d_M_isThere
      refine d_bIe (m_sizeOf M1' (by omega)) ?_
      rw [il_0, il_1, ii_sub]
      refine d_isIn (by omega) ?_
      cases decide (0 ≤ y ∧ y ≤ ((A k).flatten.length : Int) - 1)
      · exact d_dZ0 ⟨rfl, rfl⟩
      · exact d_dZ1 ⟨rfl, rfl⟩
    refine d_bIe it ?_
    by_cases c2 : 0 ≤ y ∧ y ≤ ((A k).flatten.length : Int) - 1
    · rw [decide_eq_true c2]
      have cc : (0 ≤ (k : Int) ∧ (k : Int) < n) ∧ 0 ≤ y ∧ y < ((A k).flatten.length : Int) := ⟨c, by omega⟩
      refine d_neg _ (by decide) ?_
      obtain ⟨i, rfl⟩ : ∃ i : Nat, y = i := ⟨y.toNat, by omega⟩
      refine d_bIe (m_bitOf M1' (by omega) M2 (by omega)) ?_
      exact d_dI ⟨by rw [if_pos cc]; rfl, rfl⟩
    · rw [decide_eq_false c2]
      have cc : ¬ ((0 ≤ (k : Int) ∧ (k : Int) < n) ∧ 0 ≤ y ∧ y < ((A k).flatten.length : Int)) := fun q => c2 (by omega)
      refine d_pos _ rfl ?_
      exact d_dI ⟨by rw [if_neg cc]; rfl, rfl⟩
  · rw [decide_eq_false c]
    have cc : ¬ ((0 ≤ x ∧ x < n) ∧ 0 ≤ y ∧ y < ((A x.toNat).flatten.length : Int)) := fun q => c q.1
    refine d_pos _ rfl ?_
    exact d_dI ⟨by rw [if_neg cc]; rfl, rfl⟩
end
