/-! PURE SIDE: the upper level: the model's rows -/
set_option maxRecDepth 100000
section
variable {ms : MS} {n : Nat}
theorem m_isRow {x : Int} (hm : ms.1 14 0 = ii n) (hn : n ≤ 4) (hx : -2147483648 ≤ x ∧ x < 2147483648) : d_M_isRow ms (ii x) = dI (ii (bn (decide (0 ≤ x ∧ x < n)))) ms := by
  refine dEqI ?_
  unfold d_M_isRow
  rw [il_0, il_1]
  refine d_eA (N := 6062) rfl (n := 0) (by omega) hm ?_
  rw [ii_sub]
  refine d_isIn (by omega) ?_
  have : decide (0 ≤ x ∧ x ≤ (n : Int) - 1) = decide (0 ≤ x ∧ x < n) := by
    rw [decide_eq_decide]; omega
  rw [this]
  cases decide (0 ≤ x ∧ x < n)
  · exact d_dZ0 ⟨rfl, rfl⟩
  · exact d_dZ1 ⟨rfl, rfl⟩
theorem m_size {x : Int} {A : Nat → LL} (hm : ms.1 14 0 = ii n) (hn : n ≤ 4) (hx : -2147483648 ≤ x ∧ x < 2147483648) (M : ∀ r, r < n → MR (ms.1 14) r (A r)) : d_M_size ms (ii x) = dI (if 0 ≤ x ∧ x < n then ii (A x.toNat).flatten.length else ii (-1)) (mset ms 0 0 0) := by
  refine dEqI ?_
  unfold d_M_size
  refine d_nm ?_
  have hm' : (mset ms 0 0 0).1 14 = ms.1 14 := ms_nk (by decide)
  refine d_bIe (m_isRow (by rw [hm']; exact hm) hn hx) ?_
  by_cases c : 0 ≤ x ∧ x < n
  · rw [if_pos c, decide_eq_true c]
    refine d_neg _ (by decide) ?_
    obtain ⟨k, rfl⟩ : ∃ k : Nat, x = k := ⟨x.toNat, by omega⟩
    refine d_bIe (m_sizeOf (by rw [hm']; exact M k (by omega)) (by omega)) ?_
    exact d_dI ⟨rfl, rfl⟩
  · rw [if_neg c, decide_eq_false c]
    refine d_pos _ rfl ?_
    exact d_dI ⟨rfl, rfl⟩
end
