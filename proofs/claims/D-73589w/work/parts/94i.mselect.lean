/-! PURE SIDE: the upper level: the model's select -/
set_option maxRecDepth 100000
section
variable {ms : MS} {r : Nat} {ls : LL}
theorem m_sel_l33 {y : Nat} {bb : Bool} (M : MR (ms.1 14) r ls) (hr : r < 4) (hT : ls.flatten.length ≤ 600) (hy : y < 2147483648) : ∀ (m fu p c : Nat), m < fu → p + m = ls.flatten.length → c ≤ y → c ≤ p → itr (d_M_select_l33) (fun _ _ _ _ _ _ => none) fu ms (ii r) (ii y) (ii (bn bb)) (ii c) (ii p) = dI (if y - c < cb bb (ls.flatten.drop p) then ii (p + sel bb (ls.flatten.drop p) (y - c) : Nat) else ii (-1)) ms := by
  intro m
  induction m with
  | zero =>
    intro fu p c hf hp hc hcp
    obtain ⟨fu, rfl⟩ : ∃ x, fu = x + 1 := ⟨fu - 1, by omega⟩
    refine dEqI ?_
    rw [itr_succ]
    unfold d_M_select_l33
    refine d_bIe (m_sizeOf M hr) ?_
    refine d_pos _ (ii_leT (by omega)) ?_
    rw [List.drop_of_length_le (by omega), if_neg (by rw [cb_nil]; omega)]
    exact d_dI ⟨rfl, rfl⟩
  | succ m ih =>
    intro fu p c hf hp hc hcp
    obtain ⟨fu, rfl⟩ : ∃ x, fu = x + 1 := ⟨fu - 1, by omega⟩
    have hpl : p < ls.flatten.length := by omega
    refine dEqI ?_
    rw [itr_succ]
    unfold d_M_select_l33
    refine d_bIe (m_sizeOf M hr) ?_
    refine d_neg _ (ii_leF (by omega)) ?_
    refine d_bIe (m_bitOf M hr hT hpl) ?_
    rw [List.drop_eq_getElem_cons hpl, cb_cons, sel_cons, gb_at hpl, il_1]
    by_cases q : ls.flatten[p] = bb
    · rw [if_pos q, if_pos q]
      refine d_pos _ (ii_eqT (by rw [q])) ?_
      by_cases q2 : c = y
      · refine d_pos _ (ii_eqT (by omega)) ?_
        refine d_dI ⟨?_, rfl⟩
        rw [if_pos (show y - c = 0 by omega), if_pos (by omega)]
        rfl
      · refine d_neg _ (ii_eqF (by omega)) ?_
        rw [ii_add, ii_add, if_neg (show ¬ y - c = 0 by omega)]
        refine ⟨_, _, ih fu (p + 1) (c + 1) (by omega) (by omega) (by omega) (by omega), ?_, rfl⟩
        rw [show y - (c + 1) = y - c - 1 by omega]
        by_cases q3 : y - c - 1 < cb bb (ls.flatten.drop (p + 1))
        · rw [if_pos q3, if_pos (by omega)]
          exact congrArg (fun z => some (Value.int (ii z))) (by omega)
        · rw [if_neg q3, if_neg (by omega)]
    · rw [if_neg q, if_neg q]
      refine d_neg _ (fun e => q (bn_inj ((ii_eq (by have := bn_le ls.flatten[p]; have := bn_le bb; omega)).1 e))) ?_
      rw [ii_add]
      refine ⟨_, _, ih fu (p + 1) c (by omega) (by omega) (by omega) (by omega), ?_, rfl⟩
      by_cases q3 : y - c < cb bb (ls.flatten.drop (p + 1))
      · rw [if_pos q3, if_pos (by omega)]
        exact congrArg (fun z => some (Value.int (ii z))) (by omega)
      · rw [if_neg q3, if_neg (by omega)]
end
