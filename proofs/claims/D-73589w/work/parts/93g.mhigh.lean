/-! PURE SIDE: the model: height and mixed -/
set_option maxRecDepth 100000
section
variable {ms : MS}
theorem m_highOf : ∀ (d n : Nat), n ≤ 2 ^ d → d ≤ 20 → d_M_highOf (d + 1) ms (ii n) = dI (ii (hgt (d + 1) n)) ms := by
  intro d
  induction d with
  | zero =>
    intro n hn _
    have : n ≤ 1 := hn
    show e_M_highOf (itr e_M_highOf (fun _ _ => none) 0) ms (ii n) = _
    unfold e_M_highOf
    rw [il_2, if_neg (ii_leF (a := 2) (b := n) (by omega))]
    unfold hgt
    rw [if_pos (by omega)]
    rfl
  | succ d ih =>
    intro n hn hd
    have p2 : 2 ^ (d + 1) = 2 * 2 ^ d := by rw [Nat.pow_succ, Nat.mul_comm]
    have pb : 2 ^ d ≤ 2 ^ 20 := Nat.pow_le_pow_right (by omega) (by omega)
    have ih' := ih ((n + 1) / 2) (by omega) (by omega)
    have e1 : hgt (d + 1 + 1) n = if n < 2 then 0 else 1 + hgt (d + 1) ((n + 1) / 2) := by rw [hgt]
    rw [e1]
    show e_M_highOf (d_M_highOf (d + 1)) ms (ii n) = _
    generalize d_M_highOf (d + 1) = F at *
    refine dEqI ?_
    unfold e_M_highOf
    rw [il_2, il_1, il_0]
    by_cases c : n < 2
    · rw [if_pos c]
      refine d_neg _ (ii_leF (by omega)) ?_
      exact d_dI ⟨rfl, rfl⟩
    · rw [if_neg c]
      refine d_pos _ (ii_leT (by omega)) ?_
      refine d_nz (by decide) ?_
      rw [ii_add, ii_div (by omega), show ((n : Int) + 1) / 2 = (((n + 1) / 2 : Nat) : Int) by omega]
      refine d_bIe ih' ?_
      rw [ii_add]
      refine d_dI ⟨?_, rfl⟩
      exact congrArg (fun z => some (Value.int (ii z))) (by omega)
theorem m_mixedOf : ∀ (d n : Nat), n ≤ 2 ^ d → d ≤ 20 → d_M_mixedOf (d + 1) ms (ii n) = dI (ii (mxd (d + 1) n)) ms := by
  intro d
  induction d with
  | zero =>
    intro n hn _
    have : n ≤ 1 := hn
    show e_M_mixedOf (itr e_M_mixedOf (fun _ _ => none) 0) ms (ii n) = _
    unfold e_M_mixedOf
    rw [il_2, if_neg (ii_leF (a := 2) (b := n) (by omega))]
    unfold mxd
    rw [if_pos (by omega)]
    rfl
  | succ d ih =>
    intro n hn hd
    have p2 : 2 ^ (d + 1) = 2 * 2 ^ d := by rw [Nat.pow_succ, Nat.mul_comm]
    have pb : 2 ^ d ≤ 2 ^ 20 := Nat.pow_le_pow_right (by omega) (by omega)
    have ih1 := ih ((n + 1) / 2) (by omega) (by omega)
    have ih2 := ih (n / 2) (by omega) (by omega)
    have e1 : mxd (d + 1 + 1) n = if n < 2 then 0 else mxd (d + 1) ((n + 1) / 2) + mxd (d + 1) (n / 2) + (if n = 3 then 1 else 0) := by rw [mxd]
    rw [e1]
    show e_M_mixedOf (d_M_mixedOf (d + 1)) ms (ii n) = _
    generalize d_M_mixedOf (d + 1) = F at *
    refine dEqI ?_
    unfold e_M_mixedOf
    rw [il_2, il_1, il_0]
    by_cases c : n < 2
    · rw [if_pos c]
      refine d_neg _ (ii_leF (by omega)) ?_
      exact d_dI ⟨rfl, rfl⟩
    · rw [if_neg c]
      refine d_pos _ (ii_leT (by omega)) ?_
      refine d_nz (by decide) ?_
      rw [ii_add, ii_div (by omega), show ((n : Int) + 1) / 2 = (((n + 1) / 2 : Nat) : Int) by omega, ii_div (by omega), show (n : Int) / 2 = ((n / 2 : Nat) : Int) by omega]
      refine d_bIe ih1 ?_
      refine d_nz (by decide) ?_
      refine d_bIe ih2 ?_
      rw [show (3 : Int32) = ii 3 from ii_lit 3, ii_add, ii_add, ii_add]
      by_cases c3 : n = 3
      · rw [if_pos c3]
        refine d_pos _ (ii_eqT (by omega)) ?_
        refine d_dI ⟨?_, rfl⟩
        exact congrArg (fun z => some (Value.int (ii z))) (by omega)
      · rw [if_neg c3]
        refine d_neg _ (ii_eqF (by omega)) ?_
        refine d_dI ⟨?_, rfl⟩
        exact congrArg (fun z => some (Value.int (ii z))) (by omega)
end
