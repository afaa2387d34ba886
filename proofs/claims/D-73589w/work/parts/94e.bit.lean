/-! PURE SIDE: the upper level: a bit asked for -/
set_option maxRecDepth 100000
/-- a question leaves all as it is but for what is built -/
def QR (own : Nat → Nat) (B rm z n low : Nat) (fs gs : List Value) (A : Nat → LL) (R N : Nat → Nat) (rows seed : Int32) (h h' : PH) : Prop := ∃ own' T', SR own' B h' z low A R N T' rows seed ∧ BC h' B rm z n fs gs ∧ GF own own' R z h h' ∧ h'.2.1.1 ≤ h.2.1.1 + 900 ∧ h'.2.1.2 ≤ h.2.1.2 + 4800
section
variable {own : Nat → Nat} {B z low rm n : Nat} {h : PH} {A : Nat → LL} {R N : Nat → Nat} {T : Nat → Bool} {rows seed : Int32} {fs gs : List Value}
theorem QR.rf (C : BC h B rm z n fs gs) (S : SR own B h z low A R N T rows seed) (wf : Wf h) : QR own B rm z n low fs gs A R N rows seed h h := ⟨own, T, S, C, GF.rf wf, Nat.le_add_right _ _, Nat.le_add_right _ _⟩
theorem b_bit {x y : Int} (C : BC h B rm z n fs gs) (S : SR own B h z low A R N T rows seed) (wf : Wf h) (hx : -2147483648 ≤ x ∧ x < 2147483648) (hy : -2147483648 ≤ y ∧ y < 2147483648) : EI (c_B_bit h B (ii x) (ii y)) (fun v h' => v = (if (0 ≤ x ∧ x < n) ∧ 0 ≤ y ∧ y < ((A x.toNat).flatten.length : Int) then ii (bn (gb (A x.toNat).flatten y.toNat)) else ii (-1)) ∧ QR own B rm z n low fs gs A R N rows seed h h') := by
  have C' := C
  obtain ⟨e, e6, e7, er, e1, hn⟩ := C'
  refine EI.of ?_
  unfold c_B_bit
  refine q_grd e (by decide) ?_
  refine q_hIe (b_isRow C hx) ?_
  by_cases c : 0 ≤ x ∧ x < n
  · rw [decide_eq_true c]
    refine q_neg _ (by decide) ?_
    obtain ⟨k, rfl⟩ : ∃ k : Nat, x = k := ⟨x.toNat, by omega⟩
    have hk : k < 4 := by omega
    rw [Int.toNat_natCast]
    refine q_hQ (b_rope2 C S wf hk) fun v h1 ⟨g0, own1, S1, C1, G1, z1, z2⟩ => ?_
    rw [g0]
    refine q_nn ?_
    have P := S1.2.1 k (by omega)
    refine q_hIe (p_wide P) ?_
    have hb := P.bnd
    rw [il_0, il_1, ii_sub]
    refine q_hIe (b_isIn (by omega)) ?_
    by_cases c2 : 0 ≤ y ∧ y ≤ ((A k).flatten.length : Int) - 1
    · rw [decide_eq_true c2]
      have cc : (0 ≤ (k : Int) ∧ (k : Int) < n) ∧ 0 ≤ y ∧ y < ((A k).flatten.length : Int) := ⟨c, by omega⟩
      refine q_neg _ (by decide) ?_
      obtain ⟨i, rfl⟩ : ∃ i : Nat, y = i := ⟨y.toNat, by omega⟩
      refine q_hQe (b_rope1 C1 S1 hk (by unfold va_up; rw [if_pos rfl])) ?_
      refine q_nn ?_
      refine q_hI (p_get P G1.wf (by omega)) fun v h2 ⟨f1, f2, f3, f4⟩ => ?_
      obtain ⟨l1, l2⟩ := SR.lift S1 G1.wf (by omega) (fun _ _ => rfl) f2 f3
      rw [up_self, up_self] at l1
      refine q_rI ⟨v, rfl, f1.trans (if_pos cc).symm, own1, _, l1, C1.gf S1 l2, G1.trans l2 wf, by rw [f4]; exact z1, by rw [f4]; exact z2⟩
    · rw [decide_eq_false c2]
      have cc : ¬ ((0 ≤ (k : Int) ∧ (k : Int) < n) ∧ 0 ≤ y ∧ y < ((A k).flatten.length : Int)) := fun q => c2 (by omega)
      refine q_pos _ rfl ?_
      exact q_rI ⟨_, rfl, (if_neg cc).symm, own1, _, S1, C1, G1, z1, z2⟩
  · rw [decide_eq_false c]
    have cc : ¬ ((0 ≤ x ∧ x < n) ∧ 0 ≤ y ∧ y < ((A x.toNat).flatten.length : Int)) := fun q => c q.1
    refine q_pos _ rfl ?_
    exact q_rI ⟨_, rfl, (if_neg cc).symm, QR.rf C S wf⟩
end
