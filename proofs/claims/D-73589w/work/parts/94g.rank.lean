/-! PURE SIDE: the upper level: how many ahead -/
set_option maxRecDepth 100000
section
variable {own : Nat → Nat} {B z low rm n : Nat} {h : PH} {A : Nat → LL} {R N : Nat → Nat} {T : Nat → Bool} {rows seed : Int32} {fs gs : List Value}
theorem b_rank {x y b : Int} (C : BC h B rm z n fs gs) (S : SR own B h z low A R N T rows seed) (wf : Wf h) (hx : -2147483648 ≤ x ∧ x < 2147483648) (hy : -2147483648 ≤ y ∧ y < 2147483648) (hb : -2147483648 ≤ b ∧ b < 2147483648) : EI (c_B_rank h B (ii x) (ii y) (ii b)) (fun v h' => v = (if (0 ≤ x ∧ x < n) ∧ (0 ≤ y ∧ y ≤ ((A x.toNat).flatten.length : Int)) ∧ 0 ≤ b ∧ b ≤ 1 then ii (cb (decide (b = 1)) ((A x.toNat).flatten.take y.toNat)) else ii (-1)) ∧ QR own B rm z n low fs gs A R N rows seed h h') := by
  have C' := C
  obtain ⟨e, e6, e7, er, e1, hn⟩ := C'
  refine EI.of ?_
  unfold c_B_rank
  refine q_grd e (by decide) ?_
  refine q_hIe (b_isRow C hx) ?_
  by_cases c : 0 ≤ x ∧ x < n
  · rw [decide_eq_true c]
    refine q_neg _ (by decide) ?_
    obtain ⟨k, rfl⟩ : ∃ k : Nat, x = k := ⟨x.toNat, by omega⟩
    have hk : k < 4 := by omega
    rw [Int.toNat_natCast]
    refine q_hQ (b_rope2 C S wf hk) fun v h1 ⟨g0, own1, S1, C1, G1, z1, z2⟩ => ?_
    rw [g0]
    refine q_nn ?_
    have P := S1.2.1 k (by omega)
    refine q_hIe (p_wide P) ?_
    have hbd := P.bnd
    rw [il_0, il_1]
    refine q_hIe (b_isIn (by omega)) ?_
    by_cases c2 : 0 ≤ y ∧ y ≤ ((A k).flatten.length : Int)
    · rw [decide_eq_true c2]
      refine q_neg _ (by decide) ?_
      refine q_hIe (b_isIn (by omega)) ?_
      by_cases c3 : 0 ≤ b ∧ b ≤ 1
      · rw [decide_eq_true c3]
        have cc : (0 ≤ (k : Int) ∧ (k : Int) < n) ∧ (0 ≤ y ∧ y ≤ ((A k).flatten.length : Int)) ∧ 0 ≤ b ∧ b ≤ 1 := ⟨c, c2, c3⟩
        refine q_neg _ (by decide) ?_
        obtain ⟨i, rfl⟩ : ∃ i : Nat, y = i := ⟨y.toNat, by omega⟩
        have eb : b = bn (decide (b = 1)) := by
          by_cases q : b = 1
          · rw [q]; rfl
          · rw [decide_eq_false q]; show b = 0; omega
        refine q_hQe (b_rope1 C1 S1 hk (by unfold va_up; rw [if_pos rfl])) ?_
        refine q_nn ?_
        have pb := p_before (bb := decide (b = 1)) P G1.wf (show i ≤ (A k).flatten.length by omega)
        rw [← eb] at pb
        refine q_hI pb fun v h2 ⟨f1, f2, f3, f4⟩ => ?_
        obtain ⟨l1, l2⟩ := SR.lift S1 G1.wf (by omega) (fun _ _ => rfl) f2 f3
        rw [up_self, up_self] at l1
        refine q_rI ⟨v, rfl, f1.trans (if_pos cc).symm, own1, _, l1, C1.gf S1 l2, G1.trans l2 wf, by rw [f4]; exact z1, by rw [f4]; exact z2⟩
      · rw [decide_eq_false c3]
        have cc : ¬ ((0 ≤ (k : Int) ∧ (k : Int) < n) ∧ (0 ≤ y ∧ y ≤ ((A k).flatten.length : Int)) ∧ 0 ≤ b ∧ b ≤ 1) := fun q => c3 q.2.2
        refine q_pos _ rfl ?_
        exact q_rI ⟨_, rfl, (if_neg cc).symm, own1, _, S1, C1, G1, z1, z2⟩
    · rw [decide_eq_false c2]
      have cc : ¬ ((0 ≤ (k : Int) ∧ (k : Int) < n) ∧ (0 ≤ y ∧ y ≤ ((A k).flatten.length : Int)) ∧ 0 ≤ b ∧ b ≤ 1) := fun q => c2 q.2.1
      refine q_pos _ rfl ?_
      exact q_rI ⟨_, rfl, (if_neg cc).symm, own1, _, S1, C1, G1, z1, z2⟩
  · rw [decide_eq_false c]
    have cc : ¬ ((0 ≤ x ∧ x < n) ∧ (0 ≤ y ∧ y ≤ ((A x.toNat).flatten.length : Int)) ∧ 0 ≤ b ∧ b ≤ 1) := fun q => c q.1
    refine q_pos _ rfl ?_
    exact q_rI ⟨_, rfl, (if_neg cc).symm, QR.rf C S wf⟩
end
