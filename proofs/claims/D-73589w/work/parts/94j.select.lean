/-! PURE SIDE: the upper level: where the so-many-th lies -/
set_option maxRecDepth 100000
theorem bit_of {b : Int} (h : 0 ≤ b ∧ b ≤ 1) : b = bn (decide (b = 1)) := by
  by_cases q : b = 1
  · rw [q]; rfl
  · rw [decide_eq_false q]; show b = 0; omega
def selA (n : Nat) (A : Nat → LL) (x y b : Int) : Int := if (0 ≤ x ∧ x < n) ∧ (0 ≤ b ∧ b ≤ 1) ∧ 0 ≤ y ∧ y < (cb (decide (b = 1)) (A x.toNat).flatten : Int) then (sel (decide (b = 1)) (A x.toNat).flatten y.toNat : Int) else -1
section
variable {own : Nat → Nat} {B z low rm n : Nat} {h : PH} {A : Nat → LL} {R N : Nat → Nat} {T : Nat → Bool} {rows seed : Int32} {fs gs : List Value} {ms : MS}
theorem b_select {x y b : Int} (C : BC h B rm z n fs gs) (S : SR own B h z low A R N T rows seed) (wf : Wf h) (hx : -2147483648 ≤ x ∧ x < 2147483648) (hy : -2147483648 ≤ y ∧ y < 2147483648) (hb : -2147483648 ≤ b ∧ b < 2147483648) : EI (c_B_select h B (ii x) (ii y) (ii b)) (fun v h' => v = ii (selA n A x y b) ∧ QR own B rm z n low fs gs A R N rows seed h h') := by
  have C' := C
  obtain ⟨e, e6, e7, er, e1, hn⟩ := C'
  refine EI.of ?_
  unfold c_B_select selA
  refine q_grd e (by decide) ?_
  refine q_hIe (b_isRow C hx) ?_
  by_cases c : 0 ≤ x ∧ x < n
  · rw [decide_eq_true c]
    refine q_neg _ (by decide) ?_
    obtain ⟨k, rfl⟩ : ∃ k : Nat, x = k := ⟨x.toNat, by omega⟩
    have hk : k < 4 := by omega
    rw [Int.toNat_natCast, il_0, il_1]
    refine q_hIe (b_isIn (by omega)) ?_
    by_cases c3 : 0 ≤ b ∧ b ≤ 1
    · rw [decide_eq_true c3]
      refine q_neg _ (by decide) ?_
      have eb := bit_of c3
      refine q_hQ (b_rope2 C S wf hk) fun v h1 ⟨g0, own1, S1, C1, G1, z1, z2⟩ => ?_
      rw [g0]
      refine q_nn ?_
      have P := S1.2.1 k (by omega)
      have hT : va_up T k true k = true := by unfold va_up; rw [if_pos rfl]
      rw [hT] at P
      have hbd := P.bnd
      have pm := p_many (bb := decide (b = 1)) P
      rw [← eb] at pm
      refine q_hIe pm ?_
      have cl : cb (decide (b = 1)) (A k).flatten ≤ (A k).flatten.length := List.count_le_length
      rw [ii_sub]
      refine q_hIe (b_isIn (by omega)) ?_
      by_cases c2 : 0 ≤ y ∧ y ≤ (cb (decide (b = 1)) (A k).flatten : Int) - 1
      · rw [decide_eq_true c2]
        have cc : (0 ≤ (k : Int) ∧ (k : Int) < n) ∧ (0 ≤ b ∧ b ≤ 1) ∧ 0 ≤ y ∧ y < (cb (decide (b = 1)) (A k).flatten : Int) := ⟨c, c3, by omega⟩
        refine q_neg _ (by decide) ?_
        obtain ⟨i, rfl⟩ : ∃ i : Nat, y = i := ⟨y.toNat, by omega⟩
        refine q_hQe (b_rope1 C1 S1 hk hT) ?_
        refine q_nn ?_
        have pw := p_where (bb := decide (b = 1)) P G1.wf (show i < cb (decide (b = 1)) (A k).flatten by omega)
        rw [← eb] at pw
        refine q_hI pw fun v h2 ⟨f1, f2, f3, f4⟩ => ?_
        obtain ⟨l1, l2⟩ := SR.lift S1 G1.wf (by omega) (fun _ _ => rfl) f2 f3
        rw [up_self, up_self] at l1
        refine q_rI ⟨v, rfl, f1.trans (by rw [if_pos cc]; rfl), own1, _, l1, C1.gf S1 l2, G1.trans l2 wf, by rw [f4]; exact z1, by rw [f4]; exact z2⟩
      · rw [decide_eq_false c2]
        refine q_pos _ rfl ?_
        exact q_rI ⟨_, rfl, by rw [if_neg (fun q => c2 (by omega))]; rfl, own1, _, S1, C1, G1, z1, z2⟩
    · rw [decide_eq_false c3]
      refine q_pos _ rfl ?_
      exact q_rI ⟨_, rfl, by rw [if_neg (fun q => c3 q.2.1)]; rfl, QR.rf C S wf⟩
  · rw [decide_eq_false c]
    refine q_pos _ rfl ?_
    exact q_rI ⟨_, rfl, by rw [if_neg (fun q => c q.1)]; rfl, QR.rf C S wf⟩
theorem m_select {x y b : Int} (hm : ms.1 14 0 = ii n) (hn : n ≤ 4) (hx : -2147483648 ≤ x ∧ x < 2147483648) (hy : -2147483648 ≤ y ∧ y < 2147483648) (hb : -2147483648 ≤ b ∧ b < 2147483648) (M : ∀ r, r < n → MR (ms.1 14) r (A r) ∧ (A r).flatten.length ≤ 600) : d_M_select ms (ii x) (ii y) (ii b) = dI (ii (selA n A x y b)) (mset ms 0 0 0) := by
  refine dEqI ?_
  unfold d_M_select selA
  refine d_nm ?_
  have hm' : (mset ms 0 0 0).1 14 = ms.1 14 := ms_nk (by decide)
  refine d_bIe (m_isRow (by rw [hm']; exact hm) hn hx) ?_
  by_cases c : 0 ≤ x ∧ x < n
  · rw [decide_eq_true c]
    refine d_neg _ (by decide) ?_
    obtain ⟨k, rfl⟩ : ∃ k : Nat, x = k := ⟨x.toNat, by omega⟩
    rw [Int.toNat_natCast]
    obtain ⟨M1, M2⟩ := M k (by omega)
    have M1' : MR ((mset ms 0 0 0).1 14) k (A k) := by rw [hm']; exact M1
    refine d_bIe (m_isBit hb) ?_
    by_cases c3 : 0 ≤ b ∧ b ≤ 1
    · rw [decide_eq_true c3]
      refine d_neg _ (by decide) ?_
      have eb := bit_of c3
      rw [il_0]
      by_cases c2 : 0 ≤ y
      · refine d_pos _ (ii_leT (by omega)) ?_
        obtain ⟨i, rfl⟩ : ∃ i : Nat, y = i := ⟨y.toNat, by omega⟩
        have l := m_sel_l33 (bb := decide (b = 1)) (y := i) M1' (by omega) M2 (by omega) (A k).flatten.length FU 0 0 (by unfold FU; omega) (by omega) (by omega) (by omega)
        rw [← eb] at l
        refine ⟨_, _, l, ?_, rfl⟩
        rw [List.drop_zero, Nat.sub_zero, Nat.zero_add, Int.toNat_natCast]
        by_cases q : i < cb (decide (b = 1)) (A k).flatten
        · rw [if_pos q, if_pos ⟨c, c3, by omega⟩]
        · rw [if_neg q, if_neg (fun q' => q (by omega))]
      · refine d_neg _ (ii_leF (by omega)) ?_
        exact d_dI ⟨by rw [if_neg (fun q => c2 q.2.2.1)]; rfl, rfl⟩
    · rw [decide_eq_false c3]
      refine d_pos _ rfl ?_
      exact d_dI ⟨by rw [if_neg (fun q => c3 q.2.1)]; rfl, rfl⟩
  · rw [decide_eq_false c]
    refine d_pos _ rfl ?_
    exact d_dI ⟨by rw [if_neg (fun q => c q.1)]; rfl, rfl⟩
end
