/-! PURE SIDE: acts on the tried state while a reader reads -/
set_option maxRecDepth 100000
/-- what a reader of rooms may change: readers, the fault, the tried state -/
def GX (own own' : Nat → Nat) (R : Nat → Nat) (z : Nat) (h h' : PH) : Prop := h.2.1.1 ≤ h'.2.1.1 ∧ h.2.1.2 ≤ h'.2.1.2 ∧ h'.2.2 = h.2.2 ∧ Wf h' ∧ (∀ x, x < h.2.1.1 → own' x = own x) ∧ ∀ x c, h.1 x = some c → kd c ≠ 10 → x ≠ z → ((∀ k, k < 11 → own x ≠ R k) ∨ rK c = false) → h'.1 x = some c
section
variable {b own own' own1 own2 : Nat → Nat} {X : XS} {h h1 h2 h' : PH} {held : Int} {rm z z' : Nat} {skm : Int} {sn : Option Nat} {R R' N N' N2 : Nat → Nat} {Tb : Nat → Bool} {seed rows' seed' rows2 seed2 : Int32} {c s : Nat}
theorem GX.rf (w : Wf h) : GX own own R z h h := ⟨Nat.le_refl _, Nat.le_refl _, rfl, w, fun _ _ => rfl, fun _ _ e _ _ _ => e⟩
theorem GX.trans (o : GX own own1 R z h h1) (k : GX own1 own2 R z h1 h2) (w : Wf h) : GX own own2 R z h h2 := ⟨Nat.le_trans o.1 k.1, Nat.le_trans o.2.1 k.2.1, k.2.2.1.trans o.2.2.1, k.2.2.2.1, fun x hx => (k.2.2.2.2.1 x (Nat.lt_of_lt_of_le hx o.1)).trans (o.2.2.2.2.1 x hx), fun x c e q1 q2 q3 => k.2.2.2.2.2 x c (o.2.2.2.2.2 x c e q1 q2 q3) q1 q2 (by rw [o.2.2.2.2.1 x (w.lt e)]; exact q3)⟩
theorem GX.gf (G : GF own own' R z h h') : GX own own' R z h h' := ⟨G.1, G.2.1, G.2.2.1, G.2.2.2.1, G.2.2.2.2.1, fun x c e _ q2 q3 => G.2.2.2.2.2 x c e q2 q3⟩
theorem nd10 {c : PC} (q : kd c ∉ rdK) : kd c ≠ 10 := fun w => q (by rw [w]; decide)
theorem GX.onl {ρ : Nat} (o : Onl ρ h h') (w : Wf h') (hρ : ∃ d, h.1 ρ = some d ∧ kd d = 10) : GX own own R z h h' := ⟨by rw [o.1]; exact Nat.le_refl _, by rw [o.1]; exact Nat.le_refl _, by rw [o.1], w, fun _ _ => rfl, fun x c e q1 _ _ => by
  rw [o.2.1 x (fun y => ?_)]
  · exact e
  · obtain ⟨d, d1, d2⟩ := hρ
    rw [y, d1] at e
    injection e with e
    rw [← e] at q1
    exact q1 d2⟩
theorem GX.new {n : Nat} {c : PC} (w : Wf h) : GX own own R z h (hnew h n c) := ⟨Nat.le_succ _, Nat.le_add_right _ _, rfl, w.new, fun _ _ => rfl, fun x c e _ _ _ => new_old w e⟩
/-- a write to a cell made since -/
theorem GX.set {h0 : PH} {a : Nat} {c d : PC} (G : GX own own' R z h0 h) (e : h.1 a = some d) (ha : h0.2.1.1 ≤ a) (w0 : Wf h0) : GX own own' R z h0 (hset h a c) := ⟨G.1, G.2.1, G.2.2.1, G.2.2.2.1.setE e, G.2.2.2.2.1, fun x c' e' q1 q2 q3 => up_nx (fun y => by have := w0.lt e'; omega) (G.2.2.2.2.2 x c' e' q1 q2 q3)⟩
theorem RP.fk {ρ low nu : Nat} {ls : LL} {bt : Bool} (P : RP own ρ h low ls nu bt) (o : ∀ x c, own x = ρ → h.1 x = some c → rK c = true → h'.1 x = some c) : RP own ρ h' low ls nu bt := by
  have P1 : RP own ρ ((fun x => if own x = ρ then h'.1 x else h.1 x), h.2) low ls nu bt := P.kp (fun x c e k => by
    show (if own x = ρ then h'.1 x else h.1 x) = some c
    by_cases q : own x = ρ
    · rw [if_pos q]; exact o x c q e k
    · rw [if_neg q]; exact e)
  exact P1.fr fun x c hx e => by
    have e : (if own x = ρ then h'.1 x else h.1 x) = some c := e
    rw [if_pos hx] at e
    exact e
theorem SR.gx {B low : Nat} {A : Nat → LL} {rows : Int32} {fs : List Value} (S : SR own B h z low A R N Tb rows seed) (G : GX own own' R' z' h h') (wf : Wf h) (ez : h.1 z' = some (.inr (3, fs))) (n : z ≠ z') (oz : ∀ k, k < 11 → own z' ≠ R k) (d : ∀ j k, j < 11 → k < 11 → R j ≠ R' k) : SR own' B h' z low A R N Tb rows seed := by
  obtain ⟨⟨ra, na, rf, nf, e1, e2, e3, e4, e5⟩, s2, s3, s4⟩ := S
  have k := G.2.2.2.2.2
  have lt : ∀ x c, h.1 x = some c → own' x = own x := fun x c e => G.2.2.2.2.1 x (wf.lt e)
  refine ⟨⟨ra, na, rf, nf, k _ _ e1 (by show 2 * 3 ≠ 10; decide) n (Or.inr rfl), k _ _ e2 (by show 2 * 7 + 1 ≠ 10; decide) (kd_ne e2 ez rfl) (Or.inr rfl), k _ _ e3 (by show 2 * 7 + 1 ≠ 10; decide) (kd_ne e3 ez rfl) (Or.inr rfl), e4, e5⟩, fun j hj => ?_, s3, s4⟩
  exact ((s2 j hj).owx lt).fk fun x c ox e kx => by
    have ox' : own x = R j := by rw [← lt x c e]; exact ox
    exact k x c e (nd10 (rK_rd (Or.inl kx))) (fun w => oz j hj (by rw [← w]; exact ox')) (Or.inl fun i hi w => d j i hj hi (ox'.symm.trans w))
theorem CBo.gx (O : CBo b own X held rm z z' skm sn R R' N N' Tb seed rows' seed' h) (G : GX own own' R' z' h h1) (K : RdR b h1) (S0 : SR0 own' (b 0) h1 z' R' N2 rows2 seed2) : CBo b own' X held rm z z' skm sn R R' N N2 Tb seed rows2 seed2 h1 := by
  obtain ⟨e0, sk, ⟨⟨⟨tf, t1, t2⟩, p2, p3⟩, ⟨k0, kf, k1, k2⟩, ⟨d0, df, d1, d2⟩, ⟨uf, u1, u2⟩, ⟨mf, m1, m2, m3⟩, p8, p9⟩, S1, S2, Ap, wf⟩ := O
  have keep : ∀ x c, h.1 x = some c → kd c ∉ rdK → x ≠ z' → ((∀ k, k < 11 → own x ≠ R' k) ∨ rK c = false) → h1.1 x = some c := fun x c e q => G.2.2.2.2.2 x c e (nd10 q)
  have hoc : ∀ x c, h.1 x = some c → own' x = own x := fun x c e => G.2.2.2.2.1 x (wf.lt e)
  obtain ⟨ra', na', rf', nf', ez', _⟩ := S2.1
  have kz : ∀ {x c}, h.1 x = some c → kd c ≠ 6 → x ≠ z' := fun {x c} e q w => by
    rw [w, ez'] at e
    injection e with e
    rw [← e] at q
    exact q rfl
  have im : ∀ x c, h.1 x = some c → (imA c = true ∨ (own x = b 0 ∧ imB c = true)) → h1.1 x = some c := fun x c e q => by
    rcases q with q | q
    · refine keep x c e (imA_rd q) (kz e fun w => ?_) (Or.inr ?_)
      · unfold imA at q; rw [w] at q; exact absurd q (by decide)
      · unfold imA at q
        simp only [Bool.or_eq_true, beq_iff_eq] at q
        unfold rK tK
        rcases q with (q | q) | q <;> (rw [q]; decide)
    · refine keep x c e (imB_rd q.2) (kz e fun w => ?_) (Or.inl fun k hk w => ?_)
      · have q2 := q.2
        unfold imB at q2; rw [w] at q2; exact absurd q2 (by decide)
      · exact S2.2.2.2 k hk (w.symm.trans q.1)
  have o8 : ∀ x c, h.1 x = some c → kd c = 1 → (∀ k, k < 11 → own x ≠ R' k) → h1.1 x = some c := fun x c e k1 q => keep x c e (by rw [k1]; decide) (kz e (by rw [k1]; decide)) (Or.inl q)
  have mk : ∀ x c, h.1 x = some c → kd c ∉ rdK → kd c ≠ 6 → rK c = false → h1.1 x = some c := fun x c e q1 q2 q3 => keep x c e q1 (kz e q2) (Or.inr q3)
  obtain ⟨ra, na, rf, nf, ez, _⟩ := S1.1
  refine ⟨mk _ _ e0 (by show 2 * 0 ∉ rdK; decide) (by show 2 * 0 ≠ 6; decide) rfl, sk, ⟨⟨⟨tf, mk _ _ t1 (by show 2 * 2 + 1 ∉ rdK; decide) (by show 2 * 2 + 1 ≠ 6; decide) rfl, t2⟩, K, p3.ne G.2.2.1 (fun x c e q => mk x c e (by
    intro w
    have : ∀ j, j ∈ rdK → j < 25 := by decide
    have := this _ w
    omega) (by omega) (by
    cases hr : rK c with
    | false => rfl
    | true =>
      unfold rK tK at hr
      simp only [Bool.or_eq_true, beq_iff_eq] at hr
      omega))⟩, ⟨(hoc _ _ k1).trans k0, kf, o8 _ _ k1 rfl (fun k hk w => (Ap.2.2.1 k hk).2.1 (w.symm.trans k0)), k2⟩, ⟨(hoc _ _ d1).trans d0, df, o8 _ _ d1 rfl (fun k hk w => (Ap.2.2.1 k hk).2.2 (w.symm.trans d0)), d2⟩, ⟨uf, mk _ _ u1 (by show 2 * 9 + 1 ∉ rdK; decide) (by show 2 * 9 + 1 ≠ 6; decide) rfl, fun j p hj => ?_⟩, ⟨mf, mk _ _ m1 (by show 2 * 11 + 1 ∉ rdK; decide) (by show 2 * 11 + 1 ≠ 6; decide) rfl, m2, fun k hk => ?_⟩, p8.im hoc im, p9.im hoc im⟩, S1.gx G wf ez' Ap.2.2.2.2.1 (fun k hk => by rw [Ap.1.2]; exact Ne.symm (S1.2.2.2 k hk)) Ap.2.2.2.1, S0, Ap.ow (hoc _ _ ez) (hoc _ _ ez'), G.2.2.2.1⟩
  · obtain ⟨a, q1, q2⟩ := u2 j p hj
    exact ⟨a, q1, q2.im hoc im⟩
  · have q := m3 k hk
    cases hw : X.im k with
    | none => rw [hw] at q; exact q
    | some w =>
      rw [hw] at q
      obtain ⟨a, rm2, p, s2, e1, e2, e3, e4, e5⟩ := q
      exact ⟨a, rm2, p, s2, e1, mk _ _ e2 (by show 2 * 18 ∉ rdK; decide) (by show 2 * 18 ≠ 6; decide) rfl, e3.im hoc im, e4.im hoc im, e5.im hoc im⟩
theorem FX.gx (O : CBo b own X held rm z z' skm sn R R' N N' Tb seed rows' seed' h) (G : GX own own' R' z' h h1) : FX own own' (b 0) (b 16) h h1 := by
  obtain ⟨_, _, _, S1, S2, Ap, wf⟩ := O
  obtain ⟨ra', na', rf', nf', ez', _⟩ := S2.1
  have kz : ∀ {x c}, h.1 x = some c → kd c ≠ 6 → x ≠ z' := fun {x c} e q w => by
    rw [w, ez'] at e
    injection e with e
    rw [← e] at q
    exact q rfl
  refine ⟨G.1, G.2.1, G.2.2.1, G.2.2.2.1, G.2.2.2.2.1, fun x c e q => ?_⟩
  rcases q with q | q | q
  · refine G.2.2.2.2.2 x c e (nd10 (fK_rd q.2)) (kz e fun w => ?_) (Or.inl fun k hk w => (Ap.2.2.1 k hk).1 (w.symm.trans q.1))
    have q2 := q.2
    unfold fK at q2; rw [w] at q2; exact absurd q2 (by decide)
  · refine G.2.2.2.2.2 x c e (nd10 (imA_rd q)) (kz e fun w => ?_) (Or.inr ?_)
    · unfold imA at q; rw [w] at q; exact absurd q (by decide)
    · unfold imA at q
      simp only [Bool.or_eq_true, beq_iff_eq] at q
      unfold rK tK
      rcases q with (q | q) | q <;> (rw [q]; decide)
  · refine G.2.2.2.2.2 x c e (nd10 (imB_rd q.2)) (kz e fun w => ?_) (Or.inl fun k hk w => S2.2.2.2 k hk (w.symm.trans q.1))
    have q2 := q.2
    unfold imB at q2; rw [w] at q2; exact absurd q2 (by decide)
theorem RdR.gx {fs : List Value} (K : RdR b h) (G : GX own own' R' z' h h1) (ez : h.1 z' = some (.inr (3, fs))) (K5 : ∃ p at_ tk v mn nm x8 x9 x10, h1.1 (b 5) = some (rdC 5 (b 0) 900 p at_ tk v mn nm x8 x9 x10)) : RdR b h1 := by
  obtain ⟨_, ⟨p2, at2, tk2, v2, mn2, nm2, x2, e2⟩, ⟨p3, at3, tk3, v3, mn3, nm3, x3, e3⟩, ⟨gs, e4, e5⟩, ⟨f, e6⟩⟩ := K
  have k := G.2.2.2.2.2
  exact ⟨K5, ⟨p2, at2, tk2, v2, mn2, nm2, x2, k _ _ e2 (by show 2 * 6 ≠ 10; decide) (kd_ne e2 ez rfl) (Or.inr rfl)⟩, ⟨p3, at3, tk3, v3, mn3, nm3, x3, k _ _ e3 (by show 2 * 7 ≠ 10; decide) (kd_ne e3 ez rfl) (Or.inr rfl)⟩, ⟨gs, k _ _ e4 (by show 2 * 1 ≠ 10; decide) (kd_ne e4 ez rfl) (Or.inr rfl), e5⟩, ⟨f, k _ _ e6 (by show 2 * 10 + 1 ≠ 10; decide) (kd_ne e6 ez rfl) (Or.inr rfl)⟩⟩
end
