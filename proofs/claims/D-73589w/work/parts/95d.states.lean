/-! PURE SIDE: the whole relation: two states; the component's side -/
set_option maxRecDepth 100000
section
variable {b own own' : Nat → Nat} {X : XS} {h h' : PH} {c s : Nat} {ms : MS}
theorem RP0.fr {ρ nu : Nat} (P : RP0 own ρ h nu) (o : ∀ x c, own x = ρ → h.1 x = some c → h'.1 x = some c) : RP0 own ρ h' nu := by
  obtain ⟨r1, w, row, v1, v2, v3, v5, v6, v7, mx, at_, R, e, c⟩ := P
  exact ⟨r1, w, row, v1, v2, v3, v5, v6, v7, mx, at_, R.fr o, e, o _ _ r1 c⟩
theorem RP0.owx {ρ nu : Nat} (P : RP0 own ρ h nu) (o : ∀ x c, h.1 x = some c → own' x = own x) : RP0 own' ρ h nu := by
  obtain ⟨r1, w, row, v1, v2, v3, v5, v6, v7, mx, at_, R, e, c⟩ := P
  exact ⟨(o _ _ c).trans r1, w, row, v1, v2, v3, v5, v6, v7, mx, at_, R.ow o, e, c⟩
theorem SR0.gf {B z z' : Nat} {R R' N' : Nat → Nat} {rows' seed' : Int32} {fs : List Value} (S : SR0 own B h z' R' N' rows' seed') (G : GF own own' R z h h') (wf : Wf h) (ez : h.1 z = some (.inr (3, fs))) (n : z ≠ z') (oz : ∀ k, k < 11 → own z ≠ R' k) (d : ∀ j k, j < 11 → k < 11 → R j ≠ R' k) : SR0 own' B h' z' R' N' rows' seed' := by
  obtain ⟨⟨ra, na, rf, nf, e1, e2, e3, e4, e5⟩, s2, s3, s4⟩ := S
  refine ⟨⟨ra, na, rf, nf, G.kd e1 (Ne.symm n) rfl, G.kd e2 (kd_ne e2 ez rfl) rfl, G.kd e3 (kd_ne e3 ez rfl) rfl, e4, e5⟩, fun k hk => ?_, s3, s4⟩
  have P := (s2 k hk).fr (h' := h') fun x c ox e => G.2.2.2.2.2 x c e (fun w => oz k hk (by rw [← w]; exact ox)) (Or.inl fun j hj w => d j k hj hk (w.symm.trans ox))
  obtain ⟨r1, w, row, v1, v2, v3, v5, v6, v7, mx, at_, R, e, c⟩ := s2 k hk
  obtain ⟨q1, q2, q3, q4, q5, q6, q7, q8, q9, q10, q11, q12, q13, q14⟩ := P
  have c' : h'.1 (R' k) = h.1 (R' k) := by
    rw [c]
    exact G.2.2.2.2.2 _ _ c (fun w => oz k hk (by rw [← w]; exact r1)) (Or.inl fun j hj w => d j k hj hk (w.symm.trans r1))
  have lt : ∀ x c, h.1 x = some c → own' x = own x := fun x c e => G.2.2.2.2.1 x (wf.lt e)
  have Rw : Row own' (R' k) h w row := R.ow lt
  have Rw2 : Row own' (R' k) h' w row := Rw.fr fun x c ox e => by
    have ox' : own x = R' k := by rw [← lt x c e]; exact ox
    exact G.2.2.2.2.2 x c e (fun w => oz k hk (by rw [← w]; exact ox')) (Or.inl fun j hj w => d j k hj hk (w.symm.trans ox'))
  exact ⟨(lt _ _ c).trans r1, w, row, v1, v2, v3, v5, v6, v7, mx, at_, Rw2, e, by rw [c']; exact c⟩
theorem RP0.kp {ρ nu : Nat} (P : RP0 own ρ h nu) (o : ∀ x c, h.1 x = some c → rK c = true → h'.1 x = some c) : RP0 own ρ h' nu := by
  obtain ⟨r1, w, row, v1, v2, v3, v5, v6, v7, mx, at_, r3, e, c⟩ := P
  have lk : ∀ p, LeafE h p → LeafE h' p := fun p e => by
    obtain ⟨n, oo, t, wd, e1, e2⟩ := e
    exact ⟨n, oo, t, wd, o _ _ e1 rfl, o _ _ e2 rfl⟩
  exact ⟨r1, w, row, v1, v2, v3, v5, v6, v7, mx, at_, ⟨o _ _ r3.1 rfl, r3.2.1, fun k a hk e => ⟨(r3.2.2.1 k a hk e).1, (r3.2.2.1 k a hk e).2.1, lk a (r3.2.2.1 k a hk e).2.2⟩, r3.2.2.2⟩, e, o _ _ c rfl⟩
theorem SR0.kp {B z : Nat} {R N : Nat → Nat} {rows seed : Int32} (S : SR0 own B h z R N rows seed) (ho : ∀ x c, h.1 x = some c → own' x = own x) (o : ∀ x c, h.1 x = some c → (rK c = true ∨ kd c = 6 ∨ kd c = 15) → h'.1 x = some c) : SR0 own' B h' z R N rows seed := by
  obtain ⟨⟨ra, na, rf, nf, e1, e2, e3, e4, e5⟩, s2, s3, s4⟩ := S
  exact ⟨⟨ra, na, rf, nf, o _ _ e1 (Or.inr (Or.inl rfl)), o _ _ e2 (Or.inr (Or.inr rfl)), o _ _ e3 (Or.inr (Or.inr rfl)), e4, e5⟩, fun k hk => ((s2 k hk).owx ho).kp fun x c e q => o x c e (Or.inl q), s3, s4⟩
theorem SR.mk {B z low M : Nat} {A : Nat → LL} {R N : Nat → Nat} {T : Nat → Bool} {rows seed : Int32} (S : SR own B h z low A R N T rows seed) (hM : ∀ k, k < 11 → R k ≠ M) (o : ∀ x c, h.1 x = some c → (own x ≠ M ∨ fK c = false) → h'.1 x = some c) : SR own B h' z low A R N T rows seed := by
  obtain ⟨⟨ra, na, rf, nf, e1, e2, e3, e4, e5⟩, s2, s3, s4⟩ := S
  exact ⟨⟨ra, na, rf, nf, o _ _ e1 (Or.inr rfl), o _ _ e2 (Or.inr rfl), o _ _ e3 (Or.inr rfl), e4, e5⟩, fun k hk => (s2 k hk).fr fun x c q e => o x c e (Or.inl (by rw [q]; exact hM k hk)), s3, s4⟩
theorem SR0.mk {B z M : Nat} {R N : Nat → Nat} {rows seed : Int32} (S : SR0 own B h z R N rows seed) (hM : ∀ k, k < 11 → R k ≠ M) (o : ∀ x c, h.1 x = some c → (own x ≠ M ∨ fK c = false) → h'.1 x = some c) : SR0 own B h' z R N rows seed := by
  obtain ⟨⟨ra, na, rf, nf, e1, e2, e3, e4, e5⟩, s2, s3, s4⟩ := S
  exact ⟨⟨ra, na, rf, nf, o _ _ e1 (Or.inr rfl), o _ _ e2 (Or.inr rfl), o _ _ e3 (Or.inr rfl), e4, e5⟩, fun k hk => (s2 k hk).fr fun x c q e => o x c e (Or.inl (by rw [q]; exact hM k hk)), s3, s4⟩
def stK (d : PC) : Bool := rK d || kd d == 6 || kd d == 15
/-- two states -/
def ST (b own : Nat → Nat) (w : KP) (z z' : Nat) (R R' N N' : Nat → Nat) (Tb : Nat → Bool) (seed rows' seed' : Int32) (h : PH) : Prop := SR own (b 0) h z w.low w.A R N Tb (ii w.n) seed ∧ SR0 own (b 0) h z' R' N' rows' seed' ∧ Apt b own R R' z z' ∧ Wf h
/-- THE COMPONENT's side -/
def CB (b own : Nat → Nat) (X : XS) (c s : Nat) (h : PH) : Prop := ∃ (held : Int) (rm z z' : Nat) (skm : Int) (sn : Option Nat) (R R' N N' : Nat → Nat) (Tb : Nat → Bool) (seed rows' seed' : Int32), h.1 (b 0) = some (bC b X.len held rm z z' X.ft skm X.L.length X.td.isSome sn) ∧ skOk skm X.sk ∧ RD b own h X rm sn ∧ ST b own X.w z z' R R' N N' Tb seed rows' seed' h ∧ h.2.1.1 + 2 * (s11 N + s11 N') ≤ c ∧ h.2.1.2 + 7 * (s11 N + s11 N') ≤ s
section
variable {rm : Nat} {sn : Option Nat} {w : KP} {z z' : Nat} {R R' N N' N2 : Nat → Nat} {Tb T2 : Nat → Bool} {seed rows' seed' seed2 : Int32}
theorem ST.zc (S : ST b own w z z' R R' N N' Tb seed rows' seed' h) : ∃ fs, h.1 z = some (.inr (3, fs)) := by
  obtain ⟨ra, na, rf, nf, e, _⟩ := S.1.cell
  exact ⟨_, e⟩
/-- an act within the state of now -/
theorem ST.gf {A2 : Nat → LL} {T : List Nat} (S : ST b own w z z' R R' N N' Tb seed rows' seed' h) (S2 : SR own' (b 0) h' z w.low A2 R N2 T2 (ii w.n) seed2) (G : GF own own' R z h h') : ST b own' (w.n, w.low, w.nm, A2, T, w.sn) z z' R R' N2 N' T2 seed2 rows' seed' h' := by
  obtain ⟨fs, ez⟩ := S.zc
  obtain ⟨s1, s2, P, wf⟩ := S
  obtain ⟨ra, na, rf, nf, e', _⟩ := s2.1
  refine ⟨S2, s2.gf G wf ez P.2.2.2.2.1 (fun k hk => by rw [P.1.1]; exact Ne.symm (s2.2.2.2 k hk)) P.2.2.2.1, ⟨⟨(G.2.2.2.2.1 _ (wf.lt ez)).trans P.1.1, (G.2.2.2.2.1 _ (wf.lt e')).trans P.1.2⟩, P.2⟩, G.wf⟩
theorem ST.kx (S : ST b own w z z' R R' N N' Tb seed rows' seed' h) (G : GF own own' R z h h') (D : RD b own h X rm sn) {ek : Nat} : KX b own own' ek h h' := by
  obtain ⟨fs, ez⟩ := S.zc
  exact KX.gf G S.2.2.2 ez (fun k hk => ⟨S.1.2.2.2 k hk, (S.2.2.1.2.1 k hk).2.1, (S.2.2.1.2.1 k hk).2.2⟩) D.k8.1 D.k8.2.1 D.k8.2.2.1 D.k8.2.2.2
theorem ST.fx (S : ST b own w z z' R R' N N' Tb seed rows' seed' h) (G : GF own own' R z h h') : FX own own' (b 0) (b 16) h h' := FX.gf G S.zc S.1.2.2.2 fun k hk => (S.2.2.1.2.1 k hk).1
/-- a write elsewhere -/
theorem ST.set {a : Nat} {c d : PC} (S : ST b own w z z' R R' N N' Tb seed rows' seed' h) (e : h.1 a = some d) (n : stK d = false) : ST b own w z z' R R' N N' Tb seed rows' seed' (hset h a c) := by
  have o : ∀ x c', h.1 x = some c' → (rK c' = true ∨ kd c' = 6 ∨ kd c' = 15) → (hset h a c).1 x = some c' := fun x c' e' q => up_nx (fun y => by
    subst y
    rw [e] at e'
    injection e' with e'
    subst e'
    unfold stK at n
    rw [Bool.or_eq_false_iff, Bool.or_eq_false_iff, beq_eq_false_iff_ne, beq_eq_false_iff_ne] at n
    rcases q with q | q | q
    · exact ff q n.1.1
    · exact n.1.2 q
    · exact n.2 q) e'
  exact ⟨S.1.kp (fun _ _ _ => rfl) o, S.2.1.kp (fun _ _ _ => rfl) o, S.2.2.1, S.2.2.2.setE e⟩
theorem ST.old {own' : Nat → Nat} (S : ST b own w z z' R R' N N' Tb seed rows' seed' h) (ho : ∀ x c, h.1 x = some c → own' x = own x) (o : ∀ x c, h.1 x = some c → h'.1 x = some c) (wf : Wf h') : ST b own' w z z' R R' N N' Tb seed rows' seed' h' := by
  obtain ⟨fs, ez⟩ := S.zc
  obtain ⟨ra, na, rf, nf, e', _⟩ := S.2.1.1
  exact ⟨S.1.kp ho fun x c e _ => o x c e, S.2.1.kp ho fun x c e _ => o x c e, S.2.2.1.ow (ho _ _ ez) (ho _ _ e'), wf⟩
end
theorem KX.old (ho : ∀ x c, h.1 x = some c → own' x = own x) (o : ∀ x c, h.1 x = some c → h'.1 x = some c) (e : h'.2.2 = h.2.2) {ek : Nat} : KX b own own' ek h h' := ⟨e, ho, fun x c e _ => o x c e, fun x c e _ _ => o x c e, fun x c e _ => o x c e⟩
theorem CB.wk {c' s' : Nat} (C : CB b own X c s h) (h1 : c ≤ c') (h2 : s ≤ s') : CB b own X c' s' h := by
  obtain ⟨held, rm, z, z', skm, sn, R, R', N, N', Tb, seed, rows', seed', e0, sk, D, S, z1, z2⟩ := C
  exact ⟨held, rm, z, z', skm, sn, R, R', N, N', Tb, seed, rows', seed', e0, sk, D, S, by omega, by omega⟩
theorem CB.wf (C : CB b own X c s h) : Wf h := by
  obtain ⟨held, rm, z, z', skm, sn, R, R', N, N', Tb, seed, rows', seed', e0, sk, D, S, z1, z2⟩ := C
  exact S.2.2.2
theorem CB.bump {k n : Nat} (C : CB b own X c s h) : CB b own X (c + k) (s + n) (hbump h k n) := by
  obtain ⟨held, rm, z, z', skm, sn, R, R', N, N', Tb, seed, rows', seed', e0, sk, D, S, z1, z2⟩ := C
  exact ⟨held, rm, z, z', skm, sn, R, R', N, N', Tb, seed, rows', seed', e0, sk, D.kx KX.bump, S.old (fun _ _ _ => rfl) (fun _ _ e => e) S.2.2.2.bump, by show h.2.1.1 + k + _ ≤ _; omega, by show h.2.1.2 + n + _ ≤ _; omega⟩
/-- a question asked -/
theorem CB.ask (C : CB b own X c s h) (I : XI X) : ∃ q N T, Q0 q N T ∧ q.B = b 0 ∧ q.h0 = h ∧ q.n = X.w.n ∧ q.A = X.w.A ∧ q.low = X.w.low ∧ ∀ h', QE q h' → ∃ own', CB b own' X (c + 6300) (s + 33600) h' ∧ FX own own' (b 0) (b 16) h h' := by
  obtain ⟨held, rm, z, z', skm, sn, R, R', N, N', Tb, seed, rows', seed', e0, sk, D, S, z1, z2⟩ := C
  obtain ⟨na, f, r1, _⟩ := D.2.2.2.2.2.1
  refine ⟨(own, h, b 0, rm, z, X.w.n, X.w.low, _, _, X.w.A, R, ii X.w.n, seed, h.2.1.1 + 2 * s11 N + 6300, h.2.1.2 + 7 * s11 N + 33600), N, Tb, ⟨S.1, ⟨e0, rfl, rfl, r1, rfl, I.1.1⟩, S.2.2.2, Nat.le_refl _, Nat.le_refl _⟩, rfl, rfl, rfl, rfl, rfl, fun h' Q => ?_⟩
  obtain ⟨own', N2, T2, S2, C2, G, y1, y2⟩ := Q
  have y1 : h'.2.1.1 + 2 * s11 N2 ≤ h.2.1.1 + 2 * s11 N + 6300 := y1
  have y2 : h'.2.1.2 + 7 * s11 N2 ≤ h.2.1.2 + 7 * s11 N + 33600 := y2
  exact ⟨own', ⟨held, rm, z, z', skm, sn, R, R', N2, N', T2, seed, rows', seed', C2.1, sk, D.kx (S.kx G D), S.gf (T := X.w.T) S2 G, by omega, by omega⟩, S.fx G⟩
end
/-- both sides answer alike -/
def TD (b : Nat → Nat) (P : PH → Option RH) (D : MS → Option DR) : Prop := ∀ (own : Nat → Nat) (X : XS) (c s : Nat) (h : PH) (ms : MS), CB b own X c s h → XI X → CM X ms → ∃ v h' ms' own' X', P h = rI v h' ∧ D ms = dI v ms' ∧ CB b own' X' (c + 10000) (s + 90000) h' ∧ XI X' ∧ CM X' ms' ∧ FX own own' (b 0) (b 16) h h'
/-- questions of rows -/
theorem td_row {b : Nat → Nat} {P : PH → Nat → Option RH} {D : MS → Option DR} {a : Nat → (Nat → LL) → Int} (hP : ∀ (q : QP) (h : PH), QI q h → Ends (P h q.B) (AN q (a q.n q.A))) (hD : ∀ (ms : MS) (n : Nat) (A : Nat → LL), QM ms n A → D ms = dI (ii (a n A)) (mset ms 0 0 0)) : TD b (fun h => P h (b 0)) D := by
  intro own X c s h ms C I M
  obtain ⟨q, N, T, Q, e1, e2, e3, e4, e5, k⟩ := C.ask I
  obtain ⟨r, h', p1, v, p2, p3, Q1⟩ := hP q q.h0 Q.i
  obtain ⟨own', C', F⟩ := k h' Q1.e
  subst p2
  rw [e1, e2] at p1
  rw [e3, e4] at p3
  exact ⟨v, h', mset ms 0 0 0, own', X, p1, by rw [p3]; exact hD ms _ _ (M.qm I), C'.wk (by omega) (by omega), I, M.set (by decide), F⟩
/-- questions of letters -/
theorem td_let {b : Nat → Nat} {P : PH → Nat → Option RH} {D : MS → Option DR} {a : List Nat → Int} (hP : ∀ (q : QP) (N : Nat → Nat) (Tb : Nat → Bool) (T : List Nat), Q0 q N Tb → Lt q.A T → Ends (P q.h0 q.B) (AE q (a T))) (hD : ∀ (ms : MS) (T : List Nat), QT ms T → D ms = dI (ii (a T)) (mset ms 0 0 0)) : TD b (fun h => P h (b 0)) D := by
  intro own X c s h ms C I M
  obtain ⟨q, N, T, Q, e1, e2, e3, e4, e5, k⟩ := C.ask I
  obtain ⟨r, h', p1, v, p2, p3, Q1⟩ := hP q N T X.w.T Q (by rw [e4]; exact I.lt)
  obtain ⟨own', C', F⟩ := k h' Q1
  subst p2
  rw [e1, e2] at p1
  exact ⟨v, h', mset ms 0 0 0, own', X, p1, by rw [p3]; exact hD ms _ (M.qt I), C'.wk (by omega) (by omega), I, M.set (by decide), F⟩
section
variable {b : Nat → Nat} {x y z : Int}
theorem td_runs (hx : -2147483648 ≤ x ∧ x < 2147483648) : TD b (fun h => c_B_runs h (b 0) (ii x)) (fun ms => d_M_runs ms (ii x)) := td_row (P := fun h B => c_B_runs h B (ii x)) (a := fun n A => runsA n A x) (fun _ _ Q => b_runs Q hx) fun _ _ _ M => m_runs M hx
theorem td_longest (hx : -2147483648 ≤ x ∧ x < 2147483648) (hy : -2147483648 ≤ y ∧ y < 2147483648) : TD b (fun h => c_B_longest h (b 0) (ii x) (ii y)) (fun ms => d_M_longest ms (ii x) (ii y)) := td_row (P := fun h B => c_B_longest h B (ii x) (ii y)) (a := fun n A => longA n A x y) (fun _ _ Q => b_longest Q hx hy) fun _ _ _ M => m_longest M hx hy
theorem td_letters : TD b (fun h => c_B_letters h (b 0)) (fun ms => d_M_letters ms) := td_let (P := fun h B => c_B_letters h B) (a := fun T => (T.length : Int)) (fun _ _ _ _ Q L => b_letters Q L) fun _ _ M => m_letters M
theorem td_letter (hx : -2147483648 ≤ x ∧ x < 2147483648) : TD b (fun h => c_B_letter h (b 0) (ii x)) (fun ms => d_M_letter ms (ii x)) := td_let (P := fun h B => c_B_letter h B (ii x)) (a := fun T => letterA T x) (fun _ _ _ _ Q L => b_letter Q L hx) fun _ _ M => m_letter M hx
theorem td_count (hx : -2147483648 ≤ x ∧ x < 2147483648) (hy : -2147483648 ≤ y ∧ y < 2147483648) : TD b (fun h => c_B_count h (b 0) (ii x) (ii y)) (fun ms => d_M_count ms (ii x) (ii y)) := td_let (P := fun h B => c_B_count h B (ii x) (ii y)) (a := fun T => countA T x y) (fun _ _ _ _ Q L => b_count Q L hx hy) fun _ _ M => m_count M hx hy
theorem td_place (hx : -2147483648 ≤ x ∧ x < 2147483648) (hy : -2147483648 ≤ y ∧ y < 2147483648) : TD b (fun h => c_B_place h (b 0) (ii x) (ii y)) (fun ms => d_M_place ms (ii x) (ii y)) := td_let (P := fun h B => c_B_place h B (ii x) (ii y)) (a := fun T => placeA T x y) (fun _ _ _ _ Q L => b_place Q L hx hy) fun _ _ M => m_place M hx hy
theorem td_least (hx : -2147483648 ≤ x ∧ x < 2147483648) (hy : -2147483648 ≤ y ∧ y < 2147483648) (hz : -2147483648 ≤ z ∧ z < 2147483648) : TD b (fun h => c_B_least h (b 0) (ii x) (ii y) (ii z)) (fun ms => d_M_least ms (ii x) (ii y) (ii z)) := td_let (P := fun h B => c_B_least h B (ii x) (ii y) (ii z)) (a := fun T => leastA T x y z) (fun _ _ _ _ Q L => b_least Q L hx hy hz) fun _ _ M => m_least M hx hy hz
theorem td_node (hx : -2147483648 ≤ x ∧ x < 2147483648) (hy : -2147483648 ≤ y ∧ y < 2147483648) : TD b (fun h => c_B_node h (b 0) (ii x) (ii y)) (fun ms => d_M_node ms (ii x) (ii y)) := td_let (P := fun h B => c_B_node h B (ii x) (ii y)) (a := fun T => nodeA T x y) (fun _ _ _ _ Q L => b_node Q L hx hy) fun _ _ M => m_node M hx hy
end
