/-! PURE SIDE: rooms: both sides -/
set_option maxRecDepth 100000
section
variable {ms : MS} {X : XS} {S : RS} {l k pl : Nat} {Z : Option Value → MS → Prop}
theorem m_roomE (M : CM X ms) (I : XI X) (hA : rmA X.tp X.len 943 0 rs0 (tok X.tp X.len 900 0) = .inl (k, pl)) : DE (d_M_room ms) (fun r m' => r = some (.int (ii (-1 - (pl : Int)))) ∧ CM (xB X (k : Int)) m') := by
  have hl := I.2.1
  unfold d_M_room
  refine d_bV (m_begin (most := 900) M I rfl (by decide)) fun m1 ⟨m0, q1, q2, q3, q4, q5⟩ => ?_
  refine s_clr (m0 := m0) (f := X.tp) (n := X.len) (t := tok X.tp X.len 900 0) (fun m2 G V B c => ?_) 2607 FU 0 m1 (by unfold FU; omega) (by omega) ⟨fun j hj => q2.1 j (fun w => hj ((by decide : ∀ k, k ∈ gpF → k ∈ grF) j w)), fun j h1 _ => q2.2 j h1⟩ q3 q4 fun x hx => absurd hx (Nat.not_lt_zero x)
  refine s_rmA 943 FU 0 (tok X.tp X.len 900 0) rs0 _ (by unfold FU; omega) (by decide) (fun _ => by omega) (by decide) (rl0 q5 G V B c) rs0_ok (fun kd p ee m' F => ?_) (fun c' S' ee => by
    have ee := hA.symm.trans ee
    cases ee)
  have ee := hA.symm.trans ee
  injection ee with ee
  injection ee with e1 e2
  subst e1 e2
  exact ⟨rfl, q1.ft (fun j hj h1 => F.1 j ((by decide : ∀ j, j ∈ cmF → j ≠ 10 → j ∉ gqF) j hj h1)) (by rw [F.2.1 20 (by decide) (by decide)]) (by rw [F.2.1 22 (by decide) (by decide)]) F.2.2.1⟩
theorem m_roomS {A : Nat → LL} (M : CM X ms) (I : XI X) (hA : rmA X.tp X.len 943 0 rs0 (tok X.tp X.len 900 0) = .inr (l, S)) (hlo : 4 ≤ S.lo ∧ S.lo ≤ 32) (eA : ∀ r, r < 4 → A r = bldL S.lo (S.bs r)) : DE (d_M_room ms) (fun r m' => r = some (.int (ii l)) ∧ CM (xN (xB X 0) S A) m') := by
  have hl := I.2.1
  unfold d_M_room
  refine d_bV (m_begin (most := 900) M I rfl (by decide)) fun m1 ⟨m0, q1, q2, q3, q4, q5⟩ => ?_
  refine s_clr (m0 := m0) (f := X.tp) (n := X.len) (t := tok X.tp X.len 900 0) (fun m2 G V B c => ?_) 2607 FU 0 m1 (by unfold FU; omega) (by omega) ⟨fun j hj => q2.1 j (fun w => hj ((by decide : ∀ k, k ∈ gpF → k ∈ grF) j w)), fun j h1 _ => q2.2 j h1⟩ q3 q4 fun x hx => absurd hx (Nat.not_lt_zero x)
  refine s_rmA 943 FU 0 (tok X.tp X.len 900 0) rs0 _ (by unfold FU; omega) (by decide) (fun _ => by omega) (by decide) (rl0 q5 G V B c) rs0_ok (fun kd p ee => by
    have ee := hA.symm.trans ee
    cases ee) (fun c' S' ee t' m3 L3 hS hc => ?_)
  have ee := hA.symm.trans ee
  injection ee with ee
  injection ee with e1 e2
  subst e1 e2
  refine s_l81 (m0 := m3) (fun m4 C4 => ?_) 2607 FU 0 m3 (by unfold FU; omega) (by omega) Cp.rf
  refine s_l108 (m0 := m4) (fun m5 C5 => ?_) 4 FU 0 m4 (by unfold FU; omega) (by omega) CpL.rf
  obtain ⟨p1, p2, p3, p4⟩ := C4
  obtain ⟨r1, r2, r3, r4⟩ := C5
  have n4 := hS.1
  have M5 : M15 (m5.1 14) S S.n := by
    have o : ∀ x, x < 2607 → m5.1 14 x = m3.1 15 x := fun x hx => by
      have := p3 x hx
      rw [Nat.zero_add] at this
      rw [r1]; exact this
    obtain ⟨y1, y2, y3, y4, y5, y6⟩ := L3.2.2.2.2.1
    refine ⟨(o _ (by omega)).trans y1, (o _ (by omega)).trans y2, fun r hr => ?_, (o _ (by omega)).trans y4, y5, fun i hi => (o _ (by omega)).trans (y6 i hi)⟩
    obtain ⟨w1, w2, w3⟩ := y3 r hr
    exact ⟨(o _ (by omega)).trans w1, w2, fun i hi => (o _ (by omega)).trans (w3 i hi)⟩
  refine d_bV (m_startSo hlo hS M5) fun m6 ⟨A', M6, eA', f1, f2, f3⟩ => ?_
  refine d_nm ?_
  refine d_dI ⟨rfl, ?_⟩
  obtain ⟨c1, c2, c3, c4, c5, c6, c7, c8, c9, c10, c11, c12⟩ := q1
  have fr : ∀ q, q ∈ cmF → q ≠ 14 → q ≠ 24 → (mset m6 24 0 (0 : Int32)).1 q = m0.1 q := fun q h1 h2 h3 => by
    rw [ms_nk h3, f2 q h2, r1, p2 q h2]
    exact L3.1.1 q ((by decide : ∀ j, j ∈ cmF → j ∉ grF) q h1)
  have f22 : (mset m6 24 0 (0 : Int32)).2 22 = m0.2 22 := by
    show m6.2 22 = _
    rw [f1, r2 22 (by decide), p1]
    exact L3.1.2 22 (by decide) (by decide)
  refine ⟨?_, ?_, ?_, fun r hr => ?_, ms_eq, (fun j p hj => by cases hj), fun k hk => ?_, ?_, ?_, ?_, ?_, ?_⟩
  · rw [fr 1 (by decide) (by decide) (by decide)]; exact c1
  · rw [fr 2 (by decide) (by decide) (by decide)]; exact c2
  · rw [ms_nk (by decide)]
    refine ⟨M6.congr fun k hk => ?_, fun _ => f3, fun s hs => by cases hs⟩
    rw [eA' k hk]; exact eA k hk
  · show m6.2 20 r = _
    have hr : r < S.n := hr
    have := r3 r (by omega)
    rw [Nat.zero_add] at this
    rw [f1, this, p1]
    exact L3.2.2.2.2.2.1 r hr
  · exact (c7 k hk).congr (fr 23 (by decide) (by decide) (by decide)) (fr 16 (by decide) (by decide) (by decide)) f22
  · rw [fr 10 (by decide) (by decide) (by decide)]; exact c8
  · rw [fr 28 (by decide) (by decide) (by decide)]; exact c9
  · rw [fr 27 (by decide) (by decide) (by decide)]; exact c10
  · rw [fr 33 (by decide) (by decide) (by decide)]; exact c11
  · rw [fr 33 (by decide) (by decide) (by decide), fr 31 (by decide) (by decide) (by decide)]; exact c12
end
theorem td_room {b : Nat → Nat} : TD b (fun h => c_B_room h (b 0)) (fun ms => d_M_room ms) := by
  intro own X c s h ms C I M
  have n4 := I.1.1
  obtain ⟨held, rm, z0, z', skm, sn, R, R', N, N', Tb, seed, rows', seed', e0, sk, D, S, z1, z2⟩ := C
  have O : CBo b own X held rm z0 z' skm sn R R' N N' Tb seed rows' seed' h := ⟨e0, sk, D, S⟩
  obtain ⟨r, hh, y1, y2⟩ := b_room (c := c) (s := s) O I z1 z2
  rcases y2 with ⟨k, pl, hA, e1, own', C', F⟩ | ⟨l, S', A, hA, e1, hS, ⟨hlo, hbs, hLt⟩, hls, own', C', F⟩
  · obtain ⟨r', m', w1, w2, w3⟩ := m_roomE M I hA
    subst e1 w2
    exact ⟨_, hh, m', own', _, y1, w1, C', I.xb k, w3, F⟩
  · obtain ⟨r', m', w1, w2, w3⟩ := m_roomS (A := A) M I hA hlo (fun r hr => (hbs r hr).1)
    subst e1 w2
    have I1 : XI (xB X 0) := I.xb 0
    refine ⟨_, hh, m', own', _, y1, w1, C', ⟨⟨hS.1, hlo, ⟨hls, hLt, fun r h1 h2 => ?_⟩, hS.2.1, fun s es => by cases es⟩, I1.2.1, I1.2.2.1, Nat.zero_le _, (fun p hp => by cases hp), I1.2.2.2.2.2⟩, w3, F⟩
    show A r = []
    rw [(hbs r h2).1, hS.2.2 r h1]
    rfl
