/-! PURE SIDE: rooms: the tried state becomes the state of now, by the component -/
set_option maxRecDepth 100000
abbrev wN (S : RS) (A : Nat → LL) : KP := (S.n, S.lo, S.nm, A, S.T, none)
abbrev xN (X : XS) (S : RS) (A : Nat → LL) : XS := (X.1, X.2.1, wN S A, [], X.2.2.2.2)
section
variable {b own own' : Nat → Nat} {X : XS} {h h1 h' : PH} {held : Int} {rm z z' : Nat} {skm : Int} {sn : Option Nat} {R R' N N' N2 : Nat → Nat} {Tb T2 : Nat → Bool} {seed rows' seed' rows2 : Int32} {Z : Rt → PH → Prop} {ro na C0 S0 n : Nat} {f : Nat → Nat} {S : RS} {A2 : Nat → LL} {t' : Tk} {hl : Bool}
theorem hset_aba {a x : Nat} {c d c' : PC} (n : a ≠ x) : hset (hset (hset h a c) x d) a c' = hset (hset h x d) a c' := by
  refine Prod.ext ?_ rfl
  funext y
  show va_up (va_up (va_up h.1 a (some c)) x (some d)) a (some c') y = va_up (va_up h.1 x (some d)) a (some c') y
  unfold va_up
  by_cases q : y = a
  · simp [q]
  · simp [q]
theorem SR.rows {B low : Nat} {A : Nat → LL} {rows : Int32} (S : SR own B h z low A R N Tb rows seed) (oz : ∀ k, k < 11 → own z ≠ R k) : ∃ ra na, h.1 z = some (.inr (3, [.ref ra, .ref na, .int rows, .int seed])) ∧ SR own B (hset h z (.inr (3, [.ref ra, .ref na, .int rows2, .int seed]))) z low A R N Tb rows2 seed := by
  obtain ⟨⟨ra, na, rf, nf, e1, e2, e3, e4, e5⟩, s2, s3, s4⟩ := S
  exact ⟨ra, na, e1, ⟨ra, na, rf, nf, up_eq, up_nx (kd_ne e2 e1 rfl) e2, up_nx (kd_ne e3 e1 rfl) e3, e4, e5⟩, fun k hk => (s2 k hk).fr fun x c ox e => up_nx (fun w => oz k hk (by rw [← w]; exact ox)) e, s3, s4⟩
theorem SR.oset {B low a : Nat} {A : Nat → LL} {rows : Int32} {c : PC} {fs : List Value} (S : SR own B h z low A R N Tb rows seed) (e : h.1 a = some (.inr (3, fs))) (n : z ≠ a) (oz : ∀ k, k < 11 → own a ≠ R k) : SR own B (hset h a c) z low A R N Tb rows seed := by
  obtain ⟨⟨ra, na, rf, nf, e1, e2, e3, e4, e5⟩, s2, s3, s4⟩ := S
  exact ⟨⟨ra, na, rf, nf, up_nx n e1, up_nx (kd_ne e2 e rfl) e2, up_nx (kd_ne e3 e rfl) e3, e4, e5⟩, fun k hk => (s2 k hk).fr fun x c ox e' => up_nx (fun w => oz k hk (by rw [← w]; exact ox)) e', s3, s4⟩
theorem b_room1 {v : Int32} (O : CBo b own X held rm z z' skm sn R R' N N' Tb seed rows' seed' h) (I : TS b own R' z' ro na h C0 S0 (ii (0 : Nat)) seed' S S.n own' N2 T2 A2 h1) (J : JR b f n ro z' hl t' h1) : Ends (gQ h1 (b 0) [0] 8 fun v23 => gQ h1 (b 0) [0] 7 fun v24 => pQ h1 (b 0) [0] 8 v24 fun h25 => pQ h25 (b 0) [0] 7 v23 fun h26 => pQ h26 (b 0) [0] 6 (some ro) fun h27 => gQ h27 (b 0) [0] 7 fun v28 => gI h27 ro [2] 1 fun v29 => nn v28 fun a30 => pI h27 a30 [3] 2 v29 fun h32 => pI h32 (b 0) [0] 15 (0 : Int32) fun h33 => pQ h33 (b 0) [0] 19 none fun h34 => rI v h34) (fun r h' => r = .inl (some (.int v)) ∧ CBo b own' (xN X S A2) held ro z' z skm none R' R N2 N T2 seed' (ii X.w.n) seed h' ∧ FX own own' (b 0) (b 16) h h' ∧ h'.2 = h1.2) := by
  have G := I.2.2.2.2.1
  obtain ⟨fz, ez⟩ : ∃ fs, h.1 z' = some (.inr (3, fs)) := by
    obtain ⟨ra', na', rf', nf', ez', _⟩ := O.2.2.2.2.1.1
    exact ⟨_, ez'⟩
  have K : RdR b h1 := O.2.2.1.1.2.1.gx G ez (by
    obtain ⟨⟨v, mn, nm, e, _⟩, _⟩ := J
    exact ⟨_, _, _, _, _, _, _, _, _, e⟩)
  have O1 := O.gx G K I.1.any
  have F1 := FX.gx O G
  obtain ⟨i1, i2, i3, ⟨i4, g, i5, i6⟩, i7, i8, i9⟩ := I
  obtain ⟨e0, sk, D, S1, S2, Ap, wf⟩ := O1
  have oz' : ∀ k, k < 11 → own' z' ≠ R' k := fun k hk => by rw [Ap.1.2]; exact Ne.symm (i1.2.2.2 k hk)
  have oz : ∀ k, k < 11 → own' z' ≠ R k := fun k hk => by rw [Ap.1.2]; exact Ne.symm (S1.2.2.2 k hk)
  obtain ⟨ra, nr, ez1, i1'⟩ := i1.rows (rows2 := ii (S.n : Int)) oz'
  have n0 : b 0 ≠ z' := kd_ne e0 ez1 rfl
  have nr0 : ro ≠ b 0 := kd_ne i4 e0 rfl
  obtain ⟨n8, n10⟩ := D.ne8 e0 (by show 2 * 0 ≠ 1; decide)
  obtain ⟨m8, m10⟩ := D.ne8 ez1 (by show 2 * 3 ≠ 1; decide)
  refine q_gQr e0 (by decide) rfl ?_
  refine q_gQr e0 (by decide) rfl ?_
  refine q_pQ e0 (by decide) (Nat.le_of_ble_eq_true rfl) ?_
  refine q_pQ up_eq (by decide) (Nat.le_of_ble_eq_true rfl) ?_
  rw [hset_hset]
  refine q_pQ up_eq (by decide) (Nat.le_of_ble_eq_true rfl) ?_
  rw [hset_hset]
  refine q_gQr up_eq (by decide) rfl ?_
  refine q_gI (up_nx nr0 i4) (by decide) rfl ?_
  refine q_nn ?_
  refine q_pI (up_nx (Ne.symm n0) ez1) (by decide) (Nat.le_of_ble_eq_true rfl) ?_
  refine q_pI (up_nx n0 up_eq) (by decide) (Nat.le_of_ble_eq_true rfl) ?_
  refine q_pQ up_eq (by decide) (Nat.le_of_ble_eq_true rfl) ?_
  rw [hset_hset, hset_aba n0]
  have ST2 : ST b own' (wN S A2) z' z R' R N2 N T2 seed' (ii X.w.n) seed (hset h1 z' (.inr (3, [.ref ra, .ref nr, .int (ii (S.n : Int)), .int seed']))) := ⟨i1', (S1.oset ez1 Ap.2.2.2.2.1 oz).any, ⟨⟨Ap.1.2, Ap.1.1⟩, Ap.2.2.1, Ap.2.1, fun j k hj hk w => Ap.2.2.2.1 k j hk hj w.symm, Ne.symm Ap.2.2.2.2.1, Ap.2.2.2.2.2⟩, wf.setE ez1⟩
  have D2 : RD b own' (hset h1 z' (.inr (3, [.ref ra, .ref nr, .int (ii (S.n : Int)), .int seed']))) X rm sn := D.kx (KX.set ez1 (fun q => (ff q rfl).elim) rfl (Or.inr rfl) (fun q => absurd q m8) (fun q => absurd q m10))
  have e2 : (hset h1 z' (.inr (3, [.ref ra, .ref nr, .int (ii (S.n : Int)), .int seed']))).1 (b 0) = _ := up_nx n0 e0
  have F2 : FX own' own' (b 0) (b 16) h1 (hset h1 z' (.inr (3, [.ref ra, .ref nr, .int (ii (S.n : Int)), .int seed']))) := FX.set wf ez1 (nP rfl rfl rfl)
  have r4 : (hset h1 z' (.inr (3, [.ref ra, .ref nr, .int (ii (S.n : Int)), .int seed']))).1 ro = _ := up_nx (kd_ne i4 ez1 rfl) i4
  have r5 : (hset h1 z' (.inr (3, [.ref ra, .ref nr, .int (ii (S.n : Int)), .int seed']))).1 na = _ := up_nx (kd_ne i5 ez1 rfl) i5
  have z2 : (hset h1 z' (.inr (3, [.ref ra, .ref nr, .int (ii (S.n : Int)), .int seed']))).2 = h1.2 := rfl
  refine q_rI ⟨rfl, ⟨up_eq, sk, ?_, ST2.set e2 rfl⟩, (F1.trans F2 O.2.2.2.2.2.2).trans (FX.set ST2.2.2.2 e2 (nP rfl rfl rfl)) O.2.2.2.2.2.2, rfl⟩
  have Dn : RD b own' (hset h1 z' (.inr (3, [.ref ra, .ref nr, .int (ii (S.n : Int)), .int seed']))) (xN X S A2) ro none := by
    obtain ⟨d1, d2, d3, ⟨fu, d4, _⟩, d5, _, _⟩ := D2
    exact ⟨d1, d2, d3, ⟨fu, d4, fun j p hj => by cases hj⟩, d5, ⟨na, g, r4, i3.1, i3.2, r5, i6⟩, rfl⟩
  exact Dn.kx (KX.set e2 (fun q => (ff q rfl).elim) rfl (Or.inr rfl) (fun q => absurd q n8) (fun q => absurd q n10))
end
