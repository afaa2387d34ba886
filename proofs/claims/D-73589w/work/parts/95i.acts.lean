/-! PURE SIDE: both sides: deeds -/
set_option maxRecDepth 100000
/-- what a deed makes of leaves and letters -/
def DoSp (low : Nat) (A : Nat → LL) (T : List Nat) (what r i x : Nat) (A' : Nat → LL) (T' : List Nat) : Prop := (what ≤ 5 → A' = doA low A what r i x ∧ T' = T) ∧ (what = 6 → (∀ k, k < 4 → A' k = A k) ∧ Lt A' T' ∧ T' = insT i x T) ∧ (what = 7 → (∀ k, k < 4 → A' k = A k) ∧ Lt A' T' ∧ T' = remTn i x T)
/-- a deed that may be asked for -/
def DoOk (what r i x : Nat) : Prop := what < 8 ∧ r < 4 ∧ i < 2147483648 ∧ x ≤ 600 ∧ (2 ≤ what → i ≤ 999) ∧ (what ≤ 1 → x ≤ 1) ∧ (what = 4 ∨ what = 5 → x < 4 ∧ x ≠ r) ∧ (what = 2 ∨ what = 3 → 1 ≤ x) ∧ (what = 6 → x < 8)
theorem why_i {A : Nat → LL} {what r i x : Nat} (h : why A what r i x = 0) (hb : ∀ r, r < 4 → (A r).flatten.length ≤ 600) (hr : r < 4) (hw : what < 2) : i ≤ 600 := by
  have := hb r hr
  have w : what = 0 ∨ what = 1 := by omega
  rcases w with w | w
  · subst w
    unfold why at h
    by_cases c : (A r).flatten.length < i
    · rw [if_pos c] at h; cases h
    · omega
  · subst w
    unfold why at h
    by_cases c : (A r).flatten.length ≤ i
    · rw [if_pos c] at h; cases h
    · omega
theorem why_6 {A : Nat → LL} {T : List Nat} {r i x : Nat} (L : Lt A T) (h : why A 6 r i x = 0) : i ≤ T.length ∧ T.length < 200 := by
  unfold why at h
  rw [L.len] at h
  have := L.1
  by_cases c : T.length < i
  · rw [if_pos c] at h; cases h
  · rw [if_neg c] at h
    by_cases c2 : T.length = 200
    · rw [if_pos c2] at h; cases h
    · omega
theorem why_7 {A : Nat → LL} {T : List Nat} {r i x : Nat} (L : Lt A T) (h : why A 7 r i x = 0) : i + x ≤ T.length := by
  unfold why at h
  rw [L.len] at h
  by_cases c : T.length < i + x
  · rw [if_pos c] at h; cases h
  · omega
theorem doA_hi {low : Nat} {A : Nat → LL} {what r i x k : Nat} (hr : r < 4) (hx : what = 4 ∨ what = 5 → x < 4) (hw : what ≤ 5) (hk : 4 ≤ k) : doA low A what r i x k = A k := by
  have w : what = 0 ∨ what = 1 ∨ what = 2 ∨ what = 3 ∨ what = 4 ∨ what = 5 := by omega
  have u : ∀ (f : Nat → LL) (j : Nat) (v : LL), j < 4 → va_up f j v k = f k := fun f j v hj => by unfold va_up; rw [if_neg (by omega)]
  rcases w with w | w | w | w | w | w <;> subst w
  · exact u _ _ _ hr
  · exact u _ _ _ hr
  · exact u _ _ _ hr
  · exact u _ _ _ hr
  · exact (u _ _ _ (hx (Or.inl rfl))).trans (u _ _ _ hr)
  · exact (u _ _ _ hr).trans (u _ _ _ (hx (Or.inr rfl)))
theorem doA_out {low n : Nat} {A : Nat → LL} {what r i x k : Nat} (hr : r < n) (hx : what = 4 ∨ what = 5 → x < n) (hw : what ≤ 5) (hk : n ≤ k) : doA low A what r i x k = A k := by
  have w : what = 0 ∨ what = 1 ∨ what = 2 ∨ what = 3 ∨ what = 4 ∨ what = 5 := by omega
  have u : ∀ (f : Nat → LL) (j : Nat) (v : LL), j < n → va_up f j v k = f k := fun f j v hj => by unfold va_up; rw [if_neg (by omega)]
  rcases w with w | w | w | w | w | w <;> subst w
  · exact u _ _ _ hr
  · exact u _ _ _ hr
  · exact u _ _ _ hr
  · exact u _ _ _ hr
  · exact (u _ _ _ (hx (Or.inl rfl))).trans (u _ _ _ hr)
  · exact (u _ _ _ hr).trans (u _ _ _ (hx (Or.inr rfl)))
section
variable {b own own' : Nat → Nat} {X : XS} {h h' : PH} {held : Int} {rm z z' : Nat} {skm : Int} {sn : Option Nat} {R R' N N' : Nat → Nat} {Tb : Nat → Bool} {seed rows' seed' : Int32} {c s : Nat} {ms : MS}
/-- a deed done by a state -/
theorem b_does {what r i x : Nat} (O : CBo b own X held rm z z' skm sn R R' N N' Tb seed rows' seed' h) (L : Lt X.w.A X.w.T) (k : DoOk what r i x) (hy : why X.w.A what r i x = 0) : EV (c_S_does h z (ii what) (ii r) (ii i) (ii x)) (fun h' => ∃ A' T', DoSp X.w.low X.w.A X.w.T what r i x A' T' ∧ ∃ own' N2 T2, CBo b own' (xA X A' T') held rm z z' skm sn R R' N2 N' T2 seed rows' seed' h' ∧ FX own own' (b 0) (b 16) h h' ∧ KX b own own' 0 h h' ∧ h'.2.1.1 + 2 * s11 N2 ≤ h.2.1.1 + 2 * s11 N + 3 ∧ h'.2.1.2 + 7 * s11 N2 ≤ h.2.1.2 + 7 * s11 N + 170) := by
  obtain ⟨k1, k2, k3, k4, k5, k6, k7, k8, k9⟩ := k
  have wf := O.2.2.2.2.2.2
  have S := O.2.2.2.1
  have hb : ∀ r, r < 4 → (X.w.A r).flatten.length ≤ 600 := fun r hr => (O.lsb (k := r) (by omega)).2.1
  by_cases c5 : what ≤ 5
  · have hi : i ≤ 1000 := by
      by_cases c2 : 2 ≤ what
      · have := k5 c2; omega
      · have := why_i hy hb k2 (by omega); omega
    refine (z_does S wf c5 k2 hi k4 hy k6 (fun q => k7 (by omega)) k8).mono fun h' k => ?_
    refine ⟨_, X.w.T, ⟨fun _ => ⟨rfl, rfl⟩, fun q => by omega, fun q => by omega⟩, ?_⟩
    exact O.so (T := X.w.T) k
  · by_cases c6 : what = 6
    · subst c6
      obtain ⟨w1, w2⟩ := why_6 L hy
      refine (z_does6 (r := r) w1 w2 (k9 rfl) L S wf).mono fun h' ⟨A', q1, q2, k⟩ => ?_
      refine ⟨A', _, ⟨fun q => by omega, fun _ => ⟨q1, q2, rfl⟩, fun q => by omega⟩, ?_⟩
      exact O.so (T := insT i x X.w.T) (k.wk (by omega) (by omega))
    · have c7 : what = 7 := by omega
      subst c7
      have w1 := why_7 L hy
      refine (z_does7 (r := r) k4 w1 L S wf).mono fun h' ⟨A', q1, q2, k⟩ => ?_
      refine ⟨A', _, ⟨fun q => by omega, fun q => by omega, fun _ => ⟨q1, q2, rfl⟩⟩, ?_⟩
      exact O.so (T := remTn i x X.w.T) (k.wk (by omega) (by omega))
theorem b_acts {what r i x : Nat} (O : CBo b own X held rm z z' skm sn R R' N N' Tb seed rows' seed' h) (L : Lt X.w.A X.w.T) (hL : X.L.length ≤ 8) (k : DoOk what r i x) : EI (c_B_acts h (b 0) (ii what) (ii r) (ii i) (ii x)) (fun v h' => v = ii (why X.w.A what r i x) ∧ ∃ own' X' N2 T2, CBo b own' X' held rm z z' skm sn R R' N2 N' T2 seed rows' seed' h' ∧ FX own own' (b 0) (b 16) h h' ∧ h'.2.1.1 + 2 * s11 N2 ≤ h.2.1.1 + 2 * s11 N + 37 ∧ h'.2.1.2 + 7 * s11 N2 ≤ h.2.1.2 + 7 * s11 N + 2051 ∧ (why X.w.A what r i x ≠ 0 → X' = X) ∧ (why X.w.A what r i x = 0 → ∃ A' T', DoSp X.w.low X.w.A X.w.T what r i x A' T' ∧ X' = xK X A' T')) := by
  have k0 := k
  obtain ⟨k1, k2, k3, k4, k5, k6, k7, k8, k9⟩ := k
  have wf := O.2.2.2.2.2.2
  refine EI.of ?_
  unfold c_B_acts
  refine q_grd O.1 (by decide) ?_
  refine q_gQr O.1 (by decide) rfl ?_
  refine q_nn ?_
  refine q_hI (z_why O.2.2.2.1 wf k1 k2 k3 k4 k5 fun q => (k7 q).1) fun v h1 ⟨e1, so1⟩ => ?_
  obtain ⟨own1, N1, T1, O1, F1, K1, y1, y2⟩ := O.so (T := X.w.T) so1
  have O1 : CBo b own1 X held rm z z' skm sn R R' N1 N' T1 seed rows' seed' h1 := O1
  have wl : why X.w.A what r i x ≤ 2 := by
    unfold why
    repeat' split
    all_goals omega
  subst e1
  by_cases c : why X.w.A what r i x = 0
  · refine q_pos _ (by rw [c]; rfl) ?_
    refine q_gQr O1.1 (by decide) rfl ?_
    refine q_nn ?_
    refine q_hQ (z_pack O1.2.2.2.1 O1.2.2.2.2.2.2) fun v2 h2 ⟨a, own2, N2, T2, e2, S2, G2, u1, u2, PA2⟩ => ?_
    subst e2
    obtain ⟨O2, F2, K2⟩ := O1.gf (T := X.w.T) S2 G2
    have O2 : CBo b own2 X held rm z z' skm sn R R' N2 N' T2 seed rows' seed' h2 := O2
    refine q_nn ?_
    refine q_hV (O2.keep (x := (X.w.A, X.w.T)) hL PA2) fun h3 ⟨O3, F3, z3⟩ => ?_
    refine q_gQr O3.1 (by decide) rfl ?_
    refine q_nn ?_
    refine q_hV (b_does O3 L k0 c) fun h4 ⟨A', T', sp, own4, N4, T4, O4, F4, K4, t1, t2⟩ => ?_
    have w2 := O1.2.2.2.2.2.2
    have w3 := O2.2.2.2.2.2.2
    refine q_rI ⟨_, rfl, by rw [c]; rfl, own4, xK X A' T', N4, T4, O4, ((F1.trans F2 wf).trans F3 wf).trans F4 wf, ?_, ?_, fun q => absurd c q, fun _ => ⟨A', T', sp, rfl⟩⟩
    · rw [z3] at t1; omega
    · rw [z3] at t2; omega
  · refine q_neg _ (ii_eq0F (by omega)) ?_
    exact q_rI ⟨_, rfl, rfl, own1, X, N1, T1, O1, F1, by omega, by omega, fun _ => rfl, fun q => absurd q c⟩
theorem MO.congr {nw : Nat → Int32} {low rows : Nat} {A A' : Nat → LL} {T : List Nat} (M : MO nw low rows A T) (e : ∀ k, k < 4 → A' k = A k) : MO nw low rows A' T := ⟨M.1, M.2.1, fun r hr => by rw [e r hr]; exact M.2.2.1 r hr, M.2.2.2⟩
/-- the model's world behind a deed -/
theorem NW.gm {nw nw' : Nat → Int32} {w : KP} {A' : Nat → LL} {T' : List Nat} (C : NW nw w) (M : MO nw' w.low w.n A' T') (o : ∀ x, 5820 ≤ x → nw' x = nw x) : NW nw' (w.n, w.low, w.nm, A', T', w.sn) := by
  refine ⟨M, fun e => by rw [o _ (by omega)]; exact C.2.1 e, fun s e => ?_⟩
  obtain ⟨a1, a2, a3⟩ := C.2.2 s e
  refine ⟨by rw [o _ (by omega)]; exact a1, by rw [o _ (by omega)]; exact a2, fun k hk => ?_⟩
  obtain ⟨q1, q2, q3, q4⟩ := a3 k hk
  exact ⟨by rw [o _ (by omega)]; exact q1, by rw [o _ (by omega)]; exact q2, by rw [o _ (by omega)]; exact q3, by rw [o _ (by omega)]; exact q4⟩
/-- other rows, letters, undo in the model -/
theorem CM.gm {ms' : MS} {A' : Nat → LL} {T' : List Nat} {L' : List SN} (C : CM X ms) (M : MO (ms'.1 14) X.w.low X.w.n A' T') (o : ∀ x, 5820 ≤ x → ms'.1 14 x = ms.1 14 x) (e2 : ms'.2 = ms.2) (e : ∀ k, k ∈ cmF → k ≠ 14 → k ≠ 17 → k ≠ 24 → ms'.1 k = ms.1 k) (u1 : ms'.1 24 0 = ii L'.length) (u2 : US (ms'.1 17) L') : CM (X.1, X.2.1, (X.w.n, X.w.low, X.w.nm, A', T', X.w.sn), L', X.2.2.2.2) ms' := by
  obtain ⟨c1, c2, c3, c4, c5, c6, c7, c8, c9, c10, c11, c12⟩ := C
  have f := fun k hk h1 h2 h3 => e k hk h1 h2 h3
  refine ⟨?_, ?_, c3.gm M o, ?_, u1, u2, fun k hk => (c7 k hk).congr (f 23 (by decide) (by decide) (by decide) (by decide)) (f 16 (by decide) (by decide) (by decide) (by decide)) (by rw [e2]), ?_, ?_, ?_, ?_, ?_⟩
  · rw [f 1 (by decide) (by decide) (by decide) (by decide)]; exact c1
  · rw [f 2 (by decide) (by decide) (by decide) (by decide)]; exact c2
  · rw [e2]; exact c4
  · rw [f 10 (by decide) (by decide) (by decide) (by decide)]; exact c8
  · rw [f 28 (by decide) (by decide) (by decide) (by decide)]; exact c9
  · rw [f 27 (by decide) (by decide) (by decide) (by decide)]; exact c10
  · rw [f 33 (by decide) (by decide) (by decide) (by decide)]; exact c11
  · rw [f 33 (by decide) (by decide) (by decide) (by decide), f 31 (by decide) (by decide) (by decide) (by decide)]; exact c12
theorem m_does {what r i x low rows : Nat} {A : Nat → LL} {T : List Nat} (M : MO (ms.1 14) low rows A T) (I : IV low A) (L : Lt A T) (k : DoOk what r i x) (hy : why A what r i x = 0) : DV (d_M_live ms (ii what) (ii r) (ii i) (ii x)) (fun m' => GM ms m' ∧ ∀ A' T', DoSp low A T what r i x A' T' → MO (m'.1 14) low rows A' T') := by
  obtain ⟨k1, k2, k3, k4, k5, k6, k7, k8, k9⟩ := k
  by_cases c5 : what ≤ 5
  · have hi : i ≤ 1000 := by
      by_cases c2 : 2 ≤ what
      · have := k5 c2; omega
      · have := why_i hy I.len k2 (by omega); omega
    obtain ⟨m', e, q1, q2, q3⟩ := m_live M I c5 k2 hi k4 hy k6 (fun q => k7 (by omega))
    exact ⟨m', e, q3, fun A' T' sp => by rw [(sp.1 c5).1, (sp.1 c5).2]; exact q1⟩
  · by_cases c6 : what = 6
    · subst c6
      obtain ⟨w1, w2⟩ := why_6 L hy
      obtain ⟨m', e, q1, q2⟩ := m_type (r := r) (c := x) M I w1 w2
      exact ⟨m', e, q2, fun A' T' sp => by rw [(sp.2.1 rfl).2.2]; exact q1.congr (sp.2.1 rfl).1⟩
    · have c7 : what = 7 := by omega
      subst c7
      have w1 := why_7 L hy
      obtain ⟨m', e, q1, q2⟩ := m_erase (r := r) (n := x) M I w1 L.1
      exact ⟨m', e, q2, fun A' T' sp => by rw [(sp.2.2 rfl).2.2]; exact q1.congr (sp.2.2 rfl).1⟩
theorem m_act {what r x : Nat} {zi : Int} (C : CM X ms) (I : XI X) (hz : -2147483648 ≤ zi ∧ zi < 2147483648) (k : DoOk what r 0 x) (k2 : 0 ≤ zi → why X.w.A what r zi.toNat x = 0 → DoOk what r zi.toNat x) (k4 : what = 4 → 0 ≤ zi) : DI (d_M_act ms (ii what) (ii r) (ii zi) (ii x) (1 : Int32)) (fun v m' => v = ii (if zi < 0 then 1 else why X.w.A what r zi.toNat x : Nat) ∧ ((if zi < 0 then 1 else why X.w.A what r zi.toNat x : Nat) ≠ 0 → m' = ms) ∧ ((if zi < 0 then 1 else why X.w.A what r zi.toNat x : Nat) = 0 → ∀ A' T', DoSp X.w.low X.w.A X.w.T what r zi.toNat x A' T' → CM (xK X A' T') m')) := by
  have M := C.2.2.1.1
  have Iv := I.iv
  have L := I.lt
  obtain ⟨j1, j2, j3, j4, j5, j6, j7, j8, j9⟩ := k
  have rf := m_refusal M Iv.len L.len L.1 j1 j2 hz j4 (fun q => (j7 q).1) k4
  refine DI.of ?_
  unfold d_M_act
  refine d_neg _ (by decide) ?_
  refine d_bIe rf ?_
  by_cases c : (if zi < 0 then 1 else why X.w.A what r zi.toNat x : Nat) = 0
  · have zn : 0 ≤ zi := by
      by_cases q : zi < 0
      · rw [if_pos q] at c; cases c
      · omega
    have c' : why X.w.A what r zi.toNat x = 0 := by rw [if_neg (by omega)] at c; exact c
    have kk := k2 zn c'
    refine d_pos _ (by rw [c]; rfl) ?_
    refine d_bV (m_snap I.2.2.2.1 C.2.2.2.2.1 C.2.2.2.2.2.1 M.mt Iv.len) fun m1 ⟨s1, s2, s3, s4⟩ => ?_
    have M1 : MO (m1.1 14) X.w.low X.w.n X.w.A X.w.T := by rw [s4 14 (by decide) (by decide)]; exact M
    have ez : ii zi = ii (zi.toNat : Int) := by congr 1; omega
    rw [ez]
    refine d_bV (m_does M1 Iv L kk c') fun m2 ⟨g, q⟩ => ?_
    refine d_dI ⟨_, rfl, by rw [c]; rfl, fun w => absurd c w, fun _ A' T' sp => ?_⟩
    refine C.gm (q A' T' sp) (fun y hy => ?_) (g.1.trans s3) (fun j h1 h2 h3 h4 => (g.2.1 j h2).trans (s4 j h3 h4)) ?_ ?_
    · rw [g.2.2 y (Or.inr hy), s4 14 (by decide) (by decide)]
    · rw [g.2.1 24 (by decide)]; exact s1
    · rw [g.2.1 17 (by decide)]; exact s2
  · have wl : (if zi < 0 then 1 else why X.w.A what r zi.toNat x : Nat) ≤ 2 := by
      unfold why
      repeat' split
      all_goals omega
    refine d_neg _ (ii_eq0F (by omega)) ?_
    exact d_dI ⟨_, rfl, rfl, fun _ => rfl, fun w => absurd w c⟩
/-- what is so behind a deed -/
theorem XI.act {what r i x : Nat} {A' : Nat → LL} {T' : List Nat} (I : XI X) (k : DoOk what r i x) (hr : what ≤ 5 → r < X.w.n) (hx : what = 4 ∨ what = 5 → x < X.w.n) (sp : DoSp X.w.low X.w.A X.w.T what r i x A' T') (ls : ∀ k, k < 11 → LsB X.w.low (A' k)) : SNo X.w.low X.w.n (A', T') := by
  refine ⟨ls, ?_, fun q h1 h2 => ?_⟩
  · by_cases c : what ≤ 5
    · obtain ⟨e1, e2⟩ := sp.1 c
      rw [e2]
      have L := I.lt
      refine ⟨L.1, L.2.1, fun n hn => ?_⟩
      rw [e1]
      show (doA X.w.low X.w.A what r i x (4 + n)).flatten = _
      rw [doA_hi k.2.1 (fun q => (k.2.2.2.2.2.2.1 q).1) c (by omega)]
      exact L.2.2 n hn
    · by_cases c6 : what = 6
      · exact (sp.2.1 c6).2.1
      · exact (sp.2.2 (by have := k.1; omega)).2.1
  · by_cases c : what ≤ 5
    · obtain ⟨e1, e2⟩ := sp.1 c
      rw [e1]
      show doA X.w.low X.w.A what r i x q = []
      rw [doA_out (hr c) hx c h1]
      exact I.1.2.2.1.2.2 q h1 h2
    · by_cases c6 : what = 6
      · show A' q = []
        rw [(sp.2.1 c6).1 q h2]; exact I.1.2.2.1.2.2 q h1 h2
      · show A' q = []
        rw [(sp.2.2 (by have := k.1; omega)).1 q h2]; exact I.1.2.2.1.2.2 q h1 h2
theorem XI.xk {A' : Nat → LL} {T' : List Nat} (I : XI X) (n : SNo X.w.low X.w.n (A', T')) : XI (xK X A' T') := by
  obtain ⟨⟨i1, i2, i3, i4, i5⟩, j1, j2, j3, j4, j5⟩ := I
  refine ⟨⟨i1, i2, n, i4, i5⟩, j1, j2, keepU_le j3, fun p hp => ?_, j5⟩
  have hp : p ∈ keepU X.L (X.w.A, X.w.T) := hp
  unfold keepU at hp
  rcases List.mem_append.mp hp with q | q
  · by_cases c : X.L.length = 8
    · rw [if_pos c] at q; exact j4 p (List.mem_of_mem_drop q)
    · rw [if_neg c] at q; exact j4 p q
  · rw [List.mem_singleton.mp q]
    exact i3
end
