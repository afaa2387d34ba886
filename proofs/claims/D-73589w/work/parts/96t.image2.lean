/-! PURE SIDE: both sides: images, the model -/
set_option maxRecDepth 100000
def Cp (m0 ms : MS) (kd od ks os N j : Nat) : Prop := ms.2 = m0.2 ∧ (∀ q, q ≠ kd → ms.1 q = m0.1 q) ∧ (∀ x, x < j → ms.1 kd (od + x) = m0.1 ks (os + x)) ∧ ∀ y, y < od ∨ od + N ≤ y → ms.1 kd y = m0.1 kd y
def CpL (m0 ms : MS) (kd od ks os N j : Nat) : Prop := ms.1 = m0.1 ∧ (∀ q, q ≠ kd → ms.2 q = m0.2 q) ∧ (∀ x, x < j → ms.2 kd (od + x) = m0.2 ks (os + x)) ∧ ∀ y, y < od ∨ od + N ≤ y → ms.2 kd y = m0.2 kd y
theorem msL_ne {ms : MS} {k i x : Nat} {v : Int64} (h : x ≠ i) : (msetL ms k i v).2 k x = ms.2 k x := by simp [msetL, h]
section
variable {m0 ms : MS} {kd od ks os N j k : Nat} {X : XS} {Z : Option Value → MS → Prop}
theorem Cp.rf : Cp ms ms kd od ks os N 0 := ⟨rfl, fun _ _ => rfl, fun x hx => by omega, fun _ _ => rfl⟩
theorem CpL.rf : CpL ms ms kd od ks os N 0 := ⟨rfl, fun _ _ => rfl, fun x hx => by omega, fun _ _ => rfl⟩
theorem Cp.up (C : Cp m0 ms kd od ks os N j) (hk : ks ≠ kd) (hj : j < N) : Cp m0 (mset ms kd (od + j) (ms.1 ks (os + j))) kd od ks os N (j + 1) := by
  obtain ⟨c1, c2, c3, c4⟩ := C
  refine ⟨c1, fun q hq => (ms_nk hq).trans (c2 q hq), fun x hx => ?_, fun y hy => ?_⟩
  · by_cases c : x = j
    · rw [c, ms_eq, c2 ks hk]
    · rw [ms_ne (by omega)]; exact c3 x (by omega)
  · rw [ms_ne (by omega)]; exact c4 y hy
theorem CpL.up (C : CpL m0 ms kd od ks os N j) (hk : ks ≠ kd) (hj : j < N) : CpL m0 (msetL ms kd (od + j) (ms.2 ks (os + j))) kd od ks os N (j + 1) := by
  obtain ⟨c1, c2, c3, c4⟩ := C
  refine ⟨c1, fun q hq => (msetL_ne hq).trans (c2 q hq), fun x hx => ?_, fun y hy => ?_⟩
  · by_cases c : x = j
    · rw [c, msL_eq, c2 ks hk]
    · rw [msL_ne (by omega)]; exact c3 x (by omega)
  · rw [msL_ne (by omega)]; exact c4 y hy
theorem m_image_l51 (hk : k < 2) (kk : ∀ m', CpL m0 m' 22 (4 * k) 20 0 4 4 → Z (some (.int 1)) (mset m' 23 k 1)) : ∀ (m fu j : Nat) (ms : MS), m < fu → j + m = 4 → CpL m0 ms 22 (4 * k) 20 0 4 j → DE (itr (d_M_image_l51) (fun _ _ _ => none) fu ms (ii k) (ii j)) Z := by
  intro m
  induction m with
  | zero =>
    intro fu j ms hf hj C
    obtain ⟨fu, rfl⟩ : ∃ x, fu = x + 1 := ⟨fu - 1, by omega⟩
    have e : j = 4 := by omega
    subst e
    rw [itr_succ]
    unfold d_M_image_l51
    refine d_pos _ (by decide) ?_
    refine d_sA (N := 2) rfl (n := k) (by omega) ?_
    exact d_dZ1 (kk ms C)
  | succ m ih =>
    intro fu j ms hf hj C
    obtain ⟨fu, rfl⟩ : ∃ x, fu = x + 1 := ⟨fu - 1, by omega⟩
    rw [itr_succ]
    unfold d_M_image_l51
    refine d_neg _ (ii_leF (a := 4) (by omega)) ?_
    refine d_eL (N := 4) rfl (n := 0 + j) (by omega) rfl ?_
    have e : (4 : Int32) * ii (k : Int) + ii (j : Int) = ii (4 * (k : Int) + (j : Int)) := by rw [il_4, ii_mul, ii_add]
    rw [e]
    refine d_sL (N := 8) rfl (n := 4 * k + j) (by omega) ?_
    rw [add1]
    exact ih fu (j + 1) _ (by omega) (by omega) (C.up (by decide) (by omega))
theorem m_image_l18 (hk : k < 2) (kk : ∀ m', Cp m0 m' 16 (6062 * k) 14 0 6062 6062 → DE (itr (d_M_image_l51) (fun _ _ _ => none) FU m' (ii k) (0 : Int32)) Z) : ∀ (m fu j : Nat) (ms : MS), m < fu → j + m = 6062 → Cp m0 ms 16 (6062 * k) 14 0 6062 j → DE (itr (d_M_image_l18) (fun _ _ _ => none) fu ms (ii k) (ii j)) Z := by
  intro m
  induction m with
  | zero =>
    intro fu j ms hf hj C
    obtain ⟨fu, rfl⟩ : ∃ x, fu = x + 1 := ⟨fu - 1, by omega⟩
    have e : j = 6062 := by omega
    subst e
    rw [itr_succ]
    unfold d_M_image_l18
    refine d_pos _ (by rw [il_6062]; exact ii_leT (by omega)) ?_
    exact kk ms C
  | succ m ih =>
    intro fu j ms hf hj C
    obtain ⟨fu, rfl⟩ : ∃ x, fu = x + 1 := ⟨fu - 1, by omega⟩
    rw [itr_succ]
    unfold d_M_image_l18
    refine d_neg _ (by rw [il_6062]; exact ii_leF (by omega)) ?_
    refine d_eA (N := 6062) rfl (n := 0 + j) (by omega) rfl ?_
    have e : (6062 : Int32) * ii (k : Int) + ii (j : Int) = ii (6062 * (k : Int) + (j : Int)) := by rw [il_6062, ii_mul, ii_add]
    rw [e]
    refine d_sA (N := 12124) rfl (n := 6062 * k + j) (by omega) ?_
    rw [add1]
    exact ih fu (j + 1) _ (by omega) (by omega) (C.up (by decide) (by omega))
theorem NW.cg {nw nw' : Nat → Int32} {w : KP} (C : NW nw w) (I : WI w) (o : ∀ x, x < 6062 → nw' x = nw x) : NW nw' w := by
  obtain ⟨⟨c1, c2, c3⟩, c4, c5⟩ := C
  refine ⟨⟨(o 0 (by decide)).trans c1, (o 1 (by decide)).trans c2, MTx.congr c3 (fun r hr => (I.2.2.1.1 r (by omega)).2.1) (fun x _ hx => o x (by omega))⟩, fun e => (o _ (by decide)).trans (c4 e), fun s es => ?_⟩
  obtain ⟨d1, d2, d3⟩ := c5 s es
  have hs : s.2 < 60 := (I.2.2.2.2 s es).1
  refine ⟨(o _ (by decide)).trans d1, (o _ (by decide)).trans d2, fun k hk => ?_⟩
  obtain ⟨e1, e2, e3, e4⟩ := d3 k hk
  exact ⟨(o _ (by omega)).trans e1, (o _ (by omega)).trans e2, (o _ (by omega)).trans e3, (o _ (by omega)).trans e4⟩
theorem m_image (M : CM X ms) (I : XI X) (hk : k < 2) : DE (d_M_image ms (ii k)) (fun r m' => r = some (.int 1) ∧ CM (xI X k) m') := by
  have M' : CM X (mset ms 0 0 0) := M.set (by decide)
  have n4 := I.1.1
  unfold d_M_image
  refine d_nm ?_
  refine d_in (a := 0) (b := 1) rfl rfl (by omega) (fun q => absurd (by omega) q) fun _ => ?_
  refine m_image_l18 (m0 := mset ms 0 0 0) hk (fun m1 C1 => ?_) 6062 FU 0 _ (by unfold FU; omega) (by omega) Cp.rf
  refine m_image_l51 (m0 := m1) hk (fun m2 C2 => ?_) 4 FU 0 _ (by unfold FU; omega) (by omega) CpL.rf
  generalize mset ms 0 0 0 = mA at *
  obtain ⟨p1, p2, p3, p4⟩ := C1
  obtain ⟨r1, r2, r3, r4⟩ := C2
  obtain ⟨c1, c2, c3, c4, c5, c6, c7, c8, c9, c10, c11, c12⟩ := M'
  have f : ∀ q, q ≠ 16 → q ≠ 23 → (mset m2 23 k 1).1 q = mA.1 q := fun q h1 h2 => by rw [ms_nk h2, r1]; exact p2 q h1
  have f16 : (mset m2 23 k 1).1 16 = m1.1 16 := by rw [ms_nk (by decide), r1]
  have g : ∀ q, q ≠ 22 → (mset m2 23 k 1).2 q = mA.2 q := fun q h1 => by show m2.2 q = _; rw [r2 q h1, p1]
  refine ⟨rfl, ?_, ?_, ?_, ?_, ?_, ?_, fun j hj => ?_, ?_, ?_, ?_, ?_, ?_⟩
  · rw [f 1 (by decide) (by decide)]; exact c1
  · rw [f 2 (by decide) (by decide)]; exact c2
  · rw [f 14 (by decide) (by decide)]; exact c3
  · rw [g 20 (by decide)]; exact c4
  · rw [f 24 (by decide) (by decide)]; exact c5
  · rw [f 17 (by decide) (by decide)]; exact c6
  · show KM _ j (if j = k then some X.w else X.im j)
    by_cases c : j = k
    · rw [if_pos c, c]
      refine ⟨(fun z => by cases z), fun w hw => ?_⟩
      injection hw with hw
      subst hw
      refine ⟨ms_eq, ?_, fun r hr => ?_⟩
      · refine NW.cg c3 I.1 fun x hx => ?_
        show (mset m2 23 k 1).1 16 (6062 * k + x) = _
        rw [f16, p3 x hx, Nat.zero_add]
      · show m2.2 22 (4 * k + r) = _
        rw [r3 r (by have : r < X.w.n := hr; omega), Nat.zero_add, p1]
        exact c4 r hr
    · rw [if_neg c]
      obtain ⟨d1, d2⟩ := c7 j hj
      have e23 : (mset m2 23 k 1).1 23 j = mA.1 23 j := by rw [ms_ne c, r1, p2 23 (by decide)]
      refine ⟨fun z => by rw [e23]; exact d1 z, fun w hw => ?_⟩
      obtain ⟨y1, y2, y3⟩ := d2 w hw
      refine ⟨by rw [e23]; exact y1, ?_, fun r hr => ?_⟩
      · refine NW.cg y2 (I.2.2.2.2.2.1 j w hw) fun x hx => ?_
        show (mset m2 23 k 1).1 16 (6062 * j + x) = _
        rw [f16, p4 _ (by omega)]
      · show m2.2 22 (4 * j + r) = _
        have := (I.2.2.2.2.2.1 j w hw).1
        rw [r4 _ (by omega), p1]
        exact y3 r hr
  · rw [f 10 (by decide) (by decide)]; exact c8
  · rw [f 28 (by decide) (by decide)]; exact c9
  · rw [f 27 (by decide) (by decide)]; exact c10
  · rw [f 33 (by decide) (by decide)]; exact c11
  · rw [f 33 (by decide) (by decide), f 31 (by decide) (by decide)]; exact c12
end
section
variable {b : Nat → Nat} {x : Int}
theorem td_image (hx : -2147483648 ≤ x ∧ x < 2147483648) : TD b (fun h => c_B_image h (b 0) (ii x)) (fun ms => d_M_image ms (ii x)) := by
  intro own X c s h ms C I M
  have C' := C
  obtain ⟨held, rm, z0, z', skm, sn, R, R', N, N', Tb, seed, rows', seed', e0, sk, D, S, z1, z2⟩ := C
  have O : CBo b own X held rm z0 z' skm sn R R' N N' Tb seed rows' seed' h := ⟨e0, sk, D, S⟩
  by_cases g : 0 ≤ x ∧ x ≤ 1
  · obtain ⟨k, rfl⟩ : ∃ k : Nat, x = k := ⟨x.toNat, by omega⟩
    obtain ⟨r, hh, y1, y2, own2, N2, T2, O2, F2, u1, u2⟩ := b_image (k := k) O (by omega)
    obtain ⟨r', m', w1, w2, w3⟩ := m_image (k := k) M I (by omega)
    subst y2 w2
    refine ⟨_, hh, m', own2, _, y1, w1, O2.cb (by omega) (by omega), ⟨I.1, I.2.1, I.2.2.1, I.2.2.2.1, I.2.2.2.2.1, fun j w hw => ?_, I.2.2.2.2.2.2⟩, w3, F2⟩
    have hw : (if j = k then some X.w else X.im j) = some w := hw
    by_cases cj : j = k
    · rw [if_pos cj] at hw
      injection hw with hw
      rw [← hw]
      exact I.1
    · rw [if_neg cj] at hw
      exact I.2.2.2.2.2.1 j w hw
  · refine ⟨0, h, mset ms 0 0 0, own, X, eqI ?_, dEqI ?_, C'.wk (by omega) (by omega), I, M.set (by decide), FX.rf S.2.2.2⟩
    · unfold c_B_image
      refine q_grd e0 (by decide) ?_
      refine q_in (a := 0) (b := 1) rfl rfl (by omega) (fun q => ?_) fun q => absurd q g
      exact q_rZ0 ⟨rfl, rfl⟩
    · unfold d_M_image
      refine d_nm ?_
      refine d_in (a := 0) (b := 1) rfl rfl (by omega) (fun q => ?_) fun q => absurd q g
      exact d_dZ0 ⟨rfl, rfl⟩
end
