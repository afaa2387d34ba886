/-! PURE SIDE: both sides: undo, drawn -/
set_option maxRecDepth 100000
theorem MTx.mo {nw : Nat → Int32} {low rows : Nat} {A : Nat → LL} {T : List Nat} (M : MTx nw A T) (h1 : nw 0 = ii rows) (h2 : nw 1 = ii low) : MO nw low rows A T := ⟨h1, h2, M⟩
theorem UdR.short {b own : Nat → Nat} {h : PH} {L L' : List SN} (U : UdR b own h L) (e : ∀ (j : Nat) (p : SN), L'[j]? = some p → L[j]? = some p) : UdR b own h L' := by
  obtain ⟨f, e9, hf⟩ := U
  exact ⟨f, e9, fun j p hj => hf j p (e j p hj)⟩
theorem US.short {f : Nat → Int32} {L L' : List SN} (U : US f L) (e : ∀ (j : Nat) (p : SN), L'[j]? = some p → L[j]? = some p) : US f L' := fun j p hj => U j p (e j p hj)
theorem app_pre {L' : List SN} {p : SN} : ∀ (j : Nat) (q : SN), L'[j]? = some q → (L' ++ [p])[j]? = some q := fun j q hj => by
  rw [List.getElem?_append_left (List.getElem?_eq_some_iff.mp hj).1]
  exact hj
section
variable {b : Nat → Nat} {x y : Int}
theorem td_undo : TD b (fun h => c_B_undo h (b 0)) (fun ms => d_M_undo ms) := by
  intro own X c s h ms C I M
  have M' : CM X (mset ms 0 0 0) := M.set (by decide)
  have C' := C
  obtain ⟨held, rm, z0, z', skm, sn, R, R', N, N', Tb, seed, rows', seed', e0, sk, D, S, z1, z2⟩ := C
  have O : CBo b own X held rm z0 z' skm sn R R' N N' Tb seed rows' seed' h := ⟨e0, sk, D, S⟩
  have hl := I.2.2.2.1
  have hM := M'.2.2.2.2.1
  by_cases g : X.L = []
  · have gl : X.L.length = 0 := by rw [g]; rfl
    refine ⟨-1, h, mset ms 0 0 0, own, X, eqI ?_, dEqI ?_, C'.wk (by omega) (by omega), I, M', FX.rf S.2.2.2⟩
    · unfold c_B_undo
      refine q_grd e0 (by decide) ?_
      refine q_gI e0 (by decide) rfl ?_
      refine q_pos _ (by rw [gl]; rfl) ?_
      exact q_rI ⟨rfl, rfl⟩
    · unfold d_M_undo
      refine d_nm ?_
      rw [hM]
      refine d_nm ?_
      refine d_pos _ (by rw [gl]; rfl) ?_
      exact d_dI ⟨rfl, rfl⟩
  · obtain ⟨L', p, eL⟩ : ∃ L' p, X.L = L' ++ [p] := ⟨X.L.dropLast, X.L.getLast g, (List.dropLast_concat_getLast g).symm⟩
    have ll : X.L.length = L'.length + 1 := by rw [eL, List.length_append]; rfl
    have lp : X.L[L'.length]? = some p := by rw [eL, List.getElem?_append_right (Nat.le_refl _), Nat.sub_self]; rfl
    have np := I.2.2.2.2.1 p (by rw [eL]; exact List.mem_append_right _ List.mem_cons_self)
    have D' : RD b own h (xL X L') rm sn := ⟨D.1, D.2.1, D.2.2.1, D.2.2.2.1.short (by rw [eL]; exact app_pre), D.2.2.2.2⟩
    obtain ⟨O1, F1⟩ := O.b0 (X' := xL X L') (held2 := held) (rm2 := rm) (skm2 := skm) (sn2 := sn) D' ⟨rfl, rfl, rfl⟩ sk
    obtain ⟨f, e9, hf⟩ := D.2.2.2.1
    obtain ⟨a, q1, q2⟩ := hf _ _ lp
    have n9 : b 9 ≠ b 0 := kd_ne e9 e0 rfl
    obtain ⟨n8, n10⟩ := D.ne8 e0 (by show 2 * 0 ≠ 1; decide)
    have K1 : KX b own own 0 h (hset h (b 0) (bC b X.len held rm z0 z' X.ft skm L'.length X.td.isSome sn)) := KX.set e0 (fun q => (ff q rfl).elim) rfl (Or.inr rfl) (fun q => absurd q n8) (fun q => absurd q n10)
    have P1 := q2.im K1.2.1 K1.2.2.1
    obtain ⟨h2, u1, u2⟩ := z_unpack O1.2.2.2.1 O1.2.2.2.2.2.2 P1 np.1
    obtain ⟨own2, N2, T2, O2, F2, K2, y1, y2⟩ := O1.so (T := p.2) u2
    have y1 : h2.2.1.1 + 2 * s11 N2 ≤ h.2.1.1 + 2 * s11 N + 0 := y1
    have y2 : h2.2.1.2 + 7 * s11 N2 ≤ h.2.1.2 + 7 * s11 N + 0 := y2
    have C2 := O2.cb (c := c + 10000) (s := s + 90000) (by omega) (by omega)
    obtain ⟨m2, d1, d2, d3, d4, d5⟩ := m_back (ms := mset (mset ms 0 0 0) 24 0 (ii L'.length)) (k := 17) (N := 25704) (off := 3213 * L'.length) (by decide) rfl (by omega) (by decide)
    refine ⟨ii L'.length, h2, m2, own2, xA (xL X L') p.1 p.2, eqI ?_, dEqI ?_, C2, ⟨⟨I.1.1, I.1.2.1, np, I.1.2.2.2⟩, I.2.1, I.2.2.1, by show L'.length ≤ 8; omega, fun q hq => I.2.2.2.2.1 q (by rw [eL]; exact List.mem_append_left _ hq), I.2.2.2.2.2⟩, ?_, F1.trans F2 S.2.2.2⟩
    · unfold c_B_undo
      refine q_grd e0 (by decide) ?_
      refine q_gI e0 (by decide) rfl ?_
      refine q_neg _ (ii_eq0F (by omega)) ?_
      refine q_gI e0 (by decide) rfl ?_
      refine q_pI e0 (by decide) (Nat.le_of_ble_eq_true rfl) ?_
      have el : ii (X.L.length : Int) - 1 = ii (L'.length : Int) := by rw [sub1]; congr 1; omega
      rw [el]
      refine q_gQr up_eq (by decide) rfl ?_
      refine q_gQr up_eq (by decide) rfl ?_
      refine q_gI up_eq (by decide) rfl ?_
      refine q_nn ?_
      refine q_ldQv (up_nx n9 e9) (by decide) (by omega) (by rw [Int.toNat_natCast]; exact q1) ?_
      refine q_nn ?_
      refine q_nn ?_
      refine q_hVe u1 ?_
      refine q_gI O2.1 (by decide) rfl ?_
      exact q_rI ⟨rfl, rfl⟩
    · unfold d_M_undo
      refine d_nm ?_
      rw [hM]
      refine d_nm ?_
      refine d_neg _ (ii_eq0F (by omega)) ?_
      refine d_nm ?_
      have el : ii (X.L.length : Int) - 1 = ii (L'.length : Int) := by rw [sub1]; congr 1; omega
      rw [el]
      refine d_nm ?_
      rw [ms_eq]
      refine d_nm ?_
      have em : (3213 : Int32) * ii (L'.length : Int) = ii ((3213 * L'.length : Nat) : Int) := by rw [il_3213, ii_mul]; rfl
      rw [em]
      refine d_bVe d1 ?_
      refine d_nm ?_
      rw [d3 24 (by decide), ms_eq]
      exact d_dI ⟨rfl, rfl⟩
    · have nw14 : (mset (mset ms 0 0 0) 24 0 (ii L'.length)).1 14 = (mset ms 0 0 0).1 14 := ms_nk (by decide)
      have nw17 : (mset (mset ms 0 0 0) 24 0 (ii L'.length)).1 17 = (mset ms 0 0 0).1 17 := ms_nk (by decide)
      have U := M'.2.2.2.2.2.1
      have hb : ∀ r, r < 4 → (p.1 r).flatten.length ≤ 600 := fun r hr => (np.1 r (by omega)).2.1
      have T1 : MTx (m2.1 14) p.1 p.2 := MTx.congr (U _ _ lp).2 hb fun w h1 h2 => by
        have := d4 (w - 2607) (by omega)
        rw [show 2607 + (w - 2607) = w by omega, nw17] at this
        exact this
      have Mo : MO (m2.1 14) X.w.low X.w.n p.1 p.2 := T1.mo (by rw [d5 0 (by omega), nw14]; exact M'.2.2.1.1.1) (by rw [d5 1 (by omega), nw14]; exact M'.2.2.1.1.2.1)
      refine M'.gm (L' := L') Mo (fun w hw => by rw [d5 w (by omega), nw14]) d2 (fun j h1 h2 h3 h4 => by rw [d3 j h2, ms_nk h4]) (by rw [d3 24 (by decide), ms_eq]) ?_
      rw [d3 17 (by decide), nw17]
      exact U.short (by rw [eL]; exact app_pre)
end
/-- draws leave what is not of the rows -/
def dwG (low : Nat) (A : Nat → LL) (what r i x : Nat) (sd : Int32) : Bool × (Nat → LL) × Int32 := if dwB A what r i x = true then (true, doA low A (dwK what) r i x, sd) else (false, A, sd)
theorem dw_eq (low rows : Nat) (A : Nat → LL) (s : Int32) : dw low rows A s = dwG low A (rN (sdN s) 8) (rN (sdN (sdN s)) rows) (rN (sdN (sdN (sdN s))) ((A (rN (sdN (sdN s)) rows)).flatten.length + 1)) (dwX (rN (sdN s) 8) rows (sdN (sdN (sdN (sdN s))))) (sdN (sdN (sdN (sdN s)))) := by
  unfold dw dwG
  rfl
theorem dwG_out {low rows k what r i x : Nat} {A : Nat → LL} {sd : Int32} (hr : r < rows) (hx : 5 < what → x < rows) (hk : rows ≤ k) : (dwG low A what r i x sd).2.1 k = A k := by
  unfold dwG
  split
  · show doA low A (dwK what) r i x k = A k
    refine doA_out hr (fun q => hx ?_) ?_ hk
    · unfold dwK at q
      by_cases c1 : what < 3
      · rw [if_pos c1] at q; omega
      · rw [if_neg c1] at q
        by_cases c2 : what = 3
        · rw [if_pos c2] at q; omega
        · rw [if_neg c2] at q
          by_cases c3 : what < 6
          · rw [if_pos c3] at q; omega
          · omega
    · unfold dwK
      repeat' split
      all_goals omega
  · rfl
theorem dwG_no {low what r i x : Nat} {A : Nat → LL} {sd : Int32} (h : (dwG low A what r i x sd).1 = false) : (dwG low A what r i x sd).2.1 = A := by
  unfold dwG at h ⊢
  by_cases c : dwB A what r i x = true
  · rw [if_pos c] at h; cases h
  · rw [if_neg c]
theorem dwX_lt {what rows : Nat} {s : Int32} (hr : 1 ≤ rows ∧ rows ≤ 4) (h : 5 < what) : dwX what rows s < rows := by
  unfold dwX
  rw [if_neg (by omega), if_neg (by omega), if_neg (by omega)]
  exact (rnd_eq (s := s) (n := rows) (by omega)).2
theorem dw_out {low rows k : Nat} {A : Nat → LL} {s : Int32} (hr : 1 ≤ rows ∧ rows ≤ 4) (hk : rows ≤ k) : (dw low rows A s).2.1 k = A k := by
  rw [dw_eq]
  have r1 := (rnd_eq (s := sdN (sdN s)) (n := rows) (by omega)).2
  generalize sdN (sdN (sdN (sdN s))) = s4
  generalize rN (sdN s) 8 = what
  generalize rN (sdN (sdN s)) rows = r at *
  exact dwG_out r1 (fun h => dwX_lt hr h) hk
theorem dw_no {low rows : Nat} {A : Nat → LL} {s : Int32} (h : (dw low rows A s).1 = false) : (dw low rows A s).2.1 = A := by
  rw [dw_eq] at h ⊢
  generalize sdN (sdN (sdN (sdN s))) = s4 at *
  generalize rN (sdN s) 8 = what at *
  generalize rN (sdN (sdN s)) rows = r at *
  exact dwG_no h
theorem dwN_s {low rows n : Nat} {A : Nat → LL} {s : Int32} : dwN low rows (n + 1) A s = ((if (dw low rows A s).1 = true then 1 else 0) + (dwN low rows n (dw low rows A s).2.1 (dw low rows A s).2.2).1, (dwN low rows n (dw low rows A s).2.1 (dw low rows A s).2.2).2) := rfl
theorem dwN_out {low rows k : Nat} (hr : 1 ≤ rows ∧ rows ≤ 4) (hk : rows ≤ k) : ∀ {n : Nat} {A : Nat → LL} {s : Int32}, (dwN low rows n A s).2.1 k = A k := by
  intro n
  induction n with
  | zero => intro A s; rfl
  | succ n ih =>
    intro A s
    have o := dw_out (low := low) (A := A) (s := s) hr hk
    rw [dwN_s]
    generalize dw low rows A s = D at *
    obtain ⟨d1, d2, d3⟩ := D
    exact (ih (A := d2) (s := d3)).trans o
theorem dwN_no {low rows : Nat} : ∀ {n : Nat} {A : Nat → LL} {s : Int32}, (dwN low rows n A s).1 = 0 → (dwN low rows n A s).2.1 = A := by
  intro n
  induction n with
  | zero => intro A s _; rfl
  | succ n ih =>
    intro A s h
    have o := @dw_no low rows A s
    rw [dwN_s] at h ⊢
    generalize dw low rows A s = D at *
    obtain ⟨d1, d2, d3⟩ := D
    cases d1 with
    | true =>
      have h : 1 + (dwN low rows n d2 d3).1 = 0 := h
      omega
    | false =>
      have h : 0 + (dwN low rows n d2 d3).1 = 0 := h
      exact (ih (A := d2) (s := d3) (by omega)).trans (o rfl)
section
variable {ms : MS} {low n : Nat} {A A0 : Nat → LL} {T : List Nat} {Z : Option Value → MS → Prop}
/-- what was is come back to -/
theorem m_comes {k : Nat} {off N : Nat} {f : Nat → Int32} (hk : k ≠ 14) (hm : mLn k = N) (ho : off + 3213 ≤ N) (hN : N < 100000) (h0 : ms.1 14 0 = ii n) (h1 : ms.1 14 1 = ii low) (hb : ∀ r, r < 4 → (A r).flatten.length ≤ 600) (G : SG (ms.1 k) off A T) : DV (d_M_comeBack ms k (ii off)) (fun m' => MO (m'.1 14) low n A T ∧ m'.2 = ms.2 ∧ (∀ q, q ≠ 14 → m'.1 q = ms.1 q) ∧ ∀ x, x < 2607 ∨ 5820 ≤ x → m'.1 14 x = ms.1 14 x) := by
  obtain ⟨m2, d1, d2, d3, d4, d5⟩ := m_back (ms := ms) hk hm ho hN
  refine ⟨m2, d1, (MTx.congr G hb fun w h1 h2 => ?_ : MTx (m2.1 14) A T).mo (by rw [d5 0 (by omega)]; exact h0) (by rw [d5 1 (by omega)]; exact h1), d2, d3, fun x hx => d5 x hx⟩
  have := d4 (w - 2607) (by omega)
  rw [show 2607 + (w - 2607) = w by omega] at this
  exact this
theorem SG.of {f nw : Nat → Int32} {off : Nat} (M : MTx nw A T) (hb : ∀ r, r < 4 → (A r).flatten.length ≤ 600) (e : ∀ x, x < 3213 → f (off + x) = nw (2607 + x)) : SG f off A T := MTx.congr M hb fun x h1 h2 => by
  show f (off + (x - 2607)) = nw x
  rw [e (x - 2607) (by omega)]
  congr 1
  omega
theorem m_stay {v : Bool} {L : List SN} {T0 : List Nat} (M : MO (ms.1 14) low n A T) (hb : ∀ r, r < 4 → (A r).flatten.length ≤ 600) (hb0 : ∀ r, r < 4 → (A0 r).flatten.length ≤ 600) (G : SG (ms.1 19) 0 A0 T0) (hL : L.length ≤ 8) (e1 : ms.1 24 0 = ii L.length) (U : US (ms.1 17) L) : DV (d_M_stay ms (ii (bn v))) (fun m' => MO (m'.1 14) low n (if v = true then A else A0) (if v = true then T else T0) ∧ m'.1 24 0 = ii (if v = true then keepU L (A0, T0) else L).length ∧ US (m'.1 17) (if v = true then keepU L (A0, T0) else L) ∧ m'.2 = ms.2 ∧ (∀ q, q ≠ 14 → q ≠ 17 → q ≠ 18 → q ≠ 24 → m'.1 q = ms.1 q) ∧ ∀ x, x < 2607 ∨ 5820 ≤ x → m'.1 14 x = ms.1 14 x) := by
  refine DV.of ?_
  unfold d_M_stay
  refine d_bV (m_save (ms := ms) (k := 18) (N := 3213) (off := 0) (by decide) rfl (by decide) (by decide)) fun m1 ⟨a1, a2, a3, a4⟩ => ?_
  have n1 : m1.1 14 = ms.1 14 := a2 14 (by decide)
  have G1 : SG (m1.1 19) 0 A0 T0 := by rw [a2 19 (by decide)]; exact G
  refine d_bV (m_comes (ms := m1) (low := low) (n := n) (k := 19) (off := 0) (N := 3213) (f := fun _ => 0) (by decide) rfl (by decide) (by decide) (by rw [n1]; exact M.1) (by rw [n1]; exact M.2.1) hb0 G1) fun m2 ⟨b1, b2, b3, b4⟩ => ?_
  cases v with
  | false =>
    refine d_pos _ rfl ?_
    refine d_dV ⟨rfl, b1, ?_, ?_, b2.trans a1, fun q h1 h2 h3 h4 => (b3 q h1).trans (a2 q h3), fun x hx => by rw [b4 x hx, n1]⟩
    · rw [b3 24 (by decide), a2 24 (by decide)]; exact e1
    · rw [b3 17 (by decide), a2 17 (by decide)]; exact U
  | true =>
    refine d_neg _ bn1_ne ?_
    refine d_bV (m_snap (ms := m2) (L := L) hL (by rw [b3 24 (by decide), a2 24 (by decide)]; exact e1) (by rw [b3 17 (by decide), a2 17 (by decide)]; exact U) b1.mt hb0) fun m3 ⟨c1, c2, c3, c4⟩ => ?_
    have n3 : m3.1 14 = m2.1 14 := c4 14 (by decide) (by decide)
    have e18 : m3.1 18 = m1.1 18 := (c4 18 (by decide) (by decide)).trans (b3 18 (by decide))
    have G3 : SG (m3.1 18) 0 A T := SG.of M.mt hb fun x hx => by rw [e18]; exact a3 x hx
    refine d_bV (m_comes (ms := m3) (low := low) (n := n) (k := 18) (off := 0) (N := 3213) (f := fun _ => 0) (by decide) rfl (by decide) (by decide) (by rw [n3]; exact b1.1) (by rw [n3]; exact b1.2.1) hb G3) fun m4 ⟨g1, g2, g3, g4⟩ => ?_
    refine d_dV ⟨rfl, g1, ?_, ?_, g2.trans (c3.trans (b2.trans a1)), fun q h1 h2 h3 h4 => (g3 q h1).trans ((c4 q h2 h4).trans ((b3 q h1).trans (a2 q h3))), fun x hx => by rw [g4 x hx, n3, b4 x hx, n1]⟩
    · rw [g3 24 (by decide)]; exact c1
    · rw [g3 17 (by decide)]; exact c2
/-- deeds drawn, by the model -/
theorem m_drawn_l47 {N : Nat} {E : Nat × (Nat → LL) × Int32} (hN : N ≤ 60) (hr : 1 ≤ n ∧ n ≤ 4) (hT : T.length ≤ 200) (k : ∀ (m' : MS) (d : Nat), MO (m'.1 14) low n E.2.1 T → d = E.1 → GD ms m' → DE (if ii (d : Int) ≤ 0 then bV (d_M_stay m' (0 : Int32)) fun m1 => dI (ii d) m1 else bV (d_M_stay m' (1 : Int32)) fun m2 => dI (ii d) m2) Z) : ∀ (m fu p d : Nat) (m' : MS) (A : Nat → LL), m < fu → p + m = N → MO (m'.1 14) low n A T → IV low A → (A 4).flatten.length = T.length → GD ms m' → d + (dwN low n m A (m'.1 29 0)).1 = E.1 → (dwN low n m A (m'.1 29 0)).2.1 = E.2.1 → d ≤ p → DE (itr (d_M_drawn_l47) (fun _ _ _ _ => none) fu m' (ii N) (ii d) (ii p)) Z := by
  intro m
  induction m with
  | zero =>
    intro fu p d m' A hf hp M I h4 G e1 e2 hd
    obtain ⟨fu, rfl⟩ : ∃ x, fu = x + 1 := ⟨fu - 1, by omega⟩
    have e1' : d = E.1 := by rw [← e1]; rfl
    have e2' : A = E.2.1 := by rw [← e2]; rfl
    rw [itr_succ]
    unfold d_M_drawn_l47
    refine d_pos _ (ii_leT (by omega)) ?_
    exact k m' d (by rw [← e2']; exact M) e1' G
  | succ m ih =>
    intro fu p d m' A hf hp M I h4 G e1 e2 hd
    obtain ⟨fu, rfl⟩ : ∃ x, fu = x + 1 := ⟨fu - 1, by omega⟩
    have md := m_drawsDeed hr M I h4 hT
    have h42 := dw_out (low := low) (rows := n) (k := 4) (A := A) (s := m'.1 29 0) hr (by omega)
    rw [dwN_s] at e1 e2
    generalize dw low n A (m'.1 29 0) = D at *
    obtain ⟨d1, d2, d3⟩ := D
    have e2b : (dwN low n m d2 d3).2.1 = E.2.1 := e2
    have h43 : (d2 4).flatten.length = T.length := by rw [show d2 4 = A 4 from h42]; exact h4
    rw [itr_succ]
    unfold d_M_drawn_l47
    refine d_neg _ (ii_leF (by omega)) ?_
    refine d_bI md fun v m2 ⟨q1, q2, q3, q4, q5⟩ => ?_
    have q4b : m2.1 29 0 = d3 := q4
    rw [q1]
    cases d1 with
    | false =>
      have e1b : d + (0 + (dwN low n m d2 d3).1) = E.1 := e1
      refine d_pos _ rfl ?_
      rw [add1]
      exact ih fu (p + 1) d m2 d2 (by omega) (by omega) q2 q3 h43 (G.trans q5) (by rw [q4b]; omega) (by rw [q4b]; exact e2b) (by omega)
    | true =>
      have e1b : d + (1 + (dwN low n m d2 d3).1) = E.1 := e1
      refine d_neg _ bn1_ne ?_
      rw [add1, add1]
      exact ih fu (p + 1) (d + 1) m2 d2 (by omega) (by omega) q2 q3 h43 (G.trans q5) (by rw [q4b]; omega) (by rw [q4b]; exact e2b) (by omega)
end
section
variable {b : Nat → Nat} {x : Int} {y : Int32}
theorem z_draw0 {own : Nat → Nat} {B z low : Nat} {h : PH} {A : Nat → LL} {R N : Nat → Nat} {T : Nat → Bool} {seed : Int32} {v w : Int32} (S : SR own B h z low A R N T (ii (0 : Nat)) seed) : c_S_drawDeeds h z v w = rI (0 : Int32) h := by
  obtain ⟨ra, na, rf, nf, e, _⟩ := S.cell
  refine eqI ?_
  unfold c_S_drawDeeds
  refine q_grd e (by decide) ?_
  refine q_gI e (by decide) rfl ?_
  refine q_pos _ rfl ?_
  exact q_rI ⟨rfl, rfl⟩
theorem td_drawn (hx : -2147483648 ≤ x ∧ x < 2147483648) : TD b (fun h => c_B_drawn h (b 0) (ii x) y) (fun ms => d_M_drawn ms (ii x) y) := by
  intro own X c s h ms C I M
  have M' : CM X (mset ms 0 0 0) := M.set (by decide)
  have C' := C
  have n4 := I.1.1
  obtain ⟨held, rm, z0, z', skm, sn, R, R', N, N', Tb, seed, rows', seed', e0, sk, D, S, z1, z2⟩ := C
  have O : CBo b own X held rm z0 z' skm sn R R' N N' Tb seed rows' seed' h := ⟨e0, sk, D, S⟩
  by_cases g : 1 ≤ x ∧ x ≤ 60
  · obtain ⟨k, rfl⟩ : ∃ k : Nat, x = k := ⟨x.toNat, by omega⟩
    obtain ⟨v2, h2, p1, a, own2, N2, T2, e2, S2, G2, u1, u2, PA2⟩ := z_pack S.1 S.2.2.2
    subst e2
    obtain ⟨O2, F2, K2⟩ := O.gf (T := X.w.T) S2 G2
    have O2 : CBo b own2 X held rm z0 z' skm sn R R' N2 N' T2 seed rows' seed' h2 := O2
    by_cases gn : X.w.n = 0
    · have C2 := O2.cb (c := c + 10000) (s := s + 90000) (by omega) (by omega)
      refine ⟨0, h2, mset ms 0 0 0, own2, X, eqI ?_, dEqI ?_, C2, I, M', F2⟩
      · unfold c_B_drawn
        refine q_grd e0 (by decide) ?_
        refine q_in (a := 1) (b := 60) rfl rfl (by omega) (fun q => absurd g q) fun _ => ?_
        refine q_gQr e0 (by decide) rfl ?_
        refine q_nn ?_
        refine q_hQe p1 ?_
        refine q_gQr O2.1 (by decide) rfl ?_
        refine q_nn ?_
        have S3 := O2.2.2.2.1
        rw [gn] at S3
        refine q_hIe (z_draw0 S3) ?_
        refine q_pos _ (by decide) ?_
        exact q_rI ⟨rfl, rfl⟩
      · unfold d_M_drawn
        refine d_nm ?_
        refine d_in (a := 1) (b := 60) rfl rfl (by omega) (fun q => absurd g q) fun _ => ?_
        refine d_eA (z := 0) (N := 6062) rfl (n := 0) (by omega) M'.2.2.1.1.1 ?_
        refine d_pos _ (by rw [gn]; rfl) ?_
        exact d_dI ⟨rfl, rfl⟩
    · have hr : 1 ≤ X.w.n ∧ X.w.n ≤ 4 := by omega
      obtain ⟨v3, h3, p3, e3, so3⟩ := z_drawDeeds (n := k) (begun := y) (by omega) hr O2.2.2.2.1 O2.2.2.2.2.2.2
      obtain ⟨own3, N3, T3, O3, F3, K3, y1, y2⟩ := O2.so (T := X.w.T) so3
      have dl := dwN_le (low := X.w.low) (rows := X.w.n) (n := k) (A := X.w.A) (s := y)
      have dout : ∀ j, X.w.n ≤ j → (dwN X.w.low X.w.n k X.w.A y).2.1 j = X.w.A j := fun j hj => dwN_out hr hj
      have dno := dwN_no (low := X.w.low) (rows := X.w.n) (n := k) (A := X.w.A) (s := y)
      generalize hE : dwN X.w.low X.w.n k X.w.A y = E at *
      have sno : SNo X.w.low X.w.n (E.2.1, X.w.T) := by
        refine ⟨fun j hj => O3.lsb hj, ⟨I.lt.1, I.lt.2.1, fun j hj => ?_⟩, fun r h1 h2 => ?_⟩
        · show (E.2.1 (4 + j)).flatten = _
          rw [dout (4 + j) (by omega)]
          exact I.lt.2.2 j hj
        · show E.2.1 r = []
          rw [dout r h1]
          exact I.1.2.2.1.2.2 r h1 h2
      have Mo := M'.2.2.1.1
      have hb0 := I.iv.len
      have hb : ∀ r, r < 4 → (E.2.1 r).flatten.length ≤ 600 := fun r hr => (sno.1 r (by omega)).2.1
      -- the model
      have md : DE (d_M_drawn ms (ii k) y) (fun r m' => r = some (.int (ii E.1)) ∧ CM (if 0 < E.1 then xK X E.2.1 X.w.T else X) m') := by
        unfold d_M_drawn
        refine d_nm ?_
        refine d_in (a := 1) (b := 60) rfl rfl (by omega) (fun q => absurd g q) fun _ => ?_
        refine d_eA (z := 0) (N := 6062) rfl (n := 0) (by omega) M'.2.2.1.1.1 ?_
        refine d_neg _ (ii_eq0F (by omega)) ?_
        refine d_bV (m_save (ms := mset ms 0 0 0) (k := 19) (N := 3213) (off := 0) (by decide) rfl (by decide) (by decide)) fun m1 ⟨a1, a2, a3, a4⟩ => ?_
        refine d_nm ?_
        have n14 : (mset m1 29 0 y).1 14 = (mset ms 0 0 0).1 14 := (ms_nk (by decide)).trans (a2 14 (by decide))
        have n29 : (mset m1 29 0 y).1 29 0 = y := ms_eq
        have key := m_drawn_l47 (ms := mset m1 29 0 y) (low := X.w.low) (n := X.w.n) (T := X.w.T) (N := k) (E := E) (Z := fun r m' => r = some (.int (ii E.1)) ∧ CM (if 0 < E.1 then xK X E.2.1 X.w.T else X) m') (by omega) hr I.lt.1 ?_ k FU 0 0 (mset m1 29 0 y) X.w.A (by unfold FU; omega) (by omega) (by rw [n14]; exact Mo) I.iv I.lt.len GD.rf (by rw [n29, hE]; omega) (by rw [n29, hE]) (by omega)
        · exact key
        · intro m' d Md ed Gd
          have G19 : SG (m'.1 19) 0 X.w.A X.w.T := SG.of Mo.mt hb0 fun x hx => by
            rw [Gd.2.1 19 (by decide) (by decide), ms_nk (by decide)]
            exact a3 x hx
          have f24 : m'.1 24 = (mset ms 0 0 0).1 24 := (Gd.2.1 24 (by decide) (by decide)).trans ((ms_nk (by decide)).trans (a2 24 (by decide)))
          have f17 : m'.1 17 = (mset ms 0 0 0).1 17 := (Gd.2.1 17 (by decide) (by decide)).trans ((ms_nk (by decide)).trans (a2 17 (by decide)))
          have fall : ∀ q, q ≠ 14 → q ≠ 29 → q ≠ 19 → m'.1 q = (mset ms 0 0 0).1 q := fun q h1 h2 h3 => (Gd.2.1 q h1 h2).trans ((ms_nk h2).trans (a2 q h3))
          have f2 : m'.2 = (mset ms 0 0 0).2 := Gd.1.trans a1
          have fo : ∀ x, x < 2607 ∨ 5820 ≤ x → m'.1 14 x = (mset ms 0 0 0).1 14 x := fun x hx => by rw [Gd.2.2 x hx, n14]
          have nm : ∀ q, q ∈ cmF → q ≠ 29 ∧ q ≠ 19 ∧ q ≠ 18 := by decide
          by_cases cd : d = 0
          · refine d_pos _ (by rw [cd]; decide) ?_
            refine d_bV (m_stay (v := false) Md hb hb0 G19 I.2.2.2.1 (by rw [f24]; exact M'.2.2.2.2.1) (by rw [f17]; exact M'.2.2.2.2.2.1)) fun m2 ⟨s1, s2, s3, s4, s5, s6⟩ => ?_
            refine d_dI ⟨by rw [ed], ?_⟩
            rw [← ed, if_neg (by omega)]
            exact M'.gm (L' := X.L) s1 (fun x hx => by rw [s6 x (Or.inr hx), fo x (Or.inr hx)]) (s4.trans f2) (fun j h1 h2 h3 h4 => (s5 j h2 h3 (nm j h1).2.2 h4).trans (fall j h2 (nm j h1).1 (nm j h1).2.1)) s2 s3
          · refine d_neg _ (ii_leF (b := 0) (by omega)) ?_
            refine d_bV (m_stay (v := true) Md hb hb0 G19 I.2.2.2.1 (by rw [f24]; exact M'.2.2.2.2.1) (by rw [f17]; exact M'.2.2.2.2.2.1)) fun m2 ⟨s1, s2, s3, s4, s5, s6⟩ => ?_
            refine d_dI ⟨by rw [ed], ?_⟩
            rw [← ed, if_pos (by omega)]
            exact M'.gm (L' := keepU X.L (X.w.A, X.w.T)) s1 (fun x hx => by rw [s6 x (Or.inr hx), fo x (Or.inr hx)]) (s4.trans f2) (fun j h1 h2 h3 h4 => (s5 j h2 h3 (nm j h1).2.2 h4).trans (fall j h2 (nm j h1).1 (nm j h1).2.1)) s2 s3
      obtain ⟨r, m', d1, d2, d3⟩ := md
      subst d2
      have pre : ∀ {Z : Rt → PH → Prop}, Ends (if ii E.1 ≤ 0 then rI (ii E.1) h3 else nn (some a) fun a13 => hV (c_B_keep h3 (b 0) a13) noX fun h15 => rI (ii E.1) h15) Z → Ends (c_B_drawn h (b 0) (ii k) y) Z := by
        intro Z kz
        unfold c_B_drawn
        refine q_grd e0 (by decide) ?_
        refine q_in (a := 1) (b := 60) rfl rfl (by omega) (fun q => absurd g q) fun _ => ?_
        refine q_gQr e0 (by decide) rfl ?_
        refine q_nn ?_
        refine q_hQe p1 ?_
        refine q_gQr O2.1 (by decide) rfl ?_
        refine q_nn ?_
        refine q_hIe p3 ?_
        rw [e3]
        exact kz
      by_cases cd : 0 < E.1
      · rw [if_pos cd] at d3
        have PA3 := PA2.im K3.2.1 K3.2.2.1
        obtain ⟨h4, k1, O4, F4, z4⟩ := O3.keep (x := (X.w.A, X.w.T)) I.2.2.2.1 PA3
        have C4 := O4.cb (c := c + 10000) (s := s + 90000) (by rw [z4]; omega) (by rw [z4]; omega)
        refine ⟨_, h4, m', own3, _, eqI (pre ?_), d1, C4, I.xk sno, d3, (F2.trans F3 S.2.2.2).trans F4 S.2.2.2⟩
        refine q_neg _ (ii_leF (b := 0) (by omega)) ?_
        refine q_nn ?_
        refine q_hVe k1 ?_
        exact q_rI ⟨rfl, rfl⟩
      · rw [if_neg cd] at d3
        have eA := dno (by omega)
        have O3' : CBo b own3 X held rm z0 z' skm sn R R' N3 N' T3 E.2.2 rows' seed' h3 := by
          have := O3
          rw [eA] at this
          exact this
        have C4 := O3'.cb (c := c + 10000) (s := s + 90000) (by omega) (by omega)
        refine ⟨_, h3, m', own3, X, eqI (pre ?_), d1, C4, I, d3, F2.trans F3 S.2.2.2⟩
        refine q_pos _ (ii_leT (b := 0) (by omega)) ?_
        exact q_rI ⟨rfl, rfl⟩
  · refine ⟨-1, h, mset ms 0 0 0, own, X, eqI ?_, dEqI ?_, C'.wk (by omega) (by omega), I, M', FX.rf S.2.2.2⟩
    · unfold c_B_drawn
      refine q_grd e0 (by decide) ?_
      refine q_in (a := 1) (b := 60) rfl rfl (by omega) (fun q => ?_) fun q => absurd q g
      exact q_rI ⟨rfl, rfl⟩
    · unfold d_M_drawn
      refine d_nm ?_
      refine d_in (a := 1) (b := 60) rfl rfl (by omega) (fun q => ?_) fun q => absurd q g
      exact d_dI ⟨rfl, rfl⟩
end
