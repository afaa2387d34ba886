/-! PURE SIDE: both sides: a book: 2 -/
set_option maxRecDepth 100000
section
variable {b own own' : Nat → Nat} {X : XS} {h h1 h' : PH} {held : Int} {rm z z' : Nat} {skm : Int} {sn : Option Nat} {R R' N N' : Nat → Nat} {Tb : Nat → Bool} {seed rows' seed' : Int32} {c s : Nat} {ms : MS}
/-- the answer behind a fault -/
theorem CBo.fault {k pl : Nat} {base : Int} {bb : Int32} (O : CBo b own X held rm z z' skm sn R R' N N' Tb seed rows' seed' h) (eb : bb = ii base) (T : TH b h1 k pl h') (P : PF h h1) (Rd : RdR b h1) : ∃ h2, (Ends (if (b 2, 0).2 = 0 then nm (b 2, 0).1 fun q9 => gI h' q9 [1] 6 fun v11 => pI h' (b 0) [0] 11 v11 fun h12 => gI h12 q9 [1] 7 fun v13 => rI (bb - v13) h12 else none) (fun r hh => r = .inl (some (.int (ii (base - pl)))) ∧ hh = h2)) ∧ CBo b own (X.1, X.2.1, X.2.2.1, X.2.2.2.1, X.2.2.2.2.1, X.2.2.2.2.2.1, X.2.2.2.2.2.2.1, (k : Int)) held rm z z' skm sn R R' N N' Tb seed rows' seed' h2 ∧ FX own own (b 0) (b 16) h h2 ∧ h2.2 = h1.2 := by
  subst eb
  have O1 := O.parse P Rd (own' := own) (fun _ _ => rfl)
  have P2 := PF.th T P.2.1
  have Rd2 : RdR b h' := by
    obtain ⟨fs, t1, t2, t3⟩ := T
    obtain ⟨⟨p, at_, tk, v, mn, nm, x8, x9, x10, e1⟩, ⟨p2, at2, tk2, v2, mn2, nm2, x2, e2⟩, ⟨p3, at3, tk3, v3, mn3, nm3, x3, e3⟩, ⟨gs, e4, e5⟩, ⟨f, e6⟩⟩ := Rd
    subst t3
    exact ⟨⟨p, at_, tk, v, mn, nm, x8, x9, x10, up_kd e1 t1 rfl⟩, ⟨p2, at2, tk2, v2, mn2, nm2, x2, up_kd e2 t1 rfl⟩, ⟨p3, at3, tk3, v3, mn3, nm3, x3, up_kd e3 t1 rfl⟩, ⟨_, up_eq, by rw [List.length_set, List.length_set]; exact t2⟩, ⟨f, up_kd e6 t1 rfl⟩⟩
  have O2 := O1.parse P2 Rd2 (own' := own) (fun _ _ => rfl)
  obtain ⟨fs, t1, t2, t3⟩ := T
  have e2 : h'.1 (b 2) = some (.inr (1, (fs.set 6 (.int (ii k))).set 7 (.int (ii pl)))) := by rw [t3]; exact up_eq
  have g := th_get (a := .int (ii k)) (c := .int (ii pl)) t2
  have n2 : b 2 ≠ b 0 := kd_ne e2 O2.1 rfl
  have kb := O2.b0 (X' := (X.1, X.2.1, X.2.2.1, X.2.2.2.1, X.2.2.2.2.1, X.2.2.2.2.2.1, X.2.2.2.2.2.2.1, (k : Int))) (held2 := held) (rm2 := rm) (skm2 := skm) (sn2 := sn) O2.2.2.1 ⟨rfl, rfl, rfl⟩ O2.2.1
  refine ⟨_, ?_, kb.1, (FX.parse (P.trans P2) (own' := own) (fun _ _ => rfl)).trans kb.2 O.2.2.2.2.2.2, by rw [t3]; rfl⟩
  refine q_pos _ rfl ?_
  refine q_nm ?_
  refine q_gI e2 (by decide) g.1 ?_
  refine q_pI O2.1 (by decide) (Nat.le_of_ble_eq_true rfl) ?_
  refine q_gI (up_nx n2 e2) (by decide) g.2 ?_
  rw [ii_sub]
  exact q_rI ⟨rfl, rfl⟩
end
section
variable {b : Nat → Nat} {h h1 : PH} {low : Nat}
theorem FrC.rd (F : FrC b h h1) (R : RdR b h) : RdR b h1 := by
  obtain ⟨F1, K, g, e12⟩ := F
  obtain ⟨⟨p, at_, tk, v, mn, nm, x8, x9, x10, e1⟩, ⟨p2, at2, tk2, v2, mn2, nm2, x2, e2⟩, ⟨p3, at3, tk3, v3, mn3, nm3, x3, e3⟩, ⟨gs, e4, e5⟩, ⟨f, e6⟩⟩ := R
  have k := F1.2.2.2.2.2.2
  have ne : ∀ {y : Nat} {c : PC}, h.1 y = some c → kd c ≠ 12 → kd c ≠ 21 → y ≠ b 6 ∧ y ≠ b 12 := fun {y c} ey q1 q2 => ⟨fun w => by
    rw [w, e2] at ey
    injection ey with ey
    rw [← ey] at q1
    exact q1 rfl, fun w => by
    rw [w, e6] at ey
    injection ey with ey
    rw [← ey] at q2
    exact q2 rfl⟩
  have n5 := ne e1 (by show 2 * 5 ≠ 12; decide) (by show 2 * 5 ≠ 21; decide)
  have n7 := ne e3 (by show 2 * 7 ≠ 12; decide) (by show 2 * 7 ≠ 21; decide)
  have n2 := ne e4 (by show 2 * 1 ≠ 12; decide) (by show 2 * 1 ≠ 21; decide)
  exact ⟨⟨p, at_, tk, v, mn, nm, x8, x9, x10, k _ _ e1 n5.1 n5.2⟩, K, ⟨p3, at3, tk3, v3, mn3, nm3, x3, k _ _ e3 n7.1 n7.2⟩, ⟨gs, k _ _ e4 n2.1 n2.2, e5⟩, ⟨g, e12⟩⟩
theorem RunR.no {ds : List DD} {A A' : Nat → LL} {T T' : List Nat} {w : Nat} (r : RunR low ds A T w 0 A' T') : A' = A ∧ T' = T := by
  cases ds with
  | nil => exact r.2.2
  | cons d ds =>
    rcases r with r | ⟨_, A1, T1, k1, _, _, e, _⟩
    · exact r.2.2.2
    · omega
abbrev bt4 (A : Nat → LL) : Nat := (A 0).flatten.length + (A 1).flatten.length + (A 2).flatten.length + (A 3).flatten.length
/-- what is so behind a book -/
def xBk (X : XS) (x : Int) (w j : Nat) (A' : Nat → LL) (T' : List Nat) : XS := if x = 0 ∨ j = 0 then xT (xB X 0) (tdV w j (bt4 A') T'.length) else xK (xT (xB X 0) (tdV w j (bt4 A') T'.length)) A' T'
theorem xBk_0 {X : XS} {x : Int} {w j : Nat} {A' : Nat → LL} {T' : List Nat} (q : x = 0 ∨ j = 0) : xBk X x w j A' T' = xT (xB X 0) (tdV w j (bt4 A') T'.length) := by
  unfold xBk
  rw [if_pos q]
theorem xBk_1 {X : XS} {x : Int} {w j : Nat} {A' : Nat → LL} {T' : List Nat} (q : ¬ (x = 0 ∨ j = 0)) : xBk X x w j A' T' = xK (xT (xB X 0) (tdV w j (bt4 A') T'.length)) A' T' := by
  unfold xBk
  rw [if_neg q]
theorem XI.xt {X : XS} {t : Nat → Int} (I : XI X) : XI (xT X t) := I
end
section
variable {m8 : MS} {low n w j : Nat} {A' : Nat → LL} {T' : List Nat} {x1 : Int32} {Z : Option Value → MS → Prop}
theorem m_told4 (M8 : MO (m8.1 14) low n A' T') (n4 : n ≤ 4) (ls : ∀ r, r < 4 → LsB low (A' r)) (h4 : ∀ r, n ≤ r → r < 4 → A' r = []) (hl : low ≤ 32) (kk : ∀ m9 : MS, (∀ k, k < 4 → m9.1 31 k = ii (tdV w j (bt4 A') T'.length k)) → m9.1 33 0 = ii 1 → (∀ q, q ≠ 31 → q ≠ 33 → m9.1 q = m8.1 q) → m9.2 = m8.2 → DE (if x1 = (1 : Int32) then if ii (j : Int) ≤ 0 then d_M_book_j165 m9 (ii j) (ii w) else d_M_book_j166 m9 (ii j) (ii w) (1 : Int32) else d_M_book_j165 m9 (ii j) (ii w)) Z) : DE (d_M_book_j108 m8 x1 (ii j) (ii w)) Z := by
  have b4 := bits4 (A := A') n4 h4
  unfold d_M_book_j108
  refine d_sA (z := 0) (N := 4) rfl (n := 0) (by omega) ?_
  refine d_sA (z := 1) (N := 4) rfl (n := 1) (by omega) ?_
  have qm : QM (mset (mset m8 31 0 (ii w)) 31 1 (ii j)) n A' := by
    have e14 : (mset (mset m8 31 0 (ii w)) 31 1 (ii j)).1 14 = m8.1 14 := (ms_nk (by decide)).trans (ms_nk (by decide))
    refine ⟨by rw [e14]; exact M8.1, n4, fun r hr => ⟨by rw [e14]; exact M8.2.2.1 r hr, (ls r hr).2.1, (ls r hr).len, fun l hl => ?_⟩⟩
    have := (ls r hr).leaf hl
    omega
  refine d_bIe (m_allBits qm) ?_
  refine d_sA (z := 2) (N := 4) rfl (n := 2) (by omega) ?_
  rw [show (2615 : Int32) = ii 2615 from ii_lit 2615]
  refine d_eA (N := 6062) rfl (n := 2615) (v := ii T'.length) (by omega) (by rw [ms_nk (by decide), ms_nk (by decide), ms_nk (by decide)]; exact M8.2.2.2.1) ?_
  refine d_sA (z := 3) (N := 4) rfl (n := 3) (by omega) ?_
  unfold zP
  refine d_pos _ (Or.inr rfl) ?_
  refine d_nm ?_
  refine kk _ (fun k hk => ?_) (by rw [ms_eq]; rfl) (fun q h1 h2 => (ms_nk h2).trans ((ms_nk h1).trans ((ms_nk h1).trans ((ms_nk h1).trans (ms_nk h1))))) rfl
  rw [ms_nk (by decide)]
  by_cases c0 : k = 0
  · subst c0; rw [ms_ne (by decide), ms_ne (by decide), ms_ne (by decide), ms_eq]; rfl
  by_cases c1 : k = 1
  · subst c1; rw [ms_ne (by decide), ms_ne (by decide), ms_eq]; rfl
  by_cases c2 : k = 2
  · subst c2; rw [ms_ne (by decide), ms_eq, b4]; rfl
  have c3 : k = 3 := by omega
  subst c3; rw [ms_eq]; rfl
end
section
variable {b : Nat → Nat} {x : Int}
theorem td_book (hx : -2147483648 ≤ x ∧ x < 2147483648) : TD b (fun h => c_B_book h (b 0) (ii x)) (fun ms => d_M_book ms (ii x)) := by
  intro own X c s h ms C I M
  have C' := C
  have n4 := I.1.1
  obtain ⟨held, rm, z0, z', skm, sn, R, R', N, N', Tb, seed, rows', seed', e0, sk, D, S, z1, z2⟩ := C
  have O : CBo b own X held rm z0 z' skm sn R R' N N' Tb seed rows' seed' h := ⟨e0, sk, D, S⟩
  by_cases g : 0 ≤ x ∧ x ≤ 1
  · have hl := I.2.1
    obtain ⟨O1, F1⟩ := O.beg 0 (X.len : Int)
    have I1 : XI (xB X 0) := I.xb 0
    have T1 := O1.tb I1 hl rfl
    obtain ⟨na, Rm⟩ := O1.nma I1
    have Mt : CM X (mset ms 0 0 0) := M.set (by decide)
    -- the component up to the reading
    have cpre : ∀ {Z : Rt → PH → Prop}, Ends (hV (c_DB_read (hset h (b 0) (bC b 0 X.len rm z0 z' 0 skm X.L.length X.td.isSome sn)) (b 6)) (fun q9 h10 => if q9.2 = 0 then nm q9.1 fun q9 => gI h10 q9 [1] 6 fun v11 => pI h10 (b 0) [0] 11 v11 fun h12 => gI h12 q9 [1] 7 fun v13 => rI ((-2 : Int32) - v13) h12 else none) fun h8 => gQ h8 (b 0) [0] 7 fun v14 => nn v14 fun a15 => hQ (c_S_pack h8 a15) noX fun v18 h17 => itr (c_B_book_l68) (fun _ _ _ _ _ _ _ _ => none) FU h17 (b 0) (ii x) v18 (-1 : Int32) (0 : Int32) (0 : Int32) (0 : Int32)) Z → Ends (c_B_book h (b 0) (ii x)) Z := by
      intro Z k
      unfold c_B_book
      refine q_grd e0 (by decide) ?_
      refine q_in (a := 0) (b := 1) rfl rfl (by omega) (fun q => absurd g q) fun _ => ?_
      refine q_hVe (b_consume e0) ?_
      refine q_pI up_eq (by decide) (Nat.le_of_ble_eq_true rfl) ?_
      rw [hset_hset]
      refine q_gQr up_eq (by decide) rfl ?_
      refine q_nn ?_
      exact k
    have mpre : ∀ {Z : Option Value → MS → Prop}, (∀ m0 m5, CM (xB X 0) m0 → LI m0 X.tp X.len [] (tok X.tp X.len 400 0) m5 → DE (itr (d_M_book_l30) (fun _ _ => none) FU m5 (ii x)) Z) → DE (d_M_book ms (ii x)) Z := by
      intro Z k
      unfold d_M_book
      refine d_nm ?_
      refine d_in (a := 0) (b := 1) rfl rfl (by omega) (fun q => absurd g q) fun _ => ?_
      refine d_bV (m_begin (most := 400) Mt I rfl (by decide)) fun m' ⟨m0, q1, q2, q3, q4, q5⟩ => ?_
      refine d_nm ?_
      refine k m0 _ q1 ⟨⟨fun j hj => ?_, fun j hj => q2.2 j hj⟩, (fun j d hj => by cases hj), q3.set (by decide), q4.set (by decide), q5, by rw [ms_eq]; rfl⟩
      rw [ms_nk (fun q => hj (by rw [q]; decide))]
      exact q2.1 j (fun q => hj ((by decide : ∀ k, k ∈ gpF → k ∈ gbF) j q))
    have dm0 : ∀ m0, CM (xB X 0) m0 → m0.1 14 0 = ii X.w.n ∧ ∀ r, r < X.w.n → m0.2 20 r = ll (n27 (X.w.nm r)) ∧ okN (X.w.nm r) := fun m0 q => ⟨q.2.2.1.1.1, fun r hr => ⟨q.2.2.2.1 r hr, I.1.2.2.2.1 r hr⟩⟩
    cases hA : bkA X.tp X.len X.w.nm X.w.n 41 0 (tok X.tp X.len 400 0) with
    | inl e =>
      obtain ⟨k, pl⟩ := e
      have comp : Ends (c_B_book h (b 0) (ii x)) (fun r hh => ∃ own2, r = .inl (some (.int (ii (-2 - (pl : Int))))) ∧ CB b own2 (xB X (k : Int)) (c + 10000) (s + 90000) hh ∧ FX own own2 (b 0) (b 16) h hh) := by
        refine cpre (hV_E ?_)
        refine r_book O1.2.2.1.1.2.1.2.1 T1 O1.2.2.1.1.2.2 O1.2.2.1.1.2.1.2.2.2.1 ⟨_, O1.1, rfl, rfl, rfl⟩ O1.2.2.1.1.2.1.2.2.2.2 O1.2.2.2.2.2.2 Rm (fun k' pl' eB h1 h' fr th => Or.inr ⟨_, rfl, ?_⟩) (fun es eB => by rw [hA] at eB; cases eB)
        rw [hA] at eB
        injection eB with eB
        injection eB with e1 e2
        subst e1 e2
        have O2 := O1.parse (fr.1.pf O1.ne610.1 O1.ne610.2.1) (fr.rd O1.2.2.1.1.2.1) (own' := own) (fun _ _ => rfl)
        have pf := fr.1.pf O1.ne610.1 O1.ne610.2.1
        obtain ⟨h2, q1, q2, q3, q4⟩ := O1.fault (base := -2) (bb := -2) rfl th pf (fr.rd O1.2.2.1.1.2.1)
        obtain ⟨r, hh, y1, y2, y3⟩ := q1
        subst y3
        refine ⟨r, hh, y1, own, y2, q2.cb ?_ ?_, F1.trans q3 S.2.2.2⟩
        · rw [q4]
          have := fr.1.2.2.2.2.1
          have e : h1.2.1.1 ≤ h.2.1.1 + 41 := this
          omega
        · rw [q4]
          have := fr.1.2.2.2.2.2.1
          have e : h1.2.1.2 ≤ h.2.1.2 + 4 * 41 := this
          omega
      have mod : DE (d_M_book ms (ii x)) (fun r m' => r = some (.int (ii (-2 - (pl : Int)))) ∧ CM (xB X (k : Int)) m') := by
        refine mpre fun m0 m5 q1 L5 => ?_
        refine s_bkA n4 (dm0 m0 q1).1 (dm0 m0 q1).2 41 FU [] _ m5 rfl (by decide) (by unfold FU; decide) L5 (fun k' pl' eB m' ft => ?_) (fun es eB => by
          have eB := hA.symm.trans eB
          cases eB)
        have eB := hA.symm.trans eB
        injection eB with eB
        injection eB with e1 e2
        subst e1 e2
        exact d_dI ⟨rfl, q1.ft (fun j hj h1 => ft.1.1 j ((by decide : ∀ j, j ∈ cmF → j ≠ 10 → j ∉ gcF) j hj h1)) (by rw [ft.1.2 20 (by decide)]) (by rw [ft.1.2 22 (by decide)]) ft.2.1⟩
      obtain ⟨r, hh, y1, own2, y2, y3, y4⟩ := comp
      obtain ⟨r', m', w1, w2, w3⟩ := mod
      subst y2 w2
      exact ⟨_, hh, m', own2, _, y1, w1, y3, I.xb k, w3, y4⟩
    | inr es =>
      have hdd := bkA_ok n4 _ _ _ _ hA
      have comp : Ends (c_B_book h (b 0) (ii x)) (fun r hh => ∃ w j A' T' own2, RunR X.w.low es X.w.A X.w.T w j A' T' ∧ j ≤ 40 ∧ w ≤ 100 ∧ es.length ≤ 40 ∧ SNo X.w.low X.w.n (A', T') ∧ r = .inl (some (.int (ii (if w = 0 then -1 else (j : Int))))) ∧ CB b own2 (xBk X x w j A' T') (c + 10000) (s + 90000) hh ∧ FX own own2 (b 0) (b 16) h hh) := by
        refine cpre (hV_E ?_)
        refine r_book O1.2.2.1.1.2.1.2.1 T1 O1.2.2.1.1.2.2 O1.2.2.1.1.2.1.2.2.2.1 ⟨_, O1.1, rfl, rfl, rfl⟩ O1.2.2.1.1.2.1.2.2.2.2 O1.2.2.2.2.2.2 Rm (fun k' pl' eB => by rw [hA] at eB; cases eB) (fun es' eB h1 t' J1 D1 F2 hes => Or.inl ⟨rfl, ?_⟩)
        rw [hA] at eB
        injection eB with eB
        subst eB
        have fr : FrC b _ h1 := ⟨F2, JB.k6 J1, D1.g⟩
        have pf := F2.pf O1.ne610.1 O1.ne610.2.1
        have O2 := O1.parse pf (fr.rd O1.2.2.1.1.2.1) (own' := own) (fun _ _ => rfl)
        have w2 := O2.2.2.2.2.2.2
        have G2 := F1.trans (FX.parse pf (own' := own) (fun _ _ => rfl)) S.2.2.2
        have Nb : Nb6 b h1 es.length := by
          obtain ⟨⟨v, mn, nm, e, _⟩, _⟩ := J1
          exact ⟨_, e, rfl, rfl⟩
        refine q_gQr O2.1 (by decide) rfl ?_
        refine q_nn ?_
        obtain ⟨v3, h3, p3, a, own3, N3, T3, e3, S3, G3, u1, u2, PA3⟩ := z_pack O2.2.2.2.1 w2
        subst e3
        obtain ⟨O3, F3, K3⟩ := O2.gf (T := X.w.T) S3 G3
        refine q_hQe p3 ?_
        have c1 : h1.2.1.1 ≤ h.2.1.1 + 41 := F2.2.2.2.2.1
        have c2 : h1.2.1.2 ≤ h.2.1.2 + 4 * 41 := F2.2.2.2.2.2.1
        refine b_run (X0 := xB X 0) (held := (X.len : Int)) (own0 := own) (h0 := h) (ds := es) (A0 := X.w.A) (c0 := h3.2.1.1 + 2 * s11 N3) (s0 := h3.2.1.2 + 7 * s11 N3) S.2.2.2 hes ?_ es FU 0 X.w.A X.w.T own3 N3 T3 h3 rfl (Nat.zero_le _) (by unfold FU; omega) (fun w j A' T' hR => by rw [Nat.zero_add]; exact hR) O3 I1 hdd (D1.kx K3) (Nb.kx K3) PA3 (G2.trans F3 S.2.2.2) (by omega) (by omega)
        intro w j A' T' own4 N4 T4 h4 hR O4 F4 PA4 I4 y1 y2 hj hw
        have sno : SNo X.w.low X.w.n (A', T') := I4.1.2.2.1
        refine b_told4 O4 I4.lt fun h5 O5 F5 _ z5 => ?_
        have PA5 := PA4.im (h' := h5) (own' := own4) (fun _ _ _ => rfl) (fun x c e q => F5.2.2.2.2.2 x c e (Or.inr q))
        by_cases x0 : x = 0
        · refine q_pos _ (by rw [x0]; rfl) ?_
          refine q_gQr O5.1 (by decide) rfl ?_
          refine q_nn ?_
          refine q_nn ?_
          obtain ⟨h6, p6, so6⟩ := z_unpack O5.2.2.2.1 O5.2.2.2.2.2.2 PA5 (fun k hk => O1.lsb hk)
          obtain ⟨own6, N6, T6, O6, F6, K6, t1, t2⟩ := O5.so (T := X.w.T) so6
          refine q_hVe p6 ?_
          refine q_rI ⟨w, j, A', T', own6, hR, hj, hw, hes, sno, rfl, ?_, (F4.trans F5 S.2.2.2).trans F6 S.2.2.2⟩
          rw [xBk_0 (Or.inl x0)]
          rw [z5] at t1 t2
          exact CBo.cb O6 (by omega) (by omega)
        · refine q_neg _ (ii_eq0F (by omega)) ?_
          by_cases j0 : j = 0
          · subst j0
            obtain ⟨eA, eT⟩ := hR.no
            refine q_pos _ (by decide) ?_
            refine q_rI ⟨w, 0, A', T', own4, hR, hj, hw, hes, sno, rfl, ?_, F4.trans F5 S.2.2.2⟩
            rw [xBk_0 (Or.inr rfl)]
            subst eA eT
            exact CBo.cb O5 (by rw [z5]; omega) (by rw [z5]; omega)
          · refine q_neg _ (ii_leF (b := 0) (by omega)) ?_
            refine q_nn ?_
            obtain ⟨h6, p6, O6, F6, z6⟩ := O5.keep (x := (X.w.A, X.w.T)) I.2.2.2.1 PA5
            refine q_hVe p6 ?_
            refine q_rI ⟨w, j, A', T', own4, hR, hj, hw, hes, sno, rfl, ?_, (F4.trans F5 S.2.2.2).trans F6 S.2.2.2⟩
            rw [xBk_1 (by omega)]
            exact CBo.cb O6 (by rw [z6, z5]; omega) (by rw [z6, z5]; omega)
      obtain ⟨r, hh, y1, w, j, A', T', own2, hR, hj, hw, hes, sno, y2, y3, y4⟩ := comp
      subst y2
      have hb0 := I.iv.len
      have hb : ∀ r, r < 4 → (A' r).flatten.length ≤ 600 := fun r hr => (sno.1 r (by omega)).2.1
      have b4 := bits4 (A := A') n4 sno.2.2
      have mod : DE (d_M_book ms (ii x)) (fun r m' => r = some (.int (ii (if w = 0 then -1 else (j : Int)))) ∧ CM (xBk X x w j A' T') m') := by
        refine mpre fun m0 m5 q1 L5 => ?_
        refine s_bkA n4 (dm0 m0 q1).1 (dm0 m0 q1).2 41 FU [] _ m5 rfl (by decide) (by unfold FU; decide) L5 (fun k' pl' eB => by
          have eB := hA.symm.trans eB
          cases eB) (fun es' eB m6 G6 L6 l6 => ?_)
        have eB := hA.symm.trans eB
        injection eB with eB
        subst eB
        have M0 := q1.2.2.1.1
        refine d_bV (m_save (ms := m6) (k := 19) (N := 3213) (off := 0) (by decide) rfl (by decide) (by decide)) fun m7 ⟨a1, a2, a3, a4⟩ => ?_
        have n14 : m7.1 14 = m0.1 14 := (a2 14 (by decide)).trans (G6.1 14 (by decide))
        refine m_run (ms := m7) (low := X.w.low) (n := X.w.n) (A' := A') (T' := T') (w := w) (j := j) n4 hes hdd ?_ es FU 0 j X.w.A X.w.T m7 rfl (Nat.zero_le _) (by unfold FU; omega) (by omega) hR (by rw [n14]; exact M0) GM.rf (L6.cg (a2 30 (by decide))) (by rw [a2 32 (by decide)]; exact l6) I.iv I.lt
        intro m8 G8 M8
        have G19 : SG (m8.1 19) 0 X.w.A X.w.T := SG.of M0.mt hb0 fun y hy => by
          rw [G8.2.1 19 (by decide), a3 y hy, G6.1 14 (by decide)]
        have fall : ∀ q, q ∈ cmF → q ≠ 14 → m8.1 q = m0.1 q := fun q h1 h2 => (G8.2.1 q h2).trans ((a2 q (fun w => by subst w; exact absurd h1 (by decide))).trans (G6.1 q ((by decide : ∀ j, j ∈ cmF → j ∉ gbF) q h1)))
        have f20 : m8.2 20 = m0.2 20 := by rw [G8.1, a1]; exact G6.2 20 (by decide)
        have f22 : m8.2 22 = m0.2 22 := by rw [G8.1, a1]; exact G6.2 22 (by decide)
        have fo : ∀ y, y < 2607 ∨ 5820 ≤ y → m8.1 14 y = m0.1 14 y := fun y hy => by rw [G8.2.2 y hy, n14]
        refine m_told4 M8 n4 (fun r hr => sno.1 r (by omega)) sno.2.2 I.1.2.1.2 fun m9 t0 t1 t2 t3 => ?_
        have Mb : CM (xT (xB X 0) (tdV w j (bt4 A') T'.length)) ((fun k => if k = 31 ∨ k = 33 then m9.1 k else m0.1 k), m9.2) := by
          have q1' : CM (xB X 0) (m0.1, m9.2) := q1.congr (fun _ _ => rfl) (by rw [t3]; exact f20) (by rw [t3]; exact f22)
          refine q1'.td (fun q h1 h2 h3 => ?_) rfl ?_ ?_
          · show (if q = 31 ∨ q = 33 then m9.1 q else m0.1 q) = _
            rw [if_neg (by omega)]
          · exact t1
          · exact t0
        have M9 : MO (m9.1 14) X.w.low X.w.n A' T' := by rw [t2 14 (by decide) (by decide)]; exact M8
        have G9 : SG (m9.1 19) 0 X.w.A X.w.T := by rw [t2 19 (by decide) (by decide)]; exact G19
        have e24 : m9.1 24 0 = ii X.L.length := by rw [t2 24 (by decide) (by decide), fall 24 (by decide) (by decide)]; exact q1.2.2.2.2.1
        have e17 : US (m9.1 17) X.L := by rw [t2 17 (by decide) (by decide), fall 17 (by decide) (by decide)]; exact q1.2.2.2.2.2.1
        have fin : ∀ {m2 : MS}, (∀ q, q ≠ 14 → q ≠ 17 → q ≠ 18 → q ≠ 24 → m2.1 q = m9.1 q) → ∀ q, q ∈ cmF → q ≠ 14 → q ≠ 17 → q ≠ 24 → m2.1 q = if q = 31 ∨ q = 33 then m9.1 q else m0.1 q := fun {m2} s5 q h1 h2 h3 h4 => by
          rw [s5 q h2 h3 (fun w => by subst w; exact absurd h1 (by decide)) h4]
          by_cases c : q = 31 ∨ q = 33
          · rw [if_pos c]
          · rw [if_neg c, t2 q (fun w => c (Or.inl w)) (fun w => c (Or.inr w))]
            exact fall q h1 h2
        have ans : ∀ {m2 : MS}, CM (xBk X x w j A' T') m2 → DE (if ii (w : Int) = 0 then dI (-1 : Int32) m2 else dI (ii (j : Int)) m2) (fun r m' => r = some (.int (ii (if w = 0 then -1 else (j : Int)))) ∧ CM (xBk X x w j A' T') m') := fun {m2} c => by
          by_cases w0 : w = 0
          · refine d_pos _ (by rw [w0]; rfl) ?_
            rw [if_pos w0]
            exact d_dI ⟨rfl, c⟩
          · refine d_neg _ (ii_eq0F (by omega)) ?_
            rw [if_neg w0]
            exact d_dI ⟨rfl, c⟩
        have no : (x = 0 ∨ j = 0) → DE (d_M_book_j165 m9 (ii j) (ii w)) (fun r m' => r = some (.int (ii (if w = 0 then -1 else (j : Int)))) ∧ CM (xBk X x w j A' T') m') := fun q => by
          unfold d_M_book_j165 d_M_book_j166
          refine d_bV (m_stay (v := false) M9 hb hb0 G9 I.2.2.2.1 e24 e17) fun m2 ⟨s1, s2, s3, s4, s5, s6⟩ => ?_
          refine ans ?_
          rw [xBk_0 q]
          exact Mb.gm (L' := X.L) s1 (fun y hy => by rw [s6 y (Or.inr hy), t2 14 (by decide) (by decide), fo y (Or.inr hy)]; rfl) s4 (fin s5) s2 s3
        by_cases x1 : x = 1
        · refine d_pos _ (by rw [x1]; rfl) ?_
          by_cases j0 : j = 0
          · refine d_pos _ (by rw [j0]; decide) ?_
            exact no (Or.inr j0)
          · refine d_neg _ (ii_leF (b := 0) (by omega)) ?_
            unfold d_M_book_j166
            refine d_bV (m_stay (v := true) M9 hb hb0 G9 I.2.2.2.1 e24 e17) fun m2 ⟨s1, s2, s3, s4, s5, s6⟩ => ?_
            refine ans ?_
            rw [xBk_1 (by omega)]
            exact Mb.gm (L' := keepU X.L (X.w.A, X.w.T)) s1 (fun y hy => by rw [s6 y (Or.inr hy), t2 14 (by decide) (by decide), fo y (Or.inr hy)]; rfl) s4 (fin s5) s2 s3
        · refine d_neg _ (ii_eqF (b := 1) (by omega)) ?_
          exact no (Or.inl (by omega))
      obtain ⟨r', m', w1, w2, w3⟩ := mod
      subst w2
      refine ⟨_, hh, m', own2, _, y1, w1, y3, ?_, w3, y4⟩
      by_cases q : x = 0 ∨ j = 0
      · rw [xBk_0 q]
        exact I1
      · rw [xBk_1 q]
        exact XI.xk (X := xT (xB X 0) (tdV w j (bt4 A') T'.length)) I1 sno
  · refine ⟨-1000, h, mset ms 0 0 0, own, X, eqI ?_, dEqI ?_, C'.wk (by omega) (by omega), I, M.set (by decide), FX.rf S.2.2.2⟩
    · unfold c_B_book
      refine q_grd e0 (by decide) ?_
      refine q_in (a := 0) (b := 1) rfl rfl (by omega) (fun q => ?_) fun q => absurd q g
      exact q_rI ⟨rfl, rfl⟩
    · unfold d_M_book
      refine d_nm ?_
      refine d_in (a := 0) (b := 1) rfl rfl (by omega) (fun q => ?_) fun q => absurd q g
      exact d_dI ⟨rfl, rfl⟩
end
