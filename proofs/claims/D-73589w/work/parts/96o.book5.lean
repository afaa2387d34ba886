/-! PURE SIDE: both sides: a book -/
set_option maxRecDepth 100000
theorem hV_E {P : Option RH} {E : Nat × Nat → PH → Option RH} {K : PH → Option RH} {Z : Rt → PH → Prop} (e : Ends P (fun r h' => (r = .inl none ∧ Ends (K h') Z) ∨ (∃ q, r = .inr q ∧ Ends (E q h') Z))) : Ends (hV P E K) Z := by
  obtain ⟨r, h', e1, e2⟩ := e
  rw [e1]
  rcases e2 with ⟨q1, q2⟩ | ⟨q, q1, q2⟩
  · subst q1
    exact q2
  · subst q1
    exact q2
theorem hI_E {P : Option RH} {E : Nat × Nat → PH → Option RH} {K : Int32 → PH → Option RH} {Z : Rt → PH → Prop} (e : Ends P (fun r h' => (∃ v, r = .inl (some (.int v)) ∧ Ends (K v h') Z) ∨ (∃ q, r = .inr q ∧ Ends (E q h') Z))) : Ends (hI P E K) Z := by
  obtain ⟨r, h', e1, e2⟩ := e
  rw [e1]
  rcases e2 with ⟨v, q1, q2⟩ | ⟨q, q1, q2⟩
  · subst q1
    exact q2
  · subst q1
    exact q2
theorem hQ_E {P : Option RH} {E : Nat × Nat → PH → Option RH} {K : Option Nat → PH → Option RH} {Z : Rt → PH → Prop} (e : Ends P (fun r h' => (∃ v, r = .inl (some (va_rf v)) ∧ Ends (K v h') Z) ∨ (∃ q, r = .inr q ∧ Ends (E q h') Z))) : Ends (hQ P E K) Z := by
  obtain ⟨r, h', e1, e2⟩ := e
  rw [e1]
  rcases e2 with ⟨v, q1, q2⟩ | ⟨q, q1, q2⟩
  · subst q1
    cases v with
    | none => exact q2
    | some a => exact q2
  · subst q1
    exact q2
theorem th_get {fs : List Value} {a c : Value} (h : fs.length = 8) : ((fs.set 6 a).set 7 c)[6]? = some a ∧ ((fs.set 6 a).set 7 c)[7]? = some c := by
  constructor
  · rw [List.getElem?_set_ne (by decide), List.getElem?_set_self (by omega)]
  · rw [List.getElem?_set_self (by rw [List.length_set]; omega)]
/-- a new beginning of reading: the tape is taken, no fault -/
abbrev xB (X : XS) (ft : Int) : XS := (X.1, 0, X.2.2.1, X.2.2.2.1, X.2.2.2.2.1, X.2.2.2.2.2.1, X.2.2.2.2.2.2.1, ft)
section
variable {b own own' : Nat → Nat} {X : XS} {h h1 h' : PH} {held : Int} {rm z z' : Nat} {skm : Int} {sn : Option Nat} {R R' N N' : Nat → Nat} {Tb : Nat → Bool} {seed rows' seed' : Int32} {c s : Nat} {ms : MS}
theorem b_consume {len held ft skm um : Int} {ht : Bool} (e0 : h.1 (b 0) = some (bC b len held rm z z' ft skm um ht sn)) : c_B_consume h (b 0) = rV (hset h (b 0) (bC b 0 len rm z z' ft skm um ht sn)) := by
  have : Ends (c_B_consume h (b 0)) (fun r h' => r = .inl none ∧ h' = hset h (b 0) (bC b 0 len rm z z' ft skm um ht sn)) := by
    unfold c_B_consume
    refine q_grd e0 (by decide) ?_
    refine q_gI e0 (by decide) rfl ?_
    refine q_pI e0 (by decide) (Nat.le_of_ble_eq_true rfl) ?_
    refine q_pI up_eq (by decide) (Nat.le_of_ble_eq_true rfl) ?_
    rw [hset_hset]
    exact q_rV ⟨rfl, rfl⟩
  obtain ⟨r, h', z1, z2, z3⟩ := this
  rw [z1, z2, z3]; rfl
theorem CBo.beg (O : CBo b own X held rm z z' skm sn R R' N N' Tb seed rows' seed' h) (ft : Int) (held2 : Int) : CBo b own (xB X ft) held2 rm z z' skm sn R R' N N' Tb seed rows' seed' (hset h (b 0) (bC b 0 held2 rm z z' ft skm X.L.length X.td.isSome sn)) ∧ FX own own (b 0) (b 16) h (hset h (b 0) (bC b 0 held2 rm z z' ft skm X.L.length X.td.isSome sn)) := O.b0 (X' := xB X ft) (held2 := held2) (rm2 := rm) (skm2 := skm) (sn2 := sn) O.2.2.1 ⟨rfl, rfl, rfl⟩ O.2.1
theorem XI.xb (I : XI X) (ft : Int) : XI (xB X ft) := ⟨I.1, Nat.zero_le _, I.2.2⟩
/-- what a reader needs -/
theorem CBo.tb (O : CBo b own X held rm z z' skm sn R R' N N' Tb seed rows' seed' h) (I : XI X) {n : Nat} (hn : n ≤ 940) (eh : held = n) : TB b h X.tp n := by
  subst eh
  exact ⟨⟨_, O.1, rfl, rfl⟩, O.2.2.1.1.1, hn, I.2.2.1⟩
theorem CBo.nma (O : CBo b own X held rm z z' skm sn R R' N N' Tb seed rows' seed' h) (I : XI X) : ∃ na, RmB b h rm na X.w.nm X.w.n := by
  obtain ⟨na, f, r1, _, _, r4, r5⟩ := O.2.2.1.2.2.2.2.2.1
  exact ⟨na, ⟨_, O.1, rfl⟩, ⟨_, r1⟩, f, r4, I.1.1, fun r hr => ⟨r5 r hr, I.1.2.2.2.1 r hr⟩⟩
theorem CBo.ne610 (O : CBo b own X held rm z z' skm sn R R' N N' Tb seed rows' seed' h) : (∃ d, h.1 (b 6) = some d ∧ kd d = 12) ∧ (∃ d, h.1 (b 12) = some d ∧ kd d = 21) ∧ (∃ d, h.1 (b 5) = some d ∧ kd d = 10) ∧ (∃ d, h.1 (b 7) = some d ∧ kd d = 14) ∧ ∃ d, h.1 (b 2) = some d ∧ kd d = 2 := by
  obtain ⟨⟨p, at_, tk, v, mn, nm, x8, x9, x10, e1⟩, ⟨p2, at2, tk2, v2, mn2, nm2, x2, e2⟩, ⟨p3, at3, tk3, v3, mn3, nm3, x3, e3⟩, ⟨fs, e4, e5⟩, ⟨f, e6⟩⟩ := O.2.2.1.1.2.1
  exact ⟨⟨_, e2, rfl⟩, ⟨_, e6, rfl⟩, ⟨_, e1, rfl⟩, ⟨_, e3, rfl⟩, ⟨_, e4, rfl⟩⟩
theorem CM.ft {k : Int} (M : CM X ms) {m' : MS} (e : ∀ j, j ∈ cmF → j ≠ 10 → m'.1 j = ms.1 j) (e1 : m'.2 20 = ms.2 20) (e2 : m'.2 22 = ms.2 22) (ek : m'.1 10 0 = ii k) : CM (X.1, X.2.1, X.2.2.1, X.2.2.2.1, X.2.2.2.2.1, X.2.2.2.2.2.1, X.2.2.2.2.2.2.1, k) m' := by
  obtain ⟨c1, c2, c3, c4, c5, c6, c7, c8, c9, c10, c11, c12⟩ := M
  have f := fun k hk h1 => e k hk h1
  refine ⟨?_, ?_, ?_, ?_, ?_, ?_, fun k hk => (c7 k hk).congr (f 23 (by decide) (by decide)) (f 16 (by decide) (by decide)) e2, ek, ?_, ?_, ?_, ?_⟩
  · rw [f 1 (by decide) (by decide)]; exact c1
  · rw [f 2 (by decide) (by decide)]; exact c2
  · rw [f 14 (by decide) (by decide)]; exact c3
  · rw [e1]; exact c4
  · rw [f 24 (by decide) (by decide)]; exact c5
  · rw [f 17 (by decide) (by decide)]; exact c6
  · rw [f 28 (by decide) (by decide)]; exact c9
  · rw [f 27 (by decide) (by decide)]; exact c10
  · rw [f 33 (by decide) (by decide)]; exact c11
  · rw [f 33 (by decide) (by decide), f 31 (by decide) (by decide)]; exact c12
theorem CM.td (M : CM X ms) {m' : MS} {t : Nat → Int} (e : ∀ j, j ∈ cmF → j ≠ 31 → j ≠ 33 → m'.1 j = ms.1 j) (e2 : m'.2 = ms.2) (e33 : m'.1 33 0 = ii 1) (e31 : ∀ k, k < 4 → m'.1 31 k = ii (t k)) : CM (xT X t) m' := by
  obtain ⟨c1, c2, c3, c4, c5, c6, c7, c8, c9, c10, c11, c12⟩ := M
  have f := fun k hk h1 h2 => e k hk h1 h2
  refine ⟨?_, ?_, ?_, ?_, ?_, ?_, fun k hk => (c7 k hk).congr (f 23 (by decide) (by decide) (by decide)) (f 16 (by decide) (by decide) (by decide)) (by rw [e2]), ?_, ?_, ?_, (fun z => by cases z), fun t' ht => ?_⟩
  · rw [f 1 (by decide) (by decide) (by decide)]; exact c1
  · rw [f 2 (by decide) (by decide) (by decide)]; exact c2
  · rw [f 14 (by decide) (by decide) (by decide)]; exact c3
  · rw [e2]; exact c4
  · rw [f 24 (by decide) (by decide) (by decide)]; exact c5
  · rw [f 17 (by decide) (by decide) (by decide)]; exact c6
  · rw [f 10 (by decide) (by decide) (by decide)]; exact c8
  · rw [f 28 (by decide) (by decide) (by decide)]; exact c9
  · rw [f 27 (by decide) (by decide) (by decide)]; exact c10
  · injection ht with ht
    rw [← ht]
    exact ⟨e33, e31⟩
/-- the model begins to read -/
theorem m_begin {most : Nat} {mm : Int32} (M : CM X ms) (I : XI X) (em : mm = ii most) (hm : most ≤ 900) : DV (d_M_begin ms mm) (fun m' => ∃ m0, CM (xB X 0) m0 ∧ GP m0 m' ∧ MkV X.tp (tok X.tp X.len most 0) m' ∧ MB m' X.tp X.len most ∧ TkOk X.tp X.len (tok X.tp X.len most 0)) := by
  subst em
  have M1 : CM X (mset ms 0 0 0) := M.set (by decide)
  have hl := I.2.1
  refine DV.of ?_
  unfold d_M_begin
  refine d_nm ?_
  have et : d_M_take (mset ms 0 0 0) = dI (ii X.len) (mset (mset ms 0 0 0) 2 0 (ii (0 : Nat))) := by
    refine dEqI ?_
    unfold d_M_take
    rw [M1.2.1]
    refine d_nm ?_
    refine d_nm ?_
    exact d_dI ⟨rfl, rfl⟩
  refine d_bIe et ?_
  refine d_nm ?_
  refine d_nm ?_
  refine d_nm ?_
  refine d_nm ?_
  have M2 : CM (X.1, 0, X.2.2) (mset (mset ms 0 0 0) 2 0 (ii (0 : Nat))) := M1.len
  have M4 : CM (X.1, 0, X.2.2) (mset (mset (mset (mset ms 0 0 0) 2 0 (ii (0 : Nat))) 3 0 (ii X.len)) 4 0 (ii most)) := (M2.set (by decide)).set (by decide)
  have M5 : CM (xB X 0) (mset (mset (mset (mset (mset ms 0 0 0) 2 0 (ii (0 : Nat))) 3 0 (ii X.len)) 4 0 (ii most)) 10 0 0) := M4.ft (fun j hj h1 => ms_nk h1) rfl rfl (by rw [ms_eq]; rfl)
  have M6 : CM (xB X 0) (mset (mset (mset (mset (mset (mset ms 0 0 0) 2 0 (ii (0 : Nat))) 3 0 (ii X.len)) 4 0 (ii most)) 10 0 0) 5 0 0) := M5.set (by decide)
  have B : MB (mset (mset (mset (mset (mset (mset ms 0 0 0) 2 0 (ii (0 : Nat))) 3 0 (ii X.len)) 4 0 (ii most)) 10 0 0) 5 0 0) X.tp X.len most := ⟨fun i hi => M6.1 i hi, by rw [ms_nk (by decide), ms_nk (by decide), ms_nk (by decide), ms_eq], by rw [ms_nk (by decide), ms_nk (by decide), ms_eq], hl, I.2.2.1, hm⟩
  refine d_bV (m_go (p := 0) B ms_eq (Nat.zero_le _)) fun m1 ⟨v1, g1⟩ => ?_
  exact d_dV ⟨rfl, _, M6, g1, v1, B.gp g1, tok_ok (Nat.zero_le _) hm hl⟩
end
