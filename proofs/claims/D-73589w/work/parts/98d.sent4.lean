/-! PURE SIDE: sentences: the component: all of it -/
set_option maxRecDepth 100000
def sy0 : SyT := ((fun _ => (0, 0, 0, 0)), 0, 0)
def sySen (f : Nat → Nat) (n : Nat) (nm : Nat → List Nat) (m : Nat) : SyR := match syG f n nm m 27 0 1 sy0 (tok f n 200 0) with
  | .inl e => .inl e
  | .inr (s, t) => if t.k ≠ 0 then .inl (1, t.at_) else .inr (s, t)
abbrev xSn (X : XS) (s : SX) : XS := (X.1, X.2.1, (X.w.n, X.w.low, X.w.nm, X.w.A, X.w.T, some s), X.2.2.2)
section
variable {b : Nat → Nat} {f : Nat → Nat} {n m C S lo a rm na : Nat} {nm : Nat → List Nat} {h h0 h1 h2 h' : PH} {ad ad1 ad' : Nat → Nat} {s s1 s' s2 : SyT} {t t' : Tk} {Z : Rt → PH → Prop}
theorem r_sy (hn : n ≤ 940) (hf : ∀ i, f i < 256) (e7 : ∃ d, h0.1 (b 7) = some d ∧ kd d = 14) (w0 : Wf h0) (R : RmB b h0 rm na nm m) : ∀ (d D sel deep : Nat), d ≤ D → sel ≤ 2 → deep ≤ 9 → 3 * (9 - deep) + (3 - sel) ≤ d → SyP b f n m h0 C S (syG f n nm m d sel deep) (fun h => c_g_sr D sel h (b 7) (ii deep)) := by
  have hb : b 7 < h0.2.1.1 := by
    obtain ⟨d, d1, _⟩ := e7
    exact w0.lt d1
  intro d
  induction d with
  | zero => intro D sel deep h1 h2 h3 h4; omega
  | succ d ih =>
    intro D sel deep hD hs hd hm
    obtain ⟨D, rfl⟩ : ∃ x, D = x + 1 := ⟨D - 1, by omega⟩
    match sel, hs with
    | 0, _ =>
      have e : syG f n nm m (d + 1) 0 deep = syA f n (syG f n nm m d 1 deep) 11 3 := by
        funext s t
        rw [syG, if_pos rfl]
      rw [e]
      show SyP b f n m h0 C S _ (fun h => b_DS_any (c_g_sr D) h (b 7) (ii deep))
      exact r_any hb w0 (ih D 1 deep (by omega) (by omega) hd (by omega)) (syG_ok hn hf d 1 deep)
    | 1, _ =>
      have e : syG f n nm m (d + 1) 1 deep = syA f n (syG f n nm m d 2 deep) 12 2 := by
        funext s t
        rw [syG, if_neg (by decide), if_pos rfl]
      rw [e]
      show SyP b f n m h0 C S _ (fun h => b_DS_both (c_g_sr D) h (b 7) (ii deep))
      exact r_both hb w0 (ih D 2 deep (by omega) (by omega) hd (by omega)) (syG_ok hn hf d 2 deep)
    | 2, _ =>
      have e : syG f n nm m (d + 1) 2 deep = syS f n nm m (syG f n nm m d) deep := by
        funext s t
        rw [syG, if_neg (by decide), if_neg (by decide)]
      rw [e]
      show SyP b f n m h0 C S _ (fun h => b_DS_single (c_g_sr D) h (b 7) (ii deep))
      exact r_single e7 w0 R hd (fun q => ih D 0 (deep + 1) (by omega) (by omega) (by omega) (by omega)) (fun q => ih D 2 (deep + 1) (by omega) (by omega) (by omega) (by omega)) (fun sel => syG_ok hn hf d sel (deep + 1))
theorem r_sent (K0 : ∃ p at_ tk v mn nm x10, h.1 (b 7) = some (rdC 7 (b 0) 200 p at_ tk v mn nm (.ref (b 14)) (.ref (b 15)) x10)) (TBx : TB b h f n) (St : StR b h) (Ff : ∃ fs, h.1 (b 2) = some (.inr (1, fs)) ∧ fs.length = 8) (B0 : ∃ fs, h.1 (b 0) = some (.inr (0, fs)) ∧ fs[3]? = some (.ref (b 2)) ∧ fs[4]? = some (.ref (b 3)) ∧ fs[5]? = some (.ref (b 4))) (w : Wf h) (R : RmB b h rm na nm m) (kf : ∀ k pl, sySen f n nm m = .inl (k, pl) → ∀ h', SyE b f n h.2.1.1 h.2.1.2 h k pl h' → Z (.inr (b 2, 0)) h') (kk : ∀ s t, sySen f n nm m = .inr (s, t) → ∀ ad h', SyI b f n m h ad s t h' → h'.2.1.1 ≤ h.2.1.1 + 40 → h'.2.1.2 ≤ h.2.1.2 + 120 → 1 ≤ s.c → s.c ≤ 40 → Z (.inl (some (va_rf (some (ad (s.c - 1)))))) h') : Ends (c_DS_read h (b 7)) Z := by
  obtain ⟨p, at_, tk, v, mn, nmv, x10, e⟩ := K0
  have hn := TBx.2.2.1
  have hf := TBx.2.2.2
  have ne : ∀ {x : Nat} {c : PC}, h.1 x = some c → kd c ≠ 14 → x ≠ b 7 := fun {x c} hx hk q => by
    rw [q, e] at hx
    injection hx with hx
    rw [← hx] at hk
    exact hk rfl
  have J0 : JS b f n 0 (0, 0, 0) (WR b h (b 7) 7 200 (.ref (b 14)) (.ref (b 15)) (ii (0 : Nat)) (ii (0 : Nat)) (ii (0 : Nat)) (ii (0 : Nat)) v mn nmv) := by
    obtain ⟨fs, f1, f2⟩ := Ff
    obtain ⟨gs, g1, g2⟩ := B0
    refine ⟨⟨v, mn, nmv, up_eq, tkv_no (Or.inl rfl)⟩, TBx.set e ⟨by show 2 * 7 ≠ 0; decide, by show 2 * 7 ≠ 5; decide⟩, St.ne rfl (fun x c hx hk => up_nx (ne hx (by omega)) hx), ⟨fs, up_nx (ne f1 (by show 2 * 1 ≠ 14; decide)) f1, f2⟩, ⟨⟨Nat.zero_le _, Nat.zero_le _, Nat.zero_le _⟩, fun z => absurd (show 0 = 1 from z) (by decide), fun z => absurd (show 0 = 2 from z) (by decide)⟩, w.setE e, ⟨gs, up_nx (ne g1 (by show 2 * 0 ≠ 14; decide)) g1, g2⟩, by decide, by decide⟩
  unfold c_DS_read
  refine q_grd e (by decide) ?_
  refine q_pI e (by decide) (Nat.le_of_ble_eq_true rfl) ?_
  rw [grd_eq up_eq (by decide)]
  have bg : EV (c_D_begin (hset h (b 7) (rdC 7 (b 0) 200 p at_ tk v mn nmv (.ref (b 14)) (.ref (b 15)) 0)) (b 7)) (fun h' => JS b f n 0 (tok f n 200 0) h' ∧ Onl (b 7) h h') := by
    refine EV.of ?_
    unfold c_D_begin
    refine q_grd up_eq (by decide) ?_
    refine q_pI up_eq (by decide) (Nat.le_of_ble_eq_true rfl) ?_
    rw [hset_hset]
    have T1 : TB b (hset h (b 7) (RDC b 7 (200 : Nat) (.ref (b 14)) (.ref (b 15)) (ii (0 : Nat)) (ii (0 : Nat)) at_ tk v mn nmv)) f n := TBx.set e ⟨by show 2 * 7 ≠ 0; decide, by show 2 * 7 ≠ 5; decide⟩
    refine q_hV (p_next (cls := 7) (most := 200) (x8 := .ref (b 14)) (x9 := .ref (b 15)) (x10 := ii (0 : Nat)) (p := 0) (at_ := at_) (tk := tk) (v := v) (mn := mn) (nm := nmv) (Or.inr (Or.inr rfl)) (by decide) T1 up_eq (Nat.zero_le _)) fun h1 ⟨v', mn', nm', e1, tv'⟩ => ?_
    unfold WR at e1
    rw [hset_hset] at e1
    subst e1
    have tk' := tok_ok (f := f) (n := n) (most := 200) (p := 0) (Nat.zero_le _) (by decide) hn
    obtain ⟨u1, u2⟩ := RJ.upd (y8 := .ref (b 14)) (y9 := .ref (b 15)) (y10 := ii (0 : Nat)) J0 tv' tk'
    unfold WR at u1 u2
    rw [hset_hset] at u1 u2
    refine q_rV ⟨rfl, u1, u2.1, fun x hx => ?_, _, _, e, up_eq, rfl⟩
    exact up_ne hx
  refine q_hV bg fun h2 ⟨J2, o2⟩ => ?_
  have e7 : ∃ d, h.1 (b 7) = some d ∧ kd d = 14 := ⟨_, e, rfl⟩
  have I2 : SyI b f n m h (fun _ => 0) sy0 (tok f n 200 0) h2 := ⟨J2, fun k hk => absurd hk (Nat.not_lt_zero k), KF.onl o2, fun k hk => absurd hk (Nat.not_lt_zero k)⟩
  rw [RJ.grd J2 (by decide)]
  refine hQ_hQ ?_
  refine r_sy (C := h.2.1.1) (S := h.2.1.2) hn hf e7 w R 27 64 0 1 (by decide) (by decide) (by decide) (by decide) sy0 (tok f n 200 0) h2 (fun _ => 0) _ (by decide) I2 (by rw [o2.1]; exact Nat.le_add_right _ _) (by rw [o2.1]; exact Nat.le_add_right _ _) (fun kd pl ee h' E => Or.inr ⟨_, rfl, kf kd pl (by unfold sySen; rw [ee]) h' (E.pre (KF.onl o2))⟩) (fun s1 t1 ee ad1 h3 Q => Or.inl ⟨_, rfl, ?_⟩)
  have o1 := (syG_ok hn hf 27 0 1 sy0 _ s1 t1 (by decide) (RJ.ok J2) ee).1
  have g1 : 0 < s1.c := o1.2.2.1
  have g2 : s1.c + 1 + 2 * 0 ≤ 0 + 2 * s1.q := o1.2.2.2
  obtain ⟨I3, K3, A1, A2, ⟨y1, y2⟩, M3⟩ := Q
  have q20 := M3.2.1
  have J3 := I3.1
  have tb3 := (RJ.ok J3).1
  obtain ⟨⟨v3, mn3, nm3, e3, tv3⟩, _⟩ := id J3
  refine q_gI e3 (by decide) rfl ?_
  by_cases k0 : t1.k = 0
  · refine q_pos _ (by rw [k0]; rfl) ?_
    refine r_must (c := True) (k := 1) J3 (RJ.grd J3 (by decide)) rfl rfl (fun q => absurd True.intro q) fun _ => ?_
    exact q_rQ (kk s1 t1 (by unfold sySen; rw [ee]; exact if_neg (fun q => q k0)) ad1 h3 I3 (by omega) (by omega) (by omega) (by omega))
  · refine q_neg _ (ii_eq0F (by omega)) ?_
    refine r_must (c := False) (k := 1) J3 (RJ.grd J3 (by decide)) rfl rfl (fun _ h' th => kf 1 t1.at_ (by unfold sySen; rw [ee]; exact if_pos k0) h' ⟨s1.q, t1, h3, q20, J3, (KF.onl o2).trans K3, by omega, by omega, th⟩) fun q => q.elim
/-- objects of a sentence -/
theorem CR.mono {own : Nat → Nat} {B : Nat} {nt : NT} : ∀ (d a k : Nat), CR own B h nt d a k → CR own B h nt (d + 1) a k := by
  intro d
  induction d with
  | zero => intro a k q; exact q.elim
  | succ d ih =>
    intro a k q
    obtain ⟨q0, q⟩ := q
    refine ⟨q0, ?_⟩
    rcases q with ⟨e, b, q1, q2⟩ | ⟨e, b, c, q1, q2, q3⟩ | ⟨e, b, c, q1, q2, q3⟩ | q | q
    · exact Or.inl ⟨e, b, q1, ih _ _ q2⟩
    · exact Or.inr (Or.inl ⟨e, b, c, q1, ih _ _ q2, ih _ _ q3⟩)
    · exact Or.inr (Or.inr (Or.inl ⟨e, b, c, q1, ih _ _ q2, ih _ _ q3⟩))
    · exact Or.inr (Or.inr (Or.inr (Or.inl q)))
    · exact Or.inr (Or.inr (Or.inr (Or.inr q)))
theorem CR.up {own : Nat → Nat} {B d e a k : Nat} {nt : NT} (q : CR own B h nt d a k) (l : d ≤ e) : CR own B h nt e a k := by
  obtain ⟨x, rfl⟩ : ∃ x, e = d + x := ⟨e - d, by omega⟩
  clear l
  induction x with
  | zero => exact q
  | succ x ih => exact CR.mono _ _ _ ih
theorem cr_of {own : Nat → Nat} {B : Nat} (T : TOk m s) (Ct : CT lo h ad s) (ho : ∀ x, lo ≤ x → own x = B) : ∀ (k : Nat), k < s.c → CR own B h s.1 (k + 1) (ad k) k := by
  intro k
  induction k using Nat.strongRecOn with
  | _ k ih =>
    intro hk
    obtain ⟨l, N⟩ := Ct k hk
    have tk := T k hk
    refine ⟨ho _ l, ?_⟩
    rcases N with ⟨q1, q2⟩ | ⟨q1, q2⟩ | ⟨q1, q2⟩ | ⟨w, y, q1, q2, q3, q4⟩ | ⟨w, q1, q2, q3⟩
    · have c1 : (s.1 k).2.1 < k := by rcases tk with ⟨_, y⟩ | ⟨y, _⟩ | y | ⟨y, _⟩ | ⟨y, _⟩ <;> omega
      exact Or.inl ⟨q1, _, q2, (ih _ c1 (by omega)).up (by omega)⟩
    · have c1 : (s.1 k).2.1 < k ∧ (s.1 k).2.2.1 < k := by rcases tk with ⟨y, _⟩ | ⟨_, y⟩ | y | ⟨y, _⟩ | ⟨y, _⟩ <;> omega
      exact Or.inr (Or.inl ⟨q1, _, _, q2, (ih _ c1.1 (by omega)).up (by omega), (ih _ c1.2 (by omega)).up (by omega)⟩)
    · have c1 : (s.1 k).2.1 < k ∧ (s.1 k).2.2.1 < k := by rcases tk with ⟨y, _⟩ | ⟨_, y⟩ | y | ⟨y, _⟩ | ⟨y, _⟩ <;> omega
      exact Or.inr (Or.inr (Or.inl ⟨q1, _, _, q2, (ih _ c1.1 (by omega)).up (by omega), (ih _ c1.2 (by omega)).up (by omega)⟩))
    · exact Or.inr (Or.inr (Or.inr (Or.inl ⟨w, y, q1, q2, q3, q4⟩)))
    · exact Or.inr (Or.inr (Or.inr (Or.inr ⟨w, q1, q2, q3⟩)))
theorem KF.pf (K : KF b h h1) (w : Wf h1) (e7 : ∃ d, h.1 (b 7) = some d ∧ kd d = 14) : PF h h1 := ⟨K.1, w, K.2.1, K.2.2.1, fun x c e q => K.2.2.2 x c e (fun y => by
  obtain ⟨d, d1, d2⟩ := e7
  rw [y, d1] at e
  injection e with e
  rw [← e, d2] at q
  exact q (by decide))⟩
theorem KF.rd {q : Nat} (K : KF b h h1) (R : RdR b h) (J : JS b f n q t h1) : RdR b h1 := by
  obtain ⟨⟨p, at_, tk, v, mn, nm, x8, x9, x10, e1⟩, ⟨p2, at2, tk2, v2, mn2, nm2, x2, e2⟩, ⟨p3, at3, tk3, v3, mn3, nm3, x3, e3⟩, ⟨gs, e4, e5⟩, ⟨f, e6⟩⟩ := R
  obtain ⟨⟨v', mn', nm', e', _⟩, _⟩ := J
  have k := K.2.2.2
  have n5 : b 5 ≠ b 7 := kd_ne e1 e3 rfl
  have n6 : b 6 ≠ b 7 := kd_ne e2 e3 rfl
  have n2 : b 2 ≠ b 7 := kd_ne e4 e3 rfl
  have n12 : b 12 ≠ b 7 := kd_ne e6 e3 rfl
  exact ⟨⟨p, at_, tk, v, mn, nm, x8, x9, x10, k _ _ e1 n5⟩, ⟨p2, at2, tk2, v2, mn2, nm2, x2, k _ _ e2 n6⟩, ⟨_, _, _, _, _, _, _, e'⟩, ⟨gs, k _ _ e4 n2, e5⟩, ⟨f, k _ _ e6 n12⟩⟩
end
section
variable {b own own' : Nat → Nat} {X : XS} {h h1 h' : PH} {held : Int} {rm z z' : Nat} {skm : Int} {sn : Option Nat} {R R' N N' : Nat → Nat} {Tb : Nat → Bool} {seed rows' seed' : Int32}
/-- what is so behind a sentence -/
def SeP (b own : Nat → Nat) (X : XS) (c s : Nat) (h : PH) (r : Rt) (h' : PH) : Prop := (∃ k pl : Nat, sySen X.tp X.len X.w.nm X.w.n = .inl (k, pl) ∧ r = .inl (some (.int (ii (-1 - (pl : Int))))) ∧ ∃ own', CB b own' (xB X (k : Int)) (c + 10000) (s + 90000) h' ∧ FX own own' (b 0) (b 16) h h') ∨ (∃ (S : SyT) (t : Tk), sySen X.tp X.len X.w.nm X.w.n = .inr (S, t) ∧ r = .inl (some (.int (ii S.q))) ∧ TOk X.w.n S ∧ 1 ≤ S.c ∧ S.c ≤ 40 ∧ ∃ own', CB b own' (xSn (xB X 0) (S.1, S.c - 1)) (c + 10000) (s + 90000) h' ∧ FX own own' (b 0) (b 16) h h')
theorem b_sentence {c s : Nat} (O : CBo b own X held rm z z' skm sn R R' N N' Tb seed rows' seed' h) (I : XI X) (z1 : h.2.1.1 + 2 * (s11 N + s11 N') ≤ c) (z2 : h.2.1.2 + 7 * (s11 N + s11 N') ≤ s) : Ends (c_B_sentence h (b 0)) (SeP b own X c s h) := by
  obtain ⟨O1, F1⟩ := O.beg 0 (X.len : Int)
  have e0 := O.1
  have hl := I.2.1
  have wf := O.2.2.2.2.2.2
  have I1 : XI (xB X 0) := I.xb 0
  have T1 := O1.tb I1 hl rfl
  obtain ⟨na, Rm⟩ := O1.nma I1
  unfold c_B_sentence
  refine q_grd e0 (by decide) ?_
  refine q_hVe (b_consume e0) ?_
  refine q_pI up_eq (by decide) (Nat.le_of_ble_eq_true rfl) ?_
  rw [hset_hset]
  have sz : (hset h (b 0) (bC b 0 (X.len : Int) rm z z' 0 skm X.L.length X.td.isSome sn)).2 = h.2 := rfl
  refine q_gQr up_eq (by decide) rfl ?_
  refine q_nn ?_
  show Ends (hQ (c_DS_read (hset h (b 0) (bC b 0 (X.len : Int) rm z z' 0 skm X.L.length X.td.isSome sn)) (b 7)) _ _) _
  generalize hset h (b 0) (bC b 0 (X.len : Int) rm z z' 0 skm X.L.length X.td.isSome sn) = h1 at *
  have w1 := O1.2.2.2.2.2.2
  have Rd := O1.2.2.1.1.2.1
  have e7 : ∃ d, h1.1 (b 7) = some d ∧ kd d = 14 := O1.ne610.2.2.2.1
  refine hQ_E ?_
  refine r_sent Rd.2.2.1 T1 O1.2.2.1.1.2.2 Rd.2.2.2.1 ⟨_, O1.1, rfl, rfl, rfl⟩ w1 Rm (fun kd pl ee h' E => Or.inr ⟨_, rfl, ?_⟩) (fun S t ee ad h6 I6 y1 y2 g1 g2 => Or.inl ⟨_, rfl, ?_⟩)
  · obtain ⟨q, t, h2, q20, J2, K2, y1, y2, th⟩ := E
    have P2 := K2.pf (RJ.wf J2) e7
    obtain ⟨h3, q1, q2, q3, q4⟩ := O1.fault (base := -1) (bb := -1) rfl th P2 (K2.rd Rd J2)
    obtain ⟨r, hh, w1, w2, w3⟩ := q1
    subst w3
    rw [sz] at y1 y2
    exact ⟨r, hh, w1, Or.inl ⟨kd, pl, ee, w2, own, q2.cb (by rw [q4]; omega) (by rw [q4]; omega), F1.trans q3 wf⟩⟩
  · have K6 := I6.2.2.1
    have J6 := I6.1
    have P6 := K6.pf (RJ.wf J6) e7
    have ho : ∀ x, x < h1.2.1.1 → ow own h1.2.1.1 (b 0) x = own x := fun x hx => ow_lt hx
    have O6 := O1.parse P6 (K6.rd Rd J6) ho
    have F6 : FX own (ow own h1.2.1.1 (b 0)) (b 0) (b 16) h1 h6 := FX.parse P6 ho
    have cr : CR (ow own h1.2.1.1 (b 0)) (b 0) h6 S.1 60 (ad (S.c - 1)) (S.c - 1) := (cr_of I6.2.2.2 I6.2.1 (fun x hx => ow_ge hx) (S.c - 1) (by omega)).up (by omega)
    obtain ⟨d1, d2, d3, d4, d5, d6, _⟩ := O6.2.2.1
    have D7 : RD b (ow own h1.2.1.1 (b 0)) h6 (xSn (xB X 0) (S.1, S.c - 1)) rm (some (ad (S.c - 1))) := ⟨d1, d2, d3, d4, d5, d6, ⟨_, rfl, cr⟩⟩
    obtain ⟨O7, F7⟩ := O6.b0 (X' := xSn (xB X 0) (S.1, S.c - 1)) (held2 := (X.len : Int)) (rm2 := rm) (skm2 := skm) (sn2 := some (ad (S.c - 1))) D7 ⟨rfl, rfl, rfl⟩ O6.2.1
    have e6 := O6.1
    obtain ⟨⟨v6, mn6, nm6, c6, _⟩, _⟩ := id J6
    have n70 : b 7 ≠ b 0 := kd_ne c6 e6 rfl
    refine q_pQ e6 (by decide) (Nat.le_of_ble_eq_true rfl) ?_
    refine q_gQr up_eq (by decide) rfl ?_
    refine q_nn ?_
    refine q_gI (up_nx n70 c6) (by decide) rfl ?_
    rw [sz] at y1 y2
    refine q_rI (Or.inr ⟨S, t, ee, rfl, I6.2.2.2, g1, g2, _, O7.cb (by show h6.2.1.1 + _ ≤ _; omega) (by show h6.2.1.2 + _ ≤ _; omega), (F1.trans F6 wf).trans F7 wf⟩)
end
