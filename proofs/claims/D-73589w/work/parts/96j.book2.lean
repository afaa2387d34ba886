/-! PURE SIDE: books: lines and all of it, by the component -/
set_option maxRecDepth 100000
section
variable {b : Nat → Nat} {f : Nat → Nat} {n m rm na : Nat} {nm : Nat → List Nat} {x10 : Int32} {t : Tk} {h h0 h1 h2 : PH} {Z : Rt → PH → Prop}
theorem FrL.trans0 (o : Onl (b 6) h h1) (k : FrL b h1 h2) : FrL b h h2 := by
  obtain ⟨k1, k2, k3, k4, k5, k6, k7⟩ := k
  obtain ⟨o1, o2, _⟩ := o
  rw [o1] at k1 k3 k4 k5 k6
  exact ⟨k1, k2, k3, k4, k5, k6, fun x c e q => k7 x c (by rw [o2 x q]; exact e) q⟩
theorem un_hQ {P : Option RH} (e : Ends (hQ P rX (fun v h' => rQ v h')) Z) : Ends P Z := by
  obtain ⟨rr, hh, ee, qq⟩ := e
  cases P with
  | none => cases ee
  | some y =>
    obtain ⟨y1, y2⟩ := y
    cases y1 with
    | inr q =>
      have ee : some (Sum.inr q, y2) = some (rr, hh) := ee
      injection ee with ee
      injection ee with e1 e2
      subst e1 e2
      exact ⟨_, _, rfl, qq⟩
    | inl v =>
      cases v with
      | none => cases ee
      | some v =>
        cases v with
        | ref a =>
          have ee : some (Sum.inl (some (Value.ref a)), y2) = some (rr, hh) := ee
          injection ee with ee
          injection ee with e1 e2
          subst e1 e2
          exact ⟨_, _, rfl, qq⟩
        | null =>
          have ee : some (Sum.inl (some Value.null), y2) = some (rr, hh) := ee
          injection ee with ee
          injection ee with e1 e2
          subst e1 e2
          exact ⟨_, _, rfl, qq⟩
        | _ => cases ee
theorem r_bkX' {what r i : Nat} (J : JB b f n x10 t h) (R : RmB b h rm na nm m) (hw : what < 8) (hr : r ≤ 4) (hi : i ≤ 999) (kf : ∀ k pl, bkX f n nm m what r i t = .inl (k, pl) → ∀ h1 h', FrK b h h1 → TH b h1 k pl h' → Z (.inr (b 2, 0)) h') (kk : ∀ d t', bkX f n nm m what r i t = .inr (d, t') → ∀ a h1, JB b f n x10 t' h1 → FrL b h h1 → h.2.1.1 ≤ a → h1.1 a = some (ddC d) → Z (.inl (some (.ref a))) h1) : Ends (c_DB_readLine_j98 h (b 6) (ii what) (ii r) (ii i)) Z := un_hQ (r_bkX J R hw hr hi kf fun d t' e a h1 J1 fr ha ed => q_rQ (kk d t' e a h1 J1 fr ha ed))
theorem r_bkI {what r : Nat} (J : JB b f n x10 t h) (R : RmB b h rm na nm m) (hw : what < 8) (hr : r ≤ 4) (kf : ∀ k pl, bkI f n nm m what r t = .inl (k, pl) → ∀ h1 h', FrK b h h1 → TH b h1 k pl h' → Z (.inr (b 2, 0)) h') (kk : ∀ d t', bkI f n nm m what r t = .inr (d, t') → ∀ a h1, JB b f n x10 t' h1 → FrL b h h1 → h.2.1.1 ≤ a → h1.1 a = some (ddC d) → Z (.inl (some (.ref a))) h1) : Ends (c_DB_readLine_j80 h (b 6) (ii what) (ii r)) Z := by
  have fr0 : FrK b h h := ⟨⟨rfl, J.wf, Nat.le_refl _, Nat.le_refl _, by omega, by omega, fun _ _ e _ => e⟩, JB.k6 J⟩
  unfold c_DB_readLine_j80
  by_cases c4 : what = 4
  · have ei : bkI f n nm m what r t = bkX f n nm m what r 0 t := by unfold bkI; rw [if_pos c4]
    refine q_pos _ (by rw [c4]; rfl) ?_
    exact r_bkX' (i := 0) J R hw hr (by omega) (fun k pl e => kf k pl (ei.trans e)) (fun d t' e => kk d t' (ei.trans e))
  · have ei : bkI f n nm m what r t = (if t.k ≠ 2 then .inl (1, t.at_) else if ¬ (0 ≤ nv (seg f t.at_ t.p) ∧ nv (seg f t.at_ t.p) ≤ 999) then .inl (2, t.at_) else bkX f n nm m what r (nv (seg f t.at_ t.p)) (nx f n 400 t)) := by unfold bkI; rw [if_neg c4]
    refine q_neg _ (ii_eqF (b := 4) (by omega)) ?_
    refine r_number (lo := 0) (hi := 999) J (J.grd (by decide)) rfl rfl (by omega) (fun z h' th => kf 1 t.at_ (by rw [ei, if_pos z]) h h' fr0 th) (fun z1 z2 h' th => kf 2 t.at_ (by rw [ei, if_neg (fun q => q z1), if_pos z2]) h h' fr0 th) fun z1 z2 h1 J1 o1 => ?_
    have ei2 : bkI f n nm m what r t = bkX f n nm m what r (nv (seg f t.at_ t.p)) (nx f n 400 t) := by rw [ei, if_neg (fun q => q z1), if_neg (fun q => q z2)]
    exact r_bkX' J1 (R.onl J o1) hw hr (by omega) (fun k pl e h2 h' fr th => kf k pl (ei2.trans e) h2 h' ⟨FrL.trans0 o1 fr.1, fr.2⟩ th) (fun d t' e a h2 J2 fr ha ed => kk d t' (ei2.trans e) a h2 J2 (FrL.trans0 o1 fr) (by rw [← o1.1]; exact ha) ed)
theorem r_bkL {c : Nat} (J : JB b f n (ii c) t h) (R : RmB b h rm na nm m) (hc : c ≤ 40) (kf : ∀ k pl, bkL f n nm m c t = .inl (k, pl) → ∀ h1 h', FrK b h h1 → TH b h1 k pl h' → Z (.inr (b 2, 0)) h') (kk : ∀ d t', bkL f n nm m c t = .inr (d, t') → ∀ a h1, JB b f n (ii c) t' h1 → FrL b h h1 → h.2.1.1 ≤ a → h1.1 a = some (ddC d) → Z (.inl (some (.ref a))) h1) : Ends (c_DB_readLine h (b 6)) Z := by
  have fr0 : FrK b h h := ⟨⟨rfl, J.wf, Nat.le_refl _, Nat.le_refl _, by omega, by omega, fun _ _ e _ => e⟩, JB.k6 J⟩
  have hm : m ≤ 4 := R.2.2.choose_spec.2.1
  have J' := J
  obtain ⟨⟨v, mn, nmv, e, tv⟩, _, S, _⟩ := J
  have fk := fkw_le (f := f) (t := t) (k0 := 3) 8 0
  unfold c_DB_readLine
  refine q_grd e (by decide) ?_
  refine q_gQr e (by decide) rfl ?_
  refine q_nn ?_
  rw [J'.grd (by decide)]
  refine q_hIe (p_find J' S.2.2.1 (by decide)) ?_
  rw [mi1]
  by_cases c1 : fkw f t 3 8 0 = -1
  · refine q_pos _ (by rw [c1]) ?_
    unfold c_DB_readLine_j20
    refine r_must (c := False) (k := 1) J' (J'.grd (by decide)) rfl rfl (fun _ h' th => kf 1 t.at_ (by unfold bkL; rw [if_pos c1]) h h' fr0 th) fun z => z.elim
  · refine q_neg _ (ii_eqF (by omega)) ?_
    obtain ⟨what, ew⟩ : ∃ k : Nat, fkw f t 3 8 0 = k := ⟨(fkw f t 3 8 0).toNat, by omega⟩
    rw [ew]
    have hw : what < 8 := by omega
    have eL : bkL f n nm m c t = if 40 ≤ c then .inl (4, t.at_) else bkR f n nm m what (nx f n 400 t) := by
      unfold bkL
      rw [if_neg c1, ew]
      rfl
    unfold c_DB_readLine_j20
    refine r_must (c := True) (k := 1) J' (J'.grd (by decide)) rfl rfl (fun z => absurd True.intro z) fun _ => ?_
    refine q_gI e (by decide) rfl ?_
    rw [il_40]
    have j39 : ∀ {cc : Prop} [Decidable cc] {x : Int32}, x = ii (bn (decide cc)) → (cc ↔ c < 40) → Ends (c_DB_readLine_j39 h (b 6) (ii what) x (b 6)) Z := by
      intro cc _ x hx hcc
      unfold c_DB_readLine_j39
      refine r_must (c := cc) (k := 4) J' (J'.grd (by decide)) hx rfl (fun z h' th => kf 4 t.at_ (by rw [eL, if_pos (by have w : ¬ c < 40 := fun w => z (hcc.2 w); omega)]) h h' fr0 th) fun yc => ?_
      have eR : bkL f n nm m c t = bkR f n nm m what (nx f n 400 t) := by rw [eL, if_neg (by have := hcc.1 yc; omega)]
      refine r_next J' (J'.grd (by decide)) fun h1 J1 o1 => ?_
      have R1 := R.onl J' o1
      have fr1 := FrL.of o1 J'.wf J1.wf
      rw [il_5]
      by_cases c5 : what ≤ 5
      · refine q_pos _ (ii_leT (by omega)) ?_
        have eR2 : bkL f n nm m c t = (if nmOk f (nx f n 400 t) = false then .inl (1, (nx f n 400 t).at_) else if ofN nm (seg f (nx f n 400 t).at_ (nx f n 400 t).p) m 0 = -1 then .inl (3, (nx f n 400 t).at_) else bkI f n nm m what (ofN nm (seg f (nx f n 400 t).at_ (nx f n 400 t).p) m 0).toNat (nx f n 400 (nx f n 400 t))) := by rw [eR]; unfold bkR; rw [if_pos c5]
        refine q_room J1 R1 ?_
        refine r_known J1 R1.2.2 (J1.grd (by decide)) rfl (fun z h' th => kf 1 _ (by rw [eR2, if_pos z]) h1 h' ⟨fr1, JB.k6 J1⟩ th) (fun z1 z2 h' th => kf 3 _ (by rw [eR2, if_neg (by rw [z1]; decide), if_pos z2]) h1 h' ⟨fr1, JB.k6 J1⟩ th) fun z r er hr h2 J2 o2 => ?_
        have eI : bkL f n nm m c t = bkI f n nm m what r (nx f n 400 (nx f n 400 t)) := by
          rw [eR2, if_neg (by rw [z]; decide), er, if_neg (by omega)]
          rfl
        have o12 := o1.trans o2
        exact r_bkI J2 (R1.onl J1 o2) hw (by omega) (fun k pl ee h3 h' fr th => kf k pl (eI.trans ee) h3 h' ⟨FrL.trans0 o12 fr.1, fr.2⟩ th) (fun d t' ee a h3 J3 fr ha ed => kk d t' (eI.trans ee) a h3 J3 (FrL.trans0 o12 fr) (by rw [← o12.1]; exact ha) ed)
      · refine q_neg _ (ii_leF (by omega)) ?_
        have eI : bkL f n nm m c t = bkI f n nm m what 0 (nx f n 400 t) := by rw [eR]; unfold bkR; rw [if_neg c5]
        exact r_bkI (r := 0) J1 R1 hw (by omega) (fun k pl ee h3 h' fr th => kf k pl (eI.trans ee) h3 h' ⟨FrL.trans0 o1 fr.1, fr.2⟩ th) (fun d t' ee a h3 J3 fr ha ed => kk d t' (eI.trans ee) a h3 J3 (FrL.trans0 o1 fr) (by rw [← o1.1]; exact ha) ed)
    by_cases c40 : 40 ≤ c
    · refine q_pos _ (ii_leT (by omega)) ?_
      exact j39 (cc := False) rfl ⟨fun z => z.elim, fun z => by omega⟩
    · refine q_neg _ (ii_leF (by omega)) ?_
      exact j39 (cc := True) rfl ⟨fun _ => by omega, fun _ => True.intro⟩
/-- lines that were read -/
def DsR (b : Nat → Nat) (h : PH) (ds : List DD) : Prop := ∃ g, h.1 (b 12) = some (qA 10 40 g) ∧ ∀ (j : Nat) (d : DD), ds[j]? = some d → ∃ a, g j = some a ∧ h.1 a = some (ddC d)
def FrB (b : Nat → Nat) (h0 h : PH) (k : Nat) : Prop := h.2.2 = h0.2.2 ∧ Wf h ∧ h0.2.1.1 ≤ h.2.1.1 ∧ h0.2.1.2 ≤ h.2.1.2 ∧ h.2.1.1 ≤ h0.2.1.1 + k ∧ h.2.1.2 ≤ h0.2.1.2 + 4 * k ∧ ∀ x c, h0.1 x = some c → x ≠ b 6 → x ≠ b 12 → h.1 x = some c
def FrC (b : Nat → Nat) (h0 h : PH) : Prop := FrB b h0 h 41 ∧ K6 b h ∧ ∃ g, h.1 (b 12) = some (qA 10 40 g)
theorem DsR.g {ds : List DD} (D : DsR b h ds) : ∃ g, h.1 (b 12) = some (qA 10 40 g) := by
  obtain ⟨g, e, _⟩ := D
  exact ⟨g, e⟩
theorem FrB.wk {k k' : Nat} (o : FrB b h0 h k) (l : k ≤ k') : FrB b h0 h k' := ⟨o.1, o.2.1, o.2.2.1, o.2.2.2.1, by have := o.2.2.2.2.1; omega, by have := o.2.2.2.2.2.1; omega, o.2.2.2.2.2.2⟩
theorem FrB.frl {k : Nat} (o : FrB b h0 h k) (q : FrL b h h1) : FrB b h0 h1 (k + 1) := by
  obtain ⟨o1, o2, o3, o4, o5, o6, o7⟩ := o
  obtain ⟨q1, q2, q3, q4, q5, q6, q7⟩ := q
  exact ⟨q1.trans o1, q2, by omega, by omega, by omega, by omega, fun x c e n6 n12 => q7 x c (o7 x c e n6 n12) n6⟩
theorem FrB.onl {k : Nat} (o : FrB b h0 h k) (q : Onl (b 6) h h1) (w : Wf h1) : FrB b h0 h1 k := by
  obtain ⟨o1, o2, o3, o4, o5, o6, o7⟩ := o
  obtain ⟨q1, q2, _⟩ := q
  exact ⟨by rw [q1]; exact o1, w, by rw [q1]; exact o3, by rw [q1]; exact o4, by rw [q1]; exact o5, by rw [q1]; exact o6, fun x c e n6 n12 => by rw [q2 x n6]; exact o7 x c e n6 n12⟩
theorem bkL_lt {c : Nat} {d : DD} {t' : Tk} (e : bkL f n nm m c t = .inr (d, t')) : c < 40 := by
  unfold bkL at e
  by_cases c1 : fkw f t 3 8 0 = -1
  · rw [if_pos c1] at e; cases e
  · rw [if_neg c1] at e
    by_cases c2 : 40 ≤ c
    · rw [if_pos c2] at e; cases e
    · omega
theorem DsR.fr {ds : List DD} (D : DsR b h ds) (o : ∀ x c, h.1 x = some c → (kd c = 21 ∨ kd c = 24) → h1.1 x = some c) : DsR b h1 ds := by
  obtain ⟨g, e, hg⟩ := D
  refine ⟨g, o _ _ e (Or.inl rfl), fun j d hj => ?_⟩
  obtain ⟨a, q1, q2⟩ := hg j d hj
  exact ⟨a, q1, o _ _ q2 (Or.inr rfl)⟩
theorem r_bkA : ∀ (l fu c : Nat) (t : Tk) (h : PH) (ds : List DD), l + c = 41 → c ≤ 40 → l < fu → JB b f n (ii c) t h → RmB b h rm na nm m → ds.length = c → DsR b h ds → FrB b h0 h c → (∀ k pl, bkA f n nm m l c t = .inl (k, pl) → ∀ h1 h', FrC b h0 h1 → TH b h1 k pl h' → Z (.inr (b 2, 0)) h') → (∀ es, bkA f n nm m l c t = .inr es → ∀ h1 t', JB b f n (ii (c + es.length : Nat)) t' h1 → DsR b h1 (ds ++ es) → FrB b h0 h1 41 → c + es.length ≤ 40 → Z (.inl none) h1) → Ends (itr (c_DB_read_l9) (fun _ _ => none) fu h (b 6)) Z := by
  intro l
  induction l with
  | zero => intro fu c t h ds hl hc; omega
  | succ l ih =>
    intro fu c t h ds hl hc hf J R hd D F kf kk
    obtain ⟨fu, rfl⟩ : ∃ x, fu = x + 1 := ⟨fu - 1, by omega⟩
    have J' := J
    obtain ⟨⟨v, mn, nmv, e, tv⟩, _, S, _, tk, _⟩ := J
    have tb := tk.1
    rw [itr_succ]
    unfold c_DB_read_l9
    refine q_gI e (by decide) rfl ?_
    by_cases c0 : t.k = 0
    · refine q_pos _ (by rw [c0]; rfl) ?_
      have eA : bkA f n nm m (l + 1) c t = .inr [] := by rw [bkA, if_pos c0]
      exact q_rV (kk [] eA h t (by rw [List.length_nil, Nat.add_zero]; exact J') (by rw [List.append_nil]; exact D) (F.wk (by omega)) (by rw [List.length_nil]; omega))
    refine q_neg _ (ii_eq0F (by omega)) ?_
    refine hQ_hQ ?_
    refine r_bkL J' R hc (fun k pl eL h1 h' fr th => Or.inr ⟨_, rfl, kf k pl (by rw [bkA, if_neg c0, eL]) h1 h' ⟨(F.frl fr.1).wk (by omega), fr.2, (D.fr fun x c e q => fr.1.2.2.2.2.2.2 x c e (JB.ne J' e (by omega))).g⟩ th⟩) fun d t' eL a h1 J1 fr ha ed => Or.inl ⟨some a, rfl, ?_⟩
    have hc40 := bkL_lt eL
    have F1 := F.frl fr
    have eA : bkA f n nm m (l + 1) c t = (if isSg f t' 59 = false then .inl (1, t'.at_) else match bkA f n nm m l (c + 1) (nx f n 400 t') with
      | .inl e => .inl e
      | .inr ds => .inr (d :: ds)) := by
      rw [bkA, if_neg c0, eL]
      rfl
    have D1 : DsR b h1 ds := D.fr fun x c e q => fr.2.2.2.2.2.2 x c e (JB.ne J' e (by omega))
    refine r_sign (c := 59) J1 (J1.grd (by decide)) rfl (by decide) (fun z h' th => kf 1 t'.at_ (by rw [eA, if_pos z]) h1 h' ⟨F1.wk (by omega), JB.k6 J1, D1.g⟩ th) fun z h2 J2 o2 => ?_
    have F2 := F1.onl o2 J2.wf
    have R2 := (R.frl J' fr).onl J1 o2
    have D2 : DsR b h2 ds := D1.fr fun x c e q => by rw [o2.2.1 x (JB.ne J1 e (by omega))]; exact e
    have ed2 : h2.1 a = some (ddC d) := by rw [o2.2.1 a (JB.ne J1 ed (by show 2 * 12 ≠ 12; decide))]; exact ed
    have J2' := J2
    obtain ⟨⟨v2, mn2, nm2, e2, tv2⟩, _⟩ := J2
    obtain ⟨g, e12, hg⟩ := D2
    refine q_gQr e2 (by decide) rfl ?_
    refine q_gI e2 (by decide) rfl ?_
    refine q_nn ?_
    refine q_stQ e12 (by decide) (by omega) ed2 rfl ?_
    rw [Int.toNat_natCast]
    have n12 : b 6 ≠ b 12 := Ne.symm (JB.ne J2' e12 (by show 2 * 10 + 1 ≠ 12; decide))
    have J3 : JB b f n (ii c) (nx f n 400 t') (hset h2 (b 12) (qA 10 40 (va_up g c (some a)))) := RJ.other J2' rfl (J2'.wf.setE e12) fun x c' e' q => up_nx (fun w => by
      subst w
      rw [e12] at e'
      injection e' with e'
      subst e'
      rcases q with q | q | q | q | q | q
      · exact absurd q (by show ¬ (2 * 10 + 1 = 25); decide)
      · exact absurd q (by show ¬ (200 ≤ 2 * 10 + 1); decide)
      · exact absurd q (by show ¬ (2 * 10 + 1 = 0); decide)
      · exact absurd q (by show ¬ (2 * 10 + 1 = 5); decide)
      · exact absurd q (by show ¬ (2 * 10 + 1 = 2); decide)
      · exact n12 q.symm) e'
    refine q_gI (up_nx n12 e2) (by decide) rfl ?_
    refine q_pI (up_nx n12 e2) (by decide) (Nat.le_of_ble_eq_true rfl) ?_
    rw [add1]
    obtain ⟨J4, o4⟩ := RJ.upd (y8 := .ref (b 13)) (y9 := .ref (b 12)) (y10 := ii ((c : Int) + 1)) J3 tv2 J2'.ok
    have ng : ∀ {x : Nat} {cc : PC}, h2.1 x = some cc → x ≠ b 12 → x ≠ b 6 → (WR b (hset h2 (b 12) (qA 10 40 (va_up g c (some a)))) (b 6) 6 400 (.ref (b 13)) (.ref (b 12)) (ii ((c : Int) + 1)) (ii (nx f n 400 t').p) (ii (nx f n 400 t').at_) (ii (nx f n 400 t').k) v2 mn2 nm2).1 x = some cc := fun {x cc} hx q1 q2 => up_nx q2 (up_nx q1 hx)
    refine ih fu (c + 1) (nx f n 400 t') _ (ds ++ [d]) (by omega) (by omega) (by omega) J4 ?_ (by rw [List.length_append]; simp; omega) ?_ ?_ (fun k pl eB h3 h' fr3 th => kf k pl (by rw [eA, if_neg (by rw [z]; decide), eB]) h3 h' fr3 th) (fun es eB h3 t3 J5 D5 fr5 hes => kk (d :: es) (by rw [eA, if_neg (by rw [z]; decide), eB]) h3 t3 (by rw [List.length_cons, show c + (es.length + 1) = c + 1 + es.length by omega]; exact J5) (by rw [List.append_assoc] at D5; exact D5) fr5 (by rw [List.length_cons]; omega))
    · refine R2.fr fun x cc hx q => ng hx (fun w => ?_) (JB.ne J2' hx (by omega))
      rw [w, e12] at hx
      injection hx with hx
      rw [← hx] at q
      rcases q with q | q | q
      · exact absurd q (by show ¬ (2 * 10 + 1 = 0); decide)
      · exact absurd q (by show ¬ (2 * 10 + 1 = 4); decide)
      · exact absurd q (by show ¬ (2 * 10 + 1 = 3); decide)
    · refine ⟨va_up g c (some a), up_nx (Ne.symm n12) up_eq, fun j dd hj => ?_⟩
      have nd : ∀ {x : Nat} {q : DD}, h2.1 x = some (ddC q) → x ≠ b 12 := fun {x q} hx w => by
        rw [w, e12] at hx
        cases hx
      by_cases cj : j < c
      · rw [List.getElem?_append_left (by omega)] at hj
        obtain ⟨a', q1, q2⟩ := hg j dd hj
        exact ⟨a', by unfold va_up; rw [if_neg (by omega)]; exact q1, ng q2 (nd q2) (JB.ne J2' q2 (by show 2 * 12 ≠ 12; decide))⟩
      · rw [List.getElem?_append_right (by omega)] at hj
        have j0 : j - ds.length = 0 := by
          by_cases w : j - ds.length = 0
          · exact w
          · rw [List.getElem?_eq_none (by simp; omega)] at hj
            cases hj
        rw [j0] at hj
        injection hj with hj
        subst hj
        exact ⟨a, by unfold va_up; rw [if_pos (by omega)], ng ed2 (nd ed2) (JB.ne J2' ed2 (by show 2 * 12 ≠ 12; decide))⟩
    · exact ⟨F2.1, J4.wf, F2.2.2.1, F2.2.2.2.1, F2.2.2.2.2.1, F2.2.2.2.2.2.1, fun x cc hx q6 q12 => ng (F2.2.2.2.2.2.2 x cc hx q6 q12) q12 q6⟩
/-- a book is read -/
theorem r_book (K0 : ∃ p at_ tk v mn nm x10, h.1 (b 6) = some (rdC 6 (b 0) 400 p at_ tk v mn nm (.ref (b 13)) (.ref (b 12)) x10)) (T : TB b h f n) (S : StR b h) (Ff : ∃ fs, h.1 (b 2) = some (.inr (1, fs)) ∧ fs.length = 8) (B0 : ∃ fs, h.1 (b 0) = some (.inr (0, fs)) ∧ fs[3]? = some (.ref (b 2)) ∧ fs[4]? = some (.ref (b 3)) ∧ fs[5]? = some (.ref (b 4))) (D12 : ∃ g, h.1 (b 12) = some (qA 10 40 g)) (w : Wf h) (R : RmB b h rm na nm m) (kf : ∀ k pl, bkA f n nm m 41 0 (tok f n 400 0) = .inl (k, pl) → ∀ h1 h', FrC b h h1 → TH b h1 k pl h' → Z (.inr (b 2, 0)) h') (kk : ∀ es, bkA f n nm m 41 0 (tok f n 400 0) = .inr es → ∀ h1 t', JB b f n (ii es.length) t' h1 → DsR b h1 es → FrB b h h1 41 → es.length ≤ 40 → Z (.inl none) h1) : Ends (c_DB_read h (b 6)) Z := by
  obtain ⟨p, at_, tk, v, mn, nmv, x10, e⟩ := K0
  have J0 : JB b f n (ii (0 : Nat)) (0, 0, 0) (WR b h (b 6) 6 400 (.ref (b 13)) (.ref (b 12)) (ii (0 : Nat)) (ii (0 : Nat)) (ii (0 : Nat)) (ii (0 : Nat)) v mn nmv) := by
    have kc : kd (rdC 6 (b 0) 400 p at_ tk v mn nmv (.ref (b 13)) (.ref (b 12)) x10) = 12 := rfl
    have ne : ∀ {x : Nat} {c : PC}, h.1 x = some c → kd c ≠ 12 → x ≠ b 6 := fun {x c} hx hk q => by
      rw [q, e] at hx
      injection hx with hx
      rw [← hx] at hk
      exact hk kc
    obtain ⟨fs, f1, f2⟩ := Ff
    obtain ⟨gs, g1, g2⟩ := B0
    refine ⟨⟨v, mn, nmv, up_eq, tkv_no (Or.inl rfl)⟩, T.set e ⟨by show 2 * 6 ≠ 0; decide, by show 2 * 6 ≠ 5; decide⟩, S.ne rfl (fun x c hx hk => up_nx (ne hx (by omega)) hx), ⟨fs, up_nx (ne f1 (by show 2 * 1 ≠ 12; decide)) f1, f2⟩, ⟨⟨Nat.zero_le _, Nat.zero_le _, Nat.zero_le _⟩, fun z => absurd (show 0 = 1 from z) (by decide), fun z => absurd (show 0 = 2 from z) (by decide)⟩, w.setE e, ⟨gs, up_nx (ne g1 (by show 2 * 0 ≠ 12; decide)) g1, g2⟩, by decide, by decide⟩
  have hn := T.2.2.1
  unfold c_DB_read
  refine q_grd e (by decide) ?_
  refine q_pI e (by decide) (Nat.le_of_ble_eq_true rfl) ?_
  rw [grd_eq up_eq (by decide)]
  unfold c_D_begin
  -- begin
  have bg : EV (grd (hset h (b 6) (.inr (6, ([.int (ii 400), .int p, .int at_, .int tk, .int v, .int mn, .long nmv, .ref (b 0), .ref (b 13), .ref (b 12), .int x10, .ref (b 0)] : List Value).set 10 (.int 0)))) (b 6) [5, 6, 7] (pI (hset h (b 6) (.inr (6, ([.int (ii 400), .int p, .int at_, .int tk, .int v, .int mn, .long nmv, .ref (b 0), .ref (b 13), .ref (b 12), .int x10, .ref (b 0)] : List Value).set 10 (.int 0)))) (b 6) [5, 6, 7] 1 (0 : Int32) fun h1 => hV (c_D_next h1 (b 6)) noX fun h2 => rV h2)) (fun h' => JB b f n (ii (0 : Nat)) (tok f n 400 0) h' ∧ Onl (b 6) h h') := by
    refine EV.of ?_
    refine q_grd up_eq (by decide) ?_
    refine q_pI up_eq (by decide) (Nat.le_of_ble_eq_true rfl) ?_
    rw [hset_hset]
    have T1 : TB b (hset h (b 6) (RDC b 6 (400 : Nat) (.ref (b 13)) (.ref (b 12)) (ii (0 : Nat)) (ii (0 : Nat)) at_ tk v mn nmv)) f n := T.set e ⟨by show 2 * 6 ≠ 0; decide, by show 2 * 6 ≠ 5; decide⟩
    refine q_hV (p_next (cls := 6) (most := 400) (x8 := .ref (b 13)) (x9 := .ref (b 12)) (x10 := ii (0 : Nat)) (p := 0) (at_ := at_) (tk := tk) (v := v) (mn := mn) (nm := nmv) (Or.inr (Or.inl rfl)) (by decide) T1 up_eq (Nat.zero_le _)) fun h1 ⟨v', mn', nm', e1, tv'⟩ => ?_
    unfold WR at e1
    rw [hset_hset] at e1
    subst e1
    have tk' := tok_ok (f := f) (n := n) (most := 400) (p := 0) (Nat.zero_le _) (by decide) hn
    obtain ⟨u1, u2⟩ := RJ.upd (y8 := .ref (b 13)) (y9 := .ref (b 12)) (y10 := ii (0 : Nat)) J0 tv' tk'
    unfold WR at u1 u2
    rw [hset_hset] at u1 u2
    refine q_rV ⟨rfl, u1, u2.1, fun x hx => ?_, _, _, e, up_eq, rfl⟩
    exact up_ne hx
  refine q_hV bg fun h2 ⟨J2, o2⟩ => ?_
  have ne : ∀ {x : Nat} {c : PC}, h.1 x = some c → kd c ≠ 12 → x ≠ b 6 := fun {x c} hx hk q => by
    rw [q, e] at hx
    injection hx with hx
    rw [← hx] at hk
    exact hk rfl
  have R2 : RmB b h2 rm na nm m := R.fr fun x c hx q => by rw [o2.2.1 x (ne hx (by omega))]; exact hx
  obtain ⟨g, e12⟩ := D12
  have e12' : h2.1 (b 12) = some (qA 10 40 g) := by rw [o2.2.1 _ (ne e12 (by show 2 * 10 + 1 ≠ 12; decide))]; exact e12
  have F2 : FrB b h h2 0 := ⟨by rw [o2.1], J2.wf, by rw [o2.1]; exact Nat.le_refl _, by rw [o2.1]; exact Nat.le_refl _, by rw [o2.1]; exact Nat.le_refl _, by rw [o2.1]; exact Nat.le_refl _, fun x c hx q _ => by rw [o2.2.1 x q]; exact hx⟩
  exact r_bkA 41 FU 0 (tok f n 400 0) h2 [] rfl (by decide) (by unfold FU; decide) J2 R2 rfl ⟨g, e12', fun j d hj => by cases hj⟩ F2 kf (fun es eB h1 t' J3 D3 F3 hes => kk es eB h1 t' (by rw [Nat.zero_add] at J3; exact J3) D3 F3 (by omega))
end
