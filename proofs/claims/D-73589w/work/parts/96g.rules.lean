/-! PURE SIDE: the component's reader: rules -/
set_option maxRecDepth 100000
theorem mi1 : (-1 : Int32) = ii (-1) := by decide
theorem n256_inj {l m : List Nat} (hl : okN l) (hm : okN m) (e : n256 l = n256 m) : l = m := by
  have key : ∀ (k : Nat) (l m : List Nat), l.length ≤ k → (∀ c, c ∈ l → 97 ≤ c ∧ c ≤ 122) → (∀ c, c ∈ m → 97 ≤ c ∧ c ≤ 122) → n256 l = n256 m → l = m := by
    intro k
    induction k with
    | zero =>
      intro l m hk h1 h2 e
      have : l = [] := List.eq_nil_of_length_eq_zero (by omega)
      subst this
      by_cases c : m = []
      · exact c.symm
      · exfalso
        rw [← List.dropLast_concat_getLast c, n256_app] at e
        have := h2 (m.getLast c) (List.getLast_mem c)
        have z : n256 [] = 0 := rfl
        omega
    | succ k ih =>
      intro l m hk h1 h2 e
      by_cases cl : l = []
      · subst cl
        by_cases c : m = []
        · exact c.symm
        · exfalso
          rw [← List.dropLast_concat_getLast c, n256_app] at e
          have := h2 (m.getLast c) (List.getLast_mem c)
          have z : n256 [] = 0 := rfl
          omega
      · by_cases c : m = []
        · exfalso
          subst c
          rw [← List.dropLast_concat_getLast cl, n256_app] at e
          have := h1 (l.getLast cl) (List.getLast_mem cl)
          have z : n256 [] = 0 := rfl
          omega
        · have a1 := h1 (l.getLast cl) (List.getLast_mem cl)
          have a2 := h2 (m.getLast c) (List.getLast_mem c)
          rw [← List.dropLast_concat_getLast cl, ← List.dropLast_concat_getLast c] at e ⊢
          rw [n256_app, n256_app] at e
          have e1 : l.getLast cl = m.getLast c := by omega
          have e2 := ih l.dropLast m.dropLast (by rw [List.length_dropLast]; omega) (fun d hd => h1 d ((List.dropLast_sublist l).subset hd)) (fun d hd => h2 d ((List.dropLast_sublist m).subset hd)) (by omega)
          rw [e1, e2]
  exact key l.length l m (Nat.le_refl _) hl.2.2 hm.2.2 e
theorem n27_inj {l m : List Nat} (hl : ∀ c, c ∈ l → 97 ≤ c ∧ c ≤ 122) (hm : ∀ c, c ∈ m → 97 ≤ c ∧ c ≤ 122) (e : n27 l = n27 m) : l = m := by
  have key : ∀ (k : Nat) (l m : List Nat), l.length ≤ k → (∀ c, c ∈ l → 97 ≤ c ∧ c ≤ 122) → (∀ c, c ∈ m → 97 ≤ c ∧ c ≤ 122) → n27 l = n27 m → l = m := by
    intro k
    induction k with
    | zero =>
      intro l m hk h1 h2 e
      have : l = [] := List.eq_nil_of_length_eq_zero (by omega)
      subst this
      by_cases c : m = []
      · exact c.symm
      · exfalso
        rw [← List.dropLast_concat_getLast c, n27_app] at e
        have := h2 (m.getLast c) (List.getLast_mem c)
        have z : n27 [] = 0 := rfl
        omega
    | succ k ih =>
      intro l m hk h1 h2 e
      by_cases cl : l = []
      · subst cl
        by_cases c : m = []
        · exact c.symm
        · exfalso
          rw [← List.dropLast_concat_getLast c, n27_app] at e
          have := h2 (m.getLast c) (List.getLast_mem c)
          have z : n27 [] = 0 := rfl
          omega
      · by_cases c : m = []
        · exfalso
          subst c
          rw [← List.dropLast_concat_getLast cl, n27_app] at e
          have := h1 (l.getLast cl) (List.getLast_mem cl)
          have z : n27 [] = 0 := rfl
          omega
        · have a1 := h1 (l.getLast cl) (List.getLast_mem cl)
          have a2 := h2 (m.getLast c) (List.getLast_mem c)
          rw [← List.dropLast_concat_getLast cl, ← List.dropLast_concat_getLast c] at e ⊢
          rw [n27_app, n27_app] at e
          have e1 : l.getLast cl = m.getLast c := by omega
          have e2 := ih l.dropLast m.dropLast (by rw [List.length_dropLast]; omega) (fun d hd => h1 d ((List.dropLast_sublist l).subset hd)) (fun d hd => h2 d ((List.dropLast_sublist m).subset hd)) (by omega)
          rw [e1, e2]
  exact key l.length l m (Nat.le_refl _) hl hm e
theorem okN.b256 {l : List Nat} (h : okN l) : n256 l < 72057594037927936 := by
  have := n256_lt (l := l) (fun c hc => by have := h.2.2 c hc; omega)
  have b := Nat.pow_le_pow_right (n := 256) (by decide) h.2.1
  have e : 256 ^ 7 = 72057594037927936 := by decide
  omega
theorem b27 {l : List Nat} (h : l.length ≤ 7) (h2 : ∀ c, c ∈ l → 97 ≤ c ∧ c ≤ 122) : n27 l < 10460353203 := by
  have := n27_lt (l := l) (fun c hc => (h2 c hc).2)
  have b := Nat.pow_le_pow_right (n := 27) (by decide) h
  have e : 27 ^ 7 = 10460353203 := by decide
  omega
section
variable {b : Nat → Nat} {f : Nat → Nat} {n cls ρ most : Nat} {x8 x9 : Value} {x10 : Int32} {t : Tk} {h : PH} {Z : Rt → PH → Prop}
theorem Onl.rf {ρ : Nat} {h : PH} {d : PC} (e : h.1 ρ = some d) : Onl ρ h h := ⟨rfl, fun _ _ => rfl, d, d, e, e, rfl⟩
theorem Onl.trans {ρ : Nat} {a c d : PH} (o : Onl ρ a c) (k : Onl ρ c d) : Onl ρ a d := by
  obtain ⟨o1, o2, x, y, o3, o4, o5⟩ := o
  obtain ⟨k1, k2, z, w, k3, k4, k5⟩ := k
  rw [o4] at k3
  injection k3 with k3
  subst k3
  exact ⟨k1.trans o1, fun q hq => (k2 q hq).trans (o2 q hq), x, w, o3, k4, o5.trans k5⟩
theorem RJ.hn (J : RJ b f n cls ρ most x8 x9 x10 t h) : n ≤ 940 := J.2.1.2.2.1
theorem RJ.wf (J : RJ b f n cls ρ most x8 x9 x10 t h) : Wf h := J.2.2.2.2.2.1
theorem RJ.ok (J : RJ b f n cls ρ most x8 x9 x10 t h) : TkOk f n t := J.2.2.2.2.1
theorem RJ.cl (J : RJ b f n cls ρ most x8 x9 x10 t h) : cls = 5 ∨ cls = 6 ∨ cls = 7 := J.2.2.2.2.2.2.2.1
theorem StrA.ne {a m k : Nat} (A : StrA h a m k) {h' : PH} (e2 : h'.2.2 = h.2.2) (o : ∀ x c, h.1 x = some c → (kd c = 25 ∨ 200 ≤ kd c) → h'.1 x = some c) : StrA h' a m k := by
  obtain ⟨g, a1, a2⟩ := A
  exact ⟨g, o _ _ a1 (Or.inl rfl), by rw [e2]; exact a2⟩
theorem StR.ne (S : StR b h) {h' : PH} (e2 : h'.2.2 = h.2.2) (o : ∀ x c, h.1 x = some c → (kd c = 25 ∨ 200 ≤ kd c) → h'.1 x = some c) : StR b h' := by
  obtain ⟨s1, s2, s3, s4, s5, s6⟩ := S
  refine ⟨s1.ne e2 o, s2.ne e2 o, s3.ne e2 o, s4.ne e2 o, s5.ne e2 o, fun k hk => ?_⟩
  rw [e2]
  exact o _ _ (s6 k hk) (Or.inr (show 200 ≤ 2 * (100 + k) by omega))
/-- other cells of the heap are another, the reader and what it reads are as they were -/
theorem RJ.other (J : RJ b f n cls ρ most x8 x9 x10 t h) {h' : PH} (e2 : h'.2.2 = h.2.2) (w : Wf h') (o : ∀ x c, h.1 x = some c → (kd c = 25 ∨ 200 ≤ kd c ∨ kd c = 0 ∨ kd c = 5 ∨ kd c = 2 ∨ x = ρ) → h'.1 x = some c) : RJ b f n cls ρ most x8 x9 x10 t h' := by
  obtain ⟨⟨v, mn, nm, e, tv⟩, ⟨⟨fs, a1, a2, a3⟩, ⟨g, a4, a5⟩, a6⟩, S, ⟨gs, g1, g2⟩, tk, _, ⟨ks, k1, k2, k3, k4⟩, hc, hmo⟩ := J
  exact ⟨⟨v, mn, nm, o _ _ e (by simp), tv⟩, ⟨⟨fs, o _ _ a1 (Or.inr (Or.inr (Or.inl rfl))), a2, a3⟩, ⟨g, o _ _ a4 (Or.inr (Or.inr (Or.inr (Or.inl rfl)))), a5⟩, a6⟩, S.ne e2 (fun x c e q => o x c e (by rcases q with q | q <;> simp [q])), ⟨gs, o _ _ g1 (Or.inr (Or.inr (Or.inr (Or.inr (Or.inl rfl))))), g2⟩, tk, w, ⟨ks, o _ _ k1 (Or.inr (Or.inr (Or.inl rfl))), k2, k3, k4⟩, hc, hmo⟩
theorem RJ.upd {y8 y9 : Value} {y10 : Int32} {t' : Tk} {v' mn' : Int32} {nm' : Int64} (J : RJ b f n cls ρ most x8 x9 x10 t h) (tv' : TkV f t' v' mn' nm') (tk' : TkOk f n t') : RJ b f n cls ρ most y8 y9 y10 t' (WR b h ρ cls most y8 y9 y10 (ii t'.p) (ii t'.at_) (ii t'.k) v' mn' nm') ∧ Onl ρ h (WR b h ρ cls most y8 y9 y10 (ii t'.p) (ii t'.at_) (ii t'.k) v' mn' nm') := by
  obtain ⟨⟨v, mn, nm, e, tv⟩, ⟨⟨fs, a1, a2, a3⟩, ⟨g, a4, a5⟩, a6⟩, S, ⟨gs, g1, g2⟩, tk, w, ⟨ks, k1, k2, k3, k4⟩, hc, hmo⟩ := J
  have kc : kd (RDC b cls (most : Int) x8 x9 x10 (ii t.p) (ii t.at_) (ii t.k) v mn nm) = 2 * cls := rfl
  have ne : ∀ {x : Nat} {c : PC}, h.1 x = some c → kd c ≠ 2 * cls → x ≠ ρ := fun {x c} hx hk q => by
    rw [q, e] at hx
    injection hx with hx
    rw [← hx] at hk
    exact hk kc
  have n1 : b 0 ≠ ρ := ne a1 (by show 2 * 0 ≠ 2 * cls; omega)
  have n2 : b 1 ≠ ρ := ne a4 (by show 2 * 2 + 1 ≠ 2 * cls; omega)
  have n3 : b 2 ≠ ρ := ne g1 (by show 2 * 1 ≠ 2 * cls; omega)
  refine ⟨⟨⟨v', mn', nm', up_eq, tv'⟩, ⟨⟨fs, up_nx n1 a1, a2, a3⟩, ⟨g, up_nx n2 a4, a5⟩, a6⟩, S.ne rfl (fun x c hx hk => up_nx (ne hx (by omega)) hx), ⟨gs, up_nx n3 g1, g2⟩, tk', w.setE e, ⟨ks, up_nx n1 k1, k2, k3, k4⟩, hc, hmo⟩, rfl, fun x hx => up_ne hx, _, _, e, up_eq, rfl⟩
abbrev nx (f : Nat → Nat) (n most : Nat) (t : Tk) : Tk := tok f n most t.p
theorem r_next {P : Option RH} {E : Nat × Nat → PH → Option RH} {K : PH → Option RH} (J : RJ b f n cls ρ most x8 x9 x10 t h) (eP : P = c_D_next h ρ) (kk : ∀ h1, RJ b f n cls ρ most x8 x9 x10 (nx f n most t) h1 → Onl ρ h h1 → Ends (K h1) Z) : Ends (hV P E K) Z := by
  subst eP
  have J' := J
  obtain ⟨⟨v, mn, nm, e, tv⟩, T, S, _, tk, w, _, hc, hmo⟩ := J
  refine q_hV (p_next hc hmo T e tk.1.1) fun h1 ⟨v', mn', nm', e1, tv'⟩ => ?_
  subst e1
  obtain ⟨u1, u2⟩ := J'.upd (y8 := x8) (y9 := x9) (y10 := x10) tv' (tok_ok tk.1.1 hmo J'.hn)
  exact kk _ u1 u2
theorem r_must {c : Prop} [Decidable c] {P : Option RH} {x : Int32} {k : Nat} {kk' : Int32} {K : PH → Option RH} (J : RJ b f n cls ρ most x8 x9 x10 t h) (eP : P = c_D_must h ρ x kk') (ex : x = ii (bn (decide c))) (ek : kk' = ii k) (kf : ¬ c → ∀ h', TH b h k t.at_ h' → Z (.inr (b 2, 0)) h') (kk : c → Ends (K h) Z) : Ends (hV P rX K) Z := by
  subst eP ex ek
  obtain ⟨⟨v, mn, nm, e, tv⟩, T, S, ⟨gs, g1, g2⟩, tk, w, ⟨ks, k1, k2, k3, k4⟩, hc, hmo⟩ := J
  have kc : kd (RDC b cls (most : Int) x8 x9 x10 (ii t.p) (ii t.at_) (ii t.k) v mn nm) = 2 * cls := rfl
  have n1 : b 0 ≠ b 2 := kd_ne k1 g1 rfl
  have n3 : ρ ≠ b 2 := fun q => by
    rw [q, g1] at e
    injection e with e
    rw [← e] at kc
    have kc : 2 * 1 = 2 * cls := kc
    omega
  by_cases d : c
  · have : c_D_must h ρ (ii (bn (decide c))) (ii k) = rV h := by
      unfold c_D_must
      rw [grd_eq e (clm hc), decide_eq_true d, if_neg bn1_ne]
    rw [this]
    exact kk d
  · have : c_D_must h ρ (ii (bn (decide c))) (ii k) = rX (b 2, 0) (hset h (b 2) (.inr (1, (gs.set 6 (.int (ii k))).set 7 (.int (ii t.at_))))) := by
      have ew : c_D_wrong h ρ (ii k) = rQ (some (b 2)) (hset h (b 2) (.inr (1, (gs.set 6 (.int (ii k))).set 7 (.int (ii t.at_))))) := by
        have : Ends (c_D_wrong h ρ (ii k)) (fun r h' => r = .inl (some (va_rf (some (b 2)))) ∧ h' = hset h (b 2) (.inr (1, (gs.set 6 (.int (ii k))).set 7 (.int (ii t.at_))))) := by
          unfold c_D_wrong
          refine q_grd e (clm hc) ?_
          refine q_gQr e (clm hc) rfl ?_
          refine q_nn ?_
          refine q_gQr k1 (by decide) k2 ?_
          refine q_nn ?_
          refine q_pI g1 (by decide) (by omega) ?_
          refine q_gQr (up_nx n3 e) (clm hc) rfl ?_
          refine q_nn ?_
          refine q_gQr (up_nx n1 k1) (by decide) k2 ?_
          refine q_gI (up_nx n3 e) (clm hc) rfl ?_
          refine q_nn ?_
          refine q_pI up_eq (by decide) (by rw [List.length_set]; omega) ?_
          rw [hset_hset]
          refine q_gQr (up_nx n3 e) (clm hc) rfl ?_
          refine q_nn ?_
          refine q_gQr (up_nx n1 k1) (by decide) k2 ?_
          exact q_rQ ⟨rfl, rfl⟩
        obtain ⟨r, h', z1, z2, z3⟩ := this
        rw [z1, z2, z3]; rfl
      unfold c_D_must
      rw [grd_eq e (clm hc), decide_eq_false d, if_pos (show ii (bn false) = 0 from rfl), ew]
      show grd _ (b 2) [1] _ = _
      rw [grd_eq up_eq (by decide)]
    rw [this]
    exact ⟨_, _, rfl, kf d _ ⟨gs, g1, g2, rfl⟩⟩
theorem p_isSg {c : Nat} (J : RJ b f n cls ρ most x8 x9 x10 t h) (hcc : c ≤ 255) : c_D_is_2 h ρ (ii c) = rI (ii (bn (isSg f t c))) h := by
  obtain ⟨⟨v, mn, nm, e, tv⟩, T, S, _, tk, w, _, hc, hmo⟩ := J
  have h8 := T.2.2.2 t.at_
  have tb := tk.1
  refine eqI ?_
  unfold c_D_is_2 isSg
  refine q_grd e (clm hc) ?_
  refine q_gI e (clm hc) rfl ?_
  rw [il_3]
  by_cases c1 : t.k = 3
  · refine q_pos _ (by rw [c1]; rfl) ?_
    refine q_gI e (clm hc) rfl ?_
    rw [tv.2.2 c1]
    by_cases c2 : f t.at_ = c
    · refine q_pos _ (by rw [c2]) ?_
      rw [decide_eq_true ⟨c1, c2⟩]
      exact q_rZ1 ⟨rfl, rfl⟩
    · refine q_neg _ (ii_eqF (by omega)) ?_
      rw [decide_eq_false (fun z => c2 z.2)]
      exact q_rZ0 ⟨rfl, rfl⟩
  · refine q_neg _ (ii_eqF (by omega)) ?_
    rw [decide_eq_false (fun z => c1 z.1)]
    exact q_rZ0 ⟨rfl, rfl⟩
theorem bn_dec (x : Bool) : ii (bn x) = ii (bn (decide (x = true))) := by cases x <;> rfl
theorem hV_hV {P : Option RH} {K : PH → Option RH} {Z : Rt → PH → Prop} (e : Ends P (fun r h' => (r = .inl none ∧ Ends (K h') Z) ∨ (∃ q, r = .inr q ∧ Z (.inr q) h'))) : Ends (hV P rX K) Z := by
  obtain ⟨r, h', e1, e2⟩ := e
  rw [e1]
  rcases e2 with ⟨q1, q2⟩ | ⟨q, q1, q2⟩
  · subst q1
    exact q2
  · subst q1
    exact ⟨_, _, rfl, q2⟩
theorem hI_hI {P : Option RH} {K : Int32 → PH → Option RH} {Z : Rt → PH → Prop} (e : Ends P (fun r h' => (∃ v, r = .inl (some (.int v)) ∧ Ends (K v h') Z) ∨ (∃ q, r = .inr q ∧ Z (.inr q) h'))) : Ends (hI P rX K) Z := by
  obtain ⟨r, h', e1, e2⟩ := e
  rw [e1]
  rcases e2 with ⟨v, q1, q2⟩ | ⟨q, q1, q2⟩
  · subst q1
    exact q2
  · subst q1
    exact ⟨_, _, rfl, q2⟩
theorem hQ_hQ {P : Option RH} {K : Option Nat → PH → Option RH} {Z : Rt → PH → Prop} (e : Ends P (fun r h' => (∃ v, r = .inl (some (va_rf v)) ∧ Ends (K v h') Z) ∨ (∃ q, r = .inr q ∧ Z (.inr q) h'))) : Ends (hQ P rX K) Z := by
  obtain ⟨r, h', e1, e2⟩ := e
  rw [e1]
  rcases e2 with ⟨v, q1, q2⟩ | ⟨q, q1, q2⟩
  · subst q1
    cases v with
    | none => exact q2
    | some a => exact q2
  · subst q1
    exact ⟨_, _, rfl, q2⟩
theorem r_sign {c : Nat} {P : Option RH} {cc : Int32} {K : PH → Option RH} (J : RJ b f n cls ρ most x8 x9 x10 t h) (eP : P = c_D_sign h ρ cc) (ec : cc = ii c) (hcc : c ≤ 255) (kf : isSg f t c = false → ∀ h', TH b h 1 t.at_ h' → Z (.inr (b 2, 0)) h') (kk : isSg f t c = true → ∀ h1, RJ b f n cls ρ most x8 x9 x10 (nx f n most t) h1 → Onl ρ h h1 → Ends (K h1) Z) : Ends (hV P rX K) Z := by
  subst eP ec
  refine hV_hV ?_
  unfold c_D_sign
  rw [J.grd (clm J.cl)]
  refine q_hIe (p_isSg J hcc) ?_
  refine r_must (c := isSg f t c = true) (k := 1) J rfl (bn_dec _) rfl (fun z h' th => Or.inr ⟨_, rfl, kf (by rw [Bool.not_eq_true] at z; exact z) h' th⟩) fun z => ?_
  refine r_next J rfl fun h1 J1 o1 => ?_
  exact q_rV (Or.inl ⟨rfl, kk z h1 J1 o1⟩)
theorem r_number {lo hi : Nat} {P : Option RH} {l' h'' : Int32} {K : Int32 → PH → Option RH} (J : RJ b f n cls ρ most x8 x9 x10 t h) (eP : P = c_D_number h ρ l' h'') (el : l' = ii lo) (eh : h'' = ii hi) (hb : lo ≤ 1000 ∧ hi ≤ 1000) (kf1 : t.k ≠ 2 → ∀ h', TH b h 1 t.at_ h' → Z (.inr (b 2, 0)) h') (kf2 : t.k = 2 → ¬ (lo ≤ nv (seg f t.at_ t.p) ∧ nv (seg f t.at_ t.p) ≤ hi) → ∀ h', TH b h 2 t.at_ h' → Z (.inr (b 2, 0)) h') (kk : t.k = 2 → lo ≤ nv (seg f t.at_ t.p) ∧ nv (seg f t.at_ t.p) ≤ hi → ∀ h1, RJ b f n cls ρ most x8 x9 x10 (nx f n most t) h1 → Onl ρ h h1 → Ends (K (ii (nv (seg f t.at_ t.p))) h1) Z) : Ends (hI P rX K) Z := by
  subst eP el eh
  refine hI_hI ?_
  have J' := J
  obtain ⟨⟨v, mn, nm, e, tv⟩, T, S, _, tk, w, _, hc, hmo⟩ := J
  have tb := tk.1
  unfold c_D_number
  rw [J'.grd (clm hc)]
  refine q_gI e (clm hc) rfl ?_
  rw [il_2]
  by_cases c1 : t.k = 2
  · refine q_pos _ (by rw [c1]; rfl) ?_
    unfold c_D_number_j14
    refine r_must (c := True) (k := 1) J' rfl rfl rfl (fun z => absurd True.intro z) fun _ => ?_
    refine q_gI e (clm hc) rfl ?_
    have n9 := tk.2.2 c1
    rw [tv.2.1 c1]
    refine q_hIe (b_isIn (by omega)) ?_
    refine r_must (c := (lo : Int) ≤ nv (seg f t.at_ t.p) ∧ (nv (seg f t.at_ t.p) : Int) ≤ hi) (k := 2) J' rfl rfl rfl (fun z h' th => Or.inr ⟨_, rfl, kf2 c1 (by omega) h' th⟩) fun z => ?_
    refine q_gI e (clm hc) rfl ?_
    rw [tv.2.1 c1]
    refine r_next J' rfl fun h1 J1 o1 => ?_
    exact q_rI (Or.inl ⟨_, rfl, kk c1 (by omega) h1 J1 o1⟩)
  · refine q_neg _ (ii_eqF (by omega)) ?_
    unfold c_D_number_j14
    refine r_must (c := False) (k := 1) J' rfl rfl rfl (fun _ h' th => Or.inr ⟨_, rfl, kf1 c1 h' th⟩) fun z => z.elim
/-- names that are told -/
def NmA (h : PH) (a : Nat) (nm : Nat → List Nat) (m : Nat) : Prop := ∃ g, h.1 a = some (.inl (1, 4, .inr (.inl g))) ∧ m ≤ 4 ∧ ∀ r, r < m → g r = ll (n256 (nm r)) ∧ okN (nm r)
theorem p_of {a m : Nat} {nm : Nat → List Nat} (J : RJ b f n cls ρ most x8 x9 x10 t h) (A : NmA h a nm m) (h1 : t.k = 1) : c_D_of h ρ a (ii m) = rI (ii (ofN nm (seg f t.at_ t.p) m 0)) h := by
  have J' := J
  obtain ⟨⟨v, mn, nmv, e, tv⟩, T, S, _, tk, w, _, hc, hmo⟩ := J
  obtain ⟨g, a1, a2, a3⟩ := A
  have ok := (tk.2.1 h1).1
  have en := (tv.1 h1).2
  have key : ∀ (l fu j : Nat), l < fu → j + l = m → Ends (itr (c_D_of_l2) (fun _ _ _ _ _ => none) fu h ρ a (ii m) (ii j)) (fun r h' => r = .inl (some (.int (ii (ofN nm (seg f t.at_ t.p) l j)))) ∧ h' = h) := by
    intro l
    induction l with
    | zero =>
      intro fu j hf hj
      obtain ⟨fu, rfl⟩ : ∃ x, fu = x + 1 := ⟨fu - 1, by omega⟩
      rw [itr_succ]
      unfold c_D_of_l2
      refine q_pos _ (ii_leT (by omega)) ?_
      exact q_rI ⟨rfl, rfl⟩
    | succ l ih =>
      intro fu j hf hj
      obtain ⟨fu, rfl⟩ : ∃ x, fu = x + 1 := ⟨fu - 1, by omega⟩
      rw [itr_succ]
      unfold c_D_of_l2 ofN
      refine q_neg _ (ii_leF (by omega)) ?_
      refine q_ldL a1 (by omega) ?_
      refine q_gL e (clm hc) rfl ?_
      rw [Int.toNat_natCast, (a3 j (by omega)).1, en]
      have b1 := (a3 j (by omega)).2.b256
      have b2 := ok.b256
      by_cases c : nm j = seg f t.at_ t.p
      · rw [if_pos c]
        refine q_pos _ (by rw [lg_cmp_eq, c]) ?_
        exact q_rI ⟨rfl, rfl⟩
      · rw [if_neg c]
        refine q_neg _ (by rw [lg_cmp_eq, ll_eq (by omega)]; exact fun z => c (n256_inj (a3 j (by omega)).2 ok (by omega))) ?_
        rw [add1]
        exact ih fu (j + 1) (by omega) (by omega)
  refine eqI ?_
  unfold c_D_of
  rw [J'.grd (clm hc)]
  exact key m FU 0 (by unfold FU; omega) (by omega)
theorem nmOk_k (h : nmOk f t = true) : t.k = 1 := by
  unfold nmOk at h
  exact (of_decide_eq_true h).1
theorem r_look {a m : Nat} {nm : Nat → List Nat} {P : Option RH} {mm : Int32} {K : Int32 → PH → Option RH} (J : RJ b f n cls ρ most x8 x9 x10 t h) (A : NmA h a nm m) (eP : P = c_D_look h ρ a mm) (em : mm = ii m) (kf1 : nmOk f t = false → ∀ h', TH b h 1 t.at_ h' → Z (.inr (b 2, 0)) h') (kf2 : nmOk f t = true → ofN nm (seg f t.at_ t.p) m 0 = -1 → ∀ h', TH b h 3 t.at_ h' → Z (.inr (b 2, 0)) h') (kk : nmOk f t = true → ∀ r : Nat, ofN nm (seg f t.at_ t.p) m 0 = r → r < m → Ends (K (ii r) h) Z) : Ends (hI P rX K) Z := by
  subst eP em
  refine hI_hI ?_
  unfold c_D_look
  rw [J.grd (clm J.cl)]
  refine q_hIe (p_isName J) ?_
  refine r_must (c := nmOk f t = true) (k := 1) J rfl (bn_dec _) rfl (fun z h' th => Or.inr ⟨_, rfl, kf1 (by rw [Bool.not_eq_true] at z; exact z) h' th⟩) fun z => ?_
  refine q_hIe (p_of J A (nmOk_k z)) ?_
  have hm : m ≤ 4 := A.choose_spec.2.1
  rw [mi1]
  rcases ofN_le (nm := nm) (l := seg f t.at_ t.p) m 0 with c | ⟨r, c1, c2⟩
  · refine q_pos _ (by rw [c]) ?_
    refine r_must (c := False) (k := 3) J rfl rfl rfl (fun _ h' th => Or.inr ⟨_, rfl, kf2 z c h' th⟩) fun z => z.elim
  · refine q_neg _ (by rw [c1]; exact ii_eqF (by omega)) ?_
    refine r_must (c := True) (k := 3) J rfl rfl rfl (fun z => absurd True.intro z) fun _ => ?_
    exact q_rI (Or.inl ⟨_, rfl, by rw [c1]; exact kk z r c1 (by omega)⟩)
theorem r_known {a m : Nat} {nm : Nat → List Nat} {P : Option RH} {mm : Int32} {K : Int32 → PH → Option RH} (J : RJ b f n cls ρ most x8 x9 x10 t h) (A : NmA h a nm m) (eP : P = c_D_known h ρ a mm) (em : mm = ii m) (kf1 : nmOk f t = false → ∀ h', TH b h 1 t.at_ h' → Z (.inr (b 2, 0)) h') (kf2 : nmOk f t = true → ofN nm (seg f t.at_ t.p) m 0 = -1 → ∀ h', TH b h 3 t.at_ h' → Z (.inr (b 2, 0)) h') (kk : nmOk f t = true → ∀ r : Nat, ofN nm (seg f t.at_ t.p) m 0 = r → r < m → ∀ h1, RJ b f n cls ρ most x8 x9 x10 (nx f n most t) h1 → Onl ρ h h1 → Ends (K (ii r) h1) Z) : Ends (hI P rX K) Z := by
  subst eP
  refine hI_hI ?_
  unfold c_D_known
  rw [J.grd (clm J.cl)]
  refine r_look J A rfl em (fun z h' th => Or.inr ⟨_, rfl, kf1 z h' th⟩) (fun z1 z2 h' th => Or.inr ⟨_, rfl, kf2 z1 z2 h' th⟩) fun z r e hr => ?_
  refine r_next J rfl fun h1 J1 o1 => ?_
  exact q_rI (Or.inl ⟨_, rfl, kk z r e hr h1 J1 o1⟩)
end
