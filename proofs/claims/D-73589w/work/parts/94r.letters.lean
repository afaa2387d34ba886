/-! PURE SIDE: the upper level: letters -/
set_option maxRecDepth 100000
/-- a call's beginning and its end -/
def Q0 (q : QP) (N : Nat → Nat) (T : Nat → Bool) : Prop := SR q.own q.B q.h0 q.z q.low q.A q.R N T q.rows q.seed ∧ BC q.h0 q.B q.rm q.z q.n q.fs q.gs ∧ Wf q.h0 ∧ q.h0.2.1.1 + 2 * s11 N + 6300 ≤ q.c ∧ q.h0.2.1.2 + 7 * s11 N + 33600 ≤ q.s
def QE (q : QP) (h : PH) : Prop := ∃ own N T, SR own q.B h q.z q.low q.A q.R N T q.rows q.seed ∧ BC h q.B q.rm q.z q.n q.fs q.gs ∧ GF q.own own q.R q.z q.h0 h ∧ h.2.1.1 + 2 * s11 N ≤ q.c ∧ h.2.1.2 + 7 * s11 N ≤ q.s
def AE (q : QP) (a : Int) : Rt → PH → Prop := fun r h' => ∃ v, r = .inl (some (.int v)) ∧ v = ii a ∧ QE q h'
theorem QI.e {q : QP} {h : PH} (Q : QI q h) : QE q h := by
  obtain ⟨T, own, N, S, C, G, w, z1, z2⟩ := Q
  exact ⟨own, N, T, S, C, G, by omega, by omega⟩
theorem Q0.i {q : QP} {N : Nat → Nat} {T : Nat → Bool} (Q : Q0 q N T) : QI q q.h0 := by
  obtain ⟨S, C, w, z1, z2⟩ := Q
  have := uT_le T
  exact ⟨T, q.own, N, S, C, GF.rf w, w, by omega, by omega⟩
theorem Q0.e {q : QP} {N : Nat → Nat} {T : Nat → Bool} (Q : Q0 q N T) : QE q q.h0 := Q.i.e
theorem Q0.so {q : QP} {N : Nat → Nat} {T : Nat → Bool} {h : PH} {c s : Nat} (Q : Q0 q N T) (hc : c ≤ 6300) (hs : s ≤ 33600) (k : SO q.own q.B q.z q.low q.R N q.h0 q.A q.rows q.seed c s h) : QE q h := by
  obtain ⟨S, C, w, z1, z2⟩ := Q
  obtain ⟨own, N', T', S', G, y1, y2⟩ := k
  exact ⟨own, N', T', S', C.gf S G, G, by omega, by omega⟩
theorem q_ae {q : QP} {h : PH} {v : Int32} {a : Int} (e : v = ii a) (Q : QE q h) : Ends (rI v h) (AE q a) := q_rI ⟨_, rfl, e, Q⟩
theorem AN.ae {q : QP} {a : Int} {P : Option RH} (e : Ends P (AN q a)) : Ends P (AE q a) := e.mono fun _ _ ⟨v, e1, e2, Q⟩ => ⟨v, e1, e2, Q.e⟩
theorem Lt.len {A : Nat → LL} {T : List Nat} (L : Lt A T) : (A 4).flatten.length = T.length := by
  have := L.2.2 0 (by decide)
  rw [this, NB0]
theorem gD_lt {T : List Nat} {i : Nat} (h : i < T.length) : T.getD i 0 = T[i] := by simp [h]
theorem pos_succ {n p : Nat} {T : List Nat} (h : p < T.length) : pos n (p + 1) T = pos n p T + (if inN n T[p] = true then 1 else 0) := by
  unfold pos
  rw [List.take_succ_eq_append_getElem h, List.filter_append, List.length_append]
  by_cases c : inN n T[p] = true
  · rw [if_pos c, List.filter_cons_of_pos c]; rfl
  · rw [if_neg c, List.filter_cons_of_neg c]; rfl
theorem in7 {c x : Nat} : (inN (7 + c) x = true) ↔ x = c := by
  unfold inN
  rw [if_neg (by omega), if_neg (by omega), if_neg (by omega), Nat.add_sub_cancel_left]
  exact beq_iff_eq
def plT (T : List Nat) (c k : Nat) : Nat → Nat → Int
  | 0, _ => -1
  | m + 1, p => if T.getD p 0 = c ∧ pos (7 + c) p T = k then (p : Int) else plT T c k m (p + 1)
theorem plT_spec {T : List Nat} {c k : Nat} : ∀ (m p : Nat), p + m = T.length → pos (7 + c) p T ≤ k → (∃ (J : Nat) (hJ : J < T.length), T[J] = c ∧ pos (7 + c) J T = k ∧ plT T c k m p = J) ∨ (pos (7 + c) T.length T ≤ k ∧ plT T c k m p = -1) := by
  intro m
  induction m with
  | zero =>
    intro p hp hk
    have : p = T.length := by omega
    subst this
    exact Or.inr ⟨hk, rfl⟩
  | succ m ih =>
    intro p hp hk
    have hpl : p < T.length := by omega
    have ps := pos_succ (n := 7 + c) hpl
    unfold plT
    by_cases c1 : T.getD p 0 = c ∧ pos (7 + c) p T = k
    · rw [if_pos c1]
      exact Or.inl ⟨p, hpl, by rw [← gD_lt hpl]; exact c1.1, c1.2, rfl⟩
    · rw [if_neg c1]
      refine ih (p + 1) (by omega) ?_
      by_cases c2 : inN (7 + c) T[p] = true
      · rw [if_pos c2] at ps
        have : T.getD p 0 = c := by rw [gD_lt hpl]; exact in7.1 c2
        have : pos (7 + c) p T ≠ k := fun e => c1 ⟨this, e⟩
        omega
      · rw [if_neg c2] at ps
        omega
def lsn (U : List Nat) (c : Nat) : Nat := (U.filter fun x => decide (x < c)).length
theorem lsn_succ {U : List Nat} {c : Nat} : lsn U (c + 1) = lsn U c + (U.filter fun x => x == c).length := by
  unfold lsn
  induction U with
  | nil => rfl
  | cons x t ih =>
    by_cases c1 : x < c
    · have h1 : decide (x < c + 1) = true := decide_eq_true (by omega)
      have h2 : decide (x < c) = true := decide_eq_true c1
      have h3 : (x == c) = false := by rw [beq_eq_false_iff_ne]; omega
      rw [List.filter_cons_of_pos (p := fun x => decide (x < c + 1)) h1, List.filter_cons_of_pos (p := fun x => decide (x < c)) h2, List.filter_cons_of_neg (p := fun x => x == c) (by rw [h3]; decide), List.length_cons, List.length_cons]
      omega
    · have h2 : ¬ decide (x < c) = true := by rw [decide_eq_true_eq]; exact c1
      by_cases c2 : x = c
      · have h1 : decide (x < c + 1) = true := decide_eq_true (by omega)
        have h3 : (x == c) = true := by rw [c2]; exact beq_self_eq_true c
        rw [List.filter_cons_of_pos (p := fun x => decide (x < c + 1)) h1, List.filter_cons_of_neg (p := fun x => decide (x < c)) h2, List.filter_cons_of_pos (p := fun x => x == c) h3, List.length_cons, List.length_cons]
        omega
      · have h1 : ¬ decide (x < c + 1) = true := by rw [decide_eq_true_eq]; omega
        have h3 : (x == c) = false := by rw [beq_eq_false_iff_ne]; exact c2
        rw [List.filter_cons_of_neg (p := fun x => decide (x < c + 1)) h1, List.filter_cons_of_neg (p := fun x => decide (x < c)) h2, List.filter_cons_of_neg (p := fun x => x == c) (by rw [h3]; decide)]
        exact ih
theorem lsn_le {U : List Nat} {c : Nat} : lsn U c ≤ U.length := List.length_filter_le _ _
theorem lsn_mono {U : List Nat} {a b : Nat} (h : a ≤ b) : lsn U a ≤ lsn U b := by
  induction b with
  | zero => have : a = 0 := by omega
            rw [this]; exact Nat.le_refl _
  | succ b ih =>
    by_cases c : a = b + 1
    · rw [c]; exact Nat.le_refl _
    · have := ih (by omega)
      rw [lsn_succ]
      omega
def lst (U : List Nat) (k : Nat) : Nat → Nat → Int
  | 0, _ => -1
  | m + 1, c => if k < lsn U (c + 1) then (c : Int) else lst U k m (c + 1)
theorem lst_at {U : List Nat} {k c : Nat} (h1 : lsn U c ≤ k) (h2 : k < lsn U (c + 1)) : ∀ (m d : Nat), d ≤ c → c < d + m → lst U k m d = c := by
  intro m
  induction m with
  | zero => intro d h3 h4; omega
  | succ m ih =>
    intro d h3 h4
    unfold lst
    by_cases e : d = c
    · subst e
      rw [if_pos h2]
    · have := lsn_mono (U := U) (a := d + 1) (b := c) (by omega)
      rw [if_neg (by omega)]
      exact ih (d + 1) (by omega) (by omega)
theorem lst_no {U : List Nat} {k : Nat} (h : U.length ≤ k) : ∀ (m d : Nat), lst U k m d = -1 := by
  intro m
  induction m with
  | zero => intro d; rfl
  | succ m ih =>
    intro d
    unfold lst
    have := lsn_le (U := U) (c := d + 1)
    rw [if_neg (by omega)]
    exact ih _
def letterA (T : List Nat) (x : Int) : Int := if 0 ≤ x ∧ x < T.length then (T.getD x.toNat 0 : Int) else -1
def countA (T : List Nat) (x y : Int) : Int := if (0 ≤ x ∧ x ≤ 7) ∧ 0 ≤ y ∧ y ≤ T.length then (pos (7 + x.toNat) y.toNat T : Int) else -1
def placeA (T : List Nat) (x y : Int) : Int := if (0 ≤ x ∧ x ≤ 7) ∧ 0 ≤ y then plT T x.toNat y.toNat T.length 0 else -1
def leastA (T : List Nat) (x y z : Int) : Int := if 0 ≤ x ∧ y ≤ T.length ∧ 0 ≤ z then lst ((T.take y.toNat).drop x.toNat) z.toNat 8 0 else -1
def nodeA (T : List Nat) (x y : Int) : Int := if (0 ≤ x ∧ x ≤ 6) ∧ 0 ≤ y ∧ y < (NB T x.toNat).length then bn (gb (NB T x.toNat) y.toNat) else -1
section
variable {q : QP} {N : Nat → Nat} {Tb : Nat → Bool} {T : List Nat}
theorem q_now {K : Nat → Option RH} {Z : Rt → PH → Prop} (Q : Q0 q N Tb) (k : Ends (K q.z) Z) : Ends (gQ q.h0 q.B [0] 7 fun v => nn v K) Z := by
  obtain ⟨e, e6, e7, _⟩ := Q.2.1
  refine q_gQr e (by decide) e7 ?_
  exact q_nn k
theorem q_typed {K : Int32 → PH → Option RH} {Z : Rt → PH → Prop} (Q : Q0 q N Tb) (L : Lt q.A T) (k : Ends (K (ii T.length) q.h0) Z) : Ends (hI (c_S_typed q.h0 q.z) noX K) Z := by
  have e := z_typed Q.1
  rw [L.len] at e
  exact q_hIe e k
theorem b_letters (Q : Q0 q N Tb) (L : Lt q.A T) : Ends (c_B_letters q.h0 q.B) (AE q T.length) := by
  unfold c_B_letters
  refine q_grd Q.2.1.1 (by decide) ?_
  refine q_now Q ?_
  refine q_typed Q L ?_
  exact q_ae rfl Q.e
theorem b_letter {x : Int} (Q : Q0 q N Tb) (L : Lt q.A T) (hx : -2147483648 ≤ x ∧ x < 2147483648) : Ends (c_B_letter q.h0 q.B (ii x)) (AE q (letterA T x)) := by
  unfold c_B_letter letterA
  have hT := L.1
  refine q_grd Q.2.1.1 (by decide) ?_
  refine q_now Q ?_
  refine q_typed Q L ?_
  refine q_in (a := 0) (b := (T.length : Int) - 1) rfl sub1 (by omega) (fun c => ?_) fun c => ?_
  · rw [if_neg (by omega)]
    exact q_ae rfl Q.e
  · rw [if_pos (by omega)]
    refine q_now Q ?_
    obtain ⟨i, rfl⟩ : ∃ k : Nat, x = k := ⟨x.toNat, by omega⟩
    refine q_hI (z_letterAt (i := i) (by omega) L Q.1 Q.2.2.1) fun v h' ⟨e, S⟩ => ?_
    exact q_ae (by rw [e, Int.toNat_natCast, gD_lt (by omega)]) (Q.so (by omega) (by omega) S)
theorem b_isLN {h : PH} {x : Int} (hx : -2147483648 ≤ x ∧ x < 2147483648) : c_B_isLetterNumber h (ii x) = rI (ii (bn (decide (0 ≤ x ∧ x ≤ 7)))) h := by
  refine eqI ?_
  unfold c_B_isLetterNumber
  rw [il_0, il_7]
  refine q_hIe (b_isIn (by omega)) ?_
  cases decide (0 ≤ x ∧ x ≤ 7)
  · exact q_rZ0 ⟨rfl, rfl⟩
  · exact q_rZ1 ⟨rfl, rfl⟩
theorem q_ln {h : PH} {x : Int} {Z : Rt → PH → Prop} {P1 P2 : PH → Option RH} {I : ∀ v : Int32, Decidable (v = 0)} (hx : -2147483648 ≤ x ∧ x < 2147483648) (k0 : ¬ (0 ≤ x ∧ x ≤ 7) → Ends (P1 h) Z) (k1 : ∀ c : Nat, x = c → c < 8 → Ends (P2 h) Z) : Ends (hI (c_B_isLetterNumber h (ii x)) noX fun v h1 => @ite _ (v = 0) (I v) (P1 h1) (P2 h1)) Z := by
  refine q_hIe (b_isLN hx) ?_
  by_cases c : 0 ≤ x ∧ x ≤ 7
  · rw [decide_eq_true c]
    refine q_neg _ bn1_ne ?_
    exact k1 x.toNat (by omega) (by omega)
  · rw [decide_eq_false c]
    exact q_pos _ rfl (k0 c)
theorem b_count {x y : Int} (Q : Q0 q N Tb) (L : Lt q.A T) (hx : -2147483648 ≤ x ∧ x < 2147483648) (hy : -2147483648 ≤ y ∧ y < 2147483648) : Ends (c_B_count q.h0 q.B (ii x) (ii y)) (AE q (countA T x y)) := by
  unfold c_B_count countA
  have hT := L.1
  refine q_grd Q.2.1.1 (by decide) ?_
  refine q_ln hx (fun c => ?_) fun c e hc => ?_
  · rw [if_neg (by omega)]
    exact q_ae rfl Q.e
  · subst e
    refine q_now Q ?_
    refine q_typed Q L ?_
    refine q_in (a := 0) (b := (T.length : Int)) rfl rfl (by omega) (fun c => ?_) fun c1 => ?_
    · rw [if_neg (by omega)]
      exact q_ae rfl Q.e
    · rw [if_pos (by omega)]
      refine q_now Q ?_
      obtain ⟨i, rfl⟩ : ∃ k : Nat, y = k := ⟨y.toNat, by omega⟩
      refine q_hI (z_ahead (i := i) (c := c) (by omega) hc L Q.1 Q.2.2.1) fun v h' ⟨e, S⟩ => ?_
      exact q_ae (by rw [e, Int.toNat_natCast, Int.toNat_natCast]) (Q.so (by omega) (by omega) S)
theorem z_place_neg {c : Nat} {k : Int} (hc : c < 8) (hk : -2147483648 ≤ k ∧ k < 0) (Q : Q0 q N Tb) : c_S_placeOf q.h0 q.z (ii c) (ii k) = rI (-1 : Int32) q.h0 := by
  refine eqI ?_
  unfold c_S_placeOf
  refine Q.1.grd ?_
  refine q_pos _ (ii_ltT (b := 0) (by omega)) ?_
  exact q_rI ⟨rfl, rfl⟩
theorem b_place {x y : Int} (Q : Q0 q N Tb) (L : Lt q.A T) (hx : -2147483648 ≤ x ∧ x < 2147483648) (hy : -2147483648 ≤ y ∧ y < 2147483648) : Ends (c_B_place q.h0 q.B (ii x) (ii y)) (AE q (placeA T x y)) := by
  unfold c_B_place placeA
  refine q_grd Q.2.1.1 (by decide) ?_
  refine q_ln hx (fun c => ?_) fun c e hc => ?_
  · rw [if_neg (by omega)]
    exact q_ae rfl Q.e
  · subst e
    refine q_now Q ?_
    by_cases c1 : y < 0
    · rw [if_neg (by omega)]
      refine q_hIe (z_place_neg hc (by omega) Q) ?_
      exact q_ae rfl Q.e
    · rw [if_pos (by omega)]
      obtain ⟨k, rfl⟩ : ∃ k : Nat, y = k := ⟨y.toNat, by omega⟩
      rw [Int.toNat_natCast, Int.toNat_natCast]
      rcases plT_spec (T := T) (c := c) (k := k) T.length 0 (by omega) (by unfold pos; rw [List.take_zero]; exact Nat.zero_le _) with ⟨J, hJ, e1, e2, e3⟩ | ⟨e1, e2⟩
      · rw [e3]
        have g := z_place_at hc hJ e1 L Q.1 Q.2.2.1
        rw [e2] at g
        refine q_hI g fun v h' ⟨e, S⟩ => ?_
        exact q_ae e (Q.so (by omega) (by omega) S)
      · rw [e2]
        refine q_hI (z_place_none hc (by omega) e1 L Q.1 Q.2.2.1) fun v h' ⟨e, S⟩ => ?_
        exact q_ae e (Q.so (by omega) (by omega) S)
theorem b_least {x y z : Int} (Q : Q0 q N Tb) (L : Lt q.A T) (hx : -2147483648 ≤ x ∧ x < 2147483648) (hy : -2147483648 ≤ y ∧ y < 2147483648) (hz : -2147483648 ≤ z ∧ z < 2147483648) : Ends (c_B_least q.h0 q.B (ii x) (ii y) (ii z)) (AE q (leastA T x y z)) := by
  unfold c_B_least leastA
  have hT := L.1
  refine q_grd Q.2.1.1 (by decide) ?_
  by_cases c1 : x < 0
  · refine q_pos _ (ii_ltT (b := 0) (by omega)) ?_
    rw [if_neg (by omega)]
    exact q_ae rfl Q.e
  refine q_neg _ (ii_ltF (b := 0) (by omega)) ?_
  refine q_now Q ?_
  refine q_typed Q L ?_
  by_cases c2 : (T.length : Int) < y
  · refine q_pos _ (ii_ltT (by omega)) ?_
    rw [if_neg (by omega)]
    exact q_ae rfl Q.e
  refine q_neg _ (ii_ltF (by omega)) ?_
  have ul : ((T.take y.toNat).drop x.toNat).length ≤ y.toNat - x.toNat := by
    rw [List.length_drop, List.length_take]
    omega
  have no : (y.toNat - x.toNat ≤ z.toNat ∨ z < 0) → (if 0 ≤ x ∧ y ≤ T.length ∧ 0 ≤ z then lst ((T.take y.toNat).drop x.toNat) z.toNat 8 0 else -1) = -1 := by
    intro g
    by_cases c : 0 ≤ x ∧ y ≤ T.length ∧ 0 ≤ z
    · rw [if_pos c]
      exact lst_no (by omega) _ _
    · rw [if_neg c]
  by_cases c3 : y ≤ x
  · refine q_pos _ (ii_leT (by omega)) ?_
    rw [no (by omega)]
    exact q_ae rfl Q.e
  refine q_neg _ (ii_leF (by omega)) ?_
  rw [ii_sub, sub1]
  refine q_in (a := 0) (b := y - x - 1) rfl rfl (by omega) (fun c => ?_) fun c => ?_
  · rw [no (by omega)]
    exact q_ae rfl Q.e
  · rw [if_pos (by omega)]
    refine q_now Q ?_
    obtain ⟨i, rfl⟩ : ∃ k : Nat, x = k := ⟨x.toNat, by omega⟩
    obtain ⟨j, rfl⟩ : ∃ k : Nat, y = k := ⟨y.toNat, by omega⟩
    obtain ⟨k, rfl⟩ : ∃ k : Nat, z = k := ⟨z.toNat, by omega⟩
    refine q_hI (z_least (i := i) (j := j) (k := k) (by omega) (by omega) (by omega) L Q.1 Q.2.2.1) fun v h' ⟨c, e, e1, e2, e3, S⟩ => ?_
    refine q_ae ?_ (Q.so (by omega) (by omega) S)
    rw [e, Int.toNat_natCast, Int.toNat_natCast, Int.toNat_natCast, lst_at (c := c) e2 (by rw [lsn_succ]; exact e3) 8 0 (by omega) (by omega)]
theorem b_node {x y : Int} (Q : Q0 q N Tb) (L : Lt q.A T) (hx : -2147483648 ≤ x ∧ x < 2147483648) (hy : -2147483648 ≤ y ∧ y < 2147483648) : Ends (c_B_node q.h0 q.B (ii x) (ii y)) (AE q (nodeA T x y)) := by
  unfold c_B_node nodeA
  refine q_grd Q.2.1.1 (by decide) ?_
  refine q_in (a := 0) (b := 6) rfl rfl (by omega) (fun c => ?_) fun c => ?_
  · rw [if_neg (by omega)]
    exact q_ae rfl Q.e
  · obtain ⟨n, rfl⟩ : ∃ k : Nat, x = k := ⟨x.toNat, by omega⟩
    rw [Int.toNat_natCast]
    have hn : n < 7 := by omega
    have P := Q.1.2.1 (4 + n) (by omega)
    have en := L.2.2 n hn
    have hb := P.bnd
    rw [en] at hb
    refine q_now Q ?_
    refine q_nd Q.1 hn ?_
    have w := p_wide P
    rw [en] at w
    refine q_hIe w ?_
    refine q_in (a := 0) (b := ((NB T n).length : Int) - 1) rfl sub1 (by omega) (fun c => ?_) fun c => ?_
    · rw [if_neg (by omega)]
      exact q_ae rfl Q.e
    · rw [if_pos (by omega)]
      refine q_now Q ?_
      refine q_nd Q.1 hn ?_
      obtain ⟨i, rfl⟩ : ∃ k : Nat, y = k := ⟨y.toNat, by omega⟩
      refine q_hI (p_get (i := i) P Q.2.2.1 (by rw [en]; omega)) fun v h' ⟨f1, f2, f3, f4⟩ => ?_
      rw [en] at f1
      exact q_ae (by rw [f1, Int.toNat_natCast]) (Q.so (c := 0) (s := 0) (by omega) (by omega) (SO.read Q.1 Q.2.2.1 (by omega) f2 f3 f4))
end
/-- letters as the model has them -/
def QT (ms : MS) (T : List Nat) : Prop := ms.1 14 2615 = ii T.length ∧ (∀ i, i < 200 → ms.1 14 (2616 + i) = ii (T.getD i 0 : Nat)) ∧ T.length ≤ 200 ∧ L8 T
section
variable {ms : MS} {T : List Nat} {Z : Option Value → MS → Prop}
theorem QT.thr (M : QT ms T) {k : Nat} {v : Int32} (hk : k ≠ 14 := by decide) : QT (mset ms k 0 v) T := by
  have e : (mset ms k 0 v).1 14 = ms.1 14 := ms_nk (Ne.symm hk)
  unfold QT
  rw [e]
  exact M
theorem d_tl {K : Int32 → Option DR} (M : QT ms T) (k : DE (K (ii T.length)) Z) : DE (eA ms 14 (2615 : Int32) K) Z := by
  rw [il_2615]
  exact d_eA (N := 6062) rfl (n := 2615) (by omega) M.1 k
theorem d_ta {K : Int32 → Option DR} {i : Nat} (M : QT ms T) (hi : i < T.length) (k : DE (K (ii T[i])) Z) : DE (eA ms 14 ((2616 : Int32) + ii i) K) Z := by
  have hT := M.2.2.1
  rw [il_2616, ii_add]
  refine d_eA (N := 6062) rfl (n := 2616 + i) (by omega) (M.2.1 i (by omega)) ?_
  rw [gD_lt hi]
  exact k
theorem m_letters (M : QT ms T) : d_M_letters ms = dI (ii T.length) (mset ms 0 0 0) := by
  refine dEqI ?_
  unfold d_M_letters
  refine d_nm ?_
  refine d_tl (M.thr (k := 0) (v := 0)) ?_
  exact d_an rfl
theorem m_letter {x : Int} (M : QT ms T) (hx : -2147483648 ≤ x ∧ x < 2147483648) : d_M_letter ms (ii x) = dI (ii (letterA T x)) (mset ms 0 0 0) := by
  refine dEqI ?_
  unfold d_M_letter letterA
  refine d_nm ?_
  have M' := M.thr (k := 0) (v := 0)
  have hT := M.2.2.1
  have il : d_M_isLetterAt (mset ms 0 0 0) (ii x) = dI (ii (bn (decide (0 ≤ x ∧ x ≤ (T.length : Int) - 1)))) (mset ms 0 0 0) := by
    refine dEqI ?_
    unfold d_M_isLetterAt
    refine d_tl M' ?_
    rw [il_0, sub1]
    refine d_isIn (by omega) ?_
    cases decide (0 ≤ x ∧ x ≤ (T.length : Int) - 1)
    · exact d_dZ0 ⟨rfl, rfl⟩
    · exact d_dZ1 ⟨rfl, rfl⟩
  refine d_bIe il ?_
  by_cases c : 0 ≤ x ∧ x ≤ (T.length : Int) - 1
  · rw [decide_eq_true c]
    refine d_neg _ bn1_ne ?_
    rw [if_pos (show 0 ≤ x ∧ x < (T.length : Int) by omega)]
    obtain ⟨i, rfl⟩ : ∃ k : Nat, x = k := ⟨x.toNat, by omega⟩
    refine d_ta M' (i := i) (by omega) ?_
    exact d_an (by rw [Int.toNat_natCast, gD_lt (by omega)])
  · rw [decide_eq_false c]
    refine d_pos _ rfl ?_
    rw [if_neg (show ¬ (0 ≤ x ∧ x < (T.length : Int)) by omega)]
    exact d_an rfl
theorem m_count_l38 {c j : Nat} (M : QT ms T) (hc : c < 8) (hj : j ≤ T.length) : ∀ (m fu p : Nat), m < fu → p + m = j → DE (itr (d_M_count_l38) (fun _ _ _ _ _ => none) fu ms (ii c) (ii j) (ii (pos (7 + c) p T)) (ii p)) (DA ms (pos (7 + c) j T : Int)) := by
  have hT := M.2.2.1
  intro m
  induction m with
  | zero =>
    intro fu p hf hp
    obtain ⟨fu, rfl⟩ : ∃ x, fu = x + 1 := ⟨fu - 1, by omega⟩
    rw [itr_succ]
    unfold d_M_count_l38
    refine d_pos _ (ii_leT (by omega)) ?_
    have : p = j := by omega
    subst this
    exact d_an rfl
  | succ m ih =>
    intro fu p hf hp
    obtain ⟨fu, rfl⟩ : ∃ x, fu = x + 1 := ⟨fu - 1, by omega⟩
    have hpl : p < T.length := by omega
    have h8 := M.2.2.2 T[p] (List.getElem_mem hpl)
    have ps := pos_succ (n := 7 + c) hpl
    have k := ih fu (p + 1) (by omega) (by omega)
    rw [itr_succ]
    unfold d_M_count_l38
    refine d_neg _ (ii_leF (by omega)) ?_
    refine d_ta M hpl ?_
    by_cases c1 : T[p] = c
    · refine d_pos _ (by rw [c1]) ?_
      rw [if_pos (in7.2 c1)] at ps
      rw [add1, add1]
      rw [ps] at k
      exact k
    · refine d_neg _ (ii_eqF (by omega)) ?_
      rw [if_neg (fun z => c1 (in7.1 z))] at ps
      rw [add1]
      rw [ps] at k
      exact k
theorem m_count {x y : Int} (M : QT ms T) (hx : -2147483648 ≤ x ∧ x < 2147483648) (hy : -2147483648 ≤ y ∧ y < 2147483648) : d_M_count ms (ii x) (ii y) = dI (ii (countA T x y)) (mset ms 0 0 0) := by
  refine dEqI ?_
  unfold d_M_count countA
  refine d_nm ?_
  have M' := M.thr (k := 0) (v := 0)
  have hT := M.2.2.1
  refine d_in (a := 0) (b := 7) rfl rfl (by omega) (fun c => ?_) fun c => ?_
  · rw [if_neg (by omega)]; exact d_an rfl
  refine d_tl M' ?_
  refine d_in (a := 0) (b := (T.length : Int)) rfl rfl (by omega) (fun c => ?_) fun c1 => ?_
  · rw [if_neg (by omega)]; exact d_an rfl
  rw [if_pos (by omega)]
  obtain ⟨i, rfl⟩ : ∃ k : Nat, x = k := ⟨x.toNat, by omega⟩
  obtain ⟨j, rfl⟩ : ∃ k : Nat, y = k := ⟨y.toNat, by omega⟩
  rw [Int.toNat_natCast, Int.toNat_natCast]
  have k := m_count_l38 (c := i) (j := j) M' (by omega) (by omega) j FU 0 (by unfold FU; omega) (by omega)
  exact k
theorem m_place_l26 {c kk : Nat} (M : QT ms T) (hc : c < 8) (hk : kk < 2147483648) : ∀ (m fu p : Nat), m < fu → p + m = T.length → DE (itr (d_M_place_l26) (fun _ _ _ _ _ => none) fu ms (ii c) (ii kk) (ii (pos (7 + c) p T)) (ii p)) (DA ms (plT T c kk m p)) := by
  have hT := M.2.2.1
  intro m
  induction m with
  | zero =>
    intro fu p hf hp
    obtain ⟨fu, rfl⟩ : ∃ x, fu = x + 1 := ⟨fu - 1, by omega⟩
    rw [itr_succ]
    unfold d_M_place_l26
    refine d_tl M ?_
    refine d_pos _ (ii_leT (by omega)) ?_
    exact d_an rfl
  | succ m ih =>
    intro fu p hf hp
    obtain ⟨fu, rfl⟩ : ∃ x, fu = x + 1 := ⟨fu - 1, by omega⟩
    have hpl : p < T.length := by omega
    have h8 := M.2.2.2 T[p] (List.getElem_mem hpl)
    have ps := pos_succ (n := 7 + c) hpl
    have pb := pos_bd (T := T) (n := 7 + c) (i := p)
    have k := ih fu (p + 1) (by omega) (by omega)
    rw [itr_succ]
    unfold d_M_place_l26
    refine d_tl M ?_
    refine d_neg _ (ii_leF (by omega)) ?_
    refine d_ta M hpl ?_
    unfold plT
    rw [gD_lt hpl]
    by_cases c1 : T[p] = c
    · refine d_pos _ (by rw [c1]) ?_
      rw [if_pos (in7.2 c1)] at ps
      by_cases c2 : pos (7 + c) p T = kk
      · refine d_pos _ (by rw [c2]) ?_
        rw [if_pos ⟨c1, c2⟩]
        exact d_an rfl
      · refine d_neg _ (ii_eqF (by omega)) ?_
        rw [if_neg (fun z => c2 z.2), add1, add1]
        rw [ps] at k
        exact k
    · refine d_neg _ (ii_eqF (by omega)) ?_
      rw [if_neg (fun z => c1 (in7.1 z))] at ps
      rw [if_neg (fun z => c1 z.1), add1]
      rw [ps] at k
      exact k
theorem m_place {x y : Int} (M : QT ms T) (hx : -2147483648 ≤ x ∧ x < 2147483648) (hy : -2147483648 ≤ y ∧ y < 2147483648) : d_M_place ms (ii x) (ii y) = dI (ii (placeA T x y)) (mset ms 0 0 0) := by
  refine dEqI ?_
  unfold d_M_place placeA
  refine d_nm ?_
  have M' := M.thr (k := 0) (v := 0)
  have hT := M.2.2.1
  refine d_in (a := 0) (b := 7) rfl rfl (by omega) (fun c => ?_) fun c => ?_
  · rw [if_neg (by omega)]; exact d_an rfl
  by_cases c1 : 0 ≤ y
  · refine d_pos _ (ii_leT (a := 0) (by omega)) ?_
    rw [if_pos (by omega)]
    obtain ⟨i, rfl⟩ : ∃ k : Nat, x = k := ⟨x.toNat, by omega⟩
    obtain ⟨j, rfl⟩ : ∃ k : Nat, y = k := ⟨y.toNat, by omega⟩
    rw [Int.toNat_natCast, Int.toNat_natCast]
    exact m_place_l26 (c := i) (kk := j) M' (by omega) (by omega) T.length FU 0 (by unfold FU; omega) (by omega)
  · refine d_neg _ (ii_leF (a := 0) (by omega)) ?_
    rw [if_neg (by omega)]; exact d_an rfl
end
