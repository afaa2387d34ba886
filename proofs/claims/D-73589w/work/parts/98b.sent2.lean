/-! PURE SIDE: sentences: the component: the two loops -/
set_option maxRecDepth 100000
/-- all cells but the reader's stay -/
def KF (b : Nat → Nat) (h h' : PH) : Prop := h'.2.2 = h.2.2 ∧ h.2.1.1 ≤ h'.2.1.1 ∧ h.2.1.2 ≤ h'.2.1.2 ∧ ∀ x c, h.1 x = some c → x ≠ b 7 → h'.1 x = some c
/-- a one as an object -/
def NC (h : PH) (ad : Nat → Nat) (x : Nat × Nat × Nat × Nat) (a : Nat) : Prop := (x.1 = 1 ∧ h.1 a = some (.inr (13, [.ref (ad x.2.1)]))) ∨ (x.1 = 2 ∧ h.1 a = some (.inr (16, [.ref (ad x.2.1), .ref (ad x.2.2.1)]))) ∨ (x.1 = 3 ∧ h.1 a = some (.inr (17, [.ref (ad x.2.1), .ref (ad x.2.2.1)]))) ∨ (∃ (w : Nat) (y : Int), w < 4 ∧ x.1 = 64 + w ∧ h.1 a = some (.inr (14, [.int (ii w), .int (ii y)])) ∧ (2 ≤ w → y = x.2.1)) ∨ (∃ w : Nat, w < 5 ∧ x.1 = 68 + w ∧ h.1 a = some (.inr (15, [.int (ii w), .int (ii x.2.2.2), .int (ii x.2.2.1)])))
def CT (lo : Nat) (h : PH) (ad : Nat → Nat) (s : SyT) : Prop := ∀ k, k < s.c → lo ≤ ad k ∧ NC h ad (s.1 k) (ad k)
abbrev JS (b : Nat → Nat) (f : Nat → Nat) (n q : Nat) (t : Tk) (h : PH) : Prop := RJ b f n 7 (b 7) 200 (.ref (b 14)) (.ref (b 15)) (ii q) t h
def SyI (b : Nat → Nat) (f : Nat → Nat) (n m : Nat) (h0 : PH) (ad : Nat → Nat) (s : SyT) (t : Tk) (h : PH) : Prop := JS b f n s.q t h ∧ CT h0.2.1.1 h ad s ∧ KF b h0 h ∧ TOk m s
/-- what is read well leaves -/
def SyQ (b : Nat → Nat) (f : Nat → Nat) (n m : Nat) (h0 : PH) (C S : Nat) (h : PH) (s : SyT) (ad : Nat → Nat) (s' : SyT) (t' : Tk) (ad' : Nat → Nat) (h' : PH) : Prop := SyI b f n m h0 ad' s' t' h' ∧ KF b h h' ∧ (∀ k, k < s.c → ad' k = ad k) ∧ (∀ k, s.c ≤ k → k < s'.c → h.2.1.1 ≤ ad' k) ∧ (h'.2.1.1 + 1 ≤ C + 2 * s'.q ∧ h'.2.1.2 + 3 ≤ S + 6 * s'.q) ∧ SyM m s s'
/-- a fault leaves -/
def SyE (b : Nat → Nat) (f : Nat → Nat) (n : Nat) (C S : Nat) (h : PH) (k pl : Nat) (h' : PH) : Prop := ∃ q t h1, q ≤ 20 ∧ JS b f n q t h1 ∧ KF b h h1 ∧ h1.2.1.1 ≤ C + 2 * q ∧ h1.2.1.2 ≤ S + 6 * q ∧ TH b h1 k pl h'
def SyP (b : Nat → Nat) (f : Nat → Nat) (n m : Nat) (h0 : PH) (C S : Nat) (one : SyT → Tk → SyR) (P : PH → Option RH) : Prop := ∀ (s : SyT) (t : Tk) (h : PH) (ad : Nat → Nat) (Z : Rt → PH → Prop), s.q ≤ 20 → SyI b f n m h0 ad s t h → h.2.1.1 ≤ C + 2 * s.q → h.2.1.2 ≤ S + 6 * s.q → (∀ k pl, one s t = .inl (k, pl) → ∀ h', SyE b f n C S h k pl h' → Z (.inr (b 2, 0)) h') → (∀ s' t', one s t = .inr (s', t') → ∀ ad' h', SyQ b f n m h0 C S h s ad s' t' ad' h' → Z (.inl (some (va_rf (some (ad' (s'.c - 1)))))) h') → Ends (P h) Z
section
variable {b : Nat → Nat} {f : Nat → Nat} {n m C S lo a : Nat} {h h0 h1 h2 h' : PH} {ad ad' : Nat → Nat} {s s' s2 : SyT} {t t' : Tk} {Z : Rt → PH → Prop} {x : Nat × Nat × Nat × Nat}
theorem KF.rf : KF b h h := ⟨rfl, Nat.le_refl _, Nat.le_refl _, fun _ _ e _ => e⟩
theorem KF.trans (o : KF b h h1) (k : KF b h1 h2) : KF b h h2 := ⟨k.1.trans o.1, Nat.le_trans o.2.1 k.2.1, Nat.le_trans o.2.2.1 k.2.2.1, fun x c e q => k.2.2.2 x c (o.2.2.2 x c e q) q⟩
theorem KF.onl (o : Onl (b 7) h h1) : KF b h h1 := ⟨by rw [o.1], by rw [o.1]; exact Nat.le_refl _, by rw [o.1]; exact Nat.le_refl _, fun x c e q => by rw [o.2.1 x q]; exact e⟩
theorem KF.new {k : Nat} {c : PC} (w : Wf h) : KF b h (hnew h k c) := ⟨rfl, Nat.le_succ _, Nat.le_add_right _ _, fun _ _ e _ => new_old w e⟩
theorem KF.set {c : PC} (K : KF b h h1) (w : Wf h) (ha : h.2.1.1 ≤ a) : KF b h (hset h1 a c) := ⟨K.1, K.2.1, K.2.2.1, fun x c e q => up_nx (fun y => by have := w.lt e; omega) (K.2.2.2 x c e q)⟩
theorem NC.hp (N : NC h ad x a) (o : ∀ c, h.1 a = some c → h'.1 a = some c) : NC h' ad x a := by
  rcases N with ⟨q1, q2⟩ | ⟨q1, q2⟩ | ⟨q1, q2⟩ | ⟨w, y, q1, q2, q3, q4⟩ | ⟨w, q1, q2, q3⟩
  · exact Or.inl ⟨q1, o _ q2⟩
  · exact Or.inr (Or.inl ⟨q1, o _ q2⟩)
  · exact Or.inr (Or.inr (Or.inl ⟨q1, o _ q2⟩))
  · exact Or.inr (Or.inr (Or.inr (Or.inl ⟨w, y, q1, q2, o _ q3, q4⟩)))
  · exact Or.inr (Or.inr (Or.inr (Or.inr ⟨w, q1, q2, o _ q3⟩)))
theorem NC.adr (N : NC h ad x a) (o1 : x.1 = 1 → ad' x.2.1 = ad x.2.1) (o2 : x.1 = 2 ∨ x.1 = 3 → ad' x.2.1 = ad x.2.1 ∧ ad' x.2.2.1 = ad x.2.2.1) : NC h ad' x a := by
  rcases N with ⟨q1, q2⟩ | ⟨q1, q2⟩ | ⟨q1, q2⟩ | q | q
  · exact Or.inl ⟨q1, by rw [o1 q1]; exact q2⟩
  · exact Or.inr (Or.inl ⟨q1, by rw [(o2 (Or.inl q1)).1, (o2 (Or.inl q1)).2]; exact q2⟩)
  · exact Or.inr (Or.inr (Or.inl ⟨q1, by rw [(o2 (Or.inr q1)).1, (o2 (Or.inr q1)).2]; exact q2⟩))
  · exact Or.inr (Or.inr (Or.inr (Or.inl q)))
  · exact Or.inr (Or.inr (Or.inr (Or.inr q)))
theorem NC.ex (N : NC h ad x a) : ∃ c, h.1 a = some c := by
  rcases N with ⟨_, q⟩ | ⟨_, q⟩ | ⟨_, q⟩ | ⟨_, _, _, _, q, _⟩ | ⟨_, _, _, q⟩
  · exact ⟨_, q⟩
  · exact ⟨_, q⟩
  · exact ⟨_, q⟩
  · exact ⟨_, q⟩
  · exact ⟨_, q⟩
theorem CT.hp (T : CT lo h ad s) (o : ∀ x c, lo ≤ x → h.1 x = some c → (∃ k, k < s.c ∧ x = ad k) → h'.1 x = some c) : CT lo h' ad s := fun k hk => ⟨(T k hk).1, (T k hk).2.hp fun c e => o _ c (T k hk).1 e ⟨k, hk, rfl⟩⟩
theorem CT.put (T : CT lo h ad s) (T2 : TOk m s) (ha : lo ≤ a) (N : NC h ad x a) (o1 : x.1 = 1 → x.2.1 < s.c) (o2 : x.1 = 2 ∨ x.1 = 3 → x.2.1 < s.c ∧ x.2.2.1 < s.c) : CT lo h (va_up ad s.c a) (syPut s x) := fun k hk => by
  have hk : k < s.c + 1 := hk
  by_cases c : k = s.c
  · subst c
    have e : (syPut s x).1 s.c = x := up_at
    rw [e, up_at]
    exact ⟨ha, N.adr (fun q => va_up_ne _ _ (Nat.ne_of_lt (o1 q))) (fun q => ⟨va_up_ne _ _ (Nat.ne_of_lt (o2 q).1), va_up_ne _ _ (Nat.ne_of_lt (o2 q).2)⟩)⟩
  · have e : (syPut s x).1 k = s.1 k := va_up_ne _ _ c
    rw [e, va_up_ne _ _ c]
    have hk : k < s.c := by omega
    have nk := T2 k hk
    refine ⟨(T k hk).1, (T k hk).2.adr (fun q => va_up_ne _ _ ?_) (fun q => ⟨va_up_ne _ _ ?_, va_up_ne _ _ ?_⟩)⟩
    · rcases nk with ⟨_, y⟩ | ⟨y, _⟩ | y | ⟨y, _⟩ | ⟨y, _⟩ <;> omega
    · rcases nk with ⟨y, _⟩ | ⟨_, y, _⟩ | y | ⟨y, _⟩ | ⟨y, _⟩ <;> omega
    · rcases nk with ⟨y, _⟩ | ⟨_, _, y⟩ | y | ⟨y, _⟩ | ⟨y, _⟩ <;> omega
theorem SyI.onl (I : SyI b f n m h0 ad s t h) (hb : b 7 < h0.2.1.1) (J : JS b f n s.q t' h1) (o : Onl (b 7) h h1) : SyI b f n m h0 ad s t' h1 := ⟨J, I.2.1.hp fun x c lx e _ => by rw [o.2.1 x (by omega)]; exact e, I.2.2.1.trans (KF.onl o), I.2.2.2⟩
theorem SyI.new {k : Nat} {c : PC} (I : SyI b f n m h0 ad s t h) : SyI b f n m h0 ad s t (hnew h k c) := by
  have w := RJ.wf I.1
  exact ⟨RJ.other I.1 rfl w.new fun x c e _ => new_old w e, I.2.1.hp fun x c _ e _ => new_old w e, I.2.2.1.trans (KF.new w), I.2.2.2⟩
theorem SyI.set {c d : PC} (I : SyI b f n m h0 ad s t h) (hb : b 7 < h0.2.1.1) (w0 : Wf h0) (e : h.1 a = some d) (k : 26 ≤ kd d ∧ kd d ≤ 34) (ha : h0.2.1.1 ≤ a) (na : ∀ k, k < s.c → ad k ≠ a) : SyI b f n m h0 ad s t (hset h a c) := by
  refine ⟨RJ.other I.1 rfl ((RJ.wf I.1).setE e) fun x c' e' q => up_nx (fun y => ?_) e', I.2.1.hp fun x c' _ e' ⟨j, hj, ej⟩ => up_nx (fun y => na j hj (ej.symm.trans y)) e', I.2.2.1.set w0 ha, I.2.2.2⟩
  rw [y, e] at e'
  injection e' with e'
  subst e'
  omega
theorem SyI.lt (I : SyI b f n m h0 ad s t h) {k : Nat} (hk : k < s.c) : ad k < h.2.1.1 := by
  obtain ⟨c, e⟩ := (I.2.1 k hk).2.ex
  exact (RJ.wf I.1).lt e
theorem SyE.pre {k pl : Nat} (K : KF b h h1) (E : SyE b f n C S h1 k pl h') : SyE b f n C S h k pl h' := by
  obtain ⟨q, t, h2, e1, e2, e3, e4⟩ := E
  exact ⟨q, t, h2, e1, e2, K.trans e3, e4⟩
theorem SyQ.pre {s1 : SyT} {ad1 : Nat → Nat} (K : KF b h h1) (A1 : ∀ k, k < s.c → ad1 k = ad k) (A2 : ∀ k, s.c ≤ k → k < s1.c → h.2.1.1 ≤ ad1 k) (M : SyM m s s1) (Q : SyQ b f n m h0 C S h1 s1 ad1 s' t' ad' h') : SyQ b f n m h0 C S h s ad s' t' ad' h' := by
  obtain ⟨q1, q2, q3, q4, q5, q6⟩ := Q
  refine ⟨q1, K.trans q2, fun k hk => (q3 k (by have := M.2.2.1; omega)).trans (A1 k hk), fun k h1 h2 => ?_, q5, M.trans q6⟩
  by_cases c : k < s1.c
  · rw [q3 k c]; exact A2 k h1 c
  · have := q4 k (by omega) h2
    have := K.2.1
    omega
theorem r_bothL {rg : Nat → PH → Nat → Int32 → Option RH} {x1 : Int32} {one : SyT → Tk → SyR} (hb : b 7 < h0.2.1.1) (w0 : Wf h0) (hone : SyP b f n m h0 C S one (fun h => rg 2 h (b 7) x1)) (hF : SyF f n m one) : ∀ (k fu : Nat) (s : SyT) (t : Tk) (h : PH) (ad : Nat → Nat) (Z : Rt → PH → Prop), k < fu → 21 ≤ k + s.q → 1 ≤ s.c → s.q ≤ 20 → SyI b f n m h0 ad s t h → h.2.1.1 + 1 ≤ C + 2 * s.q → h.2.1.2 + 3 ≤ S + 6 * s.q → (∀ kd pl, syL f n one 12 2 k s t = .inl (kd, pl) → ∀ h', SyE b f n C S h kd pl h' → Z (.inr (b 2, 0)) h') → (∀ s' t', syL f n one 12 2 k s t = .inr (s', t') → ∀ ad' h', SyQ b f n m h0 C S h s ad s' t' ad' h' → Z (.inl (some (va_rf (some (ad' (s'.c - 1)))))) h') → Ends (itr (c_DS_both_l6 rg) (fun _ _ _ _ => none) fu h (b 7) x1 (some (ad (s.c - 1)))) Z := by
  intro k
  induction k with
  | zero => intro fu s t h ad Z hf h21 hc hq; omega
  | succ k ih =>
    intro fu s t h ad Z hf h21 hc hq I z1 z2 kf kk
    obtain ⟨fu, rfl⟩ : ∃ x, fu = x + 1 := ⟨fu - 1, by omega⟩
    have J := I.1
    have wf := RJ.wf J
    rw [itr_succ]
    unfold c_DS_both_l6
    refine q_hIe (by rw [RJ.grd J (by decide)]; exact p_is J (k := 12) (by decide)) ?_
    cases hk : isKw f t 12 with
    | false =>
      refine q_pos _ rfl ?_
      exact q_rQ (kk s t (by rw [syL, if_pos hk]) ad h ⟨I, KF.rf, fun _ _ => rfl, fun j h1 h2 => by omega, ⟨z1, z2⟩, SyM.rf hq⟩)
    | true =>
      refine q_neg _ bn1_ne ?_
      have nk : ¬ (isKw f t 12 = false) := by rw [hk]; decide
      refine r_next J (RJ.grd J (by decide)) fun h3 J3 o3 => ?_
      have I3 := I.onl hb J3 o3
      have w3 := RJ.wf J3
      have z3 : h3.2 = h.2 := o3.1
      refine q_newO ?_
      have I5 : SyI b f n m h0 ad s (nx f n 200 t) (hnew h3 2 (.inr (16, [.null, .null]))) := I3.new
      have K5 : KF b h (hnew h3 2 (.inr (16, [.null, .null]))) := (KF.onl o3).trans (KF.new w3)
      have e5 : (hnew h3 2 (.inr (16, [.null, .null]))).1 h3.2.1.1 = some (.inr (16, [.null, .null])) := new_eq
      have s5 : (hnew h3 2 (.inr (16, [.null, .null]))).2.1.1 = h.2.1.1 + 1 ∧ (hnew h3 2 (.inr (16, [.null, .null]))).2.1.2 = h.2.1.2 + 2 := by
        constructor
        · show h3.2.1.1 + 1 = _; rw [z3]
        · show h3.2.1.2 + 2 = _; rw [z3]
      have ea : h3.2.1.1 = h.2.1.1 := by rw [z3]
      rw [ea] at e5 ⊢
      show Ends (hQ (grd (hnew h3 2 (.inr (16, [.null, .null]))) (b 7) [7] (rg 2 (hnew h3 2 (.inr (16, [.null, .null]))) (b 7) x1)) rX _) Z
      generalize hnew h3 2 (.inr (16, [.null, .null])) = h5 at *
      rw [RJ.grd I5.1 (by decide)]
      refine hQ_hQ ?_
      refine hone s (nx f n 200 t) h5 ad _ hq I5 (by omega) (by omega) (fun kd pl ee h' E => Or.inr ⟨_, rfl, kf kd pl (by rw [syL, if_neg nk, ee]) h' (E.pre K5)⟩) (fun s1 t1 ee ad1 h6 Q => Or.inl ⟨_, rfl, ?_⟩)
      have o1 := (hF s _ s1 t1 hq (RJ.ok J3) ee).1
      obtain ⟨I6, K6, A1, A2, ⟨y1, y2⟩, M1⟩ := Q
      have lo : h0.2.1.1 ≤ h.2.1.1 := I.2.2.1.2.1
      have ne7 : h.2.1.1 ≠ b 7 := by omega
      have e6 := K6.2.2.2 _ _ e5 ne7
      refine q_nn ?_
      refine q_nn ?_
      have ki : c_CB_init h6 h.2.1.1 (ad (s.c - 1)) (ad1 (s1.c - 1)) = rV (hset h6 h.2.1.1 (.inr (16, [.ref (ad (s.c - 1)), .ref (ad1 (s1.c - 1))]))) := by
        have : Ends (c_CB_init h6 h.2.1.1 (ad (s.c - 1)) (ad1 (s1.c - 1))) (fun r h' => r = .inl none ∧ h' = hset h6 h.2.1.1 (.inr (16, [.ref (ad (s.c - 1)), .ref (ad1 (s1.c - 1))]))) := by
          unfold c_CB_init
          refine q_grd e6 (by decide) ?_
          refine q_pQ e6 (by decide) (Nat.le_of_ble_eq_true rfl) ?_
          refine q_pQ up_eq (by decide) (Nat.le_of_ble_eq_true rfl) ?_
          rw [hset_hset]
          exact q_rV ⟨rfl, rfl⟩
        obtain ⟨r, h', w1, w2, w3⟩ := this
        rw [w1, w2, w3]; rfl
      refine q_hVe ki ?_
      have na : ∀ j, j < s1.c → ad1 j ≠ h.2.1.1 := fun j hj => by
        by_cases c : j < s.c
        · rw [A1 j c]
          have := I.lt c
          omega
        · have := A2 j (by omega) hj
          omega
      have I7 : SyI b f n m h0 ad1 s1 t1 (hset h6 h.2.1.1 (.inr (16, [.ref (ad (s.c - 1)), .ref (ad1 (s1.c - 1))]))) := I6.set hb w0 e6 (by decide) lo na
      have e7 : (hset h6 h.2.1.1 (.inr (16, [.ref (ad (s.c - 1)), .ref (ad1 (s1.c - 1))]))).1 h.2.1.1 = some (.inr (16, [.ref (ad (s.c - 1)), .ref (ad1 (s1.c - 1))])) := up_eq
      have K7 : KF b h (hset h6 h.2.1.1 (.inr (16, [.ref (ad (s.c - 1)), .ref (ad1 (s1.c - 1))]))) := (K5.trans K6).set wf (Nat.le_refl _)
      have z7 : (hset h6 h.2.1.1 (.inr (16, [.ref (ad (s.c - 1)), .ref (ad1 (s1.c - 1))]))).2 = h6.2 := rfl
      generalize hset h6 h.2.1.1 (.inr (16, [.ref (ad (s.c - 1)), .ref (ad1 (s1.c - 1))])) = h7 at *
      have oc := o1.2.2.1
      have oq := o1.2.1
      have M2 : SyM m s (syPut s1 (2, s.c - 1, s1.c - 1, 0)) := SyM.put hq M1 o1.2.2.2 (Or.inr (Or.inl ⟨by show 2 = 2 ∨ 2 = 3; decide, by show s.c - 1 < s1.c; omega, by show s1.c - 1 < s1.c; omega⟩))
      have T7 : TOk m (syPut s1 (2, s.c - 1, s1.c - 1, 0)) := I7.2.2.2.put (Or.inr (Or.inl ⟨by show 2 = 2 ∨ 2 = 3; decide, by show s.c - 1 < s1.c; omega, by show s1.c - 1 < s1.c; omega⟩))
      have N7 : NC h7 ad1 (2, s.c - 1, s1.c - 1, 0) h.2.1.1 := by
        have e7' := e7
        rw [← A1 (s.c - 1) (by omega)] at e7'
        exact Or.inr <| Or.inl ⟨rfl, e7'⟩
      have I8 : SyI b f n m h0 (va_up ad1 s1.c h.2.1.1) (syPut s1 (2, s.c - 1, s1.c - 1, 0)) t1 h7 := ⟨I7.1, I7.2.1.put I7.2.2.2 lo N7 (fun q => absurd q (by show ¬ (2 = 1); decide)) (fun _ => ⟨by show s.c - 1 < s1.c; omega, by show s1.c - 1 < s1.c; omega⟩), I7.2.2.1, T7⟩
      have ez : h.2.1.1 = (va_up ad1 s1.c h.2.1.1) ((syPut s1 (2, s.c - 1, s1.c - 1, 0)).c - 1) := by
        show _ = va_up ad1 s1.c h.2.1.1 (s1.c + 1 - 1)
        rw [Nat.add_sub_cancel, up_at]
      have es : syL f n one 12 2 (k + 1) s t = syL f n one 12 2 k (syPut s1 (2, s.c - 1, s1.c - 1, 0)) t1 := by rw [syL, if_neg nk, ee]
      have A3 : ∀ j, j < s.c → va_up ad1 s1.c h.2.1.1 j = ad j := fun j hj => (va_up_ne _ _ (by omega)).trans (A1 j hj)
      have A4 : ∀ j, s.c ≤ j → j < (syPut s1 (2, s.c - 1, s1.c - 1, 0)).c → h.2.1.1 ≤ va_up ad1 s1.c h.2.1.1 j := fun j h1 h2 => by
        have h2 : j < s1.c + 1 := h2
        by_cases c : j = s1.c
        · rw [c, up_at]; exact Nat.le_refl _
        · rw [va_up_ne _ _ c]
          have := A2 j h1 (by omega)
          omega
      have go := ih fu (syPut s1 (2, s.c - 1, s1.c - 1, 0)) t1 h7 (va_up ad1 s1.c h.2.1.1) Z (by omega) (by show 21 ≤ k + s1.q; omega) (by show 1 ≤ s1.c + 1; omega) M2.2.1 I8 (by rw [z7]; exact y1) (by rw [z7]; exact y2) (fun kd pl e2 h' E => kf kd pl (es.trans e2) h' (E.pre K7)) (fun s' t' e2 ad' h' Q => kk s' t' (es.trans e2) ad' h' (Q.pre K7 A3 A4 M2))
      rw [← ez] at go
      exact go
theorem r_both {rg : Nat → PH → Nat → Int32 → Option RH} {x1 : Int32} {one : SyT → Tk → SyR} (hb : b 7 < h0.2.1.1) (w0 : Wf h0) (hone : SyP b f n m h0 C S one (fun h => rg 2 h (b 7) x1)) (hF : SyF f n m one) : SyP b f n m h0 C S (syA f n one 12 2) (fun h => b_DS_both rg h (b 7) x1) := by
  intro s t h ad Z hq I z1 z2 kf kk
  have J := I.1
  show Ends (b_DS_both rg h (b 7) x1) Z
  unfold b_DS_both
  rw [RJ.grd J (by decide), RJ.grd J (by decide)]
  refine hQ_hQ ?_
  refine hone s t h ad _ hq I z1 z2 (fun kd pl ee h' E => Or.inr ⟨_, rfl, kf kd pl (by unfold syA; rw [ee]) h' E⟩) (fun s1 t1 ee ad1 h1 Q => Or.inl ⟨_, rfl, ?_⟩)
  have o1 := (hF s t s1 t1 hq (RJ.ok J) ee).1
  have es : syA f n one 12 2 s t = syL f n one 12 2 21 s1 t1 := by unfold syA; rw [ee]
  obtain ⟨I1, K1, A1, A2, ⟨y1, y2⟩, M1⟩ := Q
  exact r_bothL hb w0 hone hF 21 FU s1 t1 h1 ad1 Z (by unfold FU; omega) (by omega) (by have := o1.2.2.1; omega) M1.2.1 I1 y1 y2 (fun kd pl e2 h' E => kf kd pl (es.trans e2) h' (E.pre K1)) (fun s' t' e2 ad' h' Q => kk s' t' (es.trans e2) ad' h' (Q.pre K1 A1 A2 M1))
theorem r_anyL {rg : Nat → PH → Nat → Int32 → Option RH} {x1 : Int32} {one : SyT → Tk → SyR} (hb : b 7 < h0.2.1.1) (w0 : Wf h0) (hone : SyP b f n m h0 C S one (fun h => rg 1 h (b 7) x1)) (hF : SyF f n m one) : ∀ (k fu : Nat) (s : SyT) (t : Tk) (h : PH) (ad : Nat → Nat) (Z : Rt → PH → Prop), k < fu → 21 ≤ k + s.q → 1 ≤ s.c → s.q ≤ 20 → SyI b f n m h0 ad s t h → h.2.1.1 + 1 ≤ C + 2 * s.q → h.2.1.2 + 3 ≤ S + 6 * s.q → (∀ kd pl, syL f n one 11 3 k s t = .inl (kd, pl) → ∀ h', SyE b f n C S h kd pl h' → Z (.inr (b 2, 0)) h') → (∀ s' t', syL f n one 11 3 k s t = .inr (s', t') → ∀ ad' h', SyQ b f n m h0 C S h s ad s' t' ad' h' → Z (.inl (some (va_rf (some (ad' (s'.c - 1)))))) h') → Ends (itr (c_DS_any_l6 rg) (fun _ _ _ _ => none) fu h (b 7) x1 (some (ad (s.c - 1)))) Z := by
  intro k
  induction k with
  | zero => intro fu s t h ad Z hf h21 hc hq; omega
  | succ k ih =>
    intro fu s t h ad Z hf h21 hc hq I z1 z2 kf kk
    obtain ⟨fu, rfl⟩ : ∃ x, fu = x + 1 := ⟨fu - 1, by omega⟩
    have J := I.1
    have wf := RJ.wf J
    rw [itr_succ]
    unfold c_DS_any_l6
    refine q_hIe (by rw [RJ.grd J (by decide)]; exact p_is J (k := 11) (by decide)) ?_
    cases hk : isKw f t 11 with
    | false =>
      refine q_pos _ rfl ?_
      exact q_rQ (kk s t (by rw [syL, if_pos hk]) ad h ⟨I, KF.rf, fun _ _ => rfl, fun j h1 h2 => by omega, ⟨z1, z2⟩, SyM.rf hq⟩)
    | true =>
      refine q_neg _ bn1_ne ?_
      have nk : ¬ (isKw f t 11 = false) := by rw [hk]; decide
      refine r_next J (RJ.grd J (by decide)) fun h3 J3 o3 => ?_
      have I3 := I.onl hb J3 o3
      have w3 := RJ.wf J3
      have z3 : h3.2 = h.2 := o3.1
      refine q_newO ?_
      have I5 : SyI b f n m h0 ad s (nx f n 200 t) (hnew h3 2 (.inr (17, [.null, .null]))) := I3.new
      have K5 : KF b h (hnew h3 2 (.inr (17, [.null, .null]))) := (KF.onl o3).trans (KF.new w3)
      have e5 : (hnew h3 2 (.inr (17, [.null, .null]))).1 h3.2.1.1 = some (.inr (17, [.null, .null])) := new_eq
      have s5 : (hnew h3 2 (.inr (17, [.null, .null]))).2.1.1 = h.2.1.1 + 1 ∧ (hnew h3 2 (.inr (17, [.null, .null]))).2.1.2 = h.2.1.2 + 2 := by
        constructor
        · show h3.2.1.1 + 1 = _; rw [z3]
        · show h3.2.1.2 + 2 = _; rw [z3]
      have ea : h3.2.1.1 = h.2.1.1 := by rw [z3]
      rw [ea] at e5 ⊢
      show Ends (hQ (grd (hnew h3 2 (.inr (17, [.null, .null]))) (b 7) [7] (rg 1 (hnew h3 2 (.inr (17, [.null, .null]))) (b 7) x1)) rX _) Z
      generalize hnew h3 2 (.inr (17, [.null, .null])) = h5 at *
      rw [RJ.grd I5.1 (by decide)]
      refine hQ_hQ ?_
      refine hone s (nx f n 200 t) h5 ad _ hq I5 (by omega) (by omega) (fun kd pl ee h' E => Or.inr ⟨_, rfl, kf kd pl (by rw [syL, if_neg nk, ee]) h' (E.pre K5)⟩) (fun s1 t1 ee ad1 h6 Q => Or.inl ⟨_, rfl, ?_⟩)
      have o1 := (hF s _ s1 t1 hq (RJ.ok J3) ee).1
      obtain ⟨I6, K6, A1, A2, ⟨y1, y2⟩, M1⟩ := Q
      have lo : h0.2.1.1 ≤ h.2.1.1 := I.2.2.1.2.1
      have ne7 : h.2.1.1 ≠ b 7 := by omega
      have e6 := K6.2.2.2 _ _ e5 ne7
      refine q_nn ?_
      refine q_nn ?_
      have ki : c_CA_init h6 h.2.1.1 (ad (s.c - 1)) (ad1 (s1.c - 1)) = rV (hset h6 h.2.1.1 (.inr (17, [.ref (ad (s.c - 1)), .ref (ad1 (s1.c - 1))]))) := by
        have : Ends (c_CA_init h6 h.2.1.1 (ad (s.c - 1)) (ad1 (s1.c - 1))) (fun r h' => r = .inl none ∧ h' = hset h6 h.2.1.1 (.inr (17, [.ref (ad (s.c - 1)), .ref (ad1 (s1.c - 1))]))) := by
          unfold c_CA_init
          refine q_grd e6 (by decide) ?_
          refine q_pQ e6 (by decide) (Nat.le_of_ble_eq_true rfl) ?_
          refine q_pQ up_eq (by decide) (Nat.le_of_ble_eq_true rfl) ?_
          rw [hset_hset]
          exact q_rV ⟨rfl, rfl⟩
        obtain ⟨r, h', w1, w2, w3⟩ := this
        rw [w1, w2, w3]; rfl
      refine q_hVe ki ?_
      have na : ∀ j, j < s1.c → ad1 j ≠ h.2.1.1 := fun j hj => by
        by_cases c : j < s.c
        · rw [A1 j c]
          have := I.lt c
          omega
        · have := A2 j (by omega) hj
          omega
      have I7 : SyI b f n m h0 ad1 s1 t1 (hset h6 h.2.1.1 (.inr (17, [.ref (ad (s.c - 1)), .ref (ad1 (s1.c - 1))]))) := I6.set hb w0 e6 (by decide) lo na
      have e7 : (hset h6 h.2.1.1 (.inr (17, [.ref (ad (s.c - 1)), .ref (ad1 (s1.c - 1))]))).1 h.2.1.1 = some (.inr (17, [.ref (ad (s.c - 1)), .ref (ad1 (s1.c - 1))])) := up_eq
      have K7 : KF b h (hset h6 h.2.1.1 (.inr (17, [.ref (ad (s.c - 1)), .ref (ad1 (s1.c - 1))]))) := (K5.trans K6).set wf (Nat.le_refl _)
      have z7 : (hset h6 h.2.1.1 (.inr (17, [.ref (ad (s.c - 1)), .ref (ad1 (s1.c - 1))]))).2 = h6.2 := rfl
      generalize hset h6 h.2.1.1 (.inr (17, [.ref (ad (s.c - 1)), .ref (ad1 (s1.c - 1))])) = h7 at *
      have oc := o1.2.2.1
      have oq := o1.2.1
      have M2 : SyM m s (syPut s1 (3, s.c - 1, s1.c - 1, 0)) := SyM.put hq M1 o1.2.2.2 (Or.inr (Or.inl ⟨by show 3 = 2 ∨ 3 = 3; decide, by show s.c - 1 < s1.c; omega, by show s1.c - 1 < s1.c; omega⟩))
      have T7 : TOk m (syPut s1 (3, s.c - 1, s1.c - 1, 0)) := I7.2.2.2.put (Or.inr (Or.inl ⟨by show 3 = 2 ∨ 3 = 3; decide, by show s.c - 1 < s1.c; omega, by show s1.c - 1 < s1.c; omega⟩))
      have N7 : NC h7 ad1 (3, s.c - 1, s1.c - 1, 0) h.2.1.1 := by
        have e7' := e7
        rw [← A1 (s.c - 1) (by omega)] at e7'
        exact Or.inr <| Or.inr <| Or.inl ⟨rfl, e7'⟩
      have I8 : SyI b f n m h0 (va_up ad1 s1.c h.2.1.1) (syPut s1 (3, s.c - 1, s1.c - 1, 0)) t1 h7 := ⟨I7.1, I7.2.1.put I7.2.2.2 lo N7 (fun q => absurd q (by show ¬ (3 = 1); decide)) (fun _ => ⟨by show s.c - 1 < s1.c; omega, by show s1.c - 1 < s1.c; omega⟩), I7.2.2.1, T7⟩
      have ez : h.2.1.1 = (va_up ad1 s1.c h.2.1.1) ((syPut s1 (3, s.c - 1, s1.c - 1, 0)).c - 1) := by
        show _ = va_up ad1 s1.c h.2.1.1 (s1.c + 1 - 1)
        rw [Nat.add_sub_cancel, up_at]
      have es : syL f n one 11 3 (k + 1) s t = syL f n one 11 3 k (syPut s1 (3, s.c - 1, s1.c - 1, 0)) t1 := by rw [syL, if_neg nk, ee]
      have A3 : ∀ j, j < s.c → va_up ad1 s1.c h.2.1.1 j = ad j := fun j hj => (va_up_ne _ _ (by omega)).trans (A1 j hj)
      have A4 : ∀ j, s.c ≤ j → j < (syPut s1 (3, s.c - 1, s1.c - 1, 0)).c → h.2.1.1 ≤ va_up ad1 s1.c h.2.1.1 j := fun j h1 h2 => by
        have h2 : j < s1.c + 1 := h2
        by_cases c : j = s1.c
        · rw [c, up_at]; exact Nat.le_refl _
        · rw [va_up_ne _ _ c]
          have := A2 j h1 (by omega)
          omega
      have go := ih fu (syPut s1 (3, s.c - 1, s1.c - 1, 0)) t1 h7 (va_up ad1 s1.c h.2.1.1) Z (by omega) (by show 21 ≤ k + s1.q; omega) (by show 1 ≤ s1.c + 1; omega) M2.2.1 I8 (by rw [z7]; exact y1) (by rw [z7]; exact y2) (fun kd pl e2 h' E => kf kd pl (es.trans e2) h' (E.pre K7)) (fun s' t' e2 ad' h' Q => kk s' t' (es.trans e2) ad' h' (Q.pre K7 A3 A4 M2))
      rw [← ez] at go
      exact go
theorem r_any {rg : Nat → PH → Nat → Int32 → Option RH} {x1 : Int32} {one : SyT → Tk → SyR} (hb : b 7 < h0.2.1.1) (w0 : Wf h0) (hone : SyP b f n m h0 C S one (fun h => rg 1 h (b 7) x1)) (hF : SyF f n m one) : SyP b f n m h0 C S (syA f n one 11 3) (fun h => b_DS_any rg h (b 7) x1) := by
  intro s t h ad Z hq I z1 z2 kf kk
  have J := I.1
  show Ends (b_DS_any rg h (b 7) x1) Z
  unfold b_DS_any
  rw [RJ.grd J (by decide), RJ.grd J (by decide)]
  refine hQ_hQ ?_
  refine hone s t h ad _ hq I z1 z2 (fun kd pl ee h' E => Or.inr ⟨_, rfl, kf kd pl (by unfold syA; rw [ee]) h' E⟩) (fun s1 t1 ee ad1 h1 Q => Or.inl ⟨_, rfl, ?_⟩)
  have o1 := (hF s t s1 t1 hq (RJ.ok J) ee).1
  have es : syA f n one 11 3 s t = syL f n one 11 3 21 s1 t1 := by unfold syA; rw [ee]
  obtain ⟨I1, K1, A1, A2, ⟨y1, y2⟩, M1⟩ := Q
  exact r_anyL hb w0 hone hF 21 FU s1 t1 h1 ad1 Z (by unfold FU; omega) (by omega) (by have := o1.2.2.1; omega) M1.2.1 I1 y1 y2 (fun kd pl e2 h' E => kf kd pl (es.trans e2) h' (E.pre K1)) (fun s' t' e2 ad' h' Q => kk s' t' (es.trans e2) ad' h' (Q.pre K1 A1 A2 M1))
end
