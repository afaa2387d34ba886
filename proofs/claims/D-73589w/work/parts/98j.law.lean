/-! PURE SIDE: both objects side by side -/
set_option maxRecDepth 100000
theorem imA_f {c : PC} (q : imA c = true) : fK c = false := by
  unfold imA at q
  simp only [Bool.or_eq_true, beq_iff_eq] at q
  unfold fK
  simp only [Bool.or_eq_false_iff, beq_eq_false_iff_ne]
  omega
theorem mK_f {c : PC} (q : mK c = true) : fK c = false := by
  unfold mK at q
  simp only [Bool.or_eq_true, beq_iff_eq, decide_eq_true_eq] at q
  unfold fK
  simp only [Bool.or_eq_false_iff, beq_eq_false_iff_ne]
  omega
section
variable {b own own' g : Nat → Nat} {X : XS} {h h1 h' : PH} {c s x2 x3 : Nat} {ms : MS}
/-- foreign cells are written: the component stands -/
theorem CB.ch (C : CB b own X c s h) (e2 : h'.2 = h.2) (w : Wf h') (o : ∀ x c, h.1 x = some c → (own x ≠ b 16 ∨ fK c = false) → h'.1 x = some c) : CB b own X c s h' := by
  obtain ⟨held, rm, z, z', skm, sn, R, R', N, N', Tb, seed, rows', seed', e0, sk, D, S, z1, z2⟩ := C
  have Ap := S.2.2.1
  have ap := Ap.2.2.2.2.2
  have k8 := D.k8
  have K : KX b own own 0 h h' := ⟨by rw [e2], fun _ _ _ => rfl, fun x c e q => o x c e (by
    rcases q with q | q
    · exact Or.inr (imA_f q)
    · exact Or.inl (by rw [q.1]; exact ap.1)), fun x c e q _ => o x c e (Or.inr (mK_f q)), fun x c e q => o x c e (Or.inl (by
    rcases q with q | q
    · rw [q.1, k8.1]; exact ap.2.2.1
    · rw [q.1, k8.2.1]; exact ap.2.2.2.2))⟩
  exact ⟨held, rm, z, z', skm, sn, R, R', N, N', Tb, seed, rows', seed', o _ _ e0 (Or.inr rfl), sk, D.kx K, ⟨S.1.mk (M := b 16) (fun k hk => (Ap.2.1 k hk).1) o, S.2.1.mk (M := b 16) (fun k hk => (Ap.2.2.1 k hk).1) o, Ap, w⟩, by rw [e2]; exact z1, by rw [e2]; exact z2⟩
/-- the model's cells are kept -/
theorem MRep.cg (M : MRep g x2 ms h) (o : ∀ x c, (x = x2 ∨ ∃ k, k ∈ mArr ∧ x = g k) → h.1 x = some c → fK c = true → h'.1 x = some c) : MRep g x2 ms h' := by
  obtain ⟨m1, m2, m3, m4, m5, m6⟩ := M
  exact ⟨o _ _ (Or.inl rfl) m1 rfl, fun q hq => o _ _ (Or.inr ⟨_, iArr_m hq, rfl⟩) (m2 q hq) rfl, fun q hq => o _ _ (Or.inr ⟨_, lArr_m hq, rfl⟩) (m3 q hq) rfl, o _ _ (Or.inr ⟨23, by decide, rfl⟩) m4 rfl, m5, m6⟩
/-- both objects and the law's row of one long -/
def LW (b g : Nat → Nat) (x2 x3 : Nat) (own : Nat → Nat) (X : XS) (ms : MS) (c s : Nat) (h : PH) : Prop := CB b own X c s h ∧ XI X ∧ CM X ms ∧ MRep g x2 ms h ∧ (own x2 = b 16 ∧ (∀ k, k ∈ mArr → own (g k) = b 16) ∧ own x3 = b 16) ∧ (x3 ≠ x2 ∧ ∀ k, k ∈ mArr → x3 ≠ g k) ∧ ∃ f, h.1 x3 = some (.inl (1, 1, .inr (.inl f)))
theorem MRep.all (M : MRep g x2 ms h) : ∀ x, (x = x2 ∨ ∃ k, k ∈ mArr ∧ x = g k) → ∃ c, h.1 x = some c ∧ fK c = true := by
  obtain ⟨m1, m2, m3, m4, m5, m6⟩ := M
  intro x hx
  rcases hx with hx | ⟨k, hk, hx⟩
  · subst hx
    exact ⟨_, m1, rfl⟩
  · subst hx
    have : (∃ q ∈ iArr, q.1 = k) ∨ (∃ q ∈ lArr, q.1 = k) ∨ k = 23 := by
      have d : ∀ k, k ∈ mArr → (∃ q ∈ iArr, q.1 = k) ∨ (∃ q ∈ lArr, q.1 = k) ∨ k = 23 := by decide
      exact d k hk
    rcases this with ⟨q, h1, h2⟩ | ⟨q, h1, h2⟩ | h2
    · subst h2
      exact ⟨_, m2 q h1, rfl⟩
    · subst h2
      exact ⟨_, m3 q h1, rfl⟩
    · subst h2
      exact ⟨_, m4, rfl⟩
/-- the component acted -/
theorem LW.comp {X' : XS} {c' s' : Nat} (L : LW b g x2 x3 own X ms c s h) (C : CB b own' X' c' s' h') (F : FX own own' (b 0) (b 16) h h') : MRep g x2 ms h' ∧ (own' x2 = b 16 ∧ (∀ k, k ∈ mArr → own' (g k) = b 16) ∧ own' x3 = b 16) ∧ ∃ f, h'.1 x3 = some (.inl (1, 1, .inr (.inl f))) := by
  obtain ⟨l1, l2, l3, l4, ⟨o1, o2, o3⟩, l6, f, l7⟩ := L
  have wf := l1.wf
  have al := l4.all
  have ow' : ∀ x c, h.1 x = some c → own' x = own x := fun x c e => F.2.2.2.2.1 x (wf.lt e)
  refine ⟨l4.cg fun x c hx e k => F.2.2.2.2.2 x c e (Or.inl ⟨?_, k⟩), ⟨?_, fun k hk => ?_, ?_⟩, f, F.2.2.2.2.2 _ _ l7 (Or.inl ⟨o3, rfl⟩)⟩
  · rcases hx with hx | ⟨k, hk, hx⟩
    · rw [hx]; exact o1
    · rw [hx]; exact o2 k hk
  · obtain ⟨c, e, _⟩ := al x2 (Or.inl rfl)
    rw [ow' _ _ e]; exact o1
  · obtain ⟨c, e, _⟩ := al (g k) (Or.inr ⟨k, hk, rfl⟩)
    rw [ow' _ _ e]; exact o2 k hk
  · rw [ow' _ _ l7]; exact o3
/-- the model acted -/
theorem CB.mod {ms0 : MS} (C : CB b own X c s h) (M0 : MRep g x2 ms0 h) (o : own x2 = b 16 ∧ ∀ k, k ∈ mArr → own (g k) = b 16) (K : MKeep g x2 h h') : CB b own X c s h' := by
  have wf := C.wf
  have al := M0.all
  refine C.ch K.1 (fun a ha => ?_) fun x c e q => ?_
  · rw [K.1] at ha
    have ne : ∀ x, (x = x2 ∨ ∃ k, k ∈ mArr ∧ x = g k) → a ≠ x := fun x hx => by
      obtain ⟨c, e, _⟩ := al x hx
      have := wf.lt e
      omega
    rw [K.2 a (ne _ (Or.inl rfl)) (fun k hk => ne _ (Or.inr ⟨k, hk, rfl⟩))]
    exact wf a ha
  · have ne : ∀ y, (y = x2 ∨ ∃ k, k ∈ mArr ∧ y = g k) → x ≠ y := fun y hy w => by
      obtain ⟨c', e', k'⟩ := al y hy
      rw [w, e'] at e
      injection e with e
      subst e
      rcases q with q | q
      · rcases hy with hy | ⟨k, hk, hy⟩
        · exact q (by rw [w, hy]; exact o.1)
        · exact q (by rw [w, hy]; exact o.2 k hk)
      · exact ff k' q
    rw [K.2 x (ne _ (Or.inl rfl)) (fun k hk => ne _ (Or.inr ⟨k, hk, rfl⟩))]
    exact e
/-- one call of both -/
theorem lw_td {P PM : PH → Option RH} {D : MS → Option DR} (t : TD b P D) (rM : ∀ h ms, MRep g x2 ms h → RM g x2 h (PM h) (D ms)) (L : LW b g x2 x3 own X ms c s h) : ∃ v h1 h2 own' X' ms', P h = rI v h1 ∧ PM h1 = rI v h2 ∧ LW b g x2 x3 own' X' ms' (c + 10000) (s + 90000) h2 ∧ h1.2.2 = h.2.2 ∧ h2.2.2 = h.2.2 := by
  obtain ⟨v, h1, ms', own', X', p1, p2, C', I', M', F⟩ := t own X c s h ms L.1 L.2.1 L.2.2.1
  obtain ⟨R1, O1, f, e3⟩ := L.comp C' F
  obtain ⟨h2, q1, q2, q3⟩ := rM h1 ms R1 _ _ p2
  have C2 := C'.mod R1 ⟨O1.1, O1.2.1⟩ q3
  refine ⟨v, h1, h2, own', X', ms', p1, q1, ⟨C2, I', M', q2, O1, L.2.2.2.2.2.1, f, ?_⟩, F.2.2.1, by rw [q3.1]; exact F.2.2.1⟩
  rw [q3.2 x3 L.2.2.2.2.2.1.1 L.2.2.2.2.2.1.2]
  exact e3
/-- one call of both that may refuse -/
theorem lw_wd {P : PH → Nat → Option RH} {PM : PH → Option RH} {D : MS → Option DR} {a : Nat → (Nat → LL) → Option Int} (hP : ∀ (q : QP) (h : PH), QI q h → Ends (P h q.B) (AO q (a q.n q.A))) (hD : ∀ (ms : MS) (n low : Nat) (A : Nat → LL), QM ms n A → IV low A → DE (D ms) (DZ ms (a n A))) (rM : ∀ h ms, MRep g x2 ms h → RM g x2 h (PM h) (D ms)) (L : LW b g x2 x3 own X ms c s h) : ∃ k v h1 h2 h3 own' ms' f, (hI (P h (b 0)) (fun q9 h4 => if q9.2 = 1 then nm q9.1 fun q3 => rI (1 : Int32) h4 else none) fun v2 h1 => stL h1 x3 (0 : Int32) v2.toInt64 fun h5 => rI (0 : Int32) h5) = rI k h1 ∧ PM h1 = rI v h2 ∧ c_M_thrown h2 x2 = rI k h3 ∧ LW b g x2 x3 own' X ms' (c + 10000) (s + 90000) h3 ∧ h1.2.2 = h.2.2 ∧ h2.2.2 = h.2.2 ∧ h3.2.2 = h.2.2 ∧ h3.1 x3 = some (.inl (1, 1, .inr (.inl f))) ∧ ((k = 0 ∧ f 0 = v.toInt64) ∨ k = 1) := by
  obtain ⟨q, N, T, Q, e1, e2, e3, e4, e5, kc⟩ := L.1.ask L.2.1
  have hp := hP q q.h0 Q.i
  have hd := hD ms X.w.n X.w.low X.w.A (L.2.2.1.qm L.2.1) L.2.1.iv
  rw [e1, e2, e3, e4] at hp
  -- the model's part, from a heap where all stands
  have fin : ∀ {h1 : PH} {own' : Nat → Nat} {f : Nat → Int64} {v k : Int32} {ms' : MS}, CB b own' X (c + 10000) (s + 90000) h1 → MRep g x2 ms h1 → (own' x2 = b 16 ∧ (∀ k, k ∈ mArr → own' (g k) = b 16) ∧ own' x3 = b 16) → h1.1 x3 = some (.inl (1, 1, .inr (.inl f))) → D ms = dI v ms' → CM X ms' → ms'.1 0 0 = k → ∃ h2 h3, PM h1 = rI v h2 ∧ c_M_thrown h2 x2 = rI k h3 ∧ LW b g x2 x3 own' X ms' (c + 10000) (s + 90000) h3 ∧ h2.2.2 = h1.2.2 ∧ h3.2.2 = h1.2.2 ∧ h3.1 x3 = some (.inl (1, 1, .inr (.inl f))) := fun {h1 own' f v k ms'} C1 R1 O1 ex p2 M' ek => by
    obtain ⟨h2, q1, q2, q3⟩ := rM h1 ms R1 _ _ p2
    have C2 := C1.mod R1 ⟨O1.1, O1.2.1⟩ q3
    have et : d_M_thrown ms' = dI k ms' := by
      unfold d_M_thrown
      rw [ek]
      rfl
    obtain ⟨h3, y1, y2, y3⟩ := r_M_thrown q2 _ _ et
    have C3 := C2.mod q2 ⟨O1.1, O1.2.1⟩ y3
    have ex2 : h2.1 x3 = some (.inl (1, 1, .inr (.inl f))) := by
      rw [q3.2 x3 L.2.2.2.2.2.1.1 L.2.2.2.2.2.1.2]; exact ex
    have ex3 : h3.1 x3 = some (.inl (1, 1, .inr (.inl f))) := by
      rw [y3.2 x3 L.2.2.2.2.2.1.1 L.2.2.2.2.2.1.2]; exact ex2
    exact ⟨h2, h3, q1, y1, ⟨C3, L.2.1, M', y2, O1, L.2.2.2.2.2.1, f, ex3⟩, by rw [q3.1], by rw [y3.1, q3.1], ex3⟩
  cases ho : a X.w.n X.w.A with
  | none =>
    rw [ho] at hp hd
    obtain ⟨r, h', p1, ax, hq, p2, p3, p4⟩ := hp
    subst p2 p4
    obtain ⟨r', m', w1, w2, w3⟩ := hd
    subst w2 w3
    obtain ⟨own', C', F⟩ := kc hq p3.e
    have C1 : CB b own' X (c + 10000) (s + 90000) (hbump hq 1 6) := C'.bump.wk (by omega) (by omega)
    have F1 : FX own own' (b 0) (b 16) h (hbump hq 1 6) := F.trans (FX.bump C'.wf) L.1.wf
    obtain ⟨R1, O1, f, ex⟩ := L.comp C1 F1
    obtain ⟨h2, h3, z1, z2, z3, z4, z5, z6⟩ := fin C1 R1 O1 ex w1 (L.2.2.1.set (by decide)) ms_eq
    refine ⟨1, 0, hbump hq 1 6, h2, h3, own', _, f, ?_, z1, z2, z3, F1.2.2.1, z4.trans F1.2.2.1, z5.trans F1.2.2.1, z6, Or.inr rfl⟩
    rw [p1]
    rfl
  | some y =>
    rw [ho] at hp hd
    obtain ⟨r, h', p1, v, p2, p3, p4⟩ := hp
    subst p2 p3
    obtain ⟨r', m', w1, w2, w, w3⟩ := hd
    subst w2 w3
    obtain ⟨own', C', F⟩ := kc h' p4.e
    obtain ⟨R1, O1, f, ex⟩ := L.comp C' F
    have wf' := C'.wf
    have ne3 := L.2.2.2.2.2.1
    have C1 : CB b own' X (c + 10000) (s + 90000) (hset h' x3 (.inl (1, 1, .inr (.inl (vp_updL f 0 (ii y).toInt64))))) := CB.wk (C'.ch rfl (wf'.setE ex) fun x c e q => up_nx (fun w => by
      rw [w, ex] at e
      injection e with e
      subst e
      rcases q with q | q
      · exact q (by rw [w]; exact O1.2.2)
      · exact ff rfl q) e) (by omega) (by omega)
    have R2 : MRep g x2 ms (hset h' x3 (.inl (1, 1, .inr (.inl (vp_updL f 0 (ii y).toInt64))))) := R1.cg fun x c hx e _ => up_nx (fun w => by
      rcases hx with hx | ⟨k, hk, hx⟩
      · exact ne3.1 (w.symm.trans hx)
      · exact ne3.2 k hk (w.symm.trans hx)) e
    obtain ⟨h2, h3, z1, z2, z3, z4, z5, z6⟩ := fin (k := 0) C1 R2 O1 up_eq w1 ((L.2.2.1.set (by decide)).set (by decide)) (by rw [ms_nk (by decide), ms_eq])
    refine ⟨0, ii y, _, h2, h3, own', _, _, ?_, z1, z2, z3, F.2.2.1, z4.trans F.2.2.1, z5.trans F.2.2.1, z6, Or.inl ⟨rfl, ?_⟩⟩
    · rw [p1]
      have : Ends (stL h' x3 (0 : Int32) (ii y).toInt64 fun h5 => rI (0 : Int32) h5) (fun r hh => r = .inl (some (.int (0 : Int32))) ∧ hh = hset h' x3 (.inl (1, 1, .inr (.inl (vp_updL f 0 (ii y).toInt64))))) := by
        refine q_stL (z := 0) ex (by decide) ?_
        exact q_rI ⟨rfl, rfl⟩
      obtain ⟨r, hh, y1, y2, y3⟩ := this
      show stL h' x3 (0 : Int32) (ii y).toInt64 (fun h5 => rI (0 : Int32) h5) = _
      rw [y1, y2, y3]
      rfl
    · unfold vp_updL
      exact if_pos rfl
end
