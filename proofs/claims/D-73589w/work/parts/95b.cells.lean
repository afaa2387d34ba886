/-! PURE SIDE: the whole relation: cells of the component -/
set_option maxRecDepth 100000
abbrev qA (t n : Nat) (f : Nat → Option Nat) : PC := .inl (t, n, .inr (.inr (.inr (.inr f))))
abbrev bC (b : Nat → Nat) (len held : Int) (rm z z' : Nat) (ft skm um : Int) (ht : Bool) (sn : Option Nat) : PC := .inr (0, [.ref (b 1), .int (ii len), .int (ii held), .ref (b 2), .ref (b 3), .ref (b 4), .ref rm, .ref z, .ref z', .ref (b 5), .ref (b 6), .int (ii ft), .ref (b 8), .int (ii skm), .ref (b 9), .int (ii um), .ref (b 10), .int (ii (bn ht)), .ref (b 7), va_rf sn, .ref (b 11)])
/-- a reader -/
abbrev rdC (cls B : Nat) (most : Int) (p at_ tk v mn : Int32) (nm : Int64) (x8 x9 : Value) (x10 : Int32) : PC := .inr (cls, [.int (ii most), .int p, .int at_, .int tk, .int v, .int mn, .long nm, .ref B, x8, x9, .int x10, .ref B])
def sbv (c : Nat) : Int := if c < 128 then (c : Int) else (c : Int) - 256
/-- a row of text constants -/
def StrA (h : PH) (a n k : Nat) : Prop := ∃ f, h.1 a = some (qA 12 n f) ∧ ∀ j, j < n → f j = some (h.2.2 (k + j))
def TxC (h : PH) : Prop := (∀ k, k < 23 → h.1 (h.2.2 k) = some (.inr (100 + k, [])))
def TpR (b : Nat → Nat) (h : PH) (tp : Nat → Nat) : Prop := ∃ f, h.1 (b 1) = some (.inl (2, 940, .inl f)) ∧ ∀ i, i < 940 → f i = ii (sbv (tp i))
def RdR (b : Nat → Nat) (h : PH) : Prop := (∃ p at_ tk v mn nm x8 x9 x10, h.1 (b 5) = some (rdC 5 (b 0) 900 p at_ tk v mn nm x8 x9 x10)) ∧ (∃ p at_ tk v mn nm x10, h.1 (b 6) = some (rdC 6 (b 0) 400 p at_ tk v mn nm (.ref (b 13)) (.ref (b 12)) x10)) ∧ (∃ p at_ tk v mn nm x10, h.1 (b 7) = some (rdC 7 (b 0) 200 p at_ tk v mn nm (.ref (b 14)) (.ref (b 15)) x10)) ∧ (∃ fs, h.1 (b 2) = some (.inr (1, fs)) ∧ fs.length = 8) ∧ ∃ f, h.1 (b 12) = some (qA 10 40 f)
def StR (b : Nat → Nat) (h : PH) : Prop := StrA h (b 3) 3 0 ∧ StrA h (b 4) 20 3 ∧ StrA h (b 13) 8 3 ∧ StrA h (b 14) 4 14 ∧ StrA h (b 15) 5 18 ∧ TxC h
def SkR (b own : Nat → Nat) (h : PH) (sk : List Nat) : Prop := own (b 8) = b 8 ∧ ∃ f, h.1 (b 8) = some (.inl (0, 600, .inl f)) ∧ ∀ (k x : Nat), sk[k]? = some x → f k = ii x
def TdR (b own : Nat → Nat) (h : PH) (td : Option (Nat → Int)) : Prop := own (b 10) = b 10 ∧ ∃ f, h.1 (b 10) = some (.inl (0, 4, .inl f)) ∧ ∀ t, td = some t → ∀ k, k < 4 → f k = ii (t k)
def UdR (b own : Nat → Nat) (h : PH) (L : List SN) : Prop := ∃ f, h.1 (b 9) = some (qA 9 8 f) ∧ ∀ (j : Nat) (p : SN), L[j]? = some p → ∃ a, f j = some a ∧ PA own (b 0) h a p.1
def KpR (b own : Nat → Nat) (h : PH) (o : Option Nat) (w : Option KP) : Prop := match w with
  | none => o = none
  | some w => ∃ a rm p s, o = some a ∧ h.1 a = some (.inr (18, [.ref rm, .ref p, va_rf s])) ∧ RmR own (b 0) h rm w ∧ PA own (b 0) h p w.A ∧ SnR own (b 0) h s w.sn
def ImR (b own : Nat → Nat) (h : PH) (im : Nat → Option KP) : Prop := ∃ f, h.1 (b 11) = some (qA 11 2 f) ∧ (∀ a, f 0 = some a → f 1 = some a → False) ∧ ∀ k, k < 2 → KpR b own h (f k) (im k)
/-- all but the object itself -/
def RD (b own : Nat → Nat) (h : PH) (X : XS) (rm : Nat) (sn : Option Nat) : Prop := (TpR b h X.tp ∧ RdR b h ∧ StR b h) ∧ SkR b own h X.sk ∧ TdR b own h X.td ∧ UdR b own h X.L ∧ ImR b own h X.im ∧ RmR own (b 0) h rm X.w ∧ SnR own (b 0) h sn X.w.sn
def skOk (skm : Int) (sk : List Nat) : Prop := skm = sk.length ∨ (skm = -1 ∧ sk = [])
/-- addresses that are told apart: two states' ropes, the object, foreign cells -/
def Apt (b own R R' : Nat → Nat) (z z' : Nat) : Prop := (own z = b 0 ∧ own z' = b 0) ∧ (∀ k, k < 11 → R k ≠ b 16 ∧ R k ≠ b 8 ∧ R k ≠ b 10) ∧ (∀ k, k < 11 → R' k ≠ b 16 ∧ R' k ≠ b 8 ∧ R' k ≠ b 10) ∧ (∀ j k, j < 11 → k < 11 → R j ≠ R' k) ∧ z ≠ z' ∧ b 0 ≠ b 16 ∧ b 8 ≠ b 0 ∧ b 8 ≠ b 16 ∧ b 10 ≠ b 0 ∧ b 10 ≠ b 16
/-- kinds of the other cells of the component that are written -/
def mK (c : PC) : Bool := kd c == 5 || kd c == 10 || kd c == 12 || kd c == 14 || kd c == 2 || kd c == 21 || kd c == 25 || kd c == 19 || kd c == 23 || kd c == 36 || decide (200 ≤ kd c)
theorem mK_rK {c : PC} (k : mK c = true) : rK c = false := by
  unfold mK at k
  unfold rK tK
  simp only [Bool.or_eq_true, beq_iff_eq, decide_eq_true_eq] at k
  simp only [Bool.or_eq_false_iff, beq_eq_false_iff_ne]
  omega
/-- what is kept, but for cells of one kind (1008, 1010: the rows of what is sought and told) -/
def KX (b own own' : Nat → Nat) (ek : Nat) (h h' : PH) : Prop := h'.2.2 = h.2.2 ∧ (∀ x c, h.1 x = some c → own' x = own x) ∧ (∀ x c, h.1 x = some c → (imA c = true ∨ (own x = b 0 ∧ imB c = true)) → h'.1 x = some c) ∧ (∀ x c, h.1 x = some c → mK c = true → kd c ≠ ek → h'.1 x = some c) ∧ ∀ x c, h.1 x = some c → ((x = b 8 ∧ ek ≠ 1008) ∨ (x = b 10 ∧ ek ≠ 1010)) → h'.1 x = some c
section
variable {b own own' own1 own2 : Nat → Nat} {X : XS} {h h' h1 h2 : PH} {rm ek : Nat} {sn : Option Nat}
theorem KX.rf : KX b own own ek h h := ⟨rfl, fun _ _ _ => rfl, fun _ _ e _ => e, fun _ _ e _ _ => e, fun _ _ e _ => e⟩
theorem KX.trans (o : KX b own own1 ek h h1) (k : KX b own1 own2 ek h1 h2) (s : ∀ x c, h.1 x = some c → ∃ d, h1.1 x = some d) : KX b own own2 ek h h2 := by
  refine ⟨k.1.trans o.1, fun x c e => ?_, fun x c e q => ?_, fun x c e q n => k.2.2.2.1 x c (o.2.2.2.1 x c e q n) q n, fun x c e q => k.2.2.2.2 x c (o.2.2.2.2 x c e q) q⟩
  · obtain ⟨d, hd⟩ := s x c e
    exact (k.2.1 x d hd).trans (o.2.1 x c e)
  · refine k.2.2.1 x c (o.2.2.1 x c e q) ?_
    rw [o.2.1 x c e]; exact q
theorem KX.wk (K : KX b own own' 0 h h') (n : ek ≠ 0) : KX b own own' ek h h' := ⟨K.1, K.2.1, K.2.2.1, fun x c e q _ => K.2.2.2.1 x c e q (fun z => by
  unfold mK at q
  rw [z] at q
  exact absurd q (by decide)), fun x c e q => K.2.2.2.2 x c e (by
  rcases q with q | q
  · exact Or.inl ⟨q.1, by decide⟩
  · exact Or.inr ⟨q.1, by decide⟩)⟩
theorem KX.set {a : Nat} {c d : PC} (e : h.1 a = some d) (n1 : mK d = true → kd d = ek) (n2 : imA d = false) (n3 : own a ≠ b 0 ∨ imB d = false) (n4 : a = b 8 → ek = 1008) (n5 : a = b 10 → ek = 1010) : KX b own own ek h (hset h a c) := by
  have g : ∀ x c', h.1 x = some c' → (x = a → False) → (hset h a c).1 x = some c' := fun x c' e' n => up_nx n e'
  refine ⟨rfl, fun _ _ _ => rfl, fun x c' e' q => g x c' e' fun y => ?_, fun x c' e' q n => g x c' e' fun y => ?_, fun x c' e' q => g x c' e' fun y => ?_⟩
  · subst y
    rw [e] at e'
    injection e' with e'
    subst e'
    rcases q with q | q
    · rw [n2] at q; exact absurd q (by decide)
    · rcases n3 with n3 | n3
      · exact n3 q.1
      · rw [n3] at q; exact absurd q.2 (by decide)
  · subst y
    rw [e] at e'
    injection e' with e'
    subst e'
    exact n (n1 q)
  · subst y
    rcases q with q | q
    · exact q.2 (n4 q.1)
    · exact q.2 (n5 q.1)
theorem KX.new {n : Nat} {c : PC} (w : Wf h) : KX b own own ek h (hnew h n c) := ⟨rfl, fun _ _ _ => rfl, fun _ _ e _ => new_old w e, fun _ _ e _ _ => new_old w e, fun _ _ e _ => new_old w e⟩
theorem KX.bump {k n : Nat} : KX b own own ek h (hbump h k n) := ⟨rfl, fun _ _ _ => rfl, fun _ _ e _ => e, fun _ _ e _ _ => e, fun _ _ e _ => e⟩
theorem StrA.kx {a n k : Nat} (P : StrA h a n k) (K : KX b own own' ek h h') (n1 : 25 ≠ ek := by decide) : StrA h' a n k := by
  obtain ⟨f, e1, e2⟩ := P
  exact ⟨f, K.2.2.2.1 _ _ e1 rfl n1, by rw [K.1]; exact e2⟩
theorem StR.kx (P : StR b h) (K : KX b own own' ek h h') (n1 : 25 ≠ ek := by decide) (n2 : ek < 200 ∨ 1000 ≤ ek := by decide) : StR b h' := by
  obtain ⟨p1, p2, p3, p4, p5, p6⟩ := P
  refine ⟨p1.kx K n1, p2.kx K n1, p3.kx K n1, p4.kx K n1, p5.kx K n1, fun k hk => ?_⟩
  rw [K.1]
  refine K.2.2.2.1 _ _ (p6 k hk) ?_ (show 2 * (100 + k) ≠ ek by omega)
  unfold mK
  have : decide (200 ≤ kd (.inr (100 + k, []) : PC)) = true := decide_eq_true (show 200 ≤ 2 * (100 + k) by omega)
  rw [this, Bool.or_true]
theorem TpR.kx {tp : Nat → Nat} (P : TpR b h tp) (K : KX b own own' ek h h') (n1 : 5 ≠ ek := by decide) : TpR b h' tp := by
  obtain ⟨f, e1, e2⟩ := P
  exact ⟨f, K.2.2.2.1 _ _ e1 rfl n1, e2⟩
theorem RdR.kx (P : RdR b h) (K : KX b own own' ek h h') (n1 : (10 ≠ ek ∧ 12 ≠ ek) ∧ (14 ≠ ek ∧ 2 ≠ ek) ∧ 21 ≠ ek := by decide) : RdR b h' := by
  obtain ⟨⟨p, at_, tk, v, mn, nm, x8, x9, x10, e1⟩, ⟨p2, at2, tk2, v2, mn2, nm2, x2, e2⟩, ⟨p3, at3, tk3, v3, mn3, nm3, x3, e3⟩, ⟨fs, e4, e5⟩, ⟨f, e6⟩⟩ := P
  exact ⟨⟨p, at_, tk, v, mn, nm, x8, x9, x10, K.2.2.2.1 _ _ e1 rfl n1.1.1⟩, ⟨p2, at2, tk2, v2, mn2, nm2, x2, K.2.2.2.1 _ _ e2 rfl n1.1.2⟩, ⟨p3, at3, tk3, v3, mn3, nm3, x3, K.2.2.2.1 _ _ e3 rfl n1.2.1.1⟩, ⟨fs, K.2.2.2.1 _ _ e4 rfl n1.2.1.2, e5⟩, ⟨f, K.2.2.2.1 _ _ e6 rfl n1.2.2⟩⟩
theorem SkR.kx {sk : List Nat} (P : SkR b own h sk) (K : KX b own own' ek h h') (n1 : ek ≠ 1008 := by decide) : SkR b own' h' sk := by
  obtain ⟨e0, f, e1, e2⟩ := P
  exact ⟨(K.2.1 _ _ e1).trans e0, f, K.2.2.2.2 _ _ e1 (Or.inl ⟨rfl, n1⟩), e2⟩
theorem TdR.kx {td : Option (Nat → Int)} (P : TdR b own h td) (K : KX b own own' ek h h') (n1 : ek ≠ 1010 := by decide) : TdR b own' h' td := by
  obtain ⟨e0, f, e1, e2⟩ := P
  exact ⟨(K.2.1 _ _ e1).trans e0, f, K.2.2.2.2 _ _ e1 (Or.inr ⟨rfl, n1⟩), e2⟩
theorem UdR.kx {L : List SN} (P : UdR b own h L) (K : KX b own own' ek h h') (n1 : 19 ≠ ek := by decide) : UdR b own' h' L := by
  obtain ⟨f, e1, e2⟩ := P
  refine ⟨f, K.2.2.2.1 _ _ e1 rfl n1, fun j p hj => ?_⟩
  obtain ⟨a, q1, q2⟩ := e2 j p hj
  exact ⟨a, q1, q2.im K.2.1 K.2.2.1⟩
theorem KpR.kx {o : Option Nat} {w : Option KP} (P : KpR b own h o w) (K : KX b own own' ek h h') (n1 : 36 ≠ ek := by decide) : KpR b own' h' o w := by
  cases w with
  | none => exact P
  | some w =>
    obtain ⟨a, rm, p, s, e0, e1, e2, e3, e4⟩ := P
    exact ⟨a, rm, p, s, e0, K.2.2.2.1 _ _ e1 rfl n1, e2.im K.2.1 K.2.2.1, e3.im K.2.1 K.2.2.1, e4.im K.2.1 K.2.2.1⟩
theorem ImR.kx {im : Nat → Option KP} (P : ImR b own h im) (K : KX b own own' ek h h') (n1 : 23 ≠ ek := by decide) (n2 : 36 ≠ ek := by decide) : ImR b own' h' im := by
  obtain ⟨f, e1, e2, e3⟩ := P
  exact ⟨f, K.2.2.2.1 _ _ e1 rfl n1, e2, fun k hk => (e3 k hk).kx K n2⟩
/-- a write elsewhere, an act within a state -/
theorem RD.kx (P : RD b own h X rm sn) (K : KX b own own' 0 h h') : RD b own' h' X rm sn := by
  obtain ⟨⟨p1, p2, p3⟩, p4, p5, p6, p7, p8, p9⟩ := P
  exact ⟨⟨p1.kx K, p2.kx K, p3.kx K⟩, p4.kx K, p5.kx K, p6.kx K, p7.kx K, p8.im K.2.1 K.2.2.1, p9.im K.2.1 K.2.2.1⟩
theorem KX.gf {R : Nat → Nat} {z : Nat} {fs : List Value} (o : GF own own' R z h h') (wf : Wf h) (ez : h.1 z = some (.inr (3, fs))) (hB : ∀ k, k < 11 → R k ≠ b 0 ∧ R k ≠ b 8 ∧ R k ≠ b 10) (o8 : own (b 8) = b 8) (o10 : own (b 10) = b 10) (k8 : ∃ c, h.1 (b 8) = some c ∧ kd c = 1) (k10 : ∃ c, h.1 (b 10) = some c ∧ kd c = 1) : KX b own own' ek h h' := by
  refine ⟨o.2.2.1, fun x c e => o.2.2.2.2.1 x (wf.lt e), fun x c e q => ?_, fun x c e k _ => ?_, fun x c e q => ?_⟩
  · have n : x ≠ z := fun w => by
      subst w
      rw [ez] at e
      injection e with e
      subst e
      rcases q with q | q
      · exact ff q rfl
      · exact ff q.2 rfl
    refine o.2.2.2.2.2 x c e n ?_
    rcases q with q | q
    · refine Or.inr ?_
      unfold imA at q
      simp only [Bool.or_eq_true, beq_iff_eq] at q
      unfold rK tK
      rcases q with (q | q) | q <;> (rw [q]; decide)
    · exact Or.inl fun k hk w => (hB k hk).1 (w.symm.trans q.1)
  · have n : x ≠ z := fun w => by
      subst w
      rw [ez] at e
      injection e with e
      subst e
      exact ff k rfl
    exact o.kd e n (mK_rK k)
  · rcases q with ⟨q, _⟩ | ⟨q, _⟩
    · subst q
      obtain ⟨c8, e8, k8⟩ := k8
      have n : b 8 ≠ z := fun w => by
        rw [w, ez] at e8
        injection e8 with e8
        subst e8
        exact absurd k8 (by show ¬ (2 * 3 = 1); decide)
      exact o.2.2.2.2.2 _ c e n (Or.inl fun k hk w => (hB k hk).2.1 (w.symm.trans o8))
    · subst q
      obtain ⟨c8, e8, k8⟩ := k10
      have n : b 10 ≠ z := fun w => by
        rw [w, ez] at e8
        injection e8 with e8
        subst e8
        exact absurd k8 (by show ¬ (2 * 3 = 1); decide)
      exact o.2.2.2.2.2 _ c e n (Or.inl fun k hk w => (hB k hk).2.2 (w.symm.trans o10))
theorem RD.k8 (P : RD b own h X rm sn) : own (b 8) = b 8 ∧ own (b 10) = b 10 ∧ (∃ c, h.1 (b 8) = some c ∧ kd c = 1) ∧ ∃ c, h.1 (b 10) = some c ∧ kd c = 1 := by
  obtain ⟨_, ⟨e0, f, e1, _⟩, ⟨g0, g, g1, _⟩, _⟩ := P
  exact ⟨e0, g0, ⟨_, e1, rfl⟩, ⟨_, g1, rfl⟩⟩
end
