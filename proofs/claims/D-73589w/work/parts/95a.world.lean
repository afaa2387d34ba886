/-! PURE SIDE: the whole relation -/
set_option maxRecDepth 100000
/-- names of rows -/
def okN (l : List Nat) : Prop := 1 ≤ l.length ∧ l.length ≤ 7 ∧ ∀ c, c ∈ l → 97 ≤ c ∧ c ≤ 122
def n256 (l : List Nat) : Nat := l.foldl (fun a c => 256 * a + c) 0
def n27 (l : List Nat) : Nat := l.foldl (fun a c => 27 * a + (c - 96)) 0
/-- a sentence: ones as rows of four, the top one -/
abbrev NT : Type := Nat → Nat × Nat × Nat × Nat
abbrev SX : Type := NT × Nat
/-- a world: how many rows, low, names, leaves, letters, a sentence -/
abbrev KP : Type := Nat × Nat × (Nat → List Nat) × (Nat → LL) × List Nat × Option SX
abbrev KP.n (w : KP) : Nat := w.1
abbrev KP.low (w : KP) : Nat := w.2.1
abbrev KP.nm (w : KP) : Nat → List Nat := w.2.2.1
abbrev KP.A (w : KP) : Nat → LL := w.2.2.2.1
abbrev KP.T (w : KP) : List Nat := w.2.2.2.2.1
abbrev KP.sn (w : KP) : Option SX := w.2.2.2.2.2
/-- all: tape, its length, the world, undo, images, sought, told, fault -/
abbrev XS : Type := (Nat → Nat) × Nat × KP × List SN × (Nat → Option KP) × List Nat × Option (Nat → Int) × Int
abbrev XS.tp (X : XS) : Nat → Nat := X.1
abbrev XS.len (X : XS) : Nat := X.2.1
abbrev XS.w (X : XS) : KP := X.2.2.1
abbrev XS.L (X : XS) : List SN := X.2.2.2.1
abbrev XS.im (X : XS) : Nat → Option KP := X.2.2.2.2.1
abbrev XS.sk (X : XS) : List Nat := X.2.2.2.2.2.1
abbrev XS.td (X : XS) : Option (Nat → Int) := X.2.2.2.2.2.2.1
abbrev XS.ft (X : XS) : Int := X.2.2.2.2.2.2.2
def SW (n : Nat) (nt : NT) : Nat → Nat → Prop
  | 0, _ => False
  | d + 1, k => k < 60 ∧ (((nt k).1 = 1 ∧ (nt k).2.1 < k ∧ SW n nt d (nt k).2.1) ∨ ((nt k).1 = 2 ∧ ((nt k).2.1 < k ∧ (nt k).2.2.1 < k) ∧ SW n nt d (nt k).2.1 ∧ SW n nt d (nt k).2.2.1) ∨ ((nt k).1 = 3 ∧ ((nt k).2.1 < k ∧ (nt k).2.2.1 < k) ∧ SW n nt d (nt k).2.1 ∧ SW n nt d (nt k).2.2.1) ∨ ((nt k).1 = 64 ∨ (nt k).1 = 65) ∨ (((nt k).1 = 66 ∨ (nt k).1 = 67) ∧ (nt k).2.1 < n) ∨ (68 ≤ (nt k).1 ∧ (nt k).1 < 73 ∧ (nt k).2.2.1 ≤ 999 ∧ 60 ≤ (nt k).2.2.2 ∧ (nt k).2.2.2 ≤ 62))
def SNo (low n : Nat) (p : SN) : Prop := (∀ k, k < 11 → LsB low (p.1 k)) ∧ Lt p.1 p.2 ∧ ∀ r, n ≤ r → r < 4 → p.1 r = []
def WI (w : KP) : Prop := w.n ≤ 4 ∧ (4 ≤ w.low ∧ w.low ≤ 32) ∧ SNo w.low w.n (w.A, w.T) ∧ (∀ r, r < w.n → okN (w.nm r)) ∧ ∀ s, w.sn = some s → SW w.n s.1 60 s.2
def XI (X : XS) : Prop := WI X.w ∧ X.len ≤ 940 ∧ (∀ i, X.tp i < 256) ∧ X.L.length ≤ 8 ∧ (∀ p, p ∈ X.L → SNo X.w.low X.w.n p) ∧ (∀ k w, X.im k = some w → WI w) ∧ X.sk.length ≤ 600 ∧ (∀ x, x ∈ X.sk → x ≤ 600)
/-- kinds of cells that are not written once they stand, and of foreign ones -/
def imA (c : PC) : Bool := kd c == 22 || kd c == 17 || kd c == 24
def imB (c : PC) : Bool := kd c == 3 || kd c == 1 || kd c == 4 || kd c == 26 || kd c == 28 || kd c == 30 || kd c == 32 || kd c == 34
def fK (c : PC) : Bool := kd c == 16 || kd c == 1 || kd c == 3 || kd c == 7
def Prt (own : Nat → Nat) (B M x : Nat) (c : PC) : Prop := (own x = M ∧ fK c = true) ∨ imA c = true ∨ (own x = B ∧ imB c = true)
/-- what every act of the component leaves -/
def FX (own own' : Nat → Nat) (B M : Nat) (h h' : PH) : Prop := h.2.1.1 ≤ h'.2.1.1 ∧ h.2.1.2 ≤ h'.2.1.2 ∧ h'.2.2 = h.2.2 ∧ Wf h' ∧ (∀ x, x < h.2.1.1 → own' x = own x) ∧ ∀ x c, h.1 x = some c → Prt own B M x c → h'.1 x = some c
theorem ff {x : Bool} (h : x = true) (e : x = false) : False := by rw [e] at h; cases h
section
variable {own own' own1 own2 : Nat → Nat} {B M z a : Nat} {h h' h1 h2 : PH} {R : Nat → Nat}
theorem FX.rf (w : Wf h) : FX own own B M h h := ⟨Nat.le_refl _, Nat.le_refl _, rfl, w, fun _ _ => rfl, fun _ _ e _ => e⟩
theorem FX.wf (o : FX own own' B M h h') : Wf h' := o.2.2.2.1
theorem FX.trans (o : FX own own1 B M h h1) (k : FX own1 own2 B M h1 h2) (w : Wf h) : FX own own2 B M h h2 := ⟨Nat.le_trans o.1 k.1, Nat.le_trans o.2.1 k.2.1, k.2.2.1.trans o.2.2.1, k.2.2.2.1, fun x hx => (k.2.2.2.2.1 x (Nat.lt_of_lt_of_le hx o.1)).trans (o.2.2.2.2.1 x hx), fun x c e q => k.2.2.2.2.2 x c (o.2.2.2.2.2 x c e q) (by unfold Prt; rw [o.2.2.2.2.1 x (w.lt e)]; exact q)⟩
theorem FX.gf (o : GF own own' R z h h') (ez : ∃ fs, h.1 z = some (.inr (3, fs))) (hB : ∀ k, k < 11 → R k ≠ B) (hM : ∀ k, k < 11 → R k ≠ M) : FX own own' B M h h' := by
  obtain ⟨fs, ez⟩ := ez
  refine ⟨o.1, o.2.1, o.2.2.1, o.wf, o.2.2.2.2.1, fun x c e q => ?_⟩
  have nz : x ≠ z := fun w => by
    subst w
    rw [ez] at e
    injection e with e
    subst e
    rcases q with q | q | q
    · exact ff q.2 rfl
    · exact ff q rfl
    · exact ff q.2 rfl
  refine o.2.2.2.2.2 x c e nz ?_
  rcases q with q | q | q
  · exact Or.inl fun k hk w => hM k hk (w.symm.trans q.1)
  · refine Or.inr ?_
    unfold imA at q
    simp only [Bool.or_eq_true, beq_iff_eq] at q
    unfold rK tK
    rcases q with (q | q) | q <;> (rw [q]; decide)
  · exact Or.inl fun k hk w => hB k hk (w.symm.trans q.1)
theorem FX.set {c d : PC} (w : Wf h) (e : h.1 a = some d) (n : ¬ Prt own B M a d) : FX own own B M h (hset h a c) := ⟨Nat.le_refl _, Nat.le_refl _, rfl, w.setE e, fun _ _ => rfl, fun x c' e' q => up_nx (fun y => by
  subst y
  rw [e] at e'
  injection e' with e'
  subst e'
  exact n q) e'⟩
theorem FX.new {n : Nat} {c : PC} (w : Wf h) : FX own own B M h (hnew h n c) := ⟨Nat.le_succ _, Nat.le_add_right _ _, rfl, w.new, fun _ _ => rfl, fun _ _ e _ => new_old w e⟩
theorem FX.bump {k n : Nat} (w : Wf h) : FX own own B M h (hbump h k n) := ⟨Nat.le_add_right _ _, Nat.le_add_right _ _, rfl, w.bump, fun _ _ => rfl, fun _ _ e _ => e⟩
/-- other owners of new cells -/
theorem FX.ow (o : FX own own1 B M h h') (k : ∀ x, x < h.2.1.1 → own' x = own x) : FX own own' B M h h' := ⟨o.1, o.2.1, o.2.2.1, o.2.2.2.1, k, o.2.2.2.2.2⟩
theorem nP {d : PC} (f : fK d = false) (i : imA d = false) (j : imB d = false) : ¬ Prt own B M a d := fun q => by
  rcases q with q | q | q
  · rw [f] at q; exact absurd q.2 (by decide)
  · rw [i] at q; exact absurd q (by decide)
  · rw [j] at q; exact absurd q.2 (by decide)
theorem nPo {d : PC} (i : imA d = false) (e1 : own a ≠ B) (e2 : own a ≠ M) : ¬ Prt own B M a d := fun q => by
  rcases q with q | q | q
  · exact e2 q.1
  · rw [i] at q; exact absurd q (by decide)
  · exact e1 q.1
end
/-- the room, a sentence, as objects -/
def RmR (own : Nat → Nat) (B : Nat) (h : PH) (rm : Nat) (w : KP) : Prop := ∃ na f, h.1 rm = some (.inr (2, [.ref na, .int (ii w.n), .int (ii w.low)])) ∧ own rm = B ∧ own na = B ∧ h.1 na = some (.inl (1, 4, .inr (.inl f))) ∧ ∀ r, r < w.n → f r = ll (n256 (w.nm r))
def CR (own : Nat → Nat) (B : Nat) (h : PH) (nt : NT) : Nat → Nat → Nat → Prop
  | 0, _, _ => False
  | d + 1, a, k => own a = B ∧ (((nt k).1 = 1 ∧ ∃ b, h.1 a = some (.inr (13, [.ref b])) ∧ CR own B h nt d b (nt k).2.1) ∨ ((nt k).1 = 2 ∧ ∃ b c, h.1 a = some (.inr (16, [.ref b, .ref c])) ∧ CR own B h nt d b (nt k).2.1 ∧ CR own B h nt d c (nt k).2.2.1) ∨ ((nt k).1 = 3 ∧ ∃ b c, h.1 a = some (.inr (17, [.ref b, .ref c])) ∧ CR own B h nt d b (nt k).2.1 ∧ CR own B h nt d c (nt k).2.2.1) ∨ (∃ (w : Nat) (x : Int), w < 4 ∧ (nt k).1 = 64 + w ∧ h.1 a = some (.inr (14, [.int (ii w), .int (ii x)])) ∧ (2 ≤ w → x = (nt k).2.1)) ∨ (∃ w : Nat, w < 5 ∧ (nt k).1 = 68 + w ∧ h.1 a = some (.inr (15, [.int (ii w), .int (ii (nt k).2.2.2), .int (ii (nt k).2.2.1)]))))
def SnR (own : Nat → Nat) (B : Nat) (h : PH) (o : Option Nat) (s : Option SX) : Prop := match s with
  | none => o = none
  | some s => ∃ a, o = some a ∧ CR own B h s.1 60 a s.2
section
variable {own own' : Nat → Nat} {B M a rm : Nat} {h h' : PH} {w : KP} {nt : NT} {ls : LL} {A : Nat → LL}
/-- what stands stays -/
theorem PK.im (P : PK own B h a ls) (ho : ∀ x c, h.1 x = some c → own' x = own x) (o : ∀ x c, h.1 x = some c → (imA c = true ∨ (own x = B ∧ imB c = true)) → h'.1 x = some c) : PK own' B h' a ls := by
  obtain ⟨ba, sa, f, g, p1, p2, p3, p4, p5, p6⟩ := P
  exact ⟨ba, sa, f, g, o _ _ p1 (Or.inl rfl), ⟨(ho _ _ p3).trans p2.1, (ho _ _ p4).trans p2.2⟩, o _ _ p3 (Or.inr ⟨p2.1, rfl⟩), o _ _ p4 (Or.inr ⟨p2.2, rfl⟩), p5, p6⟩
theorem PA.im (P : PA own B h a A) (ho : ∀ x c, h.1 x = some c → own' x = own x) (o : ∀ x c, h.1 x = some c → (imA c = true ∨ (own x = B ∧ imB c = true)) → h'.1 x = some c) : PA own' B h' a A := by
  obtain ⟨f, p1, p2⟩ := P
  refine ⟨f, o _ _ p1 (Or.inl rfl), fun k hk => ?_⟩
  obtain ⟨p, e, q⟩ := p2 k hk
  exact ⟨p, e, q.im ho o⟩
theorem RmR.im (P : RmR own B h rm w) (ho : ∀ x c, h.1 x = some c → own' x = own x) (o : ∀ x c, h.1 x = some c → (imA c = true ∨ (own x = B ∧ imB c = true)) → h'.1 x = some c) : RmR own' B h' rm w := by
  obtain ⟨na, f, p1, p2, p3, p4, p5⟩ := P
  exact ⟨na, f, o _ _ p1 (Or.inr ⟨p2, rfl⟩), (ho _ _ p1).trans p2, (ho _ _ p4).trans p3, o _ _ p4 (Or.inr ⟨p3, rfl⟩), p5⟩
theorem CR.im (ho : ∀ x c, h.1 x = some c → own' x = own x) (o : ∀ x c, h.1 x = some c → (imA c = true ∨ (own x = B ∧ imB c = true)) → h'.1 x = some c) : ∀ (d a k : Nat), CR own B h nt d a k → CR own' B h' nt d a k := by
  intro d
  induction d with
  | zero => intro a k q; exact q
  | succ d ih =>
    intro a k q
    obtain ⟨q0, q⟩ := q
    rcases q with ⟨e, b, q1, q2⟩ | ⟨e, b, c, q1, q2, q3⟩ | ⟨e, b, c, q1, q2, q3⟩ | ⟨w, x, e1, e2, q1, q2⟩ | ⟨w, e1, e2, q1⟩
    · exact ⟨(ho _ _ q1).trans q0, Or.inl ⟨e, b, o _ _ q1 (Or.inr ⟨q0, rfl⟩), ih _ _ q2⟩⟩
    · exact ⟨(ho _ _ q1).trans q0, Or.inr (Or.inl ⟨e, b, c, o _ _ q1 (Or.inr ⟨q0, rfl⟩), ih _ _ q2, ih _ _ q3⟩)⟩
    · exact ⟨(ho _ _ q1).trans q0, Or.inr (Or.inr (Or.inl ⟨e, b, c, o _ _ q1 (Or.inr ⟨q0, rfl⟩), ih _ _ q2, ih _ _ q3⟩))⟩
    · exact ⟨(ho _ _ q1).trans q0, Or.inr (Or.inr (Or.inr (Or.inl ⟨w, x, e1, e2, o _ _ q1 (Or.inr ⟨q0, rfl⟩), q2⟩)))⟩
    · exact ⟨(ho _ _ q1).trans q0, Or.inr (Or.inr (Or.inr (Or.inr ⟨w, e1, e2, o _ _ q1 (Or.inr ⟨q0, rfl⟩)⟩)))⟩
theorem SnR.im {p : Option Nat} {s : Option SX} (P : SnR own B h p s) (ho : ∀ x c, h.1 x = some c → own' x = own x) (o : ∀ x c, h.1 x = some c → (imA c = true ∨ (own x = B ∧ imB c = true)) → h'.1 x = some c) : SnR own' B h' p s := by
  cases s with
  | none => exact P
  | some s =>
    obtain ⟨a, e, q⟩ := P
    exact ⟨a, e, CR.im ho o _ _ _ q⟩
end
