/-! PURE SIDE: sentences: what is read -/
set_option maxRecDepth 100000
/-- ones so far, how many, how many parts -/
abbrev SyT : Type := NT × Nat × Nat
abbrev SyT.c (s : SyT) : Nat := s.2.1
abbrev SyT.q (s : SyT) : Nat := s.2.2
abbrev SyR : Type := (Nat × Nat) ⊕ (SyT × Tk)
def syPut (s : SyT) (x : Nat × Nat × Nat × Nat) : SyT := (va_up s.1 s.2.1 x, s.2.1 + 1, s.2.2)
def syL (f : Nat → Nat) (n : Nat) (one : SyT → Tk → SyR) (j w : Nat) : Nat → SyT → Tk → SyR
  | 0, _, _ => .inl (0, 0)
  | k + 1, s, t => if isKw f t j = false then .inr (s, t) else match one s (nx f n 200 t) with
    | .inl e => .inl e
    | .inr (s', t') => syL f n one j w k (syPut s' (w, s.c - 1, s'.c - 1, 0)) t'
def syM (f : Nat → Nat) (n : Nat) (nm : Nat → List Nat) (m w : Nat) (s : SyT) (t : Tk) : SyR := if w < 2 then .inr (syPut s (64 + w, 0, 0, 0), t) else if nmOk f t = false then .inl (1, t.at_) else if ofN nm (seg f t.at_ t.p) m 0 = -1 then .inl (3, t.at_) else .inr (syPut s (64 + w, (ofN nm (seg f t.at_ t.p) m 0).toNat, 0, 0), nx f n 200 t)
def syC (f : Nat → Nat) (n w : Nat) (s : SyT) (t : Tk) : SyR := if isSg f t 60 = false ∧ isSg f t 61 = false ∧ isSg f t 62 = false then .inl (1, t.at_) else if (nx f n 200 t).k ≠ 2 then .inl (1, (nx f n 200 t).at_) else .inr (syPut s (68 + w, 0, nv (seg f (nx f n 200 t).at_ (nx f n 200 t).p), f t.at_), nx f n 200 (nx f n 200 t))
def syN (r : SyR) : SyR := match r with
  | .inl e => .inl e
  | .inr (s', t') => .inr (syPut s' (1, s'.c - 1, 0, 0), t')
def syK (f : Nat → Nat) (n : Nat) (r : SyR) : SyR := match r with
  | .inl e => .inl e
  | .inr (s', t') => if isSg f t' 41 = false then .inl (1, t'.at_) else .inr (s', nx f n 200 t')
def syB (f : Nat → Nat) (n : Nat) (nm : Nat → List Nat) (m : Nat) (rg : Nat → Nat → SyT → Tk → SyR) (deep : Nat) (s : SyT) (t : Tk) : SyR := if isKw f t 13 = true then syN (rg 2 (deep + 1) s (nx f n 200 t)) else if isSg f t 40 = true then syK f n (rg 0 (deep + 1) s (nx f n 200 t)) else if fkw f t 14 4 0 ≠ -1 then syM f n nm m (fkw f t 14 4 0).toNat s (nx f n 200 t) else syC f n (fkw f t 18 5 0).toNat s (nx f n 200 t)
def syS (f : Nat → Nat) (n : Nat) (nm : Nat → List Nat) (m : Nat) (rg : Nat → Nat → SyT → Tk → SyR) (deep : Nat) (s : SyT) (t : Tk) : SyR := if isKw f t 13 = false ∧ isSg f t 40 = false ∧ fkw f t 14 4 0 = -1 ∧ fkw f t 18 5 0 = -1 then .inl (1, t.at_) else if 20 ≤ s.q ∨ 8 < deep then .inl (4, t.at_) else syB f n nm m rg deep (s.1, s.2.1, s.2.2 + 1) t
def syA (f : Nat → Nat) (n : Nat) (one : SyT → Tk → SyR) (j w : Nat) (s : SyT) (t : Tk) : SyR := match one s t with
  | .inl e => .inl e
  | .inr (s', t') => syL f n one j w 21 s' t'
def syG (f : Nat → Nat) (n : Nat) (nm : Nat → List Nat) (m : Nat) : Nat → Nat → Nat → SyT → Tk → SyR
  | 0, _, _, _, _ => .inl (0, 0)
  | d + 1, sel, deep, s, t => if sel = 0 then syA f n (syG f n nm m d 1 deep) 11 3 s t else if sel = 1 then syA f n (syG f n nm m d 2 deep) 12 2 s t else syS f n nm m (syG f n nm m d) deep s t
/-- a one of the row is as it may be -/
def NOk (m : Nat) (nt : NT) (k : Nat) : Prop := ((nt k).1 = 1 ∧ (nt k).2.1 < k) ∨ (((nt k).1 = 2 ∨ (nt k).1 = 3) ∧ (nt k).2.1 < k ∧ (nt k).2.2.1 < k) ∨ ((nt k).1 = 64 ∨ (nt k).1 = 65) ∨ (((nt k).1 = 66 ∨ (nt k).1 = 67) ∧ (nt k).2.1 < m) ∨ (68 ≤ (nt k).1 ∧ (nt k).1 < 73 ∧ (nt k).2.2.1 ≤ 999 ∧ 60 ≤ (nt k).2.2.2 ∧ (nt k).2.2.2 ≤ 62)
def TOk (m : Nat) (s : SyT) : Prop := ∀ k, k < s.c → NOk m s.1 k
/-- more ones than before -/
def SyM (m : Nat) (s s' : SyT) : Prop := s.q ≤ s'.q ∧ s'.q ≤ 20 ∧ s.c ≤ s'.c ∧ s'.c + 2 * s.q ≤ s.c + 2 * s'.q ∧ (∀ k, k < s.c → s'.1 k = s.1 k) ∧ (TOk m s → TOk m s')
def SyO (m : Nat) (s s' : SyT) : Prop := SyM m s s' ∧ s.q < s'.q ∧ s.c < s'.c ∧ s'.c + 1 + 2 * s.q ≤ s.c + 2 * s'.q
section
variable {f : Nat → Nat} {n m : Nat} {nm : Nat → List Nat} {s s' s2 : SyT} {t t' : Tk}
theorem isSg_at {c : Nat} (h : isSg f t c = true) : t.k = 3 ∧ f t.at_ = c := by
  unfold isSg at h
  exact of_decide_eq_true h
theorem SyM.rf (h : s.q ≤ 20) : SyM m s s := ⟨Nat.le_refl _, h, Nat.le_refl _, Nat.le_refl _, fun _ _ => rfl, fun q => q⟩
theorem SyM.trans (o : SyM m s s') (k : SyM m s' s2) : SyM m s s2 := by
  obtain ⟨o1, o2, o3, o4, o5, o6⟩ := o
  obtain ⟨k1, k2, k3, k4, k5, k6⟩ := k
  exact ⟨by omega, k2, by omega, by omega, fun j hj => (k5 j (by omega)).trans (o5 j hj), fun q => k6 (o6 q)⟩
theorem NOk.cg {nt nt' : NT} {k : Nat} (h : NOk m nt k) (e : nt' k = nt k) : NOk m nt' k := by
  unfold NOk
  rw [e]
  exact h
theorem TOk.put {x : Nat × Nat × Nat × Nat} (h : TOk m s) (hx : (x.1 = 1 ∧ x.2.1 < s.c) ∨ ((x.1 = 2 ∨ x.1 = 3) ∧ x.2.1 < s.c ∧ x.2.2.1 < s.c) ∨ (x.1 = 64 ∨ x.1 = 65) ∨ ((x.1 = 66 ∨ x.1 = 67) ∧ x.2.1 < m) ∨ (68 ≤ x.1 ∧ x.1 < 73 ∧ x.2.2.1 ≤ 999 ∧ 60 ≤ x.2.2.2 ∧ x.2.2.2 ≤ 62)) : TOk m (syPut s x) := fun k hk => by
  have hk : k < s.c + 1 := hk
  by_cases c : k = s.c
  · subst c
    unfold NOk
    have e : (syPut s x).1 s.c = x := up_at
    rw [e]
    exact hx
  · exact (h k (by omega)).cg (va_up_ne _ _ c)
/-- one more -/
theorem SyM.put {x : Nat × Nat × Nat × Nat} (hq : s.q ≤ 20) (o : SyM m s s') (c1 : s'.c + 1 + 2 * s.q ≤ s.c + 2 * s'.q) (hx : (x.1 = 1 ∧ x.2.1 < s'.c) ∨ ((x.1 = 2 ∨ x.1 = 3) ∧ x.2.1 < s'.c ∧ x.2.2.1 < s'.c) ∨ (x.1 = 64 ∨ x.1 = 65) ∨ ((x.1 = 66 ∨ x.1 = 67) ∧ x.2.1 < m) ∨ (68 ≤ x.1 ∧ x.1 < 73 ∧ x.2.2.1 ≤ 999 ∧ 60 ≤ x.2.2.2 ∧ x.2.2.2 ≤ 62)) : SyM m s (syPut s' x) := by
  obtain ⟨o1, o2, o3, o4, o5, o6⟩ := o
  refine ⟨o1, o2, ?_, ?_, fun k hk => ?_, fun q => (o6 q).put hx⟩
  · show s.c ≤ s'.c + 1; omega
  · exact c1
  · have : (syPut s' x).1 k = s'.1 k := va_up_ne _ _ (show k ≠ s'.c by omega)
    rw [this]; exact o5 k hk
/-- a reading that goes well -/
def SyF (f : Nat → Nat) (n m : Nat) (one : SyT → Tk → SyR) : Prop := ∀ s t s' t', s.q ≤ 20 → TkOk f n t → one s t = .inr (s', t') → SyO m s s' ∧ TkOk f n t'
theorem syL_ok {one : SyT → Tk → SyR} {j w : Nat} (hn : n ≤ 940) (hw : w = 2 ∨ w = 3) (H : SyF f n m one) : ∀ (k : Nat) (s : SyT) (t : Tk) (s' : SyT) (t' : Tk), s.q ≤ 20 → 1 ≤ s.c → TkOk f n t → syL f n one j w k s t = .inr (s', t') → SyM m s s' ∧ TkOk f n t' := by
  intro k
  induction k with
  | zero => intro s t s' t' _ _ _ e; cases e
  | succ k ih =>
    intro s t s' t' hq hc T e
    rw [syL] at e
    by_cases c : isKw f t j = false
    · rw [if_pos c] at e
      injection e with e
      injection e with e1 e2
      subst e1 e2
      exact ⟨SyM.rf hq, T⟩
    rw [if_neg c] at e
    cases h1 : one s (nx f n 200 t) with
    | inl x => rw [h1] at e; cases e
    | inr x =>
      obtain ⟨s1, t1⟩ := x
      rw [h1] at e
      obtain ⟨o1, T1⟩ := H s _ s1 t1 hq (tok_ok T.1.1 (by decide) hn) h1
      have o2 : SyM m s (syPut s1 (w, s.c - 1, s1.c - 1, 0)) := SyM.put hq o1.1 o1.2.2.2 (Or.inr (Or.inl ⟨hw, by have := o1.2.2.1; show s.c - 1 < s1.c; omega, by have := o1.2.2.1; show s1.c - 1 < s1.c; omega⟩))
      obtain ⟨o3, T3⟩ := ih _ t1 s' t' o2.2.1 (by show 1 ≤ s1.c + 1; omega) T1 e
      exact ⟨o2.trans o3, T3⟩
theorem syA_ok {one : SyT → Tk → SyR} {j w : Nat} (hn : n ≤ 940) (hw : w = 2 ∨ w = 3) (H : SyF f n m one) : SyF f n m (syA f n one j w) := by
  intro s t s' t' hq T e
  unfold syA at e
  cases h1 : one s t with
  | inl x => rw [h1] at e; cases e
  | inr x =>
    obtain ⟨s1, t1⟩ := x
    rw [h1] at e
    obtain ⟨o1, T1⟩ := H s t s1 t1 hq T h1
    obtain ⟨o2, T2⟩ := syL_ok hn hw H 21 s1 t1 s' t' o1.1.2.1 (by have := o1.2.2.1; omega) T1 e
    obtain ⟨p1, p2, p3, p4⟩ := o1
    obtain ⟨q1, q2, q3, q4, q5⟩ := id o2
    exact ⟨⟨p1.trans o2, by omega, by omega, by omega⟩, T2⟩
theorem syS_ok {rg : Nat → Nat → SyT → Tk → SyR} {deep : Nat} (hn : n ≤ 940) (hf : ∀ i, f i < 256) (H : ∀ sel, SyF f n m (rg sel (deep + 1))) : SyF f n m (syS f n nm m rg deep) := by
  intro s t s' t' hq T e
  unfold syS at e
  by_cases c1 : isKw f t 13 = false ∧ isSg f t 40 = false ∧ fkw f t 14 4 0 = -1 ∧ fkw f t 18 5 0 = -1
  · rw [if_pos c1] at e; cases e
  rw [if_neg c1] at e
  by_cases c2 : 20 ≤ s.q ∨ 8 < deep
  · rw [if_pos c2] at e; cases e
  rw [if_neg c2] at e
  have T1 : TkOk f n (nx f n 200 t) := tok_ok T.1.1 (by decide) hn
  have q1 : SyT.q (s.1, s.2.1, s.2.2 + 1) ≤ 20 := by show s.q + 1 ≤ 20; omega
  have o0 : SyM m s (s.1, s.2.1, s.2.2 + 1) := ⟨Nat.le_succ _, q1, Nat.le_refl _, by show s.c + 2 * s.q ≤ s.c + 2 * (s.q + 1); omega, fun _ _ => rfl, fun q => q⟩
  have fin : ∀ {x : Nat × Nat × Nat × Nat}, ((x.1 = 64 ∨ x.1 = 65) ∨ ((x.1 = 66 ∨ x.1 = 67) ∧ x.2.1 < m) ∨ (68 ≤ x.1 ∧ x.1 < 73 ∧ x.2.2.1 ≤ 999 ∧ 60 ≤ x.2.2.2 ∧ x.2.2.2 ≤ 62)) → SyO m s (syPut (s.1, s.2.1, s.2.2 + 1) x) := fun {x} hx => ⟨SyM.put hq o0 (by show s.c + 1 + 2 * s.q ≤ s.c + 2 * (s.q + 1); omega) (Or.inr (Or.inr hx)), Nat.lt_succ_self _, Nat.lt_succ_self _, by show s.c + 1 + 1 + 2 * s.q ≤ s.c + 2 * (s.q + 1); omega⟩
  unfold syB at e
  by_cases k13 : isKw f t 13 = true
  · rw [if_pos k13] at e
    cases h1 : rg 2 (deep + 1) (s.1, s.2.1, s.2.2 + 1) (nx f n 200 t) with
    | inl x => rw [h1] at e; cases e
    | inr x =>
      obtain ⟨s1, t1⟩ := x
      rw [h1] at e
      injection e with e
      injection e with e1 e2
      subst e1 e2
      obtain ⟨⟨⟨p1, p2, p3, p4, p5, p6⟩, p7, p8, p9⟩, T2⟩ := H 2 _ _ s1 t1 q1 T1 h1
      have p1 : s.q + 1 ≤ s1.q := p1
      have p7 : s.q + 1 < s1.q := p7
      have p3 : s.c ≤ s1.c := p3
      have p8 : s.c < s1.c := p8
      have p9 : s1.c + 1 + 2 * (s.q + 1) ≤ s.c + 2 * s1.q := p9
      exact ⟨⟨SyM.put hq ⟨by omega, p2, p3, by omega, p5, p6⟩ (by omega) (Or.inl ⟨rfl, by show s1.c - 1 < s1.c; omega⟩), by show s.q < s1.q; omega, by show s.c < s1.c + 1; omega, by show s1.c + 1 + 1 + 2 * s.q ≤ s.c + 2 * s1.q; omega⟩, T2⟩
  rw [if_neg k13] at e
  by_cases k40 : isSg f t 40 = true
  · rw [if_pos k40] at e
    cases h1 : rg 0 (deep + 1) (s.1, s.2.1, s.2.2 + 1) (nx f n 200 t) with
    | inl x => rw [h1] at e; cases e
    | inr x =>
      obtain ⟨s1, t1⟩ := x
      rw [h1] at e
      unfold syK at e
      dsimp only at e
      by_cases k41 : isSg f t1 41 = false
      · rw [if_pos k41] at e; cases e
      rw [if_neg k41] at e
      injection e with e
      injection e with e1 e2
      subst e1 e2
      obtain ⟨⟨⟨p1, p2, p3, p4, p5, p6⟩, p7, p8, p9⟩, T2⟩ := H 0 _ _ s1 t1 q1 T1 h1
      have p1 : s.q + 1 ≤ s1.q := p1
      have p7 : s.q + 1 < s1.q := p7
      have p3 : s.c ≤ s1.c := p3
      have p8 : s.c < s1.c := p8
      have p9 : s1.c + 1 + 2 * (s.q + 1) ≤ s.c + 2 * s1.q := p9
      exact ⟨⟨⟨by omega, p2, p3, by omega, p5, p6⟩, by omega, p8, by omega⟩, tok_ok T2.1.1 (by decide) hn⟩
  rw [if_neg k40] at e
  by_cases km : fkw f t 14 4 0 ≠ -1
  · rw [if_pos km] at e
    have fk := fkw_le (f := f) (t := t) (k0 := 14) 4 0
    generalize hw : (fkw f t 14 4 0).toNat = w at e
    have w4 : w < 4 := by omega
    unfold syM at e
    by_cases w2 : w < 2
    · rw [if_pos w2] at e
      injection e with e
      injection e with e1 e2
      subst e1 e2
      exact ⟨fin (Or.inl (by show 64 + w = 64 ∨ 64 + w = 65; omega)), T1⟩
    rw [if_neg w2] at e
    by_cases c3 : nmOk f (nx f n 200 t) = false
    · rw [if_pos c3] at e; cases e
    rw [if_neg c3] at e
    by_cases c4 : ofN nm (seg f (nx f n 200 t).at_ (nx f n 200 t).p) m 0 = -1
    · rw [if_pos c4] at e; cases e
    rw [if_neg c4] at e
    injection e with e
    injection e with e1 e2
    subst e1 e2
    refine ⟨fin (Or.inr (Or.inl ⟨by show 64 + w = 66 ∨ 64 + w = 67; omega, ?_⟩)), tok_ok T1.1.1 (by decide) hn⟩
    show (ofN nm (seg f (nx f n 200 t).at_ (nx f n 200 t).p) m 0).toNat < m
    rcases ofN_le (nm := nm) (l := seg f (nx f n 200 t).at_ (nx f n 200 t).p) m 0 with q | ⟨r, q, q2⟩
    · exact absurd q c4
    · omega
  rw [if_neg km] at e
  have fk := fkw_le (f := f) (t := t) (k0 := 18) 5 0
  have kc : fkw f t 18 5 0 ≠ -1 := fun q => c1 ⟨by rw [Bool.not_eq_true] at k13; exact k13, by rw [Bool.not_eq_true] at k40; exact k40, Classical.not_not.mp km, q⟩
  generalize hw : (fkw f t 18 5 0).toNat = w at e
  have w5 : w < 5 := by omega
  unfold syC at e
  by_cases c3 : isSg f (nx f n 200 t) 60 = false ∧ isSg f (nx f n 200 t) 61 = false ∧ isSg f (nx f n 200 t) 62 = false
  · rw [if_pos c3] at e; cases e
  rw [if_neg c3] at e
  by_cases c4 : (nx f n 200 (nx f n 200 t)).k ≠ 2
  · rw [if_pos c4] at e; cases e
  rw [if_neg c4] at e
  injection e with e
  injection e with e1 e2
  subst e1 e2
  have T2 : TkOk f n (nx f n 200 (nx f n 200 t)) := tok_ok T1.1.1 (by decide) hn
  have sg : 60 ≤ f (nx f n 200 t).at_ ∧ f (nx f n 200 t).at_ ≤ 62 := by
    have g : ∀ c, isSg f (nx f n 200 t) c = true → f (nx f n 200 t).at_ = c := fun c q => (isSg_at q).2
    cases h60 : isSg f (nx f n 200 t) 60 with
    | true => have := g _ h60; omega
    | false =>
      cases h61 : isSg f (nx f n 200 t) 61 with
      | true => have := g _ h61; omega
      | false =>
        cases h62 : isSg f (nx f n 200 t) 62 with
        | true => have := g _ h62; omega
        | false => exact absurd ⟨h60, h61, h62⟩ c3
  exact ⟨fin (Or.inr (Or.inr ⟨by show 68 ≤ 68 + w; omega, by show 68 + w < 73; omega, T2.2.2 (Classical.not_not.mp c4), sg.1, sg.2⟩)), tok_ok T2.1.1 (by decide) hn⟩
theorem syG_ok (hn : n ≤ 940) (hf : ∀ i, f i < 256) : ∀ (d sel deep : Nat), SyF f n m (syG f n nm m d sel deep) := by
  intro d
  induction d with
  | zero => intro sel deep s t s' t' _ _ e; cases e
  | succ d ih =>
    intro sel deep s t s' t' hq T e
    rw [syG] at e
    by_cases c0 : sel = 0
    · rw [if_pos c0] at e
      exact syA_ok hn (Or.inr rfl) (ih 1 deep) s t s' t' hq T e
    rw [if_neg c0] at e
    by_cases c1 : sel = 1
    · rw [if_pos c1] at e
      exact syA_ok hn (Or.inl rfl) (ih 2 deep) s t s' t' hq T e
    rw [if_neg c1] at e
    exact syS_ok hn hf (fun sel => ih sel (deep + 1)) s t s' t' hq T e
/-- the row of ones is a sentence -/
theorem SW.mono {nt : NT} : ∀ (d k : Nat), SW m nt d k → SW m nt (d + 1) k := by
  intro d
  induction d with
  | zero => intro k h; exact h.elim
  | succ d ih =>
    intro k h
    obtain ⟨h1, h2⟩ := h
    refine ⟨h1, ?_⟩
    rcases h2 with ⟨e, l, q⟩ | ⟨e, l, q1, q2⟩ | ⟨e, l, q1, q2⟩ | q | q | q
    · exact Or.inl ⟨e, l, ih _ q⟩
    · exact Or.inr (Or.inl ⟨e, l, ih _ q1, ih _ q2⟩)
    · exact Or.inr (Or.inr (Or.inl ⟨e, l, ih _ q1, ih _ q2⟩))
    · exact Or.inr (Or.inr (Or.inr (Or.inl q)))
    · exact Or.inr (Or.inr (Or.inr (Or.inr (Or.inl q))))
    · exact Or.inr (Or.inr (Or.inr (Or.inr (Or.inr q))))
theorem SW.up {nt : NT} {d e k : Nat} (h : SW m nt d k) (q : d ≤ e) : SW m nt e k := by
  obtain ⟨x, rfl⟩ : ∃ x, e = d + x := ⟨e - d, by omega⟩
  clear q
  induction x with
  | zero => exact h
  | succ x ih => exact SW.mono _ _ ih
theorem sw_of {c : Nat} {nt : NT} (hc : c ≤ 60) (T : ∀ k, k < c → NOk m nt k) : ∀ (k : Nat), k < c → SW m nt (k + 1) k := by
  intro k
  induction k using Nat.strongRecOn with
  | _ k ih =>
    intro hk
    refine ⟨by omega, ?_⟩
    rcases T k hk with ⟨e, q⟩ | ⟨e, q1, q2⟩ | q | q | q
    · exact Or.inl ⟨e, q, (ih _ q (by omega)).up (by omega)⟩
    · rcases e with e | e
      · exact Or.inr (Or.inl ⟨e, ⟨q1, q2⟩, (ih _ q1 (by omega)).up (by omega), (ih _ q2 (by omega)).up (by omega)⟩)
      · exact Or.inr (Or.inr (Or.inl ⟨e, ⟨q1, q2⟩, (ih _ q1 (by omega)).up (by omega), (ih _ q2 (by omega)).up (by omega)⟩))
    · exact Or.inr (Or.inr (Or.inr (Or.inl q)))
    · exact Or.inr (Or.inr (Or.inr (Or.inr (Or.inl q))))
    · exact Or.inr (Or.inr (Or.inr (Or.inr (Or.inr q))))
end
