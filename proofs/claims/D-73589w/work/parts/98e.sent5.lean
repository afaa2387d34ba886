/-! PURE SIDE: sentences: the model: the two loops -/
set_option maxRecDepth 100000
theorem one_ne0 : ¬ ((1 : Int32) = 0) := by decide
abbrev gsF : List Nat := [5, 6, 7, 8, 9, 13, 34, 35, 36, 37, 38]
abbrev gtF : List Nat := [5, 6, 7, 8, 9, 10, 11, 13, 34, 35, 36, 37, 38]
def GS (m0 ms : MS) : Prop := (∀ k, k ∉ gsF → ms.1 k = m0.1 k) ∧ ∀ k, k ≠ 12 → ms.2 k = m0.2 k
def YN (a : Nat → Int32) (s : SyT) : Prop := ∀ k, k < s.c → a (4 * k) = ii (s.1 k).1 ∧ a (4 * k + 1) = ii (s.1 k).2.1 ∧ a (4 * k + 2) = ii (s.1 k).2.2.1 ∧ a (4 * k + 3) = ii (s.1 k).2.2.2
/-- while a sentence is read by the model -/
def YI (m0 : MS) (f : Nat → Nat) (n : Nat) (s : SyT) (wi : Nat) (t : Tk) (ms : MS) : Prop := GS m0 ms ∧ MkV f t ms ∧ MB ms f n 200 ∧ TkOk f n t ∧ YN (ms.1 34) s ∧ ms.1 35 0 = ii s.c ∧ ms.1 36 0 = ii s.q ∧ ms.1 37 0 = ii wi
def YF (m0 : MS) (k pl : Nat) (ms : MS) : Prop := (∀ q, q ∉ gtF → ms.1 q = m0.1 q) ∧ (∀ q, q ≠ 12 → ms.2 q = m0.2 q) ∧ ms.1 10 0 = ii k ∧ ms.1 11 0 = ii pl
def YP (m0 : MS) (f : Nat → Nat) (n : Nat) (one : SyT → Tk → SyR) (wi : Nat) (P : MS → Option DR) : Prop := ∀ (s : SyT) (t : Tk) (ms : MS) (Z : Option Value → MS → Prop), s.q ≤ 20 → s.c ≤ 2 * s.q → YI m0 f n s wi t ms → (∀ k pl, one s t = .inl (k, pl) → ∀ m', YF m0 k pl m' → Z (some (.int 0)) m') → (∀ s' t', one s t = .inr (s', t') → ∀ m', YI m0 f n s' wi t' m' → m'.1 38 0 = ii ((s'.c - 1 : Nat) : Int) → Z (some (.int 1)) m') → DE (P ms) Z
section
variable {m0 ms ms' : MS} {f : Nat → Nat} {n m wi : Nat} {t t' : Tk} {s s' : SyT} {Z : Option Value → MS → Prop}
theorem GS.set {q i : Nat} {v : Int32} (G : GS m0 ms) (hq : q ∈ gsF) : GS m0 (mset ms q i v) := ⟨fun j hj => (ms_nk fun w => hj (by rw [w]; exact hq)).trans (G.1 j hj), G.2⟩
theorem GS.gp (G : GS m0 ms) (o : GP ms ms') : GS m0 ms' := ⟨fun k hk => (o.1 k (fun q => hk ((by decide : ∀ k, k ∈ gpF → k ∈ gsF) k q))).trans (G.1 k hk), fun k hk => (o.2 k hk).trans (G.2 k hk)⟩
theorem YI.go (L : YI m0 f n s wi t ms) (V : MkV f t' ms') (B : MB ms' f n 200) (o : GP ms ms') (T : TkOk f n t') : YI m0 f n s wi t' ms' := by
  obtain ⟨l1, l2, l3, l4, l5, l6, l7, l8⟩ := L
  exact ⟨l1.gp o, V, B, T, by rw [o.1 34 (by decide)]; exact l5, by rw [o.1 35 (by decide)]; exact l6, by rw [o.1 36 (by decide)]; exact l7, by rw [o.1 37 (by decide)]; exact l8⟩
theorem YI.set {q : Nat} {v : Int32} (L : YI m0 f n s wi t ms) (hq : q = 13 ∨ q = 38) : YI m0 f n s wi t (mset ms q 0 v) := by
  obtain ⟨l1, l2, l3, l4, l5, l6, l7, l8⟩ := L
  rcases hq with q | q
  · subst q
    exact ⟨l1.set (by decide), l2.set (by decide), l3.set (by decide), l4, by rw [ms_nk (by decide)]; exact l5, by rw [ms_nk (by decide)]; exact l6, by rw [ms_nk (by decide)]; exact l7, by rw [ms_nk (by decide)]; exact l8⟩
  · subst q
    exact ⟨l1.set (by decide), l2.set (by decide), l3.set (by decide), l4, by rw [ms_nk (by decide)]; exact l5, by rw [ms_nk (by decide)]; exact l6, by rw [ms_nk (by decide)]; exact l7, by rw [ms_nk (by decide)]; exact l8⟩
theorem YI.win {w : Nat} (L : YI m0 f n s wi t ms) : YI m0 f n s w t (mset ms 37 0 (ii w)) := by
  obtain ⟨l1, l2, l3, l4, l5, l6, l7, l8⟩ := L
  exact ⟨l1.set (by decide), l2.set (by decide), l3.set (by decide), l4, by rw [ms_nk (by decide)]; exact l5, by rw [ms_nk (by decide)]; exact l6, by rw [ms_nk (by decide)]; exact l7, ms_eq⟩
theorem YI.bad {q : Nat} (L : YI m0 f n s wi t ms) (hq : q = 1 ∨ t.k ≠ 4) : YF m0 q t.at_ (bdm ms t q) := by
  refine ⟨fun j hj => ?_, L.1.2, ?_, ms_eq⟩
  · unfold bdm
    have h1 : j ≠ 11 := fun q => hj (by rw [q]; decide)
    have h2 : j ≠ 10 := fun q => hj (by rw [q]; decide)
    rw [ms_nk h1, ms_nk h2]
    exact L.1.1 j (fun q => hj ((by decide : ∀ k, k ∈ gsF → k ∈ gtF) j q))
  unfold bdm
  rw [ms_nk (by decide), ms_eq]
  by_cases c : t.k = 4
  · rw [if_pos c]
    rcases hq with q | q
    · rw [q]
    · exact absurd c q
  · rw [if_neg c]
theorem YF.set {k pl : Nat} {v : Int32} (F : YF m0 k pl ms) : YF m0 k pl (mset ms 37 0 v) := ⟨fun q hq => (ms_nk (fun w => hq (by rw [w]; decide))).trans (F.1 q hq), F.2.1, by rw [ms_nk (by decide)]; exact F.2.2.1, by rw [ms_nk (by decide)]; exact F.2.2.2⟩
/-- a one is said -/
theorem m_says {x1 x2 x3 x4 : Nat} {y1 y2 y3 y4 : Int32} {K : Int32 → MS → Option DR} (L : YI m0 f n s wi t ms) (hc : s.c < 60) (e1 : y1 = ii x1) (e2 : y2 = ii x2) (e3 : y3 = ii x3) (e4 : y4 = ii x4) (kk : ∀ m', YI m0 f n (syPut s (x1, x2, x3, x4)) wi t m' → DE (K (ii s.c) m') Z) : DE (bI (d_M_saysOne ms y1 y2 y3 y4) K) Z := by
  subst e1 e2 e3 e4
  obtain ⟨l1, l2, l3, l4, l5, l6, l7, l8⟩ := L
  have g1 : (4 : Int32) * ii (s.c : Int) = ii ((4 * s.c : Nat) : Int) := by rw [il_4, ii_mul]; rfl
  have g2 : ii ((4 * s.c : Nat) : Int) + (1 : Int32) = ii ((4 * s.c + 1 : Nat) : Int) := by rw [il_1, ii_add]; rfl
  have g3 : ii ((4 * s.c : Nat) : Int) + (2 : Int32) = ii ((4 * s.c + 2 : Nat) : Int) := by rw [il_2, ii_add]; rfl
  have g4 : ii ((4 * s.c : Nat) : Int) + (3 : Int32) = ii ((4 * s.c + 3 : Nat) : Int) := by rw [il_3, ii_add]; rfl
  have e : DE (d_M_saysOne ms (ii x1) (ii x2) (ii x3) (ii x4)) (fun r m' => r = some (.int (ii s.c)) ∧ YI m0 f n (syPut s (x1, x2, x3, x4)) wi t m') := by
    unfold d_M_saysOne
    rw [l6]
    refine d_nm ?_
    rw [g1]
    refine d_nm ?_
    rw [g2, g3, g4]
    refine d_sA (N := 240) rfl (n := 4 * s.c) (by omega) ?_
    refine d_sA (N := 240) rfl (n := 4 * s.c + 1) (by omega) ?_
    refine d_sA (N := 240) rfl (n := 4 * s.c + 2) (by omega) ?_
    refine d_sA (N := 240) rfl (n := 4 * s.c + 3) (by omega) ?_
    rw [ms_nk (by decide), ms_nk (by decide), ms_nk (by decide), ms_nk (by decide), l6]
    refine d_nm ?_
    refine d_nm ?_
    rw [ms_eq, add1]
    refine d_nm ?_
    have gv : ii ((s.c : Int) + 1) - (1 : Int32) = ii (s.c : Int) := by rw [il_1, ii_sub]; congr 1; omega
    rw [gv]
    refine d_dI ⟨rfl, ((((l1.set (by decide)).set (by decide)).set (by decide)).set (by decide)).set (by decide), ((((l2.set (by decide)).set (by decide)).set (by decide)).set (by decide)).set (by decide), ((((l3.set (by decide)).set (by decide)).set (by decide)).set (by decide)).set (by decide), l4, fun k hk => ?_, ms_eq, by rw [ms_nk (by decide), ms_nk (by decide), ms_nk (by decide), ms_nk (by decide), ms_nk (by decide)]; exact l7, by rw [ms_nk (by decide), ms_nk (by decide), ms_nk (by decide), ms_nk (by decide), ms_nk (by decide)]; exact l8⟩
    have hk : k < s.c + 1 := hk
    rw [ms_nk (by decide)]
    by_cases c : k = s.c
    · have eu : (syPut s (x1, x2, x3, x4)).1 k = (x1, x2, x3, x4) := by rw [c]; exact up_at
      rw [eu, c]
      refine ⟨?_, ?_, ?_, ms_eq⟩
      · rw [ms_ne (by omega), ms_ne (by omega), ms_ne (by omega), ms_eq]
      · rw [ms_ne (by omega), ms_ne (by omega), ms_eq]
      · rw [ms_ne (by omega), ms_eq]
    · have eu : (syPut s (x1, x2, x3, x4)).1 k = s.1 k := va_up_ne _ _ c
      rw [eu]
      obtain ⟨u1, u2, u3, u4⟩ := l5 k (by omega)
      refine ⟨?_, ?_, ?_, ?_⟩
      · rw [ms_ne (by omega), ms_ne (by omega), ms_ne (by omega), ms_ne (by omega)]; exact u1
      · rw [ms_ne (by omega), ms_ne (by omega), ms_ne (by omega), ms_ne (by omega)]; exact u2
      · rw [ms_ne (by omega), ms_ne (by omega), ms_ne (by omega), ms_ne (by omega)]; exact u3
      · rw [ms_ne (by omega), ms_ne (by omega), ms_ne (by omega), ms_ne (by omega)]; exact u4
  obtain ⟨r, m', q1, q2, q3⟩ := e
  subst q2
  rw [q1]
  exact kk m' q3
/-- an inner reading -/
theorem d_in1 {P : Option DR} {K0 K1 : MS → Option DR} {I : ∀ v : Int32, Decidable (v = 0)} (e : DE P (fun r m => (r = some (.int 0) ∧ DE (K0 m) Z) ∨ (r = some (.int 1) ∧ DE (K1 m) Z))) : DE (bI P fun v m => @ite _ (v = 0) (I v) (K0 m) (K1 m)) Z := by
  obtain ⟨r, m', e1, e2⟩ := e
  rw [e1]
  rcases e2 with ⟨q1, q2⟩ | ⟨q1, q2⟩
  · subst q1
    show DE (@ite _ ((0 : Int32) = 0) (I 0) (K0 m') (K1 m')) Z
    exact d_pos _ rfl q2
  · subst q1
    show DE (@ite _ ((1 : Int32) = 0) (I 1) (K0 m') (K1 m')) Z
    exact d_neg _ one_ne0 q2
theorem s_readAndL {rg : Nat → MS → Option DR} {one : SyT → Tk → SyR} (hone : YP m0 f n one wi (fun ms => rg 2 ms)) (hF : SyF f n m one) : ∀ (k fu : Nat) (s : SyT) (t : Tk) (ms : MS) (Z : Option Value → MS → Prop), k < fu → 21 ≤ k + s.q → 1 ≤ s.c → s.q ≤ 20 → s.c ≤ 2 * s.q → YI m0 f n s wi t ms → (∀ kd pl, syL f n one 12 2 k s t = .inl (kd, pl) → ∀ m', YF m0 kd pl m' → Z (some (.int 0)) m') → (∀ s' t', syL f n one 12 2 k s t = .inr (s', t') → ∀ m', YI m0 f n s' wi t' m' → m'.1 38 0 = ii ((s'.c - 1 : Nat) : Int) → Z (some (.int 1)) m') → DE (itr (d_M_readAnd_l14 rg) (fun _ _ => none) fu ms (ii ((s.c - 1 : Nat) : Int))) Z := by
  intro k
  induction k with
  | zero => intro fu s t ms Z hf h21 hc hq; omega
  | succ k ih =>
    intro fu s t ms Z hf h21 hc hq hcq L kf kk
    obtain ⟨fu, rfl⟩ : ∃ x, fu = x + 1 := ⟨fu - 1, by omega⟩
    have V := L.2.1
    have T := L.2.2.2.1
    rw [itr_succ]
    unfold d_M_readAnd_l14
    refine d_bIe (m_isWord (k := 12) V T (by decide) rfl) ?_
    cases hk : isKw f t 12 with
    | false =>
      refine d_pos _ rfl ?_
      refine d_nm ?_
      exact d_dZ1 (kk s t (by rw [syL, if_pos hk]) _ (L.set (Or.inr rfl)) ms_eq)
    | true =>
      refine d_neg _ bn1_ne ?_
      have nk : ¬ (isKw f t 12 = false) := by rw [hk]; decide
      refine s_go V L.2.2.1 T fun m4 v4 b4 g4 t4 => ?_
      have L4 := L.go v4 b4 g4 t4
      refine d_in1 ?_
      refine hone s (nx f n 200 t) m4 _ hq hcq L4 (fun kd pl ee m' F => Or.inl ⟨rfl, d_dZ0 (kf kd pl (by rw [syL, if_neg nk, ee]) m' F)⟩) (fun s1 t1 ee m5 L5 e38 => Or.inr ⟨rfl, ?_⟩)
      have o1 := (hF s _ s1 t1 hq t4 ee).1
      have oc := o1.2.2.1
      have oq := o1.2.1
      have oz := o1.2.2.2
      have o20 := o1.1.2.1
      rw [e38]
      refine d_nm ?_
      refine m_says (x1 := 2) (x2 := s.c - 1) (x3 := s1.c - 1) (x4 := 0) L5 (by omega) rfl rfl rfl rfl fun m8 L8 => ?_
      have es : syL f n one 12 2 (k + 1) s t = syL f n one 12 2 k (syPut s1 (2, s.c - 1, s1.c - 1, 0)) t1 := by rw [syL, if_neg nk, ee]
      exact ih fu (syPut s1 (2, s.c - 1, s1.c - 1, 0)) t1 m8 Z (by omega) (by show 21 ≤ k + s1.q; omega) (by show 1 ≤ s1.c + 1; omega) o20 (by show s1.c + 1 ≤ 2 * s1.q; omega) L8 (fun kd pl e2 => kf kd pl (es.trans e2)) (fun s' t' e2 => kk s' t' (es.trans e2))
theorem s_readAnd {rg : Nat → MS → Option DR} {one : SyT → Tk → SyR} (hone : YP m0 f n one wi (fun ms => rg 2 ms)) (hF : SyF f n m one) : YP m0 f n (syA f n one 12 2) wi (fun ms => e_M_readAnd rg ms) := by
  intro s t ms Z hq hcq L kf kk
  show DE (e_M_readAnd rg ms) Z
  unfold e_M_readAnd
  refine d_in1 ?_
  refine hone s t ms _ hq hcq L (fun kd pl ee m' F => Or.inl ⟨rfl, d_dZ0 (kf kd pl (by unfold syA; rw [ee]) m' F)⟩) (fun s1 t1 ee m1 L1 e38 => Or.inr ⟨rfl, ?_⟩)
  have o1 := (hF s t s1 t1 hq L.2.2.2.1 ee).1
  have oc := o1.2.2.1
  have oz := o1.2.2.2
  have es : syA f n one 12 2 s t = syL f n one 12 2 21 s1 t1 := by unfold syA; rw [ee]
  rw [e38]
  refine d_nm ?_
  exact s_readAndL hone hF 21 FU s1 t1 m1 Z (by unfold FU; omega) (by omega) (by omega) o1.1.2.1 (by omega) L1 (fun kd pl e2 => kf kd pl (es.trans e2)) (fun s' t' e2 => kk s' t' (es.trans e2))
theorem s_readOrL {rg : Nat → MS → Option DR} {one : SyT → Tk → SyR} (hone : YP m0 f n one wi (fun ms => rg 1 ms)) (hF : SyF f n m one) : ∀ (k fu : Nat) (s : SyT) (t : Tk) (ms : MS) (Z : Option Value → MS → Prop), k < fu → 21 ≤ k + s.q → 1 ≤ s.c → s.q ≤ 20 → s.c ≤ 2 * s.q → YI m0 f n s wi t ms → (∀ kd pl, syL f n one 11 3 k s t = .inl (kd, pl) → ∀ m', YF m0 kd pl m' → Z (some (.int 0)) m') → (∀ s' t', syL f n one 11 3 k s t = .inr (s', t') → ∀ m', YI m0 f n s' wi t' m' → m'.1 38 0 = ii ((s'.c - 1 : Nat) : Int) → Z (some (.int 1)) m') → DE (itr (d_M_readOr_l14 rg) (fun _ _ => none) fu ms (ii ((s.c - 1 : Nat) : Int))) Z := by
  intro k
  induction k with
  | zero => intro fu s t ms Z hf h21 hc hq; omega
  | succ k ih =>
    intro fu s t ms Z hf h21 hc hq hcq L kf kk
    obtain ⟨fu, rfl⟩ : ∃ x, fu = x + 1 := ⟨fu - 1, by omega⟩
    have V := L.2.1
    have T := L.2.2.2.1
    rw [itr_succ]
    unfold d_M_readOr_l14
    refine d_bIe (m_isWord (k := 11) V T (by decide) rfl) ?_
    cases hk : isKw f t 11 with
    | false =>
      refine d_pos _ rfl ?_
      refine d_nm ?_
      exact d_dZ1 (kk s t (by rw [syL, if_pos hk]) _ (L.set (Or.inr rfl)) ms_eq)
    | true =>
      refine d_neg _ bn1_ne ?_
      have nk : ¬ (isKw f t 11 = false) := by rw [hk]; decide
      refine s_go V L.2.2.1 T fun m4 v4 b4 g4 t4 => ?_
      have L4 := L.go v4 b4 g4 t4
      refine d_in1 ?_
      refine hone s (nx f n 200 t) m4 _ hq hcq L4 (fun kd pl ee m' F => Or.inl ⟨rfl, d_dZ0 (kf kd pl (by rw [syL, if_neg nk, ee]) m' F)⟩) (fun s1 t1 ee m5 L5 e38 => Or.inr ⟨rfl, ?_⟩)
      have o1 := (hF s _ s1 t1 hq t4 ee).1
      have oc := o1.2.2.1
      have oq := o1.2.1
      have oz := o1.2.2.2
      have o20 := o1.1.2.1
      rw [e38]
      refine d_nm ?_
      refine m_says (x1 := 3) (x2 := s.c - 1) (x3 := s1.c - 1) (x4 := 0) L5 (by omega) rfl rfl rfl rfl fun m8 L8 => ?_
      have es : syL f n one 11 3 (k + 1) s t = syL f n one 11 3 k (syPut s1 (3, s.c - 1, s1.c - 1, 0)) t1 := by rw [syL, if_neg nk, ee]
      exact ih fu (syPut s1 (3, s.c - 1, s1.c - 1, 0)) t1 m8 Z (by omega) (by show 21 ≤ k + s1.q; omega) (by show 1 ≤ s1.c + 1; omega) o20 (by show s1.c + 1 ≤ 2 * s1.q; omega) L8 (fun kd pl e2 => kf kd pl (es.trans e2)) (fun s' t' e2 => kk s' t' (es.trans e2))
theorem s_readOr {rg : Nat → MS → Option DR} {one : SyT → Tk → SyR} (hone : YP m0 f n one wi (fun ms => rg 1 ms)) (hF : SyF f n m one) : YP m0 f n (syA f n one 11 3) wi (fun ms => e_M_readOr rg ms) := by
  intro s t ms Z hq hcq L kf kk
  show DE (e_M_readOr rg ms) Z
  unfold e_M_readOr
  refine d_in1 ?_
  refine hone s t ms _ hq hcq L (fun kd pl ee m' F => Or.inl ⟨rfl, d_dZ0 (kf kd pl (by unfold syA; rw [ee]) m' F)⟩) (fun s1 t1 ee m1 L1 e38 => Or.inr ⟨rfl, ?_⟩)
  have o1 := (hF s t s1 t1 hq L.2.2.2.1 ee).1
  have oc := o1.2.2.1
  have oz := o1.2.2.2
  have es : syA f n one 11 3 s t = syL f n one 11 3 21 s1 t1 := by unfold syA; rw [ee]
  rw [e38]
  refine d_nm ?_
  exact s_readOrL hone hF 21 FU s1 t1 m1 Z (by unfold FU; omega) (by omega) (by omega) o1.1.2.1 (by omega) L1 (fun kd pl e2 => kf kd pl (es.trans e2)) (fun s' t' e2 => kk s' t' (es.trans e2))
end
