/-! PURE SIDE: the model's tokens: rules -/
set_option maxRecDepth 100000
theorem m_wordOf {ms : MS} {k : Nat} (hk : k < 23) : d_M_wordOf ms (ii k) = dL (ll (n27 (kw k))) ms := by
  match k, hk with
  | 0, _ => rfl
  | 1, _ => rfl
  | 2, _ => rfl
  | 3, _ => rfl
  | 4, _ => rfl
  | 5, _ => rfl
  | 6, _ => rfl
  | 7, _ => rfl
  | 8, _ => rfl
  | 9, _ => rfl
  | 10, _ => rfl
  | 11, _ => rfl
  | 12, _ => rfl
  | 13, _ => rfl
  | 14, _ => rfl
  | 15, _ => rfl
  | 16, _ => rfl
  | 17, _ => rfl
  | 18, _ => rfl
  | 19, _ => rfl
  | 20, _ => rfl
  | 21, _ => rfl
  | 22, _ => rfl
  | k + 23, hk => exact absurd hk (by omega)
theorem fkw_no {f : Nat → Nat} {t : Tk} {k0 : Nat} : ∀ (m j : Nat), fkw f t k0 m j = -1 ↔ ∀ i, j ≤ i → i < j + m → isKw f t (k0 + i) = false := by
  intro m
  induction m with
  | zero => intro j; exact ⟨fun _ i h1 h2 => by omega, fun _ => rfl⟩
  | succ m ih =>
    intro j
    unfold fkw
    by_cases c : isKw f t (k0 + j) = true
    · rw [if_pos c]
      constructor
      · intro z; omega
      · intro z
        have := z j (Nat.le_refl _) (by omega)
        rw [c] at this; cases this
    · rw [if_neg c, ih]
      rw [Bool.not_eq_true] at c
      constructor
      · intro z i h1 h2
        by_cases e : i = j
        · rw [e]; exact c
        · exact z i (by omega) (by omega)
      · intro z i h1 h2
        exact z i (by omega) (by omega)
theorem nmOk_iff {f : Nat → Nat} {t : Tk} : nmOk f t = true ↔ (t.k = 1 ∧ ∀ k, k < 23 → isKw f t k = false) := by
  unfold nmOk
  rw [decide_eq_true_eq, fkw_no, fkw_no]
  constructor
  · intro ⟨h1, h2, h3⟩
    refine ⟨h1, fun k hk => ?_⟩
    by_cases c : k < 3
    · have := h2 k (by omega) (by omega)
      rw [Nat.zero_add] at this; exact this
    · have := h3 (k - 3) (by omega) (by omega)
      rw [show 3 + (k - 3) = k by omega] at this; exact this
  · intro ⟨h1, h2⟩
    exact ⟨h1, fun i _ h => h2 _ (by omega), fun i _ h => h2 _ (by omega)⟩
/-- a fault told by the model -/
def bdm (ms : MS) (t : Tk) (k : Nat) : MS := mset (mset ms 10 0 (ii (if t.k = 4 then 1 else k : Nat))) 11 0 (ii t.at_)
section
variable {ms : MS} {f : Nat → Nat} {n most : Nat} {t : Tk} {Z : Option Value → MS → Prop}
theorem MkV.gp' {ms' : MS} (V : MkV f t ms) (e : ∀ k, k ∈ gpF → ms'.1 k = ms.1 k) (e2 : ms'.2 12 = ms.2 12) : MkV f t ms' := by
  unfold MkV
  rw [e 5 (by decide), e 6 (by decide), e 7 (by decide), e 8 (by decide), e 9 (by decide), e2]
  exact V
theorem MkV.set {k i : Nat} {v : Int32} (V : MkV f t ms) (hk : k ∉ gpF) : MkV f t (mset ms k i v) := V.gp' (fun j hj => ms_nk fun q => hk (by rw [← q]; exact hj)) rfl
theorem MB.set {k i : Nat} {v : Int32} (B : MB ms f n most) (hk : k ≠ 1 ∧ k ≠ 3 ∧ k ≠ 4) : MB (mset ms k i v) f n most := ⟨fun j hj => by rw [ms_nk (Ne.symm hk.1)]; exact B.1 j hj, by rw [ms_nk (Ne.symm hk.2.1)]; exact B.2.1, by rw [ms_nk (Ne.symm hk.2.2)]; exact B.2.2.1, B.2.2.2⟩
theorem m_bad {k : Nat} {kk : Int32} (V : MkV f t ms) (T : TkOk f n t) (ek : kk = ii k) : d_M_bad ms kk = dI (0 : Int32) (bdm ms t k) := by
  subst ek
  have tb := T.1
  refine dEqI ?_
  unfold d_M_bad
  rw [V.2.2.1]
  refine d_nm ?_
  have j14 : ∀ (w : Int32), w = ii (if t.k = 4 then 1 else k : Nat) → DE (d_M_bad_j14 ms w) (fun r m' => r = some (.int (0 : Int32)) ∧ m' = bdm ms t k) := by
    intro w hw
    subst hw
    unfold d_M_bad_j14
    refine d_nm ?_
    rw [ms_nk (by decide), V.2.1]
    refine d_nm ?_
    refine d_nm ?_
    exact d_dZ0 ⟨rfl, rfl⟩
  have e1 : mkd t.k = 1 ↔ t.k = 4 := by
    unfold mkd
    by_cases c0 : t.k = 0
    · rw [if_pos c0]; omega
    · rw [if_neg c0]
      by_cases c4 : t.k = 4
      · rw [if_pos c4]; omega
      · rw [if_neg c4]; omega
  have e2 : mkd t.k ≤ 5 := by unfold mkd; repeat' split
                              all_goals omega
  rw [il_1]
  by_cases c : t.k = 4
  · refine d_pos _ (by rw [e1.2 c]; rfl) ?_
    exact j14 _ (by rw [if_pos c]; rfl)
  · refine d_neg _ (ii_eqF ⟨by omega, by omega, by omega, by omega, fun z => c (e1.1 (by omega))⟩) ?_
    exact j14 _ (by rw [if_neg c])
theorem mkd_eq {k : Nat} (T : TkOk f n t) (hk : k = 1 ∨ k = 2 ∨ k = 3) : (ii (mkd t.k) = ii (k + 1 : Nat)) ↔ t.k = k := by
  have tb := T.1
  have e2 : mkd t.k ≤ 5 := by unfold mkd; repeat' split
                              all_goals omega
  rw [ii_eq (by omega)]
  unfold mkd
  by_cases c0 : t.k = 0
  · rw [if_pos c0]; omega
  · rw [if_neg c0]
    by_cases c4 : t.k = 4
    · rw [if_pos c4]; omega
    · rw [if_neg c4]; omega
theorem m_isWord {k : Nat} {kk : Int32} (V : MkV f t ms) (T : TkOk f n t) (hk : k < 23) (ek : kk = ii k) : d_M_isWord ms kk = dI (ii (bn (isKw f t k))) ms := by
  subst ek
  refine dEqI ?_
  unfold d_M_isWord isKw
  rw [V.2.2.1]
  refine d_nm ?_
  rw [show (2 : Int32) = ii ((1 + 1 : Nat) : Int) from rfl]
  by_cases c1 : t.k = 1
  · refine d_pos _ ((mkd_eq T (Or.inl rfl)).2 c1) ?_
    refine d_nm ?_
    refine d_bLe (m_wordOf hk) ?_
    rw [V.2.2.2.1 c1]
    have ok := (T.2.1 c1).1
    have b1 := b27 ok.2.1 ok.2.2
    have b2 := b27 (l := kw k) (kw_len ⟨k, hk⟩).2.2 (kw_ok ⟨k, hk⟩)
    by_cases c2 : seg f t.at_ t.p = kw k
    · refine d_pos _ (by rw [lg_cmp_eq, c2]) ?_
      rw [decide_eq_true ⟨c1, c2⟩]
      exact d_dZ1 ⟨rfl, rfl⟩
    · refine d_neg _ (by rw [lg_cmp_eq, ll_eq (by omega)]; exact fun z => c2 (n27_inj ok.2.2 (kw_ok ⟨k, hk⟩) (by omega))) ?_
      rw [decide_eq_false (fun z => c2 z.2)]
      exact d_dZ0 ⟨rfl, rfl⟩
  · refine d_neg _ (fun z => c1 ((mkd_eq T (Or.inl rfl)).1 z)) ?_
    rw [decide_eq_false (fun z => c1 z.1)]
    exact d_dZ0 ⟨rfl, rfl⟩
theorem m_isName (V : MkV f t ms) (T : TkOk f n t) : d_M_isName ms = dI (ii (bn (nmOk f t))) ms := by
  refine dEqI ?_
  unfold d_M_isName
  rw [V.2.2.1]
  refine d_nm ?_
  rw [show (2 : Int32) = ii ((1 + 1 : Nat) : Int) from rfl]
  by_cases c1 : t.k = 1
  · refine d_pos _ ((mkd_eq T (Or.inl rfl)).2 c1) ?_
    have ok := (T.2.1 c1).1
    have b1 := b27 ok.2.1 ok.2.2
    have key : ∀ (l fu j : Nat), l < fu → j + l = 23 → (∀ k, k < j → isKw f t k = false) → DE (itr (d_M_isName_l12) (fun _ _ => none) fu ms (ii j)) (fun r m' => r = some (.int (ii (bn (nmOk f t)))) ∧ m' = ms) := by
      intro l
      induction l with
      | zero =>
        intro fu j hf hj hall
        obtain ⟨fu, rfl⟩ : ∃ x, fu = x + 1 := ⟨fu - 1, by omega⟩
        rw [itr_succ]
        unfold d_M_isName_l12
        rw [il_22]
        refine d_pos _ (ii_ltT (by omega)) ?_
        rw [nmOk_iff.2 ⟨c1, fun k hk => hall k (by omega)⟩]
        exact d_dZ1 ⟨rfl, rfl⟩
      | succ l ih =>
        intro fu j hf hj hall
        obtain ⟨fu, rfl⟩ : ∃ x, fu = x + 1 := ⟨fu - 1, by omega⟩
        rw [itr_succ]
        unfold d_M_isName_l12
        rw [il_22]
        refine d_neg _ (ii_ltF (by omega)) ?_
        refine d_nm ?_
        refine d_bLe (m_wordOf (by omega)) ?_
        rw [V.2.2.2.1 c1]
        have hj23 : j < 23 := by omega
        have b2 := b27 (l := kw j) (kw_len ⟨j, hj23⟩).2.2 (kw_ok ⟨j, hj23⟩)
        by_cases c2 : seg f t.at_ t.p = kw j
        · refine d_pos _ (by rw [lg_cmp_eq, c2]) ?_
          have kj : isKw f t j = true := by unfold isKw; exact decide_eq_true ⟨c1, c2⟩
          have nf : nmOk f t = false := by
            rw [← Bool.not_eq_true, nmOk_iff]
            intro z
            have := z.2 j hj23
            rw [kj] at this
            cases this
          rw [nf]
          exact d_dZ0 ⟨rfl, rfl⟩
        · refine d_neg _ (by rw [lg_cmp_eq, ll_eq (by omega)]; exact fun z => c2 (n27_inj ok.2.2 (kw_ok ⟨j, hj23⟩) (by omega))) ?_
          rw [add1]
          refine ih fu (j + 1) (by omega) (by omega) fun k hk => ?_
          by_cases e : k = j
          · rw [e]; unfold isKw; exact decide_eq_false (fun z => c2 z.2)
          · exact hall k (by omega)
    exact key 23 FU 0 (by unfold FU; omega) (by omega) (fun k hk => absurd hk (by omega))
  · refine d_neg _ (fun z => c1 ((mkd_eq T (Or.inl rfl)).1 z)) ?_
    have nf : nmOk f t = false := by
      rw [← Bool.not_eq_true, nmOk_iff]
      intro z
      exact c1 z.1
    rw [nf]
    exact d_dZ0 ⟨rfl, rfl⟩
theorem m_isSign {c : Nat} {cc : Int32} (V : MkV f t ms) (T : TkOk f n t) (h8 : ∀ i, f i < 256) (ec : cc = ii c) (hc : c ≤ 255) : d_M_isSign ms cc = dI (ii (bn (isSg f t c))) ms := by
  subst ec
  refine dEqI ?_
  unfold d_M_isSign isSg
  rw [V.2.2.1]
  refine d_nm ?_
  rw [show (4 : Int32) = ii ((3 + 1 : Nat) : Int) from rfl]
  by_cases c1 : t.k = 3
  · refine d_pos _ ((mkd_eq T (Or.inr (Or.inr rfl))).2 c1) ?_
    rw [V.2.2.2.2.2 c1]
    refine d_nm ?_
    have := h8 t.at_
    by_cases c2 : f t.at_ = c
    · refine d_pos _ (by rw [c2]) ?_
      rw [decide_eq_true ⟨c1, c2⟩]
      exact d_dZ1 ⟨rfl, rfl⟩
    · refine d_neg _ (ii_eqF (by omega)) ?_
      rw [decide_eq_false (fun z => c2 z.2)]
      exact d_dZ0 ⟨rfl, rfl⟩
  · refine d_neg _ (fun z => c1 ((mkd_eq T (Or.inr (Or.inr rfl))).1 z)) ?_
    rw [decide_eq_false (fun z => c1 z.1)]
    exact d_dZ0 ⟨rfl, rfl⟩
theorem s_go {K : MS → Option DR} (V : MkV f t ms) (B : MB ms f n most) (T : TkOk f n t) (kk : ∀ m1, MkV f (nx f n most t) m1 → MB m1 f n most → GP ms m1 → TkOk f n (nx f n most t) → DE (K m1) Z) : DE (bV (d_M_go ms) K) Z := d_bV (m_go B V.1 T.1.1) fun m1 ⟨v1, g1⟩ => kk m1 v1 (B.gp g1) g1 (tok_ok T.1.1 B.2.2.2.2.2 B.2.2.2.1)
theorem s_end {K : Int32 → MS → Option DR} (V : MkV f t ms) (B : MB ms f n most) (T : TkOk f n t) (kf : isSg f t 59 = false → DE (K 0 (bdm ms t 1)) Z) (kk : isSg f t 59 = true → ∀ m1, MkV f (nx f n most t) m1 → MB m1 f n most → GP ms m1 → TkOk f n (nx f n most t) → DE (K 1 m1) Z) : DE (bI (d_M_readEnd ms) K) Z := by
  have e : DE (d_M_readEnd ms) (fun r m' => (r = some (.int 0) ∧ m' = bdm ms t 1 ∧ isSg f t 59 = false) ∨ (r = some (.int 1) ∧ isSg f t 59 = true ∧ MkV f (nx f n most t) m' ∧ MB m' f n most ∧ GP ms m' ∧ TkOk f n (nx f n most t))) := by
    unfold d_M_readEnd
    refine d_bIe (m_isSign (c := 59) V T B.2.2.2.2.1 rfl (by decide)) ?_
    cases hs : isSg f t 59 with
    | false =>
      refine d_pos _ rfl ?_
      refine d_bIe (m_bad V T rfl) ?_
      exact d_dZ0 (Or.inl ⟨rfl, rfl, rfl⟩)
    | true =>
      refine d_neg _ bn1_ne ?_
      refine s_go V B T fun m1 v1 b1 g1 t1 => ?_
      exact d_dZ1 (Or.inr ⟨rfl, rfl, v1, b1, g1, t1⟩)
  obtain ⟨r, m', e1, e2⟩ := e
  rw [e1]
  rcases e2 with ⟨q1, q2, q3⟩ | ⟨q1, q2, q3, q4, q5, q6⟩
  · subst q1 q2
    exact kf q3
  · subst q1
    exact kk q2 m' q3 q4 q5 q6
theorem s_number {lo hi : Nat} {l' h' : Int32} {K : Int32 → MS → Option DR} (V : MkV f t ms) (B : MB ms f n most) (T : TkOk f n t) (el : l' = ii lo) (eh : h' = ii hi) (hb : lo ≤ 1000 ∧ hi ≤ 1000) (kf1 : t.k ≠ 2 → DE (K 0 (bdm ms t 1)) Z) (kf2 : t.k = 2 → ¬ (lo ≤ nv (seg f t.at_ t.p) ∧ nv (seg f t.at_ t.p) ≤ hi) → DE (K 0 (bdm ms t 2)) Z) (kk : t.k = 2 → lo ≤ nv (seg f t.at_ t.p) ∧ nv (seg f t.at_ t.p) ≤ hi → ∀ m1, MkV f (nx f n most t) m1 → MB m1 f n most → GP (mset ms 13 0 (ii (nv (seg f t.at_ t.p)))) m1 → TkOk f n (nx f n most t) → DE (K 1 m1) Z) : DE (bI (d_M_readNumber ms l' h') K) Z := by
  subst el eh
  have e : DE (d_M_readNumber ms (ii lo) (ii hi)) (fun r m' => (r = some (.int 0) ∧ DE (K 0 m') Z) ∨ (r = some (.int 1) ∧ DE (K 1 m') Z)) := by
    unfold d_M_readNumber
    rw [V.2.2.1]
    refine d_nm ?_
    rw [show (3 : Int32) = ii ((2 + 1 : Nat) : Int) from rfl]
    by_cases c1 : t.k = 2
    · refine d_pos _ ((mkd_eq T (Or.inr (Or.inl rfl))).2 c1) ?_
      rw [V.2.2.2.2.1 c1]
      refine d_nm ?_
      have n9 := T.2.2 c1
      refine d_bIe (m_isIn (by omega)) ?_
      by_cases c2 : lo ≤ nv (seg f t.at_ t.p) ∧ nv (seg f t.at_ t.p) ≤ hi
      · rw [decide_eq_true (show (lo : Int) ≤ nv (seg f t.at_ t.p) ∧ (nv (seg f t.at_ t.p) : Int) ≤ hi by omega)]
        refine d_neg _ bn1_ne ?_
        rw [V.2.2.2.2.1 c1]
        refine d_nm ?_
        refine d_nm ?_
        refine s_go (V.set (k := 13) (by decide)) (B.set (by decide)) T fun m1 v1 b1 g1 t1 => ?_
        exact d_dZ1 (Or.inr ⟨rfl, kk c1 c2 m1 v1 b1 g1 t1⟩)
      · rw [decide_eq_false (show ¬ ((lo : Int) ≤ nv (seg f t.at_ t.p) ∧ (nv (seg f t.at_ t.p) : Int) ≤ hi) by omega)]
        refine d_pos _ rfl ?_
        refine d_bIe (m_bad (k := 2) V T rfl) ?_
        exact d_dZ0 (Or.inl ⟨rfl, kf2 c1 c2⟩)
    · refine d_neg _ (fun z => c1 ((mkd_eq T (Or.inr (Or.inl rfl))).1 z)) ?_
      refine d_bIe (m_bad (k := 1) V T rfl) ?_
      exact d_dZ0 (Or.inl ⟨rfl, kf1 c1⟩)
  obtain ⟨r, m', e1, e2⟩ := e
  rw [e1]
  rcases e2 with ⟨q1, q2⟩ | ⟨q1, q2⟩
  · subst q1
    exact q2
  · subst q1
    exact q2
theorem m_findIn {k m : Nat} {nm : Nat → List Nat} {w : Int64} {mm : Int32} {l : List Nat} (hk : k = 20 ∨ k = 21) (hm : m ≤ 4) (A : ∀ r, r < m → ms.2 k r = ll (n27 (nm r)) ∧ okN (nm r)) (ok : okN l) (ew : w = ll (n27 l)) (em : mm = ii m) : d_M_findIn ms k mm w = dI (ii (ofN nm l m 0)) ms := by
  subst ew em
  have b1 := b27 ok.2.1 ok.2.2
  have hl4 : mLn k = 4 := by rcases hk with q | q <;> (subst q; rfl)
  have key : ∀ (c fu j : Nat), c < fu → j + c = m → DE (itr (d_M_findIn_l3) (fun _ _ _ _ _ => none) fu ms k (ii m) (ll (n27 l)) (ii j)) (fun r m' => r = some (.int (ii (ofN nm l c j))) ∧ m' = ms) := by
    intro c
    induction c with
    | zero =>
      intro fu j hf hj
      obtain ⟨fu, rfl⟩ : ∃ x, fu = x + 1 := ⟨fu - 1, by omega⟩
      rw [itr_succ]
      unfold d_M_findIn_l3
      refine d_pos _ (ii_leT (by omega)) ?_
      exact d_dI ⟨rfl, rfl⟩
    | succ c ih =>
      intro fu j hf hj
      obtain ⟨fu, rfl⟩ : ∃ x, fu = x + 1 := ⟨fu - 1, by omega⟩
      obtain ⟨a1, a2⟩ := A j (by omega)
      have b2 := b27 a2.2.1 a2.2.2
      rw [itr_succ]
      unfold d_M_findIn_l3 ofN
      refine d_neg _ (ii_leF (by omega)) ?_
      refine d_eL hl4 (n := j) (by omega) a1 ?_
      by_cases e : nm j = l
      · rw [if_pos e]
        refine d_pos _ (by rw [lg_cmp_eq, e]) ?_
        exact d_dI ⟨rfl, rfl⟩
      · rw [if_neg e]
        refine d_neg _ (by rw [lg_cmp_eq, ll_eq (by omega)]; exact fun z => e (n27_inj a2.2.2 ok.2.2 (by omega))) ?_
        rw [add1]
        exact ih fu (j + 1) (by omega) (by omega)
  refine dEqI ?_
  unfold d_M_findIn
  exact key m FU 0 (by unfold FU; omega) (by omega)
theorem s_rowName {m : Nat} {nm : Nat → List Nat} {K : Int32 → MS → Option DR} (V : MkV f t ms) (B : MB ms f n most) (T : TkOk f n t) (hm : m ≤ 4) (h0 : ms.1 14 0 = ii m) (A : ∀ r, r < m → ms.2 20 r = ll (n27 (nm r)) ∧ okN (nm r)) (kf1 : nmOk f t = false → DE (K 0 (bdm ms t 1)) Z) (kf2 : nmOk f t = true → ofN nm (seg f t.at_ t.p) m 0 = -1 → DE (K 0 (bdm (mset ms 13 0 (ii (-1))) t 3)) Z) (kk : nmOk f t = true → ∀ r : Nat, ofN nm (seg f t.at_ t.p) m 0 = r → r < m → ∀ m1, MkV f (nx f n most t) m1 → MB m1 f n most → GP (mset ms 13 0 (ii r)) m1 → TkOk f n (nx f n most t) → DE (K 1 m1) Z) : DE (bI (d_M_readRowName ms) K) Z := by
  have e : DE (d_M_readRowName ms) (fun r m' => (r = some (.int 0) ∧ DE (K 0 m') Z) ∨ (r = some (.int 1) ∧ DE (K 1 m') Z)) := by
    unfold d_M_readRowName
    refine d_bIe (m_isName V T) ?_
    cases hn : nmOk f t with
    | false =>
      refine d_pos _ rfl ?_
      refine d_bIe (m_bad (k := 1) V T rfl) ?_
      exact d_dZ0 (Or.inl ⟨rfl, kf1 hn⟩)
    | true =>
      have k1 := nmOk_k hn
      refine d_neg _ bn1_ne ?_
      refine d_eA (z := 0) (N := 6062) rfl (n := 0) (by omega) h0 ?_
      refine d_nm ?_
      refine d_bIe (m_findIn (Or.inl rfl) hm A (T.2.1 k1).1 (V.2.2.2.1 k1) rfl) ?_
      refine d_nm ?_
      rw [ms_eq]
      refine d_nm ?_
      rw [mi1]
      rcases ofN_le (nm := nm) (l := seg f t.at_ t.p) m 0 with c | ⟨r, c1, c2⟩
      · refine d_pos _ (by rw [c]) ?_
        refine d_bIe (m_bad (k := 3) (V.set (k := 13) (by decide)) T rfl) ?_
        rw [c]
        exact d_dZ0 (Or.inl ⟨rfl, kf2 hn c⟩)
      · refine d_neg _ (by rw [c1]; exact ii_eqF (by omega)) ?_
        rw [c1]
        refine s_go (V.set (k := 13) (by decide)) (B.set (by decide)) T fun m1 v1 b1 g1 t1 => ?_
        exact d_dZ1 (Or.inr ⟨rfl, kk hn r c1 (by omega) m1 v1 b1 g1 t1⟩)
  obtain ⟨r, m', e1, e2⟩ := e
  rw [e1]
  rcases e2 with ⟨q1, q2⟩ | ⟨q1, q2⟩
  · subst q1
    exact q2
  · subst q1
    exact q2
end
