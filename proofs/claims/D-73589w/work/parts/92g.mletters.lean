/-! PURE SIDE: the model: letters, what is saved -/
set_option maxRecDepth 100000
theorem insT_at {T : List Nat} {i c j : Nat} (h : i ≤ T.length) : (insT i c T).getD j 0 = if j < i then T.getD j 0 else if j = i then c else T.getD (j - 1) 0 := by
  have hlt : (T.take i).length = i := by rw [List.length_take]; omega
  unfold insT
  rw [List.getD_eq_getElem?_getD, List.getD_eq_getElem?_getD, List.getD_eq_getElem?_getD]
  by_cases c1 : j < i
  · rw [if_pos c1, List.getElem?_append_left (by omega), List.getElem?_take_of_lt c1]
  · rw [if_neg c1, List.getElem?_append_right (by omega), hlt]
    by_cases c2 : j = i
    · rw [if_pos c2, c2, Nat.sub_self]; rfl
    · rw [if_neg c2]
      obtain ⟨y, hy⟩ : ∃ y, j - i = y + 1 := ⟨j - i - 1, by omega⟩
      rw [hy, List.getElem?_cons_succ, List.getElem?_drop]
      have : i + y = j - 1 := by omega
      rw [this]
theorem remTn_at {T : List Nat} {i n j : Nat} (h : i + n ≤ T.length) : (remTn i n T).getD j 0 = if j < i then T.getD j 0 else T.getD (j + n) 0 := by
  have hlt : (T.take i).length = i := by rw [List.length_take]; omega
  unfold remTn
  rw [List.getD_eq_getElem?_getD, List.getD_eq_getElem?_getD, List.getD_eq_getElem?_getD]
  by_cases c1 : j < i
  · rw [if_pos c1, List.getElem?_append_left (by omega), List.getElem?_take_of_lt c1]
  · rw [if_neg c1, List.getElem?_append_right (by omega), hlt, List.getElem?_drop]
    have : i + n + (j - i) = j + n := by omega
    rw [this]
theorem getD_out {T : List Nat} {j : Nat} (h : T.length ≤ j) : T.getD j 0 = 0 := by
  rw [List.getD_eq_getElem?_getD, List.getElem?_eq_none h]; rfl
theorem remTn_len {T : List Nat} {i n : Nat} (h : i + n ≤ T.length) : (remTn i n T).length = T.length - n := by
  unfold remTn
  rw [List.length_append, List.length_take, List.length_drop]
  omega
section
variable {ms ms' : MS} {low rows r : Nat} {A : Nat → LL} {T T' : List Nat}
/-- other letters, the same rows -/
theorem MO.letters (M : MO (ms.1 14) low rows A T) (hb : ∀ r, r < 4 → (A r).flatten.length ≤ 600) (o : ∀ x, x < 2615 ∨ 2816 ≤ x → ms'.1 14 x = ms.1 14 x) (h1 : ms'.1 14 2615 = ii T'.length) (h2 : ∀ i, i < 200 → ms'.1 14 (2616 + i) = ii (T'.getD i 0 : Nat)) : MO (ms'.1 14) low rows A T' := by
  obtain ⟨m1, m2, m3, m4, m5⟩ := M
  refine ⟨(o 0 (by omega)).trans m1, (o 1 (by omega)).trans m2, fun q hq => ?_, h1, h2⟩
  obtain ⟨a1, a2, a3, a4⟩ := m3 q hq
  have bd := hb q hq
  exact ⟨(o _ (by omega)).trans a1, (o _ (by omega)).trans a2, fun k hk => (o _ (by omega)).trans (a3 k hk), fun i hi => (o _ (by omega)).trans (a4 i hi)⟩
theorem m_type_l168 {i c : Nat} (hi : i ≤ T.length) (hT : T.length < 200) : ∀ (m fu j : Nat) (ms : MS), m < fu → j = i + m → j ≤ T.length → ms.1 14 2615 = ii T.length → (∀ x, x < 200 → ms.1 14 (2616 + x) = ii (if x ≤ j then T.getD x 0 else T.getD (x - 1) 0 : Nat)) → DV (itr (d_M_live_l168) (fun _ _ _ _ => none) fu ms (ii i) (ii c) (ii j)) (fun m' => m'.1 14 2615 = ii (insT i c T).length ∧ (∀ x, x < 200 → m'.1 14 (2616 + x) = ii ((insT i c T).getD x 0 : Nat)) ∧ (∀ x, x < 2615 ∨ 2816 ≤ x → m'.1 14 x = ms.1 14 x) ∧ m'.2 = ms.2 ∧ ∀ k, k ≠ 14 → m'.1 k = ms.1 k) := by
  intro m
  induction m with
  | zero =>
    intro fu j ms hf hj hj2 e1 e2
    obtain ⟨fu, rfl⟩ : ∃ x, fu = x + 1 := ⟨fu - 1, by omega⟩
    have hji : j = i := by omega
    subst hji
    refine DV.of ?_
    rw [itr_succ]
    unfold d_M_live_l168
    refine d_pos _ (ii_leT (by omega)) ?_
    rw [show (2616 : Int32) = ii 2616 from ii_lit 2616, ii_add, show (2615 : Int32) = ii 2615 from ii_lit 2615]
    refine d_sA (N := 6062) rfl (n := 2616 + j) (by omega) ?_
    refine d_eA (N := 6062) rfl (n := 2615) (v := ii T.length) (by omega) (by rw [ms_ne (by omega)]; exact e1) ?_
    rw [il_1, ii_add]
    refine d_sA (N := 6062) rfl (n := 2615) (by omega) ?_
    refine d_dV ⟨rfl, ?_, fun x hx => ?_, fun x hx => ?_, rfl, fun k hk => ?_⟩
    · rw [ms_eq, insT_len]; congr 1
    · rw [ms_ne (by omega), insT_at hi]
      by_cases c1 : x = j
      · rw [c1, ms_eq, if_neg (by omega), if_pos rfl]
      · rw [ms_ne (by omega), e2 x hx]
        by_cases c2 : x < j
        · rw [if_pos (by omega), if_pos c2]
        · rw [if_neg (by omega), if_neg c2, if_neg c1]
    · rw [ms_ne (by omega), ms_ne (by omega)]
    · rw [ms_nk hk, ms_nk hk]
  | succ m ih =>
    intro fu j ms hf hj hj2 e1 e2
    obtain ⟨fu, rfl⟩ : ∃ x, fu = x + 1 := ⟨fu - 1, by omega⟩
    refine DV.of ?_
    rw [itr_succ]
    unfold d_M_live_l168
    refine d_neg _ (ii_leF (by omega)) ?_
    rw [show (2616 : Int32) = ii 2616 from ii_lit 2616, ii_add, il_1, ii_sub, ii_neg, ii_add]
    refine d_eA (N := 6062) rfl (n := 2616 + (j - 1)) (by omega) (e2 (j - 1) (by omega)) ?_
    refine d_sA (N := 6062) rfl (n := 2616 + j) (by omega) ?_
    have x2 : ((j : Int) + -1) = ((j - 1 : Nat) : Int) := by omega
    rw [x2, if_pos (by omega)]
    refine DE.ofV (ih fu (j - 1) _ (by omega) (by omega) (by omega) (by rw [ms_ne (by omega)]; exact e1) (fun x hx => ?_)) fun m' ⟨a1, a2, a3, a4, a5⟩ => ⟨rfl, a1, a2, fun x hx => (a3 x hx).trans (ms_ne (by omega)), a4, fun k hk => (a5 k hk).trans (ms_nk hk)⟩
    by_cases c1 : x = j
    · rw [c1, ms_eq, if_neg (by omega)]
    · rw [ms_ne (by omega), e2 x hx]
      by_cases c2 : x ≤ j - 1
      · rw [if_pos c2, if_pos (by omega)]
      · rw [if_neg c2, if_neg (by omega)]
theorem m_erase_l245 {i n : Nat} (hin : i + n ≤ T.length) (hT : T.length ≤ 200) : ∀ (m fu j : Nat) (ms : MS), m < fu → j + m = 200 → i ≤ j → ms.1 14 2615 = ii (T.length - n : Nat) → (∀ x, x < 200 → ms.1 14 (2616 + x) = ii (if x < j then (remTn i n T).getD x 0 else T.getD x 0 : Nat)) → DV (itr (d_M_live_l245) (fun _ _ _ => none) fu ms (ii n) (ii j)) (fun m' => m'.1 14 2615 = ii (remTn i n T).length ∧ (∀ x, x < 200 → m'.1 14 (2616 + x) = ii ((remTn i n T).getD x 0 : Nat)) ∧ (∀ x, x < 2615 ∨ 2816 ≤ x → m'.1 14 x = ms.1 14 x) ∧ m'.2 = ms.2 ∧ ∀ k, k ≠ 14 → m'.1 k = ms.1 k) := by
  intro m
  induction m with
  | zero =>
    intro fu j ms hf hj hij e1 e2
    obtain ⟨fu, rfl⟩ : ∃ x, fu = x + 1 := ⟨fu - 1, by omega⟩
    refine DV.of ?_
    rw [itr_succ]
    unfold d_M_live_l245
    rw [il_200]
    refine d_pos _ (ii_leT (by omega)) ?_
    refine d_dV ⟨rfl, by rw [remTn_len hin]; exact e1, fun x hx => ?_, fun _ _ => rfl, rfl, fun _ _ => rfl⟩
    rw [e2 x hx, if_pos (by omega)]
  | succ m ih =>
    intro fu j ms hf hj hij e1 e2
    obtain ⟨fu, rfl⟩ : ∃ x, fu = x + 1 := ⟨fu - 1, by omega⟩
    have step : ∀ v : Nat, v = (remTn i n T).getD j 0 → DE (itr (d_M_live_l245) (fun _ _ _ => none) fu (mset ms 14 (2616 + j) (ii v)) (ii n) (ii (j + 1 : Nat))) (fun rr m' => rr = none ∧ m'.1 14 2615 = ii (remTn i n T).length ∧ (∀ x, x < 200 → m'.1 14 (2616 + x) = ii ((remTn i n T).getD x 0 : Nat)) ∧ (∀ x, x < 2615 ∨ 2816 ≤ x → m'.1 14 x = ms.1 14 x) ∧ m'.2 = ms.2 ∧ ∀ k, k ≠ 14 → m'.1 k = ms.1 k) := by
      intro v hv
      refine DE.ofV (ih fu (j + 1) _ (by omega) (by omega) (by omega) (by rw [ms_ne (by omega)]; exact e1) (fun x hx => ?_)) fun m' ⟨a1, a2, a3, a4, a5⟩ => ⟨rfl, a1, a2, fun x hx => (a3 x hx).trans (ms_ne (by omega)), a4, fun k hk => (a5 k hk).trans (ms_nk hk)⟩
      by_cases c1 : x = j
      · rw [c1, ms_eq, if_pos (by omega), hv]
      · rw [ms_ne (by omega), e2 x hx]
        by_cases c2 : x < j
        · rw [if_pos c2, if_pos (by omega)]
        · rw [if_neg c2, if_neg (by omega)]
    refine DV.of ?_
    rw [itr_succ]
    unfold d_M_live_l245
    rw [il_200]
    refine d_neg _ (ii_leF (by omega)) ?_
    rw [show (2615 : Int32) = ii 2615 from ii_lit 2615, show (2616 : Int32) = ii 2616 from ii_lit 2616]
    refine d_eA (N := 6062) rfl (n := 2615) (by omega) e1 ?_
    rw [ii_add, ii_add, il_1, ii_add]
    have x1 : ((j : Int) + 1) = ((j + 1 : Nat) : Int) := by omega
    rw [x1]
    by_cases c : T.length - n ≤ j
    · refine d_pos _ (ii_leT (by omega)) ?_
      rw [il_0]
      refine d_sA (N := 6062) rfl (n := 2616 + j) (by omega) ?_
      exact step 0 (by rw [getD_out (by rw [remTn_len hin]; omega)])
    · refine d_neg _ (ii_leF (by omega)) ?_
      refine d_eA (N := 6062) rfl (n := 2616 + (j + n)) (by omega) (e2 (j + n) (by omega)) ?_
      refine d_sA (N := 6062) rfl (n := 2616 + j) (by omega) ?_
      refine step _ ?_
      rw [if_neg (show ¬ j + n < j by omega), remTn_at hin, if_neg (show ¬ j < i by omega)]
theorem m_type {i c : Nat} (M : MO (ms.1 14) low rows A T) (I : IV low A) (hi : i ≤ T.length) (hT : T.length < 200) : DV (d_M_live ms (ii 6) (ii r) (ii i) (ii c)) (fun m' => MO (m'.1 14) low rows A (insT i c T) ∧ GM ms m') := by
  refine DV.of ?_
  unfold d_M_live
  refine d_neg _ (by decide) ?_
  refine d_neg _ (by decide) ?_
  refine d_neg _ (by decide) ?_
  refine d_neg _ (by decide) ?_
  refine d_neg _ (by decide) ?_
  refine d_neg _ (by decide) ?_
  refine d_pos _ rfl ?_
  rw [show (2615 : Int32) = ii 2615 from ii_lit 2615]
  refine d_eA (N := 6062) rfl (n := 2615) (by omega) M.2.2.2.1 ?_
  refine DE.ofV (m_type_l168 hi hT (T.length - i) FU T.length ms (by unfold FU; omega) (by omega) (Nat.le_refl _) M.2.2.2.1 (fun x hx => ?_)) fun m' ⟨a1, a2, a3, a4, a5⟩ => ⟨rfl, M.letters I.len a3 a1 a2, a4, a5, fun x hx => a3 x (by omega)⟩
  rw [M.2.2.2.2 x hx]
  by_cases c1 : x ≤ T.length
  · rw [if_pos c1]
  · rw [if_neg c1, getD_out (by omega), getD_out (by omega)]
theorem m_erase {i n : Nat} (M : MO (ms.1 14) low rows A T) (I : IV low A) (hi : i + n ≤ T.length) (hT : T.length ≤ 200) : DV (d_M_live ms (ii 7) (ii r) (ii i) (ii n)) (fun m' => MO (m'.1 14) low rows A (remTn i n T) ∧ GM ms m') := by
  refine DV.of ?_
  unfold d_M_live
  refine d_neg _ (by decide) ?_
  refine d_neg _ (by decide) ?_
  refine d_neg _ (by decide) ?_
  refine d_neg _ (by decide) ?_
  refine d_neg _ (by decide) ?_
  refine d_neg _ (by decide) ?_
  refine d_neg _ (by decide) ?_
  rw [show (2615 : Int32) = ii 2615 from ii_lit 2615]
  refine d_eA (N := 6062) rfl (n := 2615) (by omega) M.2.2.2.1 ?_
  rw [ii_sub]
  refine d_sA (N := 6062) rfl (n := 2615) (by omega) ?_
  refine DE.ofV (m_erase_l245 hi hT (200 - i) FU i _ (by unfold FU; omega) (by omega) (Nat.le_refl _) (by rw [ms_eq]; congr 1; omega) (fun x hx => ?_)) fun m' ⟨a1, a2, a3, a4, a5⟩ => ⟨rfl, M.letters I.len (fun x hx => (a3 x hx).trans (ms_ne (by omega))) a1 a2, a4, fun k hk => (a5 k hk).trans (ms_nk hk), fun x hx => (a3 x (by omega)).trans (ms_ne (by omega))⟩
  rw [ms_ne (by omega), M.2.2.2.2 x hx]
  by_cases c1 : x < i
  · rw [if_pos c1, remTn_at hi, if_pos c1]
  · rw [if_neg c1]
/-- what is so, without the head -/
def MTx (nw : Nat → Int32) (A : Nat → LL) (T : List Nat) : Prop := (∀ r, r < 4 → MR nw r (A r)) ∧ nw 2615 = ii T.length ∧ ∀ i, i < 200 → nw (2616 + i) = ii (T.getD i 0 : Nat)
theorem MO.mt (M : MO (ms.1 14) low rows A T) : MTx (ms.1 14) A T := M.2.2
theorem MTx.congr {nw nw' : Nat → Int32} (M : MTx nw A T) (hb : ∀ r, r < 4 → (A r).flatten.length ≤ 600) (o : ∀ x, 2607 ≤ x → x < 5820 → nw' x = nw x) : MTx nw' A T := by
  obtain ⟨m3, m4, m5⟩ := M
  refine ⟨fun q hq => ?_, (o _ (by omega) (by omega)).trans m4, fun i hi => (o _ (by omega) (by omega)).trans (m5 i hi)⟩
  obtain ⟨a1, a2, a3, a4⟩ := m3 q hq
  have bd := hb q hq
  exact ⟨(o _ (by omega) (by omega)).trans a1, (o _ (by omega) (by omega)).trans a2, fun k hk => (o _ (by omega) (by omega)).trans (a3 k hk), fun i hi => (o _ (by omega) (by omega)).trans (a4 i hi)⟩
def SG (f : Nat → Int32) (off : Nat) (A : Nat → LL) (T : List Nat) : Prop := MTx (fun x => f (off + (x - 2607))) A T
theorem m_save_l2 {k N off : Nat} (hk : k ≠ 14) (hm : mLn k = N) (ho : off + 3213 ≤ N) (hN : N < 100000) : ∀ (m fu j : Nat) (ms0 ms : MS), m < fu → j + m = 3213 → ms.2 = ms0.2 → (∀ q, q ≠ k → ms.1 q = ms0.1 q) → (∀ x, x < j → ms.1 k (off + x) = ms0.1 14 (2607 + x)) → (∀ y, y < off ∨ off + 3213 ≤ y → ms.1 k y = ms0.1 k y) → DV (itr (d_M_save_l2) (fun _ _ _ _ => none) fu ms k (ii off) (ii j)) (fun m' => m'.2 = ms0.2 ∧ (∀ q, q ≠ k → m'.1 q = ms0.1 q) ∧ (∀ x, x < 3213 → m'.1 k (off + x) = ms0.1 14 (2607 + x)) ∧ ∀ y, y < off ∨ off + 3213 ≤ y → m'.1 k y = ms0.1 k y) := by
  intro m
  induction m with
  | zero =>
    intro fu j ms0 ms hf hj e1 e2 e3 e4
    obtain ⟨fu, rfl⟩ : ∃ x, fu = x + 1 := ⟨fu - 1, by omega⟩
    refine DV.of ?_
    rw [itr_succ]
    unfold d_M_save_l2
    rw [show (3213 : Int32) = ii 3213 from ii_lit 3213]
    refine d_pos _ (ii_leT (by omega)) ?_
    exact d_dV ⟨rfl, e1, e2, fun x hx => e3 x (by omega), e4⟩
  | succ m ih =>
    intro fu j ms0 ms hf hj e1 e2 e3 e4
    obtain ⟨fu, rfl⟩ : ∃ x, fu = x + 1 := ⟨fu - 1, by omega⟩
    refine DV.of ?_
    rw [itr_succ]
    unfold d_M_save_l2
    rw [show (3213 : Int32) = ii 3213 from ii_lit 3213, show (2607 : Int32) = ii 2607 from ii_lit 2607, ii_add, ii_add, il_1, ii_add]
    refine d_neg _ (ii_leF (by omega)) ?_
    refine d_eA (N := 6062) rfl (n := 2607 + j) (v := ms0.1 14 (2607 + j)) (by omega) (by rw [e2 14 (Ne.symm hk)]) ?_
    refine d_sA (N := N) hm (n := off + j) (by omega) ?_
    have x1 : ((j : Int) + 1) = ((j + 1 : Nat) : Int) := by omega
    rw [x1]
    refine DE.ofV (ih fu (j + 1) ms0 _ (by omega) (by omega) e1 (fun q hq => (ms_nk hq).trans (e2 q hq)) (fun x hx => ?_) (fun y hy => (ms_ne (by omega)).trans (e4 y hy))) fun m' q => ⟨rfl, q⟩
    by_cases c : x = j
    · rw [c, ms_eq]
    · rw [ms_ne (by omega)]; exact e3 x (by omega)
theorem m_save {k N off : Nat} (hk : k ≠ 14) (hm : mLn k = N) (ho : off + 3213 ≤ N) (hN : N < 100000) : DV (d_M_save ms k (ii off)) (fun m' => m'.2 = ms.2 ∧ (∀ q, q ≠ k → m'.1 q = ms.1 q) ∧ (∀ x, x < 3213 → m'.1 k (off + x) = ms.1 14 (2607 + x)) ∧ ∀ y, y < off ∨ off + 3213 ≤ y → m'.1 k y = ms.1 k y) := by
  unfold d_M_save
  rw [il_0]
  exact m_save_l2 hk hm ho hN 3213 FU 0 ms ms (by unfold FU; omega) (by omega) rfl (fun _ _ => rfl) (fun x hx => by omega) (fun _ _ => rfl)
theorem m_back_l2 {k N off : Nat} (hk : k ≠ 14) (hm : mLn k = N) (ho : off + 3213 ≤ N) (hN : N < 100000) : ∀ (m fu j : Nat) (ms0 ms : MS), m < fu → j + m = 3213 → ms.2 = ms0.2 → (∀ q, q ≠ 14 → ms.1 q = ms0.1 q) → (∀ x, x < j → ms.1 14 (2607 + x) = ms0.1 k (off + x)) → (∀ y, y < 2607 ∨ 5820 ≤ y → ms.1 14 y = ms0.1 14 y) → DV (itr (d_M_comeBack_l2) (fun _ _ _ _ => none) fu ms k (ii off) (ii j)) (fun m' => m'.2 = ms0.2 ∧ (∀ q, q ≠ 14 → m'.1 q = ms0.1 q) ∧ (∀ x, x < 3213 → m'.1 14 (2607 + x) = ms0.1 k (off + x)) ∧ ∀ y, y < 2607 ∨ 5820 ≤ y → m'.1 14 y = ms0.1 14 y) := by
  intro m
  induction m with
  | zero =>
    intro fu j ms0 ms hf hj e1 e2 e3 e4
    obtain ⟨fu, rfl⟩ : ∃ x, fu = x + 1 := ⟨fu - 1, by omega⟩
    refine DV.of ?_
    rw [itr_succ]
    unfold d_M_comeBack_l2
    rw [show (3213 : Int32) = ii 3213 from ii_lit 3213]
    refine d_pos _ (ii_leT (by omega)) ?_
    exact d_dV ⟨rfl, e1, e2, fun x hx => e3 x (by omega), e4⟩
  | succ m ih =>
    intro fu j ms0 ms hf hj e1 e2 e3 e4
    obtain ⟨fu, rfl⟩ : ∃ x, fu = x + 1 := ⟨fu - 1, by omega⟩
    refine DV.of ?_
    rw [itr_succ]
    unfold d_M_comeBack_l2
    rw [show (3213 : Int32) = ii 3213 from ii_lit 3213, show (2607 : Int32) = ii 2607 from ii_lit 2607, ii_add, ii_add, il_1, ii_add]
    refine d_neg _ (ii_leF (by omega)) ?_
    refine d_eA (N := N) hm (n := off + j) (v := ms0.1 k (off + j)) (by omega) (by rw [e2 k hk]) ?_
    refine d_sA (N := 6062) rfl (n := 2607 + j) (by omega) ?_
    have x1 : ((j : Int) + 1) = ((j + 1 : Nat) : Int) := by omega
    rw [x1]
    refine DE.ofV (ih fu (j + 1) ms0 _ (by omega) (by omega) e1 (fun q hq => (ms_nk hq).trans (e2 q hq)) (fun x hx => ?_) (fun y hy => (ms_ne (by omega)).trans (e4 y hy))) fun m' q => ⟨rfl, q⟩
    by_cases c : x = j
    · rw [c, ms_eq]
    · rw [ms_ne (by omega)]; exact e3 x (by omega)
theorem m_back {k N off : Nat} (hk : k ≠ 14) (hm : mLn k = N) (ho : off + 3213 ≤ N) (hN : N < 100000) : DV (d_M_comeBack ms k (ii off)) (fun m' => m'.2 = ms.2 ∧ (∀ q, q ≠ 14 → m'.1 q = ms.1 q) ∧ (∀ x, x < 3213 → m'.1 14 (2607 + x) = ms.1 k (off + x)) ∧ ∀ y, y < 2607 ∨ 5820 ≤ y → m'.1 14 y = ms.1 14 y) := by
  unfold d_M_comeBack
  rw [il_0]
  exact m_back_l2 hk hm ho hN 3213 FU 0 ms ms (by unfold FU; omega) (by omega) rfl (fun _ _ => rfl) (fun x hx => by omega) (fun _ _ => rfl)
end
