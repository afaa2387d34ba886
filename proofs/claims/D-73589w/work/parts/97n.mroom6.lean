/-! PURE SIDE: rooms: the model: from what is read to what is so -/
set_option maxRecDepth 100000
section
variable {m0 ms m2 mb : MS} {f : Nat → Nat} {n k : Nat} {t : Tk} {S : RS} {Z : Option Value → MS → Prop}
theorem s_clr (kk : ∀ m', GR m0 m' → MkV f t m' → MB m' f n 900 → (∀ x, x < 2607 → m'.1 15 x = ii 0) → DE (itr (d_M_room_l44) (fun _ _ => none) FU (mset (mset m' 15 1 8) 25 0 0) (0 : Int32)) Z) : ∀ (m fu j : Nat) (ms : MS), m < fu → j + m = 2607 → GR m0 ms → MkV f t ms → MB ms f n 900 → (∀ x, x < j → ms.1 15 x = ii 0) → DE (itr (d_M_room_l9) (fun _ _ => none) fu ms (ii j)) Z := by
  intro m
  induction m with
  | zero =>
    intro fu j ms hf hj G V B c
    obtain ⟨fu, rfl⟩ : ∃ x, fu = x + 1 := ⟨fu - 1, by omega⟩
    rw [itr_succ]
    unfold d_M_room_l9
    refine d_pos _ (by rw [il_2607]; exact ii_leT (by omega)) ?_
    refine d_sA (z := 1) (N := 2607) rfl (n := 1) (by omega) ?_
    refine d_zP (Or.inl rfl) ?_
    exact kk ms G V B fun x hx => c x (by omega)
  | succ m ih =>
    intro fu j ms hf hj G V B c
    obtain ⟨fu, rfl⟩ : ∃ x, fu = x + 1 := ⟨fu - 1, by omega⟩
    rw [itr_succ]
    unfold d_M_room_l9
    refine d_neg _ (by rw [il_2607]; exact ii_leF (by omega)) ?_
    refine d_sA (N := 2607) rfl (n := j) (by omega) ?_
    rw [add1]
    refine ih fu (j + 1) _ (by omega) (by omega) (G.set (by decide)) (V.set (by decide)) (B.set (by decide)) fun x hx => ?_
    by_cases q : x = j
    · rw [q, ms_eq]; rfl
    · rw [ms_ne q]; exact c x (by omega)
theorem rl0 (T : TkOk f n t) (G : GR m0 ms) (V : MkV f t ms) (B : MB ms f n 900) (c : ∀ x, x < 2607 → ms.1 15 x = ii 0) : RL m0 f n rs0 rs0.n t (mset (mset ms 15 1 8) 25 0 0) := by
  refine ⟨(G.set (by decide)).set (by decide), (V.set (by decide)).set (by decide), (B.set (by decide)).set (by decide), T, ?_, fun r hr => absurd hr (Nat.not_lt_zero r), ms_eq⟩
  rw [ms_nk (by decide)]
  refine ⟨(ms_ne (by decide)).trans (c 0 (by decide)), ms_eq, fun r hr => ⟨(ms_ne (by omega)).trans (c _ (by omega)), Nat.zero_le _, fun i hi => absurd hi (Nat.not_lt_zero i)⟩, (ms_ne (by decide)).trans (c 6 (by decide)), Nat.zero_le _, fun i hi => (ms_ne (by omega)).trans (c _ (by omega))⟩
theorem s_l81 {c : Int32} (kk : ∀ m', Cp m0 m' 14 0 15 0 2607 2607 → DE (itr (d_M_room_l108) (fun _ _ _ => none) FU m' c (0 : Int32)) Z) : ∀ (m fu j : Nat) (ms : MS), m < fu → j + m = 2607 → Cp m0 ms 14 0 15 0 2607 j → DE (itr (d_M_room_l81) (fun _ _ _ => none) fu ms c (ii j)) Z := by
  intro m
  induction m with
  | zero =>
    intro fu j ms hf hj C
    obtain ⟨fu, rfl⟩ : ∃ x, fu = x + 1 := ⟨fu - 1, by omega⟩
    have e : j = 2607 := by omega
    subst e
    rw [itr_succ]
    unfold d_M_room_l81
    refine d_pos _ (by rw [il_2607]; exact ii_leT (by omega)) ?_
    exact kk ms C
  | succ m ih =>
    intro fu j ms hf hj C
    obtain ⟨fu, rfl⟩ : ∃ x, fu = x + 1 := ⟨fu - 1, by omega⟩
    rw [itr_succ]
    unfold d_M_room_l81
    refine d_neg _ (by rw [il_2607]; exact ii_leF (by omega)) ?_
    refine d_eA (N := 2607) rfl (n := 0 + j) (by omega) rfl ?_
    refine d_sA (N := 6062) rfl (n := 0 + j) (by omega) ?_
    rw [add1]
    exact ih fu (j + 1) _ (by omega) (by omega) (C.up (by decide) (by omega))
theorem s_l108 {c : Int32} (kk : ∀ m', CpL m0 m' 20 0 21 0 4 4 → DE (bV (d_M_startSo m') fun m1 => nm (mset m1 24 0 (0 : Int32)) fun m2 => dI c m2) Z) : ∀ (m fu j : Nat) (ms : MS), m < fu → j + m = 4 → CpL m0 ms 20 0 21 0 4 j → DE (itr (d_M_room_l108) (fun _ _ _ => none) fu ms c (ii j)) Z := by
  intro m
  induction m with
  | zero =>
    intro fu j ms hf hj C
    obtain ⟨fu, rfl⟩ : ∃ x, fu = x + 1 := ⟨fu - 1, by omega⟩
    have e : j = 4 := by omega
    subst e
    rw [itr_succ]
    unfold d_M_room_l108
    refine d_pos _ (by decide) ?_
    exact kk ms C
  | succ m ih =>
    intro fu j ms hf hj C
    obtain ⟨fu, rfl⟩ : ∃ x, fu = x + 1 := ⟨fu - 1, by omega⟩
    rw [itr_succ]
    unfold d_M_room_l108
    refine d_neg _ (ii_leF (a := 4) (by omega)) ?_
    refine d_eL (N := 4) rfl (n := 0 + j) (by omega) rfl ?_
    refine d_sL (N := 4) rfl (n := 0 + j) (by omega) ?_
    rw [add1]
    exact ih fu (j + 1) _ (by omega) (by omega) (C.up (by decide) (by omega))
/-- what is so is cleared -/
def Clr (m2 ms : MS) (j : Nat) : Prop := ms.2 = m2.2 ∧ (∀ q, q ≠ 14 → ms.1 q = m2.1 q) ∧ (∀ x, x < 2607 → ms.1 14 x = m2.1 14 x) ∧ ∀ x, 2607 ≤ x → x < j → ms.1 14 x = ii 0
theorem s_st4 (kk : ∀ m', Clr m2 m' 6062 → DE (itr (d_M_startSo_l26) (fun _ _ => none) FU m' (0 : Int32)) Z) : ∀ (m fu j : Nat) (ms : MS), m < fu → j + m = 6062 → 2607 ≤ j → Clr m2 ms j → DE (itr (d_M_startSo_l4) (fun _ _ => none) fu ms (ii j)) Z := by
  intro m
  induction m with
  | zero =>
    intro fu j ms hf hj h7 C
    obtain ⟨fu, rfl⟩ : ∃ x, fu = x + 1 := ⟨fu - 1, by omega⟩
    have e : j = 6062 := by omega
    subst e
    rw [itr_succ]
    unfold d_M_startSo_l4
    refine d_pos _ (by rw [il_6062]; exact ii_leT (by omega)) ?_
    exact kk ms C
  | succ m ih =>
    intro fu j ms hf hj h7 C
    obtain ⟨fu, rfl⟩ : ∃ x, fu = x + 1 := ⟨fu - 1, by omega⟩
    rw [itr_succ]
    unfold d_M_startSo_l4
    refine d_neg _ (by rw [il_6062]; exact ii_leF (by omega)) ?_
    refine d_sA (N := 6062) rfl (n := j) (by omega) ?_
    rw [add1]
    obtain ⟨c1, c2, c3, c4⟩ := C
    refine ih fu (j + 1) _ (by omega) (by omega) (by omega) ⟨c1, fun q hq => (ms_nk hq).trans (c2 q hq), fun x hx => (ms_ne (by omega)).trans (c3 x hx), fun x h1 h2 => ?_⟩
    by_cases q : x = j
    · rw [q, ms_eq]; rfl
    · rw [ms_ne q]; exact c4 x h1 (by omega)
theorem mr0 {nw : Nat → Int32} {r : Nat} (hr : r < 4) (c : ∀ x, 2607 ≤ x → x < 6062 → nw x = ii 0) : MR nw r [] := ⟨c _ (by omega) (by omega), c _ (by omega) (by omega), fun k hk => c _ (by omega) (by omega), fun i hi => absurd hi (Nat.not_lt_zero i)⟩
theorem take_gb {l : List Bool} {i : Nat} (h : i < l.length) : l.take (i + 1) = l.take i ++ [gb l i] := by
  rw [gb_at h, List.take_succ_eq_append_getElem h]
theorem s_st38 {r26 : MS → Int32 → Option DR} {r : Nat} {T : List Nat} (hr : r < 4) (hlo : 4 ≤ S.lo ∧ S.lo ≤ 32) (M5 : M15 (mb.1 14) S k) : ∀ (m fu i : Nat) (A : Nat → LL) (ms : MS), m < fu → i + m = (S.bs r).length → MO (ms.1 14) S.lo k A T → GM mb ms → A r = bldL S.lo ((S.bs r).take i) → (∀ q, q < 4 → (A q).flatten.length ≤ 600) → (∀ m' A', MO (m'.1 14) S.lo k A' T → GM mb m' → A' r = bldL S.lo (S.bs r) → (∀ q, q ≠ r → A' q = A q) → DE (r26 m' (ii (r : Int) + (1 : Int32))) Z) → DE (itr (d_M_startSo_l38 r26) (fun _ _ _ => none) fu ms (ii r) (ii i)) Z := by
  intro m
  obtain ⟨h1, h2, h3⟩ := M5.2.2.1 r hr
  induction m with
  | zero =>
    intro fu i A ms hf hi M G eA hb kk
    obtain ⟨fu, rfl⟩ : ∃ x, fu = x + 1 := ⟨fu - 1, by omega⟩
    have e2 : (2 : Int32) + ii (r : Int) = ii ((2 + r : Nat) : Int) := by rw [il_2, ii_add]; rfl
    rw [itr_succ]
    unfold d_M_startSo_l38
    rw [e2]
    refine d_eA (N := 6062) rfl (n := 2 + r) (by omega) ((G.2.2 _ (by omega)).trans h1) ?_
    refine d_pos _ (ii_leT (by omega)) ?_
    refine kk ms A M G ?_ fun _ _ => rfl
    rw [eA, List.take_of_length_le (by omega)]
  | succ m ih =>
    intro fu i A ms hf hi M G eA hb kk
    obtain ⟨fu, rfl⟩ : ∃ x, fu = x + 1 := ⟨fu - 1, by omega⟩
    have e2 : (2 : Int32) + ii (r : Int) = ii ((2 + r : Nat) : Int) := by rw [il_2, ii_add]; rfl
    have e7 : ((207 : Int32) + ((600 : Int32) * ii (r : Int))) + ii (i : Int) = ii ((207 + 600 * r + i : Nat) : Int) := by
      rw [show (207 : Int32) = ii 207 from ii_lit 207, show (600 : Int32) = ii 600 from ii_lit 600, ii_mul, ii_add, ii_add]
      congr 1
    have bo := bldL_ok hlo (l := (S.bs r).take i) (by rw [List.length_take]; omega)
    have fl : (A r).flatten.length = i := by rw [eA, bo.2, List.length_take]; omega
    rw [itr_succ]
    unfold d_M_startSo_l38
    rw [e2]
    refine d_eA (N := 6062) rfl (n := 2 + r) (by omega) ((G.2.2 _ (by omega)).trans h1) ?_
    refine d_neg _ (ii_leF (by omega)) ?_
    rw [e7]
    refine d_eA (N := 6062) rfl (n := 207 + 600 * r + i) (by omega) ((G.2.2 _ (by omega)).trans (h3 i (by omega))) ?_
    refine d_bV (m_putBit (i := i) (b := gb (S.bs r) i) hr (M.2.2.1 r hr) M.2.1 (by rw [eA]; exact bo.1) (by omega) (by omega)) fun m1 ⟨R1, F1⟩ => ?_
    have M1 := M.row hb hr F1 R1
    have en : insL S.lo i (gb (S.bs r) i) (A r) = bldL S.lo ((S.bs r).take (i + 1)) := by
      rw [take_gb (by omega), bldL_app, ← eA, fl]
    have bo1 := bldL_ok hlo (l := (S.bs r).take (i + 1)) (by rw [List.length_take]; omega)
    rw [add1]
    refine ih fu (i + 1) _ m1 (by omega) (by omega) M1 (G.trans (F1.gm hr)) (by rw [up_at, en]) (fun q hq => ?_) fun m' A' Mx Gx e1 e2 => kk m' A' Mx Gx e1 fun q hq => (e2 q hq).trans (va_up_ne _ _ hq)
    by_cases c : q = r
    · rw [c, up_at, en, bo1.2, List.length_take]; omega
    · rw [va_up_ne _ _ c]; exact hb q hq
/-- letters come over -/
def D01 (mb ms : MS) (j : Nat) : Prop := ms.2 = mb.2 ∧ (∀ q, q ≠ 14 → ms.1 q = mb.1 q) ∧ (∀ x, x < j → ms.1 14 (2616 + x) = mb.1 14 (7 + x)) ∧ ∀ y, y < 2616 ∨ 2816 ≤ y → ms.1 14 y = mb.1 14 y
theorem s_st101 (kk : ∀ m', D01 mb m' 200 → Z none m') : ∀ (m fu j : Nat) (ms : MS), m < fu → j + m = 200 → D01 mb ms j → DE (itr (d_M_startSo_l101) (fun _ _ => none) fu ms (ii j)) Z := by
  intro m
  induction m with
  | zero =>
    intro fu j ms hf hj D
    obtain ⟨fu, rfl⟩ : ∃ x, fu = x + 1 := ⟨fu - 1, by omega⟩
    have e : j = 200 := by omega
    subst e
    rw [itr_succ]
    unfold d_M_startSo_l101
    refine d_pos _ (by decide) ?_
    exact d_dV (kk ms D)
  | succ m ih =>
    intro fu j ms hf hj D
    obtain ⟨fu, rfl⟩ : ∃ x, fu = x + 1 := ⟨fu - 1, by omega⟩
    obtain ⟨d1, d2, d3, d4⟩ := D
    have e7 : (7 : Int32) + ii (j : Int) = ii ((7 + j : Nat) : Int) := by rw [il_7, ii_add]; rfl
    have e16 : (2616 : Int32) + ii (j : Int) = ii ((2616 + j : Nat) : Int) := by rw [il_2616, ii_add]; rfl
    rw [itr_succ]
    unfold d_M_startSo_l101
    refine d_neg _ (ii_leF (a := 200) (by omega)) ?_
    rw [e7, e16]
    refine d_eA (N := 6062) rfl (n := 7 + j) (by omega) (d4 _ (by omega)) ?_
    refine d_sA (N := 6062) rfl (n := 2616 + j) (by omega) ?_
    rw [add1]
    refine ih fu (j + 1) _ (by omega) (by omega) ⟨d1, fun q hq => (ms_nk hq).trans (d2 q hq), fun x hx => ?_, fun y hy => (ms_ne (by omega)).trans (d4 y hy)⟩
    by_cases q : x = j
    · rw [q, ms_eq]
    · rw [ms_ne (by omega)]; exact d3 x (by omega)
theorem s_st26 (hlo : 4 ≤ S.lo ∧ S.lo ≤ 32) (hS : RSo S) (M5 : M15 (mb.1 14) S S.n) (kk : ∀ m' A', MO (m'.1 14) S.lo S.n A' S.T → (∀ r, r < 4 → A' r = bldL S.lo (S.bs r)) → GM mb m' → Z none m') : ∀ (m fu r : Nat) (A : Nat → LL) (ms : MS), m < fu → r + m = S.n → MO (ms.1 14) S.lo S.n A [] → GM mb ms → (∀ q, q < 4 → A q = if q < r then bldL S.lo (S.bs q) else []) → DE (itr (d_M_startSo_l26) (fun _ _ => none) fu ms (ii r)) Z := by
  have n4 := hS.1
  have lenB : ∀ (A : Nat → LL) (r : Nat), (∀ q, q < 4 → A q = if q < r then bldL S.lo (S.bs q) else []) → ∀ q, q < 4 → (A q).flatten.length ≤ 600 := fun A r e q hq => by
    rw [e q hq]
    have h2 := (M5.2.2.1 q hq).2.1
    by_cases c : q < r
    · rw [if_pos c, (bldL_ok hlo h2).2]; exact h2
    · rw [if_neg c]; exact Nat.zero_le _
  intro m
  induction m with
  | zero =>
    intro fu r A ms hf hr M G eA
    obtain ⟨fu, rfl⟩ : ∃ x, fu = x + 1 := ⟨fu - 1, by omega⟩
    rw [itr_succ]
    unfold d_M_startSo_l26
    refine d_eA (z := 0) (N := 6062) rfl (n := 0) (by omega) M.1 ?_
    refine d_pos _ (ii_leT (by omega)) ?_
    refine d_eA (z := 6) (N := 6062) rfl (n := 6) (by omega) ((G.2.2 _ (by omega)).trans M5.2.2.2.1) ?_
    refine d_sA (z := 2615) (N := 6062) rfl (n := 2615) (by omega) ?_
    refine s_st101 (mb := mset ms 14 2615 (ii (S.T.length : Int))) (fun m' D => ?_) 200 FU 0 _ (by unfold FU; omega) (by omega) ⟨rfl, fun _ _ => rfl, fun x hx => absurd hx (Nat.not_lt_zero x), fun _ _ => rfl⟩
    obtain ⟨d1, d2, d3, d4⟩ := D
    refine kk m' A ?_ (fun q hq => ?_) ⟨d1.trans G.1, fun q hq => (d2 q hq).trans ((ms_nk hq).trans (G.2.1 q hq)), fun x hx => (d4 x (by omega)).trans ((ms_ne (by omega)).trans (G.2.2 x hx))⟩
    · refine M.letters (lenB A r eA) (fun x hx => (d4 x (by omega)).trans (ms_ne (by omega))) ((d4 _ (by omega)).trans ms_eq) fun i hi => ?_
      rw [d3 i hi, ms_ne (by omega), G.2.2 _ (by omega)]
      exact M5.2.2.2.2.2 i hi
    · rw [eA q hq]
      by_cases c : q < r
      · rw [if_pos c]
      · rw [if_neg c, hS.2.2 q (by omega)]; rfl
  | succ m ih =>
    intro fu r A ms hf hr M G eA
    obtain ⟨fu, rfl⟩ : ∃ x, fu = x + 1 := ⟨fu - 1, by omega⟩
    have h2 := (M5.2.2.1 r (by omega)).2.1
    rw [itr_succ]
    unfold d_M_startSo_l26
    refine d_eA (z := 0) (N := 6062) rfl (n := 0) (by omega) M.1 ?_
    refine d_neg _ (ii_leF (by omega)) ?_
    refine s_st38 (S := S) (k := S.n) (mb := mb) (by omega) hlo M5 (S.bs r).length FU 0 A ms (by unfold FU; omega) (by omega) M G (by rw [eA r (by omega), if_neg (by omega)]; rfl) (lenB A r eA) fun m' A' Mx Gx e1 e2 => ?_
    rw [add1]
    refine ih fu (r + 1) A' m' (by omega) (by omega) Mx Gx fun q hq => ?_
    by_cases c : q = r
    · rw [c, e1, if_pos (by omega)]
    · rw [e2 q c, eA q hq]
      by_cases c2 : q < r
      · rw [if_pos c2, if_pos (by omega)]
      · rw [if_neg c2, if_neg (by omega)]
theorem m_startSo (hlo : 4 ≤ S.lo ∧ S.lo ≤ 32) (hS : RSo S) (M5 : M15 (m2.1 14) S S.n) : DV (d_M_startSo m2) (fun m' => ∃ A', MO (m'.1 14) S.lo S.n A' S.T ∧ (∀ r, r < 4 → A' r = bldL S.lo (S.bs r)) ∧ m'.2 = m2.2 ∧ (∀ q, q ≠ 14 → m'.1 q = m2.1 q) ∧ m'.1 14 5820 = ii 0) := by
  refine DV.of ?_
  unfold d_M_startSo
  rw [il_2607]
  refine s_st4 (m2 := m2) (fun m1 C => ?_) 3455 FU 2607 m2 (by unfold FU; omega) (by omega) (by omega) ⟨rfl, fun _ _ => rfl, fun _ _ => rfl, fun x h1 h2 => by omega⟩
  obtain ⟨c1, c2, c3, c4⟩ := C
  have M5' : M15 (m1.1 14) S S.n := by
    obtain ⟨y1, y2, y3, y4, y5, y6⟩ := M5
    refine ⟨(c3 _ (by omega)).trans y1, (c3 _ (by omega)).trans y2, fun r hr => ?_, (c3 _ (by omega)).trans y4, y5, fun i hi => (c3 _ (by omega)).trans (y6 i hi)⟩
    obtain ⟨w1, w2, w3⟩ := y3 r hr
    exact ⟨(c3 _ (by omega)).trans w1, w2, fun i hi => (c3 _ (by omega)).trans (w3 i hi)⟩
  refine s_st26 (mb := m1) hlo hS M5' (fun m' A' M' e' G' => ⟨rfl, A', M', e', G'.1.trans c1, fun q hq => (G'.2.1 q hq).trans (c2 q hq), (G'.2.2 _ (by omega)).trans (c4 _ (by omega) (by omega))⟩) S.n FU 0 (fun _ => []) m1 (by have := hS.1; unfold FU; omega) (by omega) ⟨M5'.1, M5'.2.1, fun r hr => mr0 hr c4, c4 _ (by omega) (by omega), fun i hi => c4 _ (by omega) (by omega)⟩ GM.rf (fun q hq => by rw [if_neg (by omega)])
end
