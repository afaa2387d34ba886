/-! PURE SIDE: the component's reader: words that are known, names, signs, numbers, faults -/
set_option maxRecDepth 100000
/-- a token as it comes -/
def TkOk (f : Nat → Nat) (n : Nat) (t : Tk) : Prop := (t.p ≤ n ∧ t.at_ ≤ 940 ∧ t.k ≤ 4) ∧ (t.k = 1 → okN (seg f t.at_ t.p) ∧ t.at_ < t.p) ∧ (t.k = 2 → nv (seg f t.at_ t.p) ≤ 999)
theorem tkW_k {f : Nat → Nat} {q e : Nat} (hq : q < e) (ha : ∀ c, c ∈ seg f q e → alN c) : (tkW f q e = 1 → okN (seg f q e)) ∧ (tkW f q e = 2 → nv (seg f q e) ≤ 999) ∧ tkW f q e ≠ 3 := by
  unfold tkW
  by_cases c : allS f (decide (isLt (f q))) q e = true ∧ e - q ≤ (if isLt (f q) then 7 else 3)
  · rw [if_pos c]
    by_cases cl : isLt (f q)
    · rw [if_pos cl]
      rw [if_pos cl] at c
      refine ⟨fun _ => ⟨by rw [seg_len]; omega, by rw [seg_len]; exact c.2, fun d hd => ?_⟩, fun z => by omega, by omega⟩
      have := seg_m c.1 d hd
      rw [decide_eq_true cl, decide_eq_true_eq] at this
      exact this
    · rw [if_neg cl]
      rw [if_neg cl] at c
      refine ⟨fun z => by omega, fun _ => ?_, by omega⟩
      have hl : ∀ d, d ∈ seg f q e → d ≤ 57 := fun d hd => by
        have h3 := ha d hd
        have h4 := seg_m c.1 d hd
        rw [decide_eq_false cl, decide_eq_false_iff_not] at h4
        omega
      have b1 := nv_lt hl
      have b2 : 10 ^ (seg f q e).length ≤ 10 ^ 3 := Nat.pow_le_pow_right (by decide) (by rw [seg_len]; exact c.2)
      have b3 : (10 : Nat) ^ 3 = 1000 := rfl
      omega
  · rw [if_neg c]
    exact ⟨fun z => by omega, fun z => by omega, by omega⟩
theorem tok_ok {f : Nat → Nat} {n most p : Nat} (hp : p ≤ n) (hm : most ≤ 900) (hn : n ≤ 940) : TkOk f n (tok f n most p) := by
  refine ⟨tok_le hp hm hn, ?_⟩
  unfold tok tkQ
  have s := skp_le (f := f) (n - p) p hp
  generalize skp f n (n - p) p = q at *
  by_cases c1 : most < n ∧ most ≤ q
  · rw [if_pos c1]
    exact ⟨fun z => absurd (show 4 = 1 from z) (by decide), fun z => absurd (show 4 = 2 from z) (by decide)⟩
  rw [if_neg c1]
  by_cases c2 : n ≤ q
  · rw [if_pos c2]
    exact ⟨fun z => absurd (show 0 = 1 from z) (by decide), fun z => absurd (show 0 = 2 from z) (by decide)⟩
  rw [if_neg c2]
  by_cases c3 : alN (f q)
  · rw [if_pos c3]
    have r1 : q + 1 ≤ runE f n (n - q) q := by
      rw [show n - q = (n - q - 1) + 1 by omega]
      unfold runE
      rw [if_pos ⟨by omega, c3⟩]
      exact (runE_le (n - q - 1) (q + 1) (by omega)).1
    have hal : ∀ c, c ∈ seg f q (runE f n (n - q) q) → alN c := seg_run _ _ (Nat.le_refl _) (by rw [seg_0]; intro c hcc; cases hcc)
    have k := tkW_k (by omega) hal
    exact ⟨fun z => ⟨k.1 z, by show q < runE f n (n - q) q; omega⟩, k.2.1⟩
  · rw [if_neg c3]
    refine ⟨fun z => ?_, fun z => ?_⟩
    · have z : (if f q = 59 ∨ f q = 40 ∨ f q = 41 ∨ (60 ≤ f q ∧ f q ≤ 62) then 3 else 4) = 1 := z
      split at z <;> omega
    · have z : (if f q = 59 ∨ f q = 40 ∨ f q = 41 ∨ (60 ≤ f q ∧ f q ≤ 62) then 3 else 4) = 2 := z
      split at z <;> omega
/-- words, names -/
def isKw (f : Nat → Nat) (t : Tk) (k : Nat) : Bool := decide (t.k = 1 ∧ seg f t.at_ t.p = kw k)
def fkw (f : Nat → Nat) (t : Tk) (k0 : Nat) : Nat → Nat → Int
  | 0, _ => -1
  | m + 1, j => if isKw f t (k0 + j) = true then (j : Int) else fkw f t k0 m (j + 1)
def nmOk (f : Nat → Nat) (t : Tk) : Bool := decide (t.k = 1 ∧ fkw f t 0 3 0 = -1 ∧ fkw f t 3 20 0 = -1)
def isSg (f : Nat → Nat) (t : Tk) (c : Nat) : Bool := decide (t.k = 3 ∧ f t.at_ = c)
def ofN (nm : Nat → List Nat) (l : List Nat) : Nat → Nat → Int
  | 0, _ => -1
  | m + 1, j => if nm j = l then (j : Int) else ofN nm l m (j + 1)
theorem fkw_le {f : Nat → Nat} {t : Tk} {k0 : Nat} : ∀ (m j : Nat), -1 ≤ fkw f t k0 m j ∧ fkw f t k0 m j < j + m ∨ fkw f t k0 m j = -1 := by
  intro m
  induction m with
  | zero => intro j; exact Or.inr rfl
  | succ m ih =>
    intro j
    unfold fkw
    by_cases c : isKw f t (k0 + j) = true
    · rw [if_pos c]; exact Or.inl (by omega)
    · rw [if_neg c]
      rcases ih (j + 1) with h | h
      · exact Or.inl (by omega)
      · exact Or.inr h
theorem ofN_le {nm : Nat → List Nat} {l : List Nat} : ∀ (m j : Nat), ofN nm l m j = -1 ∨ ∃ r : Nat, ofN nm l m j = r ∧ r < j + m := by
  intro m
  induction m with
  | zero => intro j; exact Or.inl rfl
  | succ m ih =>
    intro j
    unfold ofN
    by_cases c : nm j = l
    · rw [if_pos c]; exact Or.inr ⟨j, rfl, by omega⟩
    · rw [if_neg c]
      rcases ih (j + 1) with h | ⟨r, h1, h2⟩
      · exact Or.inl h
      · exact Or.inr ⟨r, h1, by omega⟩
theorem kw_ch : ∀ (k : Fin 23) (j : Fin 8), (strByt.getD k.val []).getD j.val 0 = ii (((kw k.val).getD j.val 0 : Nat) : Int) := by decide +kernel
theorem tl_kw : ∀ k : Fin 23, tLen k.val = ii ((kw k.val).length : Int) := by decide +kernel
theorem seg_iff {f : Nat → Nat} {a p : Nat} {l : List Nat} : seg f a p = l ↔ l.length = p - a ∧ ∀ i, i < p - a → f (a + i) = l.getD i 0 := by
  constructor
  · intro h
    subst h
    refine ⟨seg_len, fun i hi => ?_⟩
    unfold seg
    rw [List.getD_eq_getElem?_getD, List.getElem?_map, List.getElem?_range hi]
    rfl
  · intro ⟨h1, h2⟩
    refine List.ext_getElem? fun i => ?_
    by_cases c : i < p - a
    · unfold seg
      rw [List.getElem?_map, List.getElem?_range c, List.getElem?_eq_getElem (by omega)]
      have := h2 i c
      rw [List.getD_eq_getElem?_getD, List.getElem?_eq_getElem (by omega)] at this
      show some (f (a + i)) = _
      rw [this]; rfl
    · rw [List.getElem?_eq_none (by rw [seg_len]; omega), List.getElem?_eq_none (by omega)]
/-- only one cell is another -/
def Onl (ρ : Nat) (h h' : PH) : Prop := h'.2 = h.2 ∧ (∀ x, x ≠ ρ → h'.1 x = h.1 x) ∧ ∃ d d', h.1 ρ = some d ∧ h'.1 ρ = some d' ∧ kd d = kd d'
/-- the reader stands at a token -/
def RJ (b : Nat → Nat) (f : Nat → Nat) (n cls ρ most : Nat) (x8 x9 : Value) (x10 : Int32) (t : Tk) (h : PH) : Prop := (∃ v mn nm, h.1 ρ = some (RDC b cls (most : Int) x8 x9 x10 (ii t.p) (ii t.at_) (ii t.k) v mn nm) ∧ TkV f t v mn nm) ∧ TB b h f n ∧ StR b h ∧ (∃ fs, h.1 (b 2) = some (.inr (1, fs)) ∧ fs.length = 8) ∧ TkOk f n t ∧ Wf h ∧ (∃ fs, h.1 (b 0) = some (.inr (0, fs)) ∧ fs[3]? = some (.ref (b 2)) ∧ fs[4]? = some (.ref (b 3)) ∧ fs[5]? = some (.ref (b 4))) ∧ (cls = 5 ∨ cls = 6 ∨ cls = 7) ∧ most ≤ 900
/-- a fault told -/
def TH (b : Nat → Nat) (h : PH) (k pl : Nat) (h' : PH) : Prop := ∃ fs, h.1 (b 2) = some (.inr (1, fs)) ∧ fs.length = 8 ∧ h' = hset h (b 2) (.inr (1, (fs.set 6 (.int (ii k))).set 7 (.int (ii pl))))
section
variable {b : Nat → Nat} {f : Nat → Nat} {n cls ρ most : Nat} {x8 x9 : Value} {x10 : Int32} {t : Tk} {h : PH} {Z : Rt → PH → Prop}
theorem RJ.cell (J : RJ b f n cls ρ most x8 x9 x10 t h) : ∃ fs, h.1 ρ = some (.inr (cls, fs)) ∧ kd (.inr (cls, fs) : PC) = 2 * cls := by
  obtain ⟨⟨v, mn, nm, e, _⟩, _⟩ := J
  exact ⟨_, e, rfl⟩
theorem RJ.grd {P : Option RH} (J : RJ b f n cls ρ most x8 x9 x10 t h) {cs : List Nat} (hc : cls ∈ cs) : grd h ρ cs P = P := by
  obtain ⟨fs, e, _⟩ := J.cell
  exact grd_eq e hc
theorem gS_at {a i : Nat} {K : Nat → Option RH} (e : h.1 a = some (.inr (100 + i, []))) (hi : i < 23) : gS h a K = K i := by
  unfold gS
  rw [e]
  show (if 100 ≤ 100 + i ∧ 100 + i < 123 then K (100 + i - 100) else none) = _
  rw [if_pos (by omega), Nat.add_sub_cancel_left]
theorem p_is_l23 {k : Nat} (J : RJ b f n cls ρ most x8 x9 x10 t h) (hk : k < 23) (h1 : t.k = 1) (hl : (kw k).length = t.p - t.at_) : ∀ (m fu j : Nat), m < fu → j + m = t.p - t.at_ → (∀ i, i < j → f (t.at_ + i) = (kw k).getD i 0) → itr (c_D_is_l23) (fun _ _ _ _ => none) fu h ρ (h.2.2 k) (ii j) = rI (ii (bn (decide (seg f t.at_ t.p = kw k)))) h := by
  obtain ⟨⟨v, mn, nm, e, tv⟩, ⟨⟨fs, a1, a2, a3⟩, ⟨g, a4, a5⟩, a6, a7⟩, S, _, tk, _, _, hc, hmo⟩ := J
  obtain ⟨tm, _⟩ := tv.1 h1
  obtain ⟨⟨tb1, tb2, tb3⟩, tw, _⟩ := tk
  obtain ⟨ok, tl⟩ := tw h1
  have l7 : (kw k).length = strLen.getD k 0 ∧ 2 ≤ (kw k).length ∧ (kw k).length ≤ 7 := kw_len ⟨k, hk⟩
  have eS := S.2.2.2.2.2 k hk
  intro m
  induction m with
  | zero =>
    intro fu j hf hj hall
    obtain ⟨fu, rfl⟩ : ∃ x, fu = x + 1 := ⟨fu - 1, by omega⟩
    refine eqI ?_
    rw [itr_succ]
    unfold c_D_is_l23
    refine q_gI e (clm hc) rfl ?_
    rw [tm]
    refine q_pos _ (ii_leT (by omega)) ?_
    rw [decide_eq_true (seg_iff.2 ⟨hl, fun i hi => hall i (by omega)⟩)]
    exact q_rZ1 ⟨rfl, rfl⟩
  | succ m ih =>
    intro fu j hf hj hall
    obtain ⟨fu, rfl⟩ : ∃ x, fu = x + 1 := ⟨fu - 1, by omega⟩
    refine eqI ?_
    rw [itr_succ]
    show Ends (c_D_is_l23 (itr c_D_is_l23 (fun _ _ _ _ => none) fu) h ρ (h.2.2 k) (ii j)) _
    have fl : isLt (f (t.at_ + j)) := by
      have : f (t.at_ + j) ∈ seg f t.at_ t.p := by
        unfold seg
        exact List.mem_map.mpr ⟨j, List.mem_range.mpr (by omega), rfl⟩
      exact ok.2.2 _ this
    have step : f (t.at_ + j) = (kw k).getD j 0 → Ends (itr c_D_is_l23 (fun _ _ _ _ => none) fu h ρ (h.2.2 k) (ii j + 1)) (fun r h' => r = .inl (some (.int (ii (bn (decide (seg f t.at_ t.p = kw k)))))) ∧ h' = h) := by
      intro eq
      have kk := ih fu (j + 1) (by omega) (by omega) (fun i hi => by
        by_cases c : i = j
        · rw [c]; exact eq
        · exact hall i (by omega))
      rw [add1]
      exact ⟨_, _, kk, rfl, rfl⟩
    generalize itr c_D_is_l23 (fun _ _ _ _ => none) fu = rr at *
    unfold c_D_is_l23
    refine q_gI e (clm hc) rfl ?_
    rw [tm]
    refine q_neg _ (ii_leF (by omega)) ?_
    refine q_gQr e (clm hc) rfl ?_
    refine q_nn ?_
    refine q_gQr a1 (by decide) a2 ?_
    refine q_gI e (clm hc) rfl ?_
    refine q_nn ?_
    rw [ii_add]
    refine q_ldI a4 (by omega) ?_
    have e1 : ((t.at_ : Int) + j).toNat = t.at_ + j := by omega
    rw [e1, a5 _ (by omega)]
    have ch : c_J2_charAt h (h.2.2 k) (ii j) = rI (ii (((kw k).getD j 0 : Nat) : Int)) h := by
      unfold c_J2_charAt
      rw [gS_at eS hk]
      unfold c_J3_charAt tCh
      rw [ii_toNat (by omega), Int.toNat_natCast, kw_ch ⟨k, hk⟩ ⟨j, by omega⟩]
      rw [if_neg]
      rintro (q | q)
      · exact ii_ltF (b := 0) (by omega) q
      · have := l7.1
        omega
    refine q_hIe ch ?_
    have kb : (kw k).getD j 0 ≤ 122 := by
      rw [List.getD_eq_getElem?_getD, List.getElem?_eq_getElem (by omega)]
      exact (kw_ok ⟨k, hk⟩ _ (List.getElem_mem _)).2
    have sb : sbv (f (t.at_ + j)) = (f (t.at_ + j) : Int) := by unfold sbv; rw [if_pos (by omega)]
    rw [sb]
    by_cases c : f (t.at_ + j) = (kw k).getD j 0
    · refine q_pos _ (by rw [c]) ?_
      exact step c
    · refine q_neg _ (ii_eqF (by omega)) ?_
      rw [decide_eq_false (fun z => c ((seg_iff.1 z).2 j (by omega)))]
      exact q_rZ0 ⟨rfl, rfl⟩
theorem p_is {k : Nat} (J : RJ b f n cls ρ most x8 x9 x10 t h) (hk : k < 23) : c_D_is h ρ (h.2.2 k) = rI (ii (bn (isKw f t k))) h := by
  have J' := J
  have hn := J.2.1.2.2.1
  obtain ⟨⟨v, mn, nm, e, tv⟩, _, S, _, tk, _, _, hc, hmo⟩ := J
  obtain ⟨⟨tb1, tb2, tb3⟩, tw, _⟩ := tk
  have eS := S.2.2.2.2.2 k hk
  have l7 : (kw k).length = strLen.getD k 0 ∧ 2 ≤ (kw k).length ∧ (kw k).length ≤ 7 := kw_len ⟨k, hk⟩
  refine eqI ?_
  unfold c_D_is isKw
  refine q_grd e (clm hc) ?_
  refine q_gI e (clm hc) rfl ?_
  rw [il_1]
  by_cases c1 : t.k = 1
  · refine q_pos _ (by rw [c1]; rfl) ?_
    refine q_gI e (clm hc) rfl ?_
    have hle : c_J2_length h (h.2.2 k) = rI (ii ((kw k).length : Int)) h := by
      unfold c_J2_length
      rw [gS_at eS hk, tl_kw ⟨k, hk⟩]
    refine q_hIe hle ?_
    rw [(tv.1 c1).1]
    by_cases c2 : t.p - t.at_ = (kw k).length
    · refine q_pos _ (by rw [c2]) ?_
      have kk := p_is_l23 J' hk c1 c2.symm (t.p - t.at_) FU 0 (by unfold FU; omega) (by omega) (fun i hi => absurd hi (by omega))
      have ed : decide (t.k = 1 ∧ seg f t.at_ t.p = kw k) = decide (seg f t.at_ t.p = kw k) := by rw [decide_eq_decide]; exact ⟨fun z => z.2, fun z => ⟨c1, z⟩⟩
      rw [ed]
      exact ⟨_, _, kk, rfl, rfl⟩
    · refine q_neg _ (ii_eqF (by omega)) ?_
      rw [decide_eq_false (fun z => c2 (by rw [← z.2, seg_len]))]
      exact q_rZ0 ⟨rfl, rfl⟩
  · refine q_neg _ (ii_eqF (by omega)) ?_
    rw [decide_eq_false (fun z => c1 z.1)]
    exact q_rZ0 ⟨rfl, rfl⟩
theorem p_find {a k0 m : Nat} (J : RJ b f n cls ρ most x8 x9 x10 t h) (A : StrA h a m k0) (hm : k0 + m ≤ 23) : c_D_find h ρ a = rI (ii (fkw f t k0 m 0)) h := by
  have J' := J
  obtain ⟨⟨v, mn, nm, e, tv⟩, _, S, _, tk, _, _, hc, hmo⟩ := J
  obtain ⟨g, e1, e2⟩ := A
  have key : ∀ (l fu j : Nat), l < fu → j + l = m → itr (c_D_find_l2) (fun _ _ _ _ => none) fu h ρ a (ii j) = rI (ii (fkw f t k0 l j)) h := by
    intro l
    induction l with
    | zero =>
      intro fu j hf hj
      obtain ⟨fu, rfl⟩ : ∃ x, fu = x + 1 := ⟨fu - 1, by omega⟩
      refine eqI ?_
      rw [itr_succ]
      unfold c_D_find_l2
      refine q_alen2 e1 (by decide) ?_
      refine q_pos _ (ii_leT (by omega)) ?_
      exact q_rI ⟨rfl, rfl⟩
    | succ l ih =>
      intro fu j hf hj
      obtain ⟨fu, rfl⟩ : ∃ x, fu = x + 1 := ⟨fu - 1, by omega⟩
      have kk := ih fu (j + 1) (by omega) (by omega)
      refine eqI ?_
      rw [itr_succ]
      show Ends (c_D_find_l2 (itr c_D_find_l2 (fun _ _ _ _ => none) fu) h ρ a (ii j)) _
      have step : Ends (itr c_D_find_l2 (fun _ _ _ _ => none) fu h ρ a (ii j + 1)) (fun r h' => r = .inl (some (.int (ii (fkw f t k0 l (j + 1))))) ∧ h' = h) := by
        rw [add1]
        exact ⟨_, _, kk, rfl, rfl⟩
      generalize itr c_D_find_l2 (fun _ _ _ _ => none) fu = rr at *
      unfold c_D_find_l2 fkw
      refine q_alen2 e1 (by decide) ?_
      refine q_neg _ (ii_leF (by omega)) ?_
      refine q_ldQn e1 (by decide) (by omega) (e2 j (by omega)) ?_
      refine q_nn ?_
      refine q_hIe (p_is J' (by omega)) ?_
      by_cases c : isKw f t (k0 + j) = true
      · rw [c, if_pos rfl]
        refine q_neg _ bn1_ne ?_
        exact q_rI ⟨rfl, rfl⟩
      · rw [if_neg c]
        rw [Bool.not_eq_true] at c
        rw [c]
        refine q_pos _ rfl ?_
        exact step
  unfold c_D_find
  rw [J'.grd (clm hc)]
  exact key m FU 0 (by unfold FU; omega) (by omega)
theorem p_isName (J : RJ b f n cls ρ most x8 x9 x10 t h) : c_D_isName h ρ = rI (ii (bn (nmOk f t))) h := by
  have J' := J
  obtain ⟨⟨v, mn, nm, e, tv⟩, _, S, _, tk, _, ⟨fs, a1, a2, a3, a4⟩, hc, hmo⟩ := J
  refine eqI ?_
  unfold c_D_isName nmOk
  refine q_grd e (clm hc) ?_
  refine q_gI e (clm hc) rfl ?_
  rw [il_1]
  have tb := tk.1
  by_cases c1 : t.k = 1
  · refine q_pos _ (by rw [c1]; rfl) ?_
    refine q_gQr e (clm hc) rfl ?_
    refine q_nn ?_
    refine q_gQr a1 (by decide) a3 ?_
    refine q_nn ?_
    refine q_hIe (p_find J' S.1 (by decide)) ?_
    rw [ii_neg]
    have b1 := fkw_le (f := f) (t := t) (k0 := 0) 3 0
    have b2 := fkw_le (f := f) (t := t) (k0 := 3) 20 0
    by_cases c2 : fkw f t 0 3 0 = -1
    · refine q_pos _ (by rw [c2]) ?_
      refine q_gQr e (clm hc) rfl ?_
      refine q_nn ?_
      refine q_gQr a1 (by decide) a4 ?_
      refine q_nn ?_
      refine q_hIe (p_find J' S.2.1 (by decide)) ?_
      by_cases c3 : fkw f t 3 20 0 = -1
      · refine q_pos _ (by rw [c3]) ?_
        rw [decide_eq_true ⟨c1, c2, c3⟩]
        exact q_rZ1 ⟨rfl, rfl⟩
      · refine q_neg _ (ii_eqF (by omega)) ?_
        rw [decide_eq_false (fun z => c3 z.2.2)]
        exact q_rZ0 ⟨rfl, rfl⟩
    · refine q_neg _ (ii_eqF (by omega)) ?_
      rw [decide_eq_false (fun z => c2 z.2.1)]
      exact q_rZ0 ⟨rfl, rfl⟩
  · refine q_neg _ (ii_eqF (by omega)) ?_
    rw [decide_eq_false (fun z => c1 z.1)]
    exact q_rZ0 ⟨rfl, rfl⟩
end
