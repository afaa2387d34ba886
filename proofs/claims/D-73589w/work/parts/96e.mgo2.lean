/-! PURE SIDE: the model goes to the next token: 2 -/
set_option maxRecDepth 100000
section
variable {ms : MS} {f : Nat → Nat} {n most : Nat} {Q : Option Value → MS → Prop}
theorem m_go_j198 {q : Nat} (B : MB ms f n most) (h5 : ms.1 5 0 = ii q) (h6 : ms.1 6 0 = ii q) (hq : q < n) (ha : alN (f q)) : DV (d_M_go_j198 ms (ii (f q))) (fun m' => MkV f (tkW f q (runE f n (n - q) q), q, runE f n (n - q) q) m' ∧ GP ms m') := by
  have hn := B.2.2.2.1
  have h8 := B.2.2.2.2.1 q
  refine DV.of ?_
  unfold d_M_go_j198
  refine d_bIe (m_isL (by omega)) ?_
  have el : decide ((97 : Int) ≤ (f q : Int) ∧ (f q : Int) ≤ 122) = decide (isLt (f q)) := by rw [decide_eq_decide]; omega
  rw [el]
  refine d_nm ?_
  refine d_nm ?_
  have G0 : GP ms (mset (msetL ms 12 0 0) 8 0 0) := GP.setL.trans (GP.set (by decide))
  have I0 : RmI f (decide (isLt (f q))) q q true (mset (msetL ms 12 0 0) 8 0 0) := by
    refine ⟨by rw [ms_nk (by decide)]; exact h5, by rw [ms_nk (by decide)]; exact h6, ?_, fun _ _ => ?_, fun _ _ => ?_⟩
    · unfold allS; rw [seg_0]; rfl
    · rw [seg_0]
      show (msetL ms 12 0 0).2 12 0 = _
      rw [msL_eq]; rfl
    · rw [seg_0]; exact ms_eq
  refine DE.ofV (rm_l215 (n - q) FU q true _ (B.gp G0) (by unfold FU; omega) rfl (Nat.le_refl _) (by omega) I0 (by rw [seg_0]; intro c hcc; cases hcc)) fun m' ⟨m0, is', I, G, em⟩ => ⟨rfl, ?_⟩
  have eW := tkW_eq (f := f) (q := q) (e := runE f n (n - q) q) rfl I.2.2.1
  rw [eW] at em
  subst em
  refine ⟨?_, G0.trans (G.trans (GP.set (by decide)))⟩
  generalize runE f n (n - q) q = E at *
  obtain ⟨i1, i2, i3, i4, i5⟩ := I
  have tw : ∀ j, tkW f q E = j → j ≠ 4 → is' = true ∧ E - q ≤ (if isLt (f q) then 7 else 3) ∧ j = (if isLt (f q) then 1 else 2) := by
    intro j hj h4
    unfold tkW at hj
    by_cases c : allS f (decide (isLt (f q))) q E = true ∧ E - q ≤ (if isLt (f q) then 7 else 3)
    · rw [if_pos c] at hj
      exact ⟨i3.trans c.1, c.2, hj.symm⟩
    · rw [if_neg c] at hj
      exact absurd hj.symm h4
  refine ⟨by rw [ms_nk (by decide)]; exact i1, by rw [ms_nk (by decide)]; exact i2, ms_eq, fun h1 => ?_, fun h1 => ?_, fun h1 => ?_⟩
  · obtain ⟨t1, t2, t3⟩ := tw 1 h1 (by decide)
    have cl : isLt (f q) := by
      by_cases c : isLt (f q)
      · exact c
      · rw [if_neg c] at t3; cases t3
    rw [if_pos cl] at t2
    have := i4 t1 (decide_eq_true cl)
    rw [List.take_of_length_le (by rw [seg_len]; omega)] at this
    exact this
  · obtain ⟨t1, t2, t3⟩ := tw 2 h1 (by decide)
    have cl : ¬ isLt (f q) := fun c => by rw [if_pos c] at t3; cases t3
    rw [if_neg cl] at t2
    have := i5 t1 (decide_eq_false cl)
    rw [List.take_of_length_le (by rw [seg_len]; omega)] at this
    rw [ms_nk (by decide)]
    exact this
  · obtain ⟨t1, t2, t3⟩ := tw 3 h1 (by decide)
    exfalso
    by_cases c : isLt (f q)
    · rw [if_pos c] at t3; cases t3
    · rw [if_neg c] at t3; cases t3
theorem mkv_no {t : Tk} {k : Nat} (h5 : ms.1 5 0 = ii t.p) (h6 : ms.1 6 0 = ii t.at_) (h : t.k = 0 ∨ t.k = 4) (e : k = mkd t.k) : MkV f t (mset ms 7 0 (ii k)) := ⟨by rw [ms_nk (by decide)]; exact h5, by rw [ms_nk (by decide)]; exact h6, by rw [ms_eq, e], fun z => by omega, fun z => by omega, fun z => by omega⟩
theorem m_go_j96 {q : Nat} (B : MB ms f n most) (h5 : ms.1 5 0 = ii q) (h6 : ms.1 6 0 = ii q) (hq : q ≤ n) (hm : ¬ (most < n ∧ most ≤ q)) : DV (d_M_go_j96 ms) (fun m' => MkV f (tkQ f n most q) m' ∧ GP ms m') := by
  have hn := B.2.2.2.1
  have h8 := B.2.2.2.2.1 q
  refine DV.of ?_
  unfold d_M_go_j96
  rw [h5]
  refine d_nm ?_
  rw [B.2.1]
  refine d_nm ?_
  by_cases c0 : q < n
  · refine d_pos _ (ii_ltT (by omega)) ?_
    refine d_nm ?_
    refine d_eA (N := 940) rfl (n := q) (by omega) (B.1 q (by omega)) ?_
    have j179 : ∀ {s0 k : Nat}, k = 3 ∨ k = 4 → s0 = mkd k → tkQ f n most q = (k, q, q + 1) → DE (d_M_go_j179 ms (ii (f q)) (ii s0)) (fun r m' => r = none ∧ MkV f (tkQ f n most q) m' ∧ GP ms m') := by
      intro s0 k hs es et
      rw [et]
      unfold d_M_go_j179
      refine d_nm ?_
      refine d_nm ?_
      rw [ms_nk (by decide), ms_nk (by decide), h5]
      refine d_nm ?_
      refine d_nm ?_
      rw [add1]
      refine d_dV ⟨rfl, ⟨ms_eq, ?_, ?_, fun z => ?_, fun z => ?_, fun _ => ?_⟩, ((GP.set (by decide)).trans (GP.set (by decide))).trans (GP.set (by decide))⟩
      · rw [ms_nk (by decide), ms_nk (by decide), ms_nk (by decide)]; exact h6
      · rw [ms_nk (by decide), ms_nk (by decide), ms_eq, es]
      · have z : k = 1 := z
        omega
      · have z : k = 2 := z
        omega
      · rw [ms_nk (by decide), ms_eq]
    have j198 : alN (f q) → DE (d_M_go_j198 ms (ii (f q))) (fun r m' => r = none ∧ MkV f (tkQ f n most q) m' ∧ GP ms m') := by
      intro ha
      have et : tkQ f n most q = (tkW f q (runE f n (n - q) q), q, runE f n (n - q) q) := by
        unfold tkQ
        rw [if_neg hm, if_neg (by omega), if_pos ha]
      rw [et]
      exact DE.ofV (m_go_j198 B h5 h6 c0 ha) fun m' k => ⟨rfl, k⟩
    refine d_bIe (m_isL (by omega)) ?_
    by_cases c1 : isLt (f q)
    · rw [decide_eq_true (show (97 : Int) ≤ (f q : Int) ∧ (f q : Int) ≤ 122 by omega)]
      refine d_neg _ bn1_ne ?_
      exact j198 (Or.inl c1)
    rw [decide_eq_false (show ¬ ((97 : Int) ≤ (f q : Int) ∧ (f q : Int) ≤ 122) by omega)]
    refine d_pos _ rfl ?_
    refine d_bIe (m_isD (by omega)) ?_
    by_cases c2 : isDg (f q)
    · rw [decide_eq_true (show (48 : Int) ≤ (f q : Int) ∧ (f q : Int) ≤ 57 by omega)]
      refine d_neg _ bn1_ne ?_
      exact j198 (Or.inr c2)
    rw [decide_eq_false (show ¬ ((48 : Int) ≤ (f q : Int) ∧ (f q : Int) ≤ 57) by omega)]
    refine d_pos _ rfl ?_
    have na : ¬ alN (f q) := fun z => z.elim c1 c2
    have e3 : (f q = 59 ∨ f q = 40 ∨ f q = 41 ∨ (60 ≤ f q ∧ f q ≤ 62)) → tkQ f n most q = (3, q, q + 1) := fun s => by
      unfold tkQ
      rw [if_neg hm, if_neg (by omega), if_neg na, if_pos s]
    have j174 : (f q = 59 ∨ f q = 40 ∨ f q = 41 ∨ (60 ≤ f q ∧ f q ≤ 62)) → DE (d_M_go_j174 ms (ii (f q))) (fun r m' => r = none ∧ MkV f (tkQ f n most q) m' ∧ GP ms m') := fun s => j179 (k := 3) (s0 := 4) (Or.inl rfl) rfl (e3 s)
    rw [il_59, il_60, il_61, il_62, il_40, il_41]
    by_cases d1 : f q = 59
    · refine d_pos _ (by rw [d1]; rfl) ?_
      exact j174 (by omega)
    refine d_neg _ (ii_eqF (by omega)) ?_
    by_cases d2 : f q = 60
    · refine d_pos _ (by rw [d2]; rfl) ?_
      exact j174 (by omega)
    refine d_neg _ (ii_eqF (by omega)) ?_
    by_cases d3 : f q = 61
    · refine d_pos _ (by rw [d3]; rfl) ?_
      exact j174 (by omega)
    refine d_neg _ (ii_eqF (by omega)) ?_
    by_cases d4 : f q = 62
    · refine d_pos _ (by rw [d4]; rfl) ?_
      exact j174 (by omega)
    refine d_neg _ (ii_eqF (by omega)) ?_
    by_cases d5 : f q = 40
    · refine d_pos _ (by rw [d5]; rfl) ?_
      exact j174 (by omega)
    refine d_neg _ (ii_eqF (by omega)) ?_
    by_cases d6 : f q = 41
    · refine d_pos _ (by rw [d6]; rfl) ?_
      exact j174 (by omega)
    refine d_neg _ (ii_eqF (by omega)) ?_
    refine j179 (k := 4) (s0 := 1) (Or.inr rfl) rfl ?_
    unfold tkQ
    rw [if_neg hm, if_neg (by omega), if_neg na, if_neg (by omega)]
  · refine d_neg _ (ii_ltF (by omega)) ?_
    refine d_nm ?_
    have et : tkQ f n most q = (0, q, q) := by
      unfold tkQ
      rw [if_neg hm, if_pos (by omega)]
    rw [et]
    exact d_dV ⟨rfl, mkv_no (t := (0, q, q)) (k := 0) h5 h6 (Or.inl rfl) rfl, GP.set (by decide)⟩
theorem m_go_j52 {q : Nat} (B : MB ms f n most) (h5 : ms.1 5 0 = ii q) (hq : q ≤ n) : DV (d_M_go_j52 ms) (fun m' => MkV f (tkQ f n most q) m' ∧ GP ms m') := by
  have hn := B.2.2.2.1
  have hmo := B.2.2.2.2.2
  refine DV.of ?_
  unfold d_M_go_j52
  rw [h5]
  refine d_nm ?_
  refine d_nm ?_
  have G1 : GP ms (mset ms 6 0 (ii q)) := GP.set (by decide)
  have B1 := B.gp G1
  have g5 : (mset ms 6 0 (ii q)).1 5 0 = ii q := by rw [ms_nk (by decide)]; exact h5
  have g6 : (mset ms 6 0 (ii q)).1 6 0 = ii q := ms_eq
  rw [B1.2.1]
  refine d_nm ?_
  rw [B1.2.2.1]
  refine d_nm ?_
  by_cases c1 : n ≤ most
  · refine d_pos _ (ii_leT (by omega)) ?_
    exact DE.ofV (m_go_j96 B1 g5 g6 hq (by omega)) fun m' ⟨k1, k2⟩ => ⟨rfl, k1, G1.trans k2⟩
  refine d_neg _ (ii_leF (by omega)) ?_
  rw [g6]
  refine d_nm ?_
  refine d_nm ?_
  by_cases c2 : q < most
  · refine d_pos _ (ii_ltT (by omega)) ?_
    exact DE.ofV (m_go_j96 B1 g5 g6 hq (by omega)) fun m' ⟨k1, k2⟩ => ⟨rfl, k1, G1.trans k2⟩
  refine d_neg _ (ii_ltF (by omega)) ?_
  refine d_nm ?_
  refine d_nm ?_
  refine d_nm ?_
  have et : tkQ f n most q = (4, most, q) := by
    unfold tkQ
    rw [if_pos (by omega)]
  rw [et]
  exact d_dV ⟨rfl, mkv_no (t := (4, most, q)) (k := 1) (by rw [ms_nk (by decide)]; exact g5) ms_eq (Or.inr rfl) rfl, (G1.trans (GP.set (by decide))).trans (GP.set (by decide))⟩
theorem m_go_l0 : ∀ (m fu p : Nat) (ms : MS), MB ms f n most → ms.1 5 0 = ii p → m < fu → m = n - p → p ≤ n → DV (itr (d_M_go_l0) (fun _ => none) fu ms) (fun m' => MkV f (tkQ f n most (skp f n m p)) m' ∧ GP ms m') := by
  have fin : ∀ (p : Nat) (ms : MS) (r0 : MS → Option DR), MB ms f n most → ms.1 5 0 = ii p → p ≤ n → ¬ (p < n ∧ (f p = 32 ∨ f p = 10)) → DV (d_M_go_l0 r0 ms) (fun m' => MkV f (tkQ f n most p) m' ∧ GP ms m') := by
    intro p ms r0 B h5 hp hw
    have hn := B.2.2.2.1
    have h8 := B.2.2.2.2.1 p
    refine DV.of ?_
    unfold d_M_go_l0
    rw [h5]
    refine d_nm ?_
    rw [B.2.1]
    refine d_nm ?_
    by_cases c : n ≤ p
    · refine d_pos _ (ii_leT (by omega)) ?_
      exact DE.ofV (m_go_j52 B h5 hp) fun m' k => ⟨rfl, k⟩
    refine d_neg _ (ii_leF (by omega)) ?_
    refine d_nm ?_
    refine d_eA (N := 940) rfl (n := p) (by omega) (B.1 p (by omega)) ?_
    rw [il_32, il_10]
    refine d_neg _ (ii_eqF ⟨by omega, by omega, by omega, by omega, fun z => hw ⟨by omega, Or.inl (by omega)⟩⟩) ?_
    refine d_nm ?_
    refine d_eA (N := 940) rfl (n := p) (by omega) (B.1 p (by omega)) ?_
    refine d_neg _ (ii_eqF ⟨by omega, by omega, by omega, by omega, fun z => hw ⟨by omega, Or.inr (by omega)⟩⟩) ?_
    exact DE.ofV (m_go_j52 B h5 hp) fun m' k => ⟨rfl, k⟩
  intro m
  induction m with
  | zero =>
    intro fu p ms B h5 hf hm hp
    obtain ⟨fu, rfl⟩ : ∃ x, fu = x + 1 := ⟨fu - 1, by omega⟩
    rw [itr_succ]
    exact fin p ms _ B h5 hp (by omega)
  | succ m ih =>
    intro fu p ms B h5 hf hm hp
    obtain ⟨fu, rfl⟩ : ∃ x, fu = x + 1 := ⟨fu - 1, by omega⟩
    have hn := B.2.2.2.1
    have h8 := B.2.2.2.2.1 p
    rw [itr_succ]
    unfold skp
    by_cases c : p < n ∧ (f p = 32 ∨ f p = 10)
    · rw [if_pos c]
      refine DV.of ?_
      have j39 : DE (d_M_go_j39 (itr (d_M_go_l0) (fun _ => none) fu) ms) (fun r m' => r = none ∧ MkV f (tkQ f n most (skp f n m (p + 1))) m' ∧ GP ms m') := by
        unfold d_M_go_j39
        rw [h5]
        refine d_nm ?_
        refine d_nm ?_
        rw [add1]
        have G1 : GP ms (mset ms 5 0 (ii ((p : Int) + 1))) := GP.set (by decide)
        exact DE.ofV (ih fu (p + 1) _ (B.gp G1) ms_eq (by omega) (by omega) (by omega)) fun m' ⟨k1, k2⟩ => ⟨rfl, k1, G1.trans k2⟩
      unfold d_M_go_l0
      rw [h5]
      refine d_nm ?_
      rw [B.2.1]
      refine d_nm ?_
      refine d_neg _ (ii_leF (by omega)) ?_
      refine d_nm ?_
      refine d_eA (N := 940) rfl (n := p) (by omega) (B.1 p (by omega)) ?_
      rw [il_32, il_10]
      by_cases c3 : f p = 32
      · refine d_pos _ (by rw [c3]; rfl) ?_
        exact j39
      · refine d_neg _ (ii_eqF (by omega)) ?_
        refine d_nm ?_
        refine d_eA (N := 940) rfl (n := p) (by omega) (B.1 p (by omega)) ?_
        refine d_pos _ (by rw [c.2.resolve_left c3]; rfl) ?_
        exact j39
    · rw [if_neg c]
      exact fin p ms _ B h5 hp c
/-- the next token, by the model -/
theorem m_go {p : Nat} (B : MB ms f n most) (h5 : ms.1 5 0 = ii p) (hp : p ≤ n) : DV (d_M_go ms) (fun m' => MkV f (tok f n most p) m' ∧ GP ms m') := by
  have hn := B.2.2.2.1
  unfold d_M_go
  exact m_go_l0 (n - p) FU p ms B h5 (by unfold FU; omega) rfl hp
end
/-! words that are known -/
def kw (k : Nat) : List Nat := (strByt.getD k []).map fun c => c.toInt.toNat
theorem kw_len : ∀ k : Fin 23, (kw k.val).length = strLen.getD k.val 0 ∧ 2 ≤ (kw k.val).length ∧ (kw k.val).length ≤ 7 := by decide +kernel
theorem kw_ok : ∀ k : Fin 23, ∀ c, c ∈ kw k.val → 97 ≤ c ∧ c ≤ 122 := by decide +kernel
theorem kw_inj : ∀ j k : Fin 23, kw j.val = kw k.val → j = k := by decide +kernel
