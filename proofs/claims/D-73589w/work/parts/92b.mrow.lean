/-! PURE SIDE: the model: rows -/
set_option maxRecDepth 100000
section
variable {ms : MS} {r low : Nat} {ls : LL}
/-- sizes of a leaf split -/
theorem halv_szs {k j : Nat} {l : List Bool} (h : ls[k]? = some l) : szs (halv ls k) j = if j < k then szs ls j else if j = k then (l.length + 1) / 2 else if j = k + 1 then l.length / 2 else szs ls (j - 1) := by
  have hk := at_lt h
  have hlt : (ls.take k).length = k := by rw [List.length_take]; omega
  rw [halv_eq h]
  unfold szs
  rw [List.getD_eq_getElem?_getD, List.getD_eq_getElem?_getD, List.getD_eq_getElem?_getD]
  by_cases c1 : j < k
  · rw [if_pos c1, List.getElem?_append_left (by omega), List.getElem?_take_of_lt c1]
  · rw [if_neg c1, List.getElem?_append_right (by omega), hlt]
    by_cases c2 : j = k
    · rw [if_pos c2, c2, Nat.sub_self]
      show (l.take _).length = _
      rw [List.length_take]; omega
    · rw [if_neg c2]
      by_cases c3 : j = k + 1
      · rw [if_pos c3, c3, Nat.add_sub_cancel_left]
        show (l.drop _).length = _
        rw [List.length_drop]; omega
      · rw [if_neg c3]
        obtain ⟨y, hy⟩ : ∃ y, j - k = y + 2 := ⟨j - k - 2, by omega⟩
        rw [hy]
        show ((ls.drop (k + 1))[y]?.getD []).length = _
        rw [List.getElem?_drop]
        have : k + 1 + y = j - 1 := by omega
        rw [this]
theorem m_split_l24 {k n : Nat} {l : List Bool} (hr : r < 4) (h : ls[k]? = some l) (hN : ls.length ≤ 150) (hT : ls.flatten.length ≤ 601) (hl : l.length ≤ 2000) : ∀ (m fu j : Nat) (ms : MS), m < fu → j = k + 1 + m → j ≤ ls.length → ms.1 14 (2607 + r) = ii ls.flatten.length → ms.1 14 (2611 + r) = ii ls.length → (∀ i, i < ls.flatten.length → ms.1 14 (3420 + 600 * r + i) = ii (bn (gb ls.flatten i))) → (∀ x, x < 151 → ms.1 14 (2816 + 151 * r + x) = ii (if x ≤ j then szs ls x else szs ls (x - 1))) → DV (itr (d_M_splitLeaf_l24) (fun _ _ _ _ _ => none) fu ms (ii r) (ii k) (ii l.length) (ii j)) (fun m' => MR (m'.1 14) r (halv ls k) ∧ MF r ms m') := by
  have hk := at_lt h
  intro m
  induction m with
  | zero =>
    intro fu j ms hf hj hj2 e1 e2 e3 e4
    obtain ⟨fu, rfl⟩ : ∃ x, fu = x + 1 := ⟨fu - 1, by omega⟩
    refine DV.of ?_
    rw [itr_succ]
    unfold d_M_splitLeaf_l24
    rw [il_1, ii_add]
    refine d_pos _ (ii_leT (by omega)) ?_
    refine d_bIe m_leafAt ?_
    refine d_nz (by decide) ?_
    rw [il_2, ii_add, ii_div (by omega), ii_div (by omega)]
    refine d_sA (N := 6062) rfl (n := 2816 + 151 * r + k) (by omega) ?_
    have x1 : ((k : Int) + 1) = ((k + 1 : Nat) : Int) := by omega
    rw [x1]
    refine d_bIe m_leafAt ?_
    refine d_nz (by decide) ?_
    refine d_sA (N := 6062) rfl (n := 2816 + 151 * r + (k + 1)) (by omega) ?_
    rw [show (2611 : Int32) = ii 2611 from ii_lit 2611, ii_add]
    refine d_eA (N := 6062) rfl (n := 2611 + r) (v := ii ls.length) (by omega) (by rw [ms_ne (by omega), ms_ne (by omega)]; exact e2) ?_
    rw [ii_add]
    refine d_sA (N := 6062) rfl (n := 2611 + r) (by omega) ?_
    refine d_dV ⟨rfl, ⟨?_, ?_, fun x hx => ?_, fun i hi => ?_⟩, ?_⟩
    · rw [ms_ne (by omega), ms_ne (by omega), ms_ne (by omega), halv_fl]; exact e1
    · rw [ms_eq, halv_len h]; congr 1
    · rw [halv_szs h, ms_ne (by omega)]
      by_cases c1 : x < k
      · rw [ms_ne (by omega), ms_ne (by omega), e4 x hx, if_pos (by omega), if_pos c1]
      · rw [if_neg c1]
        by_cases c2 : x = k
        · rw [if_pos c2, c2, ms_ne (by omega), ms_eq]; congr 1
        · rw [if_neg c2]
          by_cases c3 : x = k + 1
          · rw [if_pos c3, c3, ms_eq]; congr 1
          · rw [if_neg c3, ms_ne (by omega), ms_ne (by omega), e4 x hx, if_neg (by omega)]
    · rw [halv_fl] at hi ⊢
      rw [ms_ne (by omega), ms_ne (by omega), ms_ne (by omega)]; exact e3 i hi
    · exact (MF.set (by unfold rIx; omega)).trans ((MF.set (by unfold rIx; omega)).trans (MF.set (by unfold rIx; omega)))
  | succ m ih =>
    intro fu j ms hf hj hj2 e1 e2 e3 e4
    obtain ⟨fu, rfl⟩ : ∃ x, fu = x + 1 := ⟨fu - 1, by omega⟩
    refine DV.of ?_
    rw [itr_succ]
    unfold d_M_splitLeaf_l24
    rw [il_1, ii_add]
    refine d_neg _ (ii_leF (by omega)) ?_
    refine d_bIe m_leafAt ?_
    rw [ii_sub, ii_neg, ii_add]
    have x1 : ((j : Int) - 1) = ((j - 1 : Nat) : Int) := by omega
    have x2 : ((j : Int) + -1) = ((j - 1 : Nat) : Int) := by omega
    rw [x1, x2]
    refine d_bIe m_leafAt ?_
    refine d_eA (N := 6062) rfl (by omega) (e4 (j - 1) (by omega)) ?_
    refine d_sA (N := 6062) rfl (n := 2816 + 151 * r + j) (by omega) ?_
    rw [if_pos (by omega)]
    refine DE.ofV (ih fu (j - 1) _ (by omega) (by omega) (by omega) (by rw [ms_ne (by omega)]; exact e1) (by rw [ms_ne (by omega)]; exact e2) (fun i hi => by rw [ms_ne (by omega)]; exact e3 i hi) (fun x hx => ?_)) fun m' ⟨q1, q2⟩ => ⟨rfl, q1, (MF.set (by unfold rIx; omega)).trans q2⟩
    by_cases c : x = j
    · rw [c, ms_eq, if_neg (by omega)]
    · rw [ms_ne (by omega), e4 x hx]
      by_cases c2 : x ≤ j - 1
      · rw [if_pos c2, if_pos (by omega)]
      · rw [if_neg c2, if_neg (by omega)]
theorem m_split {k : Nat} {l : List Bool} (hr : r < 4) (M : MR (ms.1 14) r ls) (h : ls[k]? = some l) (hN : ls.length ≤ 150) (hT : ls.flatten.length ≤ 601) (hl : l.length ≤ 2000) : DV (d_M_splitLeaf ms (ii r) (ii k)) (fun m' => MR (m'.1 14) r (halv ls k) ∧ MF r ms m') := by
  have hk := at_lt h
  refine DV.of ?_
  unfold d_M_splitLeaf
  refine d_bIe m_leafAt ?_
  refine d_eA (N := 6062) rfl (by omega) (M.2.2.1 k (by omega)) ?_
  rw [szs_at h, show (2611 : Int32) = ii 2611 from ii_lit 2611, ii_add]
  refine d_eA (N := 6062) rfl (n := 2611 + r) (by omega) M.2.1 ?_
  refine DE.ofV (m_split_l24 (n := 0) hr h hN hT hl (ls.length - 1 - k) FU ls.length ms (by unfold FU; omega) (by omega) (Nat.le_refl _) M.1 M.2.1 M.2.2.2 (fun x hx => ?_)) fun m' q => ⟨rfl, q⟩
  rw [M.2.2.1 x hx]
  by_cases c : x ≤ ls.length
  · rw [if_pos c]
  · rw [if_neg c, szs_out (by omega), szs_out (by omega)]
theorem set_szs {k j : Nat} {l l' : List Bool} (h : ls[k]? = some l) : szs (ls.set k l') j = if j = k then l'.length else szs ls j := by
  unfold szs
  rw [List.getD_eq_getElem?_getD, List.getD_eq_getElem?_getD, List.getElem?_set]
  by_cases c : k = j
  · subst c
    rw [if_pos rfl, if_pos (at_lt h), if_pos rfl]; rfl
  · rw [if_neg c, if_neg (fun q => c q.symm)]
theorem m_sizeOf (M : MR (ms.1 14) r ls) (hr : r < 4) : d_M_sizeOf ms (ii r) = dI (ii ls.flatten.length) ms := by
  refine dEqI ?_
  unfold d_M_sizeOf
  rw [show (2607 : Int32) = ii 2607 from ii_lit 2607, ii_add]
  refine d_eA (N := 6062) rfl (n := 2607 + r) (by omega) M.1 ?_
  exact d_dI ⟨rfl, rfl⟩
end
