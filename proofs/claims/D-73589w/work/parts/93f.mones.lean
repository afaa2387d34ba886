/-! PURE SIDE: the model: ones and cost of a row -/
set_option maxRecDepth 100000
theorem cnt_take {l : List Bool} {k : Nat} (h : k < l.length) : (cnt (l.take (k + 1)) : Int) = cnt (l.take k) + bn (gb l k) := by
  rw [List.take_succ, List.getElem?_eq_getElem h, cnt_app, gb_at h]
  have := cnt_cons l[k] []
  rw [cnt_nil] at this
  simp only [Option.toList_some]
  omega
section
variable {ms : MS} {r : Nat} {ls : LL}
theorem m_ones_l6 {j : Nat} (M : MR (ms.1 14) r ls) (hr : r < 4) (hT : ls.flatten.length ≤ 600) (hj : j ≤ ls.flatten.length) : ∀ (m fu k : Nat) (s : Int), m < fu → k + m = j → itr (d_M_onesIn_l6) (fun _ _ _ _ _ => none) fu ms (ii r) (ii j) (ii s) (ii k) = dI (ii (s + cnt (ls.flatten.take j) - cnt (ls.flatten.take k))) ms := by
  intro m
  induction m with
  | zero =>
    intro fu k s hf hk
    obtain ⟨fu, rfl⟩ : ∃ x, fu = x + 1 := ⟨fu - 1, by omega⟩
    refine dEqI ?_
    rw [itr_succ]
    unfold d_M_onesIn_l6
    refine d_pos _ (ii_leT (by omega)) ?_
    refine d_dI ⟨?_, rfl⟩
    rw [show k = j by omega, Int.add_sub_cancel]
  | succ m ih =>
    intro fu k s hf hk
    obtain ⟨fu, rfl⟩ : ∃ x, fu = x + 1 := ⟨fu - 1, by omega⟩
    have ih' := ih fu (k + 1) (s + bn (gb ls.flatten k)) (by omega) (by omega)
    have e := cnt_take (l := ls.flatten) (k := k) (by omega)
    rw [itr_succ]
    refine dEqI ?_
    unfold d_M_onesIn_l6
    refine d_neg _ (ii_leF (by omega)) ?_
    refine d_bIe (m_bitOf M hr hT (by omega)) ?_
    refine d_nm ?_
    rw [ii_add, il_1, ii_add]
    refine ⟨_, _, ih', ?_, rfl⟩
    congr 3
    omega
theorem m_onesIn {i j : Nat} (M : MR (ms.1 14) r ls) (hr : r < 4) (hT : ls.flatten.length ≤ 600) (hij : i ≤ j) (hj : j ≤ ls.flatten.length) : d_M_onesIn ms (ii r) (ii i) (ii j) = dI (ii ((cnt (ls.flatten.take j) : Int) - cnt (ls.flatten.take i))) ms := by
  unfold d_M_onesIn
  rw [il_0, m_ones_l6 M hr hT hj (j - i) FU i 0 (by unfold FU; omega) (by omega), Int.zero_add]
theorem m_onesOf (M : MR (ms.1 14) r ls) (hr : r < 4) (hT : ls.flatten.length ≤ 600) : d_M_onesOf ms (ii r) = dI (ii (cnt ls.flatten)) ms := by
  refine dEqI ?_
  unfold d_M_onesOf
  refine d_bIe (m_sizeOf M hr) ?_
  rw [il_0]
  have := m_onesIn (i := 0) (j := ls.flatten.length) M hr hT (by omega) (by omega)
  rw [List.take_zero, cnt_nil, List.take_length] at this
  refine d_bIe this ?_
  refine d_dI ⟨?_, rfl⟩
  exact congrArg (fun z => some (Value.int (ii z))) (by omega)
theorem m_inner {n : Nat} (hn : n ≤ 1000) : d_M_innerOf ms (ii n) = dI (ii (n - 1 : Nat)) ms := by
  refine dEqI ?_
  unfold d_M_innerOf
  rw [il_2, il_1, il_0]
  by_cases c : 2 ≤ n
  · refine d_pos _ (ii_leT (by omega)) ?_
    rw [ii_sub]
    refine d_dI ⟨?_, rfl⟩
    congr 3
    omega
  · refine d_neg _ (ii_leF (by omega)) ?_
    refine d_dI ⟨?_, rfl⟩
    congr 3
    omega
theorem m_cost_l18 (M : MR (ms.1 14) r ls) (hr : r < 4) (hN : ls.length ≤ 150) (hl : ∀ l, l ∈ ls → l.length ≤ 128) : ∀ (m fu k : Nat) (s : Int), m < fu → k + m = ls.length → itr (d_M_costOf_l18) (fun _ _ _ _ => none) fu ms (ii r) (ii s) (ii k) = dI (ii (s + ((((ls.drop k).map fun l => (l.length + 31) / 32 + 4).sum : Nat) : Int))) ms := by
  intro m
  induction m with
  | zero =>
    intro fu k s hf hk
    obtain ⟨fu, rfl⟩ : ∃ x, fu = x + 1 := ⟨fu - 1, by omega⟩
    refine dEqI ?_
    rw [itr_succ]
    unfold d_M_costOf_l18
    rw [show (2611 : Int32) = ii 2611 from ii_lit 2611, ii_add]
    refine d_eA (N := 6062) rfl (n := 2611 + r) (by omega) M.2.1 ?_
    refine d_pos _ (ii_leT (by omega)) ?_
    refine d_dI ⟨?_, rfl⟩
    rw [List.drop_of_length_le (by omega)]
    exact congrArg (fun z => some (Value.int (ii z))) (by simp)
  | succ m ih =>
    intro fu k s hf hk
    obtain ⟨fu, rfl⟩ : ∃ x, fu = x + 1 := ⟨fu - 1, by omega⟩
    have hk2 : k < ls.length := by omega
    have ih' := ih fu (k + 1) (s + ((ls[k].length + 31) / 32 + 4 : Nat)) (by omega) (by omega)
    have hb := hl ls[k] (List.getElem_mem hk2)
    refine dEqI ?_
    rw [itr_succ]
    unfold d_M_costOf_l18
    rw [show (2611 : Int32) = ii 2611 from ii_lit 2611, ii_add]
    refine d_eA (N := 6062) rfl (n := 2611 + r) (by omega) M.2.1 ?_
    refine d_neg _ (ii_leF (by omega)) ?_
    refine d_bIe m_leafAt ?_
    refine d_eA (N := 6062) rfl (n := 2816 + 151 * r + k) (by omega) (M.2.2.1 k (by omega)) ?_
    refine d_nz (by decide) ?_
    refine d_nm ?_
    rw [szs_at (List.getElem?_eq_getElem hk2), show (31 : Int32) = ii 31 from ii_lit 31, show (32 : Int32) = ii 32 from ii_lit 32, show (4 : Int32) = ii 4 from ii_lit 4, ii_add, ii_div (by omega), ii_add, ii_add, il_1, ii_add]
    have e1 : s + (((ls[k].length : Int) + 31) / 32 + 4) = s + ((ls[k].length + 31) / 32 + 4 : Nat) := by omega
    rw [e1]
    refine ⟨_, _, ih', ?_, rfl⟩
    rw [List.drop_eq_getElem_cons hk2, List.map_cons, List.sum_cons]
    exact congrArg (fun z => some (Value.int (ii z))) (by omega)
theorem m_costOf (M : MR (ms.1 14) r ls) (hr : r < 4) (hN : ls.length ≤ 150) (hl : ∀ l, l ∈ ls → l.length ≤ 128) : d_M_costOf ms (ii r) = dI (ii (cst ls)) ms := by
  refine dEqI ?_
  unfold d_M_costOf
  rw [show (2611 : Int32) = ii 2611 from ii_lit 2611, ii_add]
  refine d_eA (N := 6062) rfl (n := 2611 + r) (by omega) M.2.1 ?_
  refine d_bIe (m_inner (by omega)) ?_
  refine d_nm ?_
  rw [il_5, ii_mul, il_0]
  refine ⟨_, _, m_cost_l18 M hr hN hl ls.length FU 0 _ (by unfold FU; omega) (by omega), ?_, rfl⟩
  unfold cst
  rw [List.drop_zero]
  exact congrArg (fun z => some (Value.int (ii z))) (by omega)
end
