/-! PURE SIDE: the model: a bit taken -/
set_option maxRecDepth 100000
section
variable {ms : MS} {r low : Nat} {ls : LL}
theorem joined_szs {k j : Nat} {a c : List Bool} (h : ls[k]? = some a) : szs (ls.take k ++ (a ++ c) :: ls.drop (k + 2)) j = if j < k then szs ls j else if j = k then a.length + c.length else szs ls (j + 1) := by
  have hk := at_lt h
  have hlt : (ls.take k).length = k := by rw [List.length_take]; omega
  unfold szs
  rw [List.getD_eq_getElem?_getD, List.getD_eq_getElem?_getD, List.getD_eq_getElem?_getD]
  by_cases c1 : j < k
  · rw [if_pos c1, List.getElem?_append_left (by omega), List.getElem?_take_of_lt c1]
  · rw [if_neg c1, List.getElem?_append_right (by omega), hlt]
    by_cases c2 : j = k
    · rw [if_pos c2, c2, Nat.sub_self]
      show (a ++ c).length = _
      rw [List.length_append]
    · rw [if_neg c2]
      obtain ⟨y, hy⟩ : ∃ y, j - k = y + 1 := ⟨j - k - 1, by omega⟩
      rw [hy]
      show ((ls.drop (k + 2))[y]?.getD []).length = _
      rw [List.getElem?_drop]
      have : k + 2 + y = j + 1 := by omega
      rw [this]
theorem m_join_l45 {k : Nat} {a c : List Bool} (hr : r < 4) (hlb : 4 ≤ low ∧ low ≤ 32) (h : ls[k]? = some a) (h2 : ls[k + 1]? = some c) (hN : ls.length ≤ 150) (hT : ls.flatten.length ≤ 600) (hl : a.length + c.length ≤ 200) : ∀ (m fu j : Nat) (ms : MS), m < fu → j + m + 1 = ls.length → k + 1 ≤ j → ms.1 14 1 = ii low → ms.1 14 (2607 + r) = ii ls.flatten.length → ms.1 14 (2611 + r) = ii (ls.length - 1 : Nat) → (∀ i, i < ls.flatten.length → ms.1 14 (3420 + 600 * r + i) = ii (bn (gb ls.flatten i))) → (∀ x, x < 151 → ms.1 14 (2816 + 151 * r + x) = ii (if x = k then a.length + c.length else if k < x ∧ x < j then szs ls (x + 1) else szs ls x : Nat)) → DV (itr (d_M_joinLeaves_l45) (fun _ _ _ _ => none) fu ms (ii r) (ii k) (ii j)) (fun m' => MR (m'.1 14) r (mrg low ls k) ∧ MF r ms m') := by
  have hk2 := at_lt h2
  have hfl : (ls.take k ++ (a ++ c) :: ls.drop (k + 2)).flatten = ls.flatten := by
    conv => rhs; rw [two_at h h2]
    rw [List.flatten_append, List.flatten_append, List.flatten_cons, List.flatten_cons, List.flatten_cons, List.append_assoc]
  have hlen : (ls.take k ++ (a ++ c) :: ls.drop (k + 2)).length = ls.length - 1 := by
    rw [List.length_append, List.length_cons, List.length_take, List.length_drop]; omega
  have hat : (ls.take k ++ (a ++ c) :: ls.drop (k + 2))[k]? = some (a ++ c) := by
    have hlt : (ls.take k).length = k := by rw [List.length_take]; omega
    rw [List.getElem?_append_right (by omega), hlt, Nat.sub_self]; rfl
  intro m
  induction m with
  | zero =>
    intro fu j ms hf hj hkj e0 e1 e2 e3 e4
    obtain ⟨fu, rfl⟩ : ∃ x, fu = x + 1 := ⟨fu - 1, by omega⟩
    refine DV.of ?_
    rw [itr_succ]
    unfold d_M_joinLeaves_l45
    rw [show (2611 : Int32) = ii 2611 from ii_lit 2611, ii_add]
    refine d_eA (N := 6062) rfl (n := 2611 + r) (by omega) e2 ?_
    refine d_pos _ (ii_leT (by omega)) ?_
    refine d_eA (N := 6062) rfl (n := 2611 + r) (by omega) e2 ?_
    refine d_bIe m_leafAt ?_
    rw [il_0]
    refine d_sA (N := 6062) rfl (n := 2816 + 151 * r + (ls.length - 1)) (by omega) ?_
    have M : MR ((mset ms 14 (2816 + 151 * r + (ls.length - 1)) (ii 0)).1 14) r (ls.take k ++ (a ++ c) :: ls.drop (k + 2)) := by
      refine ⟨?_, ?_, fun x hx => ?_, fun i hi => ?_⟩
      · rw [ms_ne (by omega), hfl]; exact e1
      · rw [ms_ne (by omega), hlen]; exact e2
      · rw [joined_szs h]
        by_cases c1 : x = ls.length - 1
        · rw [c1, ms_eq, if_neg (by omega), if_neg (by omega), szs_out (by omega)]; rfl
        · rw [ms_ne (by omega), e4 x hx]
          by_cases c2 : x = k
          · rw [if_pos c2, if_neg (by omega), if_pos c2]
          · rw [if_neg c2]
            by_cases c3 : k < x ∧ x < j
            · rw [if_pos c3, if_neg (by omega), if_neg c2]
            · rw [if_neg c3]
              by_cases c4 : x < k
              · rw [if_pos c4]
              · rw [if_neg c4, if_neg c2, szs_out (by omega), szs_out (by omega)]
      · rw [hfl] at hi ⊢
        rw [ms_ne (by omega)]; exact e3 i hi
    have F : MF r ms (mset ms 14 (2816 + 151 * r + (ls.length - 1)) (ii 0)) := MF.set (by unfold rIx; omega)
    have lw : (mset ms 14 (2816 + 151 * r + (ls.length - 1)) (ii 0)).1 14 1 = ii low := by rw [ms_ne (by omega)]; exact e0
    generalize mset ms 14 (2816 + 151 * r + (ls.length - 1)) (ii 0) = m2 at *
    refine d_bIe m_leafAt ?_
    refine d_eA (N := 6062) rfl (n := 2816 + 151 * r + k) (by omega) (M.2.2.1 k (by omega)) ?_
    rw [il_1]
    refine d_eA (N := 6062) rfl (n := 1) (by omega) lw ?_
    rw [szs_at hat, il_2, ii_mul, List.length_append]
    rw [mrg_eq h h2]
    by_cases cc : 2 * low < a.length + c.length
    · refine d_neg _ (ii_leF (by omega)) ?_
      rw [if_pos cc]
      refine d_bV (m_split hr M hat (by omega) (by rw [hfl]; omega) (by rw [List.length_append]; omega)) fun m3 ⟨q1, q2⟩ => ?_
      refine d_dV ⟨rfl, ?_, F.trans q2⟩
      rw [halv_eq hat, List.length_append] at q1
      have hlt : (ls.take k).length = k := by rw [List.length_take]; omega
      have t1 : (ls.take k ++ (a ++ c) :: ls.drop (k + 2)).take k = ls.take k := by rw [List.take_append_of_le_length (by omega), List.take_of_length_le (by omega)]
      have t2 : (ls.take k ++ (a ++ c) :: ls.drop (k + 2)).drop (k + 1) = ls.drop (k + 2) := by
        rw [List.drop_append, List.drop_of_length_le (by omega), hlt, Nat.add_sub_cancel_left]; rfl
      rw [t1, t2] at q1
      exact q1
    · refine d_pos _ (ii_leT (by omega)) ?_
      rw [if_neg cc]
      exact d_dV ⟨rfl, M, F⟩
  | succ m ih =>
    intro fu j ms hf hj hkj e0 e1 e2 e3 e4
    obtain ⟨fu, rfl⟩ : ∃ x, fu = x + 1 := ⟨fu - 1, by omega⟩
    refine DV.of ?_
    rw [itr_succ]
    unfold d_M_joinLeaves_l45
    rw [show (2611 : Int32) = ii 2611 from ii_lit 2611, ii_add]
    refine d_eA (N := 6062) rfl (n := 2611 + r) (by omega) e2 ?_
    refine d_neg _ (ii_leF (by omega)) ?_
    refine d_bIe m_leafAt ?_
    rw [il_1, ii_add]
    have x1 : ((j : Int) + 1) = ((j + 1 : Nat) : Int) := by omega
    rw [x1]
    refine d_bIe m_leafAt ?_
    refine d_eA (N := 6062) rfl (n := 2816 + 151 * r + (j + 1)) (by omega) (e4 (j + 1) (by omega)) ?_
    rw [if_neg (by omega), if_neg (by omega)]
    refine d_sA (N := 6062) rfl (n := 2816 + 151 * r + j) (by omega) ?_
    refine DE.ofV (ih fu (j + 1) _ (by omega) (by omega) (by omega) (by rw [ms_ne (by omega)]; exact e0) (by rw [ms_ne (by omega)]; exact e1) (by rw [ms_ne (by omega)]; exact e2) (fun i hi => by rw [ms_ne (by omega)]; exact e3 i hi) (fun x hx => ?_)) fun m' ⟨q1, q2⟩ => ⟨rfl, q1, (MF.set (by unfold rIx; omega)).trans q2⟩
    by_cases cc : x = j
    · rw [cc, ms_eq, if_neg (by omega), if_pos (by omega)]
    · rw [ms_ne (by omega), e4 x hx]
      by_cases c2 : x = k
      · rw [if_pos c2, if_pos c2]
      · rw [if_neg c2, if_neg c2]
        by_cases c3 : k < x ∧ x < j
        · rw [if_pos c3, if_pos (by omega)]
        · rw [if_neg c3, if_neg (by omega)]
theorem m_join {k : Nat} {a c : List Bool} (hr : r < 4) (M : MR (ms.1 14) r ls) (hlow : ms.1 14 1 = ii low) (hlb : 4 ≤ low ∧ low ≤ 32) (h : ls[k]? = some a) (h2 : ls[k + 1]? = some c) (hN : ls.length ≤ 150) (hT : ls.flatten.length ≤ 600) (hl : a.length + c.length ≤ 200) : DV (d_M_joinLeaves ms (ii r) (ii k)) (fun m' => MR (m'.1 14) r (mrg low ls k) ∧ MF r ms m') := by
  have hk2 := at_lt h2
  refine DV.of ?_
  unfold d_M_joinLeaves
  refine d_bIe m_leafAt ?_
  refine d_eA (N := 6062) rfl (n := 2816 + 151 * r + k) (by omega) (M.2.2.1 k (by omega)) ?_
  rw [il_1, ii_add]
  have x1 : ((k : Int) + 1) = ((k + 1 : Nat) : Int) := by omega
  rw [x1]
  refine d_bIe m_leafAt ?_
  refine d_eA (N := 6062) rfl (n := 2816 + 151 * r + (k + 1)) (by omega) (M.2.2.1 (k + 1) (by omega)) ?_
  rw [szs_at h, szs_at h2, ii_add]
  refine d_sA (N := 6062) rfl (n := 2816 + 151 * r + k) (by omega) ?_
  rw [show (2611 : Int32) = ii 2611 from ii_lit 2611, ii_add]
  refine d_eA (N := 6062) rfl (n := 2611 + r) (v := ii ls.length) (by omega) (by rw [ms_ne (by omega)]; exact M.2.1) ?_
  rw [ii_sub]
  refine d_sA (N := 6062) rfl (n := 2611 + r) (by omega) ?_
  refine d_nm ?_
  refine DE.ofV (m_join_l45 hr hlb h h2 hN hT hl (ls.length - k - 2) FU (k + 1) _ (by unfold FU; omega) (by omega) (Nat.le_refl _) (by rw [ms_ne (by omega), ms_ne (by omega)]; exact hlow) (by rw [ms_ne (by omega), ms_ne (by omega)]; exact M.1) (by rw [ms_eq]; congr 1; omega) (fun i hi => by rw [ms_ne (by omega), ms_ne (by omega)]; exact M.2.2.2 i hi) (fun x hx => ?_)) fun m' ⟨q1, q2⟩ => ⟨rfl, q1, ((MF.set (by unfold rIx; omega)).trans (MF.set (by unfold rIx; omega))).trans q2⟩
  rw [ms_ne (by omega)]
  by_cases c1 : x = k
  · rw [c1, ms_eq, if_pos rfl]; congr 1
  · rw [ms_ne (by omega), M.2.2.1 x hx, if_neg c1, if_neg (by omega)]
theorem gb_rem {l : List Bool} {i x : Nat} (hi : i < l.length) : gb (remB i l) x = if x < i then gb l x else gb l (x + 1) := by
  unfold gb
  rw [List.getD_eq_getElem?_getD, remB_at hi]
  by_cases c : x < i
  · rw [if_pos c, if_pos c, List.getD_eq_getElem?_getD]
  · rw [if_neg c, if_neg c, List.getD_eq_getElem?_getD]
theorem m_take_l35 {i : Nat} {l : List Bool} (hr : r < 4) (hlb : LsB low ls) (hi : i < ls.flatten.length) : ∀ (m fu j : Nat) (ms : MS), m < fu → j + m + 1 = ls.flatten.length → i ≤ j → ms.1 14 1 = ii low → ms.1 14 (2607 + r) = ii (ls.flatten.length - 1 : Nat) → ms.1 14 (2611 + r) = ii ls.length → (∀ k, k < 151 → ms.1 14 (2816 + 151 * r + k) = ii (szs ls k)) → (∀ x, x < ls.flatten.length → ms.1 14 (3420 + 600 * r + x) = ii (bn (gb ls.flatten (if i ≤ x ∧ x < j then x + 1 else x)))) → DV (itr (d_M_takeBit_l35) (fun _ _ _ _ _ => none) fu ms (ii r) (ii (3420 + 600 * r : Nat)) (ii (loc ls i).1) (ii j)) (fun m' => MR (m'.1 14) r (remL low i ls) ∧ MF r ms m') := by
  have hp : ∀ l, l ∈ ls → 1 ≤ l.length := fun l hl => (hlb.leaf hl).1
  have hN := hlb.len
  have hT := hlb.2.1
  obtain ⟨l, k1, k2, k3, k4⟩ := loc_ok hi hp
  have kk := at_lt k1
  have hm := hlb.2.2 l (List.mem_of_getElem? k1)
  have lbd := hlb.1
  have hl1 := remB_len (i := (loc ls i).2) (l := l) k2
  have eR : remL low i ls = tkL low ls (loc ls i).1 (remB (loc ls i).2 l) := by unfold remL; rw [getD_at k1]
  have efl : (ls.set (loc ls i).1 (remB (loc ls i).2 l)).flatten = remB i ls.flatten := by
    have := remL_fl (low := low) hi hp
    rw [eR, tkL_fl k1 (by omega)] at this
    exact this
  have rl := remB_len hi
  generalize (loc ls i).1 = k at *
  generalize hl' : remB (loc ls i).2 l = l' at *
  intro m
  induction m with
  | zero =>
    intro fu j ms hf hj hij e0 e1 e2 e3 e4
    obtain ⟨fu, rfl⟩ : ∃ x, fu = x + 1 := ⟨fu - 1, by omega⟩
    have sz : ∀ m : MS, m.1 14 (2607 + r) = ii (ls.flatten.length - 1 : Nat) → d_M_sizeOf m (ii r) = dI (ii (ls.flatten.length - 1 : Nat)) m := fun m e => by
      refine dEqI ?_
      unfold d_M_sizeOf
      rw [show (2607 : Int32) = ii 2607 from ii_lit 2607, ii_add]
      refine d_eA (N := 6062) rfl (n := 2607 + r) (by omega) e ?_
      exact d_dI ⟨rfl, rfl⟩
    refine DV.of ?_
    rw [itr_succ]
    unfold d_M_takeBit_l35
    refine d_bIe (sz ms e1) ?_
    refine d_pos _ (ii_leT (by omega)) ?_
    refine d_bIe (sz ms e1) ?_
    rw [ii_add, il_0]
    refine d_sA (N := 6062) rfl (n := 3420 + 600 * r + (ls.flatten.length - 1)) (by omega) ?_
    refine d_bIe m_leafAt ?_
    refine d_eA (N := 6062) rfl (n := 2816 + 151 * r + k) (v := ii l.length) (by omega) (by rw [ms_ne (by omega), e3 k (by omega), szs_at k1]) ?_
    rw [il_1, ii_sub]
    refine d_sA (N := 6062) rfl (n := 2816 + 151 * r + k) (by omega) ?_
    have x1 : ((l.length : Int) - 1) = (l'.length : Int) := by omega
    rw [x1]
    have M : MR ((mset (mset ms 14 (3420 + 600 * r + (ls.flatten.length - 1)) (ii 0)) 14 (2816 + 151 * r + k) (ii l'.length)).1 14) r (ls.set k l') := by
      refine ⟨?_, ?_, fun x hx => ?_, fun x hx => ?_⟩
      · rw [ms_ne (by omega), ms_ne (by omega), efl, e1]; congr 1; omega
      · rw [ms_ne (by omega), ms_ne (by omega), List.length_set]; exact e2
      · rw [set_szs k1]
        by_cases c : x = k
        · rw [c, ms_eq, if_pos rfl]
        · rw [ms_ne (by omega), ms_ne (by omega), if_neg c]; exact e3 x hx
      · rw [efl] at hx ⊢
        rw [ms_ne (by omega), ms_ne (by omega), e4 x (by omega), gb_rem hi]
        by_cases c : x < i
        · rw [if_neg (by omega), if_pos c]
        · rw [if_pos (by omega), if_neg c]
    have F : MF r ms (mset (mset ms 14 (3420 + 600 * r + (ls.flatten.length - 1)) (ii 0)) 14 (2816 + 151 * r + k) (ii l'.length)) := (MF.set (by unfold rIx; omega)).trans (MF.set (by unfold rIx; omega))
    have lw : (mset (mset ms 14 (3420 + 600 * r + (ls.flatten.length - 1)) (ii 0)) 14 (2816 + 151 * r + k) (ii l'.length)).1 14 1 = ii low := by rw [ms_ne (by omega), ms_ne (by omega)]; exact e0
    generalize mset (mset ms 14 (3420 + 600 * r + (ls.flatten.length - 1)) (ii 0)) 14 (2816 + 151 * r + k) (ii l'.length) = m2 at *
    have hsl : (ls.set k l').length = ls.length := List.length_set
    have sk := set_self_at (l' := l') k1
    rw [show (2611 : Int32) = ii 2611 from ii_lit 2611, ii_add]
    have M2 := M.2.1
    rw [hsl] at M2
    refine d_eA (N := 6062) rfl (n := 2611 + r) (by omega) M2 ?_
    have Mk := M.2.2.1 k (by omega)
    rw [szs_at sk] at Mk
    by_cases c1 : ls.length = 1
    · refine d_pos _ (ii_eqT (by omega)) ?_
      refine d_bIe m_leafAt ?_
      refine d_eA (N := 6062) rfl (n := 2816 + 151 * r + k) (by omega) Mk ?_
      have k0 : k = 0 := by omega
      by_cases c2 : l'.length = 0
      · refine d_pos _ (ii_eqT (by omega)) ?_
        refine d_sA (N := 6062) rfl (n := 2611 + r) (by omega) ?_
        have e5 : remL low i ls = [] := by rw [eR]; unfold tkL; rw [if_neg (by omega), if_neg (by omega), if_pos c2]
        rw [e5]
        have eT : ls.flatten.length - 1 = 0 := by
          have := congrArg List.length efl
          rw [set_at k1, List.flatten_append, List.flatten_cons] at this
          have t1 : ls.take k = [] := by rw [k0]; rfl
          have t2 : ls.drop (k + 1) = [] := List.length_eq_zero_iff.mp (by rw [List.length_drop]; omega)
          rw [t1, t2] at this
          simp at this
          omega
        refine d_dV ⟨rfl, ⟨?_, ?_, fun x hx => ?_, fun x hx => ?_⟩, F.trans (MF.set (by unfold rIx; omega))⟩
        · rw [ms_ne (by omega), M.1, efl]
          have : (remB i ls.flatten).length = 0 := by omega
          rw [this]; rfl
        · rw [ms_eq]; rfl
        · rw [ms_ne (by omega), M.2.2.1 x hx, set_szs k1]
          by_cases c3 : x = k
          · rw [if_pos c3, c2]; rfl
          · rw [if_neg c3, szs_out (by omega)]; rfl
        · exact absurd hx (Nat.not_lt_zero _)
      · refine d_neg _ (ii_eqF (by omega)) ?_
        have e5 : remL low i ls = ls.set k l' := by
          rw [eR]
          unfold tkL
          by_cases c3 : low ≤ l'.length
          · rw [if_pos c3]
          · rw [if_neg c3, if_neg (by omega), if_neg c2]
        rw [e5]
        exact d_dV ⟨rfl, M, F⟩
    · refine d_neg _ (ii_eqF (by omega)) ?_
      refine d_bIe m_leafAt ?_
      refine d_eA (N := 6062) rfl (n := 2816 + 151 * r + k) (by omega) Mk ?_
      refine d_eA (N := 6062) rfl (n := 1) (by omega) lw ?_
      by_cases c2 : low ≤ l'.length
      · refine d_pos _ (ii_leT (by omega)) ?_
        have e5 : remL low i ls = ls.set k l' := by rw [eR]; unfold tkL; rw [if_pos c2]
        rw [e5]
        exact d_dV ⟨rfl, M, F⟩
      · refine d_neg _ (ii_leF (by omega)) ?_
        refine d_eA (N := 6062) rfl (n := 2611 + r) (by omega) M2 ?_
        rw [ii_sub]
        have e5 : remL low i ls = mrg low (ls.set k l') (min k (ls.length - 2)) := by rw [eR]; unfold tkL; rw [if_neg c2, if_pos (by omega)]
        rw [e5]
        have all64 : ∀ (j : Nat) (x : List Bool), (ls.set k l')[j]? = some x → x.length ≤ 64 := fun j x e => by
          rcases List.mem_or_eq_of_mem_set (List.mem_of_getElem? e) with hx | hx
          · exact (hlb.leaf hx).2
          · rw [hx]; omega
        have g1 : (ls.set k l')[min k (ls.length - 2)]? = some ((ls.set k l')[min k (ls.length - 2)]'(by omega)) := List.getElem?_eq_getElem (by omega)
        have g2 : (ls.set k l')[min k (ls.length - 2) + 1]? = some ((ls.set k l')[min k (ls.length - 2) + 1]'(by omega)) := List.getElem?_eq_getElem (by omega)
        have b1 := all64 _ _ g1
        have b2 := all64 _ _ g2
        have J := m_join (low := low) hr M lw hlb.1 g1 g2 (by omega) (by rw [efl]; omega) (by omega)
        by_cases c3 : ls.length ≤ k + 1
        · refine d_pos _ (ii_leT (by omega)) ?_
          rw [ii_sub]
          have x2 : ((k : Int) - 1) = ((min k (ls.length - 2) : Nat) : Int) := by omega
          rw [x2]
          refine d_bV J fun m3 ⟨q1, q2⟩ => ?_
          exact d_dV ⟨rfl, q1, F.trans q2⟩
        · refine d_neg _ (ii_leF (by omega)) ?_
          have x2 : (k : Int) = ((min k (ls.length - 2) : Nat) : Int) := by omega
          rw [x2]
          refine d_bV J fun m3 ⟨q1, q2⟩ => ?_
          exact d_dV ⟨rfl, q1, F.trans q2⟩
  | succ m ih =>
    intro fu j ms hf hj hij e0 e1 e2 e3 e4
    obtain ⟨fu, rfl⟩ : ∃ x, fu = x + 1 := ⟨fu - 1, by omega⟩
    refine DV.of ?_
    rw [itr_succ]
    unfold d_M_takeBit_l35
    have sz : d_M_sizeOf ms (ii r) = dI (ii (ls.flatten.length - 1 : Nat)) ms := by
      refine dEqI ?_
      unfold d_M_sizeOf
      rw [show (2607 : Int32) = ii 2607 from ii_lit 2607, ii_add]
      refine d_eA (N := 6062) rfl (n := 2607 + r) (by omega) e1 ?_
      exact d_dI ⟨rfl, rfl⟩
    refine d_bIe sz ?_
    refine d_neg _ (ii_leF (by omega)) ?_
    rw [ii_add, il_1, ii_add, ii_add]
    refine d_eA (N := 6062) rfl (n := 3420 + 600 * r + (j + 1)) (by omega) (e4 (j + 1) (by omega)) ?_
    rw [if_neg (by omega)]
    refine d_sA (N := 6062) rfl (n := 3420 + 600 * r + j) (by omega) ?_
    refine DE.ofV (ih fu (j + 1) _ (by omega) (by omega) (by omega) (by rw [ms_ne (by omega)]; exact e0) (by rw [ms_ne (by omega)]; exact e1) (by rw [ms_ne (by omega)]; exact e2) (fun k hk => by rw [ms_ne (by omega)]; exact e3 k hk) (fun x hx => ?_)) fun m' ⟨a1, a2⟩ => ⟨rfl, a1, (MF.set (by unfold rIx; omega)).trans a2⟩
    by_cases c : x = j
    · rw [c, ms_eq, if_pos (by omega)]
    · rw [ms_ne (by omega), e4 x hx]
      by_cases c2 : i ≤ x ∧ x < j
      · rw [if_pos c2, if_pos (by omega)]
      · rw [if_neg c2, if_neg (by omega)]
theorem m_takeBit {i : Nat} (hr : r < 4) (M : MR (ms.1 14) r ls) (hlow : ms.1 14 1 = ii low) (hlb : LsB low ls) (hi : i < ls.flatten.length) : DV (d_M_takeBit ms (ii r) (ii i)) (fun m' => MR (m'.1 14) r (remL low i ls) ∧ MF r ms m') := by
  have hT := hlb.2.1
  refine DV.of ?_
  unfold d_M_takeBit
  rw [show (3420 : Int32) = ii 3420 from ii_lit 3420, il_600, ii_mul, ii_add]
  refine d_nm ?_
  refine d_bIe (m_leafOf hr M.2.2.1 hlb hi) ?_
  rw [show (2607 : Int32) = ii 2607 from ii_lit 2607, ii_add]
  refine d_eA (N := 6062) rfl (n := 2607 + r) (by omega) M.1 ?_
  rw [il_1, ii_sub]
  refine d_sA (N := 6062) rfl (n := 2607 + r) (by omega) ?_
  have x1 : ((3420 : Int) + 600 * (r : Int)) = ((3420 + 600 * r : Nat) : Int) := by omega
  rw [x1]
  refine DE.ofV (m_take_l35 (l := []) hr hlb hi (ls.flatten.length - i - 1) FU i _ (by unfold FU; omega) (by omega) (Nat.le_refl _) (by rw [ms_ne (by omega)]; exact hlow) (by rw [ms_eq]; congr 1; omega) (by rw [ms_ne (by omega)]; exact M.2.1) (fun k hk => by rw [ms_ne (by omega)]; exact M.2.2.1 k hk) (fun x hx => ?_)) fun m' ⟨q1, q2⟩ => ⟨rfl, q1, (MF.set (by unfold rIx; omega)).trans q2⟩
  rw [ms_ne (by omega), if_neg (by omega)]
  exact M.2.2.2 x hx
end
