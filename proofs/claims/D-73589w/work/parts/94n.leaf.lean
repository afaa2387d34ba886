/-! PURE SIDE: the upper level: a leaf, a tree -/
set_option maxRecDepth 100000
def leafA (n : Nat) (A : Nat → LL) (x y w : Int) : Int := if (0 ≤ x ∧ x < n) ∧ 0 ≤ y ∧ y < ((A x.toNat).length : Int) then (if w = 0 then (((A x.toNat).getD y.toNat []).length : Int) else if w = 1 then (cnt ((A x.toNat).getD y.toNat []) : Int) else if w = 2 then (((A x.toNat).take y.toNat).flatten.length : Int) else -1) else -1
theorem getD_lt {ls : LL} {k : Nat} (h : k < ls.length) : ls[k]? = some (ls.getD k []) := by
  rw [List.getD_eq_getElem?_getD, List.getElem?_eq_getElem h]; rfl
theorem take_le {ls : LL} {k : Nat} : (ls.take k).flatten.length ≤ ls.flatten.length := by
  have e := congrArg (fun z : LL => z.flatten.length) (List.take_append_drop k ls)
  simp only [List.flatten_append, List.length_append] at e
  omega
theorem cnt_leaf {ls : LL} {k : Nat} {l : List Bool} (h : ls[k]? = some l) : cnt (ls.flatten.take ((ls.take k).flatten.length + l.length)) = cnt (ls.flatten.take (ls.take k).flatten.length) + cnt l := by
  have hk := at_lt h
  rw [List.getElem?_eq_getElem hk] at h
  injection h with h
  have e : ls.flatten = (ls.take k).flatten ++ (l ++ (ls.drop (k + 1)).flatten) := by
    rw [← h, ← List.flatten_cons, List.getElem_cons_drop, ← List.flatten_append, List.take_append_drop]
  have e1 : ls.flatten.take (ls.take k).flatten.length = (ls.take k).flatten := by
    rw [e, List.take_append_of_le_length (Nat.le_refl _), List.take_length]
  have e2 : ls.flatten.take ((ls.take k).flatten.length + l.length) = (ls.take k).flatten ++ l := by
    have e3 : ls.flatten = ((ls.take k).flatten ++ l) ++ (ls.drop (k + 1)).flatten := by rw [e, List.append_assoc]
    rw [e3, ← List.length_append, List.take_append_of_le_length (Nat.le_refl _), List.take_length]
  rw [e1, e2, cnt_app]
section
variable {q : QP} {h : PH} {r : Nat} {ms : MS} {n : Nat} {A : Nat → LL}
theorem g_all (Q : QB q r h) (hr : r < 4) : EQ (c_R_all h (q.R r)) (fun v h' => ∃ w row, v = some w ∧ h'.1 w = some (.inl (4, 152, .inr (.inr (.inr (.inr row))))) ∧ Loose h' row (q.A r) ∧ QB q r h') := by
  obtain ⟨T, hT, own, N, S, C, G, w, z1, z2⟩ := Q
  obtain ⟨v, h', e, w', row, f0, f1, fL, f2, f3, f4⟩ := p_all (S.2.1 r (by omega)) G.wf
  obtain ⟨l1, l2⟩ := SR.lift S G.wf (by omega) (fun _ _ => rfl) f2 f3
  rw [up_self, up_self, up_self] at l1
  exact ⟨v, h', e, w', row, f0, f1.1, fL, T, hT, own, N, l1, C.gf S l2, G.trans l2 w, w, by rw [f4]; exact z1, by rw [f4]; exact z2⟩
theorem b_leaf_l44 {y w : Nat} {wi : Int} {row : Nat → Option Nat} (Q : QI q h) (hr : r < 4) (ew : h.1 w = some (.inl (4, 152, .inr (.inr (.inr (.inr row)))))) (L : Loose h row (q.A r)) (hy : y < (q.A r).length) (hw : -2147483648 ≤ wi ∧ wi < 2147483648) : ∀ (m fu p : Nat), m < fu → p + m = y → Ends (itr (c_B_leaf_l44) (fun _ _ _ _ _ _ => none) fu h (ii y) (ii wi) (some w) (ii ((q.A r).take p).flatten.length) (ii p)) (AN q (if wi = 0 then (((q.A r).getD y []).length : Int) else if wi = 1 then (cnt ((q.A r).getD y []) : Int) else if wi = 2 then (((q.A r).take y).flatten.length : Int) else -1)) := by
  have hb := Q.bnd (k := r) (by omega)
  intro m
  induction m with
  | zero =>
    intro fu p hf hp
    obtain ⟨fu, rfl⟩ : ∃ x, fu = x + 1 := ⟨fu - 1, by omega⟩
    obtain rfl : p = y := by omega
    obtain ⟨a, ea, eL⟩ := L p _ (getD_lt hy)
    obtain ⟨t, el⟩ := eL.ln
    rw [itr_succ]
    unfold c_B_leaf_l44
    refine q_pos _ (ii_leT (by omega)) ?_
    by_cases c0 : wi = 0
    · refine q_pos _ (ii_eqT (b := 0) c0) ?_
      refine q_nn ?_
      refine q_ldQv ew (by decide) (by omega) ea ?_
      refine q_nn ?_
      refine q_gI el (by decide) rfl ?_
      rw [if_pos c0]
      exact q_an rfl Q
    · refine q_neg _ (ii_eqF (b := 0) (by omega)) ?_
      rw [if_neg c0]
      by_cases c1 : wi = 1
      · refine q_pos _ (ii_eqT (b := 1) c1) ?_
        refine q_nn ?_
        refine q_ldQv ew (by decide) (by omega) ea ?_
        refine q_nn ?_
        refine q_gI el (by decide) rfl ?_
        rw [if_pos c1]
        exact q_an rfl Q
      · refine q_neg _ (ii_eqF (b := 1) (by omega)) ?_
        rw [if_neg c1]
        by_cases c2 : wi = 2
        · refine q_pos _ (ii_eqT (b := 2) c2) ?_
          rw [if_pos c2]
          exact q_an rfl Q
        · refine q_neg _ (ii_eqF (b := 2) (by omega)) ?_
          rw [if_neg c2]
          exact q_an rfl Q
  | succ m ih =>
    intro fu p hf hp
    obtain ⟨fu, rfl⟩ : ∃ x, fu = x + 1 := ⟨fu - 1, by omega⟩
    have hp2 := getD_lt (ls := q.A r) (k := p) (by omega)
    obtain ⟨a, ea, eL⟩ := L p _ hp2
    obtain ⟨t, el⟩ := eL.ln
    rw [itr_succ]
    unfold c_B_leaf_l44
    refine q_neg _ (ii_leF (by omega)) ?_
    refine q_nn ?_
    refine q_ldQv ew (by decide) (by omega) ea ?_
    refine q_nn ?_
    refine q_gI el (by decide) rfl ?_
    refine q_nm ?_
    rw [ii_add, add1]
    have e := take_flat hp2
    have e2 : ((((q.A r).take p).flatten.length : Int) + ((q.A r).getD p []).length) = (((q.A r).take (p + 1)).flatten.length : Int) := by omega
    rw [e2]
    exact ih fu (p + 1) (by omega) (by omega)
theorem b_leaf {x y w : Int} (Q : QI q h) (hx : -2147483648 ≤ x ∧ x < 2147483648) (hy : -2147483648 ≤ y ∧ y < 2147483648) (hw : -2147483648 ≤ w ∧ w < 2147483648) : Ends (c_B_leaf h q.B (ii x) (ii y) (ii w)) (AN q (leafA q.n q.A x y w)) := by
  unfold c_B_leaf leafA
  refine q_grd0 Q ?_
  refine q_row Q hx (fun c => ?_) fun r e hr hr4 => ?_
  · rw [if_neg (fun z => c z.1)]; exact q_an rfl Q
  · subst e
    have hb := Q.bnd (k := r) (by omega)
    rw [Int.toNat_natCast]
    refine q_folds Q hr4 fun h1 Q1 => ?_
    refine q_in (a := 0) rfl sub1 (by omega) (fun c => ?_) fun c => ?_
    · rw [if_neg (fun z => c (by omega))]; exact q_an rfl Q1.i
    · obtain ⟨i, rfl⟩ : ∃ i : Nat, y = i := ⟨y.toNat, by omega⟩
      rw [if_pos (by omega), Int.toNat_natCast]
      refine q_rope (K := fun a h1 => hQ (c_R_all h1 a) noX fun v16 h15 => itr (c_B_leaf_l44) (fun _ _ _ _ _ _ => none) FU h15 (ii (i : Int)) (ii w) v16 (0 : Int32) (0 : Int32)) Q1.i hr4 fun h2 Q2 => ?_
      refine q_hQ (g_all Q2 hr4) fun v h3 ⟨wa, row, e1, e2, L, Q3⟩ => ?_
      rw [e1]
      exact b_leaf_l44 Q3.i hr4 e2 L (by omega) hw i FU 0 (by unfold FU; omega) (by omega)
theorem m_leaf_l41 {y : Nat} {wi : Int} (M : QM ms n A) (hr : r < 4) (hy : y < (A r).length) (hw : -2147483648 ≤ wi ∧ wi < 2147483648) : ∀ (m fu p : Nat), m < fu → p + m = y → DE (itr (d_M_leaf_l41) (fun _ _ _ _ _ _ => none) fu ms (ii r) (ii y) (ii wi) (ii ((A r).take p).flatten.length) (ii p)) (DA ms (if wi = 0 then (((A r).getD y []).length : Int) else if wi = 1 then (cnt ((A r).getD y []) : Int) else if wi = 2 then (((A r).take y).flatten.length : Int) else -1)) := by
  obtain ⟨M1, hb, hb2, hb3⟩ := M.2.2 r hr
  intro m
  induction m with
  | zero =>
    intro fu p hf hp
    obtain ⟨fu, rfl⟩ : ∃ x, fu = x + 1 := ⟨fu - 1, by omega⟩
    obtain rfl : p = y := by omega
    have g := getD_lt hy
    have sz := szs_at g
    have tf := take_flat g
    have tl := take_le (ls := A r) (k := p + 1)
    rw [itr_succ]
    unfold d_M_leaf_l41
    refine d_pos _ (ii_leT (by omega)) ?_
    refine d_bIe m_leafAt ?_
    refine d_eA (N := 6062) rfl (by omega) (M1.2.2.1 p (by omega)) ?_
    rw [sz]
    by_cases c0 : wi = 0
    · refine d_pos _ (ii_eqT (b := 0) c0) ?_
      rw [if_pos c0]
      exact d_an rfl
    · refine d_neg _ (ii_eqF (b := 0) (by omega)) ?_
      rw [if_neg c0]
      by_cases c1 : wi = 1
      · refine d_pos _ (ii_eqT (b := 1) c1) ?_
        rw [if_pos c1, ii_add]
        have mo := m_onesIn (i := ((A r).take p).flatten.length) (j := ((A r).take p).flatten.length + ((A r).getD p []).length) M1 hr hb (by omega) (by omega)
        rw [show ((((A r).take p).flatten.length + ((A r).getD p []).length : Nat) : Int) = (((A r).take p).flatten.length : Int) + ((A r).getD p []).length by omega] at mo
        refine d_bIe mo ?_
        refine d_an ?_
        have := cnt_leaf g
        congr 1
        omega
      · refine d_neg _ (ii_eqF (b := 1) (by omega)) ?_
        rw [if_neg c1]
        by_cases c2 : wi = 2
        · refine d_pos _ (ii_eqT (b := 2) c2) ?_
          rw [if_pos c2]
          exact d_an rfl
        · refine d_neg _ (ii_eqF (b := 2) (by omega)) ?_
          rw [if_neg c2]
          exact d_an rfl
  | succ m ih =>
    intro fu p hf hp
    obtain ⟨fu, rfl⟩ : ∃ x, fu = x + 1 := ⟨fu - 1, by omega⟩
    rw [itr_succ]
    unfold d_M_leaf_l41
    refine d_neg _ (ii_leF (by omega)) ?_
    refine d_bIe m_leafAt ?_
    refine d_eA (N := 6062) rfl (by omega) (M1.2.2.1 p (by omega)) ?_
    refine d_nm ?_
    rw [ii_add, add1]
    have e2 : ((((A r).take p).flatten.length : Int) + (szs (A r) p : Nat)) = (((A r).take (p + 1)).flatten.length : Int) := by rw [take_szs (k := p)]; omega
    rw [e2]
    exact ih fu (p + 1) (by omega) (by omega)
theorem m_leaf {x y w : Int} (M : QM ms n A) (hx : -2147483648 ≤ x ∧ x < 2147483648) (hy : -2147483648 ≤ y ∧ y < 2147483648) (hw : -2147483648 ≤ w ∧ w < 2147483648) : d_M_leaf ms (ii x) (ii y) (ii w) = dI (ii (leafA n A x y w)) (mset ms 0 0 0) := by
  refine dEqI ?_
  unfold d_M_leaf leafA
  refine d_nm ?_
  have M' := M.thr (k := 0) (v := 0)
  refine d_row M' hx (fun c => ?_) fun r e hr hr4 => ?_
  · rw [if_neg (fun z => c z.1)]; exact d_an rfl
  · subst e
    obtain ⟨M1, hb, hb2, hb3⟩ := M'.2.2 r hr4
    rw [Int.toNat_natCast, il_2611, ii_add]
    refine d_eA (N := 6062) rfl (n := 2611 + r) (by omega) M1.2.1 ?_
    refine d_in (a := 0) rfl sub1 (by omega) (fun c => ?_) fun c => ?_
    · rw [if_neg (fun z => c (by omega))]; exact d_an rfl
    · obtain ⟨i, rfl⟩ : ∃ i : Nat, y = i := ⟨y.toNat, by omega⟩
      rw [if_pos (by omega), Int.toNat_natCast]
      exact m_leaf_l41 M' hr4 (by omega) hw i FU 0 (by unfold FU; omega) (by omega)
theorem b_tree {x y : Int} (Q : QI q h) (hx : -2147483648 ≤ x ∧ x < 2147483648) (hy : -2147483648 ≤ y ∧ y < 2147483648) : Ends (c_B_tree h q.B (ii x) (ii y)) (AN q (treeA q.n q.A x y)) := by
  unfold c_B_tree treeA
  refine q_grd0 Q ?_
  refine q_row Q hx (fun c => ?_) fun r e hr hr4 => ?_
  · rw [if_neg c]; exact q_an rfl Q
  · subst e
    have hb := Q.bnd (k := r) (by omega)
    rw [if_pos (show 0 ≤ (r : Int) ∧ (r : Int) < q.n by omega), Int.toNat_natCast]
    refine q_hQ (g_rope Q hr4) fun v h1 ⟨e1, Q1⟩ => ?_
    rw [e1]
    obtain ⟨_, _, P⟩ := Q1.rp hr4
    obtain ⟨root, ⟨fs, p1, p2, p3⟩, p4⟩ := p_height P
    by_cases c0 : y = 0
    · refine q_pos _ (ii_eqT (b := 0) c0) ?_
      rw [if_pos c0]
      refine q_nn ?_
      refine q_gQ p1 (by decide) p2 ?_
      rw [grd_eq p1 (by decide)]
      exact q_hIe p4 (q_an rfl Q1.i)
    · refine q_neg _ (ii_eqF (b := 0) (by omega)) ?_
      rw [if_neg c0]
      by_cases c1 : y = 1
      · refine q_pos _ (ii_eqT (b := 1) c1) ?_
        rw [if_pos c1]
        refine q_nn ?_
        refine q_hIe (p_folds P) ?_
        refine q_an ?_ Q1.i
        rw [sub1, il_0]
        by_cases c2 : 1 < (q.A r).length
        · rw [if_pos (ii_ltT (a := 0) (b := ((q.A r).length : Int) - 1) (by omega))]; congr 1; omega
        · rw [if_neg (ii_ltF (a := 0) (b := ((q.A r).length : Int) - 1) (by omega))]
          have : (q.A r).length - 1 = 0 := by omega
          rw [this]; rfl
      · refine q_neg _ (ii_eqF (b := 1) (by omega)) ?_
        rw [if_neg c1]
        by_cases c2 : y = 2
        · refine q_pos _ (ii_eqT (b := 2) c2) ?_
          rw [if_pos c2]
          refine q_nn ?_
          refine q_gI p1 (by decide) p3 ?_
          exact q_an rfl Q1.i
        · refine q_neg _ (ii_eqF (b := 2) (by omega)) ?_
          rw [if_neg c2]
          by_cases c3 : y = 3
          · refine q_pos _ (ii_eqT (b := 3) c3) ?_
            rw [if_pos c3]
            refine q_nn ?_
            exact q_hIe (p_cost P) (q_an rfl Q1.i)
          · refine q_neg _ (ii_eqF (b := 3) (by omega)) ?_
            rw [if_neg c3]
            exact q_an rfl Q1.i
theorem m_tree {x y : Int} (M : QM ms n A) (hx : -2147483648 ≤ x ∧ x < 2147483648) (hy : -2147483648 ≤ y ∧ y < 2147483648) : d_M_tree ms (ii x) (ii y) = dI (ii (treeA n A x y)) (mset ms 0 0 0) := by
  refine dEqI ?_
  unfold d_M_tree treeA
  refine d_nm ?_
  have M' := M.thr (k := 0) (v := 0)
  refine d_row M' hx (fun c => ?_) fun r e hr hr4 => ?_
  · rw [if_neg c]; exact d_an rfl
  · subst e
    obtain ⟨M1, hb, hb2, hb3⟩ := M'.2.2 r hr4
    rw [if_pos (show 0 ≤ (r : Int) ∧ (r : Int) < n by omega), Int.toNat_natCast, il_2611, ii_add]
    refine d_eA (N := 6062) rfl (n := 2611 + r) (by omega) M1.2.1 ?_
    have p11 : (2 : Nat) ^ 11 = 2048 := by decide
    by_cases c0 : y = 0
    · refine d_pos _ (ii_eqT (b := 0) c0) ?_
      rw [if_pos c0]
      exact d_bIe (m_highOf 11 _ (by omega) (by omega)) (d_an rfl)
    · refine d_neg _ (ii_eqF (b := 0) (by omega)) ?_
      rw [if_neg c0]
      by_cases c1 : y = 1
      · refine d_pos _ (ii_eqT (b := 1) c1) ?_
        rw [if_pos c1]
        exact d_bIe (m_inner (by omega)) (d_an rfl)
      · refine d_neg _ (ii_eqF (b := 1) (by omega)) ?_
        rw [if_neg c1]
        by_cases c2 : y = 2
        · refine d_pos _ (ii_eqT (b := 2) c2) ?_
          rw [if_pos c2]
          exact d_bIe (m_mixedOf 11 _ (by omega) (by omega)) (d_an rfl)
        · refine d_neg _ (ii_eqF (b := 2) (by omega)) ?_
          rw [if_neg c2]
          by_cases c3 : y = 3
          · refine d_pos _ (ii_eqT (b := 3) c3) ?_
            rw [if_pos c3]
            exact d_bIe (m_costOf M1 hr4 hb2 hb3) (d_an rfl)
          · refine d_neg _ (ii_eqF (b := 3) (by omega)) ?_
            rw [if_neg c3]
            exact d_an rfl
end
