/-! PURE SIDE: the upper level: longest, find, leaves, tree -/
set_option maxRecDepth 100000
def lng (bb : Bool) (l : List Bool) : Nat → Nat → Nat → Nat → Nat
  | 0, _, _, mo => mo
  | m + 1, p, c, mo => lng bb l m (p + 1) (if gb l p = bb then c + 1 else 0) (max mo (if gb l p = bb then c + 1 else 0))
def longA (n : Nat) (A : Nat → LL) (x b : Int) : Int := if (0 ≤ x ∧ x < n) ∧ 0 ≤ b ∧ b ≤ 1 then (lng (decide (b = 1)) (A x.toNat).flatten (A x.toNat).flatten.length 0 0 0 : Nat) else -1
theorem mx_ii {a b : Nat} (ha : a ≤ 100000) (hb : b ≤ 100000) : (if ii a < ii b then ii b else ii a) = ii (max a b : Nat) := by
  by_cases c : a < b
  · rw [if_pos (ii_ltT (by omega)), Nat.max_eq_right (by omega)]
  · rw [if_neg (ii_ltF (by omega)), Nat.max_eq_left (by omega)]
def fnd (bb : Bool) (l : List Bool) : Nat → Nat → Int
  | 0, _ => -1
  | m + 1, p => if gb l p = bb then (p : Int) else fnd bb l m (p + 1)
theorem cb_take {bb : Bool} {l : List Bool} {p : Nat} (h : p < l.length) : cb bb (l.take (p + 1)) = cb bb (l.take p) + (if gb l p = bb then 1 else 0) := by
  rw [gb_at h, List.take_succ_eq_append_getElem h, cb_app, cb_cons, cb_nil, Nat.add_zero]
theorem cb_split (bb : Bool) (l : List Bool) (p : Nat) : cb bb l = cb bb (l.take p) + cb bb (l.drop p) := by rw [← cb_app, List.take_append_drop]
theorem fnd_sel {bb : Bool} {l : List Bool} : ∀ {m p : Nat}, p + m = l.length → fnd bb l m p = if cb bb (l.take p) < cb bb l then (sel bb l (cb bb (l.take p)) : Int) else -1 := by
  intro m
  induction m with
  | zero =>
    intro p hp
    rw [List.take_of_length_le (by omega), if_neg (by omega)]
    rfl
  | succ m ih =>
    intro p hp
    have hpl : p < l.length := by omega
    have c1 := cb_take (bb := bb) hpl
    have c2 := cb_split bb l (p + 1)
    unfold fnd
    by_cases c : gb l p = bb
    · rw [if_pos c] at c1
      rw [if_pos c, if_pos (by omega)]
      have e : sel bb l (cb bb (l.take p)) = p := by
        have e1 : l = l.take p ++ l.drop p := (List.take_append_drop p l).symm
        have e2 : sel bb l (cb bb (l.take p)) = sel bb (l.take p ++ l.drop p) (cb bb (l.take p)) := by rw [List.take_append_drop]
        rw [e2, sel_app, if_neg (by omega), Nat.sub_self, List.drop_eq_getElem_cons hpl, sel_cons, if_pos (by rw [← gb_at hpl]; exact c), if_pos rfl, List.length_take]
        omega
      rw [e]
    · rw [if_neg c] at c1
      rw [if_neg c, ih (by omega), c1, Nat.add_zero]
def findA (n : Nat) (A : Nat → LL) (x y b : Int) : Int := if (0 ≤ x ∧ x < n) ∧ (0 ≤ b ∧ b ≤ 1) ∧ 0 ≤ y ∧ y < ((A x.toNat).flatten.length : Int) then fnd (decide (b = 1)) (A x.toNat).flatten ((A x.toNat).flatten.length - y.toNat) y.toNat else -1
def leavesA (n : Nat) (A : Nat → LL) (x : Int) : Int := if 0 ≤ x ∧ x < n then ((A x.toNat).length : Int) else -1
def treeA (n : Nat) (A : Nat → LL) (x y : Int) : Int := if 0 ≤ x ∧ x < n then (if y = 0 then (hgt 12 (A x.toNat).length : Int) else if y = 1 then (((A x.toNat).length - 1 : Nat) : Int) else if y = 2 then (mxd 12 (A x.toNat).length : Int) else if y = 3 then (cst (A x.toNat) : Int) else -1) else -1
section
variable {q : QP} {h : PH} {r : Nat} {ms : MS} {n : Nat} {A : Nat → LL}
theorem b_long_l27 {bb : Bool} (hr : r < 4) : ∀ (m fu p c mo : Nat) (h : PH), m < fu → p + m = (q.A r).flatten.length → c ≤ p → mo ≤ p → QI q h → Ends (itr (c_B_longest_l27) (fun _ _ _ _ _ _ _ => none) fu h q.B (ii r) (ii (bn bb)) (ii mo) (ii c) (ii p)) (AN q (lng bb (q.A r).flatten m p c mo : Nat)) := by
  intro m
  induction m with
  | zero =>
    intro fu p c mo h hf hp hc hm Q
    obtain ⟨fu, rfl⟩ : ∃ x, fu = x + 1 := ⟨fu - 1, by omega⟩
    have hb := (Q.bnd (k := r) (by omega)).1
    rw [itr_succ]
    unfold c_B_longest_l27
    refine q_wide Q hr fun h1 Q1 => ?_
    refine q_pos _ (ii_leT (by omega)) ?_
    exact q_an rfl Q1.i
  | succ m ih =>
    intro fu p c mo h hf hp hc hm Q
    obtain ⟨fu, rfl⟩ : ∃ x, fu = x + 1 := ⟨fu - 1, by omega⟩
    have hb := (Q.bnd (k := r) (by omega)).1
    rw [itr_succ]
    unfold c_B_longest_l27
    refine q_wide Q hr fun h1 Q1 => ?_
    refine q_neg _ (ii_leF (by omega)) ?_
    refine q_get (i := p) Q1.i hr rfl (by omega) fun h2 Q2 => ?_
    unfold lng
    by_cases c1 : gb (q.A r).flatten p = bb
    · refine q_pos _ (bn_eqT c1) ?_
      unfold c_B_longest_j62
      rw [add1, add1]
      refine q_nm ?_
      rw [if_pos c1]
      have e : ii ((c : Int) + 1) = ii (c + 1 : Nat) := by congr 1
      rw [e, mx_ii (by omega) (by omega)]
      exact ih fu (p + 1) (c + 1) (max mo (c + 1)) h2 (by omega) (by omega) (by omega) (by omega) Q2.i
    · refine q_neg _ (bn_eqF c1) ?_
      unfold c_B_longest_j62
      rw [add1]
      refine q_nm ?_
      rw [if_neg c1]
      have e : (0 : Int32) = ii (0 : Nat) := rfl
      rw [e, mx_ii (by omega) (by omega)]
      exact ih fu (p + 1) 0 (max mo 0) h2 (by omega) (by omega) (by omega) (by omega) Q2.i
theorem b_longest {x b : Int} (Q : QI q h) (hx : -2147483648 ≤ x ∧ x < 2147483648) (hb : -2147483648 ≤ b ∧ b < 2147483648) : Ends (c_B_longest h q.B (ii x) (ii b)) (AN q (longA q.n q.A x b)) := by
  unfold c_B_longest longA
  refine q_grd0 Q ?_
  refine q_row Q hx (fun c => ?_) fun r e hr hr4 => ?_
  · rw [if_neg (fun z => c z.1)]; exact q_an rfl Q
  · subst e
    refine q_in (a := 0) (b := 1) rfl rfl (by omega) (fun c => ?_) fun c => ?_
    · rw [if_neg (fun z => c z.2)]; exact q_an rfl Q
    · rw [if_pos ⟨by omega, c⟩, Int.toNat_natCast]
      have hbd := (Q.bnd (k := r) (by omega)).1
      have k := b_long_l27 (bb := decide (b = 1)) hr4 (q.A r).flatten.length FU 0 0 0 h (by unfold FU; omega) (by omega) (by omega) (by omega) Q
      rw [← bit_of c] at k
      exact k
theorem m_long_l31 {bb : Bool} (M : QM ms n A) (hr : r < 4) : ∀ (m fu p c mo : Nat), m < fu → p + m = (A r).flatten.length → c ≤ p → mo ≤ p → DE (itr (d_M_longest_l31) (fun _ _ _ _ _ _ => none) fu ms (ii r) (ii (bn bb)) (ii mo) (ii c) (ii p)) (DA ms (lng bb (A r).flatten m p c mo : Nat)) := by
  have hb := (M.2.2 r hr).2.1
  intro m
  induction m with
  | zero =>
    intro fu p c mo hf hp hc hm
    obtain ⟨fu, rfl⟩ : ∃ x, fu = x + 1 := ⟨fu - 1, by omega⟩
    rw [itr_succ]
    unfold d_M_longest_l31
    refine d_size M hr ?_
    refine d_pos _ (ii_leT (by omega)) ?_
    exact d_an rfl
  | succ m ih =>
    intro fu p c mo hf hp hc hm
    obtain ⟨fu, rfl⟩ : ∃ x, fu = x + 1 := ⟨fu - 1, by omega⟩
    rw [itr_succ]
    unfold d_M_longest_l31
    refine d_size M hr ?_
    refine d_neg _ (ii_leF (by omega)) ?_
    refine d_bitOf (i := p) M hr rfl (by omega) ?_
    unfold lng
    by_cases c1 : gb (A r).flatten p = bb
    · refine d_pos _ (bn_eqT c1) ?_
      unfold d_M_longest_j60
      rw [add1, add1, if_pos c1]
      by_cases c2 : c + 1 ≤ mo
      · refine d_pos _ (ii_leT (by omega)) ?_
        rw [Nat.max_eq_left c2]
        exact ih fu (p + 1) (c + 1) mo (by omega) (by omega) (by omega) (by omega)
      · refine d_neg _ (ii_leF (by omega)) ?_
        rw [Nat.max_eq_right (by omega)]
        exact ih fu (p + 1) (c + 1) (c + 1) (by omega) (by omega) (by omega) (by omega)
    · refine d_neg _ (bn_eqF c1) ?_
      unfold d_M_longest_j60
      rw [add1, if_neg c1]
      refine d_pos _ (ii_leT (a := 0) (by omega)) ?_
      rw [Nat.max_eq_left (by omega)]
      exact ih fu (p + 1) 0 mo (by omega) (by omega) (by omega) (by omega)
theorem m_longest {x b : Int} (M : QM ms n A) (hx : -2147483648 ≤ x ∧ x < 2147483648) (hb : -2147483648 ≤ b ∧ b < 2147483648) : d_M_longest ms (ii x) (ii b) = dI (ii (longA n A x b)) (mset ms 0 0 0) := by
  refine dEqI ?_
  unfold d_M_longest longA
  refine d_nm ?_
  have M' := M.thr (k := 0) (v := 0)
  refine d_row M' hx (fun c => ?_) fun r e hr hr4 => ?_
  · rw [if_neg (fun z => c z.1)]; exact d_an rfl
  · subst e
    refine d_bit hb (fun c => ?_) fun c => ?_
    · rw [if_neg (fun z => c z.2)]; exact d_an rfl
    · rw [if_pos ⟨by omega, c⟩, Int.toNat_natCast]
      have hbd := (M.2.2 r hr4).2.1
      have k := m_long_l31 (bb := decide (b = 1)) M' hr4 (A r).flatten.length FU 0 0 0 (by unfold FU; omega) (by omega) (by omega) (by omega)
      rw [← bit_of c] at k
      exact k
theorem b_find {x y b : Int} (Q : QI q h) (hx : -2147483648 ≤ x ∧ x < 2147483648) (hy : -2147483648 ≤ y ∧ y < 2147483648) (hb : -2147483648 ≤ b ∧ b < 2147483648) : Ends (c_B_find h q.B (ii x) (ii y) (ii b)) (AN q (findA q.n q.A x y b)) := by
  unfold c_B_find findA
  refine q_grd0 Q ?_
  refine q_row Q hx (fun c => ?_) fun r e hr hr4 => ?_
  · rw [if_neg (fun z => c z.1)]; exact q_an rfl Q
  · subst e
    refine q_in (a := 0) (b := 1) rfl rfl (by omega) (fun c => ?_) fun c => ?_
    · rw [if_neg (fun z => c z.2.1)]; exact q_an rfl Q
    · have hbd := (Q.bnd (k := r) (by omega)).1
      rw [Int.toNat_natCast]
      have eb := bit_of c
      refine q_wide Q hr4 fun h1 Q1 => ?_
      refine q_in (a := 0) rfl sub1 (by omega) (fun c2 => ?_) fun c2 => ?_
      · rw [if_neg (fun z => c2 (by omega))]; exact q_an rfl Q1.i
      · obtain ⟨i, rfl⟩ : ∃ i : Nat, y = i := ⟨y.toNat, by omega⟩
        rw [if_pos ⟨by omega, c, by omega⟩, Int.toNat_natCast, fnd_sel (by omega), eb]
        have eb2 : decide (bn (decide (b = 1)) = 1) = decide (b = 1) := by rw [← eb]
        rw [eb2]
        refine q_before (bb := decide (b = 1)) Q1.i hr4 (by omega) fun h2 Q2 => ?_
        refine q_many (bb := decide (b = 1)) Q2.i hr4 fun h3 Q3 => ?_
        have l1 : cb (decide (b = 1)) (q.A r).flatten ≤ (q.A r).flatten.length := List.count_le_length
        have l2 := cb_split (decide (b = 1)) (q.A r).flatten i
        by_cases c3 : cb (decide (b = 1)) ((q.A r).flatten.take i) < cb (decide (b = 1)) (q.A r).flatten
        · rw [if_pos c3]
          refine q_neg _ (ii_leF (by omega)) ?_
          exact q_where (bb := decide (b = 1)) Q3.i hr4 c3 fun h4 Q4 => q_an rfl Q4.i
        · rw [if_neg c3]
          refine q_pos _ (ii_leT (by omega)) ?_
          exact q_an rfl Q3.i
theorem m_find_l30 {bb : Bool} (M : QM ms n A) (hr : r < 4) : ∀ (m fu p : Nat), m < fu → p + m = (A r).flatten.length → DE (itr (d_M_find_l30) (fun _ _ _ _ => none) fu ms (ii r) (ii (bn bb)) (ii p)) (DA ms (fnd bb (A r).flatten m p)) := by
  have hb := (M.2.2 r hr).2.1
  intro m
  induction m with
  | zero =>
    intro fu p hf hp
    obtain ⟨fu, rfl⟩ : ∃ x, fu = x + 1 := ⟨fu - 1, by omega⟩
    rw [itr_succ]
    unfold d_M_find_l30
    refine d_size M hr ?_
    refine d_pos _ (ii_leT (by omega)) ?_
    exact d_an rfl
  | succ m ih =>
    intro fu p hf hp
    obtain ⟨fu, rfl⟩ : ∃ x, fu = x + 1 := ⟨fu - 1, by omega⟩
    rw [itr_succ]
    unfold d_M_find_l30
    refine d_size M hr ?_
    refine d_neg _ (ii_leF (by omega)) ?_
    refine d_bitOf (i := p) M hr rfl (by omega) ?_
    unfold fnd
    by_cases c1 : gb (A r).flatten p = bb
    · rw [if_pos c1]
      refine d_pos _ (bn_eqT c1) ?_
      exact d_an rfl
    · rw [if_neg c1]
      refine d_neg _ (bn_eqF c1) ?_
      rw [add1]
      exact ih fu (p + 1) (by omega) (by omega)
theorem m_find {x y b : Int} (M : QM ms n A) (hx : -2147483648 ≤ x ∧ x < 2147483648) (hy : -2147483648 ≤ y ∧ y < 2147483648) (hb : -2147483648 ≤ b ∧ b < 2147483648) : d_M_find ms (ii x) (ii y) (ii b) = dI (ii (findA n A x y b)) (mset ms 0 0 0) := by
  refine dEqI ?_
  unfold d_M_find findA
  refine d_nm ?_
  have M' := M.thr (k := 0) (v := 0)
  refine d_row M' hx (fun c => ?_) fun r e hr hr4 => ?_
  · rw [if_neg (fun z => c z.1)]; exact d_an rfl
  · subst e
    refine d_bit hb (fun c => ?_) fun c => ?_
    · rw [if_neg (fun z => c z.2.1)]; exact d_an rfl
    · have hbd := (M.2.2 r hr4).2.1
      rw [Int.toNat_natCast]
      by_cases c2 : 0 ≤ y
      · refine d_pos _ (ii_leT (a := 0) (by omega)) ?_
        obtain ⟨i, rfl⟩ : ∃ i : Nat, y = i := ⟨y.toNat, by omega⟩
        by_cases c3 : i < (A r).flatten.length
        · rw [if_pos ⟨by omega, c, by omega⟩, Int.toNat_natCast]
          have k := m_find_l30 (bb := decide (b = 1)) M' hr4 ((A r).flatten.length - i) FU i (by unfold FU; omega) (by omega)
          rw [← bit_of c] at k
          exact k
        · rw [if_neg (fun z => c3 (by omega))]
          show DE (d_M_find_l30 (itr (d_M_find_l30) (fun _ _ _ _ => none) 99999) (mset ms 0 0 0) (ii r) (ii b) (ii i)) _
          unfold d_M_find_l30
          refine d_size M' hr4 ?_
          refine d_pos _ (ii_leT (by omega)) ?_
          exact d_an rfl
      · refine d_neg _ (ii_leF (a := 0) (by omega)) ?_
        rw [if_neg (fun z => c2 z.2.2.1)]
        exact d_an rfl
theorem b_leaves {x : Int} (Q : QI q h) (hx : -2147483648 ≤ x ∧ x < 2147483648) : Ends (c_B_leaves h q.B (ii x)) (AN q (leavesA q.n q.A x)) := by
  unfold c_B_leaves leavesA
  refine q_grd0 Q ?_
  refine q_row Q hx (fun c => ?_) fun r e hr hr4 => ?_
  · rw [if_neg c]; exact q_an rfl Q
  · subst e
    rw [if_pos (by omega), Int.toNat_natCast]
    exact q_folds Q hr4 fun h1 Q1 => q_an rfl Q1.i
theorem m_leaves {x : Int} (M : QM ms n A) (hx : -2147483648 ≤ x ∧ x < 2147483648) : d_M_leaves ms (ii x) = dI (ii (leavesA n A x)) (mset ms 0 0 0) := by
  refine dEqI ?_
  unfold d_M_leaves leavesA
  refine d_nm ?_
  have M' := M.thr (k := 0) (v := 0)
  refine d_row M' hx (fun c => ?_) fun r e hr hr4 => ?_
  · rw [if_neg c]; exact d_an rfl
  · subst e
    rw [if_pos (by omega), Int.toNat_natCast, il_2611, ii_add]
    exact d_eA (N := 6062) rfl (n := 2611 + r) (by omega) (M'.2.2 r hr4).1.2.1 (d_an rfl)
end
