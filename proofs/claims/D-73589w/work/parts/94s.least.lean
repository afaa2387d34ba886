/-! PURE SIDE: the upper level: the model's least, node -/
set_option maxRecDepth 100000
def eqn (T : List Nat) (i c p : Nat) : Nat := (((T.take p).drop i).filter fun x => x == c).length
theorem eqn_succ {T : List Nat} {i c p : Nat} (hi : i ≤ p) (h : p < T.length) : eqn T i c (p + 1) = eqn T i c p + (if T[p] = c then 1 else 0) := by
  unfold eqn
  rw [List.take_succ_eq_append_getElem h, List.drop_append_of_le_length (by rw [List.length_take]; omega), List.filter_append, List.length_append]
  by_cases e : T[p] = c
  · rw [if_pos e, List.filter_cons_of_pos (p := fun x => x == c) (by rw [e]; exact beq_self_eq_true c)]; rfl
  · rw [if_neg e, List.filter_cons_of_neg (p := fun x => x == c) (by rw [beq_iff_eq]; exact e)]; rfl
theorem eqn_0 {T : List Nat} {i c : Nat} : eqn T i c i = 0 := by
  unfold eqn
  rw [List.drop_eq_nil_of_le (by rw [List.length_take]; omega)]
  rfl
theorem lsn_0 {U : List Nat} : lsn U 0 = 0 := by
  unfold lsn
  rw [List.filter_eq_nil_iff.2 (fun a _ => by rw [decide_eq_true_eq]; omega)]
  rfl
theorem nb0 : ∀ c : Fin 8, ((ii (c.val : Int) >>> ((2 : Int32) &&& 31)) &&& (1 : Int32)) = ii (bn (bitN 0 c.val)) := by decide +kernel
theorem nb1 : ∀ (n : Fin 7) (c : Fin 8), n.val ≠ 0 → n.val < 3 → ((ii (c.val : Int) >>> ((1 : Int32) &&& 31)) &&& (1 : Int32)) = ii (bn (bitN n.val c.val)) := by decide +kernel
theorem nb2 : ∀ (n : Fin 7) (c : Fin 8), 3 ≤ n.val → ((ii (c.val : Int) >>> ((0 : Int32) &&& 31)) &&& (1 : Int32)) = ii (bn (bitN n.val c.val)) := by decide +kernel
section
variable {ms : MS} {T : List Nat} {Z : Option Value → MS → Prop}
theorem m_lea_l43 {r33 : MS → Int32 → Int32 → Int32 → Int32 → Int32 → Option DR} {i k c P : Nat} {y : Int} {U : List Nat} (M : QT ms T) (hc : c < 8) (hPT : i < P → P ≤ T.length) (hiP : P < 2147483648) (hy : y ≤ P ∧ -2147483648 ≤ y) (hyP : i < P → y = P) (hU : (T.take P).drop i = U) (hk : k < 2147483648) (k1 : lsn U (c + 1) ≤ k → DE (r33 ms (ii i) (ii y) (ii k) (ii (lsn U (c + 1))) (ii (c + 1 : Nat))) Z) (k2 : k < lsn U (c + 1) → DE (dI (ii c) ms) Z) : ∀ (m fu p : Nat), m < fu → p + m = P → i ≤ p → DE (itr (d_M_least_l43 r33) (fun _ _ _ _ _ _ _ => none) fu ms (ii i) (ii y) (ii k) (ii (lsn U c + eqn T i c p : Nat)) (ii c) (ii p)) Z := by
  have hT := M.2.2.1
  intro m
  induction m with
  | zero =>
    intro fu p hf hp hip
    obtain ⟨fu, rfl⟩ : ∃ x, fu = x + 1 := ⟨fu - 1, by omega⟩
    have e : p = P := by omega
    subst e
    have ul : U.length ≤ 200 := by rw [← hU, List.length_drop, List.length_take]; omega
    have l1 := lsn_le (U := U) (c := c + 1)
    have e2 : lsn U c + eqn T i c p = lsn U (c + 1) := by rw [lsn_succ]; unfold eqn; rw [hU]
    rw [itr_succ]
    unfold d_M_least_l43
    refine d_pos _ (ii_leT (by omega)) ?_
    rw [e2]
    by_cases c1 : lsn U (c + 1) ≤ k
    · refine d_pos _ (ii_leT (by omega)) ?_
      rw [add1]
      exact k1 c1
    · refine d_neg _ (ii_leF (by omega)) ?_
      exact k2 (by omega)
  | succ m ih =>
    intro fu p hf hp hip
    obtain ⟨fu, rfl⟩ : ∃ x, fu = x + 1 := ⟨fu - 1, by omega⟩
    have e1 := hyP (by omega)
    have e2 := hPT (by omega)
    have hpl : p < T.length := by omega
    have h8 := M.2.2.2 T[p] (List.getElem_mem hpl)
    have es := eqn_succ (c := c) hip hpl
    have kk := ih fu (p + 1) (by omega) (by omega) (by omega)
    rw [itr_succ]
    unfold d_M_least_l43
    refine d_neg _ (ii_leF (by omega)) ?_
    refine d_ta M hpl ?_
    by_cases c1 : T[p] = c
    · refine d_pos _ (by rw [c1]) ?_
      rw [if_pos c1] at es
      rw [add1, add1]
      rw [es] at kk
      exact kk
    · refine d_neg _ (ii_eqF (by omega)) ?_
      rw [if_neg c1] at es
      rw [add1]
      rw [es] at kk
      exact kk
theorem m_lea_l33 {i k P : Nat} {y : Int} {U : List Nat} (M : QT ms T) (hiP : i ≤ P) (hPT : i < P → P ≤ T.length) (hP : P < 2147483648) (hy : y ≤ P ∧ -2147483648 ≤ y) (hyP : i < P → y = P) (hU : (T.take P).drop i = U) (hk : k < 2147483648) : ∀ (m fu c : Nat), m < fu → c + m = 8 → DE (itr (d_M_least_l33) (fun _ _ _ _ _ _ => none) fu ms (ii i) (ii y) (ii k) (ii (lsn U c)) (ii c)) (DA ms (lst U k m c)) := by
  have hT := M.2.2.1
  intro m
  induction m with
  | zero =>
    intro fu c hf hc
    obtain ⟨fu, rfl⟩ : ∃ x, fu = x + 1 := ⟨fu - 1, by omega⟩
    rw [itr_succ]
    unfold d_M_least_l33
    rw [il_8]
    refine d_pos _ (ii_leT (by omega)) ?_
    exact d_an rfl
  | succ m ih =>
    intro fu c hf hc
    obtain ⟨fu, rfl⟩ : ∃ x, fu = x + 1 := ⟨fu - 1, by omega⟩
    rw [itr_succ]
    show DE (d_M_least_l33 (itr d_M_least_l33 (fun _ _ _ _ _ _ => none) fu) ms (ii i) (ii y) (ii k) (ii (lsn U c)) (ii c)) _
    have hPF : P - i < FU := by
      unfold FU
      by_cases z : i < P
      · have := hPT z
        omega
      · omega
    have kk := m_lea_l43 (r33 := itr d_M_least_l33 (fun _ _ _ _ _ _ => none) fu) (Z := DA ms (lst U k (m + 1) c)) (i := i) (k := k) (c := c) (P := P) (y := y) (U := U) M (by omega) hPT hP hy hyP hU hk (fun g => by
      unfold lst
      rw [if_neg (by omega)]
      exact ih fu (c + 1) (by omega) (by omega)) (fun g => by
      unfold lst
      rw [if_pos g]
      exact d_an rfl) (P - i) FU i hPF (by omega) (Nat.le_refl _)
    rw [eqn_0, Nat.add_zero] at kk
    unfold d_M_least_l33
    rw [il_8]
    refine d_neg _ (ii_leF (by omega)) ?_
    exact kk
theorem m_least {x y z : Int} (M : QT ms T) (hx : -2147483648 ≤ x ∧ x < 2147483648) (hy : -2147483648 ≤ y ∧ y < 2147483648) (hz : -2147483648 ≤ z ∧ z < 2147483648) : d_M_least ms (ii x) (ii y) (ii z) = dI (ii (leastA T x y z)) (mset ms 0 0 0) := by
  refine dEqI ?_
  unfold d_M_least leastA
  refine d_nm ?_
  have M' := M.thr (k := 0) (v := 0)
  have hT := M.2.2.1
  by_cases c1 : x < 0
  · refine d_pos _ (ii_ltT (b := 0) (by omega)) ?_
    rw [if_neg (by omega)]; exact d_an rfl
  refine d_neg _ (ii_ltF (b := 0) (by omega)) ?_
  refine d_tl M' ?_
  by_cases c2 : (T.length : Int) < y
  · refine d_pos _ (ii_ltT (by omega)) ?_
    rw [if_neg (by omega)]; exact d_an rfl
  refine d_neg _ (ii_ltF (by omega)) ?_
  by_cases c3 : 0 ≤ z
  · refine d_pos _ (ii_leT (a := 0) (by omega)) ?_
    rw [if_pos (by omega)]
    obtain ⟨i, rfl⟩ : ∃ k : Nat, x = k := ⟨x.toNat, by omega⟩
    obtain ⟨k, rfl⟩ : ∃ k : Nat, z = k := ⟨z.toNat, by omega⟩
    rw [Int.toNat_natCast, Int.toNat_natCast]
    by_cases c4 : y ≤ i
    · have kk := m_lea_l33 (i := i) (k := k) (P := i) (y := y) (U := (T.take y.toNat).drop i) M' (by omega) (by omega) (by omega) (by omega) (by omega) (by
        rw [List.drop_eq_nil_of_le (by rw [List.length_take]; omega), List.drop_eq_nil_of_le (by rw [List.length_take]; omega)]) (by omega) 8 FU 0 (by unfold FU; omega) rfl
      rw [lsn_0] at kk
      exact kk
    · have kk := m_lea_l33 (i := i) (k := k) (P := y.toNat) (y := y) (U := (T.take y.toNat).drop i) M' (by omega) (by omega) (by omega) (by omega) (by omega) rfl (by omega) 8 FU 0 (by unfold FU; omega) rfl
      rw [lsn_0] at kk
      exact kk
  · refine d_neg _ (ii_leF (a := 0) (by omega)) ?_
    rw [if_neg (by omega)]; exact d_an rfl
theorem m_isInNode {n c : Nat} (hn : n < 7) (hc : c < 8) : d_M_isInNode ms (ii n) (ii c) = dI (ii (bn (inN n c))) ms := by
  refine dEqI ?_
  unfold d_M_isInNode inN
  by_cases c0 : n = 0
  · subst c0
    refine d_pos _ rfl ?_
    rw [if_pos rfl]
    exact d_dZ1 ⟨rfl, rfl⟩
  refine d_neg _ (ii_eq0F (by omega)) ?_
  rw [if_neg c0, il_3]
  by_cases c1 : n < 3
  · refine d_neg _ (ii_leF (by omega)) ?_
    rw [if_pos c1]
    refine d_nz (by decide) ?_
    rw [il_4, ii_div (by omega), sub1]
    by_cases c2 : c / 4 = n - 1
    · refine d_pos _ (ii_eqT (by omega)) ?_
      rw [beq_iff_eq.2 c2]
      exact d_dZ1 ⟨rfl, rfl⟩
    · refine d_neg _ (ii_eqF (by omega)) ?_
      unfold d_M_isInNode_j18
      rw [il_2]
      refine d_pos _ (ii_leT (by omega)) ?_
      rw [beq_eq_false_iff_ne.2 c2]
      exact d_dZ0 ⟨rfl, rfl⟩
  · refine d_pos _ (ii_leT (by omega)) ?_
    rw [if_neg c1, if_pos hn]
    unfold d_M_isInNode_j18
    have nz2 : (2 : Int32) ≠ 0 := by decide
    rw [il_2] at nz2
    rw [il_2]
    refine d_neg _ (ii_leF (by omega)) ?_
    refine d_nz nz2 ?_
    rw [ii_div (by omega), il_3, ii_sub]
    by_cases c2 : c / 2 = n - 3
    · refine d_pos _ (ii_eqT (by omega)) ?_
      rw [beq_iff_eq.2 c2]
      exact d_dZ1 ⟨rfl, rfl⟩
    · refine d_neg _ (ii_eqF (by omega)) ?_
      rw [beq_eq_false_iff_ne.2 c2]
      exact d_dZ0 ⟨rfl, rfl⟩
theorem m_node_l26 {n kk : Nat} (M : QT ms T) (hn : n < 7) (hk : kk < 2147483648) : ∀ (m fu p : Nat), m < fu → p + m = T.length → pos n p T ≤ kk → DE (itr (d_M_node_l26) (fun _ _ _ _ _ => none) fu ms (ii n) (ii kk) (ii (pos n p T)) (ii p)) (DA ms (if kk < (NB T n).length then bn (gb (NB T n) kk) else -1)) := by
  have hT := M.2.2.1
  intro m
  induction m with
  | zero =>
    intro fu p hf hp hpk
    obtain ⟨fu, rfl⟩ : ∃ x, fu = x + 1 := ⟨fu - 1, by omega⟩
    have e : p = T.length := by omega
    subst e
    have e2 : pos n T.length T = (NB T n).length := by unfold pos; rw [List.take_length, NB_len]
    rw [itr_succ]
    unfold d_M_node_l26
    refine d_tl M ?_
    refine d_pos _ (ii_leT (by omega)) ?_
    rw [if_neg (by omega)]
    exact d_an rfl
  | succ m ih =>
    intro fu p hf hp hpk
    obtain ⟨fu, rfl⟩ : ∃ x, fu = x + 1 := ⟨fu - 1, by omega⟩
    have hpl : p < T.length := by omega
    have h8 := M.2.2.2 T[p] (List.getElem_mem hpl)
    have ps := pos_succ (n := n) hpl
    have pb := pos_bd (T := T) (n := n) (i := p)
    rw [itr_succ]
    unfold d_M_node_l26
    refine d_tl M ?_
    refine d_neg _ (ii_leF (by omega)) ?_
    refine d_ta M hpl ?_
    refine d_bIe (m_isInNode hn h8) ?_
    by_cases c1 : inN n T[p] = true
    · rw [if_pos c1] at ps
      refine d_neg _ (by rw [c1]; exact bn1_ne) ?_
      by_cases c2 : pos n p T = kk
      · refine d_pos _ (by rw [c2]) ?_
        obtain ⟨g1, g2⟩ := gb_NB hpl c1
        rw [c2] at g1 g2
        rw [if_pos g2, g1]
        by_cases c3 : n = 0
        · subst c3
          refine d_pos _ rfl ?_
          exact d_an (nb0 ⟨T[p], h8⟩)
        · refine d_neg _ (ii_eq0F (by omega)) ?_
          by_cases c4 : n < 3
          · refine d_neg _ (ii_leF (a := 3) (by omega)) ?_
            exact d_an (nb1 ⟨n, hn⟩ ⟨T[p], h8⟩ c3 c4)
          · refine d_pos _ (ii_leT (a := 3) (by omega)) ?_
            exact d_an (nb2 ⟨n, hn⟩ ⟨T[p], h8⟩ (by show 3 ≤ n; omega))
      · refine d_neg _ (ii_eqF (by omega)) ?_
        rw [add1, add1]
        have k := ih fu (p + 1) (by omega) (by omega) (by omega)
        rw [ps] at k
        exact k
    · rw [if_neg c1] at ps
      refine d_pos _ (by rw [Bool.not_eq_true] at c1; rw [c1]; rfl) ?_
      rw [add1]
      have k := ih fu (p + 1) (by omega) (by omega) (by omega)
      rw [ps] at k
      exact k
theorem m_node {x y : Int} (M : QT ms T) (hx : -2147483648 ≤ x ∧ x < 2147483648) (hy : -2147483648 ≤ y ∧ y < 2147483648) : d_M_node ms (ii x) (ii y) = dI (ii (nodeA T x y)) (mset ms 0 0 0) := by
  refine dEqI ?_
  unfold d_M_node nodeA
  refine d_nm ?_
  have M' := M.thr (k := 0) (v := 0)
  have hT := M.2.2.1
  refine d_in (a := 0) (b := 6) rfl rfl (by omega) (fun c => ?_) fun c => ?_
  · rw [if_neg (by omega)]; exact d_an rfl
  by_cases c1 : 0 ≤ y
  · refine d_pos _ (ii_leT (a := 0) (by omega)) ?_
    obtain ⟨i, rfl⟩ : ∃ k : Nat, x = k := ⟨x.toNat, by omega⟩
    obtain ⟨j, rfl⟩ : ∃ k : Nat, y = k := ⟨y.toNat, by omega⟩
    rw [Int.toNat_natCast, Int.toNat_natCast]
    have p0 : pos i 0 T = 0 := by unfold pos; rw [List.take_zero]; rfl
    have k := m_node_l26 (n := i) (kk := j) M' (by omega) (by omega) T.length FU 0 (by unfold FU; omega) (by omega) (by omega)
    rw [p0] at k
    by_cases c2 : j < (NB T i).length
    · rw [if_pos c2] at k
      rw [if_pos (by omega)]
      exact k
    · rw [if_neg c2] at k
      rw [if_neg (by omega)]
      exact k
  · refine d_neg _ (ii_leF (a := 0) (by omega)) ?_
    rw [if_neg (by omega)]; exact d_an rfl
end
