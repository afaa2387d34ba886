/-! PURE SIDE: letters erased, least; deeds drawn -/
set_option maxRecDepth 100000
theorem L8.ins {T : List Nat} {i c : Nat} (h : L8 T) (hc : c < 8) : L8 (insT i c T) := by
  intro x hx
  rcases List.mem_append.mp hx with hx | hx
  · exact h.take x hx
  · rcases List.mem_cons.mp hx with hx | hx
    · rw [hx]; exact hc
    · exact h.drop x hx
theorem L8.rem {T : List Nat} {i : Nat} (h : L8 T) : L8 (remT i T) := by
  intro x hx
  rcases List.mem_append.mp hx with hx | hx
  · exact h.take x hx
  · exact h.drop x hx
theorem insT_len {T : List Nat} {i c : Nat} : (insT i c T).length = T.length + 1 := by simp [insT]; omega
theorem remT_len {T : List Nat} {i : Nat} (h : i < T.length) : (remT i T).length + 1 = T.length := by simp [remT]; omega
def remTn (i n : Nat) (T : List Nat) : List Nat := T.take i ++ T.drop (i + n)
section
variable {B z low : Nat} {R : Nat → Nat} {rows seed : Int32} {own N : Nat → Nat} {Tb : Nat → Bool} {A : Nat → LL} {h : PH} {T : List Nat}
theorem z_types {i c : Nat} (hi : i ≤ T.length) (hT : T.length < 200) (hc : c < 8) (L : Lt A T) (S : SR own B h z low A R N Tb rows seed) (wf : Wf h) : EV (c_S_types h z (ii i) (ii c)) (fun h' => ∃ A', (∀ k, k < 4 → A' k = A k) ∧ Lt A' (insT i c T) ∧ SO own B z low R N h A' rows seed 0 0 h') := by
  refine EV.of ?_
  unfold c_S_types
  refine S.grd ?_
  rw [il_0, il_2]
  have := z_types_l8 hi hT hc L.2.1 3 FU 0 h own N Tb A (by unfold FU; omega) (by decide) rfl rfl S wf (fun j hj => by
    rw [L.2.2 j hj, if_neg]
    have : levN j ≤ 3 := by unfold levN; split <;> (try split) <;> (try split) <;> omega
    omega)
  rw [pos0 hi] at this
  exact Ends.ofEV this fun h' ⟨A', q1, q2, q3⟩ => ⟨rfl, A', q1, ⟨by rw [insT_len]; omega, L.2.1.ins hc, q2⟩, q3⟩
theorem z_erases_l4 {i : Nat} (hi : i < T.length) (hT : T.length ≤ 200) (h8 : L8 T) : ∀ (m fu n : Nat) (h : PH) (own N : Nat → Nat) (Tb : Nat → Bool) (A : Nat → LL), m < fu → n < 15 → levN n = m → inN n T[i] = true → SR own B h z low A R N Tb rows seed → Wf h → (∀ j, j < 7 → (A (4 + j)).flatten = NB (if m < levN j then remT i T else T) j) → EV (itr (c_S_erases_l4) (fun _ _ _ _ => none) fu h z (ii n) (ii (pos n i T))) (fun h' => ∃ A', (∀ k, k < 4 → A' k = A k) ∧ (∀ j, j < 7 → (A' (4 + j)).flatten = NB (remT i T) j) ∧ SO own B z low R N h A' rows seed 0 0 h') := by
  have hc := h8 T[i] (List.getElem_mem hi)
  intro m
  induction m with
  | zero =>
    intro fu n h own N Tb A hf hn hl hin S wf hA
    obtain ⟨fu, rfl⟩ : ∃ x, fu = x + 1 := ⟨fu - 1, by omega⟩
    have hn7 : 7 ≤ n := by
      refine Nat.le_of_not_lt fun q => ?_
      have := kid_lev ⟨n, q⟩ true
      simp only at this
      omega
    refine EV.of ?_
    rw [itr_succ]
    unfold c_S_erases_l4
    rw [il_7]
    refine q_pos _ (ii_leT (by omega)) ?_
    refine q_rV ⟨rfl, A, fun _ _ => rfl, fun j hj => ?_, SO.rf S wf⟩
    rw [hA j hj, if_pos]
    have := kid_lev ⟨j, hj⟩ true
    simp only at this
    omega
  | succ m ih =>
    intro fu n h own N Tb A hf hn hl hin S wf hA
    obtain ⟨fu, rfl⟩ : ∃ x, fu = x + 1 := ⟨fu - 1, by omega⟩
    have hn7 : n < 7 := by
      refine Nat.lt_of_not_le fun q => ?_
      have : levN n = 0 := by unfold levN; rw [if_neg (by omega), if_neg (by omega), if_neg (by omega)]
      omega
    have hAn : (A (4 + n)).flatten = NB T n := by rw [hA n hn7, if_neg (by omega)]
    have pb := pos_bd (T := T) (n := n) (i := i)
    obtain ⟨q1, q2⟩ := gb_NB hi hin
    refine EV.of ?_
    rw [itr_succ]
    unfold c_S_erases_l4
    rw [il_7]
    refine q_neg _ (ii_leF (by omega)) ?_
    refine q_nd S hn7 ?_
    refine q_hI (p_get (S.2.1 (4 + n) (by omega)) wf (by rw [hAn]; exact q2)) fun v h7 ⟨g1, g2, g3, g4⟩ => ?_
    rw [hAn, q1] at g1
    subst g1
    obtain ⟨own1, N1, T1, S1, G1, y1, y2⟩ := SO.read S wf (by omega) g2 g3 g4
    refine q_nd S1 hn7 ?_
    refine q_hI (p_before (S1.2.1 (4 + n) (by omega)) G1.wf (by rw [hAn]; exact Nat.le_of_lt q2)) fun v h8' ⟨g1, g2, g3, g4⟩ => ?_
    rw [hAn, cb_pos h8 hn7] at g1
    subst g1
    obtain ⟨own2, N2, T2, S2, G2, y3, y4⟩ := SO.read S1 G1.wf (by omega) g2 g3 g4
    refine q_nd S2 hn7 ?_
    have P2 := S2.2.1 (4 + n) (by omega)
    refine q_hV (p_remove P2 G2.wf (by rw [hAn]; exact q2)) fun h16 ⟨g1, g2, g3⟩ => ?_
    have hp1 : ∀ l, l ∈ A (4 + n) → 1 ≤ l.length := fun l hl => (P2.2.1.leaf hl).1
    have fi := remL_fl (low := low) (i := pos n i T) (ls := A (4 + n)) (by rw [hAn]; exact q2) hp1
    obtain ⟨own3, N3, T3, S3, G3, y5, y6⟩ := SO.one (c := 0) (s := 0) S2 G2.wf (show 4 + n < 11 by omega) (fun _ _ => rfl) g1 g2 (by rw [g3]; exact Nat.le_refl _) (by rw [g3]; exact Nat.le_refl _)
    have kl := kid_lev ⟨n, hn7⟩ (bitN n T[i])
    have kt := kid_lt ⟨n, hn7⟩ (bitN n T[i])
    have ki := kid_in ⟨n, hn7⟩ ⟨T[i], hc⟩ (bitN n T[i])
    simp only at kl kt ki
    have b1 := bn_le (bitN n T[i])
    simp only [il_1, il_2, ii_mul, ii_add, ii_neg]
    have x2 : (2 * (n : Int) + 1 + bn (bitN n T[i])) = (kidN n (bitN n T[i]) : Int) := by unfold kidN; omega
    rw [x2]
    refine q_nm ?_
    refine Ends.ofEV (ih fu (kidN n (bitN n T[i])) h16 own3 N3 T3 _ (by omega) kt.1 (by omega) (by rw [ki, hin]; simp) S3 G3.wf (fun j hj => ?_)) fun h' ⟨A', q1, q2, q3⟩ => ⟨rfl, A', fun k hk => ?_, q2, SO.trans wf S1 G1 y1 y2 (SO.trans G1.wf S2 G2 y3 y4 (SO.trans G2.wf S3 G3 y5 y6 q3))⟩
    · by_cases e : 4 + j = 4 + n
      · have ej : j = n := by omega
        subst ej
        rw [up_at, fi, hAn, if_pos (by omega), NB_rem hi, if_pos hin]
      · rw [va_up_ne _ _ e, hA j hj]
        by_cases c1 : m + 1 < levN j
        · rw [if_pos c1, if_pos (by omega)]
        · rw [if_neg c1]
          by_cases c2 : m < levN j
          · rw [if_pos c2, NB_rem hi]
            by_cases c3 : inN j T[i] = true
            · exfalso
              have := lev_uniq ⟨j, hj⟩ ⟨n, hn7⟩ ⟨T[i], hc⟩ (by simp only; omega) c3 hin
              simp only at this
              omega
            · rw [if_neg c3]
          · rw [if_neg c2]
    · rw [q1 k hk, va_up_ne _ _ (by omega)]
theorem z_erases {i : Nat} (hi : i < T.length) (L : Lt A T) (S : SR own B h z low A R N Tb rows seed) (wf : Wf h) : EV (c_S_erases h z (ii i)) (fun h' => ∃ A', (∀ k, k < 4 → A' k = A k) ∧ Lt A' (remT i T) ∧ SO own B z low R N h A' rows seed 0 0 h') := by
  refine EV.of ?_
  unfold c_S_erases
  refine S.grd ?_
  rw [il_0]
  have := z_erases_l4 hi L.1 L.2.1 3 FU 0 h own N Tb A (by unfold FU; omega) (by decide) rfl rfl S wf (fun j hj => by
    rw [L.2.2 j hj, if_neg]
    have : levN j ≤ 3 := by unfold levN; split <;> (try split) <;> (try split) <;> omega
    omega)
  rw [pos0 (by omega)] at this
  exact Ends.ofEV this fun h' ⟨A', q1, q2, q3⟩ => ⟨rfl, A', q1, ⟨by have := remT_len hi; have := L.1; omega, L.2.1.rem, q2⟩, q3⟩
theorem z_does7_l168 {i x : Nat} (hx : x ≤ 600) (hi : i ≤ 999) : ∀ (m fu k : Nat) (h : PH) (own N : Nat → Nat) (Tb : Nat → Bool) (A : Nat → LL) (T : List Nat), m < fu → k + m = x → Lt A T → i + m ≤ T.length → SR own B h z low A R N Tb rows seed → Wf h → EV (itr (c_S_does_l168) (fun _ _ _ _ _ => none) fu h z (ii i) (ii x) (ii k)) (fun h' => ∃ A', (∀ k, k < 4 → A' k = A k) ∧ Lt A' (remTn i m T) ∧ SO own B z low R N h A' rows seed 0 0 h') := by
  intro m
  induction m with
  | zero =>
    intro fu k h own N Tb A T hf hk L hl S wf
    obtain ⟨fu, rfl⟩ : ∃ x, fu = x + 1 := ⟨fu - 1, by omega⟩
    refine EV.of ?_
    rw [itr_succ]
    unfold c_S_does_l168
    refine q_pos _ (ii_leT (by omega)) ?_
    refine q_rV ⟨rfl, A, fun _ _ => rfl, ?_, SO.rf S wf⟩
    unfold remTn
    rw [Nat.add_zero, List.take_append_drop]
    exact L
  | succ m ih =>
    intro fu k h own N Tb A T hf hk L hl S wf
    obtain ⟨fu, rfl⟩ : ∃ x, fu = x + 1 := ⟨fu - 1, by omega⟩
    refine EV.of ?_
    rw [itr_succ]
    unfold c_S_does_l168
    refine q_neg _ (ii_leF (by omega)) ?_
    refine q_hV (z_erases (i := i) (by omega) L S wf) fun h1 ⟨A1, q1, q2, own1, N1, T1, S1, G1, y1, y2⟩ => ?_
    rw [il_1, ii_add]
    have rl := remT_len (T := T) (i := i) (by omega)
    refine Ends.ofEV (ih fu (k + 1) h1 own1 N1 T1 A1 (remT i T) (by omega) (by omega) q2 (by omega) S1 G1.wf) fun h' ⟨A', q3, q4, q5⟩ => ⟨rfl, A', fun j hj => (q3 j hj).trans (q1 j hj), ?_, SO.trans wf S1 G1 y1 y2 q5⟩
    have : remTn i m (remT i T) = remTn i (m + 1) T := by
      unfold remTn remT
      have l1 : (T.take i).length = i := by rw [List.length_take]; omega
      rw [List.take_append_of_le_length (by omega), List.take_of_length_le (by omega), List.drop_append, List.drop_of_length_le (by omega), l1, List.nil_append, List.drop_drop]
      congr 2
      omega
    rw [← this]
    exact q4
/-- the least letters of a part -/
theorem filt_add {p q r : Nat → Bool} : ∀ {U : List Nat}, (∀ c, c ∈ U → p c = (q c || r c) ∧ (q c && r c) = false) → (U.filter p).length = (U.filter q).length + (U.filter r).length := by
  intro U
  induction U with
  | nil => intro _; rfl
  | cons c U ih =>
    intro h
    have ih := ih fun x hx => h x (List.mem_cons_of_mem _ hx)
    obtain ⟨h1, h2⟩ := h c (List.mem_cons_self ..)
    rw [List.filter_cons, List.filter_cons, List.filter_cons, h1]
    cases hq : q c <;> cases hr : r c
    · simp [ih]
    · simp [ih]; omega
    · simp [ih]; omega
    · rw [hq, hr] at h2; cases h2
theorem pos_add {n i j : Nat} {T : List Nat} (hij : i ≤ j) : pos n j T = pos n i T + (((T.take j).drop i).filter (inN n)).length := by
  unfold pos
  have e : T.take j = (T.take j).take i ++ (T.take j).drop i := (List.take_append_drop i _).symm
  have e2 : (T.take j).take i = T.take i := by rw [List.take_take, Nat.min_eq_left hij]
  rw [e2] at e
  conv => lhs; rw [e]
  rw [List.filter_append, List.length_append]
theorem low_kid : ∀ (n : Fin 7) (c : Fin 8), decide (c.val < accN (kidN n.val true) * 2 ^ levN (kidN n.val true)) = (decide (c.val < accN n.val * 2 ^ levN n.val) || inN (kidN n.val false) c.val) ∧ (decide (c.val < accN n.val * 2 ^ levN n.val) && inN (kidN n.val false) c.val) = false ∧ accN (kidN n.val false) * 2 ^ levN (kidN n.val false) = accN n.val * 2 ^ levN n.val ∧ inN n.val c.val = (inN (kidN n.val false) c.val || inN (kidN n.val true) c.val) ∧ (inN (kidN n.val false) c.val && inN (kidN n.val true) c.val) = false := by decide +kernel
theorem z_least_l15 {i j k : Nat} (hij : i ≤ j) (hj : j ≤ T.length) (L : Lt A T) : ∀ (m fu n left : Nat) (h : PH) (own N : Nat → Nat) (Tb : Nat → Bool), m < fu → n < 15 → levN n = m → SR own B h z low A R N Tb rows seed → Wf h → (((T.take j).drop i).filter (fun c => decide (c < accN n * 2 ^ levN n))).length + left = k → left < (((T.take j).drop i).filter (inN n)).length → EI (itr (c_S_leastOf_l15) (fun _ _ _ _ _ _ _ => none) fu h z (ii n) (ii (pos n i T)) (ii (pos n j T)) (ii left) (ii (accN n))) (fun v h' => ∃ c : Nat, v = ii c ∧ c < 8 ∧ (((T.take j).drop i).filter (fun x => decide (x < c))).length ≤ k ∧ k < (((T.take j).drop i).filter (fun x => decide (x < c))).length + (((T.take j).drop i).filter (fun x => x == c)).length ∧ SO own B z low R N h A rows seed 0 0 h') := by
  obtain ⟨L1, L2, L3⟩ := L
  have U8 : L8 ((T.take j).drop i) := L2.take.drop
  intro m
  induction m with
  | zero =>
    intro fu n left h own N Tb hf hn hl S wf h1 h2
    obtain ⟨fu, rfl⟩ : ∃ x, fu = x + 1 := ⟨fu - 1, by omega⟩
    have hn7 : 7 ≤ n := by
      refine Nat.le_of_not_lt fun q => ?_
      have := kid_lev ⟨n, q⟩ true
      simp only at this
      omega
    refine EI.of ?_
    rw [itr_succ]
    unfold c_S_leastOf_l15
    rw [il_7]
    refine q_pos _ (ii_leT (by omega)) ?_
    have e1 : accN n = n - 7 := by unfold accN; rw [if_neg (by omega), if_neg (by omega), if_neg (by omega)]
    rw [hl, e1] at h1
    have e2 : inN n = fun x => x == n - 7 := by
      funext x
      unfold inN
      rw [if_neg (by omega), if_neg (by omega), if_neg (by omega)]
    rw [e2] at h2
    rw [e1]
    have e3 : (n - 7) * 2 ^ 0 = n - 7 := by simp
    rw [e3] at h1
    exact q_rI ⟨_, rfl, n - 7, rfl, by omega, by omega, by omega, SO.rf S wf⟩
  | succ m ih =>
    intro fu n left h own N Tb hf hn hl S wf h1 h2
    obtain ⟨fu, rfl⟩ : ∃ x, fu = x + 1 := ⟨fu - 1, by omega⟩
    have hn7 : n < 7 := by
      refine Nat.lt_of_not_le fun q => ?_
      have : levN n = 0 := by unfold levN; rw [if_neg (by omega), if_neg (by omega), if_neg (by omega)]
      omega
    have hA := L3 n hn7
    have pbi := pos_bd (T := T) (n := n) (i := i)
    have pbj := pos_bd (T := T) (n := n) (i := j)
    have pki := pos_bd (T := T) (n := kidN n false) (i := i)
    have pkj := pos_bd (T := T) (n := kidN n false) (i := j)
    have pa := pos_add (n := kidN n false) (T := T) hij
    have fs1 : (((T.take j).drop i).filter (inN n)).length = (((T.take j).drop i).filter (inN (kidN n false))).length + (((T.take j).drop i).filter (inN (kidN n true))).length := filt_add fun c hc => by
      have := low_kid ⟨n, hn7⟩ ⟨c, U8 c hc⟩
      exact ⟨this.2.2.2.1, this.2.2.2.2⟩
    have lb : left < 2147483648 := by
      have : (((T.take j).drop i).filter (inN n)).length ≤ ((T.take j).drop i).length := List.length_filter_le _ _
      rw [List.length_drop, List.length_take] at this
      omega
    refine EI.of ?_
    rw [itr_succ]
    unfold c_S_leastOf_l15
    rw [il_7]
    refine q_neg _ (ii_leF (by omega)) ?_
    have z0 : (0 : Int32) = ii (bn false) := by decide
    rw [z0]
    refine q_nd S hn7 ?_
    refine q_hI (p_before (S.2.1 (4 + n) (by omega)) wf (by rw [hA]; exact pos_le)) fun v h7 ⟨g1, g2, g3, g4⟩ => ?_
    rw [hA, cb_pos L2 hn7] at g1
    subst g1
    obtain ⟨own1, N1, T1, S1, G1, y1, y2⟩ := SO.read S wf (by omega) g2 g3 g4
    refine q_nd S1 hn7 ?_
    refine q_hI (p_before (S1.2.1 (4 + n) (by omega)) G1.wf (by rw [hA]; exact pos_le)) fun v h15 ⟨g1, g2, g3, g4⟩ => ?_
    rw [hA, cb_pos L2 hn7] at g1
    subst g1
    obtain ⟨own2, N2, T2, S2, G2, y3, y4⟩ := SO.read S1 G1.wf (by omega) g2 g3 g4
    rw [ii_sub]
    refine q_nm ?_
    have nx : ((pos (kidN n false) j T : Int) - pos (kidN n false) i T) = ((((T.take j).drop i).filter (inN (kidN n false))).length : Int) := by omega
    rw [nx]
    have fin : ∀ (b : Bool) (l' : Nat), (((T.take j).drop i).filter (fun c => decide (c < accN (kidN n b) * 2 ^ levN (kidN n b)))).length + l' = k → l' < (((T.take j).drop i).filter (inN (kidN n b))).length → Ends (c_S_leastOf_j78 (itr (c_S_leastOf_l15) (fun _ _ _ _ _ _ _ => none) fu) h15 z (ii n) (ii (pos n i T)) (ii (pos n j T)) (ii l') (ii (accN n)) (ii (bn b))) (fun r h' => ∃ v, r = .inl (some (.int v)) ∧ ∃ c : Nat, v = ii c ∧ c < 8 ∧ (((T.take j).drop i).filter (fun x => decide (x < c))).length ≤ k ∧ k < (((T.take j).drop i).filter (fun x => decide (x < c))).length + (((T.take j).drop i).filter (fun x => x == c)).length ∧ SO own B z low R N h A rows seed 0 0 h') := by
      intro b l' f1 f2
      unfold c_S_leastOf_j78
      refine q_nd S2 hn7 ?_
      refine q_hI (p_before (S2.2.1 (4 + n) (by omega)) G2.wf (by rw [hA]; exact pos_le)) fun v h7 ⟨g1, g2, g3, g4⟩ => ?_
      rw [hA, cb_pos L2 hn7] at g1
      subst g1
      obtain ⟨own3, N3, T3, S3, G3, y5, y6⟩ := SO.read S2 G2.wf (by omega) g2 g3 g4
      refine q_nd S3 hn7 ?_
      refine q_hI (p_before (S3.2.1 (4 + n) (by omega)) G3.wf (by rw [hA]; exact pos_le)) fun v h15 ⟨g1, g2, g3, g4⟩ => ?_
      rw [hA, cb_pos L2 hn7] at g1
      subst g1
      obtain ⟨own4, N4, T4, S4, G4, y7, y8⟩ := SO.read S3 G3.wf (by omega) g2 g3 g4
      have ka := kid_acc ⟨n, hn7⟩ b
      have kl := kid_lev ⟨n, hn7⟩ b
      have kt := kid_lt ⟨n, hn7⟩ b
      simp only at ka kl kt
      have b1 := bn_le b
      simp only [il_1, il_2, ii_mul, ii_add]
      have x1 : (2 * (accN n : Int) + bn b) = (accN (kidN n b) : Int) := by rw [ka]; omega
      have x2 : (2 * (n : Int) + 1 + bn b) = (kidN n b : Int) := by unfold kidN; omega
      rw [x1, x2]
      refine q_nm ?_
      refine q_nm ?_
      exact Ends.ofEI (ih fu (kidN n b) l' h15 own4 N4 T4 (by omega) kt.1 (by omega) S4 G4.wf f1 f2) fun v h' ⟨c, q1, q2, q3, q4, q5⟩ => ⟨v, rfl, c, q1, q2, q3, q4, SO.trans wf S1 G1 y1 y2 (SO.trans G1.wf S2 G2 y3 y4 (SO.trans G2.wf S3 G3 y5 y6 (SO.trans G3.wf S4 G4 y7 y8 q5)))⟩
    have nb : (((T.take j).drop i).filter (inN (kidN n false))).length < 2147483648 := by omega
    by_cases hb : left < (((T.take j).drop i).filter (inN (kidN n false))).length
    · refine q_neg _ (ii_leF (by omega)) ?_
      unfold c_S_leastOf_j63
      refine q_neg _ (by first | decide | (intro z; exact absurd z (by decide))) ?_
      refine fin false left ?_ hb
      have := (low_kid ⟨n, hn7⟩ ⟨0, by decide⟩).2.2.1
      simp only at this
      rw [this]
      exact h1
    · refine q_pos _ (ii_leT (by omega)) ?_
      unfold c_S_leastOf_j63
      refine q_pos _ (by first | trivial | rfl | decide) ?_
      rw [ii_sub]
      have x3 : ((left : Int) - (((T.take j).drop i).filter (inN (kidN n false))).length) = ((left - (((T.take j).drop i).filter (inN (kidN n false))).length : Nat) : Int) := by omega
      rw [x3]
      refine q_nm ?_
      have fs2 : (((T.take j).drop i).filter (fun c => decide (c < accN (kidN n true) * 2 ^ levN (kidN n true)))).length = (((T.take j).drop i).filter (fun c => decide (c < accN n * 2 ^ levN n))).length + (((T.take j).drop i).filter (inN (kidN n false))).length := filt_add fun c hc => by
        have := low_kid ⟨n, hn7⟩ ⟨c, U8 c hc⟩
        exact ⟨this.1, this.2.1⟩
      exact fin true _ (by omega) (by omega)
end
