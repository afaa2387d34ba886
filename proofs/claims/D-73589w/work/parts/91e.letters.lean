/-! PURE SIDE: letters in nodes -/
set_option maxRecDepth 100000
def inN (n c : Nat) : Bool := if n = 0 then true else if n < 3 then c / 4 == n - 1 else if n < 7 then c / 2 == n - 3 else c == n - 7
def bitN (n c : Nat) : Bool := (c / (if n = 0 then 4 else if n < 3 then 2 else 1)) % 2 == 1
def accN (n : Nat) : Nat := if n = 0 then 0 else if n < 3 then n - 1 else if n < 7 then n - 3 else n - 7
def levN (n : Nat) : Nat := if n = 0 then 3 else if n < 3 then 2 else if n < 7 then 1 else 0
def kidN (n : Nat) (b : Bool) : Nat := 2 * n + 1 + (bn b).toNat
def NB (T : List Nat) (n : Nat) : List Bool := (T.filter (inN n)).map (bitN n)
def pos (n i : Nat) (T : List Nat) : Nat := ((T.take i).filter (inN n)).length
theorem kid_in : ∀ (n : Fin 7) (c : Fin 8) (b : Bool), inN (kidN n.val b) c.val = (inN n.val c.val && (bitN n.val c.val == b)) := by decide +kernel
theorem kid_acc : ∀ (n : Fin 7) (b : Bool), accN (kidN n.val b) = 2 * accN n.val + (bn b).toNat := by decide +kernel
theorem kid_lev : ∀ (n : Fin 7) (b : Bool), levN (kidN n.val b) + 1 = levN n.val := by decide +kernel
theorem kid_lt : ∀ (n : Fin 7) (b : Bool), kidN n.val b < 15 ∧ (levN n.val = 1 ↔ 7 ≤ kidN n.val b) := by decide +kernel
theorem acc_in : ∀ (c : Fin 8) (n : Fin 15), 7 ≤ n.val → inN n.val c.val = true → accN n.val = c.val := by decide +kernel
theorem bits_c : ∀ (c : Fin 8) (l : Fin 3), ((ii (c.val : Int) >>> (ii (l.val : Int) &&& 31)) &&& (1 : Int32)) = ii (((c.val / 2 ^ l.val) % 2 : Nat) : Int) := by decide +kernel
theorem path_c : ∀ (c : Fin 8) (n : Fin 7), inN n.val c.val = true → bitN n.val c.val = ((c.val / 2 ^ (levN n.val - 1)) % 2 == 1) := by decide +kernel
abbrev L8 (T : List Nat) : Prop := ∀ c, c ∈ T → c < 8
theorem NB_len {T : List Nat} {n : Nat} : (NB T n).length = (T.filter (inN n)).length := by simp [NB]
theorem pos_le {T : List Nat} {n i : Nat} : pos n i T ≤ (NB T n).length := by
  rw [NB_len]
  unfold pos
  exact (List.Sublist.filter _ (List.take_sublist i T)).length_le
theorem NB_split {T : List Nat} {n i : Nat} : NB T n = NB (T.take i) n ++ NB (T.drop i) n := by
  unfold NB
  rw [← List.map_append, ← List.filter_append, List.take_append_drop]
theorem NB_take {T : List Nat} {n i : Nat} : (NB T n).take (pos n i T) = NB (T.take i) n := by
  have e : (NB (T.take i) n).length = pos n i T := by rw [NB_len]; rfl
  rw [NB_split (i := i), ← e, List.take_left]
theorem cb_NB {n : Nat} {b : Bool} (hn : n < 7) : ∀ {T : List Nat}, L8 T → cb b (NB T n) = (T.filter (inN (kidN n b))).length := by
  intro T
  induction T with
  | nil => intro _; rfl
  | cons c T ih =>
    intro h
    have hc := h c (List.mem_cons_self ..)
    have ih := ih fun x hx => h x (List.mem_cons_of_mem _ hx)
    have k := kid_in ⟨n, hn⟩ ⟨c, hc⟩ b
    simp only at k
    unfold NB at ih ⊢
    rw [List.filter_cons, List.filter_cons, k]
    by_cases h1 : inN n c = true
    · rw [if_pos h1, List.map_cons, cb_cons, h1, ih]
      by_cases h2 : bitN n c = b
      · rw [if_pos h2, h2]; simp; omega
      · rw [if_neg h2]
        have : (bitN n c == b) = false := by simpa using h2
        rw [this]; simp
    · rw [if_neg h1]
      have : inN n c = false := by simpa using h1
      rw [this, ih]; simp
theorem L8.take {T : List Nat} {i : Nat} (h : L8 T) : L8 (T.take i) := fun c hc => h c (List.mem_of_mem_take hc)
theorem L8.drop {T : List Nat} {i : Nat} (h : L8 T) : L8 (T.drop i) := fun c hc => h c (List.mem_of_mem_drop hc)
/-- how many of a sort are ahead of a place: the place in the node below -/
theorem cb_pos {T : List Nat} {n i : Nat} {b : Bool} (h : L8 T) (hn : n < 7) : cb b ((NB T n).take (pos n i T)) = pos (kidN n b) i T := by
  rw [NB_take, cb_NB hn h.take]
  rfl
theorem T_split {T : List Nat} {i : Nat} (h : i < T.length) : T = T.take i ++ T[i] :: T.drop (i + 1) := by rw [List.getElem_cons_drop, List.take_append_drop]
theorem NB_at {T : List Nat} {n i : Nat} (h : i < T.length) (hin : inN n T[i] = true) : NB T n = NB (T.take i) n ++ bitN n T[i] :: NB (T.drop (i + 1)) n := by
  have e : NB (T.take i ++ T[i] :: T.drop (i + 1)) n = NB (T.take i) n ++ bitN n T[i] :: NB (T.drop (i + 1)) n := by
    unfold NB
    rw [List.filter_append, List.filter_cons, if_pos hin, List.map_append, List.map_cons]
  rw [← T_split h] at e
  exact e
theorem pos_NB {T : List Nat} {n i : Nat} : (NB (T.take i) n).length = pos n i T := by rw [NB_len]; rfl
theorem gb_NB {T : List Nat} {n i : Nat} (h : i < T.length) (hin : inN n T[i] = true) : gb (NB T n) (pos n i T) = bitN n T[i] ∧ pos n i T < (NB T n).length := by
  rw [NB_at h hin]
  constructor
  · rw [gb_app, if_neg (by rw [pos_NB]; omega), pos_NB, Nat.sub_self]; rfl
  · rw [List.length_append, pos_NB, List.length_cons]; omega
theorem sel_NB {T : List Nat} {n i : Nat} {b : Bool} (h8 : L8 T) (hn : n < 7) (h : i < T.length) (hin : inN (kidN n b) T[i] = true) : sel b (NB T n) (pos (kidN n b) i T) = pos n i T ∧ pos (kidN n b) i T < cb b (NB T n) := by
  have hc := h8 T[i] (List.getElem_mem h)
  have k := kid_in ⟨n, hn⟩ ⟨T[i], hc⟩ b
  simp only at k
  rw [hin] at k
  have k1 : inN n T[i] = true := by revert k; cases inN n T[i] <;> simp
  have k2 : bitN n T[i] = b := by revert k; rw [k1]; cases bitN n T[i] <;> cases b <;> simp
  have c1 := cb_pos (b := b) (i := i) h8 hn
  rw [NB_take] at c1
  rw [NB_at h k1, k2]
  constructor
  · rw [sel_app, if_neg (by omega), c1, Nat.sub_self, pos_NB, sel_cons, if_pos rfl, if_pos rfl, Nat.add_zero]
  · rw [cb_app, cb_cons, if_pos rfl]; omega
def insT (i c : Nat) (T : List Nat) : List Nat := T.take i ++ c :: T.drop i
def remT (i : Nat) (T : List Nat) : List Nat := T.take i ++ T.drop (i + 1)
theorem NB_ins {T : List Nat} {n i c : Nat} : NB (insT i c T) n = if inN n c = true then insB (pos n i T) (bitN n c) (NB T n) else NB T n := by
  have e1 : NB (insT i c T) n = NB (T.take i) n ++ (if inN n c = true then bitN n c :: NB (T.drop i) n else NB (T.drop i) n) := by
    unfold NB insT
    rw [List.filter_append, List.filter_cons, List.map_append]
    by_cases h : inN n c = true
    · rw [if_pos h, if_pos h, List.map_cons]
    · rw [if_neg h, if_neg h]
  rw [e1]
  by_cases h : inN n c = true
  · rw [if_pos h, if_pos h, NB_split (T := T) (i := i)]
    unfold insB
    rw [← pos_NB, List.take_left, List.drop_left]
  · rw [if_neg h, if_neg h, ← NB_split]
theorem remB_at2 {P S : List Bool} {x : Bool} : remB P.length (P ++ x :: S) = P ++ S := by
  unfold remB
  have : (P ++ x :: S).drop (P.length + 1) = S := by
    rw [← List.drop_drop, List.drop_left]
    rfl
  rw [List.take_left, this]
theorem NB_rem {T : List Nat} {n i : Nat} (h : i < T.length) : NB (remT i T) n = if inN n T[i] = true then remB (pos n i T) (NB T n) else NB T n := by
  have e1 : NB (remT i T) n = NB (T.take i) n ++ NB (T.drop (i + 1)) n := by
    unfold NB remT
    rw [List.filter_append, List.map_append]
  rw [e1]
  by_cases hin : inN n T[i] = true
  · rw [if_pos hin, NB_at h hin]
    rw [← pos_NB, remB_at2]
  · rw [if_neg hin]
    have e2 : NB (T.take i ++ T[i] :: T.drop (i + 1)) n = NB (T.take i) n ++ NB (T.drop (i + 1)) n := by
      unfold NB
      rw [List.filter_append, List.filter_cons, if_neg hin, List.map_append]
    rw [← T_split h] at e2
    exact e2.symm
theorem pos0 {T : List Nat} {i : Nat} (h : i ≤ T.length) : pos 0 i T = i := by
  unfold pos
  have : (T.take i).filter (inN 0) = T.take i := List.filter_eq_self.mpr fun c _ => rfl
  rw [this, List.length_take]; omega
theorem NB0 {T : List Nat} : (NB T 0).length = T.length := by
  rw [NB_len]
  have : T.filter (inN 0) = T := List.filter_eq_self.mpr fun c _ => rfl
  rw [this]
theorem pos_bd {T : List Nat} {n i : Nat} : pos n i T ≤ T.length := by
  unfold pos
  exact Nat.le_trans (List.length_filter_le _ _) (by rw [List.length_take]; omega)
/-- letters as the nodes have them -/
def Lt (A : Nat → LL) (T : List Nat) : Prop := T.length ≤ 200 ∧ L8 T ∧ ∀ n, n < 7 → (A (4 + n)).flatten = NB T n
section
variable {B z low : Nat} {R : Nat → Nat} {rows seed : Int32} {own N : Nat → Nat} {Tb : Nat → Bool} {A : Nat → LL} {h : PH} {T : List Nat}
theorem z_letterAt_l7 {i : Nat} (hi : i < T.length) (L : Lt A T) : ∀ (m fu n : Nat) (h : PH) (own N : Nat → Nat) (Tb : Nat → Bool), m < fu → n < 15 → levN n = m → inN n T[i] = true → SR own B h z low A R N Tb rows seed → Wf h → EI (itr (c_S_letterAt_l7) (fun _ _ _ _ _ => none) fu h z (ii n) (ii (pos n i T)) (ii (accN n))) (fun v h' => v = ii T[i] ∧ SO own B z low R N h A rows seed 0 0 h') := by
  obtain ⟨L1, L2, L3⟩ := L
  have hc := L2 T[i] (List.getElem_mem hi)
  intro m
  induction m with
  | zero =>
    intro fu n h own N Tb hf hn hl hin S wf
    obtain ⟨fu, rfl⟩ : ∃ x, fu = x + 1 := ⟨fu - 1, by omega⟩
    have hn7 : 7 ≤ n := by
      refine Nat.le_of_not_lt fun q => ?_
      have := kid_lev ⟨n, q⟩ true
      simp only at this
      omega
    refine EI.of ?_
    rw [itr_succ]
    unfold c_S_letterAt_l7
    rw [il_7]
    refine q_pos _ (ii_leT (by omega)) ?_
    refine q_rI ⟨_, rfl, ?_, SO.rf S wf⟩
    have := acc_in ⟨T[i], hc⟩ ⟨n, hn⟩ hn7 hin
    simp only at this
    rw [this]
  | succ m ih =>
    intro fu n h own N Tb hf hn hl hin S wf
    obtain ⟨fu, rfl⟩ : ∃ x, fu = x + 1 := ⟨fu - 1, by omega⟩
    have hn7 : n < 7 := by
      refine Nat.lt_of_not_le fun q => ?_
      have : levN n = 0 := by unfold levN; rw [if_neg (by omega), if_neg (by omega), if_neg (by omega)]
      omega
    have hA := L3 n hn7
    obtain ⟨q1, q2⟩ := gb_NB hi hin
    have pb := pos_bd (T := T) (n := n) (i := i)
    refine EI.of ?_
    rw [itr_succ]
    unfold c_S_letterAt_l7
    rw [il_7]
    refine q_neg _ (ii_leF (by omega)) ?_
    refine q_nd S hn7 ?_
    refine q_hI (p_get (S.2.1 (4 + n) (by omega)) wf (by rw [hA]; exact q2)) fun v h7 ⟨g1, g2, g3, g4⟩ => ?_
    rw [hA, q1] at g1
    subst g1
    obtain ⟨own1, N1, T1, S1, G1, y1, y2⟩ := SO.read S wf (by omega) g2 g3 g4
    refine q_nd S1 hn7 ?_
    refine q_hI (p_before (S1.2.1 (4 + n) (by omega)) G1.wf (by rw [hA]; exact Nat.le_of_lt q2)) fun v h8 ⟨g1, g2, g3, g4⟩ => ?_
    rw [hA, cb_pos L2 hn7] at g1
    subst g1
    obtain ⟨own2, N2, T2, S2, G2, y3, y4⟩ := SO.read S1 G1.wf (by omega) g2 g3 g4
    have ka := kid_acc ⟨n, hn7⟩ (bitN n T[i])
    have kl := kid_lev ⟨n, hn7⟩ (bitN n T[i])
    have kt := kid_lt ⟨n, hn7⟩ (bitN n T[i])
    have ki := kid_in ⟨n, hn7⟩ ⟨T[i], hc⟩ (bitN n T[i])
    simp only at ka kl kt ki
    have b1 := bn_le (bitN n T[i])
    simp only [il_1, il_2, ii_mul, ii_add]
    have x1 : (2 * (accN n : Int) + bn (bitN n T[i])) = (accN (kidN n (bitN n T[i])) : Int) := by rw [ka]; omega
    have x2 : (2 * (n : Int) + 1 + bn (bitN n T[i])) = (kidN n (bitN n T[i]) : Int) := by unfold kidN; omega
    rw [x1, x2]
    refine q_nm ?_
    refine q_nm ?_
    refine Ends.ofEI (ih fu (kidN n (bitN n T[i])) h8 own2 N2 T2 (by omega) kt.1 (by omega) (by rw [ki, hin]; simp) S2 G2.wf) fun v h' ⟨g1, g2⟩ => ⟨v, rfl, g1, SO.trans wf S1 G1 y1 y2 (SO.trans G1.wf S2 G2 y3 y4 g2)⟩
theorem z_letterAt {i : Nat} (hi : i < T.length) (L : Lt A T) (S : SR own B h z low A R N Tb rows seed) (wf : Wf h) : EI (c_S_letterAt h z (ii i)) (fun v h' => v = ii T[i] ∧ SO own B z low R N h A rows seed 0 0 h') := by
  refine EI.of ?_
  unfold c_S_letterAt
  refine S.grd ?_
  rw [il_0]
  have := z_letterAt_l7 hi L 3 FU 0 h own N Tb (by unfold FU; omega) (by decide) rfl rfl S wf
  rw [pos0 (by omega)] at this
  exact Ends.ofEI this fun v h' q => ⟨v, rfl, q⟩
theorem z_ahead_l8 {i c : Nat} (hi : i ≤ T.length) (hc : c < 8) (L : Lt A T) : ∀ (m fu n : Nat) (h : PH) (own N : Nat → Nat) (Tb : Nat → Bool), m < fu → n < 15 → levN n = m → inN n c = true → SR own B h z low A R N Tb rows seed → Wf h → EI (itr (c_S_ahead_l8) (fun _ _ _ _ _ _ => none) fu h z (ii c) (ii n) (ii (pos n i T)) (ii ((m : Int) - 1))) (fun v h' => v = ii (pos (7 + c) i T) ∧ SO own B z low R N h A rows seed 0 0 h') := by
  obtain ⟨L1, L2, L3⟩ := L
  intro m
  induction m with
  | zero =>
    intro fu n h own N Tb hf hn hl hin S wf
    obtain ⟨fu, rfl⟩ : ∃ x, fu = x + 1 := ⟨fu - 1, by omega⟩
    have hn7 : 7 ≤ n := by
      refine Nat.le_of_not_lt fun q => ?_
      have := kid_lev ⟨n, q⟩ true
      simp only at this
      omega
    refine EI.of ?_
    rw [itr_succ]
    unfold c_S_ahead_l8
    refine q_pos _ (ii_ltT (b := 0) (by omega)) ?_
    refine q_rI ⟨_, rfl, ?_, SO.rf S wf⟩
    have e1 : n = 7 + c := by
      unfold inN at hin
      rw [if_neg (by omega), if_neg (by omega), if_neg (by omega)] at hin
      have := beq_iff_eq.mp hin
      omega
    rw [e1]
  | succ m ih =>
    intro fu n h own N Tb hf hn hl hin S wf
    obtain ⟨fu, rfl⟩ : ∃ x, fu = x + 1 := ⟨fu - 1, by omega⟩
    have hn7 : n < 7 := by
      refine Nat.lt_of_not_le fun q => ?_
      have : levN n = 0 := by unfold levN; rw [if_neg (by omega), if_neg (by omega), if_neg (by omega)]
      omega
    have hm3 : m < 3 := by
      have : levN n ≤ 3 := by unfold levN; split <;> (try split) <;> (try split) <;> omega
      omega
    have hA := L3 n hn7
    have pb := pos_bd (T := T) (n := n) (i := i)
    refine EI.of ?_
    rw [itr_succ]
    unfold c_S_ahead_l8
    refine q_neg _ (ii_ltF (b := 0) (by omega)) ?_
    have x0 : (((m + 1 : Nat) : Int) - 1) = (m : Int) := by omega
    rw [x0]
    have hb := bits_c ⟨c, hc⟩ ⟨m, hm3⟩
    have hp := path_c ⟨c, hc⟩ ⟨n, hn7⟩ hin
    simp only at hb hp
    rw [hl] at hp
    have x3 : ii (((c / 2 ^ m) % 2 : Nat) : Int) = ii (bn (bitN n c)) := by
      rw [hp]
      have : (c / 2 ^ m) % 2 = 0 ∨ (c / 2 ^ m) % 2 = 1 := by omega
      have e2 : m + 1 - 1 = m := by omega
      rw [e2]
      rcases this with q | q <;> (rw [q]; rfl)
    rw [hb, x3]
    refine q_nm ?_
    refine q_nd S hn7 ?_
    refine q_hI (p_before (S.2.1 (4 + n) (by omega)) wf (by rw [hA]; exact pos_le)) fun v h8 ⟨g1, g2, g3, g4⟩ => ?_
    rw [hA, cb_pos L2 hn7] at g1
    subst g1
    obtain ⟨own2, N2, T2, S2, G2, y3, y4⟩ := SO.read S wf (by omega) g2 g3 g4
    have kl := kid_lev ⟨n, hn7⟩ (bitN n c)
    have kt := kid_lt ⟨n, hn7⟩ (bitN n c)
    have ki := kid_in ⟨n, hn7⟩ ⟨c, hc⟩ (bitN n c)
    simp only at kl kt ki
    have b1 := bn_le (bitN n c)
    simp only [il_1, il_2, ii_mul, ii_add, ii_neg]
    have x2 : (2 * (n : Int) + 1 + bn (bitN n c)) = (kidN n (bitN n c) : Int) := by unfold kidN; omega
    rw [x2]
    refine q_nm ?_
    refine Ends.ofEI (ih fu (kidN n (bitN n c)) h8 own2 N2 T2 (by omega) kt.1 (by omega) (by rw [ki, hin]; simp) S2 G2.wf) fun v h' ⟨g1, g2⟩ => ⟨v, rfl, g1, SO.trans wf S2 G2 y3 y4 g2⟩
theorem z_ahead {i c : Nat} (hi : i ≤ T.length) (hc : c < 8) (L : Lt A T) (S : SR own B h z low A R N Tb rows seed) (wf : Wf h) : EI (c_S_ahead h z (ii c) (ii i)) (fun v h' => v = ii (pos (7 + c) i T) ∧ SO own B z low R N h A rows seed 0 0 h') := by
  refine EI.of ?_
  unfold c_S_ahead
  refine S.grd ?_
  rw [il_0, il_2]
  have := z_ahead_l8 hi hc L 3 FU 0 h own N Tb (by unfold FU; omega) (by decide) rfl rfl S wf
  rw [pos0 (by omega)] at this
  exact Ends.ofEI this fun v h' q => ⟨v, rfl, q⟩
end
