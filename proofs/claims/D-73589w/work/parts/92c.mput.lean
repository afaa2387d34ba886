/-! PURE SIDE: the model: a bit put -/
set_option maxRecDepth 100000
section
variable {ms : MS} {r low : Nat} {ls : LL}
theorem insL_as {i : Nat} {b : Bool} (B : LsB low ls) (hi : i ≤ ls.flatten.length) : ∃ (k : Nat) (ls1 : LL) (l1 : List Bool), k = (if i = 0 then 0 else (loc ls (i - 1)).1) ∧ ls1.flatten = insB i b ls.flatten ∧ ls1.length = max 1 ls.length ∧ (∀ j, szs ls1 j = if j = k then szs ls k + 1 else szs ls j) ∧ ls1[k]? = some l1 ∧ insL low i b ls = (if 2 * low < l1.length then halv ls1 k else ls1) ∧ l1.length ≤ 65 := by
  have hp : ∀ l, l ∈ ls → 1 ≤ l.length := fun l hl => (B.leaf hl).1
  have lb := B.1
  by_cases hn : ls.length = 0
  · have e0 : ls = [] := List.length_eq_zero_iff.mp hn
    subst e0
    have hi0 : i = 0 := by simpa using hi
    subst hi0
    refine ⟨0, [[b]], [b], by rw [if_pos rfl], rfl, rfl, fun j => ?_, rfl, ?_, by simp⟩
    · cases j with
      | zero => rfl
      | succ j => rfl
    · have e1 : insL low 0 b [] = [[b]] := by unfold insL; exact if_pos rfl
      rw [e1, if_neg (by simp; omega)]
  · obtain ⟨l, k1, k2, k3, k4⟩ := plc_ok hi hn hp
    have kk := at_lt k1
    have hl := B.leaf (List.mem_of_getElem? k1)
    have e1 : insL low i b ls = putL low ls (plc ls i).1 (insB (plc ls i).2 b l) := by unfold insL; rw [if_neg hn, getD_at k1]
    have ln := insB_len (i := (plc ls i).2) (b := b) (l := l)
    refine ⟨(plc ls i).1, ls.set (plc ls i).1 (insB (plc ls i).2 b l), insB (plc ls i).2 b l, ?_, ?_, ?_, fun j => ?_, set_self_at k1, ?_, by omega⟩
    · unfold plc
      by_cases c : i = 0
      · rw [if_pos c, if_pos c]
      · rw [if_neg c, if_neg c]
    · have := insL_fl (low := low) (b := b) hi hp
      rw [e1, putL_fl] at this
      exact this
    · rw [List.length_set]; omega
    · rw [set_szs k1, szs_at k1, ln]
    · rw [e1]; rfl
theorem m_put_j102 {k : Nat} {ls1 : LL} {l1 : List Bool} (hr : r < 4) (hlow : ms.1 14 1 = ii low) (hlb : 4 ≤ low ∧ low ≤ 32) (h1 : ls1.length ≤ 150) (hT : ls1.flatten.length ≤ 600) (hk : ls1[k]? = some l1) (hl : l1.length ≤ 65) (e1 : ms.1 14 (2607 + r) = ii ((ls1.flatten.length : Int) - 1)) (e2 : ms.1 14 (2611 + r) = ii ls1.length) (e3 : ∀ j, j < 151 → ms.1 14 (2816 + 151 * r + j) = ii (if j = k then (szs ls1 j : Int) - 1 else szs ls1 j)) (e4 : ∀ i, i < ls1.flatten.length → ms.1 14 (3420 + 600 * r + i) = ii (bn (gb ls1.flatten i))) : DV (d_M_putBit_j102 ms (ii r) (ii k)) (fun m' => MR (m'.1 14) r (if 2 * low < l1.length then halv ls1 k else ls1) ∧ MF r ms m') := by
  have kk := at_lt hk
  refine DV.of ?_
  unfold d_M_putBit_j102
  rw [show (2607 : Int32) = ii 2607 from ii_lit 2607, ii_add]
  refine d_eA (N := 6062) rfl (n := 2607 + r) (by omega) e1 ?_
  rw [il_1, ii_add]
  refine d_sA (N := 6062) rfl (n := 2607 + r) (by omega) ?_
  refine d_bIe m_leafAt ?_
  refine d_eA (N := 6062) rfl (n := 2816 + 151 * r + k) (v := ii ((l1.length : Int) - 1)) (by omega) (by rw [ms_ne (by omega), e3 k (by omega), if_pos rfl, szs_at hk]) ?_
  rw [ii_add]
  refine d_sA (N := 6062) rfl (n := 2816 + 151 * r + k) (by omega) ?_
  have x1 : ((l1.length : Int) - 1 + 1) = (l1.length : Int) := by omega
  have x2 : ((ls1.flatten.length : Int) - 1 + 1) = (ls1.flatten.length : Int) := by omega
  rw [x1, x2]
  have M : MR ((mset (mset ms 14 (2607 + r) (ii ls1.flatten.length)) 14 (2816 + 151 * r + k) (ii l1.length)).1 14) r ls1 := by
    refine ⟨?_, ?_, fun j hj => ?_, fun i hi => ?_⟩
    · rw [ms_ne (by omega), ms_eq]
    · rw [ms_ne (by omega), ms_ne (by omega)]; exact e2
    · by_cases c : j = k
      · rw [c, ms_eq, szs_at hk]
      · rw [ms_ne (by omega), ms_ne (by omega), e3 j hj, if_neg c]
    · rw [ms_ne (by omega), ms_ne (by omega)]; exact e4 i hi
  have F : MF r ms (mset (mset ms 14 (2607 + r) (ii ls1.flatten.length)) 14 (2816 + 151 * r + k) (ii l1.length)) := (MF.set (by unfold rIx; omega)).trans (MF.set (by unfold rIx; omega))
  have l1' : (mset (mset ms 14 (2607 + r) (ii ls1.flatten.length)) 14 (2816 + 151 * r + k) (ii l1.length)).1 14 1 = ii low := by rw [ms_ne (by omega), ms_ne (by omega)]; exact hlow
  generalize mset (mset ms 14 (2607 + r) (ii ls1.flatten.length)) 14 (2816 + 151 * r + k) (ii l1.length) = m2 at *
  refine d_bIe m_leafAt ?_
  refine d_eA (N := 6062) rfl (n := 2816 + 151 * r + k) (by omega) (M.2.2.1 k (by omega)) ?_
  refine d_eA (N := 6062) rfl (n := 1) (by omega) l1' ?_
  rw [szs_at hk, il_2, ii_mul]
  by_cases c : 2 * low < l1.length
  · refine d_neg _ (ii_leF (by omega)) ?_
    rw [if_pos c]
    refine d_bV (m_split hr M hk h1 (by omega) (by omega)) fun m3 ⟨q1, q2⟩ => ?_
    exact d_dV ⟨rfl, q1, F.trans q2⟩
  · refine d_pos _ (ii_leT (by omega)) ?_
    rw [if_neg c]
    exact d_dV ⟨rfl, M, F⟩
theorem m_put_l18 {i : Nat} {b : Bool} (hr : r < 4) (hlb : LsB low ls) (hi : i ≤ ls.flatten.length) (hT : ls.flatten.length < 600) : ∀ (m fu j : Nat) (ms : MS), m < fu → j = i + m → j ≤ ls.flatten.length → ms.1 14 1 = ii low → ms.1 14 (2607 + r) = ii ls.flatten.length → ms.1 14 (2611 + r) = ii ls.length → (∀ k, k < 151 → ms.1 14 (2816 + 151 * r + k) = ii (szs ls k)) → (∀ x, x < ls.flatten.length + 1 → (x = j → x < ls.flatten.length) → ms.1 14 (3420 + 600 * r + x) = ii (bn (gb ls.flatten (if x ≤ j then x else x - 1)))) → DV (itr (d_M_putBit_l18) (fun _ _ _ _ _ _ => none) fu ms (ii r) (ii i) (ii (bn b)) (ii (3420 + 600 * r : Nat)) (ii j)) (fun m' => MR (m'.1 14) r (insL low i b ls) ∧ MF r ms m') := by
  have hN := hlb.len
  obtain ⟨k, ls1, l1, q1, q2, q3, q4, q5, q6, q7⟩ := insL_as (b := b) hlb hi
  have q5k := at_lt q5
  have il := insB_len (i := i) (b := b) (l := ls.flatten)
  intro m
  induction m with
  | zero =>
    intro fu j ms hf hj hj2 e0 e1 e2 e3 e4
    obtain ⟨fu, rfl⟩ : ∃ x, fu = x + 1 := ⟨fu - 1, by omega⟩
    have hji : j = i := by omega
    subst hji
    refine DV.of ?_
    rw [itr_succ]
    unfold d_M_putBit_l18
    refine d_pos _ (ii_leT (by omega)) ?_
    rw [ii_add]
    refine d_sA (N := 6062) rfl (n := 3420 + 600 * r + j) (by omega) ?_
    rw [show (2611 : Int32) = ii 2611 from ii_lit 2611, ii_add]
    refine d_eA (N := 6062) rfl (n := 2611 + r) (v := ii ls.length) (by omega) (by rw [ms_ne (by omega)]; exact e2) ?_
    have bits : ∀ x, x < ls1.flatten.length → (mset ms 14 (3420 + 600 * r + j) (ii (bn b))).1 14 (3420 + 600 * r + x) = ii (bn (gb ls1.flatten x)) := by
      intro x hx
      rw [q2] at hx ⊢
      rw [il] at hx
      have g : gb (insB j b ls.flatten) x = if x < j then gb ls.flatten x else if x = j then b else gb ls.flatten (x - 1) := by
        unfold gb
        rw [List.getD_eq_getElem?_getD, insB_at hi]
        by_cases c : x < j
        · rw [if_pos c, if_pos c, List.getD_eq_getElem?_getD]
        · rw [if_neg c, if_neg c]
          by_cases c2 : x = j
          · rw [if_pos c2, if_pos c2]; rfl
          · rw [if_neg c2, if_neg c2, List.getD_eq_getElem?_getD]
      rw [g]
      by_cases c : x = j
      · rw [c, ms_eq, if_neg (by omega), if_pos rfl]
      · rw [ms_ne (by omega), e4 x (by omega) (by omega)]
        by_cases c2 : x < j
        · rw [if_pos (by omega), if_pos c2]
        · rw [if_neg (by omega), if_neg c2, if_neg c]
    have fin : ∀ m4 : MS, m4.1 14 1 = ii low → m4.1 14 (2607 + r) = ii ls.flatten.length → m4.1 14 (2611 + r) = ii ls1.length → (∀ k, k < 151 → m4.1 14 (2816 + 151 * r + k) = ii (szs ls k)) → (∀ x, x < ls1.flatten.length → m4.1 14 (3420 + 600 * r + x) = ii (bn (gb ls1.flatten x))) → MF r ms m4 → DE (d_M_putBit_j86 m4 (ii r) (ii j)) (fun rr m' => rr = none ∧ MR (m'.1 14) r (insL low j b ls) ∧ MF r ms m') := by
      intro m4 f0 f1 f2 f3 f4 f5
      have j102 := m_put_j102 (ms := m4) (r := r) (low := low) (k := k) (ls1 := ls1) (l1 := l1) hr f0 hlb.1 (by omega) (by rw [q2, il]; omega) q5 q7 (by rw [f1, q2, il]; congr 1; omega) f2 (fun x hx => by
        rw [f3 x hx, q4 x]
        by_cases c : x = k
        · rw [if_pos c, if_pos c, c]; congr 1; omega
        · rw [if_neg c, if_neg c]) f4
      rw [← q6] at j102
      unfold d_M_putBit_j86
      by_cases c : j = 0
      · rw [if_pos c] at q1
        subst q1
        refine d_pos _ (by rw [c]; rfl) ?_
        rw [il_0]
        exact DE.ofV j102 fun m' ⟨a1, a2⟩ => ⟨rfl, a1, f5.trans a2⟩
      · rw [if_neg c] at q1
        refine d_neg _ (ii_eq0F (by omega)) ?_
        rw [il_1, ii_sub]
        have x1 : ((j : Int) - 1) = ((j - 1 : Nat) : Int) := by omega
        rw [x1]
        refine d_bIe (m_leafOf hr f3 hlb (by omega)) ?_
        rw [← q1]
        exact DE.ofV j102 fun m' ⟨a1, a2⟩ => ⟨rfl, a1, f5.trans a2⟩
    have F4 : MF r ms (mset ms 14 (3420 + 600 * r + j) (ii (bn b))) := MF.set (by unfold rIx; omega)
    by_cases c : ls.length = 0
    · refine d_pos _ (by rw [c]; rfl) ?_
      refine d_sA (N := 6062) rfl (n := 2611 + r) (by omega) ?_
      refine fin _ (by rw [ms_ne (by omega), ms_ne (by omega)]; exact e0) (by rw [ms_ne (by omega), ms_ne (by omega)]; exact e1) (by rw [ms_eq, q3, c]; rfl) (fun k hk => by rw [ms_ne (by omega), ms_ne (by omega)]; exact e3 k hk) (fun x hx => ?_) (F4.trans (MF.set (by unfold rIx; omega)))
      rw [q2, il] at hx
      rw [ms_ne (by omega)]
      exact bits x (by rw [q2, il]; omega)
    · refine d_neg _ (ii_eq0F (by omega)) ?_
      exact fin _ (by rw [ms_ne (by omega)]; exact e0) (by rw [ms_ne (by omega)]; exact e1) (by rw [ms_ne (by omega), e2, q3]; congr 1; omega) (fun k hk => by rw [ms_ne (by omega)]; exact e3 k hk) bits F4
  | succ m ih =>
    intro fu j ms hf hj hj2 e0 e1 e2 e3 e4
    obtain ⟨fu, rfl⟩ : ∃ x, fu = x + 1 := ⟨fu - 1, by omega⟩
    refine DV.of ?_
    rw [itr_succ]
    unfold d_M_putBit_l18
    refine d_neg _ (ii_leF (by omega)) ?_
    rw [ii_add, il_1, ii_sub]
    refine d_eA (N := 6062) rfl (n := 3420 + 600 * r + (j - 1)) (by omega) (e4 (j - 1) (by omega) (by omega)) ?_
    refine d_sA (N := 6062) rfl (n := 3420 + 600 * r + j) (by omega) ?_
    rw [ii_neg, ii_add]
    have x2 : ((j : Int) + -1) = ((j - 1 : Nat) : Int) := by omega
    rw [x2, if_pos (by omega)]
    refine DE.ofV (ih fu (j - 1) _ (by omega) (by omega) (by omega) (by rw [ms_ne (by omega)]; exact e0) (by rw [ms_ne (by omega)]; exact e1) (by rw [ms_ne (by omega)]; exact e2) (fun k hk => by rw [ms_ne (by omega)]; exact e3 k hk) (fun x hx hxj => ?_)) fun m' ⟨a1, a2⟩ => ⟨rfl, a1, (MF.set (by unfold rIx; omega)).trans a2⟩
    by_cases c : x = j
    · rw [c, ms_eq, if_neg (by omega)]
    · rw [ms_ne (by omega), e4 x hx (fun q => absurd q c)]
      by_cases c2 : x ≤ j - 1
      · rw [if_pos c2, if_pos (by omega)]
      · rw [if_neg c2, if_neg (by omega)]
theorem m_putBit {i : Nat} {b : Bool} (hr : r < 4) (M : MR (ms.1 14) r ls) (hlow : ms.1 14 1 = ii low) (hlb : LsB low ls) (hi : i ≤ ls.flatten.length) (hT : ls.flatten.length < 600) : DV (d_M_putBit ms (ii r) (ii i) (ii (bn b))) (fun m' => MR (m'.1 14) r (insL low i b ls) ∧ MF r ms m') := by
  refine DV.of ?_
  unfold d_M_putBit
  rw [show (3420 : Int32) = ii 3420 from ii_lit 3420, il_600, ii_mul, ii_add]
  refine d_nm ?_
  refine d_bIe (m_sizeOf M hr) ?_
  have x1 : ((3420 : Int) + 600 * (r : Int)) = ((3420 + 600 * r : Nat) : Int) := by omega
  rw [x1]
  refine DE.ofV (m_put_l18 hr hlb hi hT (ls.flatten.length - i) FU ls.flatten.length ms (by unfold FU; omega) (by omega) (Nat.le_refl _) hlow M.1 M.2.1 M.2.2.1 (fun x hx hxj => ?_)) fun m' q => ⟨rfl, q⟩
  rw [if_pos (by omega)]
  exact M.2.2.2 x (by omega)
end
