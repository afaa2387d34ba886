/-! PURE SIDE: the model: deeds -/
set_option maxRecDepth 100000
def IV (low : Nat) (A : Nat → LL) : Prop := ∀ r, r < 4 → LsB low (A r)
theorem IV.up {low r : Nat} {A : Nat → LL} {l : LL} (I : IV low A) (h : LsB low l) : IV low (va_up A r l) := fun q hq => by
  by_cases c : q = r
  · rw [c, up_at]; exact h
  · rw [va_up_ne _ _ c]; exact I q hq
theorem IV.len {low : Nat} {A : Nat → LL} (I : IV low A) : ∀ r, r < 4 → (A r).flatten.length ≤ 600 := fun r hr => (I r hr).2.1
theorem ls_nil {low : Nat} {ls : LL} (B : LsB low ls) (h : ls.flatten = []) : ls = [] := by
  cases ls with
  | nil => rfl
  | cons l ls =>
    have := (B.leaf (List.mem_cons_self ..)).1
    rw [List.flatten_cons] at h
    have h2 : l.length + ls.flatten.length = 0 := by
      have h3 := congrArg List.length h
      rw [List.length_append] at h3
      exact h3
    omega
theorem szs_congr {ls ls' : LL} (h : ls'.map List.length = ls.map List.length) (k : Nat) : szs ls' k = szs ls k := by
  unfold szs
  rw [List.getD_eq_getElem?_getD, List.getD_eq_getElem?_getD]
  have e := congrArg (fun l : List Nat => l[k]?) h
  simp only [List.getElem?_map] at e
  cases h1 : ls'[k]? <;> cases h2 : ls[k]?
  · rfl
  · rw [h1, h2] at e; cases e
  · rw [h1, h2] at e; cases e
  · rw [h1, h2] at e; injection e
section
variable {ms ms' : MS} {low rows r : Nat} {A : Nat → LL} {T : List Nat}
theorem m_cut_l75 {i n : Nat} (hr : r < 4) (hi : i ≤ 1000) (hn : n ≤ 600) : ∀ (m fu k : Nat) (ms : MS) (A : Nat → LL), m < fu → k + m = n → MO (ms.1 14) low rows A T → IV low A → i + m ≤ (A r).flatten.length → DV (itr (d_M_live_l75) (fun _ _ _ _ _ => none) fu ms (ii r) (ii i) (ii n) (ii k)) (fun m' => MO (m'.1 14) low rows (va_up A r (remN low i m (A r))) T ∧ GM ms m') := by
  intro m
  induction m with
  | zero =>
    intro fu k ms A hf hk M I hl
    obtain ⟨fu, rfl⟩ : ∃ x, fu = x + 1 := ⟨fu - 1, by omega⟩
    refine DV.of ?_
    rw [itr_succ]
    unfold d_M_live_l75
    refine d_pos _ (ii_leT (by omega)) ?_
    refine d_dV ⟨rfl, ?_, GM.rf⟩
    show MO _ _ _ (va_up A r (A r)) T
    rw [va_up_same]; exact M
  | succ m ih =>
    intro fu k ms A hf hk M I hl
    obtain ⟨fu, rfl⟩ : ∃ x, fu = x + 1 := ⟨fu - 1, by omega⟩
    refine DV.of ?_
    rw [itr_succ]
    unfold d_M_live_l75
    refine d_neg _ (ii_leF (by omega)) ?_
    have hp : ∀ l, l ∈ A r → 1 ≤ l.length := fun l hl => ((I r hr).leaf hl).1
    have e1 := remL_fl (low := low) (i := i) (ls := A r) (by omega) hp
    have e2 := remB_len (i := i) (l := (A r).flatten) (by omega)
    refine d_bV (m_takeBit hr (M.2.2.1 r hr) M.2.1 (I r hr) (by omega)) fun m1 ⟨q1, q2⟩ => ?_
    rw [il_1, ii_add]
    refine DE.ofV (ih fu (k + 1) m1 _ (by omega) (by omega) (M.row I.len hr q2 q1) (I.up (remL_ok (I r hr) (by omega))) (by rw [up_at, e1]; omega)) fun m' ⟨a1, a2⟩ => ⟨rfl, ?_, (q2.gm hr).trans a2⟩
    rw [up_at, up_up] at a1
    exact a1
theorem m_mov_l47 {i n : Nat} (hr : r < 4) (hi : i ≤ 1000) (hn : n ≤ 600) : ∀ (m fu k : Nat) (ms : MS) (A : Nat → LL), m < fu → k + m = n → MO (ms.1 14) low rows A T → IV low A → i + m ≤ (A r).flatten.length → DV (itr (d_M_moves_l47) (fun _ _ _ _ _ => none) fu ms (ii r) (ii i) (ii n) (ii k)) (fun m' => MO (m'.1 14) low rows (va_up A r (remN low i m (A r))) T ∧ GM ms m') := by
  intro m
  induction m with
  | zero =>
    intro fu k ms A hf hk M I hl
    obtain ⟨fu, rfl⟩ : ∃ x, fu = x + 1 := ⟨fu - 1, by omega⟩
    refine DV.of ?_
    rw [itr_succ]
    unfold d_M_moves_l47
    refine d_pos _ (ii_leT (by omega)) ?_
    refine d_dV ⟨rfl, ?_, GM.rf⟩
    show MO _ _ _ (va_up A r (A r)) T
    rw [va_up_same]; exact M
  | succ m ih =>
    intro fu k ms A hf hk M I hl
    obtain ⟨fu, rfl⟩ : ∃ x, fu = x + 1 := ⟨fu - 1, by omega⟩
    refine DV.of ?_
    rw [itr_succ]
    unfold d_M_moves_l47
    refine d_neg _ (ii_leF (by omega)) ?_
    have hp : ∀ l, l ∈ A r → 1 ≤ l.length := fun l hl => ((I r hr).leaf hl).1
    have e1 := remL_fl (low := low) (i := i) (ls := A r) (by omega) hp
    have e2 := remB_len (i := i) (l := (A r).flatten) (by omega)
    refine d_bV (m_takeBit hr (M.2.2.1 r hr) M.2.1 (I r hr) (by omega)) fun m1 ⟨q1, q2⟩ => ?_
    rw [il_1, ii_add]
    refine DE.ofV (ih fu (k + 1) m1 _ (by omega) (by omega) (M.row I.len hr q2 q1) (I.up (remL_ok (I r hr) (by omega))) (by rw [up_at, e1]; omega)) fun m' ⟨a1, a2⟩ => ⟨rfl, ?_, (q2.gm hr).trans a2⟩
    rw [up_at, up_up] at a1
    exact a1
theorem m_mov_l12 {i n s : Nat} {F : List Bool} (hr : r < 4) (hs : s < 4) (hrs : s ≠ r) (hi : i ≤ 1000) (hn : n ≤ 600) (hF : i + n = F.length) : ∀ (m fu k : Nat) (ms : MS) (A : Nat → LL), m < fu → k + m = n → MO (ms.1 14) low rows A T → IV low A → (A r).flatten = F → (A s).flatten.length + m ≤ 600 → DV (itr (d_M_moves_l12) (fun _ _ _ _ _ _ => none) fu ms (ii r) (ii i) (ii s) (ii n) (ii k)) (fun m' => MO (m'.1 14) low rows (va_up (va_up A s (appL low (F.drop (i + k)) (A s))) r (remN low i n (A r))) T ∧ GM ms m') := by
  intro m
  induction m with
  | zero =>
    intro fu k ms A hf hk M I hA hl
    obtain ⟨fu, rfl⟩ : ∃ x, fu = x + 1 := ⟨fu - 1, by omega⟩
    refine DV.of ?_
    rw [itr_succ]
    unfold d_M_moves_l12
    refine d_pos _ (ii_leT (by omega)) ?_
    refine DE.ofV (m_mov_l47 hr hi hn n FU 0 ms A (by unfold FU; omega) (by omega) M I (by rw [hA]; omega)) fun m' ⟨a1, a2⟩ => ⟨rfl, ?_, a2⟩
    rw [List.drop_of_length_le (by omega)]
    show MO _ _ _ (va_up (va_up A s (A s)) r _) T
    rw [va_up_same]
    exact a1
  | succ m ih =>
    intro fu k ms A hf hk M I hA hl
    obtain ⟨fu, rfl⟩ : ∃ x, fu = x + 1 := ⟨fu - 1, by omega⟩
    refine DV.of ?_
    rw [itr_succ]
    unfold d_M_moves_l12
    refine d_neg _ (ii_leF (by omega)) ?_
    refine d_bIe (m_sizeOf (M.2.2.1 s hs) hs) ?_
    rw [ii_add]
    have x1 : ((i : Int) + k) = ((i + k : Nat) : Int) := by omega
    rw [x1]
    refine d_bIe (m_bitOf (M.2.2.1 r hr) hr (I.len r hr) (by rw [hA]; omega)) ?_
    rw [hA]
    refine d_bV (m_putBit hs (M.2.2.1 s hs) M.2.1 (I s hs) (Nat.le_refl _) (by omega)) fun m1 ⟨q1, q2⟩ => ?_
    rw [il_1, ii_add]
    have hp : ∀ l, l ∈ A s → 1 ≤ l.length := fun l hl => ((I s hs).leaf hl).1
    have f1 := insL_fl (low := low) (b := gb F (i + k)) (Nat.le_refl (A s).flatten.length) hp
    have f2 := insB_len (i := (A s).flatten.length) (b := gb F (i + k)) (l := (A s).flatten)
    have eA : va_up A s (insL low (A s).flatten.length (gb F (i + k)) (A s)) r = A r := va_up_ne _ _ (Ne.symm hrs)
    refine DE.ofV (ih fu (k + 1) m1 _ (by omega) (by omega) (M.row I.len hs q2 q1) (I.up (insL_ok (I s hs) (Nat.le_refl _) (by omega))) (by rw [eA]; exact hA) (by rw [up_at, f1]; omega)) fun m' ⟨a1, a2⟩ => ⟨rfl, ?_, (q2.gm hs).trans a2⟩
    rw [up_at, up_up, eA] at a1
    rw [drop_gb (by omega)]
    exact a1
theorem m_moves {i s : Nat} (hr : r < 4) (hs : s < 4) (hrs : s ≠ r) (M : MO (ms.1 14) low rows A T) (I : IV low A) (hi : i ≤ (A r).flatten.length) (hl : (A s).flatten.length + (A r).flatten.length - i ≤ 600) : DV (d_M_moves ms (ii r) (ii i) (ii s)) (fun m' => MO (m'.1 14) low rows (va_up (va_up A s (appL low ((A r).flatten.drop i) (A s))) r (remN low i ((A r).flatten.length - i) (A r))) T ∧ GM ms m') := by
  have bl := I.len r hr
  refine DV.of ?_
  unfold d_M_moves
  refine d_bIe (m_sizeOf (M.2.2.1 r hr) hr) ?_
  rw [ii_sub]
  have x1 : (((A r).flatten.length : Int) - i) = (((A r).flatten.length - i : Nat) : Int) := by omega
  rw [x1, il_0]
  refine d_nm ?_
  exact DE.ofV (m_mov_l12 (F := (A r).flatten) hr hs hrs (by omega) (by omega) (by omega) ((A r).flatten.length - i) FU 0 ms A (by unfold FU; omega) (by omega) M I rfl (by omega)) fun m' ⟨a1, a2⟩ => ⟨rfl, a1, a2⟩
theorem gb_flp {l : List Bool} {f t x : Nat} (h : x < l.length) : gb (flp f t l) x = if f ≤ x ∧ x < t then !(gb l x) else gb l x := by
  unfold gb
  rw [List.getD_eq_getElem?_getD, flp_at, List.getD_eq_getElem?_getD, List.getElem?_eq_getElem h]
  rfl
theorem m_turn_l98 {i n : Nat} {ls : LL} (hr : r < 4) (hT : ls.flatten.length ≤ 600) (hin : i + n ≤ ls.flatten.length) : ∀ (m fu j : Nat) (ms : MS), m < fu → j + m = i + n → i ≤ j → ms.1 14 (2607 + r) = ii ls.flatten.length → ms.1 14 (2611 + r) = ii ls.length → (∀ k, k < 151 → ms.1 14 (2816 + 151 * r + k) = ii (szs ls k)) → (∀ x, x < ls.flatten.length → ms.1 14 (3420 + 600 * r + x) = ii (bn (gb (flp i j ls.flatten) x))) → DV (itr (d_M_live_l98) (fun _ _ _ _ _ => none) fu ms (ii r) (ii i) (ii n) (ii j)) (fun m' => MR (m'.1 14) r (flL ls i (i + n)) ∧ MF r ms m') := by
  have hle := len_eq (flL_len (ls := ls) (f := i) (t := i + n))
  intro m
  induction m with
  | zero =>
    intro fu j ms hf hj hij e1 e2 e3 e4
    obtain ⟨fu, rfl⟩ : ∃ x, fu = x + 1 := ⟨fu - 1, by omega⟩
    refine DV.of ?_
    rw [itr_succ]
    unfold d_M_live_l98
    rw [ii_add]
    refine d_pos _ (ii_leT (by omega)) ?_
    have ej : j = i + n := by omega
    refine d_dV ⟨rfl, ⟨by rw [hle.2]; exact e1, by rw [hle.1]; exact e2, fun k hk => by rw [szs_congr flL_len]; exact e3 k hk, fun x hx => ?_⟩, MF.rf⟩
    rw [hle.2] at hx
    rw [e4 x hx, flL_fl, ej]
  | succ m ih =>
    intro fu j ms hf hj hij e1 e2 e3 e4
    obtain ⟨fu, rfl⟩ : ∃ x, fu = x + 1 := ⟨fu - 1, by omega⟩
    refine DV.of ?_
    rw [itr_succ]
    unfold d_M_live_l98
    rw [ii_add]
    refine d_neg _ (ii_leF (by omega)) ?_
    have bo : d_M_bitOf ms (ii r) (ii j) = dI (ii (bn (gb ls.flatten j))) ms := by
      refine dEqI ?_
      unfold d_M_bitOf
      rw [show (3420 : Int32) = ii 3420 from ii_lit 3420, il_600, ii_mul, ii_add, ii_add]
      refine d_eA (N := 6062) rfl (n := 3420 + 600 * r + j) (by omega) (e4 j (by omega)) ?_
      rw [gb_flp (by omega), if_neg (by omega)]
      exact d_dI ⟨rfl, rfl⟩
    refine d_bIe bo ?_
    rw [show (3420 : Int32) = ii 3420 from ii_lit 3420, il_600, ii_mul, ii_add, ii_add, il_1, ii_sub, bn_not, ii_add]
    refine d_sA (N := 6062) rfl (n := 3420 + 600 * r + j) (by omega) ?_
    have x1 : ((j : Int) + 1) = ((j + 1 : Nat) : Int) := by omega
    rw [x1]
    refine DE.ofV (ih fu (j + 1) _ (by omega) (by omega) (by omega) (by rw [ms_ne (by omega)]; exact e1) (by rw [ms_ne (by omega)]; exact e2) (fun k hk => by rw [ms_ne (by omega)]; exact e3 k hk) (fun x hx => ?_)) fun m' ⟨a1, a2⟩ => ⟨rfl, a1, (MF.set (by unfold rIx; omega)).trans a2⟩
    by_cases c : x = j
    · rw [c, ms_eq, gb_flp (by omega), if_pos (by omega)]
    · rw [ms_ne (by omega), e4 x hx, gb_flp hx, gb_flp hx]
      by_cases c2 : i ≤ x ∧ x < j
      · rw [if_pos c2, if_pos (by omega)]
      · rw [if_neg c2, if_neg (by omega)]
theorem gb_set {l : List Bool} {i x : Nat} {v : Bool} (h : i < l.length) : gb (l.set i v) x = if x = i then v else gb l x := by
  unfold gb
  rw [List.getD_eq_getElem?_getD, List.getElem?_set, List.getD_eq_getElem?_getD]
  by_cases c : i = x
  · subst c
    rw [if_pos rfl, if_pos h, if_pos rfl]; rfl
  · rw [if_neg c, if_neg (fun q => c q.symm)]
/-- a deed on rows -/
theorem m_live {what i x : Nat} (M : MO (ms.1 14) low rows A T) (I : IV low A) (hw : what ≤ 5) (hr : r < 4) (hi : i ≤ 1000) (hx : x ≤ 600) (hy : why A what r i x = 0) (hb : what ≤ 1 → x ≤ 1) (hx4 : 4 ≤ what → x < 4 ∧ x ≠ r) : DV (d_M_live ms (ii what) (ii r) (ii i) (ii x)) (fun m' => MO (m'.1 14) low rows (doA low A what r i x) T ∧ IV low (doA low A what r i x) ∧ GM ms m') := by
  have br := I.len r hr
  have Mr := M.2.2.1 r hr
  refine DV.of ?_
  unfold d_M_live
  match what, hw with
  | 0, _ =>
    have hb := hb (by decide)
    simp only [why] at hy
    have c1 : ¬ (A r).flatten.length < i := fun q => by rw [if_pos q] at hy; cases hy
    have c2 : ¬ (A r).flatten.length = 600 := fun q => by rw [if_neg c1, if_pos q] at hy; cases hy
    refine d_pos _ rfl ?_
    rw [bit_x hb]
    refine d_bV (m_putBit hr Mr M.2.1 (I r hr) (by omega) (by omega)) fun m1 ⟨q1, q2⟩ => ?_
    exact d_dV ⟨rfl, M.row I.len hr q2 q1, I.up (insL_ok (I r hr) (by omega) (by omega)), q2.gm hr⟩
  | 1, _ =>
    have hb := hb (by decide)
    simp only [why] at hy
    have c1 : ¬ (A r).flatten.length ≤ i := fun q => by rw [if_pos q] at hy; cases hy
    have hle := len_eq (setL_len (v := (x == 1)) (ls := A r) (i := i))
    refine d_neg _ (by decide) ?_
    refine d_pos _ rfl ?_
    rw [bit_x hb, show (3420 : Int32) = ii 3420 from ii_lit 3420, il_600, ii_mul, ii_add, ii_add]
    refine d_sA (N := 6062) rfl (n := 3420 + 600 * r + i) (by omega) ?_
    have F : MF r ms (mset ms 14 (3420 + 600 * r + i) (ii (bn (x == 1)))) := MF.set (by unfold rIx; omega)
    refine d_dV ⟨rfl, M.row I.len hr F ⟨by rw [ms_ne (by omega), hle.2]; exact Mr.1, by rw [ms_ne (by omega), hle.1]; exact Mr.2.1, fun k hk => by rw [ms_ne (by omega), szs_congr setL_len]; exact Mr.2.2.1 k hk, fun y hy => ?_⟩, I.up ((I r hr).congr setL_len), F.gm hr⟩
    rw [hle.2] at hy
    rw [setL_fl, gb_set (by omega)]
    by_cases c : y = i
    · rw [c, ms_eq, if_pos rfl]
    · rw [ms_ne (by omega), if_neg c]; exact Mr.2.2.2 y hy
  | 2, _ =>
    simp only [why] at hy
    have c1 : ¬ (A r).flatten.length < i + x := fun q => by rw [if_pos q] at hy; cases hy
    refine d_neg _ (by decide) ?_
    refine d_neg _ (by decide) ?_
    refine d_pos _ rfl ?_
    rw [il_0]
    exact DE.ofV (m_cut_l75 hr hi hx x FU 0 ms A (by unfold FU; omega) (by omega) M I (by omega)) fun m' ⟨a1, a2⟩ => ⟨rfl, a1, I.up (remN_ok (I r hr) (by omega)).1, a2⟩
  | 3, _ =>
    simp only [why] at hy
    have c1 : ¬ (A r).flatten.length < i + x := fun q => by rw [if_pos q] at hy; cases hy
    refine d_neg _ (by decide) ?_
    refine d_neg _ (by decide) ?_
    refine d_neg _ (by decide) ?_
    refine d_pos _ rfl ?_
    exact DE.ofV (m_turn_l98 hr br (by omega) x FU i ms (by unfold FU; omega) (by omega) (Nat.le_refl _) Mr.1 Mr.2.1 Mr.2.2.1 (fun y hy => by rw [flp_none (Nat.le_refl _)]; exact Mr.2.2.2 y hy)) fun m' ⟨a1, a2⟩ => ⟨rfl, M.row I.len hr a2 a1, I.up ((I r hr).congr flL_len), a2.gm hr⟩
  | 4, _ =>
    obtain ⟨hx4, hxr⟩ := hx4 (by decide)
    have bx := I.len x hx4
    simp only [why] at hy
    have c1 : ¬ (A x).flatten.length = 0 := fun q => by rw [if_pos q] at hy; cases hy
    have c2 : ¬ 600 < (A r).flatten.length + (A x).flatten.length := fun q => by rw [if_neg c1, if_pos q] at hy; cases hy
    refine d_neg _ (by decide) ?_
    refine d_neg _ (by decide) ?_
    refine d_neg _ (by decide) ?_
    refine d_neg _ (by decide) ?_
    refine d_pos _ rfl ?_
    rw [il_0]
    refine d_bV (m_moves (i := 0) hx4 hr (Ne.symm hxr) M I (Nat.zero_le _) (by omega)) fun m1 ⟨q1, q2⟩ => ?_
    obtain ⟨r1, r2⟩ := remN_ok (i := 0) (n := (A x).flatten.length - 0) (I x hx4) (by omega)
    have e0 : remN low 0 ((A x).flatten.length - 0) (A x) = [] := ls_nil r1 (by rw [r2, List.drop_of_length_le (by omega)]; rfl)
    rw [e0, List.drop_zero] at q1
    refine d_dV ⟨rfl, q1, (I.up ?_).up (LsB.nil (I r hr).1), q2⟩
    exact (appL_ok (I r hr) (by omega)).1
  | 5, _ =>
    obtain ⟨hx4, hxr⟩ := hx4 (by decide)
    have bx := I.len x hx4
    simp only [why] at hy
    have c1 : ¬ (A r).flatten.length ≤ i := fun q => by rw [if_pos q] at hy; cases hy
    have c2 : ¬ 600 < (A x).flatten.length + (A r).flatten.length - i := fun q => by rw [if_neg c1, if_pos q] at hy; cases hy
    refine d_neg _ (by decide) ?_
    refine d_neg _ (by decide) ?_
    refine d_neg _ (by decide) ?_
    refine d_neg _ (by decide) ?_
    refine d_neg _ (by decide) ?_
    refine d_pos _ rfl ?_
    refine d_bV (m_moves hr hx4 hxr M I (by omega) (by omega)) fun m1 ⟨q1, q2⟩ => ?_
    refine d_dV ⟨rfl, q1, (I.up ?_).up (remN_ok (I r hr) (by omega)).1, q2⟩
    exact (appL_ok (I x hx4) (by rw [List.length_drop]; omega)).1
end
