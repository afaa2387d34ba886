/-! PURE SIDE: books: what is read, by the model -/
set_option maxRecDepth 100000
def bkE (f : Nat → Nat) (n : Nat) (r : BL) : BL := match r with
  | .inl e => .inl e
  | .inr (d, t') => if isSg f t' 59 = false then .inl (1, t'.at_) else .inr (d, nx f n 400 t')
abbrev gbF : List Nat := [5, 6, 7, 8, 9, 13, 30, 32]
abbrev gcF : List Nat := [5, 6, 7, 8, 9, 10, 11, 13, 30, 32]
def GC (m0 ms : MS) : Prop := (∀ k, k ∉ gcF → ms.1 k = m0.1 k) ∧ ∀ k, k ≠ 12 → ms.2 k = m0.2 k
def GB (m0 ms : MS) : Prop := (∀ k, k ∉ gbF → ms.1 k = m0.1 k) ∧ ∀ k, k ≠ 12 → ms.2 k = m0.2 k
/-- lines as the model has them -/
def LnR (ms : MS) (ds : List DD) : Prop := ∀ (j : Nat) (d : DD), ds[j]? = some d → ms.1 30 (4 * j) = ii d.1 ∧ ms.1 30 (4 * j + 1) = ii d.2.1 ∧ ms.1 30 (4 * j + 2) = ii d.2.2.1 ∧ ms.1 30 (4 * j + 3) = ii d.2.2.2
/-- while a book is read by the model -/
def LI (m0 : MS) (f : Nat → Nat) (n : Nat) (ds : List DD) (t : Tk) (ms : MS) : Prop := GB m0 ms ∧ LnR ms ds ∧ MkV f t ms ∧ MB ms f n 400 ∧ TkOk f n t ∧ ms.1 32 0 = ii ds.length
/-- a fault, as the model leaves it -/
def FT (m0 : MS) (k pl : Nat) (ms : MS) : Prop := GC m0 ms ∧ ms.1 10 0 = ii k ∧ ms.1 11 0 = ii pl
section
variable {m0 ms ms' : MS} {f : Nat → Nat} {n : Nat} {ds : List DD} {t : Tk} {Z : Option Value → MS → Prop} {nm : Nat → List Nat} {m : Nat}
theorem GB.set {k i : Nat} {v : Int32} (G : GB m0 ms) (hk : k ∈ gbF) : GB m0 (mset ms k i v) := ⟨fun j hj => (ms_nk fun q => hj (by rw [q]; exact hk)).trans (G.1 j hj), G.2⟩
theorem GB.gp (G : GB m0 ms) (o : GP ms ms') : GB m0 ms' := ⟨fun k hk => (o.1 k (fun q => hk ((by decide : ∀ k, k ∈ gpF → k ∈ gbF) k q))).trans (G.1 k hk), fun k hk => (o.2 k hk).trans (G.2 k hk)⟩
theorem LnR.up {i : Nat} {v : Int32} (L : LnR ms ds) (hi : 4 * ds.length ≤ i) : LnR (mset ms 30 i v) ds := fun j d hj => by
  have hl := (List.getElem?_eq_some_iff.mp hj).1
  rw [ms_ne (by omega), ms_ne (by omega), ms_ne (by omega), ms_ne (by omega)]
  exact L j d hj
theorem LnR.cg (L : LnR ms ds) (e : ms'.1 30 = ms.1 30) : LnR ms' ds := fun j d hj => by
  rw [e]; exact L j d hj
/-- a line's cell written -/
theorem LI.line {i : Nat} {v : Int32} (L : LI m0 f n ds t ms) (hi : 4 * ds.length ≤ i) : LI m0 f n ds t (mset ms 30 i v) := ⟨L.1.set (by decide), L.2.1.up hi, L.2.2.1.set (by decide), L.2.2.2.1.set (by decide), L.2.2.2.2.1, by rw [ms_nk (by decide)]; exact L.2.2.2.2.2⟩
theorem LI.told {v : Int32} (L : LI m0 f n ds t ms) : LI m0 f n ds t (mset ms 13 0 v) := ⟨L.1.set (by decide), L.2.1.cg (ms_nk (by decide)), L.2.2.1.set (by decide), L.2.2.2.1.set (by decide), L.2.2.2.2.1, by rw [ms_nk (by decide)]; exact L.2.2.2.2.2⟩
theorem LI.go {t' : Tk} (L : LI m0 f n ds t ms) (V : MkV f t' ms') (B : MB ms' f n 400) (o : GP ms ms') (T : TkOk f n t') : LI m0 f n ds t' ms' := ⟨L.1.gp o, L.2.1.cg (o.1 30 (by decide)), V, B, T, by rw [o.1 32 (by decide)]; exact L.2.2.2.2.2⟩
theorem LI.bad {k : Nat} (L : LI m0 f n ds t ms) (hk : k = 1 ∨ t.k ≠ 4) : FT m0 k t.at_ (bdm ms t k) := by
  refine ⟨⟨fun j hj => ?_, L.1.2⟩, ?_, ms_eq⟩
  · unfold bdm
    have h1 : j ≠ 11 := fun q => hj (by rw [q]; decide)
    have h2 : j ≠ 10 := fun q => hj (by rw [q]; decide)
    rw [ms_nk h1, ms_nk h2]
    exact L.1.1 j (fun q => hj ((by decide : ∀ k, k ∈ gbF → k ∈ gcF) j q))
  unfold bdm
  rw [ms_nk (by decide), ms_eq]
  by_cases c : t.k = 4
  · rw [if_pos c]
    rcases hk with q | q
    · rw [q]
    · exact absurd c q
  · rw [if_neg c]
theorem m_keep0 {x : Int32} : d_M_keep ms x (0 : Int32) = dI (0 : Int32) ms := by
  unfold d_M_keep
  rw [if_pos rfl]
  rfl
theorem m_keep1 {i : Nat} (hi : i < 160) : d_M_keep ms (ii i) (1 : Int32) = dI (1 : Int32) (mset ms 30 i (ms.1 13 0)) := by
  refine dEqI ?_
  unfold d_M_keep
  refine d_neg _ (by decide) ?_
  refine d_nm ?_
  refine d_sA (N := 160) rfl (n := i) (by omega) ?_
  exact d_dZ1 ⟨rfl, rfl⟩
/-- the end of a line -/
theorem s_lineEnd {d : DD} {r : BL} (L : LI m0 f n ds t ms) (er : r = .inr (d, t)) (kf : ∀ k pl, bkE f n r = .inl (k, pl) → ∀ m', FT m0 k pl m' → Z (some (.int 0)) m') (kk : ∀ d' t', bkE f n r = .inr (d', t') → ∀ m', d' = d → LI m0 f n ds t' m' → m'.1 30 = ms.1 30 → Z (some (.int 1)) m') : DE (bI (d_M_readEnd ms) fun v m => if v = 0 then dZ (0 : Int32) m else dZ (1 : Int32) m) Z := by
  subst er
  refine s_end L.2.2.1 L.2.2.2.1 L.2.2.2.2.1 (fun z => ?_) fun z m1 v1 b1 g1 t1 => ?_
  · refine d_pos _ rfl ?_
    exact d_dZ0 (kf 1 t.at_ (by show (if isSg f t 59 = false then _ else _) = _; rw [if_pos z]) _ (L.bad (Or.inl rfl)))
  · refine d_neg _ (by decide) ?_
    exact d_dZ1 (kk d (nx f n 400 t) (by show (if isSg f t 59 = false then _ else _) = _; rw [if_neg (by rw [z]; decide)]) _ rfl (L.go v1 b1 g1 t1) (g1.1 30 (by decide)))
/-- what comes last -/
theorem s_bkX {what r i : Nat} {W X : Int32} (L : LI m0 f n ds t ms) (hm : m ≤ 4) (h0 : m0.1 14 0 = ii m) (A : ∀ r, r < m → m0.2 20 r = ll (n27 (nm r)) ∧ okN (nm r)) (hw : what < 8) (hr : r ≤ 4) (hl : ds.length < 40) (eW : W = ii what) (eX : X = ii (4 * ds.length : Nat)) (l0 : ms.1 30 (4 * ds.length) = ii what) (l1 : ms.1 30 (4 * ds.length + 1) = ii r) (l2 : ms.1 30 (4 * ds.length + 2) = ii i) (kf : ∀ k pl, bkE f n (bkX f n nm m what r i t) = .inl (k, pl) → ∀ m', FT m0 k pl m' → Z (some (.int 0)) m') (kk : ∀ d t', bkE f n (bkX f n nm m what r i t) = .inr (d, t') → ∀ m', LI m0 f n ds t' m' → m'.1 30 (4 * ds.length) = ii d.1 → m'.1 30 (4 * ds.length + 1) = ii d.2.1 → m'.1 30 (4 * ds.length + 2) = ii d.2.2.1 → m'.1 30 (4 * ds.length + 3) = ii d.2.2.2 → Z (some (.int 1)) m') : DE (d_M_readBookLine_j137 ms W X) Z := by
  subst eW eX
  obtain ⟨G, Ln, V, B, T, n32⟩ := L
  have L : LI m0 f n ds t ms := ⟨G, Ln, V, B, T, n32⟩
  have e3 : ii ((4 * ds.length : Nat) : Int) + (3 : Int32) = ii ((4 * ds.length + 3 : Nat) : Int) := by rw [il_3, ii_add]; rfl
  have e1 : ii ((4 * ds.length : Nat) : Int) + (1 : Int32) = ii ((4 * ds.length + 1 : Nat) : Int) := by rw [il_1, ii_add]; rfl
  have hn14 : ms.1 14 0 = ii m := by rw [G.1 14 (by decide)]; exact h0
  have A' : ∀ r, r < m → ms.2 20 r = ll (n27 (nm r)) ∧ okN (nm r) := fun r hr => by rw [G.2 20 (by decide)]; exact A r hr
  have j147 : (what = 4 ∨ what = 5) → DE (d_M_readBookLine_j147 ms (ii (4 * ds.length : Nat))) Z := by
    intro w
    have ex : bkX f n nm m what r i t = (if nmOk f t = false then .inl (1, t.at_) else if ofN nm (seg f t.at_ t.p) m 0 = -1 ∨ ofN nm (seg f t.at_ t.p) m 0 = r then .inl (3, t.at_) else .inr ((what, r, i, (ofN nm (seg f t.at_ t.p) m 0).toNat), nx f n 400 t)) := by
      unfold bkX
      rw [if_pos w]
    have ot : DE (d_M_readOther ms (ii (4 * ds.length : Nat))) (fun rr m1 => (rr = some (.int 0) ∧ ∃ k pl, bkE f n (bkX f n nm m what r i t) = .inl (k, pl) ∧ FT m0 k pl m1) ∨ (rr = some (.int 1) ∧ ∃ s : Nat, bkX f n nm m what r i t = .inr ((what, r, i, s), nx f n 400 t) ∧ LI m0 f n ds (nx f n 400 t) m1 ∧ m1.1 30 = (mset ms 30 (4 * ds.length + 3) (ii s)).1 30)) := by
      unfold d_M_readOther
      refine d_bIe (m_isName V T) ?_
      cases hnm : nmOk f t with
      | false =>
        refine d_pos _ rfl ?_
        refine d_bIe (m_bad (k := 1) V T rfl) ?_
        exact d_dZ0 (Or.inl ⟨rfl, 1, t.at_, by rw [ex, if_pos hnm]; rfl, L.bad (Or.inl rfl)⟩)
      | true =>
        have k1 := nmOk_k hnm
        refine d_neg _ bn1_ne ?_
        refine d_eA (z := 0) (N := 6062) rfl (n := 0) (by omega) hn14 ?_
        refine d_nm ?_
        refine d_bIe (m_findIn (Or.inl rfl) hm A' (T.2.1 k1).1 (V.2.2.2.1 k1) rfl) ?_
        rw [e3]
        refine d_sA (N := 160) rfl (n := 4 * ds.length + 3) (by omega) ?_
        refine d_eA (N := 160) rfl (n := 4 * ds.length + 3) (by omega) ms_eq ?_
        rw [mi1]
        have L3 := L.line (i := 4 * ds.length + 3) (v := ii (ofN nm (seg f t.at_ t.p) m 0)) (by omega)
        rcases ofN_le (nm := nm) (l := seg f t.at_ t.p) m 0 with c | ⟨s, c1, c2⟩
        · refine d_pos _ (by rw [c]) ?_
          refine d_bIe (m_bad (k := 3) L3.2.2.1 T rfl) ?_
          exact d_dZ0 (Or.inl ⟨rfl, 3, t.at_, by rw [ex, if_neg (by rw [hnm]; decide), if_pos (Or.inl c)]; rfl, L3.bad (Or.inr (by omega))⟩)
        · rw [c1] at L3 ⊢
          refine d_neg _ (ii_eqF (by omega)) ?_
          refine d_eA (N := 160) rfl (n := 4 * ds.length + 3) (by omega) ms_eq ?_
          rw [e1]
          refine d_eA (N := 160) rfl (n := 4 * ds.length + 1) (by omega) ((ms_ne (by omega)).trans l1) ?_
          by_cases cs : s = r
          · refine d_pos _ (by rw [cs]) ?_
            refine d_bIe (m_bad (k := 3) L3.2.2.1 T rfl) ?_
            exact d_dZ0 (Or.inl ⟨rfl, 3, t.at_, by rw [ex, if_neg (by rw [hnm]; decide), if_pos (Or.inr (by omega))]; rfl, L3.bad (Or.inr (by omega))⟩)
          · refine d_neg _ (ii_eqF (by omega)) ?_
            refine s_go L3.2.2.1 L3.2.2.2.1 T fun m1 v1 b1 g1 t1 => ?_
            exact d_dZ1 (Or.inr ⟨rfl, s, by rw [ex, if_neg (by rw [hnm]; decide), if_neg (by omega), c1]; rfl, L3.go v1 b1 g1 t1, g1.1 30 (by decide)⟩)
    obtain ⟨rr, m1, o1, o2⟩ := ot
    unfold d_M_readBookLine_j147
    rcases o2 with ⟨q1, k, pl, q2, q3⟩ | ⟨q1, s, q2, q3, q4⟩
    · subst q1
      refine d_bIe o1 ?_
      refine d_pos _ rfl ?_
      exact d_dZ0 (kf k pl q2 m1 q3)
    · subst q1
      refine d_bIe o1 ?_
      refine d_neg _ (by decide) ?_
      refine s_lineEnd q3 q2 kf fun d' t' eB m' ed L' e30 => ?_
      subst ed
      refine kk _ t' eB m' L' ?_ ?_ ?_ ?_
      · rw [e30, q4, ms_ne (by omega)]; exact l0
      · rw [e30, q4, ms_ne (by omega)]; exact l1
      · rw [e30, q4, ms_ne (by omega)]; exact l2
      · rw [e30, q4, ms_eq]
  have num : ∀ {lo' hi' : Int32}, ¬ (what = 4 ∨ what = 5) → lo' = ii (bkLo what) → hi' = ii (bkHi what) → DE (bI (d_M_readNumber ms lo' hi') fun v m => d_M_readBookLine_j226 m v (ii ((4 * ds.length + 3 : Nat) : Int))) Z := by
    intro lo' hi' w el eh
    have ex : bkX f n nm m what r i t = (if t.k ≠ 2 then .inl (1, t.at_) else if ¬ (bkLo what ≤ nv (seg f t.at_ t.p) ∧ nv (seg f t.at_ t.p) ≤ bkHi what) then .inl (2, t.at_) else .inr ((what, r, i, nv (seg f t.at_ t.p)), nx f n 400 t)) := by
      unfold bkX
      rw [if_neg w]
    have hb : bkLo what ≤ 1000 ∧ bkHi what ≤ 1000 := by
      unfold bkLo bkHi
      constructor
      · split <;> omega
      · repeat' split
        all_goals omega
    have j226 : ∀ m1, DE (dZ (0 : Int32) m1) Z → DE (d_M_readBookLine_j226 m1 (0 : Int32) (ii ((4 * ds.length + 3 : Nat) : Int))) Z := fun m1 k => by
      unfold d_M_readBookLine_j226
      refine d_bIe m_keep0 ?_
      refine d_pos _ rfl ?_
      exact k
    refine s_number V B T el eh hb (fun z => j226 _ (d_dZ0 (kf 1 t.at_ (by rw [ex, if_pos z]; rfl) _ (L.bad (Or.inl rfl))))) (fun z1 z2 => j226 _ (d_dZ0 (kf 2 t.at_ (by rw [ex, if_neg (fun q => q z1), if_pos z2]; rfl) _ (L.bad (Or.inr (by omega)))))) fun z1 z2 m1 v1 b1 g1 t1 => ?_
    have L1 : LI m0 f n ds (nx f n 400 t) m1 := L.told.go v1 b1 g1 t1
    unfold d_M_readBookLine_j226
    refine d_bIe (m_keep1 (by omega)) ?_
    refine d_neg _ (by decide) ?_
    have e13 : m1.1 13 0 = ii (nv (seg f t.at_ t.p)) := by rw [g1.1 13 (by decide), ms_eq]
    have e30 : m1.1 30 = ms.1 30 := (g1.1 30 (by decide)).trans (ms_nk (by decide))
    refine s_lineEnd (L1.line (by omega)) (by rw [ex, if_neg (fun q => q z1), if_neg (fun q => q z2)]) kf fun d' t' eB m' ed L' e30' => ?_
    subst ed
    refine kk _ t' eB m' L' ?_ ?_ ?_ ?_
    · rw [e30', ms_ne (by omega), e30]; exact l0
    · rw [e30', ms_ne (by omega), e30]; exact l1
    · rw [e30', ms_ne (by omega), e30]; exact l2
    · rw [e30', ms_eq, e13]
  unfold d_M_readBookLine_j137
  by_cases c4 : what = 4
  · refine d_pos _ (by rw [c4]; rfl) ?_
    exact j147 (Or.inl c4)
  refine d_neg _ (ii_eqF (b := 4) (by omega)) ?_
  by_cases c5 : what = 5
  · refine d_pos _ (by rw [c5]; rfl) ?_
    exact j147 (Or.inr c5)
  refine d_neg _ (ii_eqF (b := 5) (by omega)) ?_
  have nw : ¬ (what = 4 ∨ what = 5) := by omega
  have j184 : (what = 2 ∨ what = 3 ∨ what = 7) → DE (d_M_readBookLine_j184 ms (ii what) (ii (4 * ds.length : Nat))) Z := by
    intro w
    unfold d_M_readBookLine_j184 d_M_readBookLine_j189
    refine d_neg _ (by decide) ?_
    rw [e3]
    exact num nw (by unfold bkLo; rw [if_pos w]; rfl) (by unfold bkHi; rw [if_neg (by omega), if_neg (by omega)]; rfl)
  by_cases d2 : what = 2
  · refine d_pos _ (by rw [d2]; rfl) ?_
    exact j184 (by omega)
  refine d_neg _ (ii_eqF (b := 2) (by omega)) ?_
  by_cases d3 : what = 3
  · refine d_pos _ (by rw [d3]; rfl) ?_
    exact j184 (by omega)
  refine d_neg _ (ii_eqF (b := 3) (by omega)) ?_
  by_cases d7 : what = 7
  · refine d_pos _ (by rw [d7]; rfl) ?_
    exact j184 (by omega)
  refine d_neg _ (ii_eqF (b := 7) (by omega)) ?_
  unfold d_M_readBookLine_j189
  refine d_pos _ rfl ?_
  rw [e3]
  have elo : (0 : Int32) = ii (bkLo what) := by unfold bkLo; rw [if_neg (by omega)]; rfl
  by_cases d6 : what = 6
  · refine d_pos _ (by rw [d6]; rfl) ?_
    unfold d_M_readBookLine_j223
    exact num nw elo (by unfold bkHi; rw [if_neg (by omega), if_pos d6]; rfl)
  · refine d_neg _ (ii_eqF (b := 6) (by omega)) ?_
    unfold d_M_readBookLine_j223
    exact num nw elo (by unfold bkHi; rw [if_pos (by omega)]; rfl)
theorem s_bkI {what r : Nat} {W X : Int32} (L : LI m0 f n ds t ms) (hm : m ≤ 4) (h0 : m0.1 14 0 = ii m) (A : ∀ r, r < m → m0.2 20 r = ll (n27 (nm r)) ∧ okN (nm r)) (hw : what < 8) (hr : r ≤ 4) (hl : ds.length < 40) (eW : W = ii what) (eX : X = ii (4 * ds.length : Nat)) (l0 : ms.1 30 (4 * ds.length) = ii what) (l1 : ms.1 30 (4 * ds.length + 1) = ii r) (l2 : ms.1 30 (4 * ds.length + 2) = ii 0) (kf : ∀ k pl, bkE f n (bkI f n nm m what r t) = .inl (k, pl) → ∀ m', FT m0 k pl m' → Z (some (.int 0)) m') (kk : ∀ d t', bkE f n (bkI f n nm m what r t) = .inr (d, t') → ∀ m', LI m0 f n ds t' m' → m'.1 30 (4 * ds.length) = ii d.1 → m'.1 30 (4 * ds.length + 1) = ii d.2.1 → m'.1 30 (4 * ds.length + 2) = ii d.2.2.1 → m'.1 30 (4 * ds.length + 3) = ii d.2.2.2 → Z (some (.int 1)) m') : DE (d_M_readBookLine_j112 ms W X) Z := by
  subst eW eX
  unfold d_M_readBookLine_j112
  by_cases c4 : what = 4
  · have ei : bkI f n nm m what r t = bkX f n nm m what r 0 t := by unfold bkI; rw [if_pos c4]
    rw [ei] at kf kk
    refine d_pos _ (by rw [c4]; rfl) ?_
    exact s_bkX L hm h0 A hw hr hl rfl rfl l0 l1 l2 kf kk
  · have ei : bkI f n nm m what r t = (if t.k ≠ 2 then .inl (1, t.at_) else if ¬ (0 ≤ nv (seg f t.at_ t.p) ∧ nv (seg f t.at_ t.p) ≤ 999) then .inl (2, t.at_) else bkX f n nm m what r (nv (seg f t.at_ t.p)) (nx f n 400 t)) := by unfold bkI; rw [if_neg c4]
    refine d_neg _ (ii_eqF (b := 4) (by omega)) ?_
    have e2 : ii ((4 * ds.length : Nat) : Int) + (2 : Int32) = ii ((4 * ds.length + 2 : Nat) : Int) := by rw [il_2, ii_add]; rfl
    rw [e2]
    refine s_number (lo := 0) (hi := 999) L.2.2.1 L.2.2.2.1 L.2.2.2.2.1 rfl rfl (by omega) (fun z => ?_) (fun z1 z2 => ?_) fun z1 z2 m1 v1 b1 g1 t1 => ?_
    · refine d_bIe m_keep0 ?_
      refine d_pos _ rfl ?_
      exact d_dZ0 (kf 1 t.at_ (by rw [ei, if_pos z]; rfl) _ (L.bad (Or.inl rfl)))
    · refine d_bIe m_keep0 ?_
      refine d_pos _ rfl ?_
      exact d_dZ0 (kf 2 t.at_ (by rw [ei, if_neg (fun q => q z1), if_pos z2]; rfl) _ (L.bad (Or.inr (by omega))))
    · have ei2 : bkI f n nm m what r t = bkX f n nm m what r (nv (seg f t.at_ t.p)) (nx f n 400 t) := by rw [ei, if_neg (fun q => q z1), if_neg (fun q => q z2)]
      rw [ei2] at kf kk
      refine d_bIe (m_keep1 (by omega)) ?_
      refine d_neg _ (by decide) ?_
      have L1 : LI m0 f n ds (nx f n 400 t) m1 := L.told.go v1 b1 g1 t1
      have e13 : m1.1 13 0 = ii (nv (seg f t.at_ t.p)) := by rw [g1.1 13 (by decide), ms_eq]
      have e30 : m1.1 30 = ms.1 30 := (g1.1 30 (by decide)).trans (ms_nk (by decide))
      exact s_bkX (L1.line (by omega)) hm h0 A hw hr hl rfl rfl (by rw [ms_ne (by omega), e30]; exact l0) (by rw [ms_ne (by omega), e30]; exact l1) (by rw [ms_eq, e13]) kf kk
theorem fkw_at {k0 w : Nat} (hu : ∀ i, isKw f t (k0 + i) = true → i = w) (hw : isKw f t (k0 + w) = true) : ∀ (m j : Nat), j ≤ w → w < j + m → fkw f t k0 m j = w := by
  intro m
  induction m with
  | zero => intro j h1 h2; omega
  | succ m ih =>
    intro j h1 h2
    unfold fkw
    by_cases c : isKw f t (k0 + j) = true
    · rw [if_pos c, hu j c]
    · rw [if_neg c]
      refine ih (j + 1) ?_ (by omega)
      by_cases e : j = w
      · rw [e] at c; exact absurd hw c
      · omega
theorem s_bkL (L : LI m0 f n ds t ms) (hm : m ≤ 4) (h0 : m0.1 14 0 = ii m) (A : ∀ r, r < m → m0.2 20 r = ll (n27 (nm r)) ∧ okN (nm r)) (hl : ds.length ≤ 40) (kf : ∀ k pl, bkE f n (bkL f n nm m ds.length t) = .inl (k, pl) → ∀ m', FT m0 k pl m' → Z (some (.int 0)) m') (kk : ∀ d t', bkE f n (bkL f n nm m ds.length t) = .inr (d, t') → ∀ m', LI m0 f n ds t' m' → m'.1 30 (4 * ds.length) = ii d.1 → m'.1 30 (4 * ds.length + 1) = ii d.2.1 → m'.1 30 (4 * ds.length + 2) = ii d.2.2.1 → m'.1 30 (4 * ds.length + 3) = ii d.2.2.2 → Z (some (.int 1)) m') : DE (d_M_readBookLine ms) Z := by
  have V := L.2.2.1
  have T := L.2.2.2.2.1
  have fin : ∀ (fu : Nat) (w : Int), w = fkw f t 3 8 0 → DE (itr (d_M_readBookLine_l4) (fun _ _ _ => none) (fu + 1) ms (ii w) (ii 8)) Z := by
    intro fu w ew
    subst ew
    have fk := fkw_le (f := f) (t := t) (k0 := 3) 8 0
    rw [itr_succ]
    unfold d_M_readBookLine_l4
    rw [il_7]
    refine d_pos _ (ii_ltT (by omega)) ?_
    rw [mi1]
    by_cases c1 : fkw f t 3 8 0 = -1
    · refine d_pos _ (by rw [c1]) ?_
      refine d_bIe (m_bad (k := 1) V T rfl) ?_
      exact d_dZ0 (kf 1 t.at_ (by unfold bkL; rw [if_pos c1]; rfl) _ (L.bad (Or.inl rfl)))
    · refine d_neg _ (ii_eqF (by omega)) ?_
      obtain ⟨what, ew⟩ : ∃ k : Nat, fkw f t 3 8 0 = k := ⟨(fkw f t 3 8 0).toNat, by omega⟩
      have tk1 : t.k = 1 := by
        by_cases c : t.k = 1
        · exact c
        · exfalso
          refine c1 ((fkw_no 8 0).2 fun i _ _ => ?_)
          unfold isKw
          exact decide_eq_false fun z => c z.1
      have eL : bkL f n nm m ds.length t = if 40 ≤ ds.length then .inl (4, t.at_) else bkR f n nm m what (nx f n 400 t) := by
        unfold bkL
        rw [if_neg c1, ew]
        rfl
      rw [ew]
      rw [L.2.2.2.2.2]
      refine d_nm ?_
      rw [il_40]
      by_cases c40 : ds.length = 40
      · refine d_pos _ (by rw [c40]; rfl) ?_
        refine d_bIe (m_bad (k := 4) V T rfl) ?_
        exact d_dZ0 (kf 4 t.at_ (by rw [eL, if_pos (by omega)]; rfl) _ (L.bad (Or.inr (by omega))))
      · refine d_neg _ (ii_eqF (by omega)) ?_
        have eR : bkL f n nm m ds.length t = bkR f n nm m what (nx f n 400 t) := by rw [eL, if_neg (by omega)]
        rw [eR] at kf kk
        refine d_nm ?_
        refine d_nm ?_
        have e4 : (4 : Int32) * ii (ds.length : Int) = ii ((4 * ds.length : Nat) : Int) := by rw [il_4, ii_mul]; rfl
        have e1 : ii ((4 * ds.length : Nat) : Int) + (1 : Int32) = ii ((4 * ds.length + 1 : Nat) : Int) := by rw [il_1, ii_add]; rfl
        have e2 : ii ((4 * ds.length : Nat) : Int) + (2 : Int32) = ii ((4 * ds.length + 2 : Nat) : Int) := by rw [il_2, ii_add]; rfl
        rw [e4, e1, e2]
        refine d_sA (N := 160) rfl (n := 4 * ds.length) (by omega) ?_
        refine d_sA (N := 160) rfl (n := 4 * ds.length + 1) (by omega) ?_
        refine d_sA (N := 160) rfl (n := 4 * ds.length + 2) (by omega) ?_
        have L3 := ((L.line (i := 4 * ds.length) (v := ii what) (by omega)).line (i := 4 * ds.length + 1) (v := 0) (by omega)).line (i := 4 * ds.length + 2) (v := 0) (by omega)
        refine s_go L3.2.2.1 L3.2.2.2.1 T fun m1 v1 b1 g1 t1 => ?_
        have L4 := L3.go v1 b1 g1 t1
        have q0 : m1.1 30 (4 * ds.length) = ii what := by rw [g1.1 30 (by decide), ms_ne (by omega), ms_ne (by omega), ms_eq]
        have q1 : m1.1 30 (4 * ds.length + 1) = ii 0 := by rw [g1.1 30 (by decide), ms_ne (by omega), ms_eq]; rfl
        have q2 : m1.1 30 (4 * ds.length + 2) = ii 0 := by rw [g1.1 30 (by decide), ms_eq]; rfl
        rw [il_6]
        by_cases c6 : 6 ≤ what
        · refine d_pos _ (ii_leT (by omega)) ?_
          have eI : bkR f n nm m what (nx f n 400 t) = bkI f n nm m what 0 (nx f n 400 t) := by unfold bkR; rw [if_neg (by omega)]
          rw [eI] at kf kk
          exact s_bkI (r := 0) L4 hm h0 A (by omega) (by omega) (by omega) rfl rfl q0 q1 q2 kf kk
        · refine d_neg _ (ii_leF (by omega)) ?_
          have eI : bkR f n nm m what (nx f n 400 t) = (if nmOk f (nx f n 400 t) = false then .inl (1, (nx f n 400 t).at_) else if ofN nm (seg f (nx f n 400 t).at_ (nx f n 400 t).p) m 0 = -1 then .inl (3, (nx f n 400 t).at_) else bkI f n nm m what (ofN nm (seg f (nx f n 400 t).at_ (nx f n 400 t).p) m 0).toNat (nx f n 400 (nx f n 400 t))) := by unfold bkR; rw [if_pos (by omega)]
          refine s_rowName (nm := nm) v1 b1 t1 hm (by rw [L4.1.1 14 (by decide)]; exact h0) (fun r hr => by rw [L4.1.2 20 (by decide)]; exact A r hr) (fun z => ?_) (fun z1 z2 => ?_) fun z r er hr m2 v2 b2 g2 t2 => ?_
          · refine d_bIe m_keep0 ?_
            refine d_pos _ rfl ?_
            exact d_dZ0 (kf 1 _ (by rw [eI, if_pos z]; rfl) _ (L4.bad (Or.inl rfl)))
          · refine d_bIe m_keep0 ?_
            refine d_pos _ rfl ?_
            have := nmOk_k z1
            exact d_dZ0 (kf 3 _ (by rw [eI, if_neg (by rw [z1]; decide), if_pos z2]; rfl) _ (L4.told.bad (Or.inr (by omega))))
          · have eI2 : bkR f n nm m what (nx f n 400 t) = bkI f n nm m what r (nx f n 400 (nx f n 400 t)) := by
              rw [eI, if_neg (by rw [z]; decide), er, if_neg (by omega)]
              rfl
            rw [eI2] at kf kk
            refine d_bIe (m_keep1 (by omega)) ?_
            refine d_neg _ (by decide) ?_
            have L5 := L4.told.go v2 b2 g2 t2
            have e13 : m2.1 13 0 = ii r := by rw [g2.1 13 (by decide), ms_eq]
            have e30 : m2.1 30 = m1.1 30 := (g2.1 30 (by decide)).trans (ms_nk (by decide))
            exact s_bkI (L5.line (by omega)) hm h0 A (by omega) (by omega) (by omega) rfl rfl (by rw [ms_ne (by omega), e30]; exact q0) (by rw [ms_eq, e13]) (by rw [ms_ne (by omega), e30]; exact q2) kf kk
  have key : ∀ (l fu j : Nat) (w : Int), l < fu → j + l = 8 → (w = -1 ∧ (∀ i, i < j → isKw f t (3 + i) = false) ∨ ∃ k : Nat, w = k ∧ k < j ∧ isKw f t (3 + k) = true) → DE (itr (d_M_readBookLine_l4) (fun _ _ _ => none) fu ms (ii w) (ii j)) Z := by
    have uq : ∀ i j, i < 8 → j < 8 → isKw f t (3 + i) = true → isKw f t (3 + j) = true → i = j := by
      intro i j hi hj h1 h2
      unfold isKw at h1 h2
      have a1 := (of_decide_eq_true h1).2
      have a2 := (of_decide_eq_true h2).2
      have := kw_inj ⟨3 + i, by omega⟩ ⟨3 + j, by omega⟩ (a1.symm.trans a2)
      injection this with this
      omega
    intro l
    induction l with
    | zero =>
      intro fu j w hf hj hw
      obtain ⟨fu, rfl⟩ : ∃ x, fu = x + 1 := ⟨fu - 1, by omega⟩
      have : j = 8 := by omega
      subst this
      refine fin fu w ?_
      rcases hw with ⟨w1, w2⟩ | ⟨k, w1, w2, w3⟩
      · rw [w1, (fkw_no 8 0).2 fun i _ h => w2 i (by omega)]
      · rw [w1]
        symm
        have hu : ∀ (m j : Nat), j ≤ k → k < j + m → j + m ≤ 8 → fkw f t 3 m j = k := by
          intro m
          induction m with
          | zero => intro j h1 h2; omega
          | succ m ih =>
            intro j h1 h2 h3
            unfold fkw
            by_cases c : isKw f t (3 + j) = true
            · rw [if_pos c, uq j k (by omega) w2 c w3]
            · rw [if_neg c]
              refine ih (j + 1) ?_ (by omega) (by omega)
              by_cases e : j = k
              · rw [e] at c; exact absurd w3 c
              · omega
        exact hu 8 0 (by omega) (by omega) (by omega)
    | succ l ih =>
      intro fu j w hf hj hw
      obtain ⟨fu, rfl⟩ : ∃ x, fu = x + 1 := ⟨fu - 1, by omega⟩
      rw [itr_succ]
      unfold d_M_readBookLine_l4
      rw [il_7, il_3]
      refine d_neg _ (ii_ltF (by omega)) ?_
      have e3 : ii 3 + ii (j : Int) = ii ((3 + j : Nat) : Int) := by rw [ii_add]; rfl
      refine d_bIe (m_isWord (k := 3 + j) V T (by omega) e3) ?_
      cases hk : isKw f t (3 + j) with
      | false =>
        refine d_pos _ rfl ?_
        rw [add1]
        refine ih fu (j + 1) w (by omega) (by omega) ?_
        rcases hw with ⟨w1, w2⟩ | ⟨k, w1, w2, w3⟩
        · refine Or.inl ⟨w1, fun i hi => ?_⟩
          by_cases e : i = j
          · rw [e]; exact hk
          · exact w2 i (by omega)
        · exact Or.inr ⟨k, w1, by omega, w3⟩
      | true =>
        refine d_neg _ bn1_ne ?_
        rw [add1]
        exact ih fu (j + 1) j (by omega) (by omega) (Or.inr ⟨j, rfl, by omega, hk⟩)
  unfold d_M_readBookLine
  rw [mi1]
  exact key 8 FU 0 (-1) (by unfold FU; omega) (by omega) (Or.inl ⟨rfl, fun i hi => by omega⟩)
end
