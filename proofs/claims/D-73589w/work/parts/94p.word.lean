/-! PURE SIDE: the upper level: word, dense, load, centre -/
set_option maxRecDepth 100000
def wrd (l : List Bool) : Nat → Nat → Int32 → Int32
  | 0, _, w => w
  | m + 1, p, w => wrd l m (p + 1) ((w <<< ((1 : Int32) &&& 31)) ||| (if p < l.length then ii (bn (gb l p)) else 0))
def fW (a n : Nat) : Int := ((FP.fdiv (FP.i2f (ii a)) (FP.i2f (ii n))).toNat : Int)
def wordA (n : Nat) (A : Nat → LL) (x y : Int) : Option Int := if (0 ≤ x ∧ x < n) ∧ 0 ≤ y ∧ y ≤ ((A x.toNat).flatten.length : Int) then some (wrd (A x.toNat).flatten 32 y.toNat 0).toInt else none
def denseA (n : Nat) (A : Nat → LL) (x y z : Int) : Option Int := if (0 ≤ x ∧ x < n) ∧ 0 < z ∧ 0 ≤ y ∧ z ≤ ((A x.toNat).flatten.length : Int) ∧ y ≤ ((A x.toNat).flatten.length : Int) - z then some (fW (cnt ((A x.toNat).flatten.take (y.toNat + z.toNat)) - cnt ((A x.toNat).flatten.take y.toNat)) z.toNat) else none
def loadA (n : Nat) (A : Nat → LL) (x : Int) : Option Int := if (0 ≤ x ∧ x < n) ∧ 0 < (A x.toNat).flatten.length then some (fW (32 * cst (A x.toNat)) (A x.toNat).flatten.length) else none
theorem fW_eq {ms : MS} {a n : Nat} (ha : a < 16777216) (hn : 1 ≤ n ∧ n < 16777216) : ∃ (E T : Nat) (w : Int32), E < 255 ∧ T < 8388608 ∧ d_M_asFloat ms (ii a) (ii n) = dI (ii (fW a n)) (mset ms 26 0 w) ∧ FP.fdiv (FP.i2f (ii a)) (FP.i2f (ii n)) = UInt32.ofNat (E * 8388608 + T) ∧ fW a n = ((E * 8388608 + T : Nat) : Int) := by
  obtain ⟨E, T, w, h1, h2, h3, h4⟩ := m_asFloat (ms := ms) ha hn
  have e : fW a n = ((E * 8388608 + T : Nat) : Int) := by
    unfold fW
    rw [h4, w32 h1 h2]
  exact ⟨E, T, w, h1, h2, by rw [h3, e], h4, e⟩
theorem cnt_mono {l : List Bool} {a b : Nat} (h : a ≤ b) : cnt (l.take a) ≤ cnt (l.take b) := by
  have e : l.take a = (l.take b).take a := by rw [List.take_take, Nat.min_eq_left h]
  have := cb_split true (l.take b) a
  rw [← e, cb_true, cb_true] at this
  omega
theorem cst_le {low : Nat} {ls : LL} (b : LsB low ls) : cst ls ≤ 1650 := by
  have hl := b.len
  have key : ∀ ls : LL, (∀ l, l ∈ ls → l.length ≤ 64) → (ls.map fun l => (l.length + 31) / 32 + 4).sum ≤ 6 * ls.length := by
    intro ls
    induction ls with
    | nil => intro _; exact Nat.le_refl _
    | cons x t ih =>
      intro h
      have h1 := ih fun l hl => h l (List.mem_cons_of_mem _ hl)
      have h2 := h x List.mem_cons_self
      rw [List.map_cons, List.sum_cons, List.length_cons]
      omega
  have := key ls fun l h => (b.leaf h).2
  unfold cst
  omega
def NX (q : QP) : Rt → PH → Prop := fun r h' => ∃ a h1, r = .inr (a, 1) ∧ QI q h1 ∧ h' = hbump h1 1 6
def AO (q : QP) (o : Option Int) : Rt → PH → Prop := match o with
  | some a => AN q a
  | none => NX q
def DZ (ms : MS) (o : Option Int) : Option Value → MS → Prop := match o with
  | some a => fun r m' => r = some (.int (ii a)) ∧ ∃ w, m' = mset (mset ms 0 0 0) 26 0 w
  | none => fun r m' => r = some (.int 0) ∧ m' = mset ms 0 0 1
section
variable {q : QP} {h : PH} {r : Nat} {ms : MS} {n : Nat} {A : Nat → LL}
theorem q_no {K : PH → Option RH} (Q : QI q h) : Ends (hV (c_B_must h (0 : Int32)) rX K) (AO q none) := by
  refine ⟨.inr (h.2.1.1, 1), hbump h 1 6, ?_, _, h, rfl, Q, rfl⟩
  unfold c_B_must
  rw [if_pos rfl]
  rfl
theorem q_yes {K : PH → Option RH} {Z : Rt → PH → Prop} (k : Ends (K h) Z) : Ends (hV (c_B_must h (1 : Int32)) rX K) Z := by
  unfold c_B_must
  rw [if_neg (by decide)]
  exact k
theorem d_no {v : Int32} : DE (bI (d_M_refuse (mset ms 0 0 v)) fun v m => dI v m) (DZ ms none) := by
  unfold d_M_refuse
  rw [mset2]
  exact ⟨_, _, rfl, rfl, rfl⟩
theorem d_yes {a : Int} {v : Int32} (e : v = ii a) : DE (dI v (mset ms 0 0 0)) (DZ ms (some a)) := ⟨_, _, rfl, by rw [e], (mset ms 0 0 0).1 26 0, by rw [ms_self]⟩
theorem d_yes2 {a : Int} {v w : Int32} (e : v = ii a) : DE (dI v (mset (mset ms 0 0 0) 26 0 w)) (DZ ms (some a)) := ⟨_, _, rfl, by rw [e], w, rfl⟩
theorem b_word_l37 {y : Nat} (hr : r < 4) (hy : y ≤ 600) : ∀ (m fu p : Nat) (w : Int32) (h : PH), m < fu → p + m = y + 32 → QI q h → Ends (itr (c_B_word_l37) (fun _ _ _ _ _ _ => none) fu h q.B (ii r) (ii y) w (ii p)) (AN q (wrd (q.A r).flatten m p w).toInt) := by
  intro m
  induction m with
  | zero =>
    intro fu p w h hf hp Q
    obtain ⟨fu, rfl⟩ : ∃ x, fu = x + 1 := ⟨fu - 1, by omega⟩
    rw [itr_succ]
    unfold c_B_word_l37
    rw [il_32, ii_add]
    refine q_pos _ (ii_leT (by omega)) ?_
    exact q_an (ii_int _).symm Q
  | succ m ih =>
    intro fu p w h hf hp Q
    obtain ⟨fu, rfl⟩ : ∃ x, fu = x + 1 := ⟨fu - 1, by omega⟩
    have hb := (Q.bnd (k := r) (by omega)).1
    rw [itr_succ]
    unfold c_B_word_l37
    rw [il_32, ii_add]
    refine q_neg _ (ii_leF (by omega)) ?_
    refine q_wide Q hr fun h1 Q1 => ?_
    unfold wrd
    by_cases c : p < (q.A r).flatten.length
    · refine q_neg _ (ii_leF (by omega)) ?_
      refine q_get (i := p) Q1.i hr rfl c fun h2 Q2 => ?_
      refine q_nm ?_
      rw [if_pos c, add1]
      exact ih fu (p + 1) _ h2 (by omega) (by omega) Q2.i
    · refine q_pos _ (ii_leT (by omega)) ?_
      refine q_nm ?_
      rw [if_neg c, add1]
      exact ih fu (p + 1) _ h1 (by omega) (by omega) Q1.i
theorem b_word {x y : Int} (Q : QI q h) (hx : -2147483648 ≤ x ∧ x < 2147483648) (hy : -2147483648 ≤ y ∧ y < 2147483648) : Ends (c_B_word h q.B (ii x) (ii y)) (AO q (wordA q.n q.A x y)) := by
  unfold c_B_word wordA
  refine q_grd0 Q ?_
  refine q_row Q hx (fun c => ?_) fun r e hr hr4 => ?_
  · rw [if_neg (fun z => c z.1)]
    unfold c_B_word_j28 c_B_word_j29
    exact q_no Q
  · subst e
    have hb := (Q.bnd (k := r) (by omega)).1
    refine q_wide Q hr4 fun h1 Q1 => ?_
    refine q_in (a := 0) (b := ((q.A r).flatten.length : Nat)) rfl rfl (by omega) (fun c => ?_) fun c => ?_
    · rw [if_neg (fun z => c (by have := z.2; rw [Int.toNat_natCast] at this; exact this))]
      unfold c_B_word_j28 c_B_word_j29
      exact q_no Q1.i
    · rw [if_pos ⟨by omega, by rw [Int.toNat_natCast]; exact c⟩]
      obtain ⟨k, rfl⟩ : ∃ k : Nat, y = k := ⟨y.toNat, by omega⟩
      unfold c_B_word_j29
      refine q_yes ?_
      rw [Int.toNat_natCast, Int.toNat_natCast]
      exact b_word_l37 hr4 (by omega) 32 FU k 0 h1 (by unfold FU; omega) rfl Q1.i
theorem m_word_l36 {y : Nat} (M : QM ms n A) (hr : r < 4) (hy : y ≤ 600) : ∀ (m fu p : Nat) (w : Int32), m < fu → p + m = y + 32 → DE (itr (d_M_word_l36) (fun _ _ _ _ _ => none) fu ms (ii r) (ii y) w (ii p)) (DA ms (wrd (A r).flatten m p w).toInt) := by
  have hb := (M.2.2 r hr).2.1
  intro m
  induction m with
  | zero =>
    intro fu p w hf hp
    obtain ⟨fu, rfl⟩ : ∃ x, fu = x + 1 := ⟨fu - 1, by omega⟩
    rw [itr_succ]
    unfold d_M_word_l36
    rw [il_32, ii_add]
    refine d_pos _ (ii_leT (by omega)) ?_
    exact d_an (ii_int _).symm
  | succ m ih =>
    intro fu p w hf hp
    obtain ⟨fu, rfl⟩ : ∃ x, fu = x + 1 := ⟨fu - 1, by omega⟩
    rw [itr_succ]
    unfold d_M_word_l36
    rw [il_32, ii_add]
    refine d_neg _ (ii_leF (by omega)) ?_
    refine d_size M hr ?_
    unfold wrd
    by_cases c : p < (A r).flatten.length
    · refine d_neg _ (ii_leF (by omega)) ?_
      refine d_bitOf (i := p) M hr rfl c ?_
      refine d_nm ?_
      rw [if_pos c, add1]
      exact ih fu (p + 1) _ (by omega) (by omega)
    · refine d_pos _ (ii_leT (by omega)) ?_
      refine d_nm ?_
      rw [if_neg c, add1]
      exact ih fu (p + 1) _ (by omega) (by omega)
theorem m_word {x y : Int} (M : QM ms n A) (hx : -2147483648 ≤ x ∧ x < 2147483648) (hy : -2147483648 ≤ y ∧ y < 2147483648) : DE (d_M_word ms (ii x) (ii y)) (DZ ms (wordA n A x y)) := by
  unfold d_M_word wordA
  refine d_nm ?_
  have M' := M.thr (k := 0) (v := 0)
  refine d_row M' hx (fun c => ?_) fun r e hr hr4 => ?_
  · rw [if_neg (fun z => c z.1)]
    exact d_no
  · subst e
    have hb := (M.2.2 r hr4).2.1
    refine d_size M' hr4 ?_
    refine d_in (a := 0) (b := ((A r).flatten.length : Nat)) rfl rfl (by omega) (fun c => ?_) fun c => ?_
    · rw [if_neg (fun z => c (by have := z.2; rw [Int.toNat_natCast] at this; exact this))]
      exact d_no
    · rw [if_pos ⟨by omega, by rw [Int.toNat_natCast]; exact c⟩]
      obtain ⟨k, rfl⟩ : ∃ k : Nat, y = k := ⟨y.toNat, by omega⟩
      rw [Int.toNat_natCast, Int.toNat_natCast]
      obtain ⟨_, _, e, e1, e2⟩ := m_word_l36 M' hr4 (y := k) (by omega) 32 FU k 0 (by unfold FU; omega) rfl
      rw [e, e1, e2]
      exact d_yes rfl
theorem b_dense {x y z : Int} (Q : QI q h) (hx : -2147483648 ≤ x ∧ x < 2147483648) (hy : -2147483648 ≤ y ∧ y < 2147483648) (hz : -2147483648 ≤ z ∧ z < 2147483648) : Ends (c_B_dense h q.B (ii x) (ii y) (ii z)) (AO q (denseA q.n q.A x y z)) := by
  unfold c_B_dense denseA
  refine q_grd0 Q ?_
  refine q_row Q hx (fun c => ?_) fun r e hr hr4 => ?_
  · rw [if_neg (fun z => c z.1)]
    unfold c_B_dense_j46 c_B_dense_j47
    exact q_no Q
  · subst e
    rw [Int.toNat_natCast]
    have hb := (Q.bnd (k := r) (by omega)).1
    by_cases c1 : z ≤ 0
    · refine q_pos _ (ii_leT (b := 0) (by omega)) ?_
      rw [if_neg (by omega)]
      unfold c_B_dense_j46 c_B_dense_j47
      exact q_no Q
    refine q_neg _ (ii_leF (b := 0) (by omega)) ?_
    by_cases c2 : y < 0
    · refine q_pos _ (ii_ltT (b := 0) (by omega)) ?_
      rw [if_neg (by omega)]
      unfold c_B_dense_j46 c_B_dense_j47
      exact q_no Q
    refine q_neg _ (ii_ltF (b := 0) (by omega)) ?_
    refine q_wide Q hr4 fun h1 Q1 => ?_
    by_cases c3 : ((q.A r).flatten.length : Int) < z
    · refine q_pos _ (ii_ltT (by omega)) ?_
      rw [if_neg (by omega)]
      unfold c_B_dense_j46 c_B_dense_j47
      exact q_no Q1.i
    refine q_neg _ (ii_ltF (by omega)) ?_
    refine q_wide Q1.i hr4 fun h2 Q2 => ?_
    rw [ii_sub]
    by_cases c4 : ((q.A r).flatten.length : Int) - z < y
    · refine q_pos _ (ii_ltT (by omega)) ?_
      rw [if_neg (by omega)]
      unfold c_B_dense_j46 c_B_dense_j47
      exact q_no Q2.i
    refine q_neg _ (ii_ltF (by omega)) ?_
    rw [if_pos (by omega)]
    obtain ⟨i, rfl⟩ : ∃ k : Nat, y = k := ⟨y.toNat, by omega⟩
    obtain ⟨n, rfl⟩ : ∃ k : Nat, z = k := ⟨z.toNat, by omega⟩
    rw [Int.toNat_natCast, Int.toNat_natCast]
    unfold c_B_dense_j47
    refine q_yes ?_
    refine q_ones (i := i + n) Q2.i hr4 (by rw [ii_add]; rfl) (by omega) fun h3 Q3 => ?_
    refine q_ones (i := i) Q3.i hr4 rfl (by omega) fun h4 Q4 => ?_
    refine q_nm ?_
    have cm := cnt_mono (l := (q.A r).flatten) (a := i) (b := i + n) (by omega)
    have cl := cnt_le ((q.A r).flatten.take (i + n))
    have cl2 : ((q.A r).flatten.take (i + n)).length ≤ (q.A r).flatten.length := by rw [List.length_take]; omega
    have e : ii (cnt ((q.A r).flatten.take (i + n))) - ii (cnt ((q.A r).flatten.take i)) = ii ((cnt ((q.A r).flatten.take (i + n)) - cnt ((q.A r).flatten.take i) : Nat) : Int) := by
      rw [ii_sub]; congr 1; omega
    rw [e]
    obtain ⟨E, T, w, f1, f2, f3, f4, f5⟩ := fW_eq (ms := (fun _ _ => 0, fun _ _ => 0)) (a := cnt ((q.A r).flatten.take (i + n)) - cnt ((q.A r).flatten.take i)) (n := n) (by omega) (by omega)
    rw [f4, nn32 f1 f2]
    refine q_hIe (fb32 f1 f2) ?_
    exact q_an (by rw [f5]) Q4.i
theorem m_dense {x y z : Int} (M : QM ms n A) (hx : -2147483648 ≤ x ∧ x < 2147483648) (hy : -2147483648 ≤ y ∧ y < 2147483648) (hz : -2147483648 ≤ z ∧ z < 2147483648) : DE (d_M_dense ms (ii x) (ii y) (ii z)) (DZ ms (denseA n A x y z)) := by
  unfold d_M_dense denseA
  refine d_nm ?_
  have M' := M.thr (k := 0) (v := 0)
  refine d_row M' hx (fun c => ?_) fun r e hr hr4 => ?_
  · rw [if_neg (fun z => c z.1)]
    exact d_no
  · subst e
    rw [Int.toNat_natCast]
    have hb := (M.2.2 r hr4).2.1
    by_cases c2 : y < 0
    · refine d_pos _ (ii_ltT (b := 0) (by omega)) ?_
      rw [if_neg (by omega)]
      exact d_no
    refine d_neg _ (ii_ltF (b := 0) (by omega)) ?_
    by_cases c1 : z < 1
    · refine d_pos _ (ii_ltT (b := 1) (by omega)) ?_
      rw [if_neg (by omega)]
      exact d_no
    refine d_neg _ (ii_ltF (b := 1) (by omega)) ?_
    refine d_size M' hr4 ?_
    by_cases c3 : ((A r).flatten.length : Int) < z
    · refine d_pos _ (ii_ltT (by omega)) ?_
      rw [if_neg (by omega)]
      exact d_no
    refine d_neg _ (ii_ltF (by omega)) ?_
    refine d_size M' hr4 ?_
    rw [ii_sub]
    by_cases c4 : ((A r).flatten.length : Int) - z < y
    · refine d_neg _ (ii_leF (by omega)) ?_
      rw [if_neg (by omega)]
      exact d_no
    refine d_pos _ (ii_leT (by omega)) ?_
    rw [if_pos (by omega)]
    obtain ⟨i, rfl⟩ : ∃ k : Nat, y = k := ⟨y.toNat, by omega⟩
    obtain ⟨m, rfl⟩ : ∃ k : Nat, z = k := ⟨z.toNat, by omega⟩
    rw [Int.toNat_natCast, Int.toNat_natCast]
    have cm := cnt_mono (l := (A r).flatten) (a := i) (b := i + m) (by omega)
    have cl := cnt_le ((A r).flatten.take (i + m))
    have cl2 : ((A r).flatten.take (i + m)).length ≤ (A r).flatten.length := by rw [List.length_take]; omega
    have e : ii i + ii m = ii ((i + m : Nat) : Int) := by rw [ii_add]; rfl
    rw [e]
    refine d_bIe (m_onesIn (i := i) (j := i + m) (M'.2.2 r hr4).1 hr4 hb (by omega) (by omega)) ?_
    have e2 : ii ((cnt ((A r).flatten.take (i + m)) : Int) - cnt ((A r).flatten.take i)) = ii ((cnt ((A r).flatten.take (i + m)) - cnt ((A r).flatten.take i) : Nat) : Int) := by congr 1; omega
    rw [e2]
    obtain ⟨E, T, w, f1, f2, f3, f4, f5⟩ := fW_eq (ms := mset ms 0 0 0) (a := cnt ((A r).flatten.take (i + m)) - cnt ((A r).flatten.take i)) (n := m) (by omega) (by omega)
    refine d_bIe f3 ?_
    exact d_yes2 rfl
theorem b_load {x : Int} (Q : QI q h) (hx : -2147483648 ≤ x ∧ x < 2147483648) : Ends (c_B_load h q.B (ii x)) (AO q (loadA q.n q.A x)) := by
  unfold c_B_load loadA
  refine q_grd0 Q ?_
  refine q_row Q hx (fun c => ?_) fun r e hr hr4 => ?_
  · rw [if_neg (fun z => c z.1)]
    unfold c_B_load_j23 c_B_load_j24
    exact q_no Q
  · subst e
    rw [Int.toNat_natCast]
    have hb := (Q.bnd (k := r) (by omega)).1
    refine q_wide Q hr4 fun h1 Q1 => ?_
    by_cases c1 : (q.A r).flatten.length ≤ 0
    · refine q_pos _ (ii_leT (b := 0) (by omega)) ?_
      rw [if_neg (by omega)]
      unfold c_B_load_j23 c_B_load_j24
      exact q_no Q1.i
    refine q_neg _ (ii_leF (b := 0) (by omega)) ?_
    rw [if_pos (by omega)]
    unfold c_B_load_j24
    refine q_yes ?_
    refine q_cost Q1.i hr4 fun h2 Q2 => ?_
    refine q_nm ?_
    refine q_wide Q2.i hr4 fun h3 Q3 => ?_
    have cl := cst_le (Q.lsb (k := r) (by omega))
    have e : (32 : Int32) * ii (cst (q.A r)) = ii ((32 * cst (q.A r) : Nat) : Int) := by
      rw [il_32, ii_mul]; rfl
    rw [e]
    obtain ⟨E, T, w, f1, f2, f3, f4, f5⟩ := fW_eq (ms := (fun _ _ => 0, fun _ _ => 0)) (a := 32 * cst (q.A r)) (n := (q.A r).flatten.length) (by omega) (by omega)
    rw [f4, nn32 f1 f2]
    refine q_hIe (fb32 f1 f2) ?_
    exact q_an (by rw [f5]) Q3.i
theorem m_load {x : Int} {low : Nat} (M : QM ms n A) (I : IV low A) (hx : -2147483648 ≤ x ∧ x < 2147483648) : DE (d_M_load ms (ii x)) (DZ ms (loadA n A x)) := by
  unfold d_M_load loadA
  refine d_nm ?_
  have M' := M.thr (k := 0) (v := 0)
  refine d_row M' hx (fun c => ?_) fun r e hr hr4 => ?_
  · rw [if_neg (fun z => c z.1)]
    exact d_no
  · subst e
    rw [Int.toNat_natCast]
    obtain ⟨m1, hb, hN, hl⟩ := M'.2.2 r hr4
    refine d_size M' hr4 ?_
    by_cases c1 : (A r).flatten.length ≤ 0
    · refine d_pos _ (ii_leT (b := 0) (by omega)) ?_
      rw [if_neg (by omega)]
      exact d_no
    refine d_neg _ (ii_leF (b := 0) (by omega)) ?_
    rw [if_pos (by omega)]
    refine d_bIe (m_costOf m1 hr4 hN hl) ?_
    refine d_size M' hr4 ?_
    have cl := cst_le (I r hr4)
    have e : (32 : Int32) * ii (cst (A r)) = ii ((32 * cst (A r) : Nat) : Int) := by
      rw [il_32, ii_mul]; rfl
    rw [e]
    obtain ⟨E, T, w, f1, f2, f3, f4, f5⟩ := fW_eq (ms := mset ms 0 0 0) (a := 32 * cst (A r)) (n := (A r).flatten.length) (by omega) (by omega)
    refine d_bIe f3 ?_
    exact d_yes2 rfl
end
