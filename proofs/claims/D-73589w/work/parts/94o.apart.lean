/-! PURE SIDE: the upper level: two rows -/
set_option maxRecDepth 100000
def apr (l k : List Bool) : Nat → Nat → Nat
  | 0, _ => 0
  | m + 1, p => (if gb l p = gb k p then 0 else 1) + apr l k m (p + 1)
def apartA (n : Nat) (A : Nat → LL) (x y : Int) : Int := if (0 ≤ x ∧ x < n) ∧ 0 ≤ y ∧ y < n then ((max (A x.toNat).flatten.length (A y.toNat).flatten.length - min (A x.toNat).flatten.length (A y.toNat).flatten.length + apr (A x.toNat).flatten (A y.toNat).flatten (min (A x.toNat).flatten.length (A y.toNat).flatten.length) 0 : Nat) : Int) else -1
/-- the first place where two differ -/
def dfr (l k : List Bool) : Nat → Nat → Nat
  | 0, p => p
  | m + 1, p => if gb l p = gb k p then dfr l k m (p + 1) else p
def dff (l k : List Bool) : Nat → Nat → Int
  | 0, p => if l.length = k.length then -1 else (p : Int)
  | m + 1, p => if gb l p = gb k p then dff l k m (p + 1) else (p : Int)
theorem dfr_le {l k : List Bool} : ∀ {m p : Nat}, p ≤ dfr l k m p ∧ dfr l k m p ≤ p + m := by
  intro m
  induction m with
  | zero => intro p; exact ⟨Nat.le_refl _, Nat.le_refl _⟩
  | succ m ih =>
    intro p
    unfold dfr
    by_cases c : gb l p = gb k p
    · rw [if_pos c]
      have := ih (p := p + 1)
      omega
    · rw [if_neg c]; omega
theorem dff_dfr {l k : List Bool} : ∀ {m p : Nat}, p + m = min l.length k.length → dff l k m p = if l.length = k.length ∧ dfr l k m p = l.length then -1 else (dfr l k m p : Int) := by
  intro m
  induction m with
  | zero =>
    intro p hp
    unfold dff dfr
    by_cases c : l.length = k.length
    · rw [if_pos c, if_pos ⟨c, by omega⟩]
    · rw [if_neg c, if_neg (fun z => c z.1)]
  | succ m ih =>
    intro p hp
    unfold dff dfr
    by_cases c : gb l p = gb k p
    · rw [if_pos c, if_pos c, ih (by omega)]
    · rw [if_neg c, if_neg c, if_neg (fun z => by omega)]
def differA (n : Nat) (A : Nat → LL) (x y : Int) : Int := if (0 ≤ x ∧ x < n) ∧ 0 ≤ y ∧ y < n then dff (A x.toNat).flatten (A y.toNat).flatten (min (A x.toNat).flatten.length (A y.toNat).flatten.length) 0 else -1
theorem xor_bn (a b : Bool) : ii (bn a) ^^^ ii (bn b) = ii ((if a = b then 0 else 1 : Nat) : Int) := by cases a <;> cases b <;> decide
theorem mn_ii {a b : Nat} (ha : a ≤ 100000) (hb : b ≤ 100000) : (if ii b < ii a then ii b else ii a) = ii (min a b : Nat) := by
  by_cases c : b < a
  · rw [if_pos (ii_ltT (by omega)), Nat.min_eq_right (by omega)]
  · rw [if_neg (ii_ltF (by omega)), Nat.min_eq_left (by omega)]
section
variable {q : QP} {h : PH} {r s : Nat} {ms : MS} {n : Nat} {A : Nat → LL}
theorem b_apart_l64 (hr : r < 4) (hs : s < 4) : ∀ (m fu p c : Nat) (h : PH), m < fu → p + m = min (q.A r).flatten.length (q.A s).flatten.length → c ≤ 600 + p → QI q h → Ends (itr (c_B_apart_l64) (fun _ _ _ _ _ _ _ => none) fu h q.B (ii r) (ii s) (ii (min (q.A r).flatten.length (q.A s).flatten.length : Nat)) (ii c) (ii p)) (AN q (c + apr (q.A r).flatten (q.A s).flatten m p : Nat)) := by
  intro m
  induction m with
  | zero =>
    intro fu p c h hf hp hc Q
    obtain ⟨fu, rfl⟩ : ∃ x, fu = x + 1 := ⟨fu - 1, by omega⟩
    have hb := (Q.bnd (k := r) (by omega)).1
    rw [itr_succ]
    unfold c_B_apart_l64
    refine q_pos _ (ii_leT (by omega)) ?_
    exact q_an rfl Q
  | succ m ih =>
    intro fu p c h hf hp hc Q
    obtain ⟨fu, rfl⟩ : ∃ x, fu = x + 1 := ⟨fu - 1, by omega⟩
    have hb := (Q.bnd (k := r) (by omega)).1
    rw [itr_succ]
    unfold c_B_apart_l64
    refine q_neg _ (ii_leF (by omega)) ?_
    refine q_get (i := p) Q hr rfl (by omega) fun h1 Q1 => ?_
    refine q_get (i := p) Q1.i hs rfl (by omega) fun h2 Q2 => ?_
    refine q_nm ?_
    rw [xor_bn, ii_add, add1]
    unfold apr
    have k := ih fu (p + 1) (c + (if gb (q.A r).flatten p = gb (q.A s).flatten p then 0 else 1)) h2 (by omega) (by omega) (by split <;> omega) Q2.i
    rw [Nat.add_assoc] at k
    exact k
theorem b_apart {x y : Int} (Q : QI q h) (hx : -2147483648 ≤ x ∧ x < 2147483648) (hy : -2147483648 ≤ y ∧ y < 2147483648) : Ends (c_B_apart h q.B (ii x) (ii y)) (AN q (apartA q.n q.A x y)) := by
  unfold c_B_apart apartA
  refine q_grd0 Q ?_
  refine q_row Q hx (fun c => ?_) fun r e hr hr4 => ?_
  · rw [if_neg (fun z => c z.1)]; exact q_an rfl Q
  · subst e
    refine q_row Q hy (fun c => ?_) fun s e hs hs4 => ?_
    · rw [if_neg (fun z => c z.2)]; exact q_an rfl Q
    · subst e
      have b1 := (Q.bnd (k := r) (by omega)).1
      have b2 := (Q.bnd (k := s) (by omega)).1
      rw [if_pos (show (0 ≤ (r : Int) ∧ (r : Int) < q.n) ∧ 0 ≤ (s : Int) ∧ (s : Int) < q.n by omega), Int.toNat_natCast, Int.toNat_natCast]
      refine q_wide Q hr4 fun h1 Q1 => ?_
      refine q_wide Q1.i hs4 fun h2 Q2 => ?_
      refine q_nm ?_
      rw [mn_ii (by omega) (by omega)]
      refine q_wide Q2.i hr4 fun h3 Q3 => ?_
      refine q_wide Q3.i hs4 fun h4 Q4 => ?_
      refine q_nm ?_
      rw [mx_ii (by omega) (by omega), ii_sub]
      have k := b_apart_l64 hr4 hs4 (min (q.A r).flatten.length (q.A s).flatten.length) FU 0 (max (q.A r).flatten.length (q.A s).flatten.length - min (q.A r).flatten.length (q.A s).flatten.length) h4 (by unfold FU; omega) (by omega) (by omega) Q4.i
      have e : (((max (q.A r).flatten.length (q.A s).flatten.length : Nat) : Int) - (min (q.A r).flatten.length (q.A s).flatten.length : Nat)) = ((max (q.A r).flatten.length (q.A s).flatten.length - min (q.A r).flatten.length (q.A s).flatten.length : Nat) : Int) := by omega
      rw [e]
      exact k
theorem m_apart_l65 (M : QM ms n A) (hr : r < 4) (hs : s < 4) : ∀ (m fu p c : Nat), m < fu → p + m = min (A r).flatten.length (A s).flatten.length → c ≤ 600 + p → DE (itr (d_M_apart_l65) (fun _ _ _ _ _ => none) fu ms (ii r) (ii s) (ii c) (ii p)) (DA ms (c + apr (A r).flatten (A s).flatten m p : Nat)) := by
  have b1 := (M.2.2 r hr).2.1
  have b2 := (M.2.2 s hs).2.1
  intro m
  induction m with
  | zero =>
    intro fu p c hf hp hc
    obtain ⟨fu, rfl⟩ : ∃ x, fu = x + 1 := ⟨fu - 1, by omega⟩
    rw [itr_succ]
    unfold d_M_apart_l65
    refine d_there M hr (by omega) (fun _ => d_an rfl) fun i e hi => ?_
    exact d_there M hs (by omega) (fun _ => d_an rfl) fun j e hj => by omega
  | succ m ih =>
    intro fu p c hf hp hc
    obtain ⟨fu, rfl⟩ : ∃ x, fu = x + 1 := ⟨fu - 1, by omega⟩
    rw [itr_succ]
    unfold d_M_apart_l65
    refine d_there M hr (by omega) (fun z => by omega) fun i e hi => ?_
    refine d_there M hs (by omega) (fun z => by omega) fun j e hj => ?_
    refine d_bitOf (i := p) M hr rfl (by omega) ?_
    refine d_bitOf (i := p) M hs rfl (by omega) ?_
    unfold apr
    by_cases c1 : gb (A r).flatten p = gb (A s).flatten p
    · refine d_pos _ (bn_eqT c1) ?_
      rw [add1, if_pos c1, Nat.zero_add]
      exact ih fu (p + 1) c (by omega) (by omega) (by omega)
    · refine d_neg _ (bn_eqF c1) ?_
      rw [add1, add1, if_neg c1, ← Nat.add_assoc]
      exact ih fu (p + 1) (c + 1) (by omega) (by omega) (by omega)
theorem m_apart {x y : Int} (M : QM ms n A) (hx : -2147483648 ≤ x ∧ x < 2147483648) (hy : -2147483648 ≤ y ∧ y < 2147483648) : d_M_apart ms (ii x) (ii y) = dI (ii (apartA n A x y)) (mset ms 0 0 0) := by
  refine dEqI ?_
  unfold d_M_apart apartA
  refine d_nm ?_
  have M' := M.thr (k := 0) (v := 0)
  refine d_row M' hx (fun c => ?_) fun r e hr hr4 => ?_
  · rw [if_neg (fun z => c z.1)]; exact d_an rfl
  · subst e
    refine d_row M' hy (fun c => ?_) fun s e hs hs4 => ?_
    · rw [if_neg (fun z => c z.2)]; exact d_an rfl
    · subst e
      have b1 := (M'.2.2 r hr4).2.1
      have b2 := (M'.2.2 s hs4).2.1
      rw [if_pos (show (0 ≤ (r : Int) ∧ (r : Int) < n) ∧ 0 ≤ (s : Int) ∧ (s : Int) < n by omega), Int.toNat_natCast, Int.toNat_natCast]
      have k := m_apart_l65 M' hr4 hs4 (min (A r).flatten.length (A s).flatten.length) FU 0 (max (A r).flatten.length (A s).flatten.length - min (A r).flatten.length (A s).flatten.length) (by unfold FU; omega) (by omega) (by omega)
      refine d_size M' hr4 ?_
      refine d_size M' hs4 ?_
      by_cases c : (A r).flatten.length ≤ (A s).flatten.length
      · refine d_pos _ (ii_leT (by omega)) ?_
        refine d_size M' hs4 ?_
        refine d_size M' hr4 ?_
        refine d_nm ?_
        rw [ii_sub]
        have e : (((A s).flatten.length : Int) - (A r).flatten.length) = ((max (A r).flatten.length (A s).flatten.length - min (A r).flatten.length (A s).flatten.length : Nat) : Int) := by omega
        rw [e]
        exact k
      · refine d_neg _ (ii_leF (by omega)) ?_
        refine d_size M' hr4 ?_
        refine d_size M' hs4 ?_
        refine d_nm ?_
        rw [ii_sub]
        have e : (((A r).flatten.length : Int) - (A s).flatten.length) = ((max (A r).flatten.length (A s).flatten.length - min (A r).flatten.length (A s).flatten.length : Nat) : Int) := by omega
        rw [e]
        exact k
theorem b_differs_l23 (hr : r < 4) (hs : s < 4) : ∀ (m fu p : Nat) (h : PH), m < fu → p + m = min (q.A r).flatten.length (q.A s).flatten.length → QI q h → Ends (itr (c_B_differs_l23) (fun _ _ _ _ _ _ => none) fu h q.B (ii r) (ii s) (ii (min (q.A r).flatten.length (q.A s).flatten.length : Nat)) (ii p)) (AN q (dff (q.A r).flatten (q.A s).flatten m p)) := by
  intro m
  induction m with
  | zero =>
    intro fu p h hf hp Q
    obtain ⟨fu, rfl⟩ : ∃ x, fu = x + 1 := ⟨fu - 1, by omega⟩
    have b1 := (Q.bnd (k := r) (by omega)).1
    have b2 := (Q.bnd (k := s) (by omega)).1
    rw [itr_succ]
    unfold c_B_differs_l23 dff
    refine q_pos _ (ii_leT (by omega)) ?_
    refine q_wide Q hr fun h1 Q1 => ?_
    refine q_wide Q1.i hs fun h2 Q2 => ?_
    by_cases c : (q.A r).flatten.length = (q.A s).flatten.length
    · rw [if_pos c]
      refine q_pos _ (ii_eqT (by omega)) ?_
      exact q_an rfl Q2.i
    · rw [if_neg c]
      refine q_neg _ (ii_eqF (by omega)) ?_
      exact q_an (by congr 1; omega) Q2.i
  | succ m ih =>
    intro fu p h hf hp Q
    obtain ⟨fu, rfl⟩ : ∃ x, fu = x + 1 := ⟨fu - 1, by omega⟩
    have b1 := (Q.bnd (k := r) (by omega)).1
    rw [itr_succ]
    unfold c_B_differs_l23 dff
    refine q_neg _ (ii_leF (by omega)) ?_
    refine q_get (i := p) Q hr rfl (by omega) fun h1 Q1 => ?_
    refine q_get (i := p) Q1.i hs rfl (by omega) fun h2 Q2 => ?_
    by_cases c1 : gb (q.A r).flatten p = gb (q.A s).flatten p
    · rw [if_pos c1]
      refine q_pos _ (bn_eqT c1) ?_
      rw [add1]
      exact ih fu (p + 1) h2 (by omega) (by omega) Q2.i
    · rw [if_neg c1]
      refine q_neg _ (bn_eqF c1) ?_
      exact q_an rfl Q2.i
theorem b_differs (Q : QI q h) (hr : r < 4) (hs : s < 4) : Ends (c_B_differs h q.B (ii r) (ii s)) (AN q (dff (q.A r).flatten (q.A s).flatten (min (q.A r).flatten.length (q.A s).flatten.length) 0)) := by
  have b1 := (Q.bnd (k := r) (by omega)).1
  have b2 := (Q.bnd (k := s) (by omega)).1
  unfold c_B_differs
  refine q_grd0 Q ?_
  refine q_wide Q hr fun h1 Q1 => ?_
  refine q_wide Q1.i hs fun h2 Q2 => ?_
  refine q_nm ?_
  rw [mn_ii (by omega) (by omega)]
  exact b_differs_l23 hr hs _ FU 0 h2 (by unfold FU; omega) (by omega) Q2.i
theorem b_differ {x y : Int} (Q : QI q h) (hx : -2147483648 ≤ x ∧ x < 2147483648) (hy : -2147483648 ≤ y ∧ y < 2147483648) : Ends (c_B_differ h q.B (ii x) (ii y)) (AN q (differA q.n q.A x y)) := by
  unfold c_B_differ differA
  refine q_grd0 Q ?_
  refine q_row Q hx (fun c => ?_) fun r e hr hr4 => ?_
  · rw [if_neg (fun z => c z.1)]; exact q_an rfl Q
  · subst e
    refine q_row Q hy (fun c => ?_) fun s e hs hs4 => ?_
    · rw [if_neg (fun z => c z.2)]; exact q_an rfl Q
    · subst e
      rw [if_pos (show (0 ≤ (r : Int) ∧ (r : Int) < q.n) ∧ 0 ≤ (s : Int) ∧ (s : Int) < q.n by omega), Int.toNat_natCast, Int.toNat_natCast]
      exact q_hA (b_differs Q hr4 hs4) fun h1 Q1 => q_an rfl Q1
theorem m_first_l2 (M : QM ms n A) (hr : r < 4) (hs : s < 4) : ∀ (m fu p : Nat), m < fu → p + m = min (A r).flatten.length (A s).flatten.length → DE (itr (d_M_firstApart_l2) (fun _ _ _ _ => none) fu ms (ii r) (ii s) (ii p)) (DA ms (dfr (A r).flatten (A s).flatten m p : Nat)) := by
  have b1 := (M.2.2 r hr).2.1
  have b2 := (M.2.2 s hs).2.1
  intro m
  induction m with
  | zero =>
    intro fu p hf hp
    obtain ⟨fu, rfl⟩ : ∃ x, fu = x + 1 := ⟨fu - 1, by omega⟩
    rw [itr_succ]
    unfold d_M_firstApart_l2
    refine d_there M hr (by omega) (fun _ => d_an rfl) fun i e hi => ?_
    exact d_there M hs (by omega) (fun _ => d_an rfl) fun j e hj => by omega
  | succ m ih =>
    intro fu p hf hp
    obtain ⟨fu, rfl⟩ : ∃ x, fu = x + 1 := ⟨fu - 1, by omega⟩
    rw [itr_succ]
    unfold d_M_firstApart_l2
    refine d_there M hr (by omega) (fun z => by omega) fun i e hi => ?_
    refine d_there M hs (by omega) (fun z => by omega) fun j e hj => ?_
    refine d_bitOf (i := p) M hr rfl (by omega) ?_
    refine d_bitOf (i := p) M hs rfl (by omega) ?_
    unfold dfr
    by_cases c1 : gb (A r).flatten p = gb (A s).flatten p
    · refine d_pos _ (bn_eqT c1) ?_
      rw [add1, if_pos c1]
      exact ih fu (p + 1) (by omega) (by omega)
    · refine d_neg _ (bn_eqF c1) ?_
      rw [if_neg c1]
      exact d_an rfl
theorem m_firstApart (M : QM ms n A) (hr : r < 4) (hs : s < 4) : d_M_firstApart ms (ii r) (ii s) = dI (ii (dfr (A r).flatten (A s).flatten (min (A r).flatten.length (A s).flatten.length) 0 : Nat)) ms := by
  have b1 := (M.2.2 r hr).2.1
  refine dEqI ?_
  unfold d_M_firstApart
  exact m_first_l2 M hr hs _ FU 0 (by unfold FU; omega) (by omega)
theorem m_areLike (M : QM ms n A) (hr : r < 4) (hs : s < 4) : d_M_areLike ms (ii r) (ii s) = dI (ii (bn (decide ((A r).flatten.length = (A s).flatten.length ∧ dfr (A r).flatten (A s).flatten (min (A r).flatten.length (A s).flatten.length) 0 = (A r).flatten.length)))) ms := by
  have b1 := (M.2.2 r hr).2.1
  have b2 := (M.2.2 s hs).2.1
  have d := dfr_le (l := (A r).flatten) (k := (A s).flatten) (m := min (A r).flatten.length (A s).flatten.length) (p := 0)
  refine dEqI ?_
  unfold d_M_areLike
  refine d_size M hr ?_
  refine d_size M hs ?_
  by_cases c : (A r).flatten.length = (A s).flatten.length
  · refine d_pos _ (ii_eqT (by omega)) ?_
    refine d_bIe (m_firstApart M hr hs) ?_
    refine d_size M hr ?_
    by_cases c1 : dfr (A r).flatten (A s).flatten (min (A r).flatten.length (A s).flatten.length) 0 = (A r).flatten.length
    · refine d_pos _ (ii_eqT (by omega)) ?_
      rw [decide_eq_true ⟨c, c1⟩]
      exact d_dZ1 ⟨rfl, rfl⟩
    · refine d_neg _ (ii_eqF (by omega)) ?_
      rw [decide_eq_false (fun z => c1 z.2)]
      exact d_dZ0 ⟨rfl, rfl⟩
  · refine d_neg _ (ii_eqF (by omega)) ?_
    rw [decide_eq_false (fun z => c z.1)]
    exact d_dZ0 ⟨rfl, rfl⟩
theorem m_differ {x y : Int} (M : QM ms n A) (hx : -2147483648 ≤ x ∧ x < 2147483648) (hy : -2147483648 ≤ y ∧ y < 2147483648) : d_M_differ ms (ii x) (ii y) = dI (ii (differA n A x y)) (mset ms 0 0 0) := by
  refine dEqI ?_
  unfold d_M_differ differA
  refine d_nm ?_
  have M' := M.thr (k := 0) (v := 0)
  refine d_row M' hx (fun c => ?_) fun r e hr hr4 => ?_
  · rw [if_neg (fun z => c z.1)]; exact d_an rfl
  · subst e
    refine d_row M' hy (fun c => ?_) fun s e hs hs4 => ?_
    · rw [if_neg (fun z => c z.2)]; exact d_an rfl
    · subst e
      rw [if_pos (show (0 ≤ (r : Int) ∧ (r : Int) < n) ∧ 0 ≤ (s : Int) ∧ (s : Int) < n by omega), Int.toNat_natCast, Int.toNat_natCast, dff_dfr (by omega)]
      refine d_bIe (m_areLike M' hr4 hs4) ?_
      by_cases c : (A r).flatten.length = (A s).flatten.length ∧ dfr (A r).flatten (A s).flatten (min (A r).flatten.length (A s).flatten.length) 0 = (A r).flatten.length
      · rw [if_pos c, decide_eq_true c]
        refine d_neg _ bn1_ne ?_
        exact d_an rfl
      · rw [if_neg c, decide_eq_false c]
        refine d_pos _ rfl ?_
        exact d_bIe (m_firstApart M' hr4 hs4) (d_an rfl)
end
