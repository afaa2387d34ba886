/-! PURE SIDE: the upper level: centre -/
set_option maxRecDepth 100000
def smB (l : List Bool) : Nat → Nat
  | 0 => 0
  | p + 1 => smB l p + (if gb l p = true then p else 0)
def ssB (l : List Bool) : Nat → Nat
  | 0 => 0
  | m + 1 => ssB l m + sel true l m
theorem sm_t {l : List Bool} {p : Nat} (c : gb l p = true) : smB l (p + 1) = smB l p + p := by rw [smB, if_pos c]
theorem sm_f {l : List Bool} {p : Nat} (c : ¬ gb l p = true) : smB l (p + 1) = smB l p + 0 := by rw [smB, if_neg c]
theorem q_hLe {P : Option RH} {E : Nat × Nat → PH → Option RH} {K : Int64 → PH → Option RH} {v : Int64} {h1 : PH} {Q : Rt → PH → Prop} (e : P = rL v h1) (kk : Ends (K v h1) Q) : Ends (hL P E K) Q := by rw [e]; exact kk
theorem d_bLe {P : Option DR} {K : Int64 → MS → Option DR} {v : Int64} {m : MS} {Q : Option Value → MS → Prop} (e : P = dL v m) (kk : DE (K v m) Q) : DE (bL P K) Q := by rw [e]; exact kk
theorem sel_at {bb : Bool} {l : List Bool} {p : Nat} (h : p < l.length) (c : gb l p = bb) : sel bb l (cb bb (l.take p)) = p := by
  have e2 : sel bb l (cb bb (l.take p)) = sel bb (l.take p ++ l.drop p) (cb bb (l.take p)) := by rw [List.take_append_drop]
  rw [e2, sel_app, if_neg (by omega), Nat.sub_self, List.drop_eq_getElem_cons h, sel_cons, if_pos (by rw [← gb_at h]; exact c), if_pos rfl, List.length_take]
  omega
theorem ss_sm {l : List Bool} : ∀ p, p ≤ l.length → ssB l (cb true (l.take p)) = smB l p := by
  intro p
  induction p with
  | zero => intro _; rw [List.take_zero]; rfl
  | succ p ih =>
    intro hp
    have i := ih (by omega)
    rw [cb_take (by omega)]
    unfold smB
    by_cases c : gb l p = true
    · rw [if_pos c, if_pos c]
      show ssB l (cb true (l.take p)) + sel true l (cb true (l.take p)) = _
      rw [i, sel_at (by omega) c]
    · rw [if_neg c, if_neg c, Nat.add_zero, i, Nat.add_zero]
theorem sm_le {l : List Bool} : ∀ p, smB l p ≤ p * 600 ∨ 600 < p := by
  intro p
  induction p with
  | zero => exact Or.inl (Nat.zero_le _)
  | succ p ih =>
    by_cases c : 600 < p + 1
    · exact Or.inr c
    · refine Or.inl ?_
      unfold smB
      rcases ih with i | i
      · by_cases c : gb l p = true
        · rw [if_pos c]; omega
        · rw [if_neg c]; omega
      · omega
theorem ss_le {l : List Bool} (hl : l.length ≤ 600) : ∀ m, m ≤ cb true l → ssB l m ≤ m * 600 := by
  intro m
  induction m with
  | zero => intro _; exact Nat.zero_le _
  | succ m ih =>
    intro h
    have i := ih (by omega)
    have j := sel_lt (b := true) (l := l) (k := m) (by omega)
    unfold ssB
    omega
theorem sh32 (v : Int64) : ((v.toUInt64 >>> ((32 : Int32).toInt64.toUInt64 &&& Int64.toUInt64 63)).toInt64).toInt32 = (v >>> ((32 : Int32).toInt64 &&& 63)).toInt32 := by
  apply Int32.toBitVec_inj.1
  have e1 : ((32 : Int32).toInt64.toUInt64 &&& Int64.toUInt64 63) = 32 := by decide
  have e2 : ((32 : Int32).toInt64 &&& 63) = 32 := by decide
  rw [e1, e2]
  have f1 : ((v.toUInt64 >>> (32 : UInt64)).toInt64).toInt32.toBitVec = (v.toBitVec >>> (32 : Nat)).signExtend 32 := by
    show (((v.toUInt64 >>> (32 : UInt64)).toBitVec).signExtend 32) = _
    rw [UInt64.toBitVec_shiftRight]
    rfl
  have f2 : (v >>> (32 : Int64)).toInt32.toBitVec = (v.toBitVec.sshiftRight 32).signExtend 32 := by
    show ((v >>> (32 : Int64)).toBitVec).signExtend 32 = _
    rw [Int64.toBitVec_shiftRight]
    rfl
  rw [f1, f2]
  apply BitVec.eq_of_getLsbD_eq
  intro i hi
  rw [BitVec.getLsbD_signExtend, BitVec.getLsbD_signExtend, BitVec.getLsbD_ushiftRight, BitVec.getLsbD_sshiftRight]
  have h1 : i < 64 := by omega
  have h2 : 32 + i < 64 := by omega
  simp [h1, h2, hi]
def dW (a n : Nat) : Nat := (FP.ddiv (FP.i2d (ii a)) (FP.i2d (ii n))).toNat
def cW (y : Int) (N : Nat) : Int := if y = 0 then ((ll N) >>> ((32 : Int32).toInt64 &&& 63)).toInt32.toInt else (ll N).toInt32.toInt
def centreA (n : Nat) (A : Nat → LL) (x y : Int) : Option Int := if (0 ≤ x ∧ x < n) ∧ (0 ≤ y ∧ y ≤ 1) ∧ 0 < cnt (A x.toNat).flatten then some (cW y (dW (smB (A x.toNat).flatten (A x.toNat).flatten.length) (cnt (A x.toNat).flatten))) else none
theorem dW_eq {ms : MS} {a n : Nat} (ha : a < 16777216) (hn : 1 ≤ n ∧ n < 16777216) : ∃ (E T : Nat) (w : Int32), E < 2047 ∧ T < 4503599627370496 ∧ d_M_asDouble ms (ii a) (ii n) = dL (ll (dW a n)) (mset ms 26 0 w) ∧ FP.ddiv (FP.i2d (ii a)) (FP.i2d (ii n)) = UInt64.ofNat (E * 4503599627370496 + T) ∧ dW a n = E * 4503599627370496 + T := by
  obtain ⟨E, T, w, h1, h2, h3, h4⟩ := m_asDouble (ms := ms) ha hn
  have e : dW a n = E * 4503599627370496 + T := by
    unfold dW
    rw [h4, w64 h1 h2]
  exact ⟨E, T, w, h1, h2, by rw [h3, e], h4, e⟩
section
variable {q : QP} {h : PH} {r : Nat} {ms : MS} {n : Nat} {A : Nat → LL}
theorem b_cen_l41 {y : Int} (hr : r < 4) (hy : 0 ≤ y ∧ y ≤ 1) (hc : 0 < cnt (q.A r).flatten) : ∀ (m fu k : Nat) (h : PH), m < fu → k + m = cnt (q.A r).flatten → QI q h → Ends (itr (c_B_centre_l41) (fun _ _ _ _ _ _ => none) fu h q.B (ii r) (ii y) (FP.i2d (ii (ssB (q.A r).flatten k))) (ii k)) (AN q (cW y (dW (ssB (q.A r).flatten (cnt (q.A r).flatten)) (cnt (q.A r).flatten)))) := by
  intro m
  induction m with
  | zero =>
    intro fu k h hf hk Q
    obtain ⟨fu, rfl⟩ : ∃ x, fu = x + 1 := ⟨fu - 1, by omega⟩
    have hb := Q.bnd (k := r) (by omega)
    rw [itr_succ]
    unfold c_B_centre_l41
    refine q_lit Q hr fun h1 Q1 => ?_
    refine q_pos _ (ii_leT (by omega)) ?_
    refine q_lit Q1.i hr fun h2 Q2 => ?_
    have hk' : k = cnt (q.A r).flatten := by omega
    subst hk'
    have sl := ss_le hb.1 (cnt (q.A r).flatten) (Nat.le_refl _)
    obtain ⟨E, T, w, f1, f2, f3, f4, f5⟩ := dW_eq (ms := (fun _ _ => 0, fun _ _ => 0)) (a := ssB (q.A r).flatten (cnt (q.A r).flatten)) (n := cnt (q.A r).flatten) (by omega) (by omega)
    rw [f4, nn64 f1 f2]
    refine q_hLe (fb64 f1 f2) ?_
    rw [← f5]
    by_cases c : y = 0
    · subst c
      refine q_pos _ rfl ?_
      rw [sh32]
      exact q_an (by unfold cW; rw [if_pos rfl, ii_int]) Q2.i
    · refine q_neg _ (ii_eq0F (by omega)) ?_
      exact q_an (by unfold cW; rw [if_neg c, ii_int]) Q2.i
  | succ m ih =>
    intro fu k h hf hk Q
    obtain ⟨fu, rfl⟩ : ∃ x, fu = x + 1 := ⟨fu - 1, by omega⟩
    have hb := Q.bnd (k := r) (by omega)
    rw [itr_succ]
    unfold c_B_centre_l41
    refine q_lit Q hr fun h1 Q1 => ?_
    refine q_neg _ (ii_leF (by omega)) ?_
    have hkc : k < cb true (q.A r).flatten := by rw [cb_true]; omega
    refine q_where (bb := true) (k := k) Q1.i hr hkc fun h2 Q2 => ?_
    have sl := ss_le hb.1 (k + 1) (by omega)
    have e : FP.dadd (FP.i2d (ii (ssB (q.A r).flatten k))) (FP.i2d (ii (sel true (q.A r).flatten k))) = FP.i2d (ii (ssB (q.A r).flatten (k + 1))) := d_sum (by unfold ssB at sl; omega)
    rw [e]
    obtain ⟨E, T, f1, f2, f3⟩ := d_word (a := ssB (q.A r).flatten (k + 1)) (by omega)
    have nd : ∀ P : Option RH, nnD (FP.i2d (ii (ssB (q.A r).flatten (k + 1)))) P = P := fun P => by rw [f3, nn64 f1 f2]
    rw [nd]
    refine q_nm ?_
    rw [add1]
    exact ih fu (k + 1) h2 (by omega) (by omega) Q2.i
theorem b_centre {x y : Int} (Q : QI q h) (hx : -2147483648 ≤ x ∧ x < 2147483648) (hy : -2147483648 ≤ y ∧ y < 2147483648) : Ends (c_B_centre h q.B (ii x) (ii y)) (AO q (centreA q.n q.A x y)) := by
  unfold c_B_centre centreA
  refine q_grd0 Q ?_
  refine q_row Q hx (fun c => ?_) fun r e hr hr4 => ?_
  · rw [if_neg (fun z => c z.1)]
    unfold c_B_centre_j32 c_B_centre_j33
    exact q_no Q
  · subst e
    rw [Int.toNat_natCast]
    have hb := Q.bnd (k := r) (by omega)
    refine q_in (a := 0) (b := 1) rfl rfl (by omega) (fun c => ?_) fun c => ?_
    · rw [if_neg (fun z => c z.2.1)]
      unfold c_B_centre_j32 c_B_centre_j33
      exact q_no Q
    refine q_lit Q hr4 fun h1 Q1 => ?_
    by_cases c1 : cnt (q.A r).flatten ≤ 0
    · refine q_pos _ (ii_leT (b := 0) (by omega)) ?_
      rw [if_neg (by omega)]
      unfold c_B_centre_j32 c_B_centre_j33
      exact q_no Q1.i
    refine q_neg _ (ii_leF (b := 0) (by omega)) ?_
    rw [if_pos (by omega)]
    unfold c_B_centre_j33
    refine q_yes ?_
    refine q_nm ?_
    rw [d_zero]
    have k := b_cen_l41 (y := y) hr4 c (by omega) (cnt (q.A r).flatten) FU 0 h1 (by unfold FU; omega) (by omega) Q1.i
    have e := ss_sm (l := (q.A r).flatten) (q.A r).flatten.length (Nat.le_refl _)
    rw [List.take_length, cb_true] at e
    rw [e] at k
    exact k
theorem m_cen_l35 {y : Int} (M : QM (mset ms 0 0 0) n A) (hr : r < 4) (hy : 0 ≤ y ∧ y ≤ 1) : ∀ (m fu p : Nat), m < fu → p + m = (A r).flatten.length → DE (itr (d_M_centre_l35) (fun _ _ _ _ _ _ => none) fu (mset ms 0 0 0) (ii r) (ii y) (ii (cnt ((A r).flatten.take p))) (ii (smB (A r).flatten p)) (ii p)) (DZ ms (if 0 < cnt (A r).flatten then some (cW y (dW (smB (A r).flatten (A r).flatten.length) (cnt (A r).flatten))) else none)) := by
  have hb := (M.2.2 r hr).2.1
  intro m
  induction m with
  | zero =>
    intro fu p hf hp
    obtain ⟨fu, rfl⟩ : ∃ x, fu = x + 1 := ⟨fu - 1, by omega⟩
    have hp' : p = (A r).flatten.length := by omega
    have cl := cnt_le (A r).flatten
    have sl := sm_le (l := (A r).flatten) (A r).flatten.length
    rw [itr_succ]
    unfold d_M_centre_l35
    refine d_size M hr ?_
    refine d_pos _ (ii_leT (by omega)) ?_
    rw [hp', List.take_length]
    by_cases c : cnt (A r).flatten = 0
    · refine d_pos _ (by rw [c]; rfl) ?_
      rw [if_neg (by omega)]
      exact d_no
    · refine d_neg _ (ii_eq0F (by omega)) ?_
      rw [if_pos (by omega)]
      obtain ⟨E, T, w, f1, f2, f3, f4, f5⟩ := dW_eq (ms := mset ms 0 0 0) (a := smB (A r).flatten (A r).flatten.length) (n := cnt (A r).flatten) (by omega) (by omega)
      refine d_bLe f3 ?_
      by_cases c : y = 0
      · subst c
        refine d_pos _ rfl ?_
        exact d_yes2 (by unfold cW; rw [if_pos rfl, ii_int])
      · refine d_neg _ (ii_eq0F (by omega)) ?_
        exact d_yes2 (by unfold cW; rw [if_neg c, ii_int])
  | succ m ih =>
    intro fu p hf hp
    obtain ⟨fu, rfl⟩ : ∃ x, fu = x + 1 := ⟨fu - 1, by omega⟩
    rw [itr_succ]
    unfold d_M_centre_l35
    refine d_size M hr ?_
    refine d_neg _ (ii_leF (by omega)) ?_
    refine d_bitOf (i := p) M hr rfl (by omega) ?_
    have ct := cb_take (bb := true) (l := (A r).flatten) (p := p) (by omega)
    rw [cb_true, cb_true] at ct
    have k := ih fu (p + 1) (by omega) (by omega)
    by_cases c1 : gb (A r).flatten p = true
    · rw [if_pos c1] at ct
      refine d_neg _ (by rw [c1]; decide) ?_
      refine d_nm ?_
      rw [ii_add, add1, add1]
      rw [ct] at k
      rw [sm_t c1] at k
      exact k
    · rw [if_neg c1] at ct
      refine d_pos _ (by rw [Bool.not_eq_true] at c1; rw [c1]; rfl) ?_
      rw [add1]
      rw [ct] at k
      rw [sm_f c1] at k
      exact k
theorem m_centre {x y : Int} (M : QM ms n A) (hx : -2147483648 ≤ x ∧ x < 2147483648) (hy : -2147483648 ≤ y ∧ y < 2147483648) : DE (d_M_centre ms (ii x) (ii y)) (DZ ms (centreA n A x y)) := by
  unfold d_M_centre centreA
  refine d_nm ?_
  have M' := M.thr (k := 0) (v := 0)
  refine d_row M' hx (fun c => ?_) fun r e hr hr4 => ?_
  · rw [if_neg (fun z => c z.1)]
    exact d_no
  · subst e
    rw [Int.toNat_natCast]
    have hb := (M.2.2 r hr4).2.1
    refine d_in (a := 0) (b := 1) rfl rfl (by omega) (fun c => ?_) fun c => ?_
    · rw [if_neg (fun z => c z.2.1)]
      exact d_no
    have k := m_cen_l35 (y := y) M' hr4 c (A r).flatten.length FU 0 (by unfold FU; omega) (by omega)
    rw [List.take_zero] at k
    by_cases c1 : 0 < cnt (A r).flatten
    · rw [if_pos c1] at k
      rw [if_pos ⟨by omega, c, c1⟩]
      exact k
    · rw [if_neg c1] at k
      rw [if_neg (fun z => c1 z.2.2)]
      exact k
end
