/-! PURE SIDE: both sides: put, set, cut, turn, join, split, type, erase (printed by gen/mk_deeds.py) -/
set_option maxRecDepth 100000
section
variable {b own : Nat → Nat} {X : XS} {h : PH} {held : Int} {rm z0 z' : Nat} {skm : Int} {sn : Option Nat} {R R' N N' : Nat → Nat} {Tb : Nat → Bool} {seed rows' seed' : Int32} {c s : Nat} {ms : MS} {Z : Rt → PH → Prop}
theorem CBo.bc (O : CBo b own X held rm z0 z' skm sn R R' N N' Tb seed rows' seed' h) (I : XI X) : ∃ fs gs, BC h (b 0) rm z0 X.w.n fs gs := by
  obtain ⟨na, f, r1, _⟩ := O.2.2.1.2.2.2.2.2.1
  exact ⟨_, _, O.1, rfl, rfl, r1, rfl, I.1.1⟩
theorem r_row {B rm z n : Nat} {fs gs : List Value} {x : Int} {P1 P2 : PH → Option RH} {I : ∀ v : Int32, Decidable (v = 0)} (C : BC h B rm z n fs gs) (hx : -2147483648 ≤ x ∧ x < 2147483648) (k0 : ¬ (0 ≤ x ∧ x < n) → Ends (P1 h) Z) (k1 : 0 ≤ x ∧ x < n → Ends (P2 h) Z) : Ends (hI (c_B_isRow h B (ii x)) noX fun v h1 => @ite _ (v = 0) (I v) (P1 h1) (P2 h1)) Z := by
  refine q_hIe (b_isRow C hx) ?_
  by_cases c : 0 ≤ x ∧ x < n
  · rw [decide_eq_true c]
    exact q_neg _ bn1_ne (k1 c)
  · rw [decide_eq_false c]
    exact q_pos _ rfl (k0 c)
theorem r_two {B rm z n : Nat} {fs gs : List Value} {x y : Int} {P1 P2 : PH → Option RH} {I : ∀ v : Int32, Decidable (v = 0)} (C : BC h B rm z n fs gs) (hx : -2147483648 ≤ x ∧ x < 2147483648) (hy : -2147483648 ≤ y ∧ y < 2147483648) (k0 : ¬ ((0 ≤ x ∧ x < n) ∧ (0 ≤ y ∧ y < n) ∧ x ≠ y) → Ends (P1 h) Z) (k1 : (0 ≤ x ∧ x < n) ∧ (0 ≤ y ∧ y < n) ∧ x ≠ y → Ends (P2 h) Z) : Ends (hI (c_B_areTwo h B (ii x) (ii y)) noX fun v h1 => @ite _ (v = 0) (I v) (P1 h1) (P2 h1)) Z := by
  have e : c_B_areTwo h B (ii x) (ii y) = rI (ii (bn (decide ((0 ≤ x ∧ x < n) ∧ (0 ≤ y ∧ y < n) ∧ x ≠ y)))) h := by
    refine eqI ?_
    unfold c_B_areTwo
    refine q_grd C.1 (by decide) ?_
    refine r_row C hx (fun c => ?_) fun c1 => ?_
    · rw [decide_eq_false (fun q => c q.1)]; exact q_rZ0 ⟨rfl, rfl⟩
    refine r_row C hy (fun c => ?_) fun c2 => ?_
    · rw [decide_eq_false (fun q => c q.2.1)]; exact q_rZ0 ⟨rfl, rfl⟩
    by_cases c3 : x = y
    · rw [decide_eq_false (fun q => q.2.2 c3)]
      refine q_pos _ (by rw [c3]) ?_
      exact q_rZ0 ⟨rfl, rfl⟩
    · rw [decide_eq_true ⟨c1, c2, c3⟩]
      refine q_neg _ (ii_eqF (by omega)) ?_
      exact q_rZ1 ⟨rfl, rfl⟩
  refine q_hIe e ?_
  by_cases c : (0 ≤ x ∧ x < n) ∧ (0 ≤ y ∧ y < n) ∧ x ≠ y
  · rw [decide_eq_true c]
    exact q_neg _ bn1_ne (k1 c)
  · rw [decide_eq_false c]
    exact q_pos _ rfl (k0 c)
theorem r_far {B : Nat} {fs : List Value} {x : Int} {P1 P2 : PH → Option RH} {I : ∀ v : Int32, Decidable (v = 0)} (e0 : h.1 B = some (.inr (0, fs))) (hx : -2147483648 ≤ x ∧ x < 2147483648) (k0 : 0 ≤ x ∧ x ≤ 999 → Ends (P1 h) Z) (k1 : ¬ (0 ≤ x ∧ x ≤ 999) → Ends (P2 h) Z) : Ends (hI (c_B_isFar h B (ii x)) noX fun v h1 => @ite _ (v = 0) (I v) (P1 h1) (P2 h1)) Z := by
  have e : c_B_isFar h B (ii x) = rI (ii (bn (decide (¬ (0 ≤ x ∧ x ≤ 999))))) h := by
    refine eqI ?_
    unfold c_B_isFar
    refine q_grd e0 (by decide) ?_
    refine q_in (a := 0) (b := 999) rfl rfl (by omega) (fun c => ?_) fun c => ?_
    · rw [decide_eq_true c]; exact q_rZ1 ⟨rfl, rfl⟩
    · rw [decide_eq_false (fun q => q c)]; exact q_rZ0 ⟨rfl, rfl⟩
  refine q_hIe e ?_
  by_cases c : 0 ≤ x ∧ x ≤ 999
  · rw [decide_eq_false (fun q => q c)]
    exact q_pos _ rfl (k0 c)
  · rw [decide_eq_true c]
    exact q_neg _ bn1_ne (k1 c)
theorem m_areTwo {n : Nat} {A : Nat → LL} {x y : Int} (M : QM ms n A) (hx : -2147483648 ≤ x ∧ x < 2147483648) (hy : -2147483648 ≤ y ∧ y < 2147483648) : d_M_areTwo ms (ii x) (ii y) = dI (ii (bn (decide ((0 ≤ x ∧ x < n) ∧ (0 ≤ y ∧ y < n) ∧ x ≠ y)))) ms := by
  refine dEqI ?_
  unfold d_M_areTwo
  refine d_row M hx (fun c => ?_) fun r e hr hr4 => ?_
  · rw [decide_eq_false (fun q => c q.1)]; exact d_dZ0 ⟨rfl, rfl⟩
  refine d_row M hy (fun c => ?_) fun r2 e2 hr2 hr42 => ?_
  · rw [decide_eq_false (fun q => c q.2.1)]; exact d_dZ0 ⟨rfl, rfl⟩
  by_cases c3 : x = y
  · rw [decide_eq_false (fun q => q.2.2 c3)]
    refine d_pos _ (by rw [c3]) ?_
    exact d_dZ0 ⟨rfl, rfl⟩
  · rw [decide_eq_true ⟨by omega, by omega, c3⟩]
    refine d_neg _ (ii_eqF (by omega)) ?_
    exact d_dZ1 ⟨rfl, rfl⟩
/-- a deed that is asked for -/
theorem act_core {what r i x : Nat} {W Rr Y V : Int32} (O : CBo b own X held rm z0 z' skm sn R R' N N' Tb seed rows' seed' h) (I : XI X) (M : CM X ms) (k : DoOk what r i x) (hr : what ≤ 5 → r < X.w.n) (hx : what = 4 ∨ what = 5 → x < X.w.n) (z1 : h.2.1.1 + 2 * (s11 N + s11 N') ≤ c) (z2 : h.2.1.2 + 7 * (s11 N + s11 N') ≤ s) (eW : W = ii what) (eR : Rr = ii r) (eY : Y = ii i) (eV : V = ii x) : ∃ v h' ms' own' X', c_B_acts h (b 0) W Rr Y V = rI v h' ∧ d_M_act ms W Rr Y V (1 : Int32) = dI v ms' ∧ CB b own' X' (c + 10000) (s + 90000) h' ∧ XI X' ∧ CM X' ms' ∧ FX own own' (b 0) (b 16) h h' := by
  subst eW eR eY eV
  obtain ⟨v, h', e, ev, own', X', N2, T2, O', F, t1, t2, kn, ky⟩ := b_acts O I.lt I.2.2.2.1 k
  have k0 : DoOk what r 0 x := ⟨k.1, k.2.1, by omega, k.2.2.2.1, fun _ => by omega, k.2.2.2.2.2⟩
  obtain ⟨v2, m', em, ev2, mn, my⟩ := m_act (zi := (i : Int)) M I (by have := k.2.2.1; omega) k0 (fun _ _ => by rw [Int.toNat_natCast]; exact k) (fun _ => by omega)
  have ew : (if (i : Int) < 0 then 1 else why X.w.A what r (i : Int).toNat x : Nat) = why X.w.A what r i x := by rw [if_neg (by omega), Int.toNat_natCast]
  rw [ew] at ev2 mn my
  rw [Int.toNat_natCast] at my
  subst ev ev2
  have C' := O'.cb (c := c + 10000) (s := s + 90000) (by omega) (by omega)
  by_cases w : why X.w.A what r i x = 0
  · obtain ⟨A', T', sp, eX⟩ := ky w
    subst eX
    exact ⟨_, h', m', own', _, e, em, C', I.xk (I.act k hr hx sp fun j hj => O'.lsb hj), my w A' T' sp, F⟩
  · have eX := kn w
    have eM := mn w
    subst eX eM
    exact ⟨_, h', m', own', X', e, em, C', I, M, F⟩
theorem act_far {what r x : Nat} {zi : Int} {W Rr V : Int32} (I : XI X) (M : CM X ms) (hz : -2147483648 ≤ zi ∧ zi < 2147483648) (k : DoOk what r 0 x) (far : zi < 0 ∨ (999 < zi ∧ 2 ≤ what ∧ what ≠ 4)) (k4 : what ≠ 4) (eW : W = ii what) (eR : Rr = ii r) (eV : V = ii x) : d_M_act ms W Rr (ii zi) V (1 : Int32) = dI (1 : Int32) ms := by
  subst eW eR eV
  have hb := I.iv.len r k.2.1
  have hb4 := I.lt.len
  have hT := I.lt.1
  have w1 : (if zi < 0 then 1 else why X.w.A what r zi.toNat x : Nat) = 1 := by
    by_cases c : zi < 0
    · rw [if_pos c]
    · rw [if_neg c]
      have f := far.resolve_left c
      have w : what = 2 ∨ what = 3 ∨ what = 5 ∨ what = 6 ∨ what = 7 := by have := k.1; omega
      unfold why
      rcases w with w | w | w | w | w <;> subst w <;> exact if_pos (by omega)
  obtain ⟨v2, m', em, ev2, mn, my⟩ := m_act M I hz k (fun h1 h2 => by rw [if_neg (by omega), h2] at w1; cases w1) (fun q => absurd q k4)
  rw [w1] at ev2 mn
  have e2 := mn (by decide)
  subst ev2 e2
  exact em
theorem act_not {W Rr Y V : Int32} : d_M_act ms W Rr Y V (0 : Int32) = dI (-1 : Int32) ms := by
  unfold d_M_act
  rw [if_pos rfl]
end
section
variable {b : Nat → Nat} {x y z : Int}
theorem td_put (hx : -2147483648 ≤ x ∧ x < 2147483648) (hy : -2147483648 ≤ y ∧ y < 2147483648) (hz : -2147483648 ≤ z ∧ z < 2147483648) : TD b (fun h => c_B_put h (b 0) (ii x) (ii y) (ii z)) (fun ms => d_M_put ms (ii x) (ii y) (ii z)) := by
  intro own X c s h ms C I M
  have M' : CM X (mset ms 0 0 0) := M.set (by decide)
  have Q' := M'.qm I
  have n4 := I.1.1
  have C' := C
  obtain ⟨held, rm, z0, z', skm, sn, R, R', N, N', Tb, seed, rows', seed', e0, sk, D, S, z1, z2⟩ := C
  have O : CBo b own X held rm z0 z' skm sn R R' N N' Tb seed rows' seed' h := ⟨e0, sk, D, S⟩
  obtain ⟨fs, gs, B0⟩ := O.bc I
  by_cases g : (0 ≤ x ∧ x < X.w.n) ∧ 0 ≤ z ∧ z ≤ 1
  · obtain ⟨r, rfl⟩ : ∃ k : Nat, x = k := ⟨x.toNat, by omega⟩
    obtain ⟨v, rfl⟩ : ∃ k : Nat, z = k := ⟨z.toNat, by omega⟩
    by_cases f : y < 0
    · have a1 := act_far (what := 0) (r := r) (x := v) (zi := y) I M' hy ⟨by decide, by omega, by omega, by omega, fun _ => by omega, fun _ => by omega, fun q => absurd q (by decide), fun q => by omega, fun q => absurd q (by decide)⟩ (by omega) (by decide) rfl rfl rfl
      refine ⟨1, h, mset ms 0 0 0, own, X, eqI ?_, dEqI ?_, C'.wk (by omega) (by omega), I, M', FX.rf S.2.2.2⟩
      · unfold c_B_put
        refine q_grd e0 (by decide) ?_
        refine r_row B0 hx (fun q => absurd g.1 q) fun _ => ?_
        refine q_in (a := 0) (b := 1) rfl rfl (by omega) (fun q => absurd g.2 q) fun _ => ?_
        refine q_neg _ (ii_leF (a := 0) (by omega)) ?_
        exact q_rI ⟨rfl, rfl⟩
      · unfold d_M_put
        refine d_nm ?_
        refine d_row Q' hx (fun q => absurd g.1 q) fun r e hr hr4 => ?_
        refine d_bit hz (fun q => absurd g.2 q) fun _ => ?_
        refine d_bIe a1 ?_
        exact d_dI ⟨rfl, rfl⟩
    · obtain ⟨i, rfl⟩ : ∃ k : Nat, y = k := ⟨y.toNat, by omega⟩
      obtain ⟨v, h', ms', own', X', a1, a2, a3, a4, a5, a6⟩ := act_core (what := 0) (r := r) (i := i) (x := v) O I M' ⟨by decide, by omega, by omega, by omega, fun _ => by omega, fun _ => by omega, fun q => absurd q (by decide), fun q => by omega, fun q => absurd q (by decide)⟩ (fun _ => by omega) (fun q => absurd q (by decide)) z1 z2 rfl rfl rfl rfl
      refine ⟨v, h', ms', own', X', eqI ?_, dEqI ?_, a3, a4, a5, a6⟩
      · unfold c_B_put
        refine q_grd e0 (by decide) ?_
        refine r_row B0 hx (fun q => absurd g.1 q) fun _ => ?_
        refine q_in (a := 0) (b := 1) rfl rfl (by omega) (fun q => absurd g.2 q) fun _ => ?_
        refine q_pos _ (ii_leT (a := 0) (by omega)) ?_
        refine q_hIe a1 ?_
        exact q_rI ⟨rfl, rfl⟩
      · unfold d_M_put
        refine d_nm ?_
        refine d_row Q' hx (fun q => absurd g.1 q) fun r e hr hr4 => ?_
        refine d_bit hz (fun q => absurd g.2 q) fun _ => ?_
        refine d_bIe a2 ?_
        exact d_dI ⟨rfl, rfl⟩
  · refine ⟨-1, h, mset ms 0 0 0, own, X, eqI ?_, dEqI ?_, C'.wk (by omega) (by omega), I, M', FX.rf S.2.2.2⟩
    · unfold c_B_put
      refine q_grd e0 (by decide) ?_
      refine r_row B0 hx (fun q => ?_) fun q1 => ?_
      · exact q_rI ⟨rfl, rfl⟩
      refine q_in (a := 0) (b := 1) rfl rfl (by omega) (fun q => ?_) fun q2 => absurd (And.intro q1 q2) g
      exact q_rI ⟨rfl, rfl⟩
    · unfold d_M_put
      refine d_nm ?_
      refine d_row Q' hx (fun q => ?_) fun r e hr hr4 => ?_
      · exact d_bIe act_not (d_dI ⟨rfl, rfl⟩)
      refine d_bit hz (fun q => ?_) fun q2 => absurd (And.intro (show 0 ≤ x ∧ x < X.w.n by omega) q2) g
      exact d_bIe act_not (d_dI ⟨rfl, rfl⟩)
theorem td_set (hx : -2147483648 ≤ x ∧ x < 2147483648) (hy : -2147483648 ≤ y ∧ y < 2147483648) (hz : -2147483648 ≤ z ∧ z < 2147483648) : TD b (fun h => c_B_set h (b 0) (ii x) (ii y) (ii z)) (fun ms => d_M_set ms (ii x) (ii y) (ii z)) := by
  intro own X c s h ms C I M
  have M' : CM X (mset ms 0 0 0) := M.set (by decide)
  have Q' := M'.qm I
  have n4 := I.1.1
  have C' := C
  obtain ⟨held, rm, z0, z', skm, sn, R, R', N, N', Tb, seed, rows', seed', e0, sk, D, S, z1, z2⟩ := C
  have O : CBo b own X held rm z0 z' skm sn R R' N N' Tb seed rows' seed' h := ⟨e0, sk, D, S⟩
  obtain ⟨fs, gs, B0⟩ := O.bc I
  by_cases g : (0 ≤ x ∧ x < X.w.n) ∧ 0 ≤ z ∧ z ≤ 1
  · obtain ⟨r, rfl⟩ : ∃ k : Nat, x = k := ⟨x.toNat, by omega⟩
    obtain ⟨v, rfl⟩ : ∃ k : Nat, z = k := ⟨z.toNat, by omega⟩
    by_cases f : y < 0
    · have a1 := act_far (what := 1) (r := r) (x := v) (zi := y) I M' hy ⟨by decide, by omega, by omega, by omega, fun _ => by omega, fun _ => by omega, fun q => absurd q (by decide), fun q => by omega, fun q => absurd q (by decide)⟩ (by omega) (by decide) rfl rfl rfl
      refine ⟨1, h, mset ms 0 0 0, own, X, eqI ?_, dEqI ?_, C'.wk (by omega) (by omega), I, M', FX.rf S.2.2.2⟩
      · unfold c_B_set
        refine q_grd e0 (by decide) ?_
        refine r_row B0 hx (fun q => absurd g.1 q) fun _ => ?_
        refine q_in (a := 0) (b := 1) rfl rfl (by omega) (fun q => absurd g.2 q) fun _ => ?_
        refine q_neg _ (ii_leF (a := 0) (by omega)) ?_
        exact q_rI ⟨rfl, rfl⟩
      · unfold d_M_set
        refine d_nm ?_
        refine d_row Q' hx (fun q => absurd g.1 q) fun r e hr hr4 => ?_
        refine d_bit hz (fun q => absurd g.2 q) fun _ => ?_
        refine d_bIe a1 ?_
        exact d_dI ⟨rfl, rfl⟩
    · obtain ⟨i, rfl⟩ : ∃ k : Nat, y = k := ⟨y.toNat, by omega⟩
      obtain ⟨v, h', ms', own', X', a1, a2, a3, a4, a5, a6⟩ := act_core (what := 1) (r := r) (i := i) (x := v) O I M' ⟨by decide, by omega, by omega, by omega, fun _ => by omega, fun _ => by omega, fun q => absurd q (by decide), fun q => by omega, fun q => absurd q (by decide)⟩ (fun _ => by omega) (fun q => absurd q (by decide)) z1 z2 rfl rfl rfl rfl
      refine ⟨v, h', ms', own', X', eqI ?_, dEqI ?_, a3, a4, a5, a6⟩
      · unfold c_B_set
        refine q_grd e0 (by decide) ?_
        refine r_row B0 hx (fun q => absurd g.1 q) fun _ => ?_
        refine q_in (a := 0) (b := 1) rfl rfl (by omega) (fun q => absurd g.2 q) fun _ => ?_
        refine q_pos _ (ii_leT (a := 0) (by omega)) ?_
        refine q_hIe a1 ?_
        exact q_rI ⟨rfl, rfl⟩
      · unfold d_M_set
        refine d_nm ?_
        refine d_row Q' hx (fun q => absurd g.1 q) fun r e hr hr4 => ?_
        refine d_bit hz (fun q => absurd g.2 q) fun _ => ?_
        refine d_bIe a2 ?_
        exact d_dI ⟨rfl, rfl⟩
  · refine ⟨-1, h, mset ms 0 0 0, own, X, eqI ?_, dEqI ?_, C'.wk (by omega) (by omega), I, M', FX.rf S.2.2.2⟩
    · unfold c_B_set
      refine q_grd e0 (by decide) ?_
      refine r_row B0 hx (fun q => ?_) fun q1 => ?_
      · exact q_rI ⟨rfl, rfl⟩
      refine q_in (a := 0) (b := 1) rfl rfl (by omega) (fun q => ?_) fun q2 => absurd (And.intro q1 q2) g
      exact q_rI ⟨rfl, rfl⟩
    · unfold d_M_set
      refine d_nm ?_
      refine d_row Q' hx (fun q => ?_) fun r e hr hr4 => ?_
      · exact d_bIe act_not (d_dI ⟨rfl, rfl⟩)
      refine d_bit hz (fun q => ?_) fun q2 => absurd (And.intro (show 0 ≤ x ∧ x < X.w.n by omega) q2) g
      exact d_bIe act_not (d_dI ⟨rfl, rfl⟩)
theorem td_cut (hx : -2147483648 ≤ x ∧ x < 2147483648) (hy : -2147483648 ≤ y ∧ y < 2147483648) (hz : -2147483648 ≤ z ∧ z < 2147483648) : TD b (fun h => c_B_cut h (b 0) (ii x) (ii y) (ii z)) (fun ms => d_M_cut ms (ii x) (ii y) (ii z)) := by
  intro own X c s h ms C I M
  have M' : CM X (mset ms 0 0 0) := M.set (by decide)
  have Q' := M'.qm I
  have n4 := I.1.1
  have C' := C
  obtain ⟨held, rm, z0, z', skm, sn, R, R', N, N', Tb, seed, rows', seed', e0, sk, D, S, z1, z2⟩ := C
  have O : CBo b own X held rm z0 z' skm sn R R' N N' Tb seed rows' seed' h := ⟨e0, sk, D, S⟩
  obtain ⟨fs, gs, B0⟩ := O.bc I
  by_cases g : (0 ≤ x ∧ x < X.w.n) ∧ 1 ≤ z ∧ z ≤ 600
  · obtain ⟨r, rfl⟩ : ∃ k : Nat, x = k := ⟨x.toNat, by omega⟩
    obtain ⟨v, rfl⟩ : ∃ k : Nat, z = k := ⟨z.toNat, by omega⟩
    by_cases f : ¬ (0 ≤ y ∧ y ≤ 999)
    · have a1 := act_far (what := 2) (r := r) (x := v) (zi := y) I M' hy ⟨by decide, by omega, by omega, by omega, fun _ => by omega, fun _ => by omega, fun q => absurd q (by decide), fun q => by omega, fun q => absurd q (by decide)⟩ (by omega) (by decide) rfl rfl rfl
      refine ⟨1, h, mset ms 0 0 0, own, X, eqI ?_, dEqI ?_, C'.wk (by omega) (by omega), I, M', FX.rf S.2.2.2⟩
      · unfold c_B_cut
        refine q_grd e0 (by decide) ?_
        refine r_row B0 hx (fun q => absurd g.1 q) fun _ => ?_
        refine q_in (a := 1) (b := 600) rfl rfl (by omega) (fun q => absurd g.2 q) fun _ => ?_
        refine r_far e0 hy (fun q => absurd q f) fun _ => ?_
        exact q_rI ⟨rfl, rfl⟩
      · unfold d_M_cut
        refine d_nm ?_
        refine d_row Q' hx (fun q => absurd g.1 q) fun r e hr hr4 => ?_
        refine d_in (a := 1) (b := 600) rfl rfl (by omega) (fun q => absurd g.2 q) fun _ => ?_
        refine d_bIe a1 ?_
        exact d_dI ⟨rfl, rfl⟩
    · rw [Classical.not_not] at f
      obtain ⟨i, rfl⟩ : ∃ k : Nat, y = k := ⟨y.toNat, by omega⟩
      obtain ⟨v, h', ms', own', X', a1, a2, a3, a4, a5, a6⟩ := act_core (what := 2) (r := r) (i := i) (x := v) O I M' ⟨by decide, by omega, by omega, by omega, fun _ => by omega, fun _ => by omega, fun q => absurd q (by decide), fun q => by omega, fun q => absurd q (by decide)⟩ (fun _ => by omega) (fun q => absurd q (by decide)) z1 z2 rfl rfl rfl rfl
      refine ⟨v, h', ms', own', X', eqI ?_, dEqI ?_, a3, a4, a5, a6⟩
      · unfold c_B_cut
        refine q_grd e0 (by decide) ?_
        refine r_row B0 hx (fun q => absurd g.1 q) fun _ => ?_
        refine q_in (a := 1) (b := 600) rfl rfl (by omega) (fun q => absurd g.2 q) fun _ => ?_
        refine r_far e0 hy (fun _ => ?_) fun q => absurd f q
        refine q_hIe a1 ?_
        exact q_rI ⟨rfl, rfl⟩
      · unfold d_M_cut
        refine d_nm ?_
        refine d_row Q' hx (fun q => absurd g.1 q) fun r e hr hr4 => ?_
        refine d_in (a := 1) (b := 600) rfl rfl (by omega) (fun q => absurd g.2 q) fun _ => ?_
        refine d_bIe a2 ?_
        exact d_dI ⟨rfl, rfl⟩
  · refine ⟨-1, h, mset ms 0 0 0, own, X, eqI ?_, dEqI ?_, C'.wk (by omega) (by omega), I, M', FX.rf S.2.2.2⟩
    · unfold c_B_cut
      refine q_grd e0 (by decide) ?_
      refine r_row B0 hx (fun q => ?_) fun q1 => ?_
      · exact q_rI ⟨rfl, rfl⟩
      refine q_in (a := 1) (b := 600) rfl rfl (by omega) (fun q => ?_) fun q2 => absurd (And.intro q1 q2) g
      exact q_rI ⟨rfl, rfl⟩
    · unfold d_M_cut
      refine d_nm ?_
      refine d_row Q' hx (fun q => ?_) fun r e hr hr4 => ?_
      · exact d_bIe act_not (d_dI ⟨rfl, rfl⟩)
      refine d_in (a := 1) (b := 600) rfl rfl (by omega) (fun q => ?_) fun q2 => absurd (And.intro (show 0 ≤ x ∧ x < X.w.n by omega) q2) g
      exact d_bIe act_not (d_dI ⟨rfl, rfl⟩)
theorem td_turn (hx : -2147483648 ≤ x ∧ x < 2147483648) (hy : -2147483648 ≤ y ∧ y < 2147483648) (hz : -2147483648 ≤ z ∧ z < 2147483648) : TD b (fun h => c_B_turn h (b 0) (ii x) (ii y) (ii z)) (fun ms => d_M_turn ms (ii x) (ii y) (ii z)) := by
  intro own X c s h ms C I M
  have M' : CM X (mset ms 0 0 0) := M.set (by decide)
  have Q' := M'.qm I
  have n4 := I.1.1
  have C' := C
  obtain ⟨held, rm, z0, z', skm, sn, R, R', N, N', Tb, seed, rows', seed', e0, sk, D, S, z1, z2⟩ := C
  have O : CBo b own X held rm z0 z' skm sn R R' N N' Tb seed rows' seed' h := ⟨e0, sk, D, S⟩
  obtain ⟨fs, gs, B0⟩ := O.bc I
  by_cases g : (0 ≤ x ∧ x < X.w.n) ∧ 1 ≤ z ∧ z ≤ 600
  · obtain ⟨r, rfl⟩ : ∃ k : Nat, x = k := ⟨x.toNat, by omega⟩
    obtain ⟨v, rfl⟩ : ∃ k : Nat, z = k := ⟨z.toNat, by omega⟩
    by_cases f : ¬ (0 ≤ y ∧ y ≤ 999)
    · have a1 := act_far (what := 3) (r := r) (x := v) (zi := y) I M' hy ⟨by decide, by omega, by omega, by omega, fun _ => by omega, fun _ => by omega, fun q => absurd q (by decide), fun q => by omega, fun q => absurd q (by decide)⟩ (by omega) (by decide) rfl rfl rfl
      refine ⟨1, h, mset ms 0 0 0, own, X, eqI ?_, dEqI ?_, C'.wk (by omega) (by omega), I, M', FX.rf S.2.2.2⟩
      · unfold c_B_turn
        refine q_grd e0 (by decide) ?_
        refine r_row B0 hx (fun q => absurd g.1 q) fun _ => ?_
        refine q_in (a := 1) (b := 600) rfl rfl (by omega) (fun q => absurd g.2 q) fun _ => ?_
        refine r_far e0 hy (fun q => absurd q f) fun _ => ?_
        exact q_rI ⟨rfl, rfl⟩
      · unfold d_M_turn
        refine d_nm ?_
        refine d_row Q' hx (fun q => absurd g.1 q) fun r e hr hr4 => ?_
        refine d_in (a := 1) (b := 600) rfl rfl (by omega) (fun q => absurd g.2 q) fun _ => ?_
        refine d_bIe a1 ?_
        exact d_dI ⟨rfl, rfl⟩
    · rw [Classical.not_not] at f
      obtain ⟨i, rfl⟩ : ∃ k : Nat, y = k := ⟨y.toNat, by omega⟩
      obtain ⟨v, h', ms', own', X', a1, a2, a3, a4, a5, a6⟩ := act_core (what := 3) (r := r) (i := i) (x := v) O I M' ⟨by decide, by omega, by omega, by omega, fun _ => by omega, fun _ => by omega, fun q => absurd q (by decide), fun q => by omega, fun q => absurd q (by decide)⟩ (fun _ => by omega) (fun q => absurd q (by decide)) z1 z2 rfl rfl rfl rfl
      refine ⟨v, h', ms', own', X', eqI ?_, dEqI ?_, a3, a4, a5, a6⟩
      · unfold c_B_turn
        refine q_grd e0 (by decide) ?_
        refine r_row B0 hx (fun q => absurd g.1 q) fun _ => ?_
        refine q_in (a := 1) (b := 600) rfl rfl (by omega) (fun q => absurd g.2 q) fun _ => ?_
        refine r_far e0 hy (fun _ => ?_) fun q => absurd f q
        refine q_hIe a1 ?_
        exact q_rI ⟨rfl, rfl⟩
      · unfold d_M_turn
        refine d_nm ?_
        refine d_row Q' hx (fun q => absurd g.1 q) fun r e hr hr4 => ?_
        refine d_in (a := 1) (b := 600) rfl rfl (by omega) (fun q => absurd g.2 q) fun _ => ?_
        refine d_bIe a2 ?_
        exact d_dI ⟨rfl, rfl⟩
  · refine ⟨-1, h, mset ms 0 0 0, own, X, eqI ?_, dEqI ?_, C'.wk (by omega) (by omega), I, M', FX.rf S.2.2.2⟩
    · unfold c_B_turn
      refine q_grd e0 (by decide) ?_
      refine r_row B0 hx (fun q => ?_) fun q1 => ?_
      · exact q_rI ⟨rfl, rfl⟩
      refine q_in (a := 1) (b := 600) rfl rfl (by omega) (fun q => ?_) fun q2 => absurd (And.intro q1 q2) g
      exact q_rI ⟨rfl, rfl⟩
    · unfold d_M_turn
      refine d_nm ?_
      refine d_row Q' hx (fun q => ?_) fun r e hr hr4 => ?_
      · exact d_bIe act_not (d_dI ⟨rfl, rfl⟩)
      refine d_in (a := 1) (b := 600) rfl rfl (by omega) (fun q => ?_) fun q2 => absurd (And.intro (show 0 ≤ x ∧ x < X.w.n by omega) q2) g
      exact d_bIe act_not (d_dI ⟨rfl, rfl⟩)
theorem td_join (hx : -2147483648 ≤ x ∧ x < 2147483648) (hy : -2147483648 ≤ y ∧ y < 2147483648) : TD b (fun h => c_B_join h (b 0) (ii x) (ii y)) (fun ms => d_M_join ms (ii x) (ii y)) := by
  intro own X c s h ms C I M
  have M' : CM X (mset ms 0 0 0) := M.set (by decide)
  have Q' := M'.qm I
  have n4 := I.1.1
  have C' := C
  obtain ⟨held, rm, z0, z', skm, sn, R, R', N, N', Tb, seed, rows', seed', e0, sk, D, S, z1, z2⟩ := C
  have O : CBo b own X held rm z0 z' skm sn R R' N N' Tb seed rows' seed' h := ⟨e0, sk, D, S⟩
  obtain ⟨fs, gs, B0⟩ := O.bc I
  by_cases g : (0 ≤ x ∧ x < X.w.n) ∧ (0 ≤ y ∧ y < X.w.n) ∧ x ≠ y
  · obtain ⟨r, rfl⟩ : ∃ k : Nat, x = k := ⟨x.toNat, by omega⟩
    obtain ⟨v, rfl⟩ : ∃ k : Nat, y = k := ⟨y.toNat, by omega⟩
    obtain ⟨v, h', ms', own', X', a1, a2, a3, a4, a5, a6⟩ := act_core (what := 4) (r := r) (i := 0) (x := v) O I M' ⟨by decide, by omega, by omega, by omega, fun _ => by omega, fun q => absurd q (by decide), fun _ => by omega, fun q => absurd q (by decide), fun q => absurd q (by decide)⟩ (fun _ => by omega) (fun _ => by omega) z1 z2 rfl rfl rfl rfl
    refine ⟨v, h', ms', own', X', eqI ?_, dEqI ?_, a3, a4, a5, a6⟩
    · unfold c_B_join
      refine q_grd e0 (by decide) ?_
      refine r_two B0 hx hy (fun q => absurd g q) fun _ => ?_
      refine q_hIe a1 ?_
      exact q_rI ⟨rfl, rfl⟩
    · unfold d_M_join
      refine d_nm ?_
      refine d_bIe (m_areTwo Q' hx hy) ?_
      rw [decide_eq_true g]
      rw [show ii (bn true) = (1 : Int32) from rfl]
      refine d_bIe a2 ?_
      exact d_dI ⟨rfl, rfl⟩
  · refine ⟨-1, h, mset ms 0 0 0, own, X, eqI ?_, dEqI ?_, C'.wk (by omega) (by omega), I, M', FX.rf S.2.2.2⟩
    · unfold c_B_join
      refine q_grd e0 (by decide) ?_
      refine r_two B0 hx hy (fun q => ?_) fun q => absurd q g
      exact q_rI ⟨rfl, rfl⟩
    · unfold d_M_join
      refine d_nm ?_
      refine d_bIe (m_areTwo Q' hx hy) ?_
      rw [decide_eq_false g]
      exact d_bIe act_not (d_dI ⟨rfl, rfl⟩)
theorem td_split (hx : -2147483648 ≤ x ∧ x < 2147483648) (hy : -2147483648 ≤ y ∧ y < 2147483648) (hz : -2147483648 ≤ z ∧ z < 2147483648) : TD b (fun h => c_B_split h (b 0) (ii x) (ii y) (ii z)) (fun ms => d_M_split ms (ii x) (ii y) (ii z)) := by
  intro own X c s h ms C I M
  have M' : CM X (mset ms 0 0 0) := M.set (by decide)
  have Q' := M'.qm I
  have n4 := I.1.1
  have C' := C
  obtain ⟨held, rm, z0, z', skm, sn, R, R', N, N', Tb, seed, rows', seed', e0, sk, D, S, z1, z2⟩ := C
  have O : CBo b own X held rm z0 z' skm sn R R' N N' Tb seed rows' seed' h := ⟨e0, sk, D, S⟩
  obtain ⟨fs, gs, B0⟩ := O.bc I
  by_cases g : (0 ≤ x ∧ x < X.w.n) ∧ (0 ≤ z ∧ z < X.w.n) ∧ x ≠ z
  · obtain ⟨r, rfl⟩ : ∃ k : Nat, x = k := ⟨x.toNat, by omega⟩
    obtain ⟨v, rfl⟩ : ∃ k : Nat, z = k := ⟨z.toNat, by omega⟩
    by_cases f : ¬ (0 ≤ y ∧ y ≤ 999)
    · have a1 := act_far (what := 5) (r := r) (x := v) (zi := y) I M' hy ⟨by decide, by omega, by omega, by omega, fun _ => by omega, fun q => absurd q (by decide), fun _ => by omega, fun q => absurd q (by decide), fun q => absurd q (by decide)⟩ (by omega) (by decide) rfl rfl rfl
      refine ⟨1, h, mset ms 0 0 0, own, X, eqI ?_, dEqI ?_, C'.wk (by omega) (by omega), I, M', FX.rf S.2.2.2⟩
      · unfold c_B_split
        refine q_grd e0 (by decide) ?_
        refine r_two B0 hx hz (fun q => absurd g q) fun _ => ?_
        refine r_far e0 hy (fun q => absurd q f) fun _ => ?_
        exact q_rI ⟨rfl, rfl⟩
      · unfold d_M_split
        refine d_nm ?_
        refine d_bIe (m_areTwo Q' hx hz) ?_
        rw [decide_eq_true g]
        rw [show ii (bn true) = (1 : Int32) from rfl]
        refine d_bIe a1 ?_
        exact d_dI ⟨rfl, rfl⟩
    · rw [Classical.not_not] at f
      obtain ⟨i, rfl⟩ : ∃ k : Nat, y = k := ⟨y.toNat, by omega⟩
      obtain ⟨v, h', ms', own', X', a1, a2, a3, a4, a5, a6⟩ := act_core (what := 5) (r := r) (i := i) (x := v) O I M' ⟨by decide, by omega, by omega, by omega, fun _ => by omega, fun q => absurd q (by decide), fun _ => by omega, fun q => absurd q (by decide), fun q => absurd q (by decide)⟩ (fun _ => by omega) (fun _ => by omega) z1 z2 rfl rfl rfl rfl
      refine ⟨v, h', ms', own', X', eqI ?_, dEqI ?_, a3, a4, a5, a6⟩
      · unfold c_B_split
        refine q_grd e0 (by decide) ?_
        refine r_two B0 hx hz (fun q => absurd g q) fun _ => ?_
        refine r_far e0 hy (fun _ => ?_) fun q => absurd f q
        refine q_hIe a1 ?_
        exact q_rI ⟨rfl, rfl⟩
      · unfold d_M_split
        refine d_nm ?_
        refine d_bIe (m_areTwo Q' hx hz) ?_
        rw [decide_eq_true g]
        rw [show ii (bn true) = (1 : Int32) from rfl]
        refine d_bIe a2 ?_
        exact d_dI ⟨rfl, rfl⟩
  · refine ⟨-1, h, mset ms 0 0 0, own, X, eqI ?_, dEqI ?_, C'.wk (by omega) (by omega), I, M', FX.rf S.2.2.2⟩
    · unfold c_B_split
      refine q_grd e0 (by decide) ?_
      refine r_two B0 hx hz (fun q => ?_) fun q => absurd q g
      exact q_rI ⟨rfl, rfl⟩
    · unfold d_M_split
      refine d_nm ?_
      refine d_bIe (m_areTwo Q' hx hz) ?_
      rw [decide_eq_false g]
      exact d_bIe act_not (d_dI ⟨rfl, rfl⟩)
theorem td_type (hx : -2147483648 ≤ x ∧ x < 2147483648) (hy : -2147483648 ≤ y ∧ y < 2147483648) : TD b (fun h => c_B_type h (b 0) (ii x) (ii y)) (fun ms => d_M_type ms (ii x) (ii y)) := by
  intro own X c s h ms C I M
  have M' : CM X (mset ms 0 0 0) := M.set (by decide)
  have Q' := M'.qm I
  have n4 := I.1.1
  have C' := C
  obtain ⟨held, rm, z0, z', skm, sn, R, R', N, N', Tb, seed, rows', seed', e0, sk, D, S, z1, z2⟩ := C
  have O : CBo b own X held rm z0 z' skm sn R R' N N' Tb seed rows' seed' h := ⟨e0, sk, D, S⟩
  obtain ⟨fs, gs, B0⟩ := O.bc I
  by_cases g : 0 ≤ y ∧ y ≤ 7
  · obtain ⟨v, rfl⟩ : ∃ k : Nat, y = k := ⟨y.toNat, by omega⟩
    by_cases f : ¬ (0 ≤ x ∧ x ≤ 999)
    · have a1 := act_far (what := 6) (r := 0) (x := v) (zi := x) I M' hx ⟨by decide, by decide, by omega, by omega, fun _ => by omega, fun q => absurd q (by decide), fun q => absurd q (by decide), fun q => absurd q (by decide), fun _ => by omega⟩ (by omega) (by decide) rfl rfl rfl
      refine ⟨1, h, mset ms 0 0 0, own, X, eqI ?_, dEqI ?_, C'.wk (by omega) (by omega), I, M', FX.rf S.2.2.2⟩
      · unfold c_B_type
        refine q_grd e0 (by decide) ?_
        refine q_in (a := 0) (b := 7) rfl rfl (by omega) (fun q => absurd g q) fun _ => ?_
        refine r_far e0 hx (fun q => absurd q f) fun _ => ?_
        exact q_rI ⟨rfl, rfl⟩
      · unfold d_M_type
        refine d_nm ?_
        rw [show (0 : Int32) = ii 0 from rfl, show (7 : Int32) = ii 7 from rfl]
        refine d_bIe (m_isIn (by omega)) ?_
        rw [decide_eq_true g]
        rw [show ii (bn true) = (1 : Int32) from rfl]
        refine d_bIe a1 ?_
        exact d_dI ⟨rfl, rfl⟩
    · rw [Classical.not_not] at f
      obtain ⟨i, rfl⟩ : ∃ k : Nat, x = k := ⟨x.toNat, by omega⟩
      obtain ⟨v, h', ms', own', X', a1, a2, a3, a4, a5, a6⟩ := act_core (what := 6) (r := 0) (i := i) (x := v) O I M' ⟨by decide, by decide, by omega, by omega, fun _ => by omega, fun q => absurd q (by decide), fun q => absurd q (by decide), fun q => absurd q (by decide), fun _ => by omega⟩ (fun q => absurd q (by decide)) (fun q => absurd q (by decide)) z1 z2 rfl rfl rfl rfl
      refine ⟨v, h', ms', own', X', eqI ?_, dEqI ?_, a3, a4, a5, a6⟩
      · unfold c_B_type
        refine q_grd e0 (by decide) ?_
        refine q_in (a := 0) (b := 7) rfl rfl (by omega) (fun q => absurd g q) fun _ => ?_
        refine r_far e0 hx (fun _ => ?_) fun q => absurd f q
        refine q_hIe a1 ?_
        exact q_rI ⟨rfl, rfl⟩
      · unfold d_M_type
        refine d_nm ?_
        rw [show (0 : Int32) = ii 0 from rfl, show (7 : Int32) = ii 7 from rfl]
        refine d_bIe (m_isIn (by omega)) ?_
        rw [decide_eq_true g]
        rw [show ii (bn true) = (1 : Int32) from rfl]
        refine d_bIe a2 ?_
        exact d_dI ⟨rfl, rfl⟩
  · refine ⟨-1, h, mset ms 0 0 0, own, X, eqI ?_, dEqI ?_, C'.wk (by omega) (by omega), I, M', FX.rf S.2.2.2⟩
    · unfold c_B_type
      refine q_grd e0 (by decide) ?_
      refine q_in (a := 0) (b := 7) rfl rfl (by omega) (fun q => ?_) fun q => absurd q g
      exact q_rI ⟨rfl, rfl⟩
    · unfold d_M_type
      refine d_nm ?_
      rw [show (0 : Int32) = ii 0 from rfl, show (7 : Int32) = ii 7 from rfl]
      refine d_bIe (m_isIn (by omega)) ?_
      rw [decide_eq_false g]
      exact d_bIe act_not (d_dI ⟨rfl, rfl⟩)
theorem td_erase (hx : -2147483648 ≤ x ∧ x < 2147483648) (hy : -2147483648 ≤ y ∧ y < 2147483648) : TD b (fun h => c_B_erase h (b 0) (ii x) (ii y)) (fun ms => d_M_erase ms (ii x) (ii y)) := by
  intro own X c s h ms C I M
  have M' : CM X (mset ms 0 0 0) := M.set (by decide)
  have Q' := M'.qm I
  have n4 := I.1.1
  have C' := C
  obtain ⟨held, rm, z0, z', skm, sn, R, R', N, N', Tb, seed, rows', seed', e0, sk, D, S, z1, z2⟩ := C
  have O : CBo b own X held rm z0 z' skm sn R R' N N' Tb seed rows' seed' h := ⟨e0, sk, D, S⟩
  obtain ⟨fs, gs, B0⟩ := O.bc I
  by_cases g : 1 ≤ y ∧ y ≤ 200
  · obtain ⟨v, rfl⟩ : ∃ k : Nat, y = k := ⟨y.toNat, by omega⟩
    by_cases f : ¬ (0 ≤ x ∧ x ≤ 999)
    · have a1 := act_far (what := 7) (r := 0) (x := v) (zi := x) I M' hx ⟨by decide, by decide, by omega, by omega, fun _ => by omega, fun q => absurd q (by decide), fun q => absurd q (by decide), fun q => absurd q (by decide), fun _ => by omega⟩ (by omega) (by decide) rfl rfl rfl
      refine ⟨1, h, mset ms 0 0 0, own, X, eqI ?_, dEqI ?_, C'.wk (by omega) (by omega), I, M', FX.rf S.2.2.2⟩
      · unfold c_B_erase
        refine q_grd e0 (by decide) ?_
        refine q_in (a := 1) (b := 200) rfl rfl (by omega) (fun q => absurd g q) fun _ => ?_
        refine r_far e0 hx (fun q => absurd q f) fun _ => ?_
        exact q_rI ⟨rfl, rfl⟩
      · unfold d_M_erase
        refine d_nm ?_
        rw [show (1 : Int32) = ii 1 from rfl, show (200 : Int32) = ii 200 from rfl]
        refine d_bIe (m_isIn (by omega)) ?_
        rw [decide_eq_true g]
        rw [show ii (bn true) = (1 : Int32) from rfl]
        refine d_bIe a1 ?_
        exact d_dI ⟨rfl, rfl⟩
    · rw [Classical.not_not] at f
      obtain ⟨i, rfl⟩ : ∃ k : Nat, x = k := ⟨x.toNat, by omega⟩
      obtain ⟨v, h', ms', own', X', a1, a2, a3, a4, a5, a6⟩ := act_core (what := 7) (r := 0) (i := i) (x := v) O I M' ⟨by decide, by decide, by omega, by omega, fun _ => by omega, fun q => absurd q (by decide), fun q => absurd q (by decide), fun q => absurd q (by decide), fun _ => by omega⟩ (fun q => absurd q (by decide)) (fun q => absurd q (by decide)) z1 z2 rfl rfl rfl rfl
      refine ⟨v, h', ms', own', X', eqI ?_, dEqI ?_, a3, a4, a5, a6⟩
      · unfold c_B_erase
        refine q_grd e0 (by decide) ?_
        refine q_in (a := 1) (b := 200) rfl rfl (by omega) (fun q => absurd g q) fun _ => ?_
        refine r_far e0 hx (fun _ => ?_) fun q => absurd f q
        refine q_hIe a1 ?_
        exact q_rI ⟨rfl, rfl⟩
      · unfold d_M_erase
        refine d_nm ?_
        rw [show (1 : Int32) = ii 1 from rfl, show (200 : Int32) = ii 200 from rfl]
        refine d_bIe (m_isIn (by omega)) ?_
        rw [decide_eq_true g]
        rw [show ii (bn true) = (1 : Int32) from rfl]
        refine d_bIe a2 ?_
        exact d_dI ⟨rfl, rfl⟩
  · refine ⟨-1, h, mset ms 0 0 0, own, X, eqI ?_, dEqI ?_, C'.wk (by omega) (by omega), I, M', FX.rf S.2.2.2⟩
    · unfold c_B_erase
      refine q_grd e0 (by decide) ?_
      refine q_in (a := 1) (b := 200) rfl rfl (by omega) (fun q => ?_) fun q => absurd q g
      exact q_rI ⟨rfl, rfl⟩
    · unfold d_M_erase
      refine d_nm ?_
      rw [show (1 : Int32) = ii 1 from rfl, show (200 : Int32) = ii 200 from rfl]
      refine d_bIe (m_isIn (by omega)) ?_
      rw [decide_eq_false g]
      exact d_bIe act_not (d_dI ⟨rfl, rfl⟩)
end
