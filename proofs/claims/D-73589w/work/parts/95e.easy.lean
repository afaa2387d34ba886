/-! PURE SIDE: both sides: questions -/
set_option maxRecDepth 100000
theorem QR.qe {q : QP} {N : Nat → Nat} {T : Nat → Bool} {h' : PH} (Q : Q0 q N T) (k : QR q.own q.B q.rm q.z q.n q.low q.fs q.gs q.A q.R N q.rows q.seed q.h0 h') : QE q h' := by
  obtain ⟨S, C, w, z1, z2⟩ := Q
  obtain ⟨own', T', S', C', G, y1, y2⟩ := k
  exact ⟨own', N, T', S', C', G, by omega, by omega⟩
theorem td_ask {b : Nat → Nat} {P : PH → Nat → Option RH} {D : MS → Option DR} {a : Nat → (Nat → LL) → Int} (hP : ∀ (q : QP) (N : Nat → Nat) (Tb : Nat → Bool), Q0 q N Tb → Ends (P q.h0 q.B) (AE q (a q.n q.A))) (hD : ∀ (ms : MS) (n : Nat) (A : Nat → LL), QM ms n A → D ms = dI (ii (a n A)) (mset ms 0 0 0)) : TD b (fun h => P h (b 0)) D := by
  intro own X c s h ms C I M
  obtain ⟨q, N, T, Q, e1, e2, e3, e4, e5, k⟩ := C.ask I
  obtain ⟨r, h', p1, v, p2, p3, Q1⟩ := hP q N T Q
  obtain ⟨own', C', F⟩ := k h' Q1
  subst p2
  rw [e1, e2] at p1
  rw [e3, e4] at p3
  exact ⟨v, h', mset ms 0 0 0, own', X, p1, by rw [p3]; exact hD ms _ _ (M.qm I), C'.wk (by omega) (by omega), I, M.set (by decide), F⟩
theorem ii_if {p : Prop} [Decidable p] {a b : Int} : (if p then ii a else ii b) = ii (if p then a else b) := by
  by_cases c : p
  · rw [if_pos c, if_pos c]
  · rw [if_neg c, if_neg c]
section
variable {b : Nat → Nat} {x y z : Int}
theorem td_size (hx : -2147483648 ≤ x ∧ x < 2147483648) : TD b (fun h => c_B_size h (b 0) (ii x)) (fun ms => d_M_size ms (ii x)) := td_ask (P := fun h B => c_B_size h B (ii x)) (a := fun n A => if 0 ≤ x ∧ x < n then ((A x.toNat).flatten.length : Int) else -1) (fun q N T Q => by
  rw [b_size Q.2.1 Q.1 hx, ii_if]
  exact q_ae rfl Q.e) fun ms n A M => by
  rw [m_size (A := A) M.1 M.2.1 hx fun r hr => (M.2.2 r (by have := M.2.1; omega)).1, ii_if]
theorem td_bit (hx : -2147483648 ≤ x ∧ x < 2147483648) (hy : -2147483648 ≤ y ∧ y < 2147483648) : TD b (fun h => c_B_bit h (b 0) (ii x) (ii y)) (fun ms => d_M_bit ms (ii x) (ii y)) := td_ask (P := fun h B => c_B_bit h B (ii x) (ii y)) (a := fun n A => if (0 ≤ x ∧ x < n) ∧ 0 ≤ y ∧ y < ((A x.toNat).flatten.length : Int) then bn (gb (A x.toNat).flatten y.toNat) else -1) (fun q N T Q => by
  obtain ⟨v, h', e1, e2, k⟩ := b_bit Q.2.1 Q.1 Q.2.2.1 hx hy
  exact ⟨_, h', e1, v, rfl, by rw [e2, ii_if], QR.qe Q k⟩) fun ms n A M => by
  rw [m_bit (A := A) M.1 M.2.1 hx hy fun r hr => ⟨(M.2.2 r (by have := M.2.1; omega)).1, (M.2.2 r (by have := M.2.1; omega)).2.1⟩, ii_if]
theorem td_rank (hx : -2147483648 ≤ x ∧ x < 2147483648) (hy : -2147483648 ≤ y ∧ y < 2147483648) (hz : -2147483648 ≤ z ∧ z < 2147483648) : TD b (fun h => c_B_rank h (b 0) (ii x) (ii y) (ii z)) (fun ms => d_M_rank ms (ii x) (ii y) (ii z)) := td_ask (P := fun h B => c_B_rank h B (ii x) (ii y) (ii z)) (a := fun n A => if (0 ≤ x ∧ x < n) ∧ (0 ≤ y ∧ y ≤ ((A x.toNat).flatten.length : Int)) ∧ 0 ≤ z ∧ z ≤ 1 then (cb (decide (z = 1)) ((A x.toNat).flatten.take y.toNat) : Int) else -1) (fun q N T Q => by
  obtain ⟨v, h', e1, e2, k⟩ := b_rank Q.2.1 Q.1 Q.2.2.1 hx hy hz
  exact ⟨_, h', e1, v, rfl, by rw [e2, ii_if], QR.qe Q k⟩) fun ms n A M => by
  rw [m_rank (A := A) M.1 M.2.1 hx hy hz fun r hr => ⟨(M.2.2 r (by have := M.2.1; omega)).1, (M.2.2 r (by have := M.2.1; omega)).2.1⟩, ii_if]
theorem td_select (hx : -2147483648 ≤ x ∧ x < 2147483648) (hy : -2147483648 ≤ y ∧ y < 2147483648) (hz : -2147483648 ≤ z ∧ z < 2147483648) : TD b (fun h => c_B_select h (b 0) (ii x) (ii y) (ii z)) (fun ms => d_M_select ms (ii x) (ii y) (ii z)) := td_ask (P := fun h B => c_B_select h B (ii x) (ii y) (ii z)) (a := fun n A => selA n A x y z) (fun q N T Q => by
  obtain ⟨v, h', e1, e2, k⟩ := b_select Q.2.1 Q.1 Q.2.2.1 hx hy hz
  exact ⟨_, h', e1, v, rfl, e2, QR.qe Q k⟩) fun ms n A M => m_select M.1 M.2.1 hx hy hz fun r hr => ⟨(M.2.2 r (by have := M.2.1; omega)).1, (M.2.2 r (by have := M.2.1; omega)).2.1⟩
theorem td_find (hx : -2147483648 ≤ x ∧ x < 2147483648) (hy : -2147483648 ≤ y ∧ y < 2147483648) (hz : -2147483648 ≤ z ∧ z < 2147483648) : TD b (fun h => c_B_find h (b 0) (ii x) (ii y) (ii z)) (fun ms => d_M_find ms (ii x) (ii y) (ii z)) := td_row (P := fun h B => c_B_find h B (ii x) (ii y) (ii z)) (a := fun n A => findA n A x y z) (fun _ _ Q => b_find Q hx hy hz) fun _ _ _ M => m_find M hx hy hz
theorem td_leaves (hx : -2147483648 ≤ x ∧ x < 2147483648) : TD b (fun h => c_B_leaves h (b 0) (ii x)) (fun ms => d_M_leaves ms (ii x)) := td_row (P := fun h B => c_B_leaves h B (ii x)) (a := fun n A => leavesA n A x) (fun _ _ Q => b_leaves Q hx) fun _ _ _ M => m_leaves M hx
theorem td_leaf (hx : -2147483648 ≤ x ∧ x < 2147483648) (hy : -2147483648 ≤ y ∧ y < 2147483648) (hz : -2147483648 ≤ z ∧ z < 2147483648) : TD b (fun h => c_B_leaf h (b 0) (ii x) (ii y) (ii z)) (fun ms => d_M_leaf ms (ii x) (ii y) (ii z)) := td_row (P := fun h B => c_B_leaf h B (ii x) (ii y) (ii z)) (a := fun n A => leafA n A x y z) (fun _ _ Q => b_leaf Q hx hy hz) fun _ _ _ M => m_leaf M hx hy hz
theorem td_tree (hx : -2147483648 ≤ x ∧ x < 2147483648) (hy : -2147483648 ≤ y ∧ y < 2147483648) : TD b (fun h => c_B_tree h (b 0) (ii x) (ii y)) (fun ms => d_M_tree ms (ii x) (ii y)) := td_row (P := fun h B => c_B_tree h B (ii x) (ii y)) (a := fun n A => treeA n A x y) (fun _ _ Q => b_tree Q hx hy) fun _ _ _ M => m_tree M hx hy
theorem td_apart (hx : -2147483648 ≤ x ∧ x < 2147483648) (hy : -2147483648 ≤ y ∧ y < 2147483648) : TD b (fun h => c_B_apart h (b 0) (ii x) (ii y)) (fun ms => d_M_apart ms (ii x) (ii y)) := td_row (P := fun h B => c_B_apart h B (ii x) (ii y)) (a := fun n A => apartA n A x y) (fun _ _ Q => b_apart Q hx hy) fun _ _ _ M => m_apart M hx hy
theorem td_differ (hx : -2147483648 ≤ x ∧ x < 2147483648) (hy : -2147483648 ≤ y ∧ y < 2147483648) : TD b (fun h => c_B_differ h (b 0) (ii x) (ii y)) (fun ms => d_M_differ ms (ii x) (ii y)) := td_row (P := fun h B => c_B_differ h B (ii x) (ii y)) (a := fun n A => differA n A x y) (fun _ _ Q => b_differ Q hx hy) fun _ _ _ M => m_differ M hx hy
/-- what is read off the object -/
theorem td_fault : TD b (fun h => c_B_fault h (b 0)) (fun ms => d_M_fault ms) := by
  intro own X c s h ms C I M
  have C' := C
  obtain ⟨held, rm, z, z', skm, sn, R, R', N, N', Tb, seed, rows', seed', e0, sk, D, S, z1, z2⟩ := C
  refine ⟨ii X.ft, h, mset ms 0 0 0, own, X, eqI ?_, dEqI ?_, C'.wk (by omega) (by omega), I, M.set (by decide), FX.rf S.2.2.2⟩
  · unfold c_B_fault
    refine q_grd e0 (by decide) ?_
    refine q_gI e0 (by decide) rfl ?_
    exact q_rI ⟨rfl, rfl⟩
  · unfold d_M_fault
    refine d_nm ?_
    rw [ms_nk (by decide), M.2.2.2.2.2.2.2.1]
    refine d_nm ?_
    exact d_dI ⟨rfl, rfl⟩
theorem td_seekAt (hx : -2147483648 ≤ x ∧ x < 2147483648) : TD b (fun h => c_B_seekAt h (b 0) (ii x)) (fun ms => d_M_seekAt ms (ii x)) := by
  intro own X c s h ms C I M
  have C' := C
  obtain ⟨held, rm, z, z', skm, sn, R, R', N, N', Tb, seed, rows', seed', e0, sk, D, S, z1, z2⟩ := C
  have M' : CM X (mset ms 0 0 0) := M.set (by decide)
  have hl := I.2.2.2.2.2.2.1
  have m1 := M'.2.2.2.2.2.2.2.2.1
  have m2 := M'.2.2.2.2.2.2.2.2.2.1
  by_cases c1 : 0 ≤ x ∧ x < X.sk.length
  · obtain ⟨k, rfl⟩ : ∃ k : Nat, x = k := ⟨x.toNat, by omega⟩
    obtain ⟨v, hv⟩ : ∃ v, X.sk[k]? = some v := ⟨X.sk[k]'(by omega), List.getElem?_eq_getElem (by omega)⟩
    have es : skm = X.sk.length := by
      rcases sk with q | q
      · exact q
      · rw [q.2] at c1; exact absurd c1.2 (by simp)
    refine ⟨ii v, h, mset ms 0 0 0, own, X, eqI ?_, dEqI ?_, C'.wk (by omega) (by omega), I, M', FX.rf S.2.2.2⟩
    · unfold c_B_seekAt
      refine q_grd e0 (by decide) ?_
      refine q_gI e0 (by decide) rfl ?_
      refine q_in (a := 0) (b := skm - 1) rfl sub1 (by omega) (fun c => absurd c1 (by omega)) fun c => ?_
      refine q_gQr e0 (by decide) rfl ?_
      refine q_nn ?_
      obtain ⟨_, f, e1, e2⟩ := D.2.1
      refine q_ldI e1 (by omega) ?_
      rw [Int.toNat_natCast, e2 k v hv]
      exact q_rI ⟨rfl, rfl⟩
    · unfold d_M_seekAt
      refine d_nm ?_
      rw [m1]
      refine d_nm ?_
      refine d_in (a := 0) (b := (X.sk.length : Int) - 1) rfl sub1 (by omega) (fun c => absurd c1 (by omega)) fun c => ?_
      refine d_eA (N := 600) rfl (n := k) (by omega) (m2 k v hv) ?_
      exact d_dI ⟨rfl, rfl⟩
  · have es : -1 ≤ skm ∧ skm ≤ X.sk.length := by
      rcases sk with q | q
      · omega
      · omega
    refine ⟨ii (-1), h, mset ms 0 0 0, own, X, eqI ?_, dEqI ?_, C'.wk (by omega) (by omega), I, M', FX.rf S.2.2.2⟩
    · unfold c_B_seekAt
      refine q_grd e0 (by decide) ?_
      refine q_gI e0 (by decide) rfl ?_
      refine q_in (a := 0) (b := skm - 1) rfl sub1 (by omega) (fun c => ?_) fun c => absurd c (by omega)
      exact q_rI ⟨rfl, rfl⟩
    · unfold d_M_seekAt
      refine d_nm ?_
      rw [m1]
      refine d_nm ?_
      refine d_in (a := 0) (b := (X.sk.length : Int) - 1) rfl sub1 (by omega) (fun c => ?_) fun c => absurd c (by omega)
      exact d_dI ⟨rfl, rfl⟩
theorem td_told (hx : -2147483648 ≤ x ∧ x < 2147483648) : TD b (fun h => c_B_told h (b 0) (ii x)) (fun ms => d_M_told ms (ii x)) := by
  intro own X c s h ms C I M
  have C' := C
  obtain ⟨held, rm, z, z', skm, sn, R, R', N, N', Tb, seed, rows', seed', e0, sk, D, S, z1, z2⟩ := C
  have M' : CM X (mset ms 0 0 0) := M.set (by decide)
  have m1 := M'.2.2.2.2.2.2.2.2.2.2.1
  have m2 := M'.2.2.2.2.2.2.2.2.2.2.2
  cases ht : X.td with
  | none =>
    rw [ht] at e0
    refine ⟨ii (-1), h, mset ms 0 0 0, own, X, eqI ?_, dEqI ?_, C'.wk (by omega) (by omega), I, M', FX.rf S.2.2.2⟩
    · unfold c_B_told
      refine q_grd e0 (by decide) ?_
      refine q_gI e0 (by decide) rfl ?_
      refine q_pos _ rfl ?_
      exact q_rI ⟨rfl, rfl⟩
    · unfold d_M_told
      refine d_nm ?_
      rw [m1 ht]
      refine d_nm ?_
      refine d_pos _ rfl ?_
      exact d_dI ⟨rfl, rfl⟩
  | some t =>
    rw [ht] at e0
    obtain ⟨m3, m4⟩ := m2 t ht
    by_cases c1 : 0 ≤ x ∧ x ≤ 3
    · obtain ⟨k, rfl⟩ : ∃ k : Nat, x = k := ⟨x.toNat, by omega⟩
      refine ⟨ii (t k), h, mset ms 0 0 0, own, X, eqI ?_, dEqI ?_, C'.wk (by omega) (by omega), I, M', FX.rf S.2.2.2⟩
      · unfold c_B_told
        refine q_grd e0 (by decide) ?_
        refine q_gI e0 (by decide) rfl ?_
        refine q_neg _ bn1_ne ?_
        refine q_in (a := 0) (b := 3) rfl rfl (by omega) (fun c => absurd c1 (by omega)) fun c => ?_
        refine q_gQr e0 (by decide) rfl ?_
        refine q_nn ?_
        obtain ⟨_, f, e1, e2⟩ := D.2.2.1
        refine q_ldI e1 (by omega) ?_
        rw [Int.toNat_natCast, e2 t ht k (by omega)]
        exact q_rI ⟨rfl, rfl⟩
      · unfold d_M_told
        refine d_nm ?_
        rw [m3]
        refine d_nm ?_
        refine d_neg _ bn1_ne ?_
        refine d_in (a := 0) (b := 3) rfl rfl (by omega) (fun c => absurd c1 (by omega)) fun c => ?_
        refine d_eA (N := 4) rfl (n := k) (by omega) (m4 k (by omega)) ?_
        exact d_dI ⟨rfl, rfl⟩
    · refine ⟨ii (-1), h, mset ms 0 0 0, own, X, eqI ?_, dEqI ?_, C'.wk (by omega) (by omega), I, M', FX.rf S.2.2.2⟩
      · unfold c_B_told
        refine q_grd e0 (by decide) ?_
        refine q_gI e0 (by decide) rfl ?_
        refine q_neg _ bn1_ne ?_
        refine q_in (a := 0) (b := 3) rfl rfl (by omega) (fun c => ?_) fun c => absurd c c1
        exact q_rI ⟨rfl, rfl⟩
      · unfold d_M_told
        refine d_nm ?_
        rw [m3]
        refine d_nm ?_
        refine d_neg _ bn1_ne ?_
        refine d_in (a := 0) (b := 3) rfl rfl (by omega) (fun c => ?_) fun c => absurd c c1
        exact d_dI ⟨rfl, rfl⟩
end
