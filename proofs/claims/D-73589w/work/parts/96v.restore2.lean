/-! PURE SIDE: both sides: images are brought back, the model -/
set_option maxRecDepth 100000
section
variable {m0 ms : MS} {k : Nat} {X : XS} {w : KP} {Z : Option Value → MS → Prop}
theorem m_restore_l60 (hk : k < 2) (kk : ∀ m', CpL m0 m' 20 0 22 (4 * k) 4 4 → Z (some (.int 1)) (mset m' 24 0 0)) : ∀ (m fu j : Nat) (ms : MS), m < fu → j + m = 4 → CpL m0 ms 20 0 22 (4 * k) 4 j → DE (itr (d_M_restore_l60) (fun _ _ _ => none) fu ms (ii k) (ii j)) Z := by
  intro m
  induction m with
  | zero =>
    intro fu j ms hf hj C
    obtain ⟨fu, rfl⟩ : ∃ x, fu = x + 1 := ⟨fu - 1, by omega⟩
    have e : j = 4 := by omega
    subst e
    rw [itr_succ]
    unfold d_M_restore_l60
    refine d_pos _ (by decide) ?_
    refine d_nm ?_
    exact d_dZ1 (kk ms C)
  | succ m ih =>
    intro fu j ms hf hj C
    obtain ⟨fu, rfl⟩ : ∃ x, fu = x + 1 := ⟨fu - 1, by omega⟩
    rw [itr_succ]
    unfold d_M_restore_l60
    refine d_neg _ (ii_leF (a := 4) (by omega)) ?_
    have e : (4 : Int32) * ii (k : Int) + ii (j : Int) = ii (4 * (k : Int) + (j : Int)) := by rw [il_4, ii_mul, ii_add]
    rw [e]
    refine d_eL (N := 8) rfl (n := 4 * k + j) (by omega) rfl ?_
    refine d_sL (N := 4) rfl (n := 0 + j) (by omega) ?_
    rw [add1]
    exact ih fu (j + 1) _ (by omega) (by omega) (C.up (by decide) (by omega))
theorem m_restore_l27 (hk : k < 2) (kk : ∀ m', Cp m0 m' 14 0 16 (6062 * k) 6062 6062 → DE (itr (d_M_restore_l60) (fun _ _ _ => none) FU m' (ii k) (0 : Int32)) Z) : ∀ (m fu j : Nat) (ms : MS), m < fu → j + m = 6062 → Cp m0 ms 14 0 16 (6062 * k) 6062 j → DE (itr (d_M_restore_l27) (fun _ _ _ => none) fu ms (ii k) (ii j)) Z := by
  intro m
  induction m with
  | zero =>
    intro fu j ms hf hj C
    obtain ⟨fu, rfl⟩ : ∃ x, fu = x + 1 := ⟨fu - 1, by omega⟩
    have e : j = 6062 := by omega
    subst e
    rw [itr_succ]
    unfold d_M_restore_l27
    refine d_pos _ (by rw [il_6062]; exact ii_leT (by omega)) ?_
    exact kk ms C
  | succ m ih =>
    intro fu j ms hf hj C
    obtain ⟨fu, rfl⟩ : ∃ x, fu = x + 1 := ⟨fu - 1, by omega⟩
    rw [itr_succ]
    unfold d_M_restore_l27
    refine d_neg _ (by rw [il_6062]; exact ii_leF (by omega)) ?_
    have e : (6062 : Int32) * ii (k : Int) + ii (j : Int) = ii (6062 * (k : Int) + (j : Int)) := by rw [il_6062, ii_mul, ii_add]
    rw [e]
    refine d_eA (N := 12124) rfl (n := 6062 * k + j) (by omega) rfl ?_
    refine d_sA (N := 6062) rfl (n := 0 + j) (by omega) ?_
    rw [add1]
    exact ih fu (j + 1) _ (by omega) (by omega) (C.up (by decide) (by omega))
theorem m_restore (M : CM X ms) (I : XI X) (hk : k < 2) (hw : X.im k = some w) : DE (d_M_restore ms (ii k)) (fun r m' => r = some (.int 1) ∧ CM (xR X w) m') := by
  have M' : CM X (mset ms 0 0 0) := M.set (by decide)
  have Iw := I.2.2.2.2.2.1 k w hw
  obtain ⟨_, km⟩ := M'.2.2.2.2.2.2.1 k hk
  obtain ⟨k1, k2, k3⟩ := km w hw
  unfold d_M_restore
  refine d_nm ?_
  refine d_in (a := 0) (b := 1) rfl rfl (by omega) (fun q => absurd (by omega) q) fun _ => ?_
  refine d_eA (N := 2) rfl (n := k) (by omega) k1 ?_
  refine d_neg _ (by decide) ?_
  refine m_restore_l27 (m0 := mset ms 0 0 0) hk (fun m1 C1 => ?_) 6062 FU 0 _ (by unfold FU; omega) (by omega) Cp.rf
  refine m_restore_l60 (m0 := m1) hk (fun m2 C2 => ?_) 4 FU 0 _ (by unfold FU; omega) (by omega) CpL.rf
  generalize mset ms 0 0 0 = mA at *
  obtain ⟨p1, p2, p3, p4⟩ := C1
  obtain ⟨r1, r2, r3, r4⟩ := C2
  obtain ⟨c1, c2, c3, c4, c5, c6, c7, c8, c9, c10, c11, c12⟩ := M'
  have f : ∀ q, q ≠ 14 → q ≠ 24 → (mset m2 24 0 0).1 q = mA.1 q := fun q h1 h2 => by rw [ms_nk h2, r1]; exact p2 q h1
  have f14 : (mset m2 24 0 0).1 14 = m1.1 14 := by rw [ms_nk (by decide), r1]
  have g : ∀ q, q ≠ 20 → (mset m2 24 0 0).2 q = mA.2 q := fun q h1 => by show m2.2 q = _; rw [r2 q h1, p1]
  refine ⟨rfl, ?_, ?_, ?_, fun r hr => ?_, ms_eq, (fun j p hj => by cases hj), fun j hj => (c7 j hj).congr (f 23 (by decide) (by decide)) (f 16 (by decide) (by decide)) (g 22 (by decide)), ?_, ?_, ?_, ?_, ?_⟩
  · rw [f 1 (by decide) (by decide)]; exact c1
  · rw [f 2 (by decide) (by decide)]; exact c2
  · rw [f14]
    refine NW.cg k2 Iw fun x hx => ?_
    have := p3 x hx
    rw [Nat.zero_add] at this
    exact this
  · have hr : r < w.n := hr
    have n4 := Iw.1
    show m2.2 20 r = _
    have := r3 r (by omega)
    rw [Nat.zero_add] at this
    rw [this, p1]
    exact k3 r hr
  · rw [f 10 (by decide) (by decide)]; exact c8
  · rw [f 28 (by decide) (by decide)]; exact c9
  · rw [f 27 (by decide) (by decide)]; exact c10
  · rw [f 33 (by decide) (by decide)]; exact c11
  · rw [f 33 (by decide) (by decide), f 31 (by decide) (by decide)]; exact c12
end
section
variable {b : Nat → Nat} {x : Int}
theorem td_restore (hx : -2147483648 ≤ x ∧ x < 2147483648) : TD b (fun h => c_B_restore h (b 0) (ii x)) (fun ms => d_M_restore ms (ii x)) := by
  intro own X c s h ms C I M
  have C' := C
  obtain ⟨held, rm, z0, z', skm, sn, R, R', N, N', Tb, seed, rows', seed', e0, sk, D, S, z1, z2⟩ := C
  have O : CBo b own X held rm z0 z' skm sn R R' N N' Tb seed rows' seed' h := ⟨e0, sk, D, S⟩
  by_cases g : 0 ≤ x ∧ x ≤ 1
  · obtain ⟨k, rfl⟩ : ∃ k : Nat, x = k := ⟨x.toNat, by omega⟩
    have hk : k < 2 := by omega
    cases hw : X.im k with
    | some w =>
      obtain ⟨r, hh, y1, y2, own2, rm2, sn2, N2, T2, O2, F2, u1, u2⟩ := b_restore (k := k) O hk hw (I.2.2.2.2.2.1 k w hw)
      obtain ⟨r', m', w1, w2, w3⟩ := m_restore (k := k) M I hk hw
      subst y2 w2
      exact ⟨_, hh, m', own2, _, y1, w1, O2.cb (by omega) (by omega), ⟨I.2.2.2.2.2.1 k w hw, I.2.1, I.2.2.1, Nat.zero_le _, (fun p hp => by cases hp), I.2.2.2.2.2⟩, w3, F2⟩
    | none =>
      have M' : CM X (mset ms 0 0 0) := M.set (by decide)
      have k1 := (M'.2.2.2.2.2.2.1 k hk).1 hw
      obtain ⟨f, e11, dis, kp⟩ := D.2.2.2.2.1
      have q := kp k hk
      rw [hw] at q
      have q : f k = none := q
      refine ⟨0, h, mset ms 0 0 0, own, X, eqI ?_, dEqI ?_, C'.wk (by omega) (by omega), I, M', FX.rf S.2.2.2⟩
      · unfold c_B_restore
        refine q_grd e0 (by decide) ?_
        refine q_in (a := 0) (b := 1) rfl rfl (by omega) (fun q => absurd g q) fun _ => ?_
        refine q_gQr e0 (by decide) rfl ?_
        refine q_nn ?_
        refine q_ldQ e11 (by decide) (by omega) ?_
        rw [Int.toNat_natCast, q]
        refine q_pos _ rfl ?_
        exact q_rZ0 ⟨rfl, rfl⟩
      · unfold d_M_restore
        refine d_nm ?_
        refine d_in (a := 0) (b := 1) rfl rfl (by omega) (fun q => absurd g q) fun _ => ?_
        refine d_eA (N := 2) rfl (n := k) (by omega) k1 ?_
        refine d_pos _ rfl ?_
        exact d_dZ0 ⟨rfl, rfl⟩
  · refine ⟨0, h, mset ms 0 0 0, own, X, eqI ?_, dEqI ?_, C'.wk (by omega) (by omega), I, M.set (by decide), FX.rf S.2.2.2⟩
    · unfold c_B_restore
      refine q_grd e0 (by decide) ?_
      refine q_in (a := 0) (b := 1) rfl rfl (by omega) (fun q => ?_) fun q => absurd q g
      exact q_rZ0 ⟨rfl, rfl⟩
    · unfold d_M_restore
      refine d_nm ?_
      refine d_in (a := 0) (b := 1) rfl rfl (by omega) (fun q => ?_) fun q => absurd q g
      exact d_dZ0 ⟨rfl, rfl⟩
end
