/-! PURE SIDE: both sides: feed, end, total -/
set_option maxRecDepth 100000
section
variable {b own : Nat → Nat} {X X' : XS} {h h' : PH} {c s : Nat} {ms : MS} {w : KP} {z z' : Nat} {R R' N N' : Nat → Nat} {Tb : Nat → Bool} {seed rows' seed' : Int32} {rm : Nat} {sn : Option Nat} {held skm : Int}
theorem RD.ne8 (D : RD b own h X rm sn) {a : Nat} {d : PC} (e : h.1 a = some d) (k : kd d ≠ 1) : a ≠ b 8 ∧ a ≠ b 10 := by
  obtain ⟨_, _, ⟨c8, e8, k8⟩, ⟨c10, e10, k10⟩⟩ := D.k8
  refine ⟨fun q => k ?_, fun q => k ?_⟩
  · rw [q, e8] at e
    injection e with e
    rw [← e]; exact k8
  · rw [q, e10] at e
    injection e with e
    rw [← e]; exact k10
/-- the object written anew -/
theorem cb_b0 {fs : List Value} (e0 : h.1 (b 0) = some (.inr (0, fs))) (D : RD b own h X' rm sn) (S : ST b own X'.w z z' R R' N N' Tb seed rows' seed' h) (sk : skOk skm X'.sk) (z1 : h.2.1.1 + 2 * (s11 N + s11 N') ≤ c) (z2 : h.2.1.2 + 7 * (s11 N + s11 N') ≤ s) : CB b own X' c s (hset h (b 0) (bC b X'.len held rm z z' X'.ft skm X'.L.length X'.td.isSome sn)) ∧ FX own own (b 0) (b 16) h (hset h (b 0) (bC b X'.len held rm z z' X'.ft skm X'.L.length X'.td.isSome sn)) := by
  obtain ⟨n8, n10⟩ := D.ne8 e0 (by show 2 * 0 ≠ 1; decide)
  exact ⟨⟨held, rm, z, z', skm, sn, R, R', N, N', Tb, seed, rows', seed', up_eq, sk, D.kx (KX.set e0 (fun q => (ff q rfl).elim) rfl (Or.inr rfl) (fun q => absurd q n8) (fun q => absurd q n10)), S.set e0 rfl, z1, z2⟩, FX.set S.2.2.2 e0 (nP rfl rfl rfl)⟩
/-- the tape written anew -/
theorem rd_tape {f g : Nat → Int32} {tp' : Nat → Nat} (D : RD b own h X rm sn) (e1 : h.1 (b 1) = some (.inl (2, 940, .inl f))) (P : TPf g tp') : RD b own (hset h (b 1) (.inl (2, 940, .inl g))) (tp', X.2) rm sn := by
  obtain ⟨n8, n10⟩ := D.ne8 e1 (by show 2 * 2 + 1 ≠ 1; decide)
  have K : KX b own own 5 h (hset h (b 1) (.inl (2, 940, .inl g))) := KX.set e1 (fun _ => rfl) rfl (Or.inr rfl) (fun q => absurd q n8) (fun q => absurd q n10)
  obtain ⟨⟨p1, p2, p3⟩, p4, p5, p6, p7, p8, p9⟩ := D
  exact ⟨⟨⟨g, up_eq, P⟩, p2.kx K, p3.kx K⟩, p4.kx K, p5.kx K, p6.kx K, p7.kx K, p8.im K.2.1 K.2.2.1, p9.im K.2.1 K.2.2.1⟩
end
def fd5 (tp : Nat → Nat) (n : Nat) (v1 v2 v3 v4 v5 : Int32) : Nat → Nat := tp4 (tp4 (tp4 (tp4 (tp4 tp n v1) (n + 4) v2) (n + 8) v3) (n + 12) v4) (n + 16) v5
section
variable {b : Nat → Nat} {x : Int}
theorem td_feed {v1 v2 v3 v4 v5 : Int32} : TD b (fun h => c_B_feed h (b 0) v1 v2 v3 v4 v5) (fun ms => d_M_feed ms v1 v2 v3 v4 v5) := by
  intro own X c s h ms C I M
  have C' := C
  obtain ⟨held, rm, z, z', skm, sn, R, R', N, N', Tb, seed, rows', seed', e0, sk, D, S, z1, z2⟩ := C
  have M' : CM X (mset ms 0 0 0) := M.set (by decide)
  have hl := I.2.1
  by_cases c1 : X.len + 20 ≤ 940
  · obtain ⟨f, e1, e2⟩ := D.1.1
    have ne : b 1 ≠ b 0 := kd_ne e1 e0 rfl
    have hs : HT b h held rm z z' X.ft skm X.L.length X.td.isSome sn f X.len = h := by
      unfold HT
      rw [hset_same e1, hset_same e0]
    have comp : ∃ g, TPf g (fd5 X.tp X.len v1 v2 v3 v4 v5) ∧ c_B_feed h (b 0) v1 v2 v3 v4 v5 = rI (ii (X.len + 20 : Nat)) (HT b h held rm z z' X.ft skm X.L.length X.td.isSome sn g (X.len + 20)) := by
      have k : Ends (c_B_feed h (b 0) v1 v2 v3 v4 v5) (fun r h' => r = .inl (some (.int (ii (X.len + 20 : Nat)))) ∧ ∃ g, TPf g (fd5 X.tp X.len v1 v2 v3 v4 v5) ∧ h' = HT b h held rm z z' X.ft skm X.L.length X.td.isSome sn g (X.len + 20)) := by
        unfold c_B_feed
        refine q_grd e0 (by decide) ?_
        refine q_gI e0 (by decide) rfl ?_
        rw [il_20, il_940, ii_add]
        refine q_pos _ (ii_leT (by omega)) ?_
        rw [← hs]
        refine b_four ne (by omega) e2 fun f1 p1 => ?_
        refine b_four ne (by omega) p1 fun f2 p2 => ?_
        refine b_four ne (by omega) p2 fun f3 p3 => ?_
        refine b_four ne (by omega) p3 fun f4 p4 => ?_
        refine b_four ne (by omega) p4 fun f5 p5 => ?_
        refine q_gI up_eq (by decide) rfl ?_
        exact q_rI ⟨rfl, f5, p5, by rw [hs]⟩
      obtain ⟨r, h', k1, k2, g, k3, k4⟩ := k
      refine ⟨g, k3, ?_⟩
      rw [k1, k2, k4]
      rfl
    obtain ⟨g, P, ec⟩ := comp
    have md : DE (d_M_feed ms v1 v2 v3 v4 v5) (fun r m' => r = some (.int (ii (X.len + 20 : Nat))) ∧ TPm m' (fd5 X.tp X.len v1 v2 v3 v4 v5) (X.len + 20) ∧ m'.2 = (mset ms 0 0 0).2 ∧ ∀ j, j ≠ 1 → j ≠ 2 → m'.1 j = (mset ms 0 0 0).1 j) := by
      have p0 : TPm (mset ms 0 0 0) X.tp X.len := ⟨M'.1, M'.2.1⟩
      unfold d_M_feed
      refine d_nm ?_
      rw [M'.2.1]
      refine d_nm ?_
      rw [il_20, il_940, ii_add]
      refine d_pos _ (ii_leT (by omega)) ?_
      refine d_bV (m_come p0 (by omega)) fun m1 ⟨p1, a1, k1⟩ => ?_
      refine d_bV (m_come p1 (by omega)) fun m2 ⟨p2, a2, k2⟩ => ?_
      refine d_bV (m_come p2 (by omega)) fun m3 ⟨p3, a3, k3⟩ => ?_
      refine d_bV (m_come p3 (by omega)) fun m4 ⟨p4, a4, k4⟩ => ?_
      refine d_bV (m_come p4 (by omega)) fun m5 ⟨p5, a5, k5⟩ => ?_
      refine d_nm ?_
      exact d_dI ⟨by rw [p5.2], p5, a5.trans (a4.trans (a3.trans (a2.trans a1))), fun j h1 h2 => (k5 j h1 h2).trans ((k4 j h1 h2).trans ((k3 j h1 h2).trans ((k2 j h1 h2).trans (k1 j h1 h2))))⟩
    obtain ⟨r, m', d1, d2, d3, d4, d5⟩ := md
    subst d2
    have D' := rd_tape (tp' := fd5 X.tp X.len v1 v2 v3 v4 v5) D e1 P
    have S1 := S.set (c := .inl (2, 940, .inl g)) e1 rfl
    have F1 : FX own own (b 0) (b 16) h (hset h (b 1) (.inl (2, 940, .inl g))) := FX.set S.2.2.2 e1 (nP rfl rfl rfl)
    have k := cb_b0 (held := held) (skm := skm) (c := c) (s := s) (X' := (fd5 X.tp X.len v1 v2 v3 v4 v5, X.len + 20, X.2.2)) (up_nx (Ne.symm ne) e0) D' S1 sk z1 z2
    refine ⟨_, _, m', own, (fd5 X.tp X.len v1 v2 v3 v4 v5, X.len + 20, X.2.2), ec, d1, k.1.wk (by omega) (by omega), ⟨I.1, c1, tp4_lt (tp4_lt (tp4_lt (tp4_lt (tp4_lt I.2.2.1)))), I.2.2.2⟩, ?_, F1.trans k.2 S.2.2.2⟩
    have j := fun q h1 h2 => d5 q h1 h2
    obtain ⟨c1, c2, c3, c4, c5, c6, c7, c8, c9, c10, c11, c12⟩ := M'
    refine ⟨d3.1, d3.2, ?_, ?_, ?_, ?_, fun k hk => (c7 k hk).congr (j 23 (by decide) (by decide)) (j 16 (by decide) (by decide)) (by rw [d4]), ?_, ?_, ?_, ?_, ?_⟩
    · rw [j 14 (by decide) (by decide)]; exact c3
    · rw [d4]; exact c4
    · rw [j 24 (by decide) (by decide)]; exact c5
    · rw [j 17 (by decide) (by decide)]; exact c6
    · rw [j 10 (by decide) (by decide)]; exact c8
    · rw [j 28 (by decide) (by decide)]; exact c9
    · rw [j 27 (by decide) (by decide)]; exact c10
    · rw [j 33 (by decide) (by decide)]; exact c11
    · rw [j 33 (by decide) (by decide), j 31 (by decide) (by decide)]; exact c12
  · refine ⟨ii (-1), h, mset ms 0 0 0, own, X, eqI ?_, dEqI ?_, C'.wk (by omega) (by omega), I, M', FX.rf S.2.2.2⟩
    · unfold c_B_feed
      refine q_grd e0 (by decide) ?_
      refine q_gI e0 (by decide) rfl ?_
      rw [il_20, il_940, ii_add]
      refine q_neg _ (ii_leF (by omega)) ?_
      exact q_rI ⟨rfl, rfl⟩
    · unfold d_M_feed
      refine d_nm ?_
      rw [M'.2.1]
      refine d_nm ?_
      rw [il_20, il_940, ii_add]
      refine d_neg _ (ii_leF (by omega)) ?_
      exact d_dI ⟨rfl, rfl⟩
/-- another length of the tape -/
theorem CM.len {X : XS} {ms : MS} {n : Nat} (M : CM X ms) : CM (X.1, n, X.2.2) (mset ms 2 0 (ii n)) := by
  obtain ⟨c1, c2, c3, c4, c5, c6, c7, c8, c9, c10, c11, c12⟩ := M
  have j : ∀ q, q ≠ 2 → (mset ms 2 0 (ii n)).1 q = ms.1 q := fun q hq => ms_nk hq
  refine ⟨?_, ms_eq, ?_, c4, ?_, ?_, fun k hk => (c7 k hk).congr (j 23 (by decide)) (j 16 (by decide)) rfl, ?_, ?_, ?_, ?_, ?_⟩
  · rw [j 1 (by decide)]; exact c1
  · rw [j 14 (by decide)]; exact c3
  · rw [j 24 (by decide)]; exact c5
  · rw [j 17 (by decide)]; exact c6
  · rw [j 10 (by decide)]; exact c8
  · rw [j 28 (by decide)]; exact c9
  · rw [j 27 (by decide)]; exact c10
  · rw [j 33 (by decide)]; exact c11
  · rw [j 33 (by decide), j 31 (by decide)]; exact c12
theorem td_end (hx : -2147483648 ≤ x ∧ x < 2147483648) : TD b (fun h => c_B_end h (b 0) (ii x)) (fun ms => d_M_end ms (ii x)) := by
  intro own X c s h ms C I M
  have C' := C
  obtain ⟨held, rm, z, z', skm, sn, R, R', N, N', Tb, seed, rows', seed', e0, sk, D, S, z1, z2⟩ := C
  have M' : CM X (mset ms 0 0 0) := M.set (by decide)
  have hl := I.2.1
  by_cases c1 : 0 ≤ x ∧ x ≤ X.len
  · obtain ⟨n, rfl⟩ : ∃ k : Nat, x = k := ⟨x.toNat, by omega⟩
    have k := cb_b0 (held := held) (skm := skm) (c := c) (s := s) (X' := (X.1, n, X.2.2)) e0 D S sk z1 z2
    refine ⟨1, _, _, own, (X.1, n, X.2.2), eqI ?_, dEqI ?_, k.1.wk (by omega) (by omega), ⟨I.1, by show n ≤ 940; omega, I.2.2⟩, M'.len, k.2⟩
    · unfold c_B_end
      refine q_grd e0 (by decide) ?_
      refine q_neg _ (ii_ltF (b := 0) (by omega)) ?_
      refine q_gI e0 (by decide) rfl ?_
      refine q_pos _ (ii_leT (by omega)) ?_
      refine q_pI e0 (by decide) (Nat.le_of_ble_eq_true rfl) ?_
      exact q_rZ1 ⟨rfl, rfl⟩
    · unfold d_M_end
      refine d_nm ?_
      refine d_neg _ (ii_ltF (b := 0) (by omega)) ?_
      rw [M'.2.1]
      refine d_nm ?_
      refine d_pos _ (ii_leT (by omega)) ?_
      refine d_nm ?_
      exact d_dZ1 ⟨rfl, rfl⟩
  · refine ⟨0, h, mset ms 0 0 0, own, X, eqI ?_, dEqI ?_, C'.wk (by omega) (by omega), I, M', FX.rf S.2.2.2⟩
    · unfold c_B_end
      refine q_grd e0 (by decide) ?_
      by_cases c2 : x < 0
      · refine q_pos _ (ii_ltT (b := 0) (by omega)) ?_
        exact q_rZ0 ⟨rfl, rfl⟩
      · refine q_neg _ (ii_ltF (b := 0) (by omega)) ?_
        refine q_gI e0 (by decide) rfl ?_
        refine q_neg _ (ii_leF (by omega)) ?_
        exact q_rZ0 ⟨rfl, rfl⟩
    · unfold d_M_end
      refine d_nm ?_
      by_cases c2 : x < 0
      · refine d_pos _ (ii_ltT (b := 0) (by omega)) ?_
        exact d_dZ0 ⟨rfl, rfl⟩
      · refine d_neg _ (ii_ltF (b := 0) (by omega)) ?_
        rw [M'.2.1]
        refine d_nm ?_
        refine d_neg _ (ii_leF (by omega)) ?_
        exact d_dZ0 ⟨rfl, rfl⟩
end
def bitsN (A : Nat → LL) : Nat → Nat
  | 0 => 0
  | n + 1 => bitsN A n + (A n).flatten.length
theorem bits4 {A : Nat → LL} {n : Nat} (hn : n ≤ 4) (h : ∀ r, n ≤ r → r < 4 → A r = []) : bitsN A n = (A 0).flatten.length + (A 1).flatten.length + (A 2).flatten.length + (A 3).flatten.length := by
  match n, hn with
  | 0, _ => rw [h 0 (by omega) (by omega), h 1 (by omega) (by omega), h 2 (by omega) (by omega), h 3 (by omega) (by omega)]; rfl
  | 1, _ => rw [h 1 (by omega) (by omega), h 2 (by omega) (by omega), h 3 (by omega) (by omega)]; simp [bitsN]
  | 2, _ => rw [h 2 (by omega) (by omega), h 3 (by omega) (by omega)]; simp [bitsN]
  | 3, _ => rw [h 3 (by omega) (by omega)]; simp [bitsN]
  | 4, _ => simp [bitsN]
section
variable {b : Nat → Nat} {x : Int} {ms : MS} {n : Nat} {A : Nat → LL}
theorem m_allBits_l4 (M : QM ms n A) : ∀ (m fu p : Nat), m < fu → p + m = n → DE (itr (d_M_allBits_l4) (fun _ _ _ => none) fu ms (ii (bitsN A p)) (ii p)) (DA ms (bitsN A n : Int)) := by
  have hn := M.2.1
  intro m
  induction m with
  | zero =>
    intro fu p hf hp
    obtain ⟨fu, rfl⟩ : ∃ x, fu = x + 1 := ⟨fu - 1, by omega⟩
    rw [itr_succ]
    unfold d_M_allBits_l4
    refine d_eA (z := 0) (N := 6062) rfl (n := 0) (by omega) M.1 ?_
    refine d_pos _ (ii_leT (by omega)) ?_
    have : p = n := by omega
    subst this
    exact d_an rfl
  | succ m ih =>
    intro fu p hf hp
    obtain ⟨fu, rfl⟩ : ∃ x, fu = x + 1 := ⟨fu - 1, by omega⟩
    rw [itr_succ]
    unfold d_M_allBits_l4
    refine d_eA (z := 0) (N := 6062) rfl (n := 0) (by omega) M.1 ?_
    refine d_neg _ (ii_leF (by omega)) ?_
    refine d_size M (by omega) ?_
    refine d_nm ?_
    rw [ii_add, add1]
    exact ih fu (p + 1) (by omega) (by omega)
theorem m_allBits (M : QM ms n A) : d_M_allBits ms = dI (ii (bitsN A n)) ms := by
  have hn := M.2.1
  refine dEqI ?_
  unfold d_M_allBits
  exact m_allBits_l4 M n FU 0 (by unfold FU; omega) (by omega)
theorem td_total (hx : -2147483648 ≤ x ∧ x < 2147483648) : TD b (fun h => c_B_total h (b 0) (ii x)) (fun ms => d_M_total ms (ii x)) := by
  intro own X c s h ms C I M
  have C' := C
  obtain ⟨held, rm, z, z', skm, sn, R, R', N, N', Tb, seed, rows', seed', e0, sk, D, S, z1, z2⟩ := C
  have M' : CM X (mset ms 0 0 0) := M.set (by decide)
  obtain ⟨na, f, r1, _⟩ := D.2.2.2.2.2.1
  have b4 := bits4 I.1.1 I.1.2.2.1.2.2
  refine ⟨ii (if x = 0 then (X.w.n : Int) else if x = 1 then (X.w.low : Int) else if x = 2 then (bitsN X.w.A X.w.n : Int) else if x = 3 then (X.len : Int) else -1), h, mset ms 0 0 0, own, X, eqI ?_, dEqI ?_, C'.wk (by omega) (by omega), I, M', FX.rf S.2.2.2⟩
  · unfold c_B_total
    refine q_grd e0 (by decide) ?_
    by_cases c0 : x = 0
    · subst c0
      refine q_pos _ rfl ?_
      refine q_gQr e0 (by decide) rfl ?_
      refine q_nn ?_
      refine q_gI r1 (by decide) rfl ?_
      exact q_rI ⟨by rw [if_pos rfl], rfl⟩
    refine q_neg _ (ii_eq0F (by omega)) ?_
    rw [if_neg c0]
    by_cases c1 : x = 1
    · subst c1
      refine q_pos _ rfl ?_
      refine q_gQr e0 (by decide) rfl ?_
      refine q_nn ?_
      refine q_gI r1 (by decide) rfl ?_
      exact q_rI ⟨by rw [if_pos rfl], rfl⟩
    refine q_neg _ (ii_eqF (b := 1) (by omega)) ?_
    rw [if_neg c1]
    by_cases c2 : x = 2
    · subst c2
      refine q_pos _ rfl ?_
      refine q_gQr e0 (by decide) rfl ?_
      refine q_nn ?_
      refine q_hIe (z_bits S.1) ?_
      exact q_rI ⟨by rw [if_pos rfl, b4], rfl⟩
    refine q_neg _ (ii_eqF (b := 2) (by omega)) ?_
    rw [if_neg c2]
    by_cases c3 : x = 3
    · subst c3
      refine q_pos _ rfl ?_
      refine q_gI e0 (by decide) rfl ?_
      exact q_rI ⟨by rw [if_pos rfl], rfl⟩
    refine q_neg _ (ii_eqF (b := 3) (by omega)) ?_
    rw [if_neg c3]
    exact q_rI ⟨rfl, rfl⟩
  · unfold d_M_total
    refine d_nm ?_
    by_cases c0 : x = 0
    · subst c0
      refine d_pos _ rfl ?_
      refine d_eA (z := 0) (N := 6062) rfl (n := 0) (by omega) M'.2.2.1.1.1 ?_
      exact d_dI ⟨by rw [if_pos rfl], rfl⟩
    refine d_neg _ (ii_eq0F (by omega)) ?_
    rw [if_neg c0]
    by_cases c1 : x = 1
    · subst c1
      refine d_pos _ rfl ?_
      refine d_eA (z := 1) (N := 6062) rfl (n := 1) (by omega) M'.2.2.1.1.2.1 ?_
      exact d_dI ⟨by rw [if_pos rfl], rfl⟩
    refine d_neg _ (ii_eqF (b := 1) (by omega)) ?_
    rw [if_neg c1]
    by_cases c2 : x = 2
    · subst c2
      refine d_pos _ rfl ?_
      refine d_bIe (m_allBits (M'.qm I)) ?_
      exact d_dI ⟨by rw [if_pos rfl], rfl⟩
    refine d_neg _ (ii_eqF (b := 2) (by omega)) ?_
    rw [if_neg c2]
    by_cases c3 : x = 3
    · subst c3
      refine d_pos _ rfl ?_
      rw [M'.2.1]
      refine d_nm ?_
      exact d_dI ⟨by rw [if_pos rfl], rfl⟩
    refine d_neg _ (ii_eqF (b := 3) (by omega)) ?_
    rw [if_neg c3]
    exact d_dI ⟨rfl, rfl⟩
end
