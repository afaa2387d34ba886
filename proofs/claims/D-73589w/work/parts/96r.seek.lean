/-! PURE SIDE: both sides: seek -/
set_option maxRecDepth 100000
abbrev xS (X : XS) (sk : List Nat) : XS := (X.1, X.2.1, X.2.2.1, X.2.2.2.1, X.2.2.2.2.1, sk, X.2.2.2.2.2.2.1, X.2.2.2.2.2.2.2)
/-- the tape's bits stand there -/
def Mt (l : List Bool) (f : Nat → Nat) (p n : Nat) : Prop := ∀ j, j < n → bn (gb l (p + j)) = (f j : Int)
noncomputable def skF (l : List Bool) (f : Nat → Nat) (n : Nat) : Nat → Nat → List Nat
  | 0, _ => []
  | k + 1, p => if l.length < p + n then [] else (match Classical.propDecidable (Mt l f p n) with
    | .isTrue _ => p :: skF l f n k (p + 1)
    | .isFalse _ => skF l f n k (p + 1))
theorem skF_end {l : List Bool} {f : Nat → Nat} {n k p : Nat} (h : l.length < p + n) : skF l f n (k + 1) p = [] := by
  rw [skF, if_pos h]
theorem skF_yes {l : List Bool} {f : Nat → Nat} {n k p : Nat} (h : ¬ l.length < p + n) (m : Mt l f p n) : skF l f n (k + 1) p = p :: skF l f n k (p + 1) := by
  rw [skF, if_neg h]
  cases Classical.propDecidable (Mt l f p n) with
  | isTrue _ => rfl
  | isFalse q => exact absurd m q
theorem skF_no {l : List Bool} {f : Nat → Nat} {n k p : Nat} (h : ¬ l.length < p + n) (m : ¬ Mt l f p n) : skF l f n (k + 1) p = skF l f n k (p + 1) := by
  rw [skF, if_neg h]
  cases Classical.propDecidable (Mt l f p n) with
  | isTrue q => exact absurd q m
  | isFalse q => rfl
section
variable {b own own' : Nat → Nat} {X : XS} {h h1 h' : PH} {held : Int} {rm z z' : Nat} {skm : Int} {sn : Option Nat} {R R' N N' : Nat → Nat} {Tb : Nat → Bool} {seed rows' seed' : Int32} {c s : Nat} {ms : MS} {n r i : Nat} {Z : Rt → PH → Prop} {sk : List Nat}
theorem rd_sk {f g : Nat → Int32} {sk : List Nat} (D : RD b own h X rm sn) (nb : b 8 ≠ b 0 ∧ b 8 ≠ b 10) (e : h.1 (b 8) = some (.inl (0, 600, .inl f))) (hg : ∀ (k x : Nat), sk[k]? = some x → g k = ii x) : RD b own (hset h (b 8) (.inl (0, 600, .inl g))) (xS X sk) rm sn := by
  have o8 := D.k8.1
  have K : KX b own own 1008 h (hset h (b 8) (.inl (0, 600, .inl g))) := KX.set e (fun q => (ff q rfl).elim) rfl (Or.inl (by rw [o8]; exact nb.1)) (fun _ => rfl) (fun q => absurd q nb.2)
  obtain ⟨⟨p1, p2, p3⟩, p4, p5, p6, p7, p8, p9⟩ := D
  exact ⟨⟨p1.kx K, p2.kx K, p3.kx K⟩, ⟨o8, g, up_eq, hg⟩, p5.kx K, p6.kx K, p7.kx K, p8.im K.2.1 K.2.2.1, p9.im K.2.1 K.2.2.1⟩
theorem b_seek_put {p : Nat} {K : PH → Option RH} (O : CBo b own (xS X sk) held rm z z' sk.length sn R R' N N' Tb seed rows' seed' h) (hs : sk.length < 600) (kk : ∀ h1, CBo b own (xS X (sk ++ [p])) held rm z z' (sk ++ [p]).length sn R R' N N' Tb seed rows' seed' h1 → FX own own (b 0) (b 16) h h1 → h1.2 = h.2 → Ends (K h1) Z) : Ends (gQ h (b 0) [0] 12 fun v2 => gI h (b 0) [0] 13 fun v3 => nn v2 fun a4 => stI h a4 v3 (ii p) fun h6 => gI h6 (b 0) [0] 13 fun v7 => pI h6 (b 0) [0] 13 (v7 + (1 : Int32)) K) Z := by
  obtain ⟨e0, _, D, S⟩ := O
  have Ap := S.2.2.1
  have wf := S.2.2.2
  obtain ⟨d0, f, d1, d2⟩ := D.2.1
  have ap := Ap.2.2.2.2.2
  have n0 : b 0 ≠ b 8 := Ne.symm ap.2.1
  have n108 : b 8 ≠ b 10 := fun q => by
    obtain ⟨_, g8, g81, _⟩ := D.2.2.1
    rw [← q, d1] at g81
    injection g81 with d1
    injection d1 with d1
    injection d1 with _ d1
    injection d1 with d1 _
    exact absurd d1 (by decide)
  have St : ∀ g : Nat → Int32, ST b own X.w z z' R R' N N' Tb seed rows' seed' (hset h (b 8) (.inl (0, 600, .inl g))) := fun g => ⟨S.1.mk (M := b 8) (fun k hk => (Ap.2.1 k hk).2.1) (fun x c e q => up_nx (fun y => by
    rw [y, d1] at e
    injection e with e
    rcases q with q | q
    · exact q (by rw [y]; exact d0)
    · rw [← e] at q; exact ff rfl q) e), S.2.1.mk (M := b 8) (fun k hk => (Ap.2.2.1 k hk).2.1) (fun x c e q => up_nx (fun y => by
    rw [y, d1] at e
    injection e with e
    rcases q with q | q
    · exact q (by rw [y]; exact d0)
    · rw [← e] at q; exact ff rfl q) e), Ap, wf.setE d1⟩
  refine q_gQr e0 (by decide) rfl ?_
  refine q_gI e0 (by decide) rfl ?_
  refine q_nn ?_
  refine q_stI d1 (by omega) ?_
  refine q_gI (up_nx n0 e0) (by decide) rfl ?_
  refine q_pI (up_nx n0 e0) (by decide) (Nat.le_of_ble_eq_true rfl) ?_
  rw [Int.toNat_natCast, add1]
  have hg : ∀ (k x : Nat), (sk ++ [p])[k]? = some x → upd f sk.length (ii p) k = ii x := fun k x hk => by
    unfold upd
    by_cases c : k = sk.length
    · subst c
      rw [List.getElem?_append_right (Nat.le_refl _), Nat.sub_self] at hk
      injection hk with hk
      rw [if_pos rfl, ← hk]
    · rw [if_neg c]
      by_cases c2 : k < sk.length
      · rw [List.getElem?_append_left c2] at hk
        exact d2 k x hk
      · rw [List.getElem?_eq_none (by rw [List.length_append, List.length_singleton]; omega)] at hk
        cases hk
  have D1 := rd_sk (X := xS X sk) D ⟨Ne.symm n0, n108⟩ d1 hg
  obtain ⟨m8, m10⟩ := D1.ne8 (up_nx n0 e0) (by show 2 * 0 ≠ 1; decide)
  have el : ((sk ++ [p]).length : Int) = (sk.length : Int) + 1 := by rw [List.length_append, List.length_singleton]; rfl
  refine kk _ ⟨?_, Or.inl rfl, D1.kx (KX.set (up_nx n0 e0) (fun q => (ff q rfl).elim) rfl (Or.inr rfl) (fun q => absurd q m8) (fun q => absurd q m10)), (St _).set (up_nx n0 e0) rfl⟩ ((FX.set wf d1 (nPo rfl (by rw [d0]; exact Ne.symm n0) (by rw [d0]; exact ap.2.2.1))).trans (FX.set (wf.setE d1) (up_nx n0 e0) (nP rfl rfl rfl)) wf) rfl
  rw [el]
  exact up_eq
/-- the tape stands while ropes are read -/
theorem TB.qi {q : QP} {f : Nat → Nat} (T : TB b q.h0 f n) (eB : q.B = b 0) (ez : ∃ fs, q.h0.1 q.z = some (.inr (3, fs))) (Q : QI q h) (e0 : q.fs[0]? = some (.ref (b 1)) ∧ q.fs[2]? = some (.int (ii n))) : TB b h f n := by
  obtain ⟨_, ⟨g, eg, hg⟩, hn, hf⟩ := T
  have c0 := Q.cell
  rw [eB] at c0
  obtain ⟨T, own, N, S, C, G, _⟩ := Q
  obtain ⟨fs, ez⟩ := ez
  exact ⟨⟨_, c0, e0⟩, ⟨g, G.kd eg (kd_ne eg ez rfl) rfl, hg⟩, hn, hf⟩
theorem b_seek_in {q : QP} {f : Nat → Nat} {r30 : PH → Nat → Int32 → Int32 → Option RH} {p : Nat} (T : TB b q.h0 f n) (eB : q.B = b 0) (ez : ∃ fs, q.h0.1 q.z = some (.inr (3, fs))) (e0 : q.fs[0]? = some (.ref (b 1)) ∧ q.fs[2]? = some (.int (ii n))) (hr : r < 4) (hp : p + n ≤ (q.A r).flatten.length) (hf : ∀ i, i < n → f i ≤ 1) (ky : Mt (q.A r).flatten f p n → ∀ h', QI q h' → Ends (gQ h' (b 0) [0] 12 fun v2 => gI h' (b 0) [0] 13 fun v3 => nn v2 fun a4 => stI h' a4 v3 (ii p) fun h6 => gI h6 (b 0) [0] 13 fun v7 => pI h6 (b 0) [0] 13 (v7 + (1 : Int32)) fun h8 => r30 h8 (b 0) (ii r) (ii p + (1 : Int32))) Z) (kn : ¬ Mt (q.A r).flatten f p n → ∀ h', QI q h' → Ends (r30 h' (b 0) (ii r) (ii p + (1 : Int32))) Z) : ∀ (k fu j : Nat) (h : PH), k < fu → j + k = n → QI q h → (∀ i, i < j → bn (gb (q.A r).flatten (p + i)) = (f i : Int)) → Ends (itr (c_B_seek_l49 r30) (fun _ _ _ _ _ => none) fu h (b 0) (ii r) (ii p) (ii j)) Z := by
  intro k
  have hn := T.2.2.1
  induction k with
  | zero =>
    intro fu j h hk hj Q ha
    obtain ⟨fu, rfl⟩ : ∃ x, fu = x + 1 := ⟨fu - 1, by omega⟩
    have T1 := T.qi eB ez Q e0
    obtain ⟨⟨fs, g0, g1, g2⟩, _⟩ := T1
    rw [itr_succ]
    unfold c_B_seek_l49
    refine q_gI g0 (by decide) g2 ?_
    refine q_pos _ (ii_leT (by omega)) ?_
    unfold c_B_seek_j82
    refine q_gI g0 (by decide) g2 ?_
    refine q_pos _ (ii_leT (by omega)) ?_
    exact ky (fun i hi => ha i (by omega)) h Q
  | succ k ih =>
    intro fu j h hk hj Q ha
    obtain ⟨fu, rfl⟩ : ∃ x, fu = x + 1 := ⟨fu - 1, by omega⟩
    have bd := (Q.bnd (k := r) (by omega)).1
    have T1 := T.qi eB ez Q e0
    obtain ⟨⟨fs, g0, g1, g2⟩, _⟩ := T1
    rw [itr_succ]
    unfold c_B_seek_l49
    refine q_gI g0 (by decide) g2 ?_
    refine q_neg _ (ii_leF (by omega)) ?_
    rw [← eB]
    refine q_rope Q hr fun h1 Q1 => ?_
    rw [ii_add]
    refine q_hI (g_get (i := p + j) Q1 hr (by omega)) fun v h2 ⟨ev, Q2⟩ => ?_
    have T2 := T.qi eB ez Q2.i e0
    rw [eB]
    refine q_hIe (b_one T2 (by omega)) ?_
    subst ev
    have hfj := hf j (by omega)
    have hb := bn_le (gb (q.A r).flatten (p + j))
    by_cases c : bn (gb (q.A r).flatten (p + j)) = (f j : Int)
    · refine q_pos _ (by rw [c]) ?_
      rw [add1]
      exact ih fu (j + 1) h2 (by omega) (by omega) Q2.i fun i hi => by
        by_cases w : i = j
        · rw [w]; exact c
        · exact ha i (by omega)
    · refine q_neg _ (ii_eqF (by omega)) ?_
      unfold c_B_seek_j82
      obtain ⟨⟨fs2, g20, g21, g22⟩, _⟩ := T2
      refine q_gI g20 (by decide) g22 ?_
      refine q_neg _ (ii_leF (by omega)) ?_
      exact kn (fun w => c (w j (by omega))) h2 Q2.i
theorem XI.skp {p : Nat} (I : XI (xS X sk)) (h1 : sk.length < 600) (h2 : p ≤ 600) : XI (xS X (sk ++ [p])) := by
  obtain ⟨i1, i2, i3, i4, i5, i6, i7, i8⟩ := I
  refine ⟨i1, i2, i3, i4, i5, i6, ?_, fun x hx => ?_⟩
  · show (sk ++ [p]).length ≤ 600
    rw [List.length_append, List.length_singleton]; omega
  · have hx : x ∈ sk ++ [p] := hx
    rcases List.mem_append.mp hx with hx | hx
    · exact i8 x hx
    · rw [List.mem_singleton.mp hx]; exact h2
theorem CBo.asks (O : CBo b own X held rm z z' skm sn R R' N N' Tb seed rows' seed' h) (n4 : X.w.n ≤ 4) : ∃ q : QP, q.B = b 0 ∧ q.h0 = h ∧ q.A = X.w.A ∧ (∃ fs, q.h0.1 q.z = some (.inr (3, fs))) ∧ q.fs[0]? = some (.ref (b 1)) ∧ q.fs[2]? = some (.int (ii held)) ∧ q.fs[13]? = some (.int (ii skm)) ∧ QI q h ∧ ∀ h', QI q h' → ∃ own' N2 T2, CBo b own' X held rm z z' skm sn R R' N2 N' T2 seed rows' seed' h' ∧ FX own own' (b 0) (b 16) h h' ∧ h'.2.1.1 + 2 * s11 N2 + 900 * uT T2 ≤ h.2.1.1 + 2 * s11 N + 900 * uT Tb ∧ h'.2.1.2 + 7 * s11 N2 + 4800 * uT T2 ≤ h.2.1.2 + 7 * s11 N + 4800 * uT Tb := by
  have O' := O
  obtain ⟨e0, sko, D, S⟩ := O
  have wf := S.2.2.2
  obtain ⟨na, fr, r1, _⟩ := D.2.2.2.2.2.1
  refine ⟨(own, h, b 0, rm, z, X.w.n, X.w.low, _, _, X.w.A, R, ii X.w.n, seed, h.2.1.1 + 2 * s11 N + 900 * uT Tb, h.2.1.2 + 7 * s11 N + 4800 * uT Tb), rfl, rfl, rfl, S.zc, ?_, ?_, ?_, ⟨Tb, own, N, S.1, ⟨e0, rfl, rfl, r1, rfl, n4⟩, GF.rf wf, wf, Nat.le_refl _, Nat.le_refl _⟩, fun h' Q => ?_⟩
  · rfl
  · rfl
  · rfl
  · obtain ⟨T2, own2, N2, S2, C2, G2, _, y1, y2⟩ := Q
    obtain ⟨a1, a2, _⟩ := O'.gf (T := X.w.T) S2 G2
    exact ⟨own2, N2, T2, a1, a2, y1, y2⟩
theorem b_seek_l (hr : r < 4) (n1 : 1 ≤ n) (hn : n ≤ 940) (hf : ∀ i, i < n → X.tp i ≤ 1) : ∀ (k fu p : Nat) (sk : List Nat) (own N : Nat → Nat) (Tb : Nat → Bool) (h : PH), k < fu → p + k = (X.w.A r).flatten.length + 2 → 1 ≤ k → sk.length ≤ p → XI (xS X sk) → CBo b own (xS X sk) n rm z z' sk.length sn R R' N N' Tb seed rows' seed' h → Ends (itr (c_B_seek_l30) (fun _ _ _ _ => none) fu h (b 0) (ii r) (ii p)) (fun rr hh => rr = .inl (some (.int (ii (sk ++ skF (X.w.A r).flatten X.tp n k p).length))) ∧ XI (xS X (sk ++ skF (X.w.A r).flatten X.tp n k p)) ∧ ∃ own' N2 T2, CBo b own' (xS X (sk ++ skF (X.w.A r).flatten X.tp n k p)) n rm z z' (sk ++ skF (X.w.A r).flatten X.tp n k p).length sn R R' N2 N' T2 seed rows' seed' hh ∧ FX own own' (b 0) (b 16) h hh ∧ hh.2.1.1 + 2 * s11 N2 + 900 * uT T2 ≤ h.2.1.1 + 2 * s11 N + 900 * uT Tb ∧ hh.2.1.2 + 7 * s11 N2 + 4800 * uT T2 ≤ h.2.1.2 + 7 * s11 N + 4800 * uT Tb) := by
  intro k
  induction k with
  | zero => intro fu p sk own N Tb h hk hp h1; omega
  | succ k ih =>
    intro fu p sk own N Tb h hk hp h1 hs I O
    obtain ⟨fu, rfl⟩ : ∃ x, fu = x + 1 := ⟨fu - 1, by omega⟩
    have n4 : X.w.n ≤ 4 := I.1.1
    have wf := O.2.2.2.2.2.2
    have lw : (X.w.A r).flatten.length ≤ 600 := (O.lsb (k := r) (by omega)).2.1
    have T0 : TB b h X.tp n := O.tb' I.2.2.1 hn rfl
    obtain ⟨q, eB, eh, eA, ez, f0, f2, f13, Q, back⟩ := O.asks n4
    have eA : q.A = X.w.A := eA
    have T0 : TB b q.h0 X.tp n := by rw [eh]; exact T0
    have T1 := T0.qi eB ez Q ⟨f0, f2⟩
    obtain ⟨⟨fs, g0, g1, g2⟩, _⟩ := T1
    rw [itr_succ]
    unfold c_B_seek_l30
    refine q_gI g0 (by decide) g2 ?_
    rw [← eB]
    refine q_wide Q hr fun h6 Q6 => ?_
    rw [eA, ii_add, eB]
    by_cases ce : (X.w.A r).flatten.length < p + n
    · refine q_pos _ (ii_ltT (by omega)) ?_
      have c6 := Q6.i.cell
      rw [eB] at c6
      refine q_gI c6 (by decide) f13 ?_
      obtain ⟨own2, N2, T2, O2, F2, y1, y2⟩ := back h6 Q6.i
      have es : sk ++ skF (X.w.A r).flatten X.tp n (k + 1) p = sk := by rw [skF_end ce, List.append_nil]
      rw [es]
      exact q_rI ⟨rfl, I, own2, N2, T2, O2, F2, y1, y2⟩
    · refine q_neg _ (ii_ltF (by omega)) ?_
      refine b_seek_in (q := q) (f := X.tp) (p := p) T0 eB ez ⟨f0, f2⟩ hr (by rw [eA]; omega) hf (fun m h7 Q7 => ?_) (fun m h7 Q7 => ?_) n FU 0 h6 (by unfold FU; omega) (by omega) Q6.i (fun i hi => by omega)
      · rw [eA] at m
        obtain ⟨own2, N2, T2, O2, F2, y1, y2⟩ := back h7 Q7
        refine b_seek_put (X := X) (sk := sk) O2 (by omega) fun h8 O8 F8 z8 => ?_
        rw [add1]
        have es : sk ++ skF (X.w.A r).flatten X.tp n (k + 1) p = (sk ++ [p]) ++ skF (X.w.A r).flatten X.tp n k (p + 1) := by rw [skF_yes ce m, List.append_assoc]; rfl
        rw [es]
        obtain ⟨rr, hh, w1, w2, w3, own3, N3, T3, O3, F3, v1, v2⟩ := ih fu (p + 1) (sk ++ [p]) own2 N2 T2 h8 (by omega) (by omega) (by omega) (by rw [List.length_append, List.length_singleton]; omega) (I.skp (by omega) (by omega)) O8
        exact ⟨rr, hh, w1, w2, w3, own3, N3, T3, O3, (F2.trans F8 wf).trans F3 wf, by rw [z8] at v1; omega, by rw [z8] at v2; omega⟩
      · rw [eA] at m
        obtain ⟨own2, N2, T2, O2, F2, y1, y2⟩ := back h7 Q7
        rw [add1]
        rw [skF_no ce m]
        obtain ⟨rr, hh, w1, w2, w3, own3, N3, T3, O3, F3, v1, v2⟩ := ih fu (p + 1) sk own2 N2 T2 h7 (by omega) (by omega) (by omega) (by omega) I O2
        exact ⟨rr, hh, w1, w2, w3, own3, N3, T3, O3, F2.trans F3 wf, by omega, by omega⟩
end
section
variable {ms : MS} {X : XS} {n r : Nat} {sk : List Nat}
theorem CM.skc {m' : MS} (M : CM (xS X sk) ms) {sk' : List Nat} (e : ∀ j, j ∈ cmF → j ≠ 27 → j ≠ 28 → m'.1 j = ms.1 j) (e2 : m'.2 = ms.2) (e28 : m'.1 28 0 = ii sk'.length) (e27 : ∀ (k x : Nat), sk'[k]? = some x → m'.1 27 k = ii x) : CM (xS X sk') m' := by
  obtain ⟨c1, c2, c3, c4, c5, c6, c7, c8, c9, c10, c11, c12⟩ := M
  have f := fun k hk h1 h2 => e k hk h1 h2
  refine ⟨?_, ?_, ?_, ?_, ?_, ?_, fun k hk => (c7 k hk).congr (f 23 (by decide) (by decide) (by decide)) (f 16 (by decide) (by decide) (by decide)) (by rw [e2]), ?_, e28, e27, ?_, ?_⟩
  · rw [f 1 (by decide) (by decide) (by decide)]; exact c1
  · rw [f 2 (by decide) (by decide) (by decide)]; exact c2
  · rw [f 14 (by decide) (by decide) (by decide)]; exact c3
  · rw [e2]; exact c4
  · rw [f 24 (by decide) (by decide) (by decide)]; exact c5
  · rw [f 17 (by decide) (by decide) (by decide)]; exact c6
  · rw [f 10 (by decide) (by decide) (by decide)]; exact c8
  · rw [f 33 (by decide) (by decide) (by decide)]; exact c11
  · rw [f 33 (by decide) (by decide) (by decide), f 31 (by decide) (by decide) (by decide)]; exact c12
theorem CM.skp {p : Nat} (M : CM (xS X sk) ms) : CM (xS X (sk ++ [p])) (mset (mset ms 27 sk.length (ii p)) 28 0 (ii ((sk.length : Int) + 1))) := by
  have c10 := M.2.2.2.2.2.2.2.2.2.1
  refine M.skc (fun j hj h1 h2 => (ms_nk h2).trans (ms_nk h1)) rfl ?_ (fun k x hk => ?_)
  · rw [ms_eq, List.length_append, List.length_singleton]; rfl
  · rw [ms_nk (by decide)]
    by_cases c : k = sk.length
    · subst c
      rw [List.getElem?_append_right (Nat.le_refl _), Nat.sub_self] at hk
      injection hk with hk
      rw [ms_eq, ← hk]
    · rw [ms_ne c]
      by_cases c2 : k < sk.length
      · rw [List.getElem?_append_left c2] at hk
        exact c10 k x hk
      · rw [List.getElem?_eq_none (by rw [List.length_append, List.length_singleton]; omega)] at hk
        cases hk
theorem m_onTape_l {f : Nat → Nat} {l : LL} {p : Nat} (hr : r < 4) (hn : n ≤ 940) (M : MR (ms.1 14) r l) (hl : l.flatten.length ≤ 600) (hp : p + n ≤ l.flatten.length) (ht : ∀ i, i < 940 → ms.1 1 i = ii (f i)) (hf : ∀ i, i < n → f i ≤ 1) : ∀ (k fu j : Nat), k < fu → j + k = n → (∀ i, i < j → bn (gb l.flatten (p + i)) = (f i : Int)) → DE (itr (d_M_isOnTape_l3) (fun _ _ _ _ _ => none) fu ms (ii r) (ii p) (ii n) (ii j)) (fun rr m' => m' = ms ∧ ((rr = some (.int 1) ∧ Mt l.flatten f p n) ∨ (rr = some (.int 0) ∧ ¬ Mt l.flatten f p n))) := by
  intro k
  induction k with
  | zero =>
    intro fu j hk hj ha
    obtain ⟨fu, rfl⟩ : ∃ x, fu = x + 1 := ⟨fu - 1, by omega⟩
    rw [itr_succ]
    unfold d_M_isOnTape_l3
    refine d_pos _ (ii_leT (by omega)) ?_
    exact d_dZ1 ⟨rfl, Or.inl ⟨rfl, fun i hi => ha i (by omega)⟩⟩
  | succ k ih =>
    intro fu j hk hj ha
    obtain ⟨fu, rfl⟩ : ∃ x, fu = x + 1 := ⟨fu - 1, by omega⟩
    rw [itr_succ]
    unfold d_M_isOnTape_l3
    refine d_neg _ (ii_leF (by omega)) ?_
    rw [ii_add]
    refine d_bIe (m_bitOf (i := p + j) M hr hl (by omega)) ?_
    refine d_eA (N := 940) rfl (n := j) (by omega) (ht j (by omega)) ?_
    have hfj := hf j (by omega)
    have hb := bn_le (gb l.flatten (p + j))
    by_cases c : bn (gb l.flatten (p + j)) = (f j : Int)
    · refine d_pos _ (by rw [c]) ?_
      rw [add1]
      exact ih fu (j + 1) (by omega) (by omega) fun i hi => by
        by_cases w : i = j
        · rw [w]; exact c
        · exact ha i (by omega)
    · refine d_neg _ (ii_eqF (by omega)) ?_
      exact d_dZ0 ⟨rfl, Or.inr ⟨rfl, fun w => c (w j (by omega))⟩⟩
theorem m_seek_l (hr : r < 4) (n1 : 1 ≤ n) (hn : n ≤ 940) (hf : ∀ i, i < n → X.tp i ≤ 1) : ∀ (k fu p : Nat) (sk : List Nat) (ms : MS), k < fu → p + k = (X.w.A r).flatten.length + 2 → 1 ≤ k → sk.length ≤ p → XI (xS X sk) → CM (xS X sk) ms → DE (itr (d_M_seek_l37) (fun _ _ _ _ => none) fu ms (ii r) (ii n) (ii p)) (fun rr m' => rr = some (.int (ii (sk ++ skF (X.w.A r).flatten X.tp n k p).length)) ∧ CM (xS X (sk ++ skF (X.w.A r).flatten X.tp n k p)) m') := by
  intro k
  induction k with
  | zero => intro fu p sk ms hk hp h1; omega
  | succ k ih =>
    intro fu p sk ms hk hp h1 hs I M
    obtain ⟨fu, rfl⟩ : ∃ x, fu = x + 1 := ⟨fu - 1, by omega⟩
    have qm := M.qm I
    have Mr : MR (ms.1 14) r (X.w.A r) := (qm.2.2 r hr).1
    have lw : (X.w.A r).flatten.length ≤ 600 := (qm.2.2 r hr).2.1
    rw [itr_succ]
    unfold d_M_seek_l37
    refine d_bIe (m_sizeOf Mr hr) ?_
    rw [ii_add]
    by_cases ce : (X.w.A r).flatten.length < p + n
    · refine d_pos _ (ii_ltT (by omega)) ?_
      refine d_nm ?_
      have es : sk ++ skF (X.w.A r).flatten X.tp n (k + 1) p = sk := by rw [skF_end ce, List.append_nil]
      rw [es, M.2.2.2.2.2.2.2.2.1]
      exact d_dI ⟨rfl, M⟩
    · refine d_neg _ (ii_ltF (by omega)) ?_
      obtain ⟨rr, m', w1, w2, w3⟩ := m_onTape_l (f := X.tp) (n := n) (p := p) hr hn Mr lw (by omega) (fun i hi => M.1 i hi) hf n FU 0 (by unfold FU; omega) (by omega) (fun i hi => by omega)
      subst w2
      rcases w3 with ⟨w3, m⟩ | ⟨w3, m⟩
      · subst w3
        refine d_bIe (v := 1) w1 ?_
        refine d_neg _ (by decide) ?_
        refine d_nm ?_
        rw [M.2.2.2.2.2.2.2.2.1]
        refine d_sA (z := (sk.length : Int)) (N := 600) rfl (n := sk.length) (by omega) ?_
        refine d_nm ?_
        refine d_nm ?_
        rw [ms_nk (by decide), M.2.2.2.2.2.2.2.2.1, add1, add1]
        have es : sk ++ skF (X.w.A r).flatten X.tp n (k + 1) p = (sk ++ [p]) ++ skF (X.w.A r).flatten X.tp n k (p + 1) := by rw [skF_yes ce m, List.append_assoc]; rfl
        rw [es]
        exact ih fu (p + 1) (sk ++ [p]) _ (by omega) (by omega) (by omega) (by rw [List.length_append, List.length_singleton]; omega) (I.skp (by omega) (by omega)) M.skp
      · subst w3
        refine d_bIe (v := 0) w1 ?_
        refine d_pos _ rfl ?_
        rw [skF_no ce m, add1]
        exact ih fu (p + 1) sk _ (by omega) (by omega) (by omega) (by omega) I M
end
section
variable {b : Nat → Nat} {x : Int}
theorem td_seek (hx : -2147483648 ≤ x ∧ x < 2147483648) : TD b (fun h => c_B_seek h (b 0) (ii x)) (fun ms => d_M_seek ms (ii x)) := by
  intro own X c s h ms C I M
  have n4 := I.1.1
  have hl := I.2.1
  have htp := I.2.2.1
  obtain ⟨held, rm, z0, z', skm, sn, R, R', N, N', Tb, seed, rows', seed', e0, sk, D, S, z1, z2⟩ := C
  have O : CBo b own X held rm z0 z' skm sn R R' N N' Tb seed rows' seed' h := ⟨e0, sk, D, S⟩
  obtain ⟨O1, F1⟩ := O.beg X.ft (X.len : Int)
  have I1 : XI (xB X X.ft) := I.xb X.ft
  have T1 := O1.tb I1 hl rfl
  have M1 : CM (xB X X.ft) (mset (mset ms 0 0 0) 2 0 (ii (0 : Nat))) := CM.len (M.set (by decide))
  have C1 : CB b own (xB X X.ft) (c + 10000) (s + 90000) _ := O1.cb (by show h.2.1.1 + _ ≤ _; omega) (by show h.2.1.2 + _ ≤ _; omega)
  obtain ⟨fs, gs, hBC⟩ := O1.bc I1
  have em : d_M_take (mset ms 0 0 0) = dI (ii X.len) (mset (mset ms 0 0 0) 2 0 (ii (0 : Nat))) := m_take (M.set (by decide))
  have Qm := M1.qm I1
  have no : ∀ {v : Int32}, (∀ Z : Rt → PH → Prop, Z (.inl (some (.int v))) (hset h (b 0) (bC b 0 X.len rm z0 z' X.ft skm X.L.length X.td.isSome sn)) → Ends (c_B_seek h (b 0) (ii x)) Z) → (∀ Z : Option Value → MS → Prop, Z (some (.int v)) (mset (mset ms 0 0 0) 2 0 (ii (0 : Nat))) → DE (d_M_seek ms (ii x)) Z) → ∃ v h' ms' own' X', c_B_seek h (b 0) (ii x) = rI v h' ∧ d_M_seek ms (ii x) = dI v ms' ∧ CB b own' X' (c + 10000) (s + 90000) h' ∧ XI X' ∧ CM X' ms' ∧ FX own own' (b 0) (b 16) h h' := fun {v} k1 k2 => ⟨v, _, _, own, _, eqI (k1 _ ⟨rfl, rfl⟩), dEqI (k2 _ ⟨rfl, rfl⟩), C1, I1, M1, F1⟩
  by_cases g1 : ¬ (0 ≤ x ∧ x < X.w.n)
  · refine no (v := -1) (fun Z k => ?_) (fun Z k => ?_)
    · unfold c_B_seek
      refine q_grd e0 (by decide) ?_
      refine q_hVe (b_consume e0) ?_
      refine q_hIe (b_isRow hBC hx) ?_
      rw [decide_eq_false g1]
      refine q_pos _ rfl ?_
      exact q_rI k
    · unfold d_M_seek
      refine d_nm ?_
      refine d_bIe em ?_
      refine d_row Qm hx (fun _ => d_dI k) fun r e1 e2 => absurd (by have e2 : r < X.w.n := e2; omega) g1
  have g1 := Classical.not_not.mp g1
  obtain ⟨r, rfl⟩ : ∃ k : Nat, x = k := ⟨x.toNat, by omega⟩
  have hr4 : r < 4 := by omega
  have pre : ∀ {Z : Rt → PH → Prop}, (¬ BOk X.tp X.len 32 → Z (.inl (some (.int (-1)))) (hset h (b 0) (bC b 0 X.len rm z0 z' X.ft skm X.L.length X.td.isSome sn))) → (BOk X.tp X.len 32 → Ends (itr (c_B_seek_l30) (fun _ _ _ _ => none) FU (hset (hset h (b 0) (bC b 0 X.len rm z0 z' X.ft skm X.L.length X.td.isSome sn)) (b 0) (bC b 0 X.len rm z0 z' X.ft 0 X.L.length X.td.isSome sn)) (b 0) (ii (r : Int)) (0 : Int32)) Z) → Ends (c_B_seek h (b 0) (ii (r : Int))) Z := by
    intro Z k1 k2
    unfold c_B_seek
    refine q_grd e0 (by decide) ?_
    refine q_hVe (b_consume e0) ?_
    refine q_hIe (b_isRow hBC hx) ?_
    rw [decide_eq_true g1]
    refine q_neg _ bn1_ne ?_
    refine q_areBits (m := 32) T1 rfl (by decide) (fun w => q_rI (k1 w)) fun w => ?_
    refine q_pI up_eq (by decide) (Nat.le_of_ble_eq_true rfl) ?_
    exact k2 w
  have mpre : ∀ {Z : Option Value → MS → Prop}, (¬ BOk X.tp X.len 32 → Z (some (.int (-1))) (mset (mset ms 0 0 0) 2 0 (ii (0 : Nat)))) → (BOk X.tp X.len 32 → DE (itr (d_M_seek_l37) (fun _ _ _ _ => none) FU (mset (mset (mset ms 0 0 0) 2 0 (ii (0 : Nat))) 28 0 (0 : Int32)) (ii (r : Int)) (ii X.len) (0 : Int32)) Z) → DE (d_M_seek ms (ii (r : Int))) Z := by
    intro Z k1 k2
    unfold d_M_seek
    refine d_nm ?_
    refine d_bIe em ?_
    refine d_row Qm hx (fun q => absurd g1 q) fun r' e1 e2 _ => ?_
    refine d_areBits (m := 32) hl (fun j hj => M1.1 j hj) htp rfl (by decide) (fun w => d_dI (k1 w)) fun w => ?_
    refine d_nm ?_
    exact k2 w
  by_cases g2 : ¬ BOk X.tp X.len 32
  · exact no (v := -1) (fun Z k => pre (fun _ => k) fun q => absurd q g2) (fun Z k => mpre (fun _ => k) fun q => absurd q g2)
  have g2 := Classical.not_not.mp g2
  have D2 : RD b own (hset h (b 0) (bC b 0 X.len rm z0 z' X.ft skm X.L.length X.td.isSome sn)) (xS (xB X X.ft) []) rm sn := by
    obtain ⟨p1, ⟨q1, f, q2, q3⟩, p3⟩ := O1.2.2.1
    exact ⟨p1, ⟨q1, f, q2, fun k x hk => by cases hk⟩, p3⟩
  obtain ⟨O2, F2⟩ := O1.b0 (X' := xS (xB X X.ft) []) (held2 := (X.len : Int)) (rm2 := rm) (skm2 := ((([] : List Nat).length : Nat) : Int)) (sn2 := sn) D2 ⟨rfl, rfl, rfl⟩ (Or.inl rfl)
  have I2 : XI (xS (xB X X.ft) []) := ⟨I1.1, I1.2.1, I1.2.2.1, I1.2.2.2.1, I1.2.2.2.2.1, I1.2.2.2.2.2.1, Nat.zero_le _, fun x hx => by cases hx⟩
  have M2 : CM (xS (xB X X.ft) []) (mset (mset (mset ms 0 0 0) 2 0 (ii (0 : Nat))) 28 0 (0 : Int32)) := CM.skc (X := xB X X.ft) (sk := X.sk) M1 (fun j hj h1 h2 => ms_nk h2) rfl ms_eq (fun k x hk => by cases hk)
  have lw : (X.w.A r).flatten.length ≤ 600 := (O1.lsb (k := r) (by omega)).2.1
  obtain ⟨rr, hh, y1, y2, y3, own2, N2, T2, O3, F3, v1, v2⟩ := b_seek_l (X := xB X X.ft) hr4 g2.1.1 hl g2.2 ((X.w.A r).flatten.length + 2) FU 0 [] own N Tb _ (by unfold FU; omega) (Nat.zero_add _) (by omega) (Nat.le_refl _) I2 O2
  obtain ⟨rr', m', w1, w2, w3⟩ := m_seek_l (X := xB X X.ft) hr4 g2.1.1 hl g2.2 ((X.w.A r).flatten.length + 2) FU 0 [] _ (by unfold FU; omega) (Nat.zero_add _) (by omega) (Nat.le_refl _) I2 M2
  subst y2 w2
  have u1 := uT_le Tb
  have v1 : hh.2.1.1 + 2 * s11 N2 + 900 * uT T2 ≤ h.2.1.1 + 2 * s11 N + 900 * uT Tb := v1
  have v2 : hh.2.1.2 + 7 * s11 N2 + 4800 * uT T2 ≤ h.2.1.2 + 7 * s11 N + 4800 * uT Tb := v2
  exact ⟨_, hh, m', own2, _, eqI (pre (fun q => absurd g2 q) fun _ => ⟨_, _, y1, rfl, rfl⟩), dEqI (mpre (fun q => absurd g2 q) fun _ => ⟨_, _, w1, rfl, rfl⟩), O3.cb (by omega) (by omega), y3, w3, (F1.trans F2 S.2.2.2).trans F3 S.2.2.2⟩
end
