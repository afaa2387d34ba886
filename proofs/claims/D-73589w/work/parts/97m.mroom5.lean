/-! PURE SIDE: rooms: the model: lines -/
set_option maxRecDepth 100000
section
variable {m0 ms ms' : MS} {f : Nat → Nat} {n k : Nat} {t : Tk} {S : RS} {Z : Option Value → MS → Prop}
theorem d_bZ {P : Option DR} (e : DE P (fun r m => (r = some (.int 0) ∧ Z r m) ∨ (r = some (.int 1) ∧ Z r m))) : DE (bI P fun v m => dZ v m) Z := by
  obtain ⟨r, m, e1, e2⟩ := e
  rw [e1]
  rcases e2 with ⟨q1, q2⟩ | ⟨q1, q2⟩
  · subst q1
    exact ⟨_, _, rfl, q2⟩
  · subst q1
    exact ⟨_, _, rfl, q2⟩
theorem RL.name {l : List Nat} (L : RL m0 f n S S.n t ms) : RL m0 f n (S.1, S.2.1, va_up S.2.2.1 S.2.1 l, S.2.2.2) (S.n + 1) t (mset (msetL ms 21 S.n (ll (n27 l))) 15 0 (ii ((S.n + 1 : Nat) : Int))) := by
  obtain ⟨l1, l2, l3, l4, l5, l6, l7⟩ := L
  have G : GR m0 (msetL ms 21 S.n (ll (n27 l))) := ⟨l1.1, fun k h1 h2 => (msetL_ne h2).trans (l1.2 k h1 h2)⟩
  have V : MkV f t (msetL ms 21 S.n (ll (n27 l))) := l2.gp' (fun _ _ => rfl) (msetL_ne (by decide))
  have B : MB (msetL ms 21 S.n (ll (n27 l))) f n 900 := l3
  refine ⟨G.set (by decide), V.set (by decide), B.set (by decide), l4, ?_, fun r hr => ?_, by rw [ms_nk (by decide)]; exact l7⟩
  · obtain ⟨m1, m2, m3, m4, m5, m6⟩ := l5
    refine ⟨ms_eq, (ms_ne (by decide)).trans m2, fun q hq => ?_, (ms_ne (by decide)).trans m4, m5, fun i hi => (ms_ne (by omega)).trans (m6 i hi)⟩
    obtain ⟨w1, w2, w3⟩ := m3 q hq
    exact ⟨(ms_ne (by omega)).trans w1, w2, fun i hi => (ms_ne (by omega)).trans (w3 i hi)⟩
  · show (msetL ms 21 S.n (ll (n27 l))).2 21 r = ll (n27 (va_up S.nm S.n l r))
    by_cases c : r = S.n
    · rw [c, msL_eq, up_at]
    · rw [msL_ne c, va_up_ne _ _ c]; exact l6 r (by omega)
theorem RL.seen (L : RL m0 f n S k t ms) : RL m0 f n (S.1, S.2.1, S.2.2.1, S.2.2.2.1, S.2.2.2.2.1, true) k t (mset ms 25 0 1) := by
  obtain ⟨l1, l2, l3, l4, l5, l6, l7⟩ := L
  refine ⟨l1.set (by decide), l2.set (by decide), l3.set (by decide), l4, ?_, l6, ms_eq⟩
  rw [ms_nk (by decide)]; exact l5
theorem RL.low {lo : Nat} (L : RL m0 f n S k t ms) : RL m0 f n (lo, S.2) k t (mset ms 15 1 (ii lo)) := by
  obtain ⟨l1, l2, l3, l4, l5, l6, l7⟩ := L
  refine ⟨l1.set (by decide), l2.set (by decide), l3.set (by decide), l4, ?_, l6, by rw [ms_nk (by decide)]; exact l7⟩
  obtain ⟨m1, m2, m3, m4, m5, m6⟩ := l5
  refine ⟨(ms_ne (by decide)).trans m1, ms_eq, fun q hq => ?_, (ms_ne (by decide)).trans m4, m5, fun i hi => (ms_ne (by omega)).trans (m6 i hi)⟩
  obtain ⟨w1, w2, w3⟩ := m3 q hq
  exact ⟨(ms_ne (by omega)).trans w1, w2, fun i hi => (ms_ne (by omega)).trans (w3 i hi)⟩
theorem RL.told {v : Int32} (L : RL m0 f n S k t ms) : RL m0 f n S k t (mset ms 13 0 v) := by
  obtain ⟨l1, l2, l3, l4, l5, l6, l7⟩ := L
  refine ⟨l1.set (by decide), l2.set (by decide), l3.set (by decide), l4, ?_, l6, by rw [ms_nk (by decide)]; exact l7⟩
  rw [ms_nk (by decide)]; exact l5
theorem s_rmN (L : RL m0 f n S S.n t ms) (hS : RSo S) (h4 : S.n < 4) (kf : ∀ kd pl, rmN f n S (nx f n 900 t) = .inl (kd, pl) → ∀ m', FR m0 kd pl m' → Z (some (.int 0)) m') (kk : ∀ S' t', rmN f n S (nx f n 900 t) = .inr (S', t') → ∀ m', RL m0 f n S' S'.n t' m' → Z (some (.int 1)) m') : DE (d_M_readRow ms) Z := by
  have hn := L.2.2.1.2.2.2.1
  have h0 := L.2.2.2.2.1.1
  unfold d_M_readRow
  refine d_eA (z := 0) (N := 2607) rfl (n := 0) (by omega) h0 ?_
  refine d_neg _ (ii_eqF (b := 4) (by omega)) ?_
  refine d_eA (z := 0) (N := 2607) rfl (n := 0) (by omega) h0 ?_
  refine s_go L.2.1 L.2.2.1 L.2.2.2.1 fun m1 v1 b1 g1 t1 => ?_
  have L1 := L.go v1 b1 g1 t1
  have tp := t1.1.1
  refine d_bIe (m_isName v1 t1) ?_
  cases w : nmOk f (nx f n 900 t) with
  | false =>
    refine d_pos _ rfl ?_
    refine d_bIe (m_bad (k := 1) v1 t1 rfl) ?_
    exact d_dZ0 (kf 1 _ (by unfold rmN; rw [if_pos w]) _ (L1.bad (Or.inl rfl)))
  | true =>
    have k1 := nmOk_k w
    refine d_neg _ bn1_ne ?_
    refine d_nm ?_
    refine d_bIe (m_findIn (k := 21) (m := S.n) (nm := S.nm) (Or.inr rfl) hS.1 (fun r hr => ⟨L1.2.2.2.2.2.1 r hr, hS.2.1 r hr⟩) (t1.2.1 k1).1 (v1.2.2.2.1 k1) rfl) ?_
    rw [mi1]
    rcases ofN_le (nm := S.nm) (l := seg f (nx f n 900 t).at_ (nx f n 900 t).p) S.n 0 with c | ⟨r, c1, c2⟩
    · have er : rmN f n S (nx f n 900 t) = match rmR f n 942 [] (nx f n 900 (nx f n 900 t)) with
        | .inl e => .inl e
        | .inr (l, t') => .inr ((S.lo, S.n + 1, va_up S.nm S.n (seg f (nx f n 900 t).at_ (nx f n 900 t).p), va_up S.bs S.n l, S.T, S.hl), t') := by
        unfold rmN
        rw [if_neg (by rw [w]; decide), if_neg (fun q => q c)]
        rfl
      refine d_pos _ (by rw [c]) ?_
      rw [v1.2.2.2.1 k1]
      refine d_nm ?_
      refine d_sL (N := 4) rfl (n := S.n) (by omega) ?_
      refine d_eA (z := 0) (N := 2607) rfl (n := 0) (by omega) L1.2.2.2.2.1.1 ?_
      refine d_sA (z := 0) (N := 2607) rfl (n := 0) (by omega) ?_
      rw [add1]
      have L2 := L1.name (l := seg f (nx f n 900 t).at_ (nx f n 900 t).p)
      refine s_go L2.2.1 L2.2.2.1 t1 fun m3 v3 b3 g3 t3 => ?_
      have L3 := L2.go v3 b3 g3 t3
      have eb : S.bs S.n = [] := hS.2.2 S.n (Nat.le_refl _)
      refine s_rmR (r := S.n) h4 942 FU (nx f n 900 (nx f n 900 t)) _ m3 (by unfold FU; omega) (by decide) (fun q => by have w3 : (nx f n 900 t).p < (nx f n 900 (nx f n 900 t)).p := tok_mu (f := f) tp q; omega) L3 (fun kd pl ee => ?_) (fun l t' ee m4 L4 => ?_)
      · have ee : rmR f n 942 (S.bs S.n) (nx f n 900 (nx f n 900 t)) = .inl (kd, pl) := ee
        rw [eb] at ee
        exact kf kd pl (by rw [er, ee])
      · have ee : rmR f n 942 (S.bs S.n) (nx f n 900 (nx f n 900 t)) = .inr (l, t') := ee
        rw [eb] at ee
        exact kk (S.lo, S.n + 1, va_up S.nm S.n (seg f (nx f n 900 t).at_ (nx f n 900 t).p), va_up S.bs S.n l, S.T, S.hl) t' (by rw [er, ee]) m4 L4
    · refine d_neg _ (by rw [c1]; exact ii_eqF (by omega)) ?_
      refine d_bIe (m_bad (k := 3) v1 t1 rfl) ?_
      exact d_dZ0 (kf 3 _ (by unfold rmN; rw [if_neg (by rw [w]; decide), if_pos (by omega)]) _ (L1.bad (Or.inr (by rw [k1]; decide))))
theorem s_rmT (L : RL m0 f n S S.n t ms) (hh : S.hl = false) (kf : ∀ kd pl, rmT f n S (nx f n 900 t) = .inl (kd, pl) → ∀ m', FR m0 kd pl m' → Z (some (.int 0)) m') (kk : ∀ S' t', rmT f n S (nx f n 900 t) = .inr (S', t') → ∀ m', RL m0 f n S' S'.n t' m' → Z (some (.int 1)) m') : DE (d_M_readLetters ms) Z := by
  have hn := L.2.2.1.2.2.2.1
  have tp := L.2.2.2.1.1.1
  unfold d_M_readLetters
  rw [L.2.2.2.2.2.2, hh]
  refine d_nm ?_
  refine d_pos _ rfl ?_
  refine d_zP (Or.inr rfl) ?_
  have L1 := L.seen
  refine s_go L1.2.1 L1.2.2.1 L1.2.2.2.1 fun m2 v2 b2 g2 t2 => ?_
  have L2 := L1.go v2 b2 g2 t2
  refine s_rmLt 942 FU (nx f n 900 t) _ m2 (by unfold FU; omega) (by decide) (fun q => by have w3 : t.p < (nx f n 900 t).p := tok_mu (f := f) tp q; omega) L2 (fun kd pl ee => ?_) (fun l t' ee m4 L4 => ?_)
  · have ee : rmLt f n 942 S.T (nx f n 900 t) = .inl (kd, pl) := ee
    exact kf kd pl (by unfold rmT; rw [ee])
  · have ee : rmLt f n 942 S.T (nx f n 900 t) = .inr (l, t') := ee
    exact kk (S.lo, S.n, S.nm, S.bs, l, true) t' (by unfold rmT; rw [ee]) m4 L4
theorem s_rmV (L : RL m0 f n S S.n t ms) (kf : ∀ kd pl, rmV f n S (nx f n 900 t) = .inl (kd, pl) → ∀ m', FR m0 kd pl m' → Z (some (.int 0)) m') (kk : ∀ S' t', rmV f n S (nx f n 900 t) = .inr (S', t') → ∀ m', RL m0 f n S' S'.n t' m' → Z (some (.int 1)) m') : DE (d_M_readLeaf ms (ii (0 : Nat))) Z := by
  unfold d_M_readLeaf
  refine d_pos _ (by decide) ?_
  refine s_go L.2.1 L.2.2.1 L.2.2.2.1 fun m1 v1 b1 g1 t1 => ?_
  have L1 := L.go v1 b1 g1 t1
  refine s_number (lo := 4) (hi := 32) v1 b1 t1 rfl rfl (by decide) (fun c => ?_) (fun c1 c2 => ?_) (fun c1 c2 m2 v2 b2 g2 t2 => ?_)
  · refine d_pos _ rfl ?_
    exact d_dZ0 (kf 1 _ (by unfold rmV; rw [if_pos c]) _ (L1.bad (Or.inl rfl)))
  · refine d_pos _ rfl ?_
    exact d_dZ0 (kf 2 _ (by unfold rmV; rw [if_neg (fun q => q c1), if_pos c2]) _ (L1.bad (Or.inr (by rw [c1]; decide))))
  · refine d_neg _ (by decide) ?_
    have L2 := L1.told (v := ii (nv (seg f (nx f n 900 t).at_ (nx f n 900 t).p)))
    have L3 := L2.go v2 b2 g2 t2
    have e13 : m2.1 13 0 = ii (nv (seg f (nx f n 900 t).at_ (nx f n 900 t).p)) := by rw [g2.1 13 (by decide)]; exact ms_eq
    rw [e13]
    refine d_nm ?_
    refine d_sA (z := 1) (N := 2607) rfl (n := 1) (by omega) ?_
    exact d_dZ1 (kk (nv (seg f (nx f n 900 t).at_ (nx f n 900 t).p), S.2) _ (by unfold rmV; rw [if_neg (fun q => q c1), if_neg (fun q => q c2)]) _ L3.low)
theorem fkw3 : fkw f t 0 3 0 = if isKw f t 0 = true then 0 else if isKw f t 1 = true then 1 else if isKw f t 2 = true then 2 else -1 := rfl
theorem isKw_k {j : Nat} (h : isKw f t j = true) : t.k = 1 := by
  unfold isKw at h
  exact (of_decide_eq_true h).1
theorem s_rmLn {c : Nat} (L : RL m0 f n S S.n t ms) (hS : RSo S) (hc : c ≤ 2000) (kf : ∀ kd pl, rmLn f n c S t = .inl (kd, pl) → ∀ m', FR m0 kd pl m' → Z (some (.int 0)) m') (kk : ∀ S' t', rmLn f n c S t = .inr (S', t') → ∀ m', RL m0 f n S' S'.n t' m' → Z (some (.int 1)) m') : DE (d_M_readLine ms (ii c)) Z := by
  have V := L.2.1
  have T := L.2.2.2.1
  have n4 := hS.1
  unfold d_M_readLine
  refine d_bIe (m_isWord (k := 0) V T (by decide) rfl) ?_
  cases w0 : isKw f t 0 with
  | true =>
    have ek : fkw f t 0 3 0 = 0 := by rw [fkw3, if_pos w0]
    have k1 := isKw_k w0
    refine d_neg _ bn1_ne ?_
    refine d_bZ ?_
    by_cases c0 : c = 0
    · subst c0
      have er : rmLn f n 0 S t = rmV f n S (nx f n 900 t) := by
        unfold rmLn
        rw [ek, if_neg (by decide), if_neg (fun q => q.2 rfl), if_neg (fun q => absurd q.1 (by decide)), if_neg (fun q => absurd q.1 (by decide))]
        rfl
      exact s_rmV L (fun kd pl ee m' F => Or.inl ⟨rfl, kf kd pl (er.trans ee) m' F⟩) (fun S' t' ee m' L' => Or.inr ⟨rfl, kk S' t' (er.trans ee) m' L'⟩)
    · unfold d_M_readLeaf
      refine d_neg _ (ii_leF (b := 0) (by omega)) ?_
      refine d_bIe (m_bad (k := 3) V T rfl) ?_
      exact d_dZ0 (Or.inl ⟨rfl, kf 3 t.at_ (by unfold rmLn; rw [ek, if_neg (by decide), if_pos ⟨rfl, c0⟩]) _ (L.bad (Or.inr (by rw [k1]; decide)))⟩)
  | false =>
    refine d_pos _ rfl ?_
    refine d_bIe (m_isWord (k := 1) V T (by decide) rfl) ?_
    cases w1 : isKw f t 1 with
    | true =>
      have ek : fkw f t 0 3 0 = 1 := by rw [fkw3, if_neg (by rw [w0]; decide), if_pos w1]
      have k1 := isKw_k w1
      refine d_neg _ bn1_ne ?_
      refine d_bZ ?_
      by_cases c4 : 4 ≤ S.n
      · unfold d_M_readRow
        refine d_eA (z := 0) (N := 2607) rfl (n := 0) (by omega) L.2.2.2.2.1.1 ?_
        refine d_pos _ (by rw [show S.n = 4 by omega]; rfl) ?_
        refine d_bIe (m_bad (k := 4) V T rfl) ?_
        exact d_dZ0 (Or.inl ⟨rfl, kf 4 t.at_ (by unfold rmLn; rw [ek, if_neg (by decide), if_neg (fun q => absurd q.1 (by decide)), if_neg (fun q => absurd q.1 (by decide)), if_pos ⟨rfl, c4⟩]) _ (L.bad (Or.inr (by rw [k1]; decide)))⟩)
      · have er : rmLn f n c S t = rmN f n S (nx f n 900 t) := by
          unfold rmLn
          rw [ek, if_neg (by decide), if_neg (fun q => absurd q.1 (by decide)), if_neg (fun q => absurd q.1 (by decide)), if_neg (fun q => c4 q.2)]
          rfl
        exact s_rmN L hS (by omega) (fun kd pl ee m' F => Or.inl ⟨rfl, kf kd pl (er.trans ee) m' F⟩) (fun S' t' ee m' L' => Or.inr ⟨rfl, kk S' t' (er.trans ee) m' L'⟩)
    | false =>
      refine d_pos _ rfl ?_
      refine d_bIe (m_isWord (k := 2) V T (by decide) rfl) ?_
      cases w2 : isKw f t 2 with
      | true =>
        have ek : fkw f t 0 3 0 = 2 := by rw [fkw3, if_neg (by rw [w0]; decide), if_neg (by rw [w1]; decide), if_pos w2]
        have k1 := isKw_k w2
        refine d_neg _ bn1_ne ?_
        refine d_bZ ?_
        cases hh : S.hl with
        | true =>
          unfold d_M_readLetters
          rw [L.2.2.2.2.2.2, hh]
          refine d_nm ?_
          refine d_neg _ bn1_ne ?_
          refine d_bIe (m_bad (k := 3) V T rfl) ?_
          exact d_dZ0 (Or.inl ⟨rfl, kf 3 t.at_ (by unfold rmLn; rw [ek, if_neg (by decide), if_neg (fun q => absurd q.1 (by decide)), if_pos ⟨rfl, hh⟩]) _ (L.bad (Or.inr (by rw [k1]; decide)))⟩)
        | false =>
          have er : rmLn f n c S t = rmT f n S (nx f n 900 t) := by
            unfold rmLn
            rw [ek, if_neg (by decide), if_neg (fun q => absurd q.1 (by decide)), if_neg (fun q => by rw [hh] at q; exact absurd q.2 (by decide)), if_neg (fun q => absurd q.1 (by decide))]
            rfl
          exact s_rmT L hh (fun kd pl ee m' F => Or.inl ⟨rfl, kf kd pl (er.trans ee) m' F⟩) (fun S' t' ee m' L' => Or.inr ⟨rfl, kk S' t' (er.trans ee) m' L'⟩)
      | false =>
        have ek : fkw f t 0 3 0 = -1 := by rw [fkw3, if_neg (by rw [w0]; decide), if_neg (by rw [w1]; decide), if_neg (by rw [w2]; decide)]
        refine d_pos _ rfl ?_
        refine d_bIe (m_bad (k := 1) V T rfl) ?_
        exact d_dZ0 (kf 1 t.at_ (by unfold rmLn; rw [if_pos ek]) _ (L.bad (Or.inl rfl)))
theorem rmLn_ok {c : Nat} {S' : RS} {t' : Tk} (hn : n ≤ 940) (T : TkOk f n t) (hS : RSo S) (e : rmLn f n c S t = .inr (S', t')) : Aft f n t.p t' ∧ RSo S' := by
  unfold rmLn at e
  by_cases c1 : fkw f t 0 3 0 = -1
  · rw [if_pos c1] at e; cases e
  rw [if_neg c1] at e
  by_cases c2 : fkw f t 0 3 0 = 0 ∧ c ≠ 0
  · rw [if_pos c2] at e; cases e
  rw [if_neg c2] at e
  by_cases c3 : fkw f t 0 3 0 = 2 ∧ S.hl = true
  · rw [if_pos c3] at e; cases e
  rw [if_neg c3] at e
  by_cases c4 : fkw f t 0 3 0 = 1 ∧ 4 ≤ S.n
  · rw [if_pos c4] at e; cases e
  rw [if_neg c4] at e
  have a2 : Aft f n t.p (nx f n 900 t) := ⟨t.p, Nat.le_refl _, T.1.1, rfl⟩
  exact rmW_ok hn a2 (tok_ok T.1.1 (by decide) hn) hS (fun q => by have := fkw_le (f := f) (t := t) (k0 := 0) 3 0; omega) e
theorem s_rmA : ∀ (l fu c : Nat) (t : Tk) (S : RS) (ms : MS), l < fu → 1 ≤ l → (t.k ≠ 0 → n + 1 < l + t.p) → c + l ≤ 2000 → RL m0 f n S S.n t ms → RSo S → (∀ kd pl, rmA f n l c S t = .inl (kd, pl) → ∀ m', FR m0 kd pl m' → Z (some (.int (ii (-1 - (pl : Int))))) m') → (∀ c' S', rmA f n l c S t = .inr (c', S') → ∀ t' m', RL m0 f n S' S'.n t' m' → RSo S' → c' ≤ 2000 → DE (itr (d_M_room_l81) (fun _ _ _ => none) FU m' (ii c') (0 : Int32)) Z) → DE (itr (d_M_room_l44) (fun _ _ => none) fu ms (ii c)) Z := by
  intro l
  induction l with
  | zero => intro fu c t S ms hf h1; omega
  | succ l ih =>
    intro fu c t S ms hf _ had hc L hS kf kk
    obtain ⟨fu, rfl⟩ : ∃ x, fu = x + 1 := ⟨fu - 1, by omega⟩
    have V := L.2.1
    have B := L.2.2.1
    have T := L.2.2.2.1
    have hn := B.2.2.2.1
    have tk := T.1
    have m5 : mkd t.k ≤ 5 := by unfold mkd; repeat' split
                                all_goals omega
    have e0 : mkd t.k = 0 ↔ t.k = 0 := by
      unfold mkd
      by_cases c0 : t.k = 0
      · rw [if_pos c0]; omega
      · rw [if_neg c0]
        by_cases c4 : t.k = 4
        · rw [if_pos c4]; omega
        · rw [if_neg c4]; omega
    rw [itr_succ]
    unfold d_M_room_l44
    rw [V.2.2.1]
    refine d_nm ?_
    by_cases k0 : t.k = 0
    · refine d_pos _ (by rw [e0.2 k0]; rfl) ?_
      exact kk c S (by rw [rmA, if_pos k0]) t ms L hS (by omega)
    refine d_neg _ (ii_eq0F (by omega)) ?_
    have ln : DE (d_M_readLine ms (ii (c : Int))) (fun r m' => (r = some (.int 0) ∧ ∃ kd pl, rmLn f n c S t = .inl (kd, pl) ∧ FR m0 kd pl m') ∨ (r = some (.int 1) ∧ ∃ S' t', rmLn f n c S t = .inr (S', t') ∧ RL m0 f n S' S'.n t' m')) := s_rmLn L hS (by omega) (fun kd pl ee m' F => Or.inl ⟨rfl, kd, pl, ee, F⟩) (fun S' t' ee m' L' => Or.inr ⟨rfl, S', t', ee, L'⟩)
    obtain ⟨r, m1, o1, o2⟩ := ln
    rcases o2 with ⟨q1, kd, pl, q2, q3⟩ | ⟨q1, S', t', q2, L1⟩
    · subst q1
      refine d_bIe o1 ?_
      refine d_pos _ rfl ?_
      rw [q3.2.2.2, mi1]
      refine d_nm ?_
      rw [ii_sub]
      exact d_dI (kf kd pl (by rw [rmA, if_neg k0, q2]) m1 q3)
    · subst q1
      refine d_bIe o1 ?_
      refine d_neg _ (by decide) ?_
      obtain ⟨a3, hS3⟩ := rmLn_ok hn T hS q2
      have eA : rmA f n (l + 1) c S t = if isSg f t' 59 = false then .inl (1, t'.at_) else rmA f n l (c + 1) S' (nx f n 900 t') := by
        rw [rmA, if_neg k0, q2]
      refine s_end L1.2.1 L1.2.2.1 L1.2.2.2.1 (fun q => ?_) fun q m2 v2 b2 g2 t2 => ?_
      · refine d_pos _ rfl ?_
        have F := L1.bad (q := 1) (Or.inl rfl)
        rw [F.2.2.2, mi1]
        refine d_nm ?_
        rw [ii_sub]
        exact d_dI (kf 1 t'.at_ (by rw [eA, if_pos q]) _ F)
      · refine d_neg _ (by decide) ?_
        have L2 := L1.go v2 b2 g2 t2
        have t3 : t'.k = 3 := by
          unfold isSg at q
          exact (of_decide_eq_true q).1
        obtain ⟨q0, y1, y2, y3⟩ := a3
        subst y3
        have y4 : q0 < (tok f n 900 q0).p := tok_mu3 y2 t3
        have y5 : (tok f n 900 q0).p ≤ (nx f n 900 (tok f n 900 q0)).p := tok_ge L1.2.2.2.1.1.1
        have hd := had k0
        rw [add1]
        exact ih fu (c + 1) (nx f n 900 (tok f n 900 q0)) S' m2 (by omega) (by omega) (fun _ => by omega) (by omega) L2 hS3 (fun kd pl e2 => kf kd pl (by rw [eA, if_neg (by rw [q]; decide)]; exact e2)) (fun c' Sx e2 => kk c' Sx (by rw [eA, if_neg (by rw [q]; decide)]; exact e2))
end
