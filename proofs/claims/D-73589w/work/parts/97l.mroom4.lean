/-! PURE SIDE: rooms: the model: rows, letters -/
set_option maxRecDepth 100000
abbrev gqF : List Nat := [5, 6, 7, 8, 9, 10, 11, 13, 15, 25]
def FR (m0 : MS) (k pl : Nat) (ms : MS) : Prop := (∀ q, q ∉ gqF → ms.1 q = m0.1 q) ∧ (∀ q, q ≠ 12 → q ≠ 21 → ms.2 q = m0.2 q) ∧ ms.1 10 0 = ii k ∧ ms.1 11 0 = ii pl
theorem d_zP {ms : MS} {k : Nat} {v : Int32} {K : MS → Option DR} {Q : Option Value → MS → Prop} (hv : v = 0 ∨ v = 1) (kk : DE (K (mset ms k 0 v)) Q) : DE (zP ms k v K) Q := by unfold zP; rw [if_pos hv]; exact kk
section
variable {m0 ms ms' : MS} {f : Nat → Nat} {n k : Nat} {t : Tk} {S : RS} {Z : Option Value → MS → Prop}
theorem RL.bad {q : Nat} (L : RL m0 f n S k t ms) (hq : q = 1 ∨ t.k ≠ 4) : FR m0 q t.at_ (bdm ms t q) := by
  refine ⟨fun j hj => ?_, L.1.2, ?_, ms_eq⟩
  · unfold bdm
    have h1 : j ≠ 11 := fun q => hj (by rw [q]; decide)
    have h2 : j ≠ 10 := fun q => hj (by rw [q]; decide)
    rw [ms_nk h1, ms_nk h2]
    exact L.1.1 j (fun q => hj ((by decide : ∀ k, k ∈ grF → k ∈ gqF) j q))
  unfold bdm
  rw [ms_nk (by decide), ms_eq]
  by_cases c : t.k = 4
  · rw [if_pos c]
    rcases hq with q | q
    · rw [q]
    · exact absurd c q
  · rw [if_neg c]
theorem RL.go {t' : Tk} (L : RL m0 f n S k t ms) (V : MkV f t' ms') (B : MB ms' f n 900) (o : GP ms ms') (T : TkOk f n t') : RL m0 f n S k t' ms' := ⟨L.1.gp o, V, B, T, by rw [o.1 15 (by decide)]; exact L.2.2.2.2.1, fun r hr => by rw [o.2 21 (by decide)]; exact L.2.2.2.2.2.1 r hr, by rw [o.1 25 (by decide)]; exact L.2.2.2.2.2.2⟩
theorem s_rmR {r : Nat} (hr : r < 4) : ∀ (q fu : Nat) (t : Tk) (S : RS) (ms : MS), q < fu → 1 ≤ q → (t.k = 1 → n + 1 < q + t.p) → RL m0 f n S k t ms → (∀ kd pl, rmR f n q (S.bs r) t = .inl (kd, pl) → ∀ m', FR m0 kd pl m' → Z (some (.int 0)) m') → (∀ l t', rmR f n q (S.bs r) t = .inr (l, t') → ∀ m', RL m0 f n (S.1, S.2.1, S.2.2.1, va_up S.2.2.2.1 r l, S.2.2.2.2) k t' m' → Z (some (.int 1)) m') → DE (itr (d_M_readRow_l86) (fun _ _ => none) fu ms (ii r)) Z := by
  intro q
  induction q with
  | zero => intro fu t S ms hf h1; omega
  | succ q ih =>
    intro fu t S ms hf _ had L kf kk
    obtain ⟨fu, rfl⟩ : ∃ x, fu = x + 1 := ⟨fu - 1, by omega⟩
    have T := L.2.2.2.1
    have B := L.2.2.1
    have V := L.2.1
    have hn := B.2.2.2.1
    have tp := T.1.1
    have hS := L.2.2.2.2.1.2.2.1 r hr
    rw [itr_succ]
    unfold d_M_readRow_l86
    rw [V.2.2.1]
    refine d_nm ?_
    rw [show (2 : Int32) = ii ((1 + 1 : Nat) : Int) from rfl]
    by_cases c1 : t.k = 1
    · refine d_pos _ ((mkd_eq T (Or.inl rfl)).2 c1) ?_
      have hat := (T.2.1 c1).2
      refine d_bIe (m_areBitsW V B T c1) ?_
      cases w : wAll f t 105 105 111 with
      | false =>
        refine d_pos _ rfl ?_
        refine d_bIe (m_bad (k := 2) V T rfl) ?_
        exact d_dZ0 (kf 2 t.at_ (by rw [rmR, if_neg (fun q => q c1), if_pos w]) _ (L.bad (Or.inr (by omega))))
      | true =>
        have er : rmR f n (q + 1) (S.bs r) t = if 600 < (S.bs r).length + (t.p - t.at_) then .inl (4, t.at_) else rmR f n q (S.bs r ++ wBits f t) (nx f n 900 t) := by
          rw [rmR, if_neg (fun q => q c1), if_neg (by rw [w]; decide)]
        refine d_neg _ bn1_ne ?_
        have e2 : ii ((1 + 1 : Nat) : Int) + ii (r : Int) = ii ((2 + r : Nat) : Int) := by rw [ii_add]; rfl
        rw [e2]
        refine d_eA (N := 2607) rfl (n := 2 + r) (by omega) hS.1 ?_
        rw [V.1, V.2.1]
        refine d_nm ?_
        refine d_nm ?_
        rw [ii_add, ii_sub]
        by_cases cw : 600 < (S.bs r).length + (t.p - t.at_)
        · refine d_neg _ (ii_leF (b := 600) (by omega)) ?_
          refine d_bIe (m_bad (k := 4) V T rfl) ?_
          exact d_dZ0 (kf 4 t.at_ (by rw [er, if_pos cw]) _ (L.bad (Or.inr (by omega))))
        · rw [if_neg cw] at er
          refine d_pos _ (ii_leT (b := 600) (by omega)) ?_
          refine d_nm ?_
          have h0 : ii (t.at_ : Int) = ii ((t.at_ + 0 : Nat) : Int) := rfl
          rw [h0]
          refine s_word hr c1 (t.p - t.at_) FU 0 S ms (by unfold FU; omega) (by omega) L (by omega) fun m2 L2 => ?_
          rw [List.drop_zero] at L2
          refine s_go L2.2.1 L2.2.2.1 T fun m3 v3 b3 g3 t3 => ?_
          have L3 := L2.go v3 b3 g3 t3
          have eb : (rsB S r (wBits f t)).bs r = S.bs r ++ wBits f t := by
            show va_up S.bs r (S.bs r ++ wBits f t) r = _
            rw [up_at]
          refine ih fu (nx f n 900 t) (rsB S r (wBits f t)) m3 (by omega) (by have := had c1; omega) (fun q => by have w3 : t.p < (nx f n 900 t).p := tok_mu (f := f) tp q; have := had c1; omega) L3 (fun kd pl ee => kf kd pl (by rw [er, ← eb]; exact ee)) (fun l t' ee m4 L4 => kk l t' (by rw [er, ← eb]; exact ee) m4 ?_)
          have : va_up (va_up S.2.2.2.1 r (S.2.2.2.1 r ++ wBits f t)) r l = va_up S.2.2.2.1 r l := up_up
          rw [← this]
          exact L4
    · refine d_neg _ (fun z => c1 ((mkd_eq T (Or.inl rfl)).1 z)) ?_
      refine d_dZ1 (kk (S.bs r) t (by rw [rmR, if_pos c1]) ms ?_)
      have : va_up S.2.2.2.1 r (S.bs r) = S.2.2.2.1 := up_self
      rw [this]
      exact L
theorem M15.letter {a a' : Nat → Int32} {c : Nat} (M : M15 a S k) (hl : S.T.length < 200) (e1 : a' (7 + S.T.length) = ii c) (e2 : a' 6 = ii (S.T.length + 1 : Nat)) (e : ∀ x, x ≠ 7 + S.T.length → x ≠ 6 → a' x = a x) : M15 a' (rsT S [c]) k := by
  obtain ⟨m1, m2, m3, m4, m5, m6⟩ := M
  refine ⟨(e _ (by omega) (by omega)).trans m1, (e _ (by omega) (by omega)).trans m2, fun q hq => ?_, ?_, ?_, fun i hi => ?_⟩
  · obtain ⟨w1, w2, w3⟩ := m3 q hq
    exact ⟨(e _ (by omega) (by omega)).trans w1, w2, fun i hi => (e _ (by omega) (by omega)).trans (w3 i hi)⟩
  · show a' 6 = ii ((S.T ++ [c]).length : Nat)
    rw [List.length_append, List.length_singleton]; exact e2
  · show (S.T ++ [c]).length ≤ 200
    rw [List.length_append, List.length_singleton]; omega
  · show a' (7 + i) = ii (((S.T ++ [c]).getD i 0 : Nat) : Int)
    by_cases ci : i = S.T.length
    · have : (S.T ++ [c]).getD i 0 = c := by rw [ci]; simp [List.getD]
      rw [this, ci]; exact e1
    · have : (S.T ++ [c]).getD i 0 = S.T.getD i 0 := by
        by_cases c2 : i < S.T.length
        · simp [List.getD, List.getElem?_append_left c2]
        · rw [List.getD_eq_getElem?_getD, List.getD_eq_getElem?_getD, List.getElem?_eq_none (by rw [List.length_append, List.length_singleton]; omega), List.getElem?_eq_none (by omega)]
      rw [this, e _ (by omega) (by omega)]
      exact m6 i hi
theorem RL.letter {c : Nat} (L : RL m0 f n S k t ms) (hl : S.T.length < 200) : RL m0 f n (rsT S [c]) k t (mset (mset ms 15 (7 + S.T.length) (ii c)) 15 6 (ii (S.T.length + 1 : Nat))) := by
  obtain ⟨l1, l2, l3, l4, l5, l6, l7⟩ := L
  refine ⟨(l1.set (by decide)).set (by decide), (l2.set (by decide)).set (by decide), (l3.set (by decide)).set (by decide), l4, l5.letter hl ?_ ms_eq (fun x h1 h2 => by rw [ms_ne h2, ms_ne h1]), l6, by rw [ms_nk (by decide), ms_nk (by decide)]; exact l7⟩
  rw [ms_ne (by omega), ms_eq]
theorem s_lets {r22 : MS → Option DR} (h1 : t.k = 1) (w : wAll f t 97 104 97 = true) : ∀ (m fu j : Nat) (S : RS) (ms : MS), m < fu → j + m = t.p - t.at_ → RL m0 f n S k t ms → S.T.length + m ≤ 200 → (∀ m', RL m0 f n (rsT S ((wLets f t).drop j)) k t m' → DE (bV (d_M_go m') fun m2 => r22 m2) Z) → DE (itr (d_M_readLetters_l79 r22) (fun _ _ => none) fu ms (ii ((t.at_ + j : Nat) : Int))) Z := by
  intro m
  induction m with
  | zero =>
    intro fu j S ms hf hj L hlen kk
    obtain ⟨fu, rfl⟩ : ∃ x, fu = x + 1 := ⟨fu - 1, by omega⟩
    have T := L.2.2.2.1
    have hat := (T.2.1 h1).2
    have hp := T.1.1
    have hn := L.2.2.1.2.2.2.1
    rw [itr_succ]
    unfold d_M_readLetters_l79
    rw [L.2.1.1]
    refine d_nm ?_
    refine d_pos _ (ii_leT (by omega)) ?_
    refine kk ms ?_
    rw [List.drop_of_length_le (by unfold wLets; rw [List.length_map, seg_len]; omega)]
    have : rsT S [] = S := by
      show (S.1, S.2.1, S.2.2.1, S.2.2.2.1, S.2.2.2.2.1 ++ [], S.2.2.2.2.2) = S
      rw [List.append_nil]
    rw [this]
    exact L
  | succ m ih =>
    intro fu j S ms hf hj L hlen kk
    obtain ⟨fu, rfl⟩ : ∃ x, fu = x + 1 := ⟨fu - 1, by omega⟩
    have T := L.2.2.2.1
    have hat := (T.2.1 h1).2
    have hp := T.1.1
    have B := L.2.2.1
    have hn := B.2.2.2.1
    have hc := wAll_at w (j := j) (by omega)
    have ej : ii ((t.at_ + j : Nat) : Int) + (1 : Int32) = ii ((t.at_ + (j + 1) : Nat) : Int) := by rw [add1]; rfl
    have e7 : (7 : Int32) + ii (S.T.length : Int) = ii ((7 + S.T.length : Nat) : Int) := by rw [il_7, ii_add]; rfl
    have ec : ii (f (t.at_ + j) : Int) - (97 : Int32) = ii ((f (t.at_ + j) - 97 : Nat) : Int) := by
      rw [il_97, ii_sub]
      congr 1
      omega
    rw [itr_succ]
    unfold d_M_readLetters_l79
    rw [L.2.1.1]
    refine d_nm ?_
    refine d_neg _ (ii_leF (by omega)) ?_
    refine d_eA (z := 6) (N := 2607) rfl (n := 6) (by omega) L.2.2.2.2.1.2.2.2.1 ?_
    refine d_eA (N := 940) rfl (n := t.at_ + j) (by omega) (B.1 _ (by omega)) ?_
    rw [e7, ec]
    refine d_sA (N := 2607) rfl (n := 7 + S.T.length) (by omega) ?_
    refine d_eA (z := 6) (N := 2607) rfl (n := 6) (by omega) ((ms_ne (by omega)).trans L.2.2.2.2.1.2.2.2.1) ?_
    refine d_sA (z := 6) (N := 2607) rfl (n := 6) (by omega) ?_
    rw [ej, add1]
    refine ih fu (j + 1) (rsT S [f (t.at_ + j) - 97]) _ (by omega) (by omega) (L.letter (c := f (t.at_ + j) - 97) (by omega)) ?_ fun m' L' => kk m' ?_
    · show (S.T ++ [f (t.at_ + j) - 97]).length + m ≤ 200
      rw [List.length_append, List.length_singleton]; omega
    · have : rsT (rsT S [f (t.at_ + j) - 97]) ((wLets f t).drop (j + 1)) = rsT S ((wLets f t).drop j) := by
        show (S.1, S.2.1, S.2.2.1, S.2.2.2.1, (S.2.2.2.2.1 ++ [f (t.at_ + j) - 97]) ++ (wLets f t).drop (j + 1), S.2.2.2.2.2) = (S.1, S.2.1, S.2.2.1, S.2.2.2.1, S.2.2.2.2.1 ++ (wLets f t).drop j, S.2.2.2.2.2)
        rw [wLets_drop (j := j) (by omega), List.append_assoc]
        rfl
      rw [this] at L'
      exact L'
theorem s_rmLt : ∀ (q fu : Nat) (t : Tk) (S : RS) (ms : MS), q < fu → 1 ≤ q → (t.k = 1 → n + 1 < q + t.p) → RL m0 f n S k t ms → (∀ kd pl, rmLt f n q S.T t = .inl (kd, pl) → ∀ m', FR m0 kd pl m' → Z (some (.int 0)) m') → (∀ l t', rmLt f n q S.T t = .inr (l, t') → ∀ m', RL m0 f n (S.1, S.2.1, S.2.2.1, S.2.2.2.1, l, S.2.2.2.2.2) k t' m' → Z (some (.int 1)) m') → DE (itr (d_M_readLetters_l22) (fun _ => none) fu ms) Z := by
  intro q
  induction q with
  | zero => intro fu t S ms hf h1; omega
  | succ q ih =>
    intro fu t S ms hf _ had L kf kk
    obtain ⟨fu, rfl⟩ : ∃ x, fu = x + 1 := ⟨fu - 1, by omega⟩
    have T := L.2.2.2.1
    have B := L.2.2.1
    have V := L.2.1
    have hn := B.2.2.2.1
    have tp := T.1.1
    have h6 := L.2.2.2.2.1.2.2.2.1
    have h2 := L.2.2.2.2.1.2.2.2.2.1
    rw [itr_succ]
    unfold d_M_readLetters_l22
    rw [V.2.2.1]
    refine d_nm ?_
    rw [show (2 : Int32) = ii ((1 + 1 : Nat) : Int) from rfl]
    by_cases c1 : t.k = 1
    · refine d_pos _ ((mkd_eq T (Or.inl rfl)).2 c1) ?_
      have hat := (T.2.1 c1).2
      refine d_bIe (m_areOfW V B T c1) ?_
      cases w : wAll f t 97 104 97 with
      | false =>
        refine d_pos _ rfl ?_
        refine d_bIe (m_bad (k := 2) V T rfl) ?_
        exact d_dZ0 (kf 2 t.at_ (by rw [rmLt, if_neg (fun q => q c1), if_pos w]) _ (L.bad (Or.inr (by omega))))
      | true =>
        have er : rmLt f n (q + 1) S.T t = if 200 < S.T.length + (t.p - t.at_) then .inl (4, t.at_) else rmLt f n q (S.T ++ wLets f t) (nx f n 900 t) := by
          rw [rmLt, if_neg (fun q => q c1), if_neg (by rw [w]; decide)]
        refine d_neg _ bn1_ne ?_
        refine d_eA (z := 6) (N := 2607) rfl (n := 6) (by omega) h6 ?_
        rw [V.1, V.2.1]
        refine d_nm ?_
        refine d_nm ?_
        rw [ii_add, ii_sub]
        by_cases cw : 200 < S.T.length + (t.p - t.at_)
        · refine d_neg _ (ii_leF (b := 200) (by omega)) ?_
          refine d_bIe (m_bad (k := 4) V T rfl) ?_
          exact d_dZ0 (kf 4 t.at_ (by rw [er, if_pos cw]) _ (L.bad (Or.inr (by omega))))
        · rw [if_neg cw] at er
          refine d_pos _ (ii_leT (b := 200) (by omega)) ?_
          refine d_nm ?_
          have h0 : ii (t.at_ : Int) = ii ((t.at_ + 0 : Nat) : Int) := rfl
          rw [h0]
          refine s_lets c1 w (t.p - t.at_) FU 0 S ms (by unfold FU; omega) (by omega) L (by omega) fun m2 L2 => ?_
          rw [List.drop_zero] at L2
          refine s_go L2.2.1 L2.2.2.1 T fun m3 v3 b3 g3 t3 => ?_
          have L3 := L2.go v3 b3 g3 t3
          exact ih fu (nx f n 900 t) (rsT S (wLets f t)) m3 (by omega) (by have := had c1; omega) (fun q => by have w3 : t.p < (nx f n 900 t).p := tok_mu (f := f) tp q; have := had c1; omega) L3 (fun kd pl ee => kf kd pl (by rw [er]; exact ee)) (fun l t' ee m4 L4 => kk l t' (by rw [er]; exact ee) m4 L4)
    · refine d_neg _ (fun z => c1 ((mkd_eq T (Or.inl rfl)).1 z)) ?_
      exact d_dZ1 (kk S.T t (by rw [rmLt, if_pos c1]) ms L)
end
