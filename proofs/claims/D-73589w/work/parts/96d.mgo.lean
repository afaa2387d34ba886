/-! PURE SIDE: the model goes to the next token -/
set_option maxRecDepth 100000
/-- sorts of tokens as the model counts them -/
def mkd (k : Nat) : Nat := if k = 0 then 0 else if k = 4 then 1 else k + 1
def MkV (f : Nat → Nat) (t : Tk) (ms : MS) : Prop := ms.1 5 0 = ii t.p ∧ ms.1 6 0 = ii t.at_ ∧ ms.1 7 0 = ii (mkd t.k) ∧ (t.k = 1 → ms.2 12 0 = ll (n27 (seg f t.at_ t.p))) ∧ (t.k = 2 → ms.1 8 0 = ii (nv (seg f t.at_ t.p))) ∧ (t.k = 3 → ms.1 9 0 = ii (f t.at_))
/-- what the model reads -/
def MB (ms : MS) (f : Nat → Nat) (n most : Nat) : Prop := (∀ i, i < 940 → ms.1 1 i = ii (f i)) ∧ ms.1 3 0 = ii n ∧ ms.1 4 0 = ii most ∧ n ≤ 940 ∧ (∀ i, f i < 256) ∧ most ≤ 900
abbrev gpF : List Nat := [5, 6, 7, 8, 9]
def GP (ms ms' : MS) : Prop := (∀ k, k ∉ gpF → ms'.1 k = ms.1 k) ∧ ∀ k, k ≠ 12 → ms'.2 k = ms.2 k
theorem GP.rf {ms : MS} : GP ms ms := ⟨fun _ _ => rfl, fun _ _ => rfl⟩
theorem GP.trans {a b c : MS} (o : GP a b) (k : GP b c) : GP a c := ⟨fun j h => (k.1 j h).trans (o.1 j h), fun j h => (k.2 j h).trans (o.2 j h)⟩
theorem GP.set {ms : MS} {k i : Nat} {v : Int32} (h : k ∈ gpF) : GP ms (mset ms k i v) := ⟨fun j hj => ms_nk fun q => hj (by rw [q]; exact h), fun _ _ => rfl⟩
theorem GP.setL {ms : MS} {i : Nat} {v : Int64} : GP ms (msetL ms 12 i v) := ⟨fun _ _ => rfl, fun j hj => msetL_ne hj⟩
theorem MB.gp {ms ms' : MS} {f : Nat → Nat} {n most : Nat} (B : MB ms f n most) (o : GP ms ms') : MB ms' f n most := ⟨fun i hi => by rw [o.1 1 (by decide)]; exact B.1 i hi, by rw [o.1 3 (by decide)]; exact B.2.1, by rw [o.1 4 (by decide)]; exact B.2.2.1, B.2.2.2⟩
theorem msL_eq {ms : MS} {k i : Nat} {v : Int64} : (msetL ms k i v).2 k i = v := by simp [msetL]
section
variable {ms : MS} {f : Nat → Nat} {n most : Nat} {Q : Option Value → MS → Prop}
theorem m_isL {x : Int} (hx : -2147483648 ≤ x ∧ x < 2147483648) : d_M_isLetter ms (ii x) = dI (ii (bn (decide (97 ≤ x ∧ x ≤ 122)))) ms := by
  refine dEqI ?_
  unfold d_M_isLetter
  rw [il_97, il_122]
  by_cases c1 : x < 97
  · refine d_pos _ (ii_ltT (by omega)) ?_
    rw [decide_eq_false (by omega)]; exact d_dZ0 ⟨rfl, rfl⟩
  refine d_neg _ (ii_ltF (by omega)) ?_
  by_cases c2 : 122 < x
  · refine d_pos _ (ii_ltT (by omega)) ?_
    rw [decide_eq_false (by omega)]; exact d_dZ0 ⟨rfl, rfl⟩
  refine d_neg _ (ii_ltF (by omega)) ?_
  rw [decide_eq_true (by omega)]; exact d_dZ1 ⟨rfl, rfl⟩
theorem m_isD {x : Int} (hx : -2147483648 ≤ x ∧ x < 2147483648) : d_M_isDigit ms (ii x) = dI (ii (bn (decide (48 ≤ x ∧ x ≤ 57)))) ms := by
  refine dEqI ?_
  unfold d_M_isDigit
  rw [il_48, il_57]
  by_cases c1 : x < 48
  · refine d_pos _ (ii_ltT (by omega)) ?_
    rw [decide_eq_false (by omega)]; exact d_dZ0 ⟨rfl, rfl⟩
  refine d_neg _ (ii_ltF (by omega)) ?_
  by_cases c2 : 57 < x
  · refine d_pos _ (ii_ltT (by omega)) ?_
    rw [decide_eq_false (by omega)]; exact d_dZ0 ⟨rfl, rfl⟩
  refine d_neg _ (ii_ltF (by omega)) ?_
  rw [decide_eq_true (by omega)]; exact d_dZ1 ⟨rfl, rfl⟩
theorem m_tapeAt {p : Nat} (B : MB ms f n most) (hp : p ≤ 2000) : d_M_tapeAt ms (ii p) = dI (ii (if p < n then f p else 0 : Nat)) ms := by
  have hn := B.2.2.2.1
  refine dEqI ?_
  unfold d_M_tapeAt
  rw [B.2.1]
  refine d_nm ?_
  by_cases c : p < n
  · refine d_neg _ (ii_leF (by omega)) ?_
    refine d_eA (N := 940) rfl (n := p) (by omega) (B.1 p (by omega)) ?_
    rw [if_pos c]
    exact d_dI ⟨rfl, rfl⟩
  · refine d_pos _ (ii_leT (by omega)) ?_
    rw [if_neg c]
    exact d_dI ⟨rfl, rfl⟩
/-- while a word or number is read, by the model -/
def RmI (f : Nat → Nat) (sm : Bool) (q p : Nat) (is : Bool) (ms : MS) : Prop := ms.1 5 0 = ii p ∧ ms.1 6 0 = ii q ∧ is = allS f sm q p ∧ (is = true → sm = true → ms.2 12 0 = ll (n27 ((seg f q p).take 7))) ∧ (is = true → sm = false → ms.1 8 0 = ii (nv ((seg f q p).take 3)))
theorem ll27 {N c : Nat} (hc : 97 ≤ c ∧ c < 256) : (((27 : Int64) * ll (N : Int)) + (ii (c : Int)).toInt64) - (96 : Int64) = ll ((27 * N + (c - 96) : Nat) : Int) := by
  rw [ll_ii (by omega), show (27 : Int64) = ll 27 from ll_lit 27, show (96 : Int64) = ll 96 from ll_lit 96, ll_mul, ll_add, ll_sub]
  congr 1
  omega
theorem rm_j243 {r : MS → Int32 → Int32 → Option DR} {sm is : Bool} {q p : Nat} (B : MB ms f n most) (I : RmI f sm q p is ms) (hp : p < n) (hq : q ≤ p) (ha : alN (f p)) (hs : ∀ c, c ∈ seg f q p → alN c) (kk : ∀ m', RmI f sm q (p + 1) (is && (decide (isLt (f p)) == sm)) m' → GP ms m' → DE (r m' (ii (bn sm)) (ii (bn (is && (decide (isLt (f p)) == sm))))) Q) : DE (d_M_go_j243 r ms (ii (bn sm)) (ii (bn is))) Q := by
  have hn := B.2.2.2.1
  have h8 := B.2.2.2.2.1 p
  obtain ⟨i1, i2, i3, i4, i5⟩ := I
  have es : ii (p : Int) - ii (q : Int) = ii ((p - q : Nat) : Int) := by rw [ii_sub]; congr 1; omega
  -- the number
  have j307 : ∀ (s : Bool) (m0 : MS), m0.1 5 0 = ii p → m0.1 6 0 = ii q → m0.1 8 0 = ms.1 8 0 → s = (is && (decide (isLt (f p)) == sm)) → (s = true → sm = true → m0.2 12 0 = ll (n27 ((seg f q (p + 1)).take 7))) → GP ms m0 → DE (d_M_go_j307 r m0 (ii (bn sm)) (ii (bn s)) (ii (f p))) Q := by
    intro s m0 g1 g2 g3 g4 g5 g6
    subst g4
    unfold d_M_go_j307
    rw [g1]
    refine d_nm ?_
    rw [g2]
    refine d_nm ?_
    rw [es, il_3]
    by_cases c : p - q < 3
    · refine d_neg _ (ii_leF (by omega)) ?_
      rw [g3]
      refine d_nm ?_
      refine d_nm ?_
      unfold d_M_go_j337
      rw [ms_nk (by decide), g1]
      refine d_nm ?_
      refine d_nm ?_
      rw [add1]
      refine kk _ ⟨ms_eq, by rw [ms_nk (by decide), ms_nk (by decide)]; exact g2, by rw [allS_succ hq, i3], g5, fun h1 h2 => ?_⟩ (g6.trans ((GP.set (by decide)).trans (GP.set (by decide))))
      rw [ms_nk (by decide), ms_eq, v10]
      rw [Bool.and_eq_true] at h1
      rw [seg_succ hq, take_one, seg_len, if_pos c, nv_app]
      have hl : ∀ c, c ∈ (seg f q p).take 3 → c ≤ 57 := fun c hc => by
        have h3 := hs c (List.mem_of_mem_take hc)
        have h4 := seg_m (by rw [← i3]; exact h1.1) c (List.mem_of_mem_take hc)
        rw [h2, decide_eq_false_iff_not] at h4
        omega
      have l2 : ((seg f q p).take 3).length ≤ 2 := by rw [List.length_take, seg_len]; omega
      have b1 := Nat.lt_of_lt_of_le (nv_lt hl) (Nat.pow_le_pow_right (by decide) l2)
      rw [i5 h1.1 h2, ii_toInt (by omega)]
      have h5 := beq_iff_eq.mp h1.2
      rw [h2, decide_eq_false_iff_not] at h5
      congr 1
      omega
    · refine d_pos _ (ii_leT (by omega)) ?_
      unfold d_M_go_j337
      rw [g1]
      refine d_nm ?_
      refine d_nm ?_
      rw [add1]
      refine kk _ ⟨ms_eq, by rw [ms_nk (by decide)]; exact g2, by rw [allS_succ hq, i3], g5, fun h1 h2 => ?_⟩ (g6.trans (GP.set (by decide)))
      rw [Bool.and_eq_true] at h1
      rw [ms_nk (by decide), g3, i5 h1.1 h2, seg_succ hq, take_one, seg_len, if_neg c]
  -- the word
  have j272 : ∀ (s : Bool), s = (is && (decide (isLt (f p)) == sm)) → DE (d_M_go_j272 r ms (ii (bn sm)) (ii (f p)) (ii (bn s))) Q := by
    intro s g4
    have g4' := g4
    subst g4
    unfold d_M_go_j272
    rw [i1]
    refine d_nm ?_
    rw [i2]
    refine d_nm ?_
    rw [es, il_7]
    by_cases c : p - q < 7
    · refine d_neg _ (ii_leF (by omega)) ?_
      refine d_nm ?_
      refine d_nm ?_
      refine j307 _ _ i1 i2 rfl rfl (fun h1 h2 => ?_) GP.setL
      rw [Bool.and_eq_true] at h1
      have h5 := beq_iff_eq.mp h1.2
      rw [h2, decide_eq_true_eq] at h5
      rw [msL_eq, i4 h1.1 h2, seg_succ hq, take_one, seg_len, if_pos c, n27_app, ll27 (by omega)]
    · refine d_pos _ (ii_leT (by omega)) ?_
      refine j307 _ _ i1 i2 rfl rfl (fun h1 h2 => ?_) GP.rf
      rw [Bool.and_eq_true] at h1
      rw [i4 h1.1 h2, seg_succ hq, take_one, seg_len, if_neg c]
  unfold d_M_go_j243
  rw [i1]
  refine d_nm ?_
  refine d_eA (N := 940) rfl (n := p) (by omega) (B.1 p (by omega)) ?_
  cases is with
  | false =>
    refine d_pos _ rfl ?_
    exact j272 false rfl
  | true =>
    refine d_neg _ bn1_ne ?_
    refine d_bIe (m_isL (by omega)) ?_
    have el : decide ((97 : Int) ≤ (f p : Int) ∧ (f p : Int) ≤ 122) = decide (isLt (f p)) := by rw [decide_eq_decide]; omega
    rw [el]
    by_cases c : decide (isLt (f p)) = sm
    · refine d_pos _ (by rw [c]) ?_
      exact j272 true (by rw [c, beq_self_eq_true]; rfl)
    · refine d_neg _ (bn_eqF c) ?_
      exact j272 false (by rw [beq_eq_false_iff_ne.2 c]; rfl)
theorem rm_j374 {sm : Bool} {k : Nat} {m0 : MS} (hk : k ≤ 2000) (kk : Q none (mset m0 7 0 (ii (mkd (tkN sm true k))))) : DE (if ii (bn sm) = 0 then d_M_go_j374 m0 (ii (bn sm)) (3 : Int32) (ii k) else d_M_go_j374 m0 (ii (bn sm)) (7 : Int32) (ii k)) Q := by
  unfold d_M_go_j374 tkN mkd at *
  cases sm with
  | false =>
    refine d_pos _ rfl ?_
    rw [il_3]
    by_cases c : k ≤ 3
    · refine d_pos _ (ii_leT (by omega)) ?_
      refine d_pos _ rfl ?_
      refine d_nm ?_
      rw [if_pos (show true = true ∧ k ≤ if false = true then 7 else 3 from ⟨rfl, by rw [if_neg (by decide)]; exact c⟩), if_neg (show ¬ false = true by decide)] at kk
      exact d_dV kk
    · refine d_neg _ (ii_leF (by omega)) ?_
      refine d_nm ?_
      rw [if_neg (show ¬ (true = true ∧ k ≤ if false = true then 7 else 3) from fun z => c (by have := z.2; rw [if_neg (by decide)] at this; exact this))] at kk
      exact d_dV kk
  | true =>
    refine d_neg _ bn1_ne ?_
    rw [il_7]
    by_cases c : k ≤ 7
    · refine d_pos _ (ii_leT (by omega)) ?_
      refine d_neg _ bn1_ne ?_
      refine d_nm ?_
      rw [if_pos (show true = true ∧ k ≤ if true = true then 7 else 3 from ⟨rfl, by rw [if_pos rfl]; exact c⟩), if_pos (show true = true from rfl)] at kk
      exact d_dV kk
    · refine d_neg _ (ii_leF (by omega)) ?_
      refine d_nm ?_
      rw [if_neg (show ¬ (true = true ∧ k ≤ if true = true then 7 else 3) from fun z => c (by have := z.2; rw [if_pos rfl] at this; exact this))] at kk
      exact d_dV kk
theorem rm_l215 {sm : Bool} {q : Nat} : ∀ (m fu p : Nat) (is : Bool) (ms : MS), MB ms f n most → m < fu → m = n - p → q ≤ p → p ≤ n → RmI f sm q p is ms → (∀ c, c ∈ seg f q p → alN c) → DV (itr (d_M_go_l215) (fun _ _ _ => none) fu ms (ii (bn sm)) (ii (bn is))) (fun m' => ∃ m0 is', RmI f sm q (runE f n m p) is' m0 ∧ GP ms m0 ∧ m' = mset m0 7 0 (ii (mkd (tkN sm is' (runE f n m p - q))))) := by
  intro m
  induction m with
  | zero =>
    intro fu p is ms B hf hm hq hp I hs
    have hn := B.2.2.2.1
    obtain ⟨fu, rfl⟩ : ∃ x, fu = x + 1 := ⟨fu - 1, by omega⟩
    refine DV.of ?_
    rw [itr_succ]
    unfold d_M_go_l215
    rw [I.1]
    refine d_nm ?_
    refine d_bIe (m_tapeAt B (by omega)) ?_
    rw [if_neg (by omega)]
    refine d_bIe (m_isL (by omega)) ?_
    refine d_pos _ (by decide) ?_
    rw [I.1]
    refine d_nm ?_
    refine d_bIe (m_tapeAt B (by omega)) ?_
    rw [if_neg (by omega)]
    refine d_bIe (m_isD (by omega)) ?_
    refine d_pos _ (by decide) ?_
    cases is with
    | false =>
      refine d_pos _ rfl ?_
      refine d_nm ?_
      exact d_dV ⟨rfl, ms, false, I, GP.rf, rfl⟩
    | true =>
      refine d_neg _ bn1_ne ?_
      rw [I.1]
      refine d_nm ?_
      rw [I.2.1]
      refine d_nm ?_
      have es : ii (p : Int) - ii (q : Int) = ii ((p - q : Nat) : Int) := by rw [ii_sub]; congr 1; omega
      rw [es]
      exact rm_j374 (by omega) ⟨rfl, ms, true, I, GP.rf, rfl⟩
  | succ m ih =>
    intro fu p is ms B hf hm hq hp I hs
    have hn := B.2.2.2.1
    obtain ⟨fu, rfl⟩ : ∃ x, fu = x + 1 := ⟨fu - 1, by omega⟩
    have hpn : p < n := by omega
    have h8 := B.2.2.2.2.1 p
    refine DV.of ?_
    rw [itr_succ]
    unfold d_M_go_l215
    rw [I.1]
    refine d_nm ?_
    refine d_bIe (m_tapeAt B (by omega)) ?_
    rw [if_pos hpn]
    refine d_bIe (m_isL (by omega)) ?_
    have el : decide ((97 : Int) ≤ ((f p : Nat) : Int) ∧ ((f p : Nat) : Int) ≤ 122) = decide (isLt (f p)) := by rw [decide_eq_decide]; omega
    rw [el]
    unfold runE
    have go : alN (f p) → DE (d_M_go_j243 (itr (d_M_go_l215) (fun _ _ _ => none) fu) ms (ii (bn sm)) (ii (bn is))) (fun r m' => r = none ∧ ∃ m0 is', RmI f sm q (if p < n ∧ alN (f p) then runE f n m (p + 1) else p) is' m0 ∧ GP ms m0 ∧ m' = mset m0 7 0 (ii (mkd (tkN sm is' ((if p < n ∧ alN (f p) then runE f n m (p + 1) else p) - q))))) := by
      intro ha
      rw [if_pos ⟨hpn, ha⟩]
      refine rm_j243 B I hpn hq ha hs fun m1 I1 G1 => ?_
      refine DE.ofV (ih fu (p + 1) _ m1 (B.gp G1) (by omega) (by omega) (by omega) (by omega) I1 ?_) fun m' ⟨m0, is', k1, k2, k3⟩ => ⟨rfl, m0, is', k1, G1.trans k2, k3⟩
      intro c hcs
      rw [seg_succ hq] at hcs
      rcases List.mem_append.mp hcs with w | w
      · exact hs c w
      · rw [List.mem_singleton.mp w]; exact ha
    by_cases c1 : isLt (f p)
    · rw [decide_eq_true c1]
      refine d_neg _ bn1_ne ?_
      exact go (Or.inl c1)
    · rw [decide_eq_false c1]
      refine d_pos _ rfl ?_
      rw [I.1]
      refine d_nm ?_
      refine d_bIe (m_tapeAt B (by omega)) ?_
      rw [if_pos hpn]
      refine d_bIe (m_isD (by omega)) ?_
      have ed : decide ((48 : Int) ≤ ((f p : Nat) : Int) ∧ ((f p : Nat) : Int) ≤ 57) = decide (isDg (f p)) := by rw [decide_eq_decide]; omega
      rw [ed]
      by_cases c2 : isDg (f p)
      · rw [decide_eq_true c2]
        refine d_neg _ bn1_ne ?_
        exact go (Or.inr c2)
      · rw [decide_eq_false c2]
        refine d_pos _ rfl ?_
        have na : ¬ (p < n ∧ alN (f p)) := fun z => z.2.elim c1 c2
        rw [if_neg na]
        cases is with
        | false =>
          refine d_pos _ rfl ?_
          refine d_nm ?_
          exact d_dV ⟨rfl, ms, false, I, GP.rf, rfl⟩
        | true =>
          refine d_neg _ bn1_ne ?_
          rw [I.1]
          refine d_nm ?_
          rw [I.2.1]
          refine d_nm ?_
          have es : ii (p : Int) - ii (q : Int) = ii ((p - q : Nat) : Int) := by rw [ii_sub]; congr 1; omega
          rw [es]
          exact rm_j374 (by omega) ⟨rfl, ms, true, I, GP.rf, rfl⟩
end
