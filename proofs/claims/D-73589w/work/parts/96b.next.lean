/-! PURE SIDE: the component's reader: words, numbers, the next token -/
set_option maxRecDepth 100000
section
variable {b : Nat → Nat} {h : PH} {f : Nat → Nat} {n cls ρ most : Nat} {x8 x9 : Value} {x10 p_ at_ tk v mn : Int32} {nm : Int64} {Q : Rt → PH → Prop}
abbrev WR (b : Nat → Nat) (h : PH) (ρ cls : Nat) (most : Nat) (x8 x9 : Value) (x10 p at_ tk v mn : Int32) (nm : Int64) : PH := hset h ρ (RDC b cls (most : Int) x8 x9 x10 p at_ tk v mn nm)
def tkN (sm is : Bool) (k : Nat) : Nat := if is = true ∧ k ≤ (if sm = true then 7 else 3) then (if sm = true then 1 else 2) else 4
theorem rd_j164 {sm : Bool} {k : Nat} {s1 : Int32} (hk : k ≤ 2000) (hc : cls = 5 ∨ cls = 6 ∨ cls = 7) (e1 : s1 = ii k) (kk : Q (.inl none) (WR b h ρ cls most x8 x9 x10 p_ at_ (ii (tkN sm true k)) v mn nm)) : Ends (if ii (bn sm) = 0 then c_D_reads_j164 (WR b h ρ cls most x8 x9 x10 p_ at_ tk v mn nm) (ii (bn sm)) (3 : Int32) s1 ρ else c_D_reads_j164 (WR b h ρ cls most x8 x9 x10 p_ at_ tk v mn nm) (ii (bn sm)) (7 : Int32) s1 ρ) Q := by
  subst e1
  unfold c_D_reads_j164 tkN at *
  cases sm with
  | false =>
    refine q_pos _ rfl ?_
    rw [il_3]
    by_cases c : k ≤ 3
    · refine q_pos _ (ii_leT (by omega)) ?_
      refine q_pos _ rfl ?_
      refine q_pI up_eq (clm hc) (Nat.le_of_ble_eq_true rfl) ?_
      rw [hset_hset]
      rw [if_pos ⟨rfl, by rw [if_neg (by decide)]; exact c⟩, if_neg (by decide)] at kk
      exact q_rV kk
    · refine q_neg _ (ii_leF (by omega)) ?_
      refine q_pI up_eq (clm hc) (Nat.le_of_ble_eq_true rfl) ?_
      rw [hset_hset]
      rw [if_neg (fun z => c (by have := z.2; rw [if_neg (by decide)] at this; exact this))] at kk
      exact q_rV kk
  | true =>
    refine q_neg _ bn1_ne ?_
    rw [il_7]
    by_cases c : k ≤ 7
    · refine q_pos _ (ii_leT (by omega)) ?_
      refine q_neg _ bn1_ne ?_
      refine q_pI up_eq (clm hc) (Nat.le_of_ble_eq_true rfl) ?_
      rw [hset_hset]
      rw [if_pos ⟨rfl, by rw [if_pos rfl]; exact c⟩, if_pos rfl] at kk
      exact q_rV kk
    · refine q_neg _ (ii_leF (by omega)) ?_
      refine q_pI up_eq (clm hc) (Nat.le_of_ble_eq_true rfl) ?_
      rw [hset_hset]
      rw [if_neg (fun z => c (by have := z.2; rw [if_pos rfl] at this; exact this))] at kk
      exact q_rV kk
theorem v10 {v : Int32} {c : Nat} : (((10 : Int32) * v) + ii (c : Int)) - (48 : Int32) = ii (10 * v.toInt + c - 48) := by
  have e : v = ii v.toInt := (ii_int v).symm
  rw [il_10, il_48]
  rw [e, ii_mul, ii_add, ii_sub, ← e]
/-- one letter or digit more -/
theorem rd_j34 {r : PH → Nat → Int32 → Int32 → Option RH} {sm is : Bool} {q p : Nat} (hc : cls = 5 ∨ cls = 6 ∨ cls = 7) (T : TB b h f n) {d : PC} (e : h.1 ρ = some d) (kd0 : kd d ≠ 0 ∧ kd d ≠ 5) (hp : p < n) (hq : q ≤ p) (kk : Ends (r (WR b h ρ cls most x8 x9 x10 (ii (p + 1 : Nat)) (ii q) tk (if p - q < 3 then ii (10 * v.toInt + f p - 48) else v) mn (if p - q < 7 then (nm <<< ((8 : Int32).toInt64 &&& 63)) ||| ll (f p) else nm)) ρ (ii (bn sm)) (ii (bn (is && (decide (isLt (f p)) == sm))))) Q) : Ends (c_D_reads_j34 r (WR b h ρ cls most x8 x9 x10 (ii p) (ii q) tk v mn nm) ρ (ii (bn sm)) (ii (bn is))) Q := by
  have hn := T.2.2.1
  have h8 := T.2.2.2 p
  have j119 : ∀ {v' : Int32} {nm' : Int64} {s : Int32}, Ends (r (WR b h ρ cls most x8 x9 x10 (ii (p + 1 : Nat)) (ii q) tk v' mn nm') ρ (ii (bn sm)) s) Q → Ends (c_D_reads_j119 r (WR b h ρ cls most x8 x9 x10 (ii p) (ii q) tk v' mn nm') ρ (ii (bn sm)) s) Q := by
    intro v' nm' s k
    unfold c_D_reads_j119
    refine q_gI up_eq (clm hc) rfl ?_
    refine q_pI up_eq (clm hc) (Nat.le_of_ble_eq_true rfl) ?_
    rw [hset_hset, add1]
    exact k
  have j87 : ∀ {nm' : Int64} {s : Int32}, Ends (r (WR b h ρ cls most x8 x9 x10 (ii (p + 1 : Nat)) (ii q) tk (if p - q < 3 then ii (10 * v.toInt + f p - 48) else v) mn nm') ρ (ii (bn sm)) s) Q → Ends (c_D_reads_j87 r (WR b h ρ cls most x8 x9 x10 (ii p) (ii q) tk v mn nm') ρ (ii (bn sm)) s) Q := by
    intro nm' s k
    unfold c_D_reads_j87
    refine q_gI up_eq (clm hc) rfl ?_
    refine q_gI up_eq (clm hc) rfl ?_
    rw [ii_sub, il_3]
    by_cases c : p - q < 3
    · rw [if_pos c] at k
      refine q_neg _ (ii_leF (by omega)) ?_
      refine q_gI up_eq (clm hc) rfl ?_
      refine q_hIe (p_peek hc (T.set e kd0) up_eq (by omega)) ?_
      rw [if_pos hp]
      refine q_pI up_eq (clm hc) (Nat.le_of_ble_eq_true rfl) ?_
      rw [hset_hset, v10]
      exact j119 k
    · rw [if_neg c] at k
      refine q_pos _ (ii_leT (by omega)) ?_
      exact j119 k
  have j55 : ∀ {s : Int32}, Ends (r (WR b h ρ cls most x8 x9 x10 (ii (p + 1 : Nat)) (ii q) tk (if p - q < 3 then ii (10 * v.toInt + f p - 48) else v) mn (if p - q < 7 then (nm <<< ((8 : Int32).toInt64 &&& 63)) ||| ll (f p) else nm)) ρ (ii (bn sm)) s) Q → Ends (c_D_reads_j55 r (WR b h ρ cls most x8 x9 x10 (ii p) (ii q) tk v mn nm) ρ (ii (bn sm)) s) Q := by
    intro s k
    unfold c_D_reads_j55
    refine q_gI up_eq (clm hc) rfl ?_
    refine q_gI up_eq (clm hc) rfl ?_
    rw [ii_sub, il_7]
    by_cases c : p - q < 7
    · rw [if_pos c] at k
      refine q_neg _ (ii_leF (by omega)) ?_
      refine q_gL up_eq (clm hc) rfl ?_
      refine q_hIe (p_peek hc (T.set e kd0) up_eq (by omega)) ?_
      rw [if_pos hp]
      refine q_pL up_eq (clm hc) (Nat.le_of_ble_eq_true rfl) ?_
      rw [hset_hset, ll_ii (by omega)]
      exact j87 k
    · rw [if_neg c] at k
      refine q_pos _ (ii_leT (by omega)) ?_
      exact j87 k
  unfold c_D_reads_j34
  cases is with
  | false =>
    refine q_pos _ rfl ?_
    exact j55 kk
  | true =>
    refine q_neg _ bn1_ne ?_
    refine q_hIe (p_peek hc (T.set e kd0) up_eq (by omega)) ?_
    rw [if_pos hp]
    refine q_hIe (p_isL hc up_eq (by omega)) ?_
    have el : decide ((97 : Int) ≤ (f p : Int) ∧ (f p : Int) ≤ 122) = decide (isLt (f p)) := by rw [decide_eq_decide]; omega
    rw [el]
    by_cases c : decide (isLt (f p)) = sm
    · rw [c, beq_self_eq_true, Bool.and_true] at kk
      refine q_pos _ (by rw [c]) ?_
      exact j55 kk
    · rw [beq_eq_false_iff_ne.2 c, Bool.and_false] at kk
      refine q_neg _ (bn_eqF c) ?_
      exact j55 kk
theorem rd_l12 {sm : Bool} {q : Nat} (hc : cls = 5 ∨ cls = 6 ∨ cls = 7) (T : TB b h f n) {d : PC} (e : h.1 ρ = some d) (kd0 : kd d ≠ 0 ∧ kd d ≠ 5) : ∀ (m fu p : Nat) (is : Bool) (v : Int32) (nm : Int64), m < fu → m = n - p → q ≤ p → p ≤ n → RdI f sm q p is v nm → (∀ c, c ∈ seg f q p → alN c) → EV (itr (c_D_reads_l12) (fun _ _ _ _ => none) fu (WR b h ρ cls most x8 x9 x10 (ii p) (ii q) tk v mn nm) ρ (ii (bn sm)) (ii (bn is))) (fun h' => ∃ v' nm' is', RdI f sm q (runE f n m p) is' v' nm' ∧ h' = WR b h ρ cls most x8 x9 x10 (ii (runE f n m p)) (ii q) (ii (tkN sm is' (runE f n m p - q))) v' (ii ((runE f n m p - q : Nat) : Int)) nm') := by
  have hn := T.2.2.1
  intro m
  induction m with
  | zero =>
    intro fu p is v nm hf hm hq hp I hs
    obtain ⟨fu, rfl⟩ : ∃ x, fu = x + 1 := ⟨fu - 1, by omega⟩
    refine EV.of ?_
    rw [itr_succ]
    unfold c_D_reads_l12
    refine q_hIe (p_peek hc (T.set e kd0) up_eq (by omega)) ?_
    rw [if_neg (by omega)]
    refine q_hIe (p_isL hc up_eq (by omega)) ?_
    refine q_pos _ (by decide) ?_
    refine q_hIe (p_peek hc (T.set e kd0) up_eq (by omega)) ?_
    rw [if_neg (by omega)]
    refine q_hIe (p_isD hc up_eq (by omega)) ?_
    refine q_pos _ (by decide) ?_
    refine q_gI up_eq (clm hc) rfl ?_
    refine q_gI up_eq (clm hc) rfl ?_
    refine q_pI up_eq (clm hc) (Nat.le_of_ble_eq_true rfl) ?_
    have es : ii (p : Int) - ii (q : Int) = ii ((p - q : Nat) : Int) := by rw [ii_sub]; congr 1; omega
    rw [hset_hset, es]
    cases is with
    | false =>
      refine q_pos _ rfl ?_
      refine q_pI up_eq (clm hc) (Nat.le_of_ble_eq_true rfl) ?_
      rw [hset_hset]
      exact q_rV ⟨rfl, v, nm, false, I, rfl⟩
    | true =>
      refine q_neg _ bn1_ne ?_
      refine q_gI up_eq (clm hc) rfl ?_
      exact rd_j164 (by omega) hc rfl ⟨rfl, v, nm, true, I, rfl⟩
  | succ m ih =>
    intro fu p is v nm hf hm hq hp I hs
    obtain ⟨fu, rfl⟩ : ∃ x, fu = x + 1 := ⟨fu - 1, by omega⟩
    have hpn : p < n := by omega
    have h8 := T.2.2.2 p
    refine EV.of ?_
    rw [itr_succ]
    unfold c_D_reads_l12
    refine q_hIe (p_peek hc (T.set e kd0) up_eq (by omega)) ?_
    rw [if_pos hpn]
    refine q_hIe (p_isL hc up_eq (by omega)) ?_
    have el : decide ((97 : Int) ≤ (f p : Int) ∧ (f p : Int) ≤ 122) = decide (isLt (f p)) := by rw [decide_eq_decide]; omega
    rw [el]
    unfold runE
    have go : alN (f p) → Ends (c_D_reads_j34 (itr (c_D_reads_l12) (fun _ _ _ _ => none) fu) (WR b h ρ cls most x8 x9 x10 (ii p) (ii q) tk v mn nm) ρ (ii (bn sm)) (ii (bn is))) (fun r h' => r = .inl none ∧ ∃ v' nm' is', RdI f sm q (if p < n ∧ alN (f p) then runE f n m (p + 1) else p) is' v' nm' ∧ h' = WR b h ρ cls most x8 x9 x10 (ii (if p < n ∧ alN (f p) then runE f n m (p + 1) else p : Nat)) (ii q) (ii (tkN sm is' ((if p < n ∧ alN (f p) then runE f n m (p + 1) else p) - q))) v' (ii (((if p < n ∧ alN (f p) then runE f n m (p + 1) else p) - q : Nat) : Int)) nm') := by
      intro ha
      rw [if_pos ⟨hpn, ha⟩]
      refine rd_j34 hc T e kd0 hpn hq ?_
      refine Ends.ofEV (ih fu (p + 1) _ _ _ (by omega) (by omega) (by omega) (by omega) (I.step hq ha hs) ?_) fun h' q => ⟨rfl, q⟩
      intro c hcs
      rw [seg_succ hq] at hcs
      rcases List.mem_append.mp hcs with w | w
      · exact hs c w
      · rw [List.mem_singleton.mp w]; exact ha
    by_cases c1 : isLt (f p)
    · rw [decide_eq_true c1]
      refine q_neg _ bn1_ne ?_
      exact go (Or.inl c1)
    · rw [decide_eq_false c1]
      refine q_pos _ rfl ?_
      refine q_hIe (p_peek hc (T.set e kd0) up_eq (by omega)) ?_
      rw [if_pos hpn]
      refine q_hIe (p_isD hc up_eq (by omega)) ?_
      have ed : decide ((48 : Int) ≤ (f p : Int) ∧ (f p : Int) ≤ 57) = decide (isDg (f p)) := by rw [decide_eq_decide]; omega
      rw [ed]
      by_cases c2 : isDg (f p)
      · rw [decide_eq_true c2]
        refine q_neg _ bn1_ne ?_
        exact go (Or.inr c2)
      · rw [decide_eq_false c2]
        refine q_pos _ rfl ?_
        have na : ¬ (p < n ∧ alN (f p)) := fun z => z.2.elim c1 c2
        rw [if_neg na]
        refine q_gI up_eq (clm hc) rfl ?_
        refine q_gI up_eq (clm hc) rfl ?_
        refine q_pI up_eq (clm hc) (Nat.le_of_ble_eq_true rfl) ?_
        have es : ii (p : Int) - ii (q : Int) = ii ((p - q : Nat) : Int) := by rw [ii_sub]; congr 1; omega
        rw [hset_hset, es]
        cases is with
        | false =>
          refine q_pos _ rfl ?_
          refine q_pI up_eq (clm hc) (Nat.le_of_ble_eq_true rfl) ?_
          rw [hset_hset]
          exact q_rV ⟨rfl, v, nm, false, I, rfl⟩
        | true =>
          refine q_neg _ bn1_ne ?_
          refine q_gI up_eq (clm hc) rfl ?_
          exact rd_j164 (by omega) hc rfl ⟨rfl, v, nm, true, I, rfl⟩
theorem tkW_eq {q e : Nat} {sm is : Bool} (hs : sm = decide (isLt (f q))) (hi : is = allS f sm q e) : tkN sm is (e - q) = tkW f q e := by
  unfold tkN tkW
  rw [hi, hs]
  by_cases c : isLt (f q)
  · rw [decide_eq_true c, if_pos (show true = true from rfl), if_pos c, if_pos (show true = true from rfl), if_pos c]
  · rw [decide_eq_false c, if_neg (show ¬ false = true by decide), if_neg c, if_neg (show ¬ false = true by decide), if_neg c]
/-- a word or a number -/
theorem p_reads {q : Nat} (hc : cls = 5 ∨ cls = 6 ∨ cls = 7) (T : TB b h f n) {d : PC} (e : h.1 ρ = some d) (kd0 : kd d ≠ 0 ∧ kd d ≠ 5) (hq : q < n) (ha : alN (f q)) : EV (c_D_reads (WR b h ρ cls most x8 x9 x10 (ii q) (ii q) tk v mn nm) ρ (ii (bn (decide (isLt (f q)))))) (fun h' => ∃ v' mn' nm', h' = WR b h ρ cls most x8 x9 x10 (ii (runE f n (n - q) q)) (ii q) (ii (tkW f q (runE f n (n - q) q))) v' mn' nm' ∧ TkV f (tkW f q (runE f n (n - q) q), q, runE f n (n - q) q) v' mn' nm') := by
  have hn := T.2.2.1
  refine EV.of ?_
  unfold c_D_reads
  refine q_grd up_eq (clm hc) ?_
  refine q_pI up_eq (clm hc) (Nat.le_of_ble_eq_true rfl) ?_
  refine q_pL up_eq (clm hc) (Nat.le_of_ble_eq_true rfl) ?_
  rw [hset_hset, hset_hset]
  have I0 : RdI f (decide (isLt (f q))) q q true (0 : Int32) (0 : Int64) := by
    refine ⟨?_, fun _ _ => ?_, fun _ _ => ?_⟩
    · unfold allS; rw [seg_0]; rfl
    · rw [seg_0]; rfl
    · rw [seg_0]; rfl
  have k := rd_l12 (b := b) (h := h) (ρ := ρ) (cls := cls) (most := most) (x8 := x8) (x9 := x9) (x10 := x10) (tk := tk) (mn := mn) (sm := decide (isLt (f q))) (q := q) hc T e kd0 (n - q) FU q true 0 0 (by unfold FU; omega) rfl (Nat.le_refl _) (by omega) I0 (by rw [seg_0]; intro c hcc; cases hcc)
  refine Ends.ofEV k fun h' ⟨v', nm', is', I, eh⟩ => ⟨rfl, v', ii ((runE f n (n - q) q - q : Nat) : Int), nm', by rw [eh, tkW_eq rfl I.1], ?_⟩
  have hal : ∀ c, c ∈ seg f q (runE f n (n - q) q) → alN c := seg_run _ _ (Nat.le_refl _) (by rw [seg_0]; intro c hcc; cases hcc)
  generalize runE f n (n - q) q = E at *
  obtain ⟨i1, i2, i3⟩ := I
  have tw : ∀ j, tkW f q E = j → j ≠ 4 → is' = true ∧ E - q ≤ (if isLt (f q) then 7 else 3) ∧ j = (if isLt (f q) then 1 else 2) := by
    intro j hj h4
    unfold tkW at hj
    by_cases c : allS f (decide (isLt (f q))) q E = true ∧ E - q ≤ (if isLt (f q) then 7 else 3)
    · rw [if_pos c] at hj
      exact ⟨i1.trans c.1, c.2, hj.symm⟩
    · rw [if_neg c] at hj
      exact absurd hj.symm h4
  refine ⟨fun h1 => ?_, fun h1 => ?_, fun h1 => ?_⟩
  · obtain ⟨t1, t2, t3⟩ := tw 1 h1 (by decide)
    have cl : isLt (f q) := by
      by_cases c : isLt (f q)
      · exact c
      · rw [if_neg c] at t3; cases t3
    rw [if_pos cl] at t2
    refine ⟨rfl, ?_⟩
    rw [i2 t1 (decide_eq_true cl), List.take_of_length_le (by rw [seg_len]; omega)]
  · obtain ⟨t1, t2, t3⟩ := tw 2 h1 (by decide)
    have cl : ¬ isLt (f q) := fun c => by rw [if_pos c] at t3; cases t3
    rw [if_neg cl] at t2
    rw [i3 t1 (decide_eq_false cl), List.take_of_length_le (by rw [seg_len]; omega)]
  · obtain ⟨t1, t2, t3⟩ := tw 3 h1 (by decide)
    exfalso
    by_cases c : isLt (f q)
    · rw [if_pos c] at t3; cases t3
    · rw [if_neg c] at t3; cases t3
end
