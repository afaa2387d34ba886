/-! PURE SIDE: the component's reader: the next token -/
set_option maxRecDepth 100000
theorem tkv_no {f : Nat → Nat} {t : Tk} {v mn : Int32} {nm : Int64} (h : t.k = 0 ∨ t.k = 4) : TkV f t v mn nm := ⟨fun z => by omega, fun z => by omega, fun z => by omega⟩
section
variable {b : Nat → Nat} {h : PH} {f : Nat → Nat} {n cls ρ most : Nat} {x8 x9 : Value} {x10 p_ at_ tk v mn : Int32} {nm : Int64} {Q : Rt → PH → Prop}
theorem p_next_j78 {q : Nat} (hc : cls = 5 ∨ cls = 6 ∨ cls = 7) (T : TB b h f n) {d : PC} (e : h.1 ρ = some d) (kd0 : kd d ≠ 0 ∧ kd d ≠ 5) (hq : q ≤ n) (hm : ¬ (most < n ∧ most ≤ q)) : EV (c_D_next_j78 (WR b h ρ cls most x8 x9 x10 (ii q) (ii q) tk v mn nm) ρ) (fun h' => ∃ v' mn' nm', h' = WR b h ρ cls most x8 x9 x10 (ii (tkQ f n most q).p) (ii (tkQ f n most q).at_) (ii (tkQ f n most q).k) v' mn' nm' ∧ TkV f (tkQ f n most q) v' mn' nm') := by
  have hn := T.2.2.1
  have h8 := T.2.2.2 q
  refine EV.of ?_
  unfold c_D_next_j78
  refine q_hIe (p_peek hc (T.set e kd0) up_eq (by omega)) ?_
  by_cases c0 : q < n
  · rw [if_pos c0]
    have j153 : ∀ {s0 : Nat}, s0 = 3 ∨ s0 = 4 → tkQ f n most q = (s0, q, q + 1) → Ends (c_D_next_j158 (WR b h ρ cls most x8 x9 x10 (ii q) (ii q) tk v mn nm) ρ (ii (f q)) (ii s0) ρ) (fun r h' => r = .inl none ∧ ∃ v' mn' nm', h' = WR b h ρ cls most x8 x9 x10 (ii (tkQ f n most q).p) (ii (tkQ f n most q).at_) (ii (tkQ f n most q).k) v' mn' nm' ∧ TkV f (tkQ f n most q) v' mn' nm') := by
      intro s0 hs et
      rw [et]
      unfold c_D_next_j158
      refine q_pI up_eq (clm hc) (Nat.le_of_ble_eq_true rfl) ?_
      rw [hset_hset]
      refine q_pI up_eq (clm hc) (Nat.le_of_ble_eq_true rfl) ?_
      rw [hset_hset]
      refine q_gI up_eq (clm hc) rfl ?_
      refine q_pI up_eq (clm hc) (Nat.le_of_ble_eq_true rfl) ?_
      rw [hset_hset, add1]
      refine q_rV ⟨rfl, ii (f q), mn, nm, rfl, fun z => ?_, fun z => ?_, fun _ => rfl⟩
      · have z : s0 = 1 := z
        omega
      · have z : s0 = 2 := z
        omega
    have j111 : alN (f q) → Ends (c_D_next_j111 (WR b h ρ cls most x8 x9 x10 (ii q) (ii q) tk v mn nm) ρ (ii (f q))) (fun r h' => r = .inl none ∧ ∃ v' mn' nm', h' = WR b h ρ cls most x8 x9 x10 (ii (tkQ f n most q).p) (ii (tkQ f n most q).at_) (ii (tkQ f n most q).k) v' mn' nm' ∧ TkV f (tkQ f n most q) v' mn' nm') := by
      intro ha
      have et : tkQ f n most q = (tkW f q (runE f n (n - q) q), q, runE f n (n - q) q) := by
        unfold tkQ
        rw [if_neg hm, if_neg (by omega), if_pos ha]
      rw [et]
      unfold c_D_next_j111
      refine q_hIe (p_isL hc up_eq (by omega)) ?_
      have el : decide ((97 : Int) ≤ (f q : Int) ∧ (f q : Int) ≤ 122) = decide (isLt (f q)) := by rw [decide_eq_decide]; omega
      rw [el]
      refine q_hV (p_reads hc T e kd0 c0 ha) fun h1 k => ?_
      exact q_rV ⟨rfl, k⟩
    refine q_pos _ (ii_leT (a := 0) (by omega)) ?_
    refine q_hIe (p_isL hc up_eq (by omega)) ?_
    by_cases c1 : isLt (f q)
    · rw [decide_eq_true (show (97 : Int) ≤ (f q : Int) ∧ (f q : Int) ≤ 122 by omega)]
      refine q_neg _ bn1_ne ?_
      exact j111 (Or.inl c1)
    rw [decide_eq_false (show ¬ ((97 : Int) ≤ (f q : Int) ∧ (f q : Int) ≤ 122) by omega)]
    refine q_pos _ rfl ?_
    refine q_hIe (p_isD hc up_eq (by omega)) ?_
    by_cases c2 : isDg (f q)
    · rw [decide_eq_true (show (48 : Int) ≤ (f q : Int) ∧ (f q : Int) ≤ 57 by omega)]
      refine q_neg _ bn1_ne ?_
      exact j111 (Or.inr c2)
    rw [decide_eq_false (show ¬ ((48 : Int) ≤ (f q : Int) ∧ (f q : Int) ≤ 57) by omega)]
    refine q_pos _ rfl ?_
    have na : ¬ alN (f q) := fun z => z.elim c1 c2
    have e3 : (f q = 59 ∨ f q = 40 ∨ f q = 41 ∨ (60 ≤ f q ∧ f q ≤ 62)) → tkQ f n most q = (3, q, q + 1) := fun s => by
      unfold tkQ
      rw [if_neg hm, if_neg (by omega), if_neg na, if_pos s]
    rw [il_59, il_40, il_41]
    by_cases d1 : f q = 59
    · refine q_pos _ (by rw [d1]; rfl) ?_
      exact j153 (Or.inl rfl) (e3 (Or.inl d1))
    refine q_neg _ (ii_eqF (by omega)) ?_
    by_cases d2 : f q = 40
    · refine q_pos _ (by rw [d2]; rfl) ?_
      exact j153 (Or.inl rfl) (e3 (Or.inr (Or.inl d2)))
    refine q_neg _ (ii_eqF (by omega)) ?_
    by_cases d3 : f q = 41
    · refine q_pos _ (by rw [d3]; rfl) ?_
      exact j153 (Or.inl rfl) (e3 (Or.inr (Or.inr (Or.inl d3))))
    refine q_neg _ (ii_eqF (by omega)) ?_
    refine q_in (a := 60) (b := 62) rfl rfl (by omega) (fun d4 => ?_) fun d4 => ?_
    · refine j153 (s0 := 4) (Or.inr rfl) ?_
      unfold tkQ
      rw [if_neg hm, if_neg (by omega), if_neg na, if_neg (by omega)]
    · exact j153 (Or.inl rfl) (e3 (Or.inr (Or.inr (Or.inr (by omega)))))
  · rw [if_neg c0]
    refine q_neg _ (ii_leF (a := 0) (by omega)) ?_
    refine q_pI up_eq (clm hc) (Nat.le_of_ble_eq_true rfl) ?_
    rw [hset_hset]
    have et : tkQ f n most q = (0, q, q) := by
      unfold tkQ
      rw [if_neg hm, if_pos (by omega)]
    rw [et]
    exact q_rV ⟨rfl, v, mn, nm, rfl, tkv_no (by first | exact Or.inl rfl | exact Or.inr rfl)⟩
theorem p_next_l0 (hc : cls = 5 ∨ cls = 6 ∨ cls = 7) (hmo : most ≤ 900) (T : TB b h f n) {d : PC} (e : h.1 ρ = some d) (kd0 : kd d ≠ 0 ∧ kd d ≠ 5) : ∀ (m fu p : Nat), m < fu → m = n - p → p ≤ n → EV (itr (c_D_next_l0) (fun _ _ => none) fu (WR b h ρ cls most x8 x9 x10 (ii p) at_ tk v mn nm) ρ) (fun h' => ∃ v' mn' nm', h' = WR b h ρ cls most x8 x9 x10 (ii (tkQ f n most (skp f n m p)).p) (ii (tkQ f n most (skp f n m p)).at_) (ii (tkQ f n most (skp f n m p)).k) v' mn' nm' ∧ TkV f (tkQ f n most (skp f n m p)) v' mn' nm') := by
  have hn := T.2.2.1
  have fin : ∀ (p : Nat) (r0 : PH → Nat → Option RH), p ≤ n → ¬ (p < n ∧ (f p = 32 ∨ f p = 10)) → EV (c_D_next_l0 r0 (WR b h ρ cls most x8 x9 x10 (ii p) at_ tk v mn nm) ρ) (fun h' => ∃ v' mn' nm', h' = WR b h ρ cls most x8 x9 x10 (ii (tkQ f n most p).p) (ii (tkQ f n most p).at_) (ii (tkQ f n most p).k) v' mn' nm' ∧ TkV f (tkQ f n most p) v' mn' nm') := by
    intro p r0 hp hw
    have h8 := T.2.2.2 p
    refine EV.of ?_
    unfold c_D_next_l0
    refine q_hIe (p_peek hc (T.set e kd0) up_eq (by omega)) ?_
    rw [il_32, il_10]
    have n32 : ¬ ii (if p < n then (f p : Int) else -1) = ii 32 := by
      by_cases c : p < n
      · rw [if_pos c]; exact ii_eqF ⟨by omega, by omega, by omega, by omega, fun z => hw ⟨c, Or.inl (by omega)⟩⟩
      · rw [if_neg c]; decide
    have n10 : ¬ ii (if p < n then (f p : Int) else -1) = ii 10 := by
      by_cases c : p < n
      · rw [if_pos c]; exact ii_eqF ⟨by omega, by omega, by omega, by omega, fun z => hw ⟨c, Or.inr (by omega)⟩⟩
      · rw [if_neg c]; decide
    refine q_neg _ n32 ?_
    refine q_hIe (p_peek hc (T.set e kd0) up_eq (by omega)) ?_
    refine q_neg _ n10 ?_
    refine q_gI up_eq (clm hc) rfl ?_
    refine q_pI up_eq (clm hc) (Nat.le_of_ble_eq_true rfl) ?_
    rw [hset_hset]
    refine q_gQr up_eq (clm hc) rfl ?_
    refine q_nn ?_
    have T1 : TB b (WR b h ρ cls most x8 x9 x10 (ii p) (ii p) tk v mn nm) f n := T.set e kd0
    obtain ⟨⟨fs, a1, a2, a3⟩, _⟩ := T1
    refine q_gI a1 (by decide) a3 ?_
    refine q_gI up_eq (clm hc) rfl ?_
    by_cases c1 : n ≤ most
    · refine q_pos _ (ii_leT (by omega)) ?_
      exact Ends.ofEV (p_next_j78 hc T e kd0 hp (by omega)) fun h' k => ⟨rfl, k⟩
    refine q_neg _ (ii_leF (by omega)) ?_
    refine q_gI up_eq (clm hc) rfl ?_
    refine q_gI up_eq (clm hc) rfl ?_
    by_cases c2 : p < most
    · refine q_pos _ (ii_ltT (by omega)) ?_
      exact Ends.ofEV (p_next_j78 hc T e kd0 hp (by omega)) fun h' k => ⟨rfl, k⟩
    refine q_neg _ (ii_ltF (by omega)) ?_
    refine q_gI up_eq (clm hc) rfl ?_
    refine q_pI up_eq (clm hc) (Nat.le_of_ble_eq_true rfl) ?_
    rw [hset_hset]
    refine q_pI up_eq (clm hc) (Nat.le_of_ble_eq_true rfl) ?_
    rw [hset_hset]
    have et : tkQ f n most p = (4, most, p) := by
      unfold tkQ
      rw [if_pos (by omega)]
    rw [et]
    exact q_rV ⟨rfl, v, mn, nm, rfl, tkv_no (by first | exact Or.inl rfl | exact Or.inr rfl)⟩
  intro m
  induction m with
  | zero =>
    intro fu p hf hm hp
    obtain ⟨fu, rfl⟩ : ∃ x, fu = x + 1 := ⟨fu - 1, by omega⟩
    rw [itr_succ]
    exact fin p _ hp (by omega)
  | succ m ih =>
    intro fu p hf hm hp
    obtain ⟨fu, rfl⟩ : ∃ x, fu = x + 1 := ⟨fu - 1, by omega⟩
    rw [itr_succ]
    unfold skp
    by_cases c : p < n ∧ (f p = 32 ∨ f p = 10)
    · rw [if_pos c]
      refine EV.of ?_
      have j18 : Ends (c_D_next_j18 (itr (c_D_next_l0) (fun _ _ => none) fu) (WR b h ρ cls most x8 x9 x10 (ii p) at_ tk v mn nm) ρ) (fun r h' => r = .inl none ∧ ∃ v' mn' nm', h' = WR b h ρ cls most x8 x9 x10 (ii (tkQ f n most (skp f n m (p + 1))).p) (ii (tkQ f n most (skp f n m (p + 1))).at_) (ii (tkQ f n most (skp f n m (p + 1))).k) v' mn' nm' ∧ TkV f (tkQ f n most (skp f n m (p + 1))) v' mn' nm') := by
        unfold c_D_next_j18
        refine q_gI up_eq (clm hc) rfl ?_
        refine q_pI up_eq (clm hc) (Nat.le_of_ble_eq_true rfl) ?_
        rw [hset_hset, add1]
        exact Ends.ofEV (ih fu (p + 1) (by omega) (by omega) (by omega)) fun h' k => ⟨rfl, k⟩
      unfold c_D_next_l0
      refine q_hIe (p_peek hc (T.set e kd0) up_eq (by omega)) ?_
      rw [if_pos c.1, il_32, il_10]
      have h8 := T.2.2.2 p
      by_cases c3 : f p = 32
      · refine q_pos _ (by rw [c3]; rfl) ?_
        exact j18
      · refine q_neg _ (ii_eqF (by omega)) ?_
        refine q_hIe (p_peek hc (T.set e kd0) up_eq (by omega)) ?_
        rw [if_pos c.1]
        refine q_pos _ (by rw [c.2.resolve_left c3]; rfl) ?_
        exact j18
    · rw [if_neg c]
      exact fin p _ hp c
/-- the next token -/
theorem p_next {p : Nat} (hc : cls = 5 ∨ cls = 6 ∨ cls = 7) (hmo : most ≤ 900) (T : TB b h f n) (e : h.1 ρ = some (RDC b cls (most : Int) x8 x9 x10 (ii p) at_ tk v mn nm)) (hp : p ≤ n) : EV (c_D_next h ρ) (fun h' => ∃ v' mn' nm', h' = WR b h ρ cls most x8 x9 x10 (ii (tok f n most p).p) (ii (tok f n most p).at_) (ii (tok f n most p).k) v' mn' nm' ∧ TkV f (tok f n most p) v' mn' nm') := by
  have hn := T.2.2.1
  refine EV.of ?_
  unfold c_D_next
  refine q_grd e (clm hc) ?_
  have k := p_next_l0 (at_ := at_) (tk := tk) (v := v) (mn := mn) (nm := nm) (x8 := x8) (x9 := x9) (x10 := x10) hc hmo T e (clk hc) (n - p) FU p (by unfold FU; omega) rfl hp
  have hs : WR b h ρ cls most x8 x9 x10 (ii p) at_ tk v mn nm = h := hset_same e
  rw [hs] at k
  exact Ends.ofEV k fun h' q => ⟨rfl, q⟩
end
theorem skp_le {f : Nat → Nat} {n : Nat} : ∀ (m p : Nat), p ≤ n → p ≤ skp f n m p ∧ skp f n m p ≤ n := by
  intro m
  induction m with
  | zero => intro p hp; exact ⟨Nat.le_refl _, hp⟩
  | succ m ih =>
    intro p hp
    unfold skp
    by_cases c : p < n ∧ (f p = 32 ∨ f p = 10)
    · rw [if_pos c]
      have := ih (p + 1) (by omega)
      omega
    · rw [if_neg c]; omega
theorem runE_le {f : Nat → Nat} {n : Nat} : ∀ (m p : Nat), p ≤ n → p ≤ runE f n m p ∧ runE f n m p ≤ n := by
  intro m
  induction m with
  | zero => intro p hp; exact ⟨Nat.le_refl _, hp⟩
  | succ m ih =>
    intro p hp
    unfold runE
    by_cases c : p < n ∧ alN (f p)
    · rw [if_pos c]
      have := ih (p + 1) (by omega)
      omega
    · rw [if_neg c]; omega
theorem tkW_le {f : Nat → Nat} {q e : Nat} : tkW f q e ≤ 4 := by
  unfold tkW
  repeat' split
  all_goals omega
/-- bounds of a token -/
theorem tok_le {f : Nat → Nat} {n most p : Nat} (hp : p ≤ n) (hm : most ≤ 900) (hn : n ≤ 940) : (tok f n most p).p ≤ n ∧ (tok f n most p).at_ ≤ 940 ∧ (tok f n most p).k ≤ 4 := by
  unfold tok tkQ
  have s := skp_le (f := f) (n - p) p hp
  have r := runE_le (f := f) (n := n) (n - skp f n (n - p) p) (skp f n (n - p) p) s.2
  have w := tkW_le (f := f) (q := skp f n (n - p) p) (e := runE f n (n - skp f n (n - p) p) (skp f n (n - p) p))
  generalize skp f n (n - p) p = q at *
  by_cases c1 : most < n ∧ most ≤ q
  · rw [if_pos c1]; exact ⟨s.2, by show most ≤ 940; omega, by show 4 ≤ 4; omega⟩
  · rw [if_neg c1]
    by_cases c2 : n ≤ q
    · rw [if_pos c2]; exact ⟨s.2, by show q ≤ 940; omega, by show 0 ≤ 4; omega⟩
    · rw [if_neg c2]
      by_cases c3 : alN (f q)
      · rw [if_pos c3]; exact ⟨r.2, by show q ≤ 940; omega, w⟩
      · rw [if_neg c3]
        refine ⟨by show q + 1 ≤ n; omega, by show q ≤ 940; omega, ?_⟩
        show (if f q = 59 ∨ f q = 40 ∨ f q = 41 ∨ (60 ≤ f q ∧ f q ≤ 62) then 3 else 4) ≤ 4
        split <;> omega
