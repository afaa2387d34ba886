/-! PURE SIDE: rooms: the model: words -/
set_option maxRecDepth 100000
section
variable {ms : MS} {f : Nat → Nat} {n : Nat} {t : Tk}
theorem m_areBits_w (V : MkV f t ms) (B : MB ms f n 900) (T : TkOk f n t) (h1 : t.k = 1) : ∀ (m fu j : Nat), m < fu → j + m = t.p - t.at_ → itr (d_M_areBits_l5) (fun _ _ => none) fu ms (ii ((t.at_ + j : Nat) : Int)) = dI (ii (bn (((seg f t.at_ t.p).drop j).all fun c => decide (105 ≤ c ∧ c ≤ 105) || decide (c = 111)))) ms := by
  have hat := (T.2.1 h1).2
  have hp := T.1.1
  have hn := B.2.2.2.1
  intro m
  induction m with
  | zero =>
    intro fu j hf hj
    obtain ⟨fu, rfl⟩ : ∃ x, fu = x + 1 := ⟨fu - 1, by omega⟩
    refine dEqI ?_
    rw [itr_succ]
    unfold d_M_areBits_l5
    rw [V.1]
    refine d_nm ?_
    refine d_pos _ (ii_leT (by omega)) ?_
    rw [List.drop_of_length_le (by rw [seg_len]; omega)]
    exact d_dZ1 ⟨rfl, rfl⟩
  | succ m ih =>
    intro fu j hf hj
    obtain ⟨fu, rfl⟩ : ∃ x, fu = x + 1 := ⟨fu - 1, by omega⟩
    have go := ih fu (j + 1) (by omega) (by omega)
    have hc := B.2.2.2.2.1 (t.at_ + j)
    have ej : ii ((t.at_ + j : Nat) : Int) + (1 : Int32) = ii ((t.at_ + (j + 1) : Nat) : Int) := by rw [add1]; rfl
    refine dEqI ?_
    rw [itr_succ]
    unfold d_M_areBits_l5
    rw [V.1]
    refine d_nm ?_
    refine d_neg _ (ii_leF (by omega)) ?_
    refine d_eA (N := 940) rfl (n := t.at_ + j) (by omega) (B.1 _ (by omega)) ?_
    rw [seg_drop (by omega), List.all_cons]
    by_cases c1 : f (t.at_ + j) = 105
    · refine d_pos _ (by rw [c1]; rfl) ?_
      rw [ej, decide_eq_true (by omega : 105 ≤ f (t.at_ + j) ∧ f (t.at_ + j) ≤ 105), Bool.true_or, Bool.true_and]
      exact ⟨_, _, go, rfl, rfl⟩
    · refine d_neg _ (ii_eqF (b := 105) (by omega)) ?_
      refine d_eA (N := 940) rfl (n := t.at_ + j) (by omega) (B.1 _ (by omega)) ?_
      by_cases c2 : f (t.at_ + j) = 111
      · refine d_pos _ (by rw [c2]; rfl) ?_
        rw [ej, decide_eq_true c2, Bool.or_true, Bool.true_and]
        exact ⟨_, _, go, rfl, rfl⟩
      · refine d_neg _ (ii_eqF (b := 111) (by omega)) ?_
        rw [decide_eq_false c2, decide_eq_false (by omega : ¬ (105 ≤ f (t.at_ + j) ∧ f (t.at_ + j) ≤ 105))]
        exact d_dZ0 ⟨rfl, rfl⟩
theorem m_areBitsW (V : MkV f t ms) (B : MB ms f n 900) (T : TkOk f n t) (h1 : t.k = 1) : d_M_areBits ms = dI (ii (bn (wAll f t 105 105 111))) ms := by
  have hp := T.1.1
  have hn := B.2.2.2.1
  have e := m_areBits_w V B T h1 (t.p - t.at_) FU 0 (by unfold FU; omega) (by omega)
  rw [List.drop_zero, Nat.add_zero] at e
  refine dEqI ?_
  unfold d_M_areBits
  rw [V.2.1]
  refine d_nm ?_
  rw [e]
  exact d_dI ⟨rfl, rfl⟩
theorem m_areOf_w (V : MkV f t ms) (B : MB ms f n 900) (T : TkOk f n t) (h1 : t.k = 1) : ∀ (m fu j : Nat), m < fu → j + m = t.p - t.at_ → itr (d_M_areOf_l5) (fun _ _ _ => none) fu ms (104 : Int32) (ii ((t.at_ + j : Nat) : Int)) = dI (ii (bn (((seg f t.at_ t.p).drop j).all fun c => decide (97 ≤ c ∧ c ≤ 104) || decide (c = 97)))) ms := by
  have hat := (T.2.1 h1).2
  have okl := (T.2.1 h1).1
  have hp := T.1.1
  have hn := B.2.2.2.1
  intro m
  induction m with
  | zero =>
    intro fu j hf hj
    obtain ⟨fu, rfl⟩ : ∃ x, fu = x + 1 := ⟨fu - 1, by omega⟩
    refine dEqI ?_
    rw [itr_succ]
    unfold d_M_areOf_l5
    rw [V.1]
    refine d_nm ?_
    refine d_pos _ (ii_leT (by omega)) ?_
    rw [List.drop_of_length_le (by rw [seg_len]; omega)]
    exact d_dZ1 ⟨rfl, rfl⟩
  | succ m ih =>
    intro fu j hf hj
    obtain ⟨fu, rfl⟩ : ∃ x, fu = x + 1 := ⟨fu - 1, by omega⟩
    have go := ih fu (j + 1) (by omega) (by omega)
    have hc := B.2.2.2.2.1 (t.at_ + j)
    have hr : 97 ≤ f (t.at_ + j) ∧ f (t.at_ + j) ≤ 122 := okl.2.2 _ (by
      have := seg_drop (f := f) (a := t.at_) (p := t.p) (j := j) (by omega)
      exact List.mem_of_mem_drop (by rw [this]; exact List.mem_cons_self))
    have ej : ii ((t.at_ + j : Nat) : Int) + (1 : Int32) = ii ((t.at_ + (j + 1) : Nat) : Int) := by rw [add1]; rfl
    refine dEqI ?_
    rw [itr_succ]
    unfold d_M_areOf_l5
    rw [V.1]
    refine d_nm ?_
    refine d_neg _ (ii_leF (by omega)) ?_
    refine d_eA (N := 940) rfl (n := t.at_ + j) (by omega) (B.1 _ (by omega)) ?_
    rw [seg_drop (by omega), List.all_cons]
    by_cases c1 : f (t.at_ + j) ≤ 104
    · refine d_pos _ (ii_leT (b := 104) (by omega)) ?_
      rw [ej, decide_eq_true (by omega : 97 ≤ f (t.at_ + j) ∧ f (t.at_ + j) ≤ 104), Bool.true_or, Bool.true_and]
      exact ⟨_, _, go, rfl, rfl⟩
    · refine d_neg _ (ii_leF (b := 104) (by omega)) ?_
      rw [decide_eq_false (by omega : ¬ f (t.at_ + j) = 97), decide_eq_false (by omega : ¬ (97 ≤ f (t.at_ + j) ∧ f (t.at_ + j) ≤ 104))]
      exact d_dZ0 ⟨rfl, rfl⟩
theorem m_areOfW (V : MkV f t ms) (B : MB ms f n 900) (T : TkOk f n t) (h1 : t.k = 1) : d_M_areOf ms (104 : Int32) = dI (ii (bn (wAll f t 97 104 97))) ms := by
  have hp := T.1.1
  have hn := B.2.2.2.1
  have e := m_areOf_w V B T h1 (t.p - t.at_) FU 0 (by unfold FU; omega) (by omega)
  rw [List.drop_zero, Nat.add_zero] at e
  refine dEqI ?_
  unfold d_M_areOf
  rw [V.2.1]
  refine d_nm ?_
  rw [e]
  exact d_dI ⟨rfl, rfl⟩
end
