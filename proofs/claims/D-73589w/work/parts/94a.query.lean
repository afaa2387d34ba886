/-! PURE SIDE: the upper level: rows -/
set_option maxRecDepth 100000
theorem b_isIn {h : PH} {a b c : Int} (k : (-2147483648 ≤ a ∧ a < 2147483648) ∧ (-2147483648 ≤ b ∧ b < 2147483648) ∧ -2147483648 ≤ c ∧ c < 2147483648) : c_B_isIn h (ii a) (ii b) (ii c) = rI (ii (bn (decide (b ≤ a ∧ a ≤ c)))) h := by
  unfold c_B_isIn
  by_cases c1 : a < b
  · rw [if_pos (ii_ltT (by omega))]
    have : decide (b ≤ a ∧ a ≤ c) = false := decide_eq_false (by omega)
    rw [this]; rfl
  · rw [if_neg (ii_ltF (by omega))]
    by_cases c2 : c < a
    · rw [if_pos (ii_ltT (by omega))]
      have : decide (b ≤ a ∧ a ≤ c) = false := decide_eq_false (by omega)
      rw [this]; rfl
    · rw [if_neg (ii_ltF (by omega))]
      have : decide (b ≤ a ∧ a ≤ c) = true := decide_eq_true (by omega)
      rw [this]; rfl
/-- the whole object, its room and its state of now -/
def BC (h : PH) (B rm z n : Nat) (fs gs : List Value) : Prop := h.1 B = some (.inr (0, fs)) ∧ fs[6]? = some (.ref rm) ∧ fs[7]? = some (.ref z) ∧ h.1 rm = some (.inr (2, gs)) ∧ gs[1]? = some (.int (ii n)) ∧ n ≤ 4
section
variable {own : Nat → Nat} {B z low rm n : Nat} {h : PH} {A : Nat → LL} {R N : Nat → Nat} {T : Nat → Bool} {rows seed : Int32} {fs gs : List Value}
theorem b_isRow {x : Int} (C : BC h B rm z n fs gs) (hx : -2147483648 ≤ x ∧ x < 2147483648) : c_B_isRow h B (ii x) = rI (ii (bn (decide (0 ≤ x ∧ x < n)))) h := by
  obtain ⟨e, e6, e7, er, e1, hn⟩ := C
  refine eqI ?_
  unfold c_B_isRow
  refine q_grd e (by decide) ?_
  refine q_gQr e (by decide) e6 ?_
  refine q_nn ?_
  refine q_gI er (by decide) e1 ?_
  rw [il_0, il_1, ii_sub]
  refine q_hIe (b_isIn (by omega)) ?_
  have : decide (0 ≤ x ∧ x ≤ (n : Int) - 1) = decide (0 ≤ x ∧ x < n) := by
    rw [decide_eq_decide]; omega
  rw [this]
  cases decide (0 ≤ x ∧ x < n)
  · exact q_rZ0 ⟨rfl, rfl⟩
  · exact q_rZ1 ⟨rfl, rfl⟩
theorem b_size {x : Int} (C : BC h B rm z n fs gs) (S : SR own B h z low A R N T rows seed) (hx : -2147483648 ≤ x ∧ x < 2147483648) : c_B_size h B (ii x) = rI (if 0 ≤ x ∧ x < n then ii (A x.toNat).flatten.length else ii (-1)) h := by
  have C' := C
  obtain ⟨e, e6, e7, er, e1, hn⟩ := C'
  refine eqI ?_
  unfold c_B_size
  refine q_grd e (by decide) ?_
  refine q_hIe (b_isRow C hx) ?_
  by_cases c : 0 ≤ x ∧ x < n
  · rw [if_pos c, decide_eq_true c]
    refine q_neg _ (by decide) ?_
    refine q_gQr e (by decide) e7 ?_
    refine q_nn ?_
    obtain ⟨k, rfl⟩ : ∃ k : Nat, x = k := ⟨x.toNat, by omega⟩
    refine q_rp S (by omega) ?_
    refine q_hIe (p_wide (S.2.1 k (by omega))) ?_
    exact q_rI ⟨rfl, rfl⟩
  · rw [if_neg c, decide_eq_false c]
    refine q_pos _ rfl ?_
    exact q_rI ⟨rfl, rfl⟩
end
