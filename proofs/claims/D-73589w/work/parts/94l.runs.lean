/-! PURE SIDE: the upper level: the model's questions; runs -/
set_option maxRecDepth 100000
def QM (ms : MS) (n : Nat) (A : Nat → LL) : Prop := ms.1 14 0 = ii n ∧ n ≤ 4 ∧ ∀ r, r < 4 → MR (ms.1 14) r (A r) ∧ (A r).flatten.length ≤ 600 ∧ (A r).length ≤ 150 ∧ ∀ l, l ∈ A r → l.length ≤ 128
abbrev DA (ms : MS) (a : Int) : Option Value → MS → Prop := fun r m' => r = some (.int (ii a)) ∧ m' = ms
section
variable {ms : MS} {n r : Nat} {A : Nat → LL} {Z : Option Value → MS → Prop}
theorem QM.thr (M : QM ms n A) {k : Nat} {v : Int32} (hk : k ≠ 14 := by decide) : QM (mset ms k 0 v) n A := by
  have e : (mset ms k 0 v).1 14 = ms.1 14 := ms_nk (Ne.symm hk)
  unfold QM
  rw [e]
  exact M
theorem d_an {v : Int32} {a : Int} (e : v = ii a) : DE (dI v ms) (DA ms a) := d_dI ⟨by rw [e], rfl⟩
theorem d_row {x : Int} {P1 P2 : MS → Option DR} {I : ∀ v : Int32, Decidable (v = 0)} (M : QM ms n A) (hx : -2147483648 ≤ x ∧ x < 2147483648) (k0 : ¬ (0 ≤ x ∧ x < n) → DE (P1 ms) Z) (k1 : ∀ r : Nat, x = r → r < n → r < 4 → DE (P2 ms) Z) : DE (bI (d_M_isRow ms (ii x)) fun v m => @ite _ (v = 0) (I v) (P1 m) (P2 m)) Z := by
  refine d_bIe (m_isRow M.1 M.2.1 hx) ?_
  have := M.2.1
  by_cases c : 0 ≤ x ∧ x < n
  · rw [decide_eq_true c]
    refine d_neg _ bn1_ne ?_
    exact k1 x.toNat (by omega) (by omega) (by omega)
  · rw [decide_eq_false c]
    exact d_pos _ rfl (k0 c)
theorem d_bit {b : Int} {P1 P2 : MS → Option DR} {I : ∀ v : Int32, Decidable (v = 0)} (hb : -2147483648 ≤ b ∧ b < 2147483648) (k0 : ¬ (0 ≤ b ∧ b ≤ 1) → DE (P1 ms) Z) (k1 : 0 ≤ b ∧ b ≤ 1 → DE (P2 ms) Z) : DE (bI (d_M_isBit ms (ii b)) fun v m => @ite _ (v = 0) (I v) (P1 m) (P2 m)) Z := by
  refine d_bIe (m_isBit hb) ?_
  by_cases c : 0 ≤ b ∧ b ≤ 1
  · rw [decide_eq_true c]
    refine d_neg _ bn1_ne ?_
    exact k1 c
  · rw [decide_eq_false c]
    exact d_pos _ rfl (k0 c)
theorem d_in {x a b : Int} {lo hi : Int32} {P1 P2 : MS → Option DR} {I : ∀ v : Int32, Decidable (v = 0)} (el : lo = ii a) (eh : hi = ii b) (hx : (-2147483648 ≤ x ∧ x < 2147483648) ∧ (-2147483648 ≤ a ∧ a < 2147483648) ∧ -2147483648 ≤ b ∧ b < 2147483648) (k0 : ¬ (a ≤ x ∧ x ≤ b) → DE (P1 ms) Z) (k1 : a ≤ x ∧ x ≤ b → DE (P2 ms) Z) : DE (bI (d_M_isIn ms (ii x) lo hi) fun v m => @ite _ (v = 0) (I v) (P1 m) (P2 m)) Z := by
  subst el eh
  refine d_isIn (by omega) ?_
  by_cases c : a ≤ x ∧ x ≤ b
  · rw [decide_eq_true c]
    refine d_neg _ bn1_ne ?_
    exact k1 c
  · rw [decide_eq_false c]
    exact d_pos _ rfl (k0 c)
theorem d_size {K : Int32 → MS → Option DR} (M : QM ms n A) (hr : r < 4) (k : DE (K (ii (A r).flatten.length) ms) Z) : DE (bI (d_M_sizeOf ms (ii r)) K) Z := d_bIe (m_sizeOf (M.2.2 r hr).1 hr) k
theorem d_bitOf {K : Int32 → MS → Option DR} {i : Nat} {x : Int32} (M : QM ms n A) (hr : r < 4) (hx : x = ii i) (hi : i < (A r).flatten.length) (k : DE (K (ii (bn (gb (A r).flatten i))) ms) Z) : DE (bI (d_M_bitOf ms (ii r) x) K) Z := by
  subst hx
  exact d_bIe (m_bitOf (M.2.2 r hr).1 hr (M.2.2 r hr).2.1 hi) k
theorem d_there {x : Int} {P1 P2 : MS → Option DR} {I : ∀ v : Int32, Decidable (v = 0)} (M : QM ms n A) (hr : r < 4) (hx : -2147483648 ≤ x ∧ x < 2147483648) (k0 : ¬ (0 ≤ x ∧ x < ((A r).flatten.length : Int)) → DE (P1 ms) Z) (k1 : ∀ i : Nat, x = i → i < (A r).flatten.length → DE (P2 ms) Z) : DE (bI (d_M_isThere ms (ii r) (ii x)) fun v m => @ite _ (v = 0) (I v) (P1 m) (P2 m)) Z := by
  have hb := (M.2.2 r hr).2.1
  have it : d_M_isThere ms (ii r) (ii x) = dI (ii (bn (decide (0 ≤ x ∧ x < ((A r).flatten.length : Int))))) ms := by
    refine dEqI ?_
    unfold d_M_isThere
    refine d_size M hr ?_
    rw [il_0, il_1, ii_sub]
    refine d_isIn (by omega) ?_
    have : decide (0 ≤ x ∧ x ≤ ((A r).flatten.length : Int) - 1) = decide (0 ≤ x ∧ x < ((A r).flatten.length : Int)) := by
      rw [decide_eq_decide]; omega
    rw [this]
    cases decide (0 ≤ x ∧ x < ((A r).flatten.length : Int))
    · exact d_dZ0 ⟨rfl, rfl⟩
    · exact d_dZ1 ⟨rfl, rfl⟩
  refine d_bIe it ?_
  by_cases c : 0 ≤ x ∧ x < ((A r).flatten.length : Int)
  · rw [decide_eq_true c]
    refine d_neg _ bn1_ne ?_
    exact k1 x.toNat (by omega) (by omega)
  · rw [decide_eq_false c]
    exact d_pos _ rfl (k0 c)
end
theorem bn_eqT {a b : Bool} (h : a = b) : ii (bn a) = ii (bn b) := by rw [h]
theorem bn_eqF {a b : Bool} (h : a ≠ b) : ¬ ii (bn a) = ii (bn b) := by
  have := bn_le a
  have := bn_le b
  exact ii_eqF ⟨by omega, by omega, by omega, by omega, fun e => h (bn_inj e)⟩
/-- runs -/
def rn (l : List Bool) : Nat → Nat → Nat
  | 0, _ => 0
  | m + 1, p => (if p = 0 ∨ gb l p ≠ gb l (p - 1) then 1 else 0) + rn l m (p + 1)
theorem rn_le (l : List Bool) : ∀ m p, rn l m p ≤ m := by
  intro m
  induction m with
  | zero => intro p; exact Nat.le_refl _
  | succ m ih =>
    intro p
    have := ih (p + 1)
    unfold rn
    by_cases c : p = 0 ∨ gb l p ≠ gb l (p - 1)
    · rw [if_pos c]; omega
    · rw [if_neg c]; omega
def runsA (n : Nat) (A : Nat → LL) (x : Int) : Int := if 0 ≤ x ∧ x < n then (rn (A x.toNat).flatten (A x.toNat).flatten.length 0 : Nat) else -1
section
variable {q : QP} {h : PH} {r : Nat} {ms : MS} {n : Nat} {A : Nat → LL}
theorem b_runs_l4 (hr : r < 4) : ∀ (m fu p c : Nat) (h : PH), m < fu → p + m = (q.A r).flatten.length → c ≤ p → QI q h → Ends (itr (c_B_runsOf_l4) (fun _ _ _ _ _ => none) fu h q.B (ii r) (ii c) (ii p)) (AN q (c + rn (q.A r).flatten m p : Nat)) := by
  intro m
  induction m with
  | zero =>
    intro fu p c h hf hp hc Q
    obtain ⟨fu, rfl⟩ : ∃ x, fu = x + 1 := ⟨fu - 1, by omega⟩
    have hb := (Q.bnd (k := r) (by omega)).1
    rw [itr_succ]
    unfold c_B_runsOf_l4
    refine q_wide Q hr fun h1 Q1 => ?_
    refine q_pos _ (ii_leT (by omega)) ?_
    exact q_an rfl Q1.i
  | succ m ih =>
    intro fu p c h hf hp hc Q
    obtain ⟨fu, rfl⟩ : ∃ x, fu = x + 1 := ⟨fu - 1, by omega⟩
    have hb := (Q.bnd (k := r) (by omega)).1
    have hn := rn_le (q.A r).flatten m (p + 1)
    rw [itr_succ]
    unfold c_B_runsOf_l4
    refine q_wide Q hr fun h1 Q1 => ?_
    refine q_neg _ (ii_leF (by omega)) ?_
    by_cases c0 : p = 0
    · refine q_pos _ (ii_eqT (b := 0) (by omega)) ?_
      rw [add1, add1]
      have k := ih fu (p + 1) (c + 1) h1 (by omega) (by omega) (by omega) Q1.i
      have e : c + rn (q.A r).flatten (m + 1) p = c + 1 + rn (q.A r).flatten m (p + 1) := by
        rw [rn, if_pos (Or.inl c0)]; omega
      rw [e]; exact k
    · refine q_neg _ (ii_eqF (b := 0) (by omega)) ?_
      refine q_get (i := p) Q1.i hr rfl (by omega) fun h2 Q2 => ?_
      refine q_get (i := p - 1) Q2.i hr (by rw [sub1]; congr 1; omega) (by omega) fun h3 Q3 => ?_
      by_cases c1 : gb (q.A r).flatten p = gb (q.A r).flatten (p - 1)
      · refine q_pos _ (bn_eqT c1) ?_
        rw [add1]
        have k := ih fu (p + 1) c h3 (by omega) (by omega) (by omega) Q3.i
        have e : c + rn (q.A r).flatten (m + 1) p = c + rn (q.A r).flatten m (p + 1) := by
          rw [rn, if_neg (fun z => z.elim c0 (fun y => y c1))]; omega
        rw [e]; exact k
      · refine q_neg _ (bn_eqF c1) ?_
        rw [add1, add1]
        have k := ih fu (p + 1) (c + 1) h3 (by omega) (by omega) (by omega) Q3.i
        have e : c + rn (q.A r).flatten (m + 1) p = c + 1 + rn (q.A r).flatten m (p + 1) := by
          rw [rn, if_pos (Or.inr c1)]; omega
        rw [e]; exact k
theorem b_runsOf (Q : QI q h) (hr : r < 4) : Ends (c_B_runsOf h q.B (ii r)) (AN q (rn (q.A r).flatten (q.A r).flatten.length 0 : Nat)) := by
  have hb := (Q.bnd (k := r) (by omega)).1
  unfold c_B_runsOf
  refine q_grd0 Q ?_
  have k := b_runs_l4 hr (q.A r).flatten.length FU 0 0 h (by unfold FU; omega) (by omega) (by omega) Q
  rw [Nat.zero_add] at k
  exact k
/-- an answer goes on -/
theorem q_hA {P : Option RH} {a : Int} {K : Int32 → PH → Option RH} {Z : Rt → PH → Prop} (e : Ends P (AN q a)) (k : ∀ h', QI q h' → Ends (K (ii a) h') Z) : Ends (hI P noX K) Z := by
  obtain ⟨_, h', e1, v, e2, e3, Q⟩ := e
  subst e2 e3
  exact q_hIe (v := ii a) (h1 := h') e1 (k h' Q)
theorem b_runs {x : Int} (Q : QI q h) (hx : -2147483648 ≤ x ∧ x < 2147483648) : Ends (c_B_runs h q.B (ii x)) (AN q (runsA q.n q.A x)) := by
  unfold c_B_runs runsA
  refine q_grd0 Q ?_
  refine q_row Q hx (fun c => ?_) fun r e hr hr4 => ?_
  · rw [if_neg c]; exact q_an rfl Q
  · subst e
    rw [if_pos (by omega), Int.toNat_natCast]
    exact q_hA (b_runsOf Q hr4) fun h1 Q1 => q_an rfl Q1
theorem m_runs_l4 (M : QM ms n A) (hr : r < 4) : ∀ (m fu p c : Nat), m < fu → p + m = (A r).flatten.length → c ≤ p → DE (itr (d_M_runsOf_l4) (fun _ _ _ _ => none) fu ms (ii r) (ii c) (ii p)) (DA ms (c + rn (A r).flatten m p : Nat)) := by
  have hb := (M.2.2 r hr).2.1
  intro m
  induction m with
  | zero =>
    intro fu p c hf hp hc
    obtain ⟨fu, rfl⟩ : ∃ x, fu = x + 1 := ⟨fu - 1, by omega⟩
    rw [itr_succ]
    unfold d_M_runsOf_l4
    refine d_size M hr ?_
    refine d_pos _ (ii_leT (by omega)) ?_
    exact d_an rfl
  | succ m ih =>
    intro fu p c hf hp hc
    obtain ⟨fu, rfl⟩ : ∃ x, fu = x + 1 := ⟨fu - 1, by omega⟩
    have hn := rn_le (A r).flatten m (p + 1)
    rw [itr_succ]
    unfold d_M_runsOf_l4
    refine d_size M hr ?_
    refine d_neg _ (ii_leF (by omega)) ?_
    by_cases c0 : p = 0
    · refine d_pos _ (ii_eqT (b := 0) (by omega)) ?_
      rw [add1, add1]
      have k := ih fu (p + 1) (c + 1) (by omega) (by omega) (by omega)
      have e : c + rn (A r).flatten (m + 1) p = c + 1 + rn (A r).flatten m (p + 1) := by
        rw [rn, if_pos (Or.inl c0)]; omega
      rw [e]; exact k
    · refine d_neg _ (ii_eqF (b := 0) (by omega)) ?_
      refine d_bitOf (i := p) M hr rfl (by omega) ?_
      refine d_bitOf (i := p - 1) M hr (by rw [sub1]; congr 1; omega) (by omega) ?_
      by_cases c1 : gb (A r).flatten p = gb (A r).flatten (p - 1)
      · refine d_pos _ (bn_eqT c1) ?_
        rw [add1]
        have k := ih fu (p + 1) c (by omega) (by omega) (by omega)
        have e : c + rn (A r).flatten (m + 1) p = c + rn (A r).flatten m (p + 1) := by
          rw [rn, if_neg (fun z => z.elim c0 (fun y => y c1))]; omega
        rw [e]; exact k
      · refine d_neg _ (bn_eqF c1) ?_
        rw [add1, add1]
        have k := ih fu (p + 1) (c + 1) (by omega) (by omega) (by omega)
        have e : c + rn (A r).flatten (m + 1) p = c + 1 + rn (A r).flatten m (p + 1) := by
          rw [rn, if_pos (Or.inr c1)]; omega
        rw [e]; exact k
theorem m_runsOf (M : QM ms n A) (hr : r < 4) : d_M_runsOf ms (ii r) = dI (ii (rn (A r).flatten (A r).flatten.length 0 : Nat)) ms := by
  have hb := (M.2.2 r hr).2.1
  refine dEqI ?_
  unfold d_M_runsOf
  have k := m_runs_l4 M hr (A r).flatten.length FU 0 0 (by unfold FU; omega) (by omega) (by omega)
  rw [Nat.zero_add] at k
  exact k
theorem m_runs {x : Int} (M : QM ms n A) (hx : -2147483648 ≤ x ∧ x < 2147483648) : d_M_runs ms (ii x) = dI (ii (runsA n A x)) (mset ms 0 0 0) := by
  refine dEqI ?_
  unfold d_M_runs runsA
  refine d_nm ?_
  have M' := M.thr (k := 0) (v := 0)
  refine d_row M' hx (fun c => ?_) fun r e hr hr4 => ?_
  · rw [if_neg c]; exact d_an rfl
  · subst e
    rw [if_pos (by omega), Int.toNat_natCast]
    exact d_bIe (m_runsOf M' hr4) (d_an rfl)
end
