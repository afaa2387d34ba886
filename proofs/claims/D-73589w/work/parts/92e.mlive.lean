/-! PURE SIDE: the model: why not, and deeds on rows -/
set_option maxRecDepth 100000
def MO (nw : Nat → Int32) (low rows : Nat) (A : Nat → LL) (T : List Nat) : Prop := nw 0 = ii rows ∧ nw 1 = ii low ∧ (∀ r, r < 4 → MR nw r (A r)) ∧ nw 2615 = ii T.length ∧ ∀ i, i < 200 → nw (2616 + i) = ii (T.getD i 0 : Nat)
def GM (ms ms' : MS) : Prop := ms'.2 = ms.2 ∧ (∀ k, k ≠ 14 → ms'.1 k = ms.1 k) ∧ ∀ x, x < 2607 ∨ 5820 ≤ x → ms'.1 14 x = ms.1 14 x
theorem GM.rf {ms : MS} : GM ms ms := ⟨rfl, fun _ _ => rfl, fun _ _ => rfl⟩
theorem GM.trans {a b c : MS} (o : GM a b) (k : GM b c) : GM a c := ⟨k.1.trans o.1, fun j hj => (k.2.1 j hj).trans (o.2.1 j hj), fun x hx => (k.2.2 x hx).trans (o.2.2 x hx)⟩
theorem MF.gm {r : Nat} {a b : MS} (o : MF r a b) (hr : r < 4) : GM a b := ⟨o.1, o.2.1, fun x hx => o.2.2 x (by unfold rIx; omega)⟩
theorem GM.set {ms : MS} {x : Nat} {v : Int32} (h : 2607 ≤ x ∧ x < 5820) : GM ms (mset ms 14 x v) := ⟨rfl, fun k hk => ms_nk hk, fun y hy => ms_ne (by omega)⟩
section
variable {ms ms' : MS} {low rows r : Nat} {A : Nat → LL} {T : List Nat}
theorem MO.row {l' : LL} (M : MO (ms.1 14) low rows A T) (hb : ∀ r, r < 4 → (A r).flatten.length ≤ 600) (hr : r < 4) (o : MF r ms ms') (R : MR (ms'.1 14) r l') : MO (ms'.1 14) low rows (va_up A r l') T := by
  obtain ⟨m1, m2, m3, m4, m5⟩ := M
  refine ⟨(o.2.2 0 (by unfold rIx; omega)).trans m1, (o.2.2 1 (by unfold rIx; omega)).trans m2, fun q hq => ?_, (o.2.2 2615 (by unfold rIx; omega)).trans m4, fun i hi => (o.2.2 (2616 + i) (by unfold rIx; omega)).trans (m5 i hi)⟩
  by_cases c : q = r
  · subst c
    rw [up_at]; exact R
  · rw [va_up_ne _ _ c]
    obtain ⟨a1, a2, a3, a4⟩ := m3 q hq
    have bd := hb q hq
    exact ⟨(o.2.2 _ (by unfold rIx; omega)).trans a1, (o.2.2 _ (by unfold rIx; omega)).trans a2, fun k hk => (o.2.2 _ (by unfold rIx; omega)).trans (a3 k hk), fun i hi => (o.2.2 _ (by unfold rIx; omega)).trans (a4 i hi)⟩
theorem m_isIn {a b c : Int} (h : (-2147483648 ≤ a ∧ a < 2147483648) ∧ (-2147483648 ≤ b ∧ b < 2147483648) ∧ -2147483648 ≤ c ∧ c < 2147483648) : d_M_isIn ms (ii a) (ii b) (ii c) = dI (ii (bn (decide (b ≤ a ∧ a ≤ c)))) ms := by
  unfold d_M_isIn
  by_cases c1 : a < b
  · rw [if_pos (ii_ltT (by omega))]
    have : decide (b ≤ a ∧ a ≤ c) = false := decide_eq_false (by omega)
    rw [this]; rfl
  · rw [if_neg (ii_ltF (by omega))]
    by_cases c2 : c < a
    · rw [if_pos (ii_ltT (by omega))]
      have : decide (b ≤ a ∧ a ≤ c) = false := decide_eq_false (by omega)
      rw [this]; rfl
    · rw [if_neg (ii_ltF (by omega))]
      have : decide (b ≤ a ∧ a ≤ c) = true := decide_eq_true (by omega)
      rw [this]; rfl
theorem d_isIn {Q : Option Value → MS → Prop} {K : Int32 → MS → Option DR} {a b c : Int} (h : (-2147483648 ≤ a ∧ a < 2147483648) ∧ (-2147483648 ≤ b ∧ b < 2147483648) ∧ -2147483648 ≤ c ∧ c < 2147483648) (kk : DE (K (ii (bn (decide (b ≤ a ∧ a ≤ c)))) ms) Q) : DE (bI (d_M_isIn ms (ii a) (ii b) (ii c)) K) Q := d_bIe (m_isIn h) kk
theorem m_bitOf {ls : LL} {i : Nat} (M : MR (ms.1 14) r ls) (hr : r < 4) (hT : ls.flatten.length ≤ 600) (hi : i < ls.flatten.length) : d_M_bitOf ms (ii r) (ii i) = dI (ii (bn (gb ls.flatten i))) ms := by
  refine dEqI ?_
  unfold d_M_bitOf
  rw [show (3420 : Int32) = ii 3420 from ii_lit 3420, il_600, ii_mul, ii_add, ii_add]
  refine d_eA (N := 6062) rfl (n := 3420 + 600 * r + i) (by omega) (M.2.2.2 i hi) ?_
  exact d_dI ⟨rfl, rfl⟩
theorem m_isThere {ls : LL} {z : Int} (M : MR (ms.1 14) r ls) (hr : r < 4) (hT : ls.flatten.length ≤ 600) (hz : -2147483648 ≤ z ∧ z < 2147483648) : d_M_isThere ms (ii r) (ii z) = dI (ii (bn (decide (0 ≤ z ∧ z < ls.flatten.length)))) ms := by
  refine dEqI ?_
  unfold d_M_isThere
  refine d_bIe (m_sizeOf M hr) ?_
  rw [il_0, il_1, ii_sub]
  refine d_isIn (by omega) ?_
  have : decide ((0 : Int) ≤ z ∧ z ≤ (ls.flatten.length : Int) - 1) = decide (0 ≤ z ∧ z < ls.flatten.length) := by
    by_cases c : 0 ≤ z ∧ z < ls.flatten.length
    · rw [decide_eq_true c, decide_eq_true (by omega)]
    · rw [decide_eq_false c, decide_eq_false (by omega)]
  rw [this]
  cases decide (0 ≤ z ∧ z < (ls.flatten.length : Int)) <;> first | exact d_dZ0 ⟨rfl, rfl⟩ | exact d_dZ1 ⟨rfl, rfl⟩
theorem m_areThere {z n o : Int} (hz : -2147483648 ≤ z ∧ z < 2147483648) (hn : 0 ≤ n ∧ n < 100000) (ho : 0 ≤ o ∧ o < 100000) : d_M_areThere ms (ii z) (ii n) (ii o) = dI (ii (bn (decide (0 ≤ z ∧ z + n ≤ o)))) ms := by
  unfold d_M_areThere
  rw [il_0]
  by_cases c1 : z < 0
  · rw [if_pos (ii_ltT (by omega)), decide_eq_false (by omega)]; rfl
  · rw [if_neg (ii_ltF (by omega))]
    by_cases c2 : o < n
    · rw [if_pos (ii_ltT (by omega)), decide_eq_false (by omega)]; rfl
    · rw [if_neg (ii_ltF (by omega)), ii_sub]
      by_cases c3 : o - n < z
      · rw [if_pos (ii_ltT (by omega)), decide_eq_false (by omega)]; rfl
      · rw [if_neg (ii_ltF (by omega)), decide_eq_true (by omega)]; rfl
/-- why a deed is not done, as the model says it -/
theorem m_refusal {what x : Nat} {z : Int} (M : MO (ms.1 14) low rows A T) (hb : ∀ r, r < 4 → (A r).flatten.length ≤ 600) (h4 : (A 4).flatten.length = T.length) (hT : T.length ≤ 200) (hw : what < 8) (hr : r < 4) (hz : -2147483648 ≤ z ∧ z < 2147483648) (hx : x ≤ 600) (hx4 : what = 4 ∨ what = 5 → x < 4) (hz4 : what = 4 → 0 ≤ z) : d_M_refusal ms (ii what) (ii r) (ii z) (ii x) = dI (ii (if z < 0 then 1 else why A what r z.toNat x : Nat)) ms := by
  have br := hb r hr
  have Mr := M.2.2.1 r hr
  have key : DE (d_M_refusal ms (ii what) (ii r) (ii z) (ii x)) (fun rr m => rr = some (.int (ii (if z < 0 then 1 else why A what r z.toNat x : Nat))) ∧ m = ms) := by
    unfold d_M_refusal
    have j82 : (what = 2 ∨ what = 3) → DE (d_M_refusal_j82 ms (ii r) (ii z) (ii x)) (fun rr m => rr = some (.int (ii (if z < 0 then 1 else why A what r z.toNat x : Nat))) ∧ m = ms) := by
      intro h23
      have ew : why A what r z.toNat x = if (A r).flatten.length < z.toNat + x then 1 else 0 := by rcases h23 with q | q <;> (subst q; rfl)
      rw [ew]
      unfold d_M_refusal_j82
      refine d_bIe (m_sizeOf Mr hr) ?_
      refine d_bIe (m_areThere hz (by omega) (by omega)) ?_
      by_cases c : 0 ≤ z ∧ z + x ≤ ((A r).flatten.length : Int)
      · rw [decide_eq_true c]
        refine d_neg _ (by first | decide | (intro z; exact absurd z (by decide))) ?_
        refine d_dI ⟨?_, rfl⟩
        rw [if_neg (by omega), if_neg (by omega)]; rfl
      · rw [decide_eq_false c]
        refine d_pos _ (by first | trivial | rfl | decide) ?_
        refine d_dI ⟨?_, rfl⟩
        by_cases c2 : z < 0
        · rw [if_pos c2]; rfl
        · rw [if_neg c2, if_pos (by omega)]; rfl
    match what, hw with
    | 0, _ =>
      refine d_pos _ rfl ?_
      refine d_bIe (v := ii (if z < 0 then 1 else why A 0 r z.toNat x : Nat)) (m := ms) ?_ (d_dI ⟨rfl, rfl⟩)
      refine dEqI ?_
      unfold d_M_whyPut
      refine d_bIe (m_sizeOf Mr hr) ?_
      rw [il_0]
      refine d_isIn (by omega) ?_
      simp only [why]
      by_cases c : (0 : Int) ≤ z ∧ z ≤ ((A r).flatten.length : Int)
      · rw [decide_eq_true c]
        refine d_neg _ (by first | decide | (intro z; exact absurd z (by decide))) ?_
        refine d_bIe (m_sizeOf Mr hr) ?_
        rw [il_1, il_600, ii_add]
        rw [if_neg (show ¬ z < 0 by omega), if_neg (show ¬ (A r).flatten.length < z.toNat by omega)]
        by_cases c2 : (A r).flatten.length = 600
        · refine d_neg _ (ii_leF (by omega)) ?_
          rw [if_pos c2]
          exact d_dI ⟨rfl, rfl⟩
        · refine d_pos _ (ii_leT (by omega)) ?_
          rw [if_neg c2]
          exact d_dI ⟨rfl, rfl⟩
      · rw [decide_eq_false c]
        refine d_pos _ (by first | trivial | rfl | decide) ?_
        by_cases c2 : z < 0
        · rw [if_pos c2]; exact d_dI ⟨rfl, rfl⟩
        · rw [if_neg c2, if_pos (by omega)]; exact d_dI ⟨rfl, rfl⟩
    | 1, _ =>
      refine d_neg _ (by decide) ?_
      refine d_pos _ rfl ?_
      refine d_bIe (m_isThere Mr hr br hz) ?_
      simp only [why]
      by_cases c : (0 : Int) ≤ z ∧ z < ((A r).flatten.length : Int)
      · rw [decide_eq_true c]
        refine d_neg _ (by first | decide | (intro z; exact absurd z (by decide))) ?_
        have ez : z = (z.toNat : Int) := by omega
        have hbo := m_bitOf (i := z.toNat) Mr hr br (by omega)
        rw [← ez] at hbo
        refine d_bIe hbo ?_
        rw [if_neg (show ¬ z < 0 by omega), if_neg (show ¬ (A r).flatten.length ≤ z.toNat by omega)]
        have b1 := bn_le (gb (A r).flatten z.toNat)
        by_cases c2 : bn (gb (A r).flatten z.toNat) = x
        · refine d_pos _ (ii_eqT (by omega)) ?_
          rw [if_pos c2]
          exact d_dI ⟨rfl, rfl⟩
        · refine d_neg _ (ii_eqF (by omega)) ?_
          rw [if_neg c2]
          exact d_dI ⟨rfl, rfl⟩
      · rw [decide_eq_false c]
        refine d_pos _ (by first | trivial | rfl | decide) ?_
        by_cases c2 : z < 0
        · rw [if_pos c2]; exact d_dI ⟨rfl, rfl⟩
        · rw [if_neg c2, if_pos (by omega)]; exact d_dI ⟨rfl, rfl⟩
    | 2, _ =>
      refine d_neg _ (by decide) ?_
      refine d_neg _ (by decide) ?_
      refine d_pos _ rfl ?_
      exact j82 (Or.inl rfl)
    | 3, _ =>
      refine d_neg _ (by decide) ?_
      refine d_neg _ (by decide) ?_
      refine d_neg _ (by decide) ?_
      refine d_pos _ rfl ?_
      exact j82 (Or.inr rfl)
    | 4, _ =>
      have hx4 := hx4 (Or.inl rfl)
      have hz4 := hz4 rfl
      have bx := hb x hx4
      have Mx := M.2.2.1 x hx4
      refine d_neg _ (by decide) ?_
      refine d_neg _ (by decide) ?_
      refine d_neg _ (by decide) ?_
      refine d_neg _ (by decide) ?_
      refine d_pos _ rfl ?_
      refine d_bIe (m_sizeOf Mx hx4) ?_
      rw [if_neg (show ¬ z < 0 by omega)]
      simp only [why]
      by_cases c1 : (A x).flatten.length = 0
      · refine d_pos _ (by rw [c1]; rfl) ?_
        rw [if_pos c1]
        exact d_dI ⟨rfl, rfl⟩
      · refine d_neg _ (ii_eq0F (by omega)) ?_
        rw [if_neg c1]
        refine d_bIe (m_sizeOf Mr hr) ?_
        refine d_bIe (m_sizeOf Mx hx4) ?_
        rw [il_600, ii_add]
        by_cases c2 : 600 < (A r).flatten.length + (A x).flatten.length
        · refine d_neg _ (ii_leF (by omega)) ?_
          rw [if_pos c2]
          exact d_dI ⟨rfl, rfl⟩
        · refine d_pos _ (ii_leT (by omega)) ?_
          rw [if_neg c2]
          exact d_dI ⟨rfl, rfl⟩
    | 5, _ =>
      have hx4 := hx4 (Or.inr rfl)
      have bx := hb x hx4
      have Mx := M.2.2.1 x hx4
      refine d_neg _ (by decide) ?_
      refine d_neg _ (by decide) ?_
      refine d_neg _ (by decide) ?_
      refine d_neg _ (by decide) ?_
      refine d_neg _ (by decide) ?_
      refine d_pos _ rfl ?_
      refine d_bIe (m_isThere Mr hr br hz) ?_
      simp only [why]
      by_cases c : (0 : Int) ≤ z ∧ z < ((A r).flatten.length : Int)
      · rw [decide_eq_true c]
        refine d_neg _ (by first | decide | (intro z; exact absurd z (by decide))) ?_
        rw [if_neg (show ¬ z < 0 by omega), if_neg (show ¬ (A r).flatten.length ≤ z.toNat by omega)]
        refine d_bIe (m_sizeOf Mx hx4) ?_
        refine d_bIe (m_sizeOf Mr hr) ?_
        rw [il_600, ii_add, ii_sub]
        by_cases c2 : 600 < (A x).flatten.length + (A r).flatten.length - z.toNat
        · refine d_neg _ (ii_leF (by omega)) ?_
          rw [if_pos c2]
          exact d_dI ⟨rfl, rfl⟩
        · refine d_pos _ (ii_leT (by omega)) ?_
          rw [if_neg c2]
          exact d_dI ⟨rfl, rfl⟩
      · rw [decide_eq_false c]
        refine d_pos _ (by first | trivial | rfl | decide) ?_
        by_cases c2 : z < 0
        · rw [if_pos c2]; exact d_dI ⟨rfl, rfl⟩
        · rw [if_neg c2, if_pos (by omega)]; exact d_dI ⟨rfl, rfl⟩
    | 6, _ =>
      refine d_neg _ (by decide) ?_
      refine d_neg _ (by decide) ?_
      refine d_neg _ (by decide) ?_
      refine d_neg _ (by decide) ?_
      refine d_neg _ (by decide) ?_
      refine d_neg _ (by decide) ?_
      refine d_pos _ rfl ?_
      rw [show (2615 : Int32) = ii 2615 from ii_lit 2615, il_0]
      refine d_eA (N := 6062) rfl (n := 2615) (by omega) M.2.2.2.1 ?_
      refine d_isIn (by omega) ?_
      simp only [why, h4]
      by_cases c : (0 : Int) ≤ z ∧ z ≤ (T.length : Int)
      · rw [decide_eq_true c]
        refine d_neg _ (by first | decide | (intro z; exact absurd z (by decide))) ?_
        rw [if_neg (show ¬ z < 0 by omega), if_neg (show ¬ T.length < z.toNat by omega)]
        refine d_eA (N := 6062) rfl (n := 2615) (by omega) M.2.2.2.1 ?_
        rw [il_200]
        by_cases c2 : T.length = 200
        · refine d_pos _ (ii_eqT (by omega)) ?_
          rw [if_pos c2]
          exact d_dI ⟨rfl, rfl⟩
        · refine d_neg _ (ii_eqF (by omega)) ?_
          rw [if_neg c2]
          exact d_dI ⟨rfl, rfl⟩
      · rw [decide_eq_false c]
        refine d_pos _ (by first | trivial | rfl | decide) ?_
        by_cases c2 : z < 0
        · rw [if_pos c2]; exact d_dI ⟨rfl, rfl⟩
        · rw [if_neg c2, if_pos (by omega)]; exact d_dI ⟨rfl, rfl⟩
    | 7, _ =>
      refine d_neg _ (by decide) ?_
      refine d_neg _ (by decide) ?_
      refine d_neg _ (by decide) ?_
      refine d_neg _ (by decide) ?_
      refine d_neg _ (by decide) ?_
      refine d_neg _ (by decide) ?_
      refine d_neg _ (by decide) ?_
      rw [show (2615 : Int32) = ii 2615 from ii_lit 2615]
      refine d_eA (N := 6062) rfl (n := 2615) (by omega) M.2.2.2.1 ?_
      refine d_bIe (m_areThere hz (by omega) (by omega)) ?_
      simp only [why, h4]
      by_cases c : 0 ≤ z ∧ z + x ≤ (T.length : Int)
      · rw [decide_eq_true c]
        refine d_neg _ (by first | decide | (intro z; exact absurd z (by decide))) ?_
        rw [if_neg (show ¬ z < 0 by omega), if_neg (show ¬ T.length < z.toNat + x by omega)]
        exact d_dI ⟨rfl, rfl⟩
      · rw [decide_eq_false c]
        refine d_pos _ (by first | trivial | rfl | decide) ?_
        by_cases c2 : z < 0
        · rw [if_pos c2]; exact d_dI ⟨rfl, rfl⟩
        · rw [if_neg c2, if_pos (by omega)]; exact d_dI ⟨rfl, rfl⟩
  exact dEqI key
end
