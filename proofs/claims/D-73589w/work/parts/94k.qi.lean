/-! PURE SIDE: the upper level: questions, all at once -/
set_option maxRecDepth 100000
abbrev QP : Type := (Nat → Nat) × PH × Nat × Nat × Nat × Nat × Nat × List Value × List Value × (Nat → LL) × (Nat → Nat) × Int32 × Int32 × Nat × Nat
abbrev QP.own (q : QP) : Nat → Nat := q.1
abbrev QP.h0 (q : QP) : PH := q.2.1
abbrev QP.B (q : QP) : Nat := q.2.2.1
abbrev QP.rm (q : QP) : Nat := q.2.2.2.1
abbrev QP.z (q : QP) : Nat := q.2.2.2.2.1
abbrev QP.n (q : QP) : Nat := q.2.2.2.2.2.1
abbrev QP.low (q : QP) : Nat := q.2.2.2.2.2.2.1
abbrev QP.fs (q : QP) : List Value := q.2.2.2.2.2.2.2.1
abbrev QP.gs (q : QP) : List Value := q.2.2.2.2.2.2.2.2.1
abbrev QP.A (q : QP) : Nat → LL := q.2.2.2.2.2.2.2.2.2.1
abbrev QP.R (q : QP) : Nat → Nat := q.2.2.2.2.2.2.2.2.2.2.1
abbrev QP.rows (q : QP) : Int32 := q.2.2.2.2.2.2.2.2.2.2.2.1
abbrev QP.seed (q : QP) : Int32 := q.2.2.2.2.2.2.2.2.2.2.2.2.1
abbrev QP.c (q : QP) : Nat := q.2.2.2.2.2.2.2.2.2.2.2.2.2.1
abbrev QP.s (q : QP) : Nat := q.2.2.2.2.2.2.2.2.2.2.2.2.2.2
theorem bn1_ne : ¬ ii (bn true) = 0 := by decide
def uT (T : Nat → Bool) : Nat := (if T 0 = true then 0 else 1) + (if T 1 = true then 0 else 1) + (if T 2 = true then 0 else 1) + (if T 3 = true then 0 else 1)
theorem uT_le (T : Nat → Bool) : uT T ≤ 4 := by
  unfold uT
  cases T 0 <;> cases T 1 <;> cases T 2 <;> cases T 3 <;> decide
theorem uT_up {T : Nat → Bool} {k : Nat} (hk : k < 4) (h : T k = false) : uT (va_up T k true) + 1 = uT T := by
  unfold uT va_up
  match k, hk with
  | 0, _ => simp [h]; omega
  | 1, _ => simp [h]; omega
  | 2, _ => simp [h]; omega
  | 3, _ => simp [h]
def QJ (q : QP) (T : Nat → Bool) (h : PH) : Prop := ∃ own N, SR own q.B h q.z q.low q.A q.R N T q.rows q.seed ∧ BC h q.B q.rm q.z q.n q.fs q.gs ∧ GF q.own own q.R q.z q.h0 h ∧ Wf q.h0 ∧ h.2.1.1 + 2 * s11 N + 900 * uT T ≤ q.c ∧ h.2.1.2 + 7 * s11 N + 4800 * uT T ≤ q.s
def QI (q : QP) (h : PH) : Prop := ∃ T, QJ q T h
def QB (q : QP) (r : Nat) (h : PH) : Prop := ∃ T, T r = true ∧ QJ q T h
theorem QB.i {q : QP} {r : Nat} {h : PH} (Q : QB q r h) : QI q h := by
  obtain ⟨T, _, Q⟩ := Q
  exact ⟨T, Q⟩
section
variable {q : QP} {h : PH} {r : Nat} {Z : Rt → PH → Prop}
theorem QI.bc (Q : QI q h) : BC h q.B q.rm q.z q.n q.fs q.gs := by
  obtain ⟨T, own, N, S, C, _⟩ := Q
  exact C
theorem QI.cell (Q : QI q h) : h.1 q.B = some (.inr (0, q.fs)) := Q.bc.1
theorem QI.n4 (Q : QI q h) : q.n ≤ 4 := Q.bc.2.2.2.2.2
theorem QI.bnd (Q : QI q h) {k : Nat} (hk : k < 11) : (q.A k).flatten.length ≤ 600 ∧ cnt (q.A k).flatten ≤ 600 ∧ (q.A k).length ≤ 150 := by
  obtain ⟨T, own, N, S, C, _⟩ := Q
  exact (S.2.1 k hk).bnd
theorem QI.lsb (Q : QI q h) {k : Nat} (hk : k < 11) : LsB q.low (q.A k) := by
  obtain ⟨T, own, N, S, C, _⟩ := Q
  exact (S.2.1 k hk).2.1
theorem QI.wf (Q : QI q h) : Wf h := by
  obtain ⟨T, own, N, S, C, G, _⟩ := Q
  exact G.wf
theorem q_grd0 {P : Option RH} (Q : QI q h) (k : Ends P Z) : Ends (grd h q.B [0] P) Z := q_grd Q.cell (by decide) k
/-- an act that only reads a rope -/
theorem QJ.read {T : Nat → Bool} {k : Nat} {bt' : Bool} {h' : PH} (hk : k < 11) (hb : bt' = T k) (Q : QJ q T h) (f : ∀ own N, SR own q.B h q.z q.low q.A q.R N T q.rows q.seed → RP own (q.R k) h' q.low (q.A k) (N k) bt' ∧ RF own (q.R k) h h' ∧ h'.2 = h.2) : QJ q T h' := by
  obtain ⟨own, N, S, C, G, w, z1, z2⟩ := Q
  obtain ⟨f2, f3, f4⟩ := f own N S
  obtain ⟨l1, l2⟩ := SR.lift S G.wf hk (fun _ _ => rfl) f2 f3
  subst hb
  rw [up_self, up_self, up_self] at l1
  exact ⟨own, N, l1, C.gf S l2, G.trans l2 w, w, by rw [f4]; exact z1, by rw [f4]; exact z2⟩
theorem g_rope (Q : QI q h) (hr : r < 4) : EQ (c_B_rope h q.B (ii r)) (fun v h' => v = some (q.R r) ∧ QB q r h') := by
  obtain ⟨T, own, N, S, C, G, w, z1, z2⟩ := Q
  cases hT : T r with
  | true => exact ⟨_, _, b_rope1 C S hr hT, rfl, T, hT, own, N, S, C, G, w, z1, z2⟩
  | false =>
    obtain ⟨v, h', e, e0, own', S', C', G', y1, y2⟩ := b_rope2 C S G.wf hr
    have u := uT_up hr hT
    exact ⟨v, h', e, e0, _, up_at, own', N, S', C', G.trans G' w, w, by omega, by omega⟩
theorem g_get {i : Nat} (Q : QB q r h) (hr : r < 4) (hi : i < (q.A r).flatten.length) : EI (c_R_get h (q.R r) (ii i)) (fun v h' => v = ii (bn (gb (q.A r).flatten i)) ∧ QB q r h') := by
  obtain ⟨T, hT, own, N, S, C, G, w, z1, z2⟩ := Q
  obtain ⟨v, h', e, f1, f2, f3, f4⟩ := p_get (S.2.1 r (by omega)) G.wf hi
  obtain ⟨l1, l2⟩ := SR.lift S G.wf (by omega) (fun _ _ => rfl) f2 f3
  rw [up_self, up_self, up_self] at l1
  exact ⟨v, h', e, f1, T, hT, own, N, l1, C.gf S l2, G.trans l2 w, w, by rw [f4]; exact z1, by rw [f4]; exact z2⟩
theorem g_before {i : Nat} {bb : Bool} (Q : QB q r h) (hr : r < 4) (hi : i ≤ (q.A r).flatten.length) : EI (c_R_before h (q.R r) (ii i) (ii (bn bb))) (fun v h' => v = ii (cb bb ((q.A r).flatten.take i)) ∧ QB q r h') := by
  obtain ⟨T, hT, own, N, S, C, G, w, z1, z2⟩ := Q
  obtain ⟨v, h', e, f1, f2, f3, f4⟩ := p_before (bb := bb) (S.2.1 r (by omega)) G.wf hi
  obtain ⟨l1, l2⟩ := SR.lift S G.wf (by omega) (fun _ _ => rfl) f2 f3
  rw [up_self, up_self, up_self] at l1
  exact ⟨v, h', e, f1, T, hT, own, N, l1, C.gf S l2, G.trans l2 w, w, by rw [f4]; exact z1, by rw [f4]; exact z2⟩
theorem g_ones {i : Nat} (Q : QB q r h) (hr : r < 4) (hi : i ≤ (q.A r).flatten.length) : EI (c_R_onesAhead h (q.R r) (ii i)) (fun v h' => v = ii (cnt ((q.A r).flatten.take i)) ∧ QB q r h') := by
  obtain ⟨T, hT, own, N, S, C, G, w, z1, z2⟩ := Q
  obtain ⟨v, h', e, f1, f2, f3, f4⟩ := p_ones (S.2.1 r (by omega)) G.wf hi
  obtain ⟨l1, l2⟩ := SR.lift S G.wf (by omega) (fun _ _ => rfl) f2 f3
  rw [up_self, up_self, up_self] at l1
  exact ⟨v, h', e, f1, T, hT, own, N, l1, C.gf S l2, G.trans l2 w, w, by rw [f4]; exact z1, by rw [f4]; exact z2⟩
theorem g_where {k : Nat} {bb : Bool} (Q : QB q r h) (hr : r < 4) (hk : k < cb bb (q.A r).flatten) : EI (c_R_where h (q.R r) (ii k) (ii (bn bb))) (fun v h' => v = ii (sel bb (q.A r).flatten k) ∧ QB q r h') := by
  obtain ⟨T, hT, own, N, S, C, G, w, z1, z2⟩ := Q
  have P := S.2.1 r (by omega)
  rw [hT] at P
  obtain ⟨v, h', e, f1, f2, f3, f4⟩ := p_where (bb := bb) P G.wf hk
  rw [← hT] at f2
  obtain ⟨l1, l2⟩ := SR.lift S G.wf (by omega) (fun _ _ => rfl) f2 f3
  rw [up_self, up_self, up_self] at l1
  exact ⟨v, h', e, f1, T, hT, own, N, l1, C.gf S l2, G.trans l2 w, w, by rw [f4]; exact z1, by rw [f4]; exact z2⟩
theorem QB.rp (Q : QB q r h) (hr : r < 4) : ∃ own nu, RP own (q.R r) h q.low (q.A r) nu true := by
  obtain ⟨T, hT, own, N, S, C, G, w, z1, z2⟩ := Q
  have P := S.2.1 r (by omega)
  rw [hT] at P
  exact ⟨_, _, P⟩
/-- one question of a row -/
theorem q_rope {K : Nat → PH → Option RH} (Q : QI q h) (hr : r < 4) (kk : ∀ h', QB q r h' → Ends (K (q.R r) h') Z) : Ends (hQ (c_B_rope h q.B (ii r)) noX fun v h1 => nn v fun a => K a h1) Z := q_hQ (g_rope Q hr) fun v h1 ⟨e, Q1⟩ => by
  rw [e]
  exact q_nn (kk h1 Q1)
theorem q_wide {K : Int32 → PH → Option RH} (Q : QI q h) (hr : r < 4) (kk : ∀ h', QB q r h' → Ends (K (ii (q.A r).flatten.length) h') Z) : Ends (hQ (c_B_rope h q.B (ii r)) noX fun v h1 => nn v fun a => hI (c_R_wide h1 a) noX K) Z := q_rope (K := fun a h1 => hI (c_R_wide h1 a) noX K) Q hr fun h1 Q1 => by
  obtain ⟨_, _, P⟩ := Q1.rp hr
  exact q_hIe (p_wide P) (kk h1 Q1)
theorem q_lit {K : Int32 → PH → Option RH} (Q : QI q h) (hr : r < 4) (kk : ∀ h', QB q r h' → Ends (K (ii (cnt (q.A r).flatten)) h') Z) : Ends (hQ (c_B_rope h q.B (ii r)) noX fun v h1 => nn v fun a => hI (c_R_lit h1 a) noX K) Z := q_rope (K := fun a h1 => hI (c_R_lit h1 a) noX K) Q hr fun h1 Q1 => by
  obtain ⟨_, _, P⟩ := Q1.rp hr
  exact q_hIe (p_lit P) (kk h1 Q1)
theorem q_folds {K : Int32 → PH → Option RH} (Q : QI q h) (hr : r < 4) (kk : ∀ h', QB q r h' → Ends (K (ii (q.A r).length) h') Z) : Ends (hQ (c_B_rope h q.B (ii r)) noX fun v h1 => nn v fun a => hI (c_R_folds h1 a) noX K) Z := q_rope (K := fun a h1 => hI (c_R_folds h1 a) noX K) Q hr fun h1 Q1 => by
  obtain ⟨_, _, P⟩ := Q1.rp hr
  exact q_hIe (p_folds P) (kk h1 Q1)
theorem q_cost {K : Int32 → PH → Option RH} (Q : QI q h) (hr : r < 4) (kk : ∀ h', QB q r h' → Ends (K (ii (cst (q.A r))) h') Z) : Ends (hQ (c_B_rope h q.B (ii r)) noX fun v h1 => nn v fun a => hI (c_R_cost h1 a) noX K) Z := q_rope (K := fun a h1 => hI (c_R_cost h1 a) noX K) Q hr fun h1 Q1 => by
  obtain ⟨_, _, P⟩ := Q1.rp hr
  exact q_hIe (p_cost P) (kk h1 Q1)
theorem q_many {K : Int32 → PH → Option RH} {bb : Bool} (Q : QI q h) (hr : r < 4) (kk : ∀ h', QB q r h' → Ends (K (ii (cb bb (q.A r).flatten)) h') Z) : Ends (hQ (c_B_rope h q.B (ii r)) noX fun v h1 => nn v fun a => hI (c_R_many h1 a (ii (bn bb))) noX K) Z := q_rope (K := fun a h1 => hI (c_R_many h1 a (ii (bn bb))) noX K) Q hr fun h1 Q1 => by
  obtain ⟨_, _, P⟩ := Q1.rp hr
  exact q_hIe (p_many P) (kk h1 Q1)
theorem q_get {K : Int32 → PH → Option RH} {i : Nat} {x : Int32} (Q : QI q h) (hr : r < 4) (hx : x = ii i) (hi : i < (q.A r).flatten.length) (kk : ∀ h', QB q r h' → Ends (K (ii (bn (gb (q.A r).flatten i))) h') Z) : Ends (hQ (c_B_rope h q.B (ii r)) noX fun v h1 => nn v fun a => hI (c_R_get h1 a x) noX K) Z := q_rope (K := fun a h1 => hI (c_R_get h1 a x) noX K) Q hr fun h1 Q1 => by
  subst hx
  exact q_hI (g_get Q1 hr hi) fun v h2 ⟨e, Q2⟩ => by rw [e]; exact kk h2 Q2
theorem q_before {K : Int32 → PH → Option RH} {i : Nat} {bb : Bool} (Q : QI q h) (hr : r < 4) (hi : i ≤ (q.A r).flatten.length) (kk : ∀ h', QB q r h' → Ends (K (ii (cb bb ((q.A r).flatten.take i))) h') Z) : Ends (hQ (c_B_rope h q.B (ii r)) noX fun v h1 => nn v fun a => hI (c_R_before h1 a (ii i) (ii (bn bb))) noX K) Z := q_rope (K := fun a h1 => hI (c_R_before h1 a (ii i) (ii (bn bb))) noX K) Q hr fun h1 Q1 =>
  q_hI (g_before Q1 hr hi) fun v h2 ⟨e, Q2⟩ => by rw [e]; exact kk h2 Q2
theorem q_ones {K : Int32 → PH → Option RH} {i : Nat} {x : Int32} (Q : QI q h) (hr : r < 4) (hx : x = ii i) (hi : i ≤ (q.A r).flatten.length) (kk : ∀ h', QB q r h' → Ends (K (ii (cnt ((q.A r).flatten.take i))) h') Z) : Ends (hQ (c_B_rope h q.B (ii r)) noX fun v h1 => nn v fun a => hI (c_R_onesAhead h1 a x) noX K) Z := q_rope (K := fun a h1 => hI (c_R_onesAhead h1 a x) noX K) Q hr fun h1 Q1 => by
  subst hx
  exact q_hI (g_ones Q1 hr hi) fun v h2 ⟨e, Q2⟩ => by rw [e]; exact kk h2 Q2
theorem q_where {K : Int32 → PH → Option RH} {k : Nat} {bb : Bool} (Q : QI q h) (hr : r < 4) (hk : k < cb bb (q.A r).flatten) (kk : ∀ h', QB q r h' → Ends (K (ii (sel bb (q.A r).flatten k)) h') Z) : Ends (hQ (c_B_rope h q.B (ii r)) noX fun v h1 => nn v fun a => hI (c_R_where h1 a (ii k) (ii (bn bb))) noX K) Z := q_rope (K := fun a h1 => hI (c_R_where h1 a (ii k) (ii (bn bb))) noX K) Q hr fun h1 Q1 =>
  q_hI (g_where Q1 hr hk) fun v h2 ⟨e, Q2⟩ => by rw [e]; exact kk h2 Q2
/-- whether a number is that of a row -/
theorem q_row {x : Int} {P1 P2 : PH → Option RH} {I : ∀ v : Int32, Decidable (v = 0)} (Q : QI q h) (hx : -2147483648 ≤ x ∧ x < 2147483648) (k0 : ¬ (0 ≤ x ∧ x < q.n) → Ends (P1 h) Z) (k1 : ∀ r : Nat, x = r → r < q.n → r < 4 → Ends (P2 h) Z) : Ends (hI (c_B_isRow h q.B (ii x)) noX fun v h1 => @ite _ (v = 0) (I v) (P1 h1) (P2 h1)) Z := by
  refine q_hIe (b_isRow Q.bc hx) ?_
  have := Q.n4
  by_cases c : 0 ≤ x ∧ x < q.n
  · rw [decide_eq_true c]
    refine q_neg _ bn1_ne ?_
    exact k1 x.toNat (by omega) (by omega) (by omega)
  · rw [decide_eq_false c]
    exact q_pos _ rfl (k0 c)
theorem q_in {x a b : Int} {lo hi : Int32} {P1 P2 : PH → Option RH} {I : ∀ v : Int32, Decidable (v = 0)} (el : lo = ii a) (eh : hi = ii b) (hx : (-2147483648 ≤ x ∧ x < 2147483648) ∧ (-2147483648 ≤ a ∧ a < 2147483648) ∧ -2147483648 ≤ b ∧ b < 2147483648) (k0 : ¬ (a ≤ x ∧ x ≤ b) → Ends (P1 h) Z) (k1 : a ≤ x ∧ x ≤ b → Ends (P2 h) Z) : Ends (hI (c_B_isIn h (ii x) lo hi) noX fun v h1 => @ite _ (v = 0) (I v) (P1 h1) (P2 h1)) Z := by
  subst el eh
  refine q_hIe (b_isIn hx) ?_
  by_cases c : a ≤ x ∧ x ≤ b
  · rw [decide_eq_true c]
    refine q_neg _ bn1_ne ?_
    exact k1 c
  · rw [decide_eq_false c]
    exact q_pos _ rfl (k0 c)
theorem sub1 {a : Int} : ii a - 1 = ii (a - 1) := by rw [il_1, ii_sub]
theorem add1 {a : Int} : ii a + 1 = ii (a + 1) := by rw [il_1, ii_add]
/-- an answer -/
def AN (q : QP) (a : Int) : Rt → PH → Prop := fun r h' => ∃ v, r = .inl (some (.int v)) ∧ v = ii a ∧ QI q h'
theorem q_an {v : Int32} {a : Int} (e : v = ii a) (Q : QI q h) : Ends (rI v h) (AN q a) := q_rI ⟨_, rfl, e, Q⟩
end
