/-! PURE SIDE: sentences: what is said -/
set_option maxRecDepth 100000
def likA (l k : List Bool) : Bool := decide (l.length = k.length ∧ dfr l k (min l.length k.length) 0 = l.length)
def begA (l k : List Bool) : Bool := decide (k.length ≤ l.length ∧ dfr l k (min l.length k.length) 0 = k.length)
def valA (A : Nat → LL) (p w : Nat) : Nat := if w = 0 then (A p).flatten.length else if w = 1 then cnt (A p).flatten else if w = 2 then rn (A p).flatten (A p).flatten.length 0 else if w = 3 then (A p).length else p
def cmpA (sg v y : Nat) : Bool := if sg = 60 then decide (v < y) else if sg = 61 then decide (v = y) else decide (y < v)
def holdA (nt : NT) (A : Nat → LL) (p : Nat) : Nat → Nat → Bool
  | 0, _ => false
  | d + 1, k => if (nt k).1 = 1 then !(holdA nt A p d (nt k).2.1) else if (nt k).1 = 2 then (holdA nt A p d (nt k).2.1 && holdA nt A p d (nt k).2.2.1) else if (nt k).1 = 3 then (holdA nt A p d (nt k).2.1 || holdA nt A p d (nt k).2.2.1) else if (nt k).1 = 64 then decide ((A p).flatten.length = 0) else if (nt k).1 = 65 then decide (cnt (A p).flatten % 2 = 0) else if (nt k).1 = 66 then likA (A p).flatten (A (nt k).2.1).flatten else if (nt k).1 = 67 then begA (A p).flatten (A (nt k).2.1).flatten else cmpA (nt k).2.2.2 (valA A p ((nt k).1 - 68)) (nt k).2.2.1
theorem hold1 {nt : NT} {A : Nat → LL} {p d k : Nat} (e : (nt k).1 = 1) : holdA nt A p (d + 1) k = !(holdA nt A p d (nt k).2.1) := by rw [holdA, if_pos e]
theorem hold2 {nt : NT} {A : Nat → LL} {p d k : Nat} (e : (nt k).1 = 2) : holdA nt A p (d + 1) k = (holdA nt A p d (nt k).2.1 && holdA nt A p d (nt k).2.2.1) := by rw [holdA, if_neg (by omega), if_pos e]
theorem hold3 {nt : NT} {A : Nat → LL} {p d k : Nat} (e : (nt k).1 = 3) : holdA nt A p (d + 1) k = (holdA nt A p d (nt k).2.1 || holdA nt A p d (nt k).2.2.1) := by rw [holdA, if_neg (by omega), if_neg (by omega), if_pos e]
theorem hold64 {nt : NT} {A : Nat → LL} {p d k : Nat} (e : (nt k).1 = 64) : holdA nt A p (d + 1) k = decide ((A p).flatten.length = 0) := by rw [holdA, if_neg (by omega), if_neg (by omega), if_neg (by omega), if_pos e]
theorem hold65 {nt : NT} {A : Nat → LL} {p d k : Nat} (e : (nt k).1 = 65) : holdA nt A p (d + 1) k = decide (cnt (A p).flatten % 2 = 0) := by rw [holdA, if_neg (by omega), if_neg (by omega), if_neg (by omega), if_neg (by omega), if_pos e]
theorem hold66 {nt : NT} {A : Nat → LL} {p d k : Nat} (e : (nt k).1 = 66) : holdA nt A p (d + 1) k = likA (A p).flatten (A (nt k).2.1).flatten := by rw [holdA, if_neg (by omega), if_neg (by omega), if_neg (by omega), if_neg (by omega), if_neg (by omega), if_pos e]
theorem hold67 {nt : NT} {A : Nat → LL} {p d k : Nat} (e : (nt k).1 = 67) : holdA nt A p (d + 1) k = begA (A p).flatten (A (nt k).2.1).flatten := by rw [holdA, if_neg (by omega), if_neg (by omega), if_neg (by omega), if_neg (by omega), if_neg (by omega), if_neg (by omega), if_pos e]
theorem hold68 {nt : NT} {A : Nat → LL} {p d k w : Nat} (e : (nt k).1 = 68 + w) : holdA nt A p (d + 1) k = cmpA (nt k).2.2.2 (valA A p w) (nt k).2.2.1 := by rw [holdA, if_neg (by omega), if_neg (by omega), if_neg (by omega), if_neg (by omega), if_neg (by omega), if_neg (by omega), if_neg (by omega), e, Nat.add_sub_cancel_left]
theorem odd2 {c : Nat} (hc : c ≤ 100000) : ((ii (c : Int) - ii (c : Int) / (2 : Int32) * (2 : Int32)) = 0) ↔ c % 2 = 0 := by
  rw [il_2, ii_div (by omega), ii_mul, ii_sub, show (0 : Int32) = ii 0 from rfl, ii_eq (by omega)]
  omega
section
variable {q : QP} {h : PH} {own : Nat → Nat} {B n : Nat} {nt : NT} {p a : Nat} {rg : Nat → PH → Nat → Nat → Int32 → Option RH}
theorem anZ {x : Bool} {v : Int32} (Q : QI q h) (e : v = ii (bn x)) : Ends (rZ v h) (AN q (bn x)) := by
  cases x with
  | true => subst e; exact q_rZ1 ⟨_, rfl, rfl, Q⟩
  | false => subst e; exact q_rZ0 ⟨_, rfl, rfl, Q⟩
theorem anZ2 {c : Prop} [Decidable c] {x : Bool} {I : Decidable c} (Q : QI q h) (e : x = decide c) : Ends (@ite _ c I (rZ (1 : Int32) h) (rZ (0 : Int32) h)) (AN q (bn x)) := by
  subst e
  by_cases d : c
  · rw [if_pos d, decide_eq_true d]; exact anZ Q rfl
  · rw [if_neg d, decide_eq_false d]; exact anZ Q rfl
theorem anZ3 {c : Prop} {x : Bool} {I : Decidable c} (Q : QI q h) (e : c ↔ x = true) : Ends (@ite _ c I (rZ (1 : Int32) h) (rZ (0 : Int32) h)) (AN q (bn x)) := by
  by_cases d : c
  · rw [if_pos d]
    exact anZ Q (by rw [e.1 d]; rfl)
  · rw [if_neg d]
    have : x = false := by rw [← Bool.not_eq_true]; exact fun z => d (e.2 z)
    exact anZ Q (by rw [this]; rfl)
theorem anZ4 {c : Prop} {x : Bool} {I : Decidable c} (Q : QI q h) (e : c ↔ x = false) : Ends (@ite _ c I (rZ (0 : Int32) h) (rZ (1 : Int32) h)) (AN q (bn x)) := by
  by_cases d : c
  · rw [if_pos d]
    exact anZ Q (by rw [e.1 d]; rfl)
  · rw [if_neg d]
    have : x = true := by rw [← Bool.not_eq_false]; exact fun z => d (e.2 z)
    exact anZ Q (by rw [this]; rfl)
theorem bn_0 {x : Bool} : ii (bn x) = 0 ↔ x = false := by cases x <;> decide
theorem b_j67 {w sg y v : Nat} (Q : QI q h) (e : h.1 a = some (.inr (15, [.int (ii w), .int (ii sg), .int (ii y)]))) (hs : 60 ≤ sg ∧ sg ≤ 62) (hy : y ≤ 999) (hv : v ≤ 100000) : Ends (c_CC_is_j67 rg h a (ii v)) (AN q (bn (cmpA sg v y))) := by
  unfold c_CC_is_j67 cmpA
  refine q_gI e (by decide) rfl ?_
  by_cases c60 : sg = 60
  · refine q_pos _ (by rw [c60]; rfl) ?_
    refine q_gI e (by decide) rfl ?_
    rw [if_pos c60]
    refine anZ4 Q ?_
    rw [ii_le (by omega), decide_eq_false_iff_not]
    omega
  refine q_neg _ (ii_eqF (b := 60) (by omega)) ?_
  refine q_gI e (by decide) rfl ?_
  rw [if_neg c60]
  by_cases c61 : sg = 61
  · refine q_pos _ (by rw [c61]; rfl) ?_
    refine q_gI e (by decide) rfl ?_
    rw [if_pos c61]
    refine anZ3 Q ?_
    rw [ii_eq (by omega), decide_eq_true_iff]
    omega
  refine q_neg _ (ii_eqF (b := 61) (by omega)) ?_
  refine q_gI e (by decide) rfl ?_
  rw [if_neg c61]
  refine anZ4 Q ?_
  rw [ii_le (by omega), decide_eq_false_iff_not]
  omega
theorem beg_dff {l k : List Bool} : (dff l k (min l.length k.length) 0 = -1 ∨ dff l k (min l.length k.length) 0 = (k.length : Int)) ↔ begA l k = true := by
  have d := dfr_le (l := l) (k := k) (m := min l.length k.length) (p := 0)
  rw [dff_dfr (by omega)]
  unfold begA
  rw [decide_eq_true_iff]
  by_cases c : l.length = k.length ∧ dfr l k (min l.length k.length) 0 = l.length
  · rw [if_pos c]; omega
  · rw [if_neg c]; omega
theorem lik_dff {l k : List Bool} : dff l k (min l.length k.length) 0 = -1 ↔ likA l k = true := by
  have d := dfr_le (l := l) (k := k) (m := min l.length k.length) (p := 0)
  rw [dff_dfr (by omega)]
  unfold likA
  rw [decide_eq_true_iff]
  by_cases c : l.length = k.length ∧ dfr l k (min l.length k.length) 0 = l.length
  · rw [if_pos c]; exact ⟨fun _ => c, fun _ => rfl⟩
  · rw [if_neg c]; omega
theorem dff_le {l k : List Bool} : -1 ≤ dff l k (min l.length k.length) 0 ∧ dff l k (min l.length k.length) 0 ≤ min l.length k.length := by
  have d := dfr_le (l := l) (k := k) (m := min l.length k.length) (p := 0)
  rw [dff_dfr (by omega)]
  by_cases c : l.length = k.length ∧ dfr l k (min l.length k.length) 0 = l.length
  · rw [if_pos c]; omega
  · rw [if_neg c]; omega
theorem b_cond (hp : p < 4) (hn : n ≤ 4) (qk : ∀ h, QI q h → ∀ x c, q.h0.1 x = some c → 26 ≤ kd c → kd c ≤ 34 → h.1 x = some c) : ∀ (d D a k : Nat) (h : PH), d ≤ D → SW n nt d k → CR own B q.h0 nt d a k → QI q h → Ends (dspC h a fun i => c_g_cond D i h a q.B (ii p)) (AN q (bn (holdA nt q.A p d k))) := by
  intro d
  induction d with
  | zero => intro D a k h hD W C Q; exact W.elim
  | succ d ih =>
    intro D a k h hD W C Q
    obtain ⟨D, rfl⟩ : ∃ x, D = x + 1 := ⟨D - 1, by omega⟩
    obtain ⟨_, W⟩ := W
    obtain ⟨_, C⟩ := C
    have bd := Q.bnd (show p < 11 by omega)
    rcases C with ⟨e, a1, c, C1⟩ | ⟨e, a1, a2, c, C1, C2⟩ | ⟨e, a1, a2, c, C1, C2⟩ | ⟨w, x, w4, e, c, hx⟩ | ⟨w, w5, e, c⟩
    · have ck : ∀ h, QI q h → h.1 a = some (.inr (13, [.ref a1])) := fun h Q => qk h Q _ _ c (by show 26 ≤ 2 * 13; decide) (by show 2 * 13 ≤ 34; decide)
      have W1 : SW n nt d (nt k).2.1 := by rcases W with ⟨_, _, y⟩ | ⟨y, _⟩ | ⟨y, _⟩ | y | ⟨y, _⟩ | ⟨y, _⟩ <;> first | exact y | omega
      have ed : dspC h a (fun i => c_g_cond (D + 1) i h a q.B (ii p)) = b_CN_is (c_g_cond D) h a q.B (ii p) := by unfold dspC; rw [ck h Q]; rfl
      rw [ed, hold1 e]
      unfold b_CN_is
      refine q_grd (ck h Q) (by decide) ?_
      refine q_gQr (ck h Q) (by decide) rfl ?_
      refine q_nn ?_
      refine q_hA (ih D a1 _ h (by omega) W1 C1 Q) fun h1 Q1 => ?_
      refine anZ3 Q1 ?_
      rw [bn_0]
      cases holdA nt q.A p d (nt k).2.1 <;> decide
    · have ck : ∀ h, QI q h → h.1 a = some (.inr (16, [.ref a1, .ref a2])) := fun h Q => qk h Q _ _ c (by show 26 ≤ 2 * 16; decide) (by show 2 * 16 ≤ 34; decide)
      have W1 : SW n nt d (nt k).2.1 ∧ SW n nt d (nt k).2.2.1 := by rcases W with ⟨y, _⟩ | ⟨_, _, y1, y2⟩ | ⟨y, _⟩ | y | ⟨y, _⟩ | ⟨y, _⟩ <;> first | exact ⟨y1, y2⟩ | omega
      have ed : dspC h a (fun i => c_g_cond (D + 1) i h a q.B (ii p)) = b_CB_is (c_g_cond D) h a q.B (ii p) := by unfold dspC; rw [ck h Q]; rfl
      rw [ed, hold2 e]
      unfold b_CB_is
      refine q_grd (ck h Q) (by decide) ?_
      refine q_gQr (ck h Q) (by decide) rfl ?_
      refine q_nn ?_
      refine q_hA (ih D a1 _ h (by omega) W1.1 C1 Q) fun h1 Q1 => ?_
      cases hh : holdA nt q.A p d (nt k).2.1 with
      | false =>
        refine q_pos _ rfl ?_
        rw [Bool.false_and]
        exact anZ Q1 rfl
      | true =>
        refine q_neg _ bn1_ne ?_
        rw [Bool.true_and]
        refine q_gQr (ck h1 Q1) (by decide) rfl ?_
        refine q_nn ?_
        refine q_hA (ih D a2 _ h1 (by omega) W1.2 C2 Q1) fun h2 Q2 => ?_
        exact anZ4 Q2 bn_0
    · have ck : ∀ h, QI q h → h.1 a = some (.inr (17, [.ref a1, .ref a2])) := fun h Q => qk h Q _ _ c (by show 26 ≤ 2 * 17; decide) (by show 2 * 17 ≤ 34; decide)
      have W1 : SW n nt d (nt k).2.1 ∧ SW n nt d (nt k).2.2.1 := by rcases W with ⟨y, _⟩ | ⟨y, _⟩ | ⟨_, _, y1, y2⟩ | y | ⟨y, _⟩ | ⟨y, _⟩ <;> first | exact ⟨y1, y2⟩ | omega
      have ed : dspC h a (fun i => c_g_cond (D + 1) i h a q.B (ii p)) = b_CA_is (c_g_cond D) h a q.B (ii p) := by unfold dspC; rw [ck h Q]; rfl
      rw [ed, hold3 e]
      unfold b_CA_is
      refine q_grd (ck h Q) (by decide) ?_
      refine q_gQr (ck h Q) (by decide) rfl ?_
      refine q_nn ?_
      refine q_hA (ih D a1 _ h (by omega) W1.1 C1 Q) fun h1 Q1 => ?_
      cases hh : holdA nt q.A p d (nt k).2.1 with
      | false =>
        refine q_pos _ rfl ?_
        rw [Bool.false_or]
        refine q_gQr (ck h1 Q1) (by decide) rfl ?_
        refine q_nn ?_
        refine q_hA (ih D a2 _ h1 (by omega) W1.2 C2 Q1) fun h2 Q2 => ?_
        exact anZ4 Q2 bn_0
      | true =>
        refine q_neg _ bn1_ne ?_
        rw [Bool.true_or]
        exact anZ Q1 rfl
    · have ck : ∀ h, QI q h → h.1 a = some (.inr (14, [.int (ii w), .int (ii x)])) := fun h Q => qk h Q _ _ c (by show 26 ≤ 2 * 14; decide) (by show 2 * 14 ≤ 34; decide)
      have W1 : 2 ≤ w → (nt k).2.1 < n := fun q2 => by rcases W with ⟨y, _⟩ | ⟨y, _⟩ | ⟨y, _⟩ | y | ⟨_, y⟩ | ⟨y, _⟩ <;> omega
      have ed : dspC h a (fun i => c_g_cond (D + 1) i h a q.B (ii p)) = b_CM_is (c_g_cond D) h a q.B (ii p) := by unfold dspC; rw [ck h Q]; rfl
      rw [ed]
      unfold b_CM_is
      refine q_grd (ck h Q) (by decide) ?_
      refine q_hQ (g_rope Q hp) fun v h1 ⟨ev, Q1⟩ => ?_
      subst ev
      have Qi := Q1.i
      refine q_gI (ck h1 Qi) (by decide) rfl ?_
      by_cases w0 : w = 0
      · subst w0
        refine q_pos _ rfl ?_
        refine q_nn ?_
        obtain ⟨_, _, P⟩ := Q1.rp hp
        refine q_hIe (p_wide P) ?_
        rw [hold64 e]
        refine anZ3 Qi ?_
        rw [show (0 : Int32) = ii 0 from rfl, ii_eq (by omega), decide_eq_true_iff]
        omega
      refine q_neg _ (ii_eq0F (by omega)) ?_
      by_cases w1 : w = 1
      · subst w1
        refine q_pos _ rfl ?_
        refine q_nn ?_
        obtain ⟨_, _, P⟩ := Q1.rp hp
        refine q_hIe (p_lit P) ?_
        refine q_nz (by decide) ?_
        rw [hold65 e]
        refine anZ3 Qi ?_
        rw [odd2 (by omega), decide_eq_true_iff]
      refine q_neg _ (ii_eqF (b := 1) (by omega)) ?_
      have x1 := hx (by omega)
      have xn := W1 (by omega)
      subst x1
      have sx : (nt k).2.1 < 4 := by omega
      have bx := Q.bnd (show (nt k).2.1 < 11 by omega)
      have dl := dff_le (l := (q.A p).flatten) (k := (q.A (nt k).2.1).flatten)
      by_cases w2 : w = 2
      · subst w2
        refine q_pos _ rfl ?_
        refine q_gI (ck h1 Qi) (by decide) rfl ?_
        refine q_hA (b_differs Qi hp sx) fun h2 Q2 => ?_
        rw [hold66 e]
        refine anZ3 Q2 ?_
        rw [mi1, ii_eq (by omega)]
        exact lik_dff
      refine q_neg _ (ii_eqF (b := 2) (by omega)) ?_
      have w3 : w = 3 := by omega
      subst w3
      refine q_gI (ck h1 Qi) (by decide) rfl ?_
      refine q_hA (b_differs Qi hp sx) fun h2 Q2 => ?_
      rw [hold67 e, mi1]
      have bg := beg_dff (l := (q.A p).flatten) (k := (q.A (nt k).2.1).flatten)
      by_cases c1 : dff (q.A p).flatten (q.A (nt k).2.1).flatten (min (q.A p).flatten.length (q.A (nt k).2.1).flatten.length) 0 = -1
      · refine q_pos _ (by rw [c1]) ?_
        rw [bg.1 (Or.inl c1)]
        exact anZ Q2 rfl
      · refine q_neg _ (ii_eqF (by omega)) ?_
        refine q_gI (ck h2 Q2) (by decide) rfl ?_
        refine q_wide Q2 sx fun h3 Q3 => ?_
        refine anZ3 Q3.i ?_
        rw [ii_eq (by omega)]
        exact ⟨fun z => bg.1 (Or.inr z), fun z => (bg.2 z).resolve_left c1⟩
    · have ck : ∀ h, QI q h → h.1 a = some (.inr (15, [.int (ii w), .int (ii (nt k).2.2.2), .int (ii (nt k).2.2.1)])) := fun h Q => qk h Q _ _ c (by show 26 ≤ 2 * 15; decide) (by show 2 * 15 ≤ 34; decide)
      have W1 : (nt k).2.2.1 ≤ 999 ∧ 60 ≤ (nt k).2.2.2 ∧ (nt k).2.2.2 ≤ 62 := by rcases W with ⟨y, _⟩ | ⟨y, _⟩ | ⟨y, _⟩ | y | ⟨y, _⟩ | ⟨_, _, y⟩ <;> omega
      have ed : dspC h a (fun i => c_g_cond (D + 1) i h a q.B (ii p)) = b_CC_is (c_g_cond D) h a q.B (ii p) := by unfold dspC; rw [ck h Q]; rfl
      rw [ed, hold68 e]
      unfold b_CC_is
      refine q_grd (ck h Q) (by decide) ?_
      refine q_hQ (g_rope Q hp) fun v h1 ⟨ev, Q1⟩ => ?_
      subst ev
      have Qi := Q1.i
      obtain ⟨_, _, P⟩ := Q1.rp hp
      refine q_gI (ck h1 Qi) (by decide) rfl ?_
      unfold valA
      by_cases w0 : w = 0
      · rw [if_pos w0]
        refine q_pos _ (by rw [w0]; rfl) ?_
        refine q_nn ?_
        refine q_hIe (p_wide P) ?_
        exact b_j67 Qi (ck h1 Qi) W1.2 W1.1 (by omega)
      rw [if_neg w0]
      refine q_neg _ (ii_eq0F (by omega)) ?_
      refine q_gI (ck h1 Qi) (by decide) rfl ?_
      by_cases w1 : w = 1
      · rw [if_pos w1]
        refine q_pos _ (by rw [w1]; rfl) ?_
        refine q_nn ?_
        refine q_hIe (p_lit P) ?_
        exact b_j67 Qi (ck h1 Qi) W1.2 W1.1 (by omega)
      rw [if_neg w1]
      refine q_neg _ (ii_eqF (b := 1) (by omega)) ?_
      refine q_gI (ck h1 Qi) (by decide) rfl ?_
      by_cases w2 : w = 2
      · rw [if_pos w2]
        refine q_pos _ (by rw [w2]; rfl) ?_
        refine q_hA (b_runsOf Qi hp) fun h2 Q2 => ?_
        have := rn_le (q.A p).flatten (q.A p).flatten.length 0
        exact b_j67 Q2 (ck h2 Q2) W1.2 W1.1 (by omega)
      rw [if_neg w2]
      refine q_neg _ (ii_eqF (b := 2) (by omega)) ?_
      refine q_gI (ck h1 Qi) (by decide) rfl ?_
      by_cases w3 : w = 3
      · rw [if_pos w3]
        refine q_pos _ (by rw [w3]; rfl) ?_
        refine q_nn ?_
        refine q_hIe (p_folds P) ?_
        exact b_j67 Qi (ck h1 Qi) W1.2 W1.1 (by omega)
      rw [if_neg w3]
      refine q_neg _ (ii_eqF (b := 3) (by omega)) ?_
      exact b_j67 Qi (ck h1 Qi) W1.2 W1.1 (by omega)
end
