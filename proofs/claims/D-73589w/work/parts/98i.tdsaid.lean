/-! PURE SIDE: sentences: what is said: the model; both sides -/
set_option maxRecDepth 100000
/-- rows that hold are counted, or one of them is sought -/
def saidA (nt : NT) (top : Nat) (A : Nat → LL) (x : Int) : Nat → Nat → Nat → Int
  | 0, _, c => if x = -1 then (c : Int) else -1
  | m + 1, p, c => if holdA nt A p 60 top = false then saidA nt top A x m (p + 1) c else if (c : Int) = x then (p : Int) else saidA nt top A x m (p + 1) (c + 1)
def sayA (n : Nat) (A : Nat → LL) (x : Int) (o : Option SX) : Int := match o with
  | none => -1
  | some s => saidA s.1 s.2 A x n 0 0
theorem said_no {nt : NT} {top : Nat} {A : Nat → LL} {x : Int} (hx : x < -1) : ∀ m p c, saidA nt top A x m p c = -1 := by
  intro m
  induction m with
  | zero => intro p c; rw [saidA, if_neg (by omega)]
  | succ m ih =>
    intro p c
    rw [saidA]
    by_cases h : holdA nt A p 60 top = false
    · rw [if_pos h]; exact ih _ _
    · rw [if_neg h, if_neg (by omega)]; exact ih _ _
section
variable {ms : MS} {n top p : Nat} {A : Nat → LL} {nt : NT} {Z : Option Value → MS → Prop}
theorem dZ3 {c : Prop} {x : Bool} {I : Decidable c} (e : c ↔ x = true) : DE (@ite _ c I (dZ (1 : Int32) ms) (dZ (0 : Int32) ms)) (DA ms (bn x)) := by
  by_cases d : c
  · rw [if_pos d, e.1 d]; exact d_dZ1 ⟨rfl, rfl⟩
  · rw [if_neg d]
    have : x = false := by rw [← Bool.not_eq_true]; exact fun z => d (e.2 z)
    rw [this]; exact d_dZ0 ⟨rfl, rfl⟩
theorem dZ4 {c : Prop} {x : Bool} {I : Decidable c} (e : c ↔ x = false) : DE (@ite _ c I (dZ (0 : Int32) ms) (dZ (1 : Int32) ms)) (DA ms (bn x)) := by
  by_cases d : c
  · rw [if_pos d, e.1 d]; exact d_dZ0 ⟨rfl, rfl⟩
  · rw [if_neg d]
    have : x = true := by rw [← Bool.not_eq_false]; exact fun z => d (e.2 z)
    rw [this]; exact d_dZ1 ⟨rfl, rfl⟩
theorem dZx {x : Bool} : DE (dZ (ii (bn x)) ms) (DA ms (bn x)) := by cases x <;> first | exact d_dZ0 ⟨rfl, rfl⟩ | exact d_dZ1 ⟨rfl, rfl⟩
theorem m_begins {r s : Nat} (M : QM ms n A) (hr : r < 4) (hs : s < 4) : d_M_beginsWith ms (ii r) (ii s) = dI (ii (bn (begA (A r).flatten (A s).flatten))) ms := by
  have b1 := (M.2.2 r hr).2.1
  have b2 := (M.2.2 s hs).2.1
  have d := dfr_le (l := (A r).flatten) (k := (A s).flatten) (m := min (A r).flatten.length (A s).flatten.length) (p := 0)
  refine dEqI ?_
  unfold d_M_beginsWith begA
  refine d_size M hs ?_
  refine d_size M hr ?_
  by_cases c : (A r).flatten.length < (A s).flatten.length
  · refine d_pos _ (ii_ltT (by omega)) ?_
    rw [decide_eq_false (fun z => by omega)]
    exact d_dZ0 ⟨rfl, rfl⟩
  · refine d_neg _ (ii_ltF (by omega)) ?_
    refine d_bIe (m_firstApart M hr hs) ?_
    refine d_size M hs ?_
    refine dZ3 ?_
    rw [ii_eq (by omega), decide_eq_true_iff]
    omega
theorem m_j291 {rg : MS → Int32 → Int32 → Option DR} {sg y v i : Nat} {x3 : Int32} (ex : x3 + (3 : Int32) = ii (i : Int)) (hi : i < 6062) (e : ms.1 14 i = ii sg) (hs : 60 ≤ sg ∧ sg ≤ 62) (hy : y ≤ 999) (hv : v ≤ 100000) : DE (d_M_holds_j291 rg ms x3 (ii y) (ii v)) (DA ms (bn (cmpA sg v y))) := by
  unfold d_M_holds_j291 cmpA
  rw [ex]
  refine d_eA (N := 6062) rfl (n := i) (by omega) e ?_
  by_cases c60 : sg = 60
  · refine d_pos _ (by rw [c60]; rfl) ?_
    rw [if_pos c60]
    refine dZ4 ?_
    rw [ii_le (by omega), decide_eq_false_iff_not]
    omega
  refine d_neg _ (ii_eqF (b := 60) (by omega)) ?_
  refine d_eA (N := 6062) rfl (n := i) (by omega) e ?_
  rw [if_neg c60]
  by_cases c61 : sg = 61
  · refine d_pos _ (by rw [c61]; rfl) ?_
    rw [if_pos c61]
    refine dZ3 ?_
    rw [ii_eq (by omega), decide_eq_true_iff]
    omega
  refine d_neg _ (ii_eqF (b := 61) (by omega)) ?_
  rw [if_neg c61]
  refine dZ4 ?_
  rw [ii_le (by omega), decide_eq_false_iff_not]
  omega
theorem m_hold (M : QM ms n A) (hp : p < 4) (ht : top < 60) (N : ∀ k, k ≤ top → ms.1 14 (5822 + 4 * k) = ii (nt k).1 ∧ ms.1 14 (5822 + 4 * k + 1) = ii (nt k).2.1 ∧ ms.1 14 (5822 + 4 * k + 2) = ii (nt k).2.2.1 ∧ ms.1 14 (5822 + 4 * k + 3) = ii (nt k).2.2.2) : ∀ (d D k : Nat), d ≤ D → k ≤ top → SW n nt d k → d_M_holds D ms (ii k) (ii p) = dI (ii (bn (holdA nt A p d k))) ms := by
  have hn := M.2.1
  intro d
  induction d with
  | zero => intro D k hD hk W; exact W.elim
  | succ d ih =>
    intro D k hD hk W
    obtain ⟨D, rfl⟩ : ∃ x, D = x + 1 := ⟨D - 1, by omega⟩
    obtain ⟨_, W⟩ := W
    obtain ⟨n1, n2, n3, n4⟩ := N k hk
    have bd := (M.2.2 p hp).2
    have ey : (5822 : Int32) + ((4 : Int32) * ii (k : Int)) = ii ((5822 + 4 * k : Nat) : Int) := by
      rw [il_5822, il_4, ii_mul, ii_add]
      congr 1
    have e1 : ii ((5822 + 4 * k : Nat) : Int) + (1 : Int32) = ii ((5822 + 4 * k + 1 : Nat) : Int) := by rw [add1]; rfl
    have e2 : ii ((5822 + 4 * k : Nat) : Int) + (2 : Int32) = ii ((5822 + 4 * k + 2 : Nat) : Int) := by rw [il_2, ii_add]; rfl
    have e3 : ii ((5822 + 4 * k : Nat) : Int) + (3 : Int32) = ii ((5822 + 4 * k + 3 : Nat) : Int) := by rw [il_3, ii_add]; rfl
    show e_M_holds (d_M_holds D) ms (ii k) (ii p) = _
    refine dEqI ?_
    show DE _ (DA ms (bn (holdA nt A p (d + 1) k)))
    unfold e_M_holds
    rw [ey]
    refine d_nm ?_
    rw [e1, e2]
    refine d_eA (N := 6062) rfl (n := 5822 + 4 * k + 1) (by omega) n2 ?_
    refine d_eA (N := 6062) rfl (n := 5822 + 4 * k + 2) (by omega) n3 ?_
    refine d_eA (N := 6062) rfl (n := 5822 + 4 * k) (by omega) n1 ?_
    rcases W with ⟨e, l, W1⟩ | ⟨e, l, W1, W2⟩ | ⟨e, l, W1, W2⟩ | W1 | ⟨e, W1⟩ | ⟨g1, g2, g3, g4, g5⟩
    · refine d_pos _ (by rw [e]; rfl) ?_
      rw [hold1 e]
      refine d_bIe (ih D _ (by omega) (by omega) W1) ?_
      refine dZ3 ?_
      rw [bn_0]
      cases holdA nt A p d (nt k).2.1 <;> decide
    · refine d_neg _ (by rw [e]; decide) ?_
      refine d_pos _ (by rw [e]; rfl) ?_
      rw [hold2 e]
      refine d_bIe (ih D _ (by omega) (by omega) W1) ?_
      cases hh : holdA nt A p d (nt k).2.1 with
      | false =>
        refine d_pos _ rfl ?_
        rw [Bool.false_and]
        exact d_dZ0 ⟨rfl, rfl⟩
      | true =>
        refine d_neg _ bn1_ne ?_
        rw [Bool.true_and]
        refine d_bIe (ih D _ (by omega) (by omega) W2) ?_
        exact dZ4 bn_0
    · refine d_neg _ (by rw [e]; decide) ?_
      refine d_neg _ (by rw [e]; decide) ?_
      refine d_pos _ (by rw [e]; rfl) ?_
      rw [hold3 e]
      refine d_bIe (ih D _ (by omega) (by omega) W1) ?_
      cases hh : holdA nt A p d (nt k).2.1 with
      | false =>
        refine d_pos _ rfl ?_
        rw [Bool.false_or]
        refine d_bIe (ih D _ (by omega) (by omega) W2) ?_
        exact dZ4 bn_0
      | true =>
        refine d_neg _ bn1_ne ?_
        rw [Bool.true_or]
        exact d_dZ1 ⟨rfl, rfl⟩
    · have lt : 64 ≤ (nt k).1 ∧ (nt k).1 ≤ 65 := by omega
      refine d_neg _ (ii_eqF (b := 1) (by omega)) ?_
      refine d_neg _ (ii_eqF (b := 2) (by omega)) ?_
      refine d_neg _ (ii_eqF (b := 3) (by omega)) ?_
      rcases W1 with e | e
      · refine d_pos _ (by rw [e]; rfl) ?_
        rw [hold64 e]
        refine d_size M hp ?_
        refine dZ3 ?_
        rw [show (0 : Int32) = ii 0 from rfl, ii_eq (by omega), decide_eq_true_iff]
        omega
      · refine d_neg _ (by rw [e]; decide) ?_
        refine d_pos _ (by rw [e]; rfl) ?_
        rw [hold65 e]
        refine d_bIe (m_onesOf (M.2.2 p hp).1 hp bd.1) ?_
        refine d_nz (by decide) ?_
        refine dZ3 ?_
        have hc : cnt (A p).flatten ≤ (A p).flatten.length := List.count_le_length
        rw [odd2 (by omega), decide_eq_true_iff]
    · have lt : 66 ≤ (nt k).1 ∧ (nt k).1 ≤ 67 := by omega
      have sx : (nt k).2.1 < 4 := by omega
      refine d_neg _ (ii_eqF (b := 1) (by omega)) ?_
      refine d_neg _ (ii_eqF (b := 2) (by omega)) ?_
      refine d_neg _ (ii_eqF (b := 3) (by omega)) ?_
      refine d_neg _ (ii_eqF (b := 64) (by omega)) ?_
      refine d_neg _ (ii_eqF (b := 65) (by omega)) ?_
      rcases e with e | e
      · refine d_pos _ (by rw [e]; rfl) ?_
        rw [hold66 e]
        refine d_bIe (m_areLike M hp sx) ?_
        exact dZx
      · refine d_neg _ (by rw [e]; decide) ?_
        refine d_pos _ (by rw [e]; rfl) ?_
        rw [hold67 e]
        refine d_bIe (m_begins M hp sx) ?_
        exact dZx
    · obtain ⟨w, ew⟩ : ∃ w, (nt k).1 = 68 + w := ⟨(nt k).1 - 68, by omega⟩
      refine d_neg _ (ii_eqF (b := 1) (by omega)) ?_
      refine d_neg _ (ii_eqF (b := 2) (by omega)) ?_
      refine d_neg _ (ii_eqF (b := 3) (by omega)) ?_
      refine d_neg _ (ii_eqF (b := 64) (by omega)) ?_
      refine d_neg _ (ii_eqF (b := 65) (by omega)) ?_
      refine d_neg _ (ii_eqF (b := 66) (by omega)) ?_
      refine d_neg _ (ii_eqF (b := 67) (by omega)) ?_
      refine d_eA (N := 6062) rfl (n := 5822 + 4 * k) (by omega) n1 ?_
      have e36 : ii ((nt k).1 : Int) - (50 : Int32) = ii ((18 + w : Nat) : Int) := by
        rw [il_50, ii_sub, ew]
        congr 1
        omega
      rw [e36]
      refine d_nm ?_
      rw [hold68 ew]
      unfold valA
      by_cases w0 : w = 0
      · rw [if_pos w0]
        refine d_pos _ (by rw [w0]; rfl) ?_
        refine d_size M hp ?_
        exact m_j291 e3 (by omega) n4 ⟨g4, g5⟩ g3 (by omega)
      rw [if_neg w0]
      refine d_neg _ (ii_eqF (b := 18) (by omega)) ?_
      by_cases w1 : w = 1
      · rw [if_pos w1]
        refine d_pos _ (by rw [w1]; rfl) ?_
        refine d_bIe (m_onesOf (M.2.2 p hp).1 hp bd.1) ?_
        have hc : cnt (A p).flatten ≤ (A p).flatten.length := List.count_le_length
        exact m_j291 e3 (by omega) n4 ⟨g4, g5⟩ g3 (by omega)
      rw [if_neg w1]
      refine d_neg _ (ii_eqF (b := 19) (by omega)) ?_
      by_cases w2 : w = 2
      · rw [if_pos w2]
        refine d_pos _ (by rw [w2]; rfl) ?_
        refine d_bIe (m_runsOf M hp) ?_
        have := rn_le (A p).flatten (A p).flatten.length 0
        exact m_j291 e3 (by omega) n4 ⟨g4, g5⟩ g3 (by omega)
      rw [if_neg w2]
      refine d_neg _ (ii_eqF (b := 20) (by omega)) ?_
      by_cases w3 : w = 3
      · rw [if_pos w3]
        refine d_pos _ (by rw [w3]; rfl) ?_
        have e11 : (2611 : Int32) + ii (p : Int) = ii ((2611 + p : Nat) : Int) := by rw [il_2611, ii_add]; rfl
        rw [e11]
        refine d_eA (N := 6062) rfl (n := 2611 + p) (by omega) (M.2.2 p hp).1.2.1 ?_
        exact m_j291 e3 (by omega) n4 ⟨g4, g5⟩ g3 (by omega)
      rw [if_neg w3]
      refine d_neg _ (ii_eqF (b := 21) (by omega)) ?_
      exact m_j291 e3 (by omega) n4 ⟨g4, g5⟩ g3 (by omega)
theorem m_said_l22 {x : Int} (hx : -2147483648 ≤ x ∧ x < 2147483648) (M : QM ms n A) (ht : top < 60) (h21 : ms.1 14 5821 = ii top) (N : ∀ k, k ≤ top → ms.1 14 (5822 + 4 * k) = ii (nt k).1 ∧ ms.1 14 (5822 + 4 * k + 1) = ii (nt k).2.1 ∧ ms.1 14 (5822 + 4 * k + 2) = ii (nt k).2.2.1 ∧ ms.1 14 (5822 + 4 * k + 3) = ii (nt k).2.2.2) (W : SW n nt 60 top) : ∀ (m fu p c : Nat), m < fu → p + m = n → c ≤ p → DE (itr (d_M_said_l22) (fun _ _ _ _ => none) fu ms (ii x) (ii c) (ii p)) (DA ms (saidA nt top A x m p c)) := by
  have hn := M.2.1
  intro m
  induction m with
  | zero =>
    intro fu p c hf hp hc
    obtain ⟨fu, rfl⟩ : ∃ x, fu = x + 1 := ⟨fu - 1, by omega⟩
    rw [itr_succ]
    unfold d_M_said_l22
    refine d_eA (z := 0) (N := 6062) rfl (n := 0) (by omega) M.1 ?_
    refine d_pos _ (ii_leT (by omega)) ?_
    rw [mi1, saidA]
    by_cases q : x = -1
    · refine d_pos _ (by rw [q]) ?_
      rw [if_pos q]
      exact d_an rfl
    · refine d_neg _ (ii_eqF (by omega)) ?_
      rw [if_neg q]
      exact d_an rfl
  | succ m ih =>
    intro fu p c hf hp hc
    obtain ⟨fu, rfl⟩ : ∃ x, fu = x + 1 := ⟨fu - 1, by omega⟩
    rw [itr_succ]
    unfold d_M_said_l22
    refine d_eA (z := 0) (N := 6062) rfl (n := 0) (by omega) M.1 ?_
    refine d_neg _ (ii_leF (by omega)) ?_
    refine d_eA (z := 5821) (N := 6062) rfl (n := 5821) (by omega) h21 ?_
    refine d_bIe (m_hold M (by omega) ht N 60 64 top (by decide) (Nat.le_refl _) W) ?_
    rw [saidA]
    cases hh : holdA nt A p 60 top with
    | false =>
      refine d_pos _ rfl ?_
      rw [if_pos rfl, add1]
      exact ih fu (p + 1) c (by omega) (by omega) (by omega)
    | true =>
      refine d_neg _ bn1_ne ?_
      rw [if_neg (show ¬ (true = false) by decide)]
      by_cases cx : (c : Int) = x
      · refine d_pos _ (by rw [cx]) ?_
        rw [if_pos cx]
        exact d_an rfl
      · refine d_neg _ (ii_eqF (by omega)) ?_
        rw [if_neg cx, add1, add1]
        exact ih fu (p + 1) (c + 1) (by omega) (by omega) (by omega)
theorem m_said {X : XS} {x : Int} (hx : -2147483648 ≤ x ∧ x < 2147483648) (M : CM X ms) (I : XI X) : d_M_said ms (ii x) = dI (ii (sayA X.w.n X.w.A x X.w.sn)) (mset ms 0 0 0) := by
  have Q : QM (mset ms 0 0 0) X.w.n X.w.A := (M.qm I).thr
  have e14 : (mset ms 0 0 0).1 14 = ms.1 14 := ms_nk (by decide)
  obtain ⟨_, w4, w5⟩ := M.2.2.1
  refine dEqI ?_
  show DE _ (DA (mset ms 0 0 0) (sayA X.w.n X.w.A x X.w.sn))
  unfold d_M_said
  refine d_nm ?_
  cases hs : X.w.sn with
  | none =>
    refine d_eA (z := 5820) (N := 6062) rfl (n := 5820) (by omega) (show (mset ms 0 0 0).1 14 5820 = ii 0 by rw [e14]; exact w4 hs) ?_
    refine d_pos _ rfl ?_
    exact d_an rfl
  | some s =>
    obtain ⟨d1, d2, d3⟩ := w5 s hs
    have W := I.1.2.2.2.2 s hs
    refine d_eA (z := 5820) (N := 6062) rfl (n := 5820) (by omega) (show (mset ms 0 0 0).1 14 5820 = ii 1 by rw [e14]; exact d1) ?_
    refine d_neg _ (by decide) ?_
    exact m_said_l22 hx Q W.1 (by rw [e14]; exact d2) (fun k hk => by rw [e14]; exact d3 k hk) W X.w.n FU 0 0 (by have := I.1.1; unfold FU; omega) (by omega) (by omega)
end
section
variable {q : QP} {h : PH} {own : Nat → Nat} {B top a : Nat} {nt : NT}
theorem b_said_l18 {x : Int} (hx : -1 ≤ x ∧ x < 2147483648) (e19 : q.fs[19]? = some (.ref a)) (qk : ∀ h, QI q h → ∀ x c, q.h0.1 x = some c → 26 ≤ kd c → kd c ≤ 34 → h.1 x = some c) (W : SW q.n nt 60 top) (C : CR own B q.h0 nt 60 a top) : ∀ (m fu p c : Nat) (h : PH), m < fu → p + m = q.n → c ≤ p → QI q h → Ends (itr (c_B_said_l18) (fun _ _ _ _ _ => none) fu h q.B (ii x) (ii c) (ii p)) (AN q (saidA nt top q.A x m p c)) := by
  intro m
  induction m with
  | zero =>
    intro fu p c h hf hp hc Q
    obtain ⟨fu, rfl⟩ : ∃ x, fu = x + 1 := ⟨fu - 1, by omega⟩
    have bc := Q.bc
    have hn := Q.n4
    rw [itr_succ]
    unfold c_B_said_l18
    refine q_gQr bc.1 (by decide) bc.2.1 ?_
    refine q_nn ?_
    refine q_gI bc.2.2.2.1 (by decide) bc.2.2.2.2.1 ?_
    refine q_pos _ (ii_leT (by omega)) ?_
    rw [mi1, saidA]
    by_cases g : x = -1
    · refine q_pos _ (by rw [g]) ?_
      rw [if_pos g]
      exact q_an rfl Q
    · refine q_neg _ (ii_eqF (by omega)) ?_
      rw [if_neg g]
      exact q_an rfl Q
  | succ m ih =>
    intro fu p c h hf hp hc Q
    obtain ⟨fu, rfl⟩ : ∃ x, fu = x + 1 := ⟨fu - 1, by omega⟩
    have bc := Q.bc
    have hn := Q.n4
    rw [itr_succ]
    unfold c_B_said_l18
    refine q_gQr bc.1 (by decide) bc.2.1 ?_
    refine q_nn ?_
    refine q_gI bc.2.2.2.1 (by decide) bc.2.2.2.2.1 ?_
    refine q_neg _ (ii_leF (by omega)) ?_
    refine q_gQr bc.1 (by decide) e19 ?_
    refine q_nn ?_
    refine q_hA (b_cond (by omega) hn qk 60 64 a top h (by decide) W C Q) fun h1 Q1 => ?_
    rw [saidA]
    cases hh : holdA nt q.A p 60 top with
    | false =>
      refine q_pos _ rfl ?_
      rw [if_pos rfl, add1]
      exact ih fu (p + 1) c h1 (by omega) (by omega) (by omega) Q1
    | true =>
      refine q_neg _ bn1_ne ?_
      rw [if_neg (show ¬ (true = false) by decide)]
      by_cases cx : (c : Int) = x
      · refine q_pos _ (by rw [cx]) ?_
        rw [if_pos cx]
        exact q_an rfl Q1
      · refine q_neg _ (ii_eqF (by omega)) ?_
        rw [if_neg cx, add1, add1]
        exact ih fu (p + 1) (c + 1) h1 (by omega) (by omega) (by omega) Q1
end
section
variable {b own own' : Nat → Nat} {X : XS} {h h' : PH} {c s : Nat} {ms : MS}
/-- a question asked, the sentence seen -/
theorem CB.askS (C : CB b own X c s h) (I : XI X) : ∃ q N T sn, Q0 q N T ∧ q.B = b 0 ∧ q.h0 = h ∧ q.n = X.w.n ∧ q.A = X.w.A ∧ q.fs[19]? = some (va_rf sn) ∧ SnR own (b 0) h sn X.w.sn ∧ (∃ fs, q.h0.1 q.z = some (.inr (3, fs))) ∧ ∀ h', QE q h' → ∃ own', CB b own' X (c + 6300) (s + 33600) h' ∧ FX own own' (b 0) (b 16) h h' := by
  obtain ⟨held, rm, z, z', skm, sn, R, R', N, N', Tb, seed, rows', seed', e0, sk, D, S, z1, z2⟩ := C
  obtain ⟨na, f, r1, _⟩ := D.2.2.2.2.2.1
  refine ⟨(own, h, b 0, rm, z, X.w.n, X.w.low, _, _, X.w.A, R, ii X.w.n, seed, h.2.1.1 + 2 * s11 N + 6300, h.2.1.2 + 7 * s11 N + 33600), N, Tb, sn, ⟨S.1, ⟨e0, rfl, rfl, r1, rfl, I.1.1⟩, S.2.2.2, Nat.le_refl _, Nat.le_refl _⟩, rfl, rfl, rfl, rfl, rfl, D.2.2.2.2.2.2, S.zc, fun h' Q => ?_⟩
  obtain ⟨own', N2, T2, S2, C2, G, y1, y2⟩ := Q
  have y1 : h'.2.1.1 + 2 * s11 N2 ≤ h.2.1.1 + 2 * s11 N + 6300 := y1
  have y2 : h'.2.1.2 + 7 * s11 N2 ≤ h.2.1.2 + 7 * s11 N + 33600 := y2
  exact ⟨own', ⟨held, rm, z, z', skm, sn, R, R', N2, N', T2, seed, rows', seed', C2.1, sk, D.kx (S.kx G D), S.gf (T := X.w.T) S2 G, by omega, by omega⟩, S.fx G⟩
theorem td_said {x : Int} (hx : -2147483648 ≤ x ∧ x < 2147483648) : TD b (fun h => c_B_said h (b 0) (ii x)) (fun ms => d_M_said ms (ii x)) := by
  intro own X c s h ms C I M
  obtain ⟨q, N, T, sn, Q, e1, e2, e3, e4, e19, Sn, ez, k⟩ := C.askS I
  have qk : ∀ h, QI q h → ∀ x c, q.h0.1 x = some c → 26 ≤ kd c → kd c ≤ 34 → h.1 x = some c := fun h Qh x c e k1 k2 => by
    obtain ⟨_, _, _, _, _, G, _⟩ := Qh
    obtain ⟨fs, ez⟩ := ez
    refine G.kd e (fun w => ?_) ?_
    · rw [w, ez] at e
      injection e with e
      rw [← e] at k1
      exact absurd k1 (by show ¬ (26 ≤ 2 * 3); decide)
    · unfold rK tK
      simp only [Bool.or_eq_false_iff, beq_eq_false_iff_ne]
      omega
  have key : Ends (c_B_said q.h0 q.B (ii x)) (AN q (sayA X.w.n X.w.A x X.w.sn)) := by
    have Qi := Q.i
    unfold c_B_said
    refine q_grd Qi.cell (by decide) ?_
    cases hs : X.w.sn with
    | none =>
      rw [hs] at Sn
      have Sn : sn = none := Sn
      subst Sn
      refine q_gQ (v := none) Qi.cell (by decide) e19 ?_
      refine q_pos _ rfl ?_
      exact q_an rfl Qi
    | some sx =>
      rw [hs] at Sn
      obtain ⟨a, ea, cr⟩ := Sn
      subst ea
      have W := I.1.2.2.2.2 sx hs
      rw [← e3] at W
      rw [← e2] at cr
      refine q_gQr Qi.cell (by decide) e19 ?_
      refine q_neg _ (Option.some_ne_none _) ?_
      show Ends _ (AN q (saidA sx.1 sx.2 X.w.A x X.w.n 0 0))
      rw [mi1]
      by_cases g : -1 ≤ x
      · refine q_pos _ (ii_leT (by omega)) ?_
        rw [← e4, ← e3]
        exact b_said_l18 ⟨g, hx.2⟩ e19 qk W cr q.n FU 0 0 q.h0 (by have := Qi.n4; unfold FU; omega) (by omega) (by omega) Qi
      · refine q_neg _ (ii_leF (by omega)) ?_
        rw [said_no (by omega)]
        exact q_an rfl Qi
  obtain ⟨r, h', p1, v, p2, p3, Q1⟩ := key
  obtain ⟨own', C', F⟩ := k h' Q1.e
  subst p2
  rw [e1, e2] at p1
  exact ⟨v, h', mset ms 0 0 0, own', X, p1, by rw [p3]; exact m_said hx M I, C'.wk (by omega) (by omega), I, M.set (by decide), F⟩
end
