/-! PURE SIDE: the start: a state, the readers, a fault -/
set_option maxRecDepth 100000
abbrev rope0 : List Value := [.null, .null, .int 0, .int 0, .int 0, .int 0, .int 0, .int 0, .int 0]
abbrev rope1 (w : Nat) : PC := .inr (4, [.ref w, .null, .int 0, .int 0, .int 0, .int 0, .int 0, .int 0, .int 0])
abbrev row0 : PC := qA 4 152 (fun _ => none)
section
variable {h h0 h1 : PH} {Z : Rt → PH → Prop}
/-- a rope -/
theorem n_rope {K : Nat → PH → Option RH} (w : Wf h) (kk : ∀ h', h'.1 h.2.1.1 = some (rope1 (h.2.1.1 + 1)) → h'.1 (h.2.1.1 + 1) = some row0 → (∀ x c, h.1 x = some c → h'.1 x = some c) → Wf h' → h'.2 = ((h.2.1.1 + 2, h.2.1.2 + 161), h.2.2) → Ends (K h.2.1.1 h') Z) : Ends (newO h 4 [.null, .null, .int 0, .int 0, .int 0, .int 0, .int 0, .int 0, .int 0] fun a2 h3 => hV (c_R_init h3 a2) noX fun h4 => K a2 h4) Z := by
  refine q_newO ?_
  have w3 : Wf (hnew h 9 (.inr (4, rope0))) := w.new
  have e3 : (hnew h 9 (.inr (4, rope0))).1 h.2.1.1 = some (.inr (4, rope0)) := new_eq
  have s3 : (hnew h 9 (.inr (4, rope0))).2 = ((h.2.1.1 + 1, h.2.1.2 + 9), h.2.2) := rfl
  have o3 : ∀ x c, h.1 x = some c → (hnew h 9 (.inr (4, rope0))).1 x = some c := fun x c e => new_old w e
  show Ends (hV (c_R_init (hnew h 9 (.inr (4, rope0))) h.2.1.1) noX _) Z
  generalize hnew h 9 (.inr (4, rope0)) = h3 at *
  have s31 : h3.2.1.1 = h.2.1.1 + 1 := by rw [s3]
  have ki : Ends (c_R_init h3 h.2.1.1) (fun r h4 => r = .inl none ∧ Ends (K h.2.1.1 h4) Z) := by
    unfold c_R_init
    refine q_grd e3 (by decide) ?_
    refine n_arr (z := 152) (t := 4) e3 (by decide) (Nat.le_of_ble_eq_true rfl) w3 (by decide) fun h4 f1 f2 f3 f4 => ?_
    rw [s31] at f1 f2
    have ne : ∀ x c, h.1 x = some c → x ≠ h.2.1.1 := fun x c e => Nat.ne_of_lt (w.lt e)
    refine q_rV ⟨rfl, kk h4 f1 f2 (fun x c e => f3.2.2.2 x c (o3 x c e) (ne x c e)) f3.2.1 ?_⟩
    refine Prod.ext ?_ ?_
    · rw [f4, s3]; rfl
    · rw [f3.1, s3]
  obtain ⟨r, h4, y1, y2, y3⟩ := ki
  rw [y1, y2]
  exact y3
/-- while a state is made: n is the place of its first row -/
def SJ (h0 : PH) (z n k : Nat) (h : PH) : Prop := (∃ rf nf, h.1 z = some (.inr (3, [.ref n, .ref (n + 1), .int 0, .int 0])) ∧ h.1 n = some (qA 7 4 rf) ∧ h.1 (n + 1) = some (qA 7 7 nf) ∧ (∀ j, j < 4 → j < k → rf j = some (n + 2 + 2 * j)) ∧ (∀ j, j < 7 → 4 + j < k → nf j = some (n + 2 + 2 * (4 + j)))) ∧ (∀ j, j < k → h.1 (n + 2 + 2 * j) = some (rope1 (n + 3 + 2 * j)) ∧ h.1 (n + 3 + 2 * j) = some row0) ∧ Wf h ∧ h.2 = ((n + 2 + 2 * k, h0.2.1.2 + 11 + 161 * k), h0.2.2) ∧ z < n ∧ ∀ x c, h0.1 x = some c → x < n → x ≠ z → h.1 x = some c
theorem SJ.size {z n k : Nat} (S : SJ h0 z n k h) : h.2.1.1 = n + 2 + 2 * k := by rw [S.2.2.2.1]
theorem SJ.step {z n k : Nat} (S : SJ h0 z n k h) (hk : k < 11) {r : Nat} {f : Nat → Option Nat} {rf nf : Nat → Option Nat} (e1 : h1.1 h.2.1.1 = some (rope1 (h.2.1.1 + 1))) (e2 : h1.1 (h.2.1.1 + 1) = some row0) (o : ∀ x c, h.1 x = some c → h1.1 x = some c) (w : Wf h1) (s1 : h1.2 = ((h.2.1.1 + 2, h.2.1.2 + 161), h.2.2)) (g1 : h.1 z = some (.inr (3, [.ref n, .ref (n + 1), .int 0, .int 0]))) (g2 : h.1 n = some (qA 7 4 rf)) (g3 : h.1 (n + 1) = some (qA 7 7 nf)) (g4 : ∀ j, j < 4 → j < k → rf j = some (n + 2 + 2 * j)) (g5 : ∀ j, j < 7 → 4 + j < k → nf j = some (n + 2 + 2 * (4 + j))) (hr : (k < 4 ∧ r = n ∧ f = va_up rf k (some (n + 2 + 2 * k))) ∨ (4 ≤ k ∧ r = n + 1 ∧ f = va_up nf (k - 4) (some (n + 2 + 2 * k)))) : SJ h0 z n (k + 1) (hset h1 r (qA 7 (if k < 4 then 4 else 7) f)) := by
  obtain ⟨_, s2, s3, s4, s5, s6⟩ := S
  have sz : h.2.1.1 = n + 2 + 2 * k := by rw [s4]
  rw [sz] at e1 e2 s1
  have rn : r = n ∨ r = n + 1 := by omega
  have er : ∃ d, h1.1 r = some d := by
    rcases rn with q | q
    · rw [q]; exact ⟨_, o _ _ g2⟩
    · rw [q]; exact ⟨_, o _ _ g3⟩
  obtain ⟨d, er⟩ := er
  refine ⟨?_, fun j hj => ?_, w.setE er, ?_, s5, fun x c e h1 h2 => up_nx (by omega) (o _ _ (s6 x c e h1 h2))⟩
  · rcases hr with ⟨q1, q2, q3⟩ | ⟨q1, q2, q3⟩
    · subst q2 q3
      rw [if_pos q1]
      refine ⟨_, nf, up_nx (by omega) (o _ _ g1), up_eq, up_nx (by omega) (o _ _ g3), fun j h1 h2 => ?_, fun j h1 h2 => by omega⟩
      by_cases c : j = k
      · rw [c, up_at]
      · rw [va_up_ne _ _ c]; exact g4 j h1 (by omega)
    · subst q2 q3
      rw [if_neg (by omega)]
      refine ⟨rf, _, up_nx (by omega) (o _ _ g1), up_nx (by omega) (o _ _ g2), up_eq, fun j h1 h2 => g4 j h1 (by omega), fun j h1 h2 => ?_⟩
      by_cases c : j = k - 4
      · rw [c, up_at, show 4 + (k - 4) = k by omega]
      · rw [va_up_ne _ _ c]; exact g5 j h1 (by omega)
  · by_cases c : j = k
    · subst c
      exact ⟨up_nx (by omega) (by rw [e1, show n + 2 + 2 * j + 1 = n + 3 + 2 * j by omega]), up_nx (by omega) (by rw [show n + 3 + 2 * j = n + 2 + 2 * j + 1 by omega]; exact e2)⟩
    · obtain ⟨t1, t2⟩ := s2 j (by omega)
      exact ⟨up_nx (by omega) (o _ _ t1), up_nx (by omega) (o _ _ t2)⟩
  · show h1.2 = _
    rw [s1, s4]
    refine Prod.ext (Prod.ext ?_ ?_) rfl
    · show n + 2 + 2 * k + 2 = n + 2 + 2 * (k + 1); omega
    · show h0.2.1.2 + 11 + 161 * k + 161 = h0.2.1.2 + 11 + 161 * (k + 1); omega
theorem s_init_l49 {z n : Nat} : ∀ (m fu k : Nat) (h : PH), m < fu → k + m = 7 → SJ h0 z n (4 + k) h → EV (itr (c_S_init_l49) (fun _ _ _ => none) fu h z (ii k)) (fun h' => SJ h0 z n 11 h') := by
  intro m
  induction m with
  | zero =>
    intro fu k h hf hk S
    obtain ⟨fu, rfl⟩ : ∃ x, fu = x + 1 := ⟨fu - 1, by omega⟩
    have e : k = 7 := by omega
    subst e
    refine EV.of ?_
    rw [itr_succ]
    unfold c_S_init_l49
    refine q_pos _ (by decide) ?_
    exact q_rV ⟨rfl, S⟩
  | succ m ih =>
    intro fu k h hf hk S
    obtain ⟨fu, rfl⟩ : ∃ x, fu = x + 1 := ⟨fu - 1, by omega⟩
    have S' := S
    obtain ⟨⟨rf, nf, g1, g2, g3, g4, g5⟩, s2, s3, s4, s5, s6⟩ := S
    have sz := S'.size
    refine EV.of ?_
    rw [itr_succ]
    unfold c_S_init_l49
    refine q_neg _ (ii_leF (a := 7) (by omega)) ?_
    refine q_gQr g1 (by decide) rfl ?_
    refine n_rope s3 fun h1 e1 e2 o w s1 => ?_
    refine q_nn ?_
    refine q_stQ (t := 7) (o _ _ g3) (by decide) (by omega) e1 rfl ?_
    rw [add1, Int.toNat_natCast]
    have S2 := S'.step (by omega) (r := n + 1) (f := va_up nf k (some h.2.1.1)) e1 e2 o w s1 g1 g2 g3 g4 g5 (Or.inr ⟨by omega, rfl, by rw [sz, show 4 + k - 4 = k by omega]⟩)
    rw [if_neg (by omega)] at S2
    exact Ends.ofEV (ih fu (k + 1) _ (by omega) (by omega) S2) fun h' q => ⟨rfl, q⟩
theorem s_init_l23 {z n : Nat} : ∀ (m fu k : Nat) (h : PH), m < fu → k + m = 4 → SJ h0 z n k h → EV (itr (c_S_init_l23) (fun _ _ _ => none) fu h z (ii k)) (fun h' => SJ h0 z n 11 h') := by
  intro m
  induction m with
  | zero =>
    intro fu k h hf hk S
    obtain ⟨fu, rfl⟩ : ∃ x, fu = x + 1 := ⟨fu - 1, by omega⟩
    have e : k = 4 := by omega
    subst e
    refine EV.of ?_
    rw [itr_succ]
    unfold c_S_init_l23
    refine q_pos _ (by decide) ?_
    exact Ends.ofEV (s_init_l49 7 FU 0 h (by unfold FU; omega) (by omega) S) fun h' q => ⟨rfl, q⟩
  | succ m ih =>
    intro fu k h hf hk S
    obtain ⟨fu, rfl⟩ : ∃ x, fu = x + 1 := ⟨fu - 1, by omega⟩
    have S' := S
    obtain ⟨⟨rf, nf, g1, g2, g3, g4, g5⟩, s2, s3, s4, s5, s6⟩ := S
    have sz := S'.size
    refine EV.of ?_
    rw [itr_succ]
    unfold c_S_init_l23
    refine q_neg _ (ii_leF (a := 4) (by omega)) ?_
    refine q_gQr g1 (by decide) rfl ?_
    refine n_rope s3 fun h1 e1 e2 o w s1 => ?_
    refine q_nn ?_
    refine q_stQ (t := 7) (o _ _ g2) (by decide) (by omega) e1 rfl ?_
    rw [add1, Int.toNat_natCast]
    have S2 := S'.step (by omega) (r := n) (f := va_up rf k (some h.2.1.1)) e1 e2 o w s1 g1 g2 g3 g4 g5 (Or.inl ⟨by omega, rfl, by rw [sz]⟩)
    rw [if_pos (by omega)] at S2
    exact Ends.ofEV (ih fu (k + 1) _ (by omega) (by omega) S2) fun h' q => ⟨rfl, q⟩
theorem nul0 : nul (fun _ => none) = 152 := by decide +kernel
/-- a state is made and comes into a field -/
theorem n_state {B : Nat} {fs : List Value} {i : Nat} {K : PH → Option RH} (e : h.1 B = some (.inr (0, fs))) (hi : i < fs.length) (w : Wf h) (kk : ∀ h', h'.1 B = some (.inr (0, fs.set i (.ref h.2.1.1))) → (∀ (own : Nat → Nat), (∀ j, j < 11 → own (h.2.1.1 + 3 + 2 * j) = h.2.1.1 + 3 + 2 * j ∧ own (h.2.1.1 + 4 + 2 * j) = h.2.1.1 + 3 + 2 * j) → SR0 own B h' h.2.1.1 (fun j => h.2.1.1 + 3 + 2 * j) (fun _ => 152) 0 0) → Gr B h h' → h'.2.1 = (h.2.1.1 + 25, h.2.1.2 + 1786) → Ends (K h') Z) : Ends (newO h 3 [.null, .null, .int 0, .int 0] fun a41 h42 => hV (c_S_init h42 a41) noX fun h43 => pQ h43 B [0] i (some a41) K) Z := by
  have lt := w.lt e
  refine q_newO ?_
  have w3 : Wf (hnew h 4 (.inr (3, [.null, .null, .int 0, .int 0]))) := w.new
  have e3 : (hnew h 4 (.inr (3, [.null, .null, .int 0, .int 0]))).1 h.2.1.1 = some (.inr (3, [.null, .null, .int 0, .int 0])) := new_eq
  have s3 : (hnew h 4 (.inr (3, [.null, .null, .int 0, .int 0]))).2 = ((h.2.1.1 + 1, h.2.1.2 + 4), h.2.2) := rfl
  have o3 : ∀ x c, h.1 x = some c → (hnew h 4 (.inr (3, [.null, .null, .int 0, .int 0]))).1 x = some c := fun x c e => new_old w e
  show Ends (hV (c_S_init (hnew h 4 (.inr (3, [.null, .null, .int 0, .int 0]))) h.2.1.1) noX _) Z
  generalize hnew h 4 (.inr (3, [.null, .null, .int 0, .int 0])) = h3 at *
  have s31 : h3.2.1.1 = h.2.1.1 + 1 := by rw [s3]
  have ki : EV (c_S_init h3 h.2.1.1) (fun h4 => SJ h3 h.2.1.1 (h.2.1.1 + 1) 11 h4) := by
    refine EV.of ?_
    unfold c_S_init
    refine q_grd e3 (by decide) ?_
    refine n_arr (z := 4) (t := 7) e3 (by decide) (Nat.le_of_ble_eq_true rfl) w3 (by decide) fun h4 f1 f2 f3 f4 => ?_
    have s4 : h4.2.1.1 = h.2.1.1 + 2 := by rw [f4]; show h3.2.1.1 + 1 = _; omega
    refine n_arr (z := 7) (t := 7) f1 (by decide) (Nat.le_of_ble_eq_true rfl) f3.2.1 (by decide) fun h5 f5 f6 f7 f8 => ?_
    rw [s31] at f1 f2 f5
    rw [s4] at f5 f6
    have S0 : SJ h3 h.2.1.1 (h.2.1.1 + 1) 0 h5 := by
      refine ⟨⟨_, _, f5, f7.2.2.2 _ _ f2 (by omega), f6, fun j _ q => by omega, fun j _ q => by omega⟩, fun j q => by omega, f7.2.1, ?_, by omega, fun x c e q1 q2 => f7.2.2.2 _ _ (f3.2.2.2 _ _ e q2) q2⟩
      refine Prod.ext (Prod.ext ?_ ?_) ?_
      · rw [f8]; show h4.2.1.1 + 1 = h.2.1.1 + 1 + 2 + 2 * 0; omega
      · rw [f8]; show h4.2.1.2 + 7 = h3.2.1.2 + 11 + 161 * 0; rw [f4]; show h3.2.1.2 + 4 + 7 = _; omega
      · rw [f7.1, f3.1]
    exact Ends.ofEV (s_init_l23 4 FU 0 h5 (by unfold FU; omega) (by omega) S0) fun h' q => ⟨rfl, q⟩
  refine q_hV ki fun h4 S => ?_
  obtain ⟨⟨rf, nf, g1, g2, g3, g4, g5⟩, t2, t3, t4, t5, t6⟩ := S
  have eB : h4.1 B = some (.inr (0, fs)) := t6 _ _ (o3 _ _ e) (by omega) (by omega)
  refine q_pQ eB (by decide) hi ?_
  refine kk _ up_eq (fun own ho => ?_) ⟨?_, t3.setE eB, ?_, fun x c' e' n => up_nx n (t6 _ _ (o3 _ _ e') (by have := w.lt e'; omega) (by have := w.lt e'; omega))⟩ ?_
  · refine ⟨⟨_, _, rf, nf, up_nx (by omega) g1, up_nx (by omega) g2, up_nx (by omega) g3, fun k hk => ?_, fun k hk => ?_⟩, fun k hk => ?_, fun j k _ _ q => by have q : h.2.1.1 + 3 + 2 * j = h.2.1.1 + 3 + 2 * k := q; omega, fun k hk q => by have q : h.2.1.1 + 3 + 2 * k = B := q; omega⟩
    · rw [g4 k hk (by omega)]
    · rw [g5 k hk (by omega)]
    · obtain ⟨u1, u2⟩ := t2 k hk
      obtain ⟨p1, p2⟩ := ho k hk
      rw [show h.2.1.1 + 1 + 2 + 2 * k = h.2.1.1 + 3 + 2 * k by omega, show h.2.1.1 + 1 + 3 + 2 * k = h.2.1.1 + 4 + 2 * k by omega] at u1
      rw [show h.2.1.1 + 1 + 3 + 2 * k = h.2.1.1 + 4 + 2 * k by omega] at u2
      exact ⟨p1, h.2.1.1 + 4 + 2 * k, (fun _ => none), .null, .int 0, .int 0, .int 0, .int 0, .int 0, 0, 0, ⟨up_nx (by omega) u2, p2, (fun j a _ q => by cases q), (fun j k a _ _ q => by cases q)⟩, nul0.symm, up_nx (show h.2.1.1 + 3 + 2 * k ≠ B by omega) u1⟩
  · show h4.2.2 = _
    rw [t4]; show h3.2.2 = _; rw [s3]
  · show h.2.1.1 ≤ h4.2.1.1
    rw [t4]; show h.2.1.1 ≤ h.2.1.1 + 1 + 2 + 2 * 11; omega
  · show h4.2.1 = _
    rw [t4]
    refine Prod.ext ?_ ?_
    · show h.2.1.1 + 1 + 2 + 2 * 11 = h.2.1.1 + 25; omega
    · show h3.2.1.2 + 11 + 161 * 11 = h.2.1.2 + 1786; rw [s3]
/-- the fault -/
theorem n_fault {B : Nat} {fs : List Value} {K : PH → Option RH} (e : h.1 B = some (.inr (0, fs))) (hi : 3 < fs.length) (w : Wf h) (kk : ∀ h', h'.1 B = some (.inr (0, fs.set 3 (.ref h.2.1.1))) → (∃ gs, h'.1 h.2.1.1 = some (.inr (1, gs)) ∧ gs.length = 8) → Gr B h h' → h'.2.1 = (h.2.1.1 + 1, h.2.1.2 + 8) → Ends (K h') Z) : Ends (newO h 1 [.null, .null, .null, .null, .null, .int 0, .int 0, .int 0] fun a4 h5 => hV (c_F_init h5 a4) noX fun h6 => pQ h6 B [0] 3 (some a4) K) Z := by
  have lt := w.lt e
  refine q_newO ?_
  have e3 : (hnew h 8 (.inr (1, [.null, .null, .null, .null, .null, .int 0, .int 0, .int 0]))).1 h.2.1.1 = some (.inr (1, [.null, .null, .null, .null, .null, .int 0, .int 0, .int 0])) := new_eq
  have ki : c_F_init (hnew h 8 (.inr (1, [.null, .null, .null, .null, .null, .int 0, .int 0, .int 0]))) h.2.1.1 = rV (hset (hnew h 8 (.inr (1, [.null, .null, .null, .null, .null, .int 0, .int 0, .int 0]))) h.2.1.1 (.inr (1, [.null, .null, .null, .null, .null, .int 0, .int 0, .int 0]))) := by
    generalize hnew h 8 (.inr (1, [.null, .null, .null, .null, .null, .int 0, .int 0, .int 0])) = h3 at *
    have k0 : Ends (c_J0_init_2 h3 h.2.1.1 none none (0 : Int32) (0 : Int32)) (fun r h' => r = .inl none ∧ h' = hset h3 h.2.1.1 (.inr (1, [.null, .null, .null, .null, .null, .int 0, .int 0, .int 0]))) := by
      unfold c_J0_init_2
      refine q_grd e3 (by decide) ?_
      refine q_pQ e3 (by decide) (Nat.le_of_ble_eq_true rfl) ?_
      refine q_pQ up_eq (by decide) (Nat.le_of_ble_eq_true rfl) ?_
      rw [hset_hset]
      refine q_pQ up_eq (by decide) (Nat.le_of_ble_eq_true rfl) ?_
      rw [hset_hset]
      refine q_pos _ rfl ?_
      refine q_pQ up_eq (by decide) (Nat.le_of_ble_eq_true rfl) ?_
      rw [hset_hset]
      unfold c_J0_init_2_j41
      refine q_pQ up_eq (by decide) (Nat.le_of_ble_eq_true rfl) ?_
      rw [hset_hset]
      refine q_pQ up_eq (by decide) (Nat.le_of_ble_eq_true rfl) ?_
      rw [hset_hset]
      refine q_pos _ rfl ?_
      refine q_pQ up_eq (by decide) (Nat.le_of_ble_eq_true rfl) ?_
      rw [hset_hset]
      exact q_rV ⟨rfl, rfl⟩
    obtain ⟨r, h', y1, y2, y3⟩ := k0
    subst y2 y3
    unfold c_F_init
    rw [grd_eq e3 (by decide)]
    unfold c_J1_init
    rw [grd_eq e3 (by decide), y1]
    rfl
  refine q_hVe ki ?_
  have w3 := w.new (n := 8) (c := .inr (1, [.null, .null, .null, .null, .null, .int 0, .int 0, .int 0]))
  have eB : (hset (hnew h 8 (.inr (1, [.null, .null, .null, .null, .null, .int 0, .int 0, .int 0]))) h.2.1.1 (.inr (1, [.null, .null, .null, .null, .null, .int 0, .int 0, .int 0]))).1 B = some (.inr (0, fs)) := up_nx (by omega) (new_old w e)
  refine q_pQ eB (by decide) hi ?_
  exact kk _ up_eq ⟨_, up_nx (by omega) up_eq, rfl⟩ ⟨rfl, (w3.setE e3).setE eB, Nat.le_succ _, fun x c' e' n => up_nx n (up_nx (Nat.ne_of_lt (w.lt e')) (new_old w e'))⟩ rfl
/-- the room -/
theorem n_room {B : Nat} {fs : List Value} {K : PH → Option RH} (e : h.1 B = some (.inr (0, fs))) (hi : 6 < fs.length) (w : Wf h) (kk : ∀ h', h'.1 B = some (.inr (0, fs.set 6 (.ref h.2.1.1))) → h'.1 h.2.1.1 = some (.inr (2, [.ref (h.2.1.1 + 1), .int 0, .int 8])) → h'.1 (h.2.1.1 + 1) = some (.inl (1, 4, .inr (.inl (fun _ => 0)))) → Gr B h h' → h'.2.1 = (h.2.1.1 + 2, h.2.1.2 + 7) → Ends (K h') Z) : Ends (newO h 2 [.null, .int 0, .int 0] fun a37 h38 => hV (c_O_init h38 a37) noX fun h39 => pQ h39 B [0] 6 (some a37) K) Z := by
  have lt := w.lt e
  refine q_newO ?_
  have w4 : Wf (hnew h 3 (.inr (2, [.null, .int 0, .int 0]))) := w.new
  have e4 : (hnew h 3 (.inr (2, [.null, .int 0, .int 0]))).1 h.2.1.1 = some (.inr (2, [.null, .int 0, .int 0])) := new_eq
  have s4 : (hnew h 3 (.inr (2, [.null, .int 0, .int 0]))).2 = ((h.2.1.1 + 1, h.2.1.2 + 3), h.2.2) := rfl
  have o4 : ∀ x c, h.1 x = some c → (hnew h 3 (.inr (2, [.null, .int 0, .int 0]))).1 x = some c := fun x c e => new_old w e
  show Ends (hV (c_O_init (hnew h 3 (.inr (2, [.null, .int 0, .int 0]))) h.2.1.1) noX _) Z
  generalize hnew h 3 (.inr (2, [.null, .int 0, .int 0])) = h4 at *
  have s41 : h4.2.1.1 = h.2.1.1 + 1 := by rw [s4]
  have ki : EV (c_O_init h4 h.2.1.1) (fun h5 => h5.1 h.2.1.1 = some (.inr (2, [.ref (h.2.1.1 + 1), .int 0, .int 8])) ∧ h5.1 (h.2.1.1 + 1) = some (.inl (1, 4, .inr (.inl (fun _ => 0)))) ∧ Gr h.2.1.1 h4 h5 ∧ h5.2.1 = (h.2.1.1 + 2, h.2.1.2 + 7)) := by
    refine EV.of ?_
    unfold c_O_init
    refine q_grd e4 (by decide) ?_
    refine n_arr (z := 4) (t := 1) e4 (by decide) (Nat.le_of_ble_eq_true rfl) w4 (by decide) fun h5 f1 f2 f3 f4 => ?_
    rw [s41] at f1 f2
    refine q_pI f1 (by decide) (Nat.le_of_ble_eq_true rfl) ?_
    refine q_rV ⟨rfl, up_eq, up_nx (by omega) f2, ⟨f3.1, f3.2.1.setE f1, f3.2.2.1, fun x c e n => up_nx n (f3.2.2.2 x c e n)⟩, ?_⟩
    show h5.2.1 = _
    rw [f4, s4]
    rfl
  refine q_hV ki fun h5 ⟨f1, f2, f3, f4⟩ => ?_
  have eB : h5.1 B = some (.inr (0, fs)) := f3.2.2.2 _ _ (o4 _ _ e) (by omega)
  refine q_pQ eB (by decide) hi ?_
  refine kk _ up_eq (up_nx (by omega) f1) (up_nx (by omega) f2) ⟨?_, f3.2.1.setE eB, ?_, fun x c' e' n => up_nx n (f3.2.2.2 _ _ (o4 _ _ e') (Nat.ne_of_lt (w.lt e')))⟩ f4
  · show h5.2.2 = _
    rw [f3.1, s4]
  · show h.2.1.1 ≤ h5.2.1.1
    rw [f4]; show h.2.1.1 ≤ h.2.1.1 + 2; omega
end
