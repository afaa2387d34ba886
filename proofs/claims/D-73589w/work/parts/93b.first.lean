/-! PURE SIDE: the model: the first digits of a quotient -/
set_option maxRecDepth 100000
def ll (a : Int) : Int64 := Int64.ofInt a
theorem ll_add (a b : Int) : ll a + ll b = ll (a + b) := (Int64.ofInt_add a b).symm
theorem ll_sub (a b : Int) : ll a - ll b = ll (a - b) := (Int64.ofInt_sub a b).symm
theorem ll_mul (a b : Int) : ll a * ll b = ll (a * b) := (Int64.ofInt_mul a b).symm
theorem ll_lit (n : Nat) : (OfNat.ofNat n : Int64) = ll (n : Int) := (Int64.ofInt_eq_ofNat (n := n)).symm
theorem ll_toInt {a : Int} (h : -9223372036854775808 ≤ a ∧ a < 9223372036854775808) : (ll a).toInt = a := Int64.toInt_ofInt_of_le (by omega) (by omega)
theorem ll_le {a b : Int} (h : -9223372036854775808 ≤ a ∧ a < 9223372036854775808 ∧ -9223372036854775808 ≤ b ∧ b < 9223372036854775808) : ll a ≤ ll b ↔ a ≤ b := by
  rw [Int64.le_iff_toInt_le, ll_toInt (by omega), ll_toInt (by omega)]
theorem ll_lt {a b : Int} (h : -9223372036854775808 ≤ a ∧ a < 9223372036854775808 ∧ -9223372036854775808 ≤ b ∧ b < 9223372036854775808) : ll a < ll b ↔ a < b := by
  rw [Int64.lt_iff_toInt_lt, ll_toInt (by omega), ll_toInt (by omega)]
theorem ll_eq {a b : Int} (h : -9223372036854775808 ≤ a ∧ a < 9223372036854775808 ∧ -9223372036854775808 ≤ b ∧ b < 9223372036854775808) : ll a = ll b ↔ a = b := by
  rw [← Int64.toInt_inj, ll_toInt (by omega), ll_toInt (by omega)]
theorem ll_div2 {a : Int} (h : 0 ≤ a ∧ a < 9223372036854775808) : ll a / ll 2 = ll (a / 2) := by
  apply Int64.toInt_inj.1
  rw [Int64.toInt_div_of_ne_right _ _ (by decide), ll_toInt (by omega), ll_toInt (by omega), ll_toInt (by omega), Int.tdiv_eq_ediv_of_nonneg h.1]
theorem ll_ii {a : Int} (h : -2147483648 ≤ a ∧ a < 2147483648) : (ii a).toInt64 = ll a := by
  apply Int64.toInt_inj.1
  rw [Int32.toInt_toInt64, ii_toInt h, ll_toInt (by omega)]
theorem mset2 {ms : MS} {k i : Nat} {v w : Int32} : mset (mset ms k i v) k i w = mset ms k i w := by
  unfold mset
  refine Prod.ext ?_ rfl
  funext x y
  by_cases c : x = k ∧ y = i
  · simp [c]
  · simp [c]
theorem ll_shl : ∀ p : Fin 63, (1 : Int64) <<< ((ii (p.val : Int)).toInt64 &&& 63) = ll ((2 ^ p.val : Nat) : Int) := by decide +kernel
section
variable {ms : MS}
theorem fb_le {A Y p : Nat} (hY : 0 < Y) (h2 : A < 2 * Y) (hp : 1 ≤ p) : A * 2 ^ (p - 1) / Y < 2 ^ p ∧ FP.Core.nearest (A * 2 ^ (p - 1)) Y ≤ 2 ^ p := by
  have ep : 2 ^ p = 2 * 2 ^ (p - 1) := by rw [Nat.mul_comm, ← Nat.pow_succ]; congr 1; omega
  have k : A * 2 ^ (p - 1) / Y < 2 ^ p := by
    rw [Nat.div_lt_iff_lt_mul hY, ep]
    have := (Nat.mul_lt_mul_right (Nat.two_pow_pos (p - 1))).2 h2
    calc A * 2 ^ (p - 1) < 2 * Y * 2 ^ (p - 1) := this
      _ = 2 * 2 ^ (p - 1) * Y := by ac_rfl
  refine ⟨k, ?_⟩
  unfold FP.Core.nearest
  generalize A * 2 ^ (p - 1) / Y = q at *
  split
  · omega
  · split
    · omega
    · omega
theorem fb_j181 {c p : Nat} {k : Int} (hp : 2 ≤ p ∧ p ≤ 53) (hc : c ≤ 2 ^ p) (hk : ms.1 26 0 = ii k) : d_M_firstBits_j181 ms (ii p) (ll c) = dL (ll (fbC p c)) (mset ms 26 0 (ii (fbK p c k))) := by
  have pb : 2 ^ p ≤ 2 ^ 53 := Nat.pow_le_pow_right (by omega) hp.2
  have e := ll_shl ⟨p, by omega⟩
  unfold d_M_firstBits_j181
  rw [show (1 : Int64) <<< ((ii (p : Int)).toInt64 &&& 63) = ll ((2 ^ p : Nat) : Int) from e]
  unfold fbC fbK
  by_cases q : c < 2 ^ p
  · rw [if_pos q, if_pos q, if_neg]
    · have : mset ms 26 0 (ii k) = ms := by
        unfold mset
        refine Prod.ext ?_ rfl
        funext x y
        by_cases c : x = 26 ∧ y = 0
        · simp [c, hk]
        · simp [c]
      rw [this]
    · rw [lg_cmp_ge, ll_le (by omega)]
      omega
  · rw [if_neg q, if_neg q, if_pos]
    · have ce : c = 2 ^ p := by omega
      have ep : 2 ^ p = 2 * 2 ^ (p - 1) := by rw [Nat.mul_comm, ← Nat.pow_succ]; congr 1; omega
      unfold nm
      dsimp only
      rw [hk, show (1 : Int32) = ii 1 from rfl, ii_add]
      unfold nzL
      rw [if_neg (by decide), show (2 : Int64) = ll 2 from rfl, ll_div2 (by omega)]
      congr 2
      omega
    · rw [lg_cmp_ge, ll_le (by omega)]
      omega
theorem fb_end {A Y p x : Nat} {k : Int} (hp : 2 ≤ p ∧ p ≤ 53) (hY : 0 < Y) (hY2 : Y < 33554432) (h2 : A < 2 * Y) (hk : ms.1 26 0 = ii k) (hx : x = p) {r} : d_M_firstBits_l88 r ms (ii p) (ll Y) (ll (A * 2 ^ (x - 1) / Y : Nat)) (ll (A * 2 ^ (x - 1) % Y : Nat)) (ii x) = dL (ll (fbC p (FP.Core.nearest (A * 2 ^ (p - 1)) Y))) (mset ms 26 0 (ii (fbK p (FP.Core.nearest (A * 2 ^ (p - 1)) Y) k))) := by
  subst hx
  have pb : 2 ^ x ≤ 2 ^ 53 := Nat.pow_le_pow_right (by omega) hp.2
  obtain ⟨b1, b2⟩ := fb_le hY h2 (by omega : 1 ≤ x)
  have md : A * 2 ^ (x - 1) % Y < Y := Nat.mod_lt _ hY
  unfold d_M_firstBits_l88
  unfold FP.Core.nearest at b2 ⊢
  generalize A * 2 ^ (x - 1) / Y = q at *
  generalize A * 2 ^ (x - 1) % Y = r at *
  rw [if_pos (ii_leT (by omega)), show (2 : Int64) = ll 2 from rfl, ll_mul]
  have j175 : q + 1 ≤ 2 ^ x → d_M_firstBits_j175 ms (ii x) (ll q) = dL (ll (fbC x (q + 1))) (mset ms 26 0 (ii (fbK x (q + 1) k))) := by
    intro hq
    unfold d_M_firstBits_j175 nm
    rw [show (1 : Int64) = ll 1 from rfl, ll_add]
    exact fb_j181 (c := q + 1) hp hq hk
  by_cases c1 : 2 * r < Y
  · rw [if_pos c1, if_neg, if_neg]
    · exact fb_j181 hp (by omega) hk
    · rw [lg_cmp_eq, ll_eq (by omega)]; omega
    · rw [lg_cmp_gt, ll_lt (by omega)]; omega
  · rw [if_neg c1] at b2 ⊢
    by_cases c2 : Y < 2 * r
    · rw [if_pos c2] at b2 ⊢
      rw [if_pos]
      · exact j175 b2
      · rw [lg_cmp_gt, ll_lt (by omega)]; omega
    · rw [if_neg c2] at b2 ⊢
      rw [if_neg, if_pos]
      · unfold nzL
        rw [if_neg (by decide), ll_div2 (by omega), ll_mul, ll_sub, show (1 : Int64) = ll 1 from rfl]
        by_cases c3 : q % 2 = 1
        · rw [if_pos, c3]
          · exact j175 (by omega)
          · rw [lg_cmp_eq, ll_eq (by omega)]; omega
        · rw [if_neg, show q % 2 = 0 by omega, Nat.add_zero]
          · exact fb_j181 hp (by omega) hk
          · rw [lg_cmp_eq, ll_eq (by omega)]; omega
      · rw [lg_cmp_eq, ll_eq (by omega)]; omega
      · rw [lg_cmp_gt, ll_lt (by omega)]; omega
theorem fb_l88 {A Y p : Nat} {k : Int} (hp : 2 ≤ p ∧ p ≤ 53) (hY : 0 < Y) (hY2 : Y < 33554432) (h2 : A < 2 * Y) (hk : ms.1 26 0 = ii k) : ∀ (m fu x : Nat), m < fu → x + m = p → 1 ≤ x → itr (d_M_firstBits_l88) (fun _ _ _ _ _ _ => none) fu ms (ii p) (ll Y) (ll (A * 2 ^ (x - 1) / Y : Nat)) (ll (A * 2 ^ (x - 1) % Y : Nat)) (ii x) = dL (ll (fbC p (FP.Core.nearest (A * 2 ^ (p - 1)) Y))) (mset ms 26 0 (ii (fbK p (FP.Core.nearest (A * 2 ^ (p - 1)) Y) k))) := by
  intro m
  induction m with
  | zero =>
    intro fu x hf hx h1
    obtain ⟨fu, rfl⟩ : ∃ f, fu = f + 1 := ⟨fu - 1, by omega⟩
    exact fb_end hp hY hY2 h2 hk (by omega)
  | succ m ih =>
    intro fu x hf hx h1
    obtain ⟨fu, rfl⟩ : ∃ f, fu = f + 1 := ⟨fu - 1, by omega⟩
    have ih' := ih fu (x + 1) (by omega) (by omega) (by omega)
    show d_M_firstBits_l88 (itr (d_M_firstBits_l88) (fun _ _ _ _ _ _ => none) fu) ms (ii p) (ll Y) (ll (A * 2 ^ (x - 1) / Y : Nat)) (ll (A * 2 ^ (x - 1) % Y : Nat)) (ii x) = _
    generalize itr (d_M_firstBits_l88) (fun _ _ _ _ _ _ => none) fu = R at *
    have pb : 2 ^ x ≤ 2 ^ 53 := Nat.pow_le_pow_right (by omega) (by omega)
    obtain ⟨b1, b2⟩ := fb_le hY h2 (by omega : 1 ≤ x)
    have md : A * 2 ^ (x - 1) % Y < Y := Nat.mod_lt _ hY
    have e1 : A * 2 ^ (x + 1 - 1) = 2 * (A * 2 ^ (x - 1)) := by
      rw [show x + 1 - 1 = (x - 1) + 1 by omega, Nat.pow_succ]; ac_rfl
    rw [e1] at ih'
    have dm := Nat.div_add_mod (A * 2 ^ (x - 1)) Y
    generalize A * 2 ^ (x - 1) = N at *
    unfold d_M_firstBits_l88 nm
    dsimp only
    rw [if_neg (ii_leF (by omega)), show (2 : Int64) = ll 2 from rfl, ll_mul, ll_mul, show (1 : Int32) = ii 1 from rfl, ii_add]
    by_cases c : Y ≤ 2 * (N % Y)
    · have cc : 0 ≤ lg_cmp (ll (((N % Y : Nat) : Int) * 2)) (ll (Y : Int)) := by rw [lg_cmp_ge, ll_le (by omega)]; omega
      rw [if_pos cc, ll_sub, show (1 : Int64) = ll 1 from rfl, ll_add]
      have u : 2 * N = (2 * (N % Y) - Y) + Y * (2 * (N / Y) + 1) := by rw [Nat.mul_add, Nat.mul_left_comm, Nat.mul_one]; omega
      have d1 : 2 * N / Y = 2 * (N / Y) + 1 := by rw [u, Nat.add_mul_div_left _ _ hY, Nat.div_eq_of_lt (by omega)]; omega
      have d2 : 2 * N % Y = 2 * (N % Y) - Y := by rw [u, Nat.add_mul_mod_self_left, Nat.mod_eq_of_lt (by omega)]
      rw [d1, d2] at ih'
      rw [← ih']
      congr 2 <;> omega
    · have cc : ¬ 0 ≤ lg_cmp (ll (((N % Y : Nat) : Int) * 2)) (ll (Y : Int)) := by rw [lg_cmp_ge, ll_le (by omega)]; omega
      rw [if_neg cc]
      have u : 2 * N = 2 * (N % Y) + Y * (2 * (N / Y)) := by rw [Nat.mul_left_comm]; omega
      have d1 : 2 * N / Y = 2 * (N / Y) := by rw [u, Nat.add_mul_div_left _ _ hY, Nat.div_eq_of_lt (by omega)]; omega
      have d2 : 2 * N % Y = 2 * (N % Y) := by rw [u, Nat.add_mul_mod_self_left, Nat.mod_eq_of_lt (by omega)]
      rw [d1, d2] at ih'
      rw [← ih']
      congr 2 <;> omega
def fbS (a n s t : Nat) : Prop := n * 2 ^ t ≤ a * 2 ^ s ∧ a * 2 ^ s < 2 * (n * 2 ^ t) ∧ s ≤ 25 ∧ t ≤ 25
theorem fb_l46 {a n p t : Nat} (hp : 2 ≤ p ∧ p ≤ 53) (ha : 1 ≤ a ∧ a < 16777216) (hY : 1 ≤ n * 2 ^ t ∧ n * 2 ^ t < 16777216) (ht : t ≤ 25) : ∀ (m fu s : Nat) (ms : MS), m < fu → s + m = 25 → a * 2 ^ s < 2 * (n * 2 ^ t) → ms.1 26 0 = ii ((t : Int) - s) → ∃ s', fbS a n s' t ∧ itr (d_M_firstBits_l46) (fun _ _ _ _ => none) fu ms (ii p) (ll (a * 2 ^ s : Nat)) (ll (n * 2 ^ t : Nat)) = dL (ll (fbC p (FP.Core.nearest (a * 2 ^ s' * 2 ^ (p - 1)) (n * 2 ^ t)))) (mset ms 26 0 (ii (fbK p (FP.Core.nearest (a * 2 ^ s' * 2 ^ (p - 1)) (n * 2 ^ t)) ((t : Int) - s')))) := by
  intro m
  induction m with
  | zero =>
    intro fu s ms hf hs h2 hk
    exfalso
    have : 2 ^ s = 33554432 := by rw [show s = 25 by omega]
    rw [this] at h2
    omega
  | succ m ih =>
    intro fu s ms hf hs h2 hk
    obtain ⟨fu, rfl⟩ : ∃ f, fu = f + 1 := ⟨fu - 1, by omega⟩
    show ∃ s', fbS a n s' t ∧ d_M_firstBits_l46 (itr (d_M_firstBits_l46) (fun _ _ _ _ => none) fu) ms (ii p) (ll (a * 2 ^ s : Nat)) (ll (n * 2 ^ t : Nat)) = _
    by_cases c : n * 2 ^ t ≤ a * 2 ^ s
    · refine ⟨s, ⟨c, h2, by omega, ht⟩, ?_⟩
      unfold d_M_firstBits_l46 nm
      dsimp only
      have l8 := fb_l88 (ms := ms) (A := a * 2 ^ s) (Y := n * 2 ^ t) hp (by omega) (by omega) h2 hk (p - 1) FU 1 (by show p - 1 < 100000; omega) (by omega) (by omega)
      rw [Nat.sub_self, Nat.pow_zero, Nat.mul_one] at l8
      generalize a * 2 ^ s = A at *
      generalize n * 2 ^ t = Y at *
      have cc : 0 ≤ lg_cmp (ll (A : Int)) (ll (Y : Int)) := by rw [lg_cmp_ge, ll_le (by omega)]; omega
      have d1 : A / Y = 1 := Nat.div_eq_of_lt_le (by omega) (by omega)
      have d2 : A % Y = A - Y := by rw [Nat.mod_eq_sub_mod c, Nat.mod_eq_of_lt (by omega)]
      rw [if_pos cc, ll_sub, show (1 : Int64) = ll 1 from rfl, show (1 : Int32) = ii 1 from rfl]
      rw [d1, d2] at l8
      rw [← l8, show (A : Int) - Y = ((A - Y : Nat) : Int) by omega]
      rfl
    · have e1 : a * 2 ^ (s + 1) = 2 * (a * 2 ^ s) := by rw [Nat.pow_succ]; ac_rfl
      obtain ⟨s', f1, f2⟩ := ih fu (s + 1) (mset ms 26 0 (ii ((t : Int) - (s + 1 : Nat)))) (by omega) (by omega) (by omega) ms_eq
      refine ⟨s', f1, ?_⟩
      rw [mset2] at f2
      rw [← f2, e1]
      unfold d_M_firstBits_l46 nm
      dsimp only
      generalize a * 2 ^ s = A at *
      generalize n * 2 ^ t = Y at *
      have cc : ¬ 0 ≤ lg_cmp (ll (A : Int)) (ll (Y : Int)) := by rw [lg_cmp_ge, ll_le (by omega)]; omega
      rw [if_neg cc, hk, show (1 : Int32) = ii 1 from rfl, ii_sub, show (2 : Int64) = ll 2 from rfl, ll_mul, show (A : Int) * 2 = ((2 * A : Nat) : Int) by omega, show (t : Int) - s - 1 = (t : Int) - ((s + 1 : Nat) : Int) by omega]
theorem fb_l13 {a n p : Nat} (hp : 2 ≤ p ∧ p ≤ 53) (ha : 1 ≤ a ∧ a < 16777216) (hn : 1 ≤ n ∧ n < 16777216) : ∀ (m fu t : Nat) (ms : MS), m < fu → t + m = 25 → (t = 0 ∨ n * 2 ^ t ≤ a) → ms.1 26 0 = ii t → ∃ s' t', fbS a n s' t' ∧ itr (d_M_firstBits_l13) (fun _ _ _ _ => none) fu ms (ii p) (ll a) (ll (n * 2 ^ t : Nat)) = dL (ll (fbC p (FP.Core.nearest (a * 2 ^ s' * 2 ^ (p - 1)) (n * 2 ^ t')))) (mset ms 26 0 (ii (fbK p (FP.Core.nearest (a * 2 ^ s' * 2 ^ (p - 1)) (n * 2 ^ t')) ((t' : Int) - s')))) := by
  intro m
  induction m with
  | zero =>
    intro fu t ms hf hs h2 hk
    exfalso
    have e : 2 ^ t = 33554432 := by rw [show t = 25 by omega]
    rw [e] at h2
    omega
  | succ m ih =>
    intro fu t ms hf hs h2 hk
    obtain ⟨fu, rfl⟩ : ∃ f, fu = f + 1 := ⟨fu - 1, by omega⟩
    show ∃ s' t', fbS a n s' t' ∧ d_M_firstBits_l13 (itr (d_M_firstBits_l13) (fun _ _ _ _ => none) fu) ms (ii p) (ll a) (ll (n * 2 ^ t : Nat)) = _
    have yb : 1 ≤ n * 2 ^ t ∧ n * 2 ^ t < 16777216 := by
      refine ⟨Nat.mul_pos (by omega) (Nat.two_pow_pos t), ?_⟩
      rcases h2 with q | q
      · subst q; omega
      · omega
    by_cases c : a < 2 * (n * 2 ^ t)
    · obtain ⟨s', f1, f2⟩ := fb_l46 hp ha yb (by omega) 25 FU 0 ms (by decide) (by omega) (by omega) (by rw [hk]; exact congrArg ii (by omega))
      refine ⟨s', t, f1, ?_⟩
      rw [← f2, Nat.pow_zero, Nat.mul_one]
      unfold d_M_firstBits_l13
      generalize n * 2 ^ t = Y at *
      rw [show (2 : Int64) = ll 2 from rfl, ll_mul]
      have cc : lg_cmp (ll (a : Int)) (ll (2 * (Y : Int))) < 0 := by rw [lg_cmp_lt, ll_lt (by omega)]; omega
      rw [if_pos cc]
    · have e1 : n * 2 ^ (t + 1) = 2 * (n * 2 ^ t) := by rw [Nat.pow_succ]; ac_rfl
      obtain ⟨s', t', f1, f2⟩ := ih fu (t + 1) (mset ms 26 0 (ii ((t + 1 : Nat) : Int))) (by omega) (by omega) (by omega) ms_eq
      refine ⟨s', t', f1, ?_⟩
      rw [mset2] at f2
      rw [← f2, e1]
      unfold d_M_firstBits_l13 nm
      dsimp only
      generalize n * 2 ^ t = Y at *
      rw [show (2 : Int64) = ll 2 from rfl, ll_mul, ll_mul]
      have cc : ¬ lg_cmp (ll (a : Int)) (ll (2 * (Y : Int))) < 0 := by rw [lg_cmp_lt, ll_lt (by omega)]; omega
      rw [if_neg cc, hk, show (1 : Int32) = ii 1 from rfl, ii_add, show (Y : Int) * 2 = ((2 * Y : Nat) : Int) by omega]
      rfl
theorem m_firstBits {a n p : Nat} (hp : 2 ≤ p ∧ p ≤ 53) (ha : 1 ≤ a ∧ a < 16777216) (hn : 1 ≤ n ∧ n < 16777216) : ∃ s t, fbS a n s t ∧ d_M_firstBits ms (ii a) (ii n) (ii p) = dL (ll (fbC p (FP.Core.nearest (a * 2 ^ s * 2 ^ (p - 1)) (n * 2 ^ t)))) (mset ms 26 0 (ii (fbK p (FP.Core.nearest (a * 2 ^ s * 2 ^ (p - 1)) (n * 2 ^ t)) ((t : Int) - s)))) := by
  obtain ⟨s, t, f1, f2⟩ := fb_l13 hp ha hn 25 FU 0 (mset ms 26 0 0) (by decide) (by omega) (.inl rfl) ms_eq
  refine ⟨s, t, f1, ?_⟩
  rw [mset2, Nat.pow_zero, Nat.mul_one] at f2
  rw [← f2]
  unfold d_M_firstBits nm
  dsimp only
  rw [ll_ii (by omega), ll_ii (by omega)]
end
