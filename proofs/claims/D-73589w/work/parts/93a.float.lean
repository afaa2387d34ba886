/-! PURE SIDE: fractions of the machine -/
set_option maxRecDepth 100000
/-- what is asked of a format -/
def fpG (f : FP.Core.Fmt) : Prop := (2 ≤ f.p ∧ f.p ≤ 53) ∧ f.qmin ≤ 1 - (f.p : Int) - 60 ∧ 60 ≤ f.qmax ∧ f.qmax - f.qmin + 2 < f.exps ∧ 1 - (f.emax : Int) - ((f.p : Int) - 1) = f.qmin
theorem fp_g32 : fpG FP.Core.b32 := by unfold fpG; decide
theorem fp_g64 : fpG FP.Core.b64 := by unfold fpG; decide
/-- how far a number is from p digits -/
def fpX (p a : Nat) : Nat := p - 1 - a.log2
theorem fp_norm {p a : Nat} (ha : 1 ≤ a) (h2 : a < 2 ^ p) : 2 ^ (p - 1) ≤ a * 2 ^ fpX p a ∧ a * 2 ^ fpX p a < 2 ^ p ∧ (a * 2 ^ fpX p a).log2 = p - 1 ∧ a.log2 < p := by
  have l1 : 2 ^ a.log2 ≤ a := Nat.log2_self_le (by omega)
  have l2 : a < 2 ^ (a.log2 + 1) := Nat.lt_log2_self
  have l3 : a.log2 < p := (Nat.log2_lt (by omega)).2 h2
  have e1 : 2 ^ p = 2 ^ (a.log2 + 1) * 2 ^ fpX p a := by rw [← Nat.pow_add]; congr 1; unfold fpX; omega
  have e2 : 2 ^ (p - 1) = 2 ^ a.log2 * 2 ^ fpX p a := by rw [← Nat.pow_add]; congr 1; unfold fpX; omega
  have u : a * 2 ^ fpX p a < 2 ^ p := by rw [e1]; exact (Nat.mul_lt_mul_right (Nat.two_pow_pos _)).2 l2
  have w : 2 ^ (p - 1) ≤ a * 2 ^ fpX p a := by rw [e2]; exact Nat.mul_le_mul_right _ l1
  refine ⟨w, u, ?_, l3⟩
  have h0 : a * 2 ^ fpX p a ≠ 0 := by have := Nat.two_pow_pos (p - 1); omega
  have g1 : p - 1 ≤ (a * 2 ^ fpX p a).log2 := (Nat.le_log2 h0).2 w
  have g2 : (a * 2 ^ fpX p a).log2 < p := (Nat.log2_lt h0).2 u
  omega
theorem fp_near1 (M B : Nat) (hB : 0 < B) : FP.Core.nearest (M * B) B = M := by
  unfold FP.Core.nearest
  rw [Nat.mul_mod_left, Nat.mul_div_cancel _ hB, if_pos (by omega)]
theorem fp_nearS (A B k : Nat) (hk : 0 < k) : FP.Core.nearest (A * k) (B * k) = FP.Core.nearest A B := by
  unfold FP.Core.nearest
  rw [Nat.mul_div_mul_right _ _ hk, Nat.mul_mod_mul_right]
  have h1 : 2 * (A % B * k) < B * k ↔ 2 * (A % B) < B := by rw [← Nat.mul_assoc]; exact Nat.mul_lt_mul_right hk
  have h2 : B * k < 2 * (A % B * k) ↔ B < 2 * (A % B) := by rw [← Nat.mul_assoc]; exact Nat.mul_lt_mul_right hk
  simp only [h1, h2]
theorem fp_nearC {A B A' B' : Nat} (hB : 0 < B) (hB' : 0 < B') (h : A * B' = A' * B) : FP.Core.nearest A B = FP.Core.nearest A' B' := by
  rw [← fp_nearS A B B' hB', h, Nat.mul_comm B B', fp_nearS A' B' B hB]
/-- a whole number rounded is itself -/
theorem fp_whole {f : FP.Core.Fmt} (g : fpG f) {a z : Nat} (ha : 1 ≤ a) (h2 : a < 2 ^ f.p) : FP.Core.roundRatio f false (a * 2 ^ z) 1 (-(z : Int)) = .fin false (a * 2 ^ fpX f.p a) (-(fpX f.p a : Int)) := by
  obtain ⟨g1, g2, g3, g4, g5⟩ := g
  obtain ⟨n1, n2, n3, n4⟩ := fp_norm ha h2
  have pz := Nat.two_pow_pos z
  have h0 : a * 2 ^ z ≠ 0 := by
    intro q
    rcases Nat.mul_eq_zero.mp q with q | q <;> omega
  have lg : (a * 2 ^ z).log2 = a.log2 + z := by
    have l1 : 2 ^ a.log2 ≤ a := Nat.log2_self_le (by omega)
    have l2 : a < 2 ^ (a.log2 + 1) := Nat.lt_log2_self
    have u1 : a.log2 + z ≤ (a * 2 ^ z).log2 := (Nat.le_log2 h0).2 (by rw [Nat.pow_add]; exact Nat.mul_le_mul_right _ l1)
    have u2 : (a * 2 ^ z).log2 < a.log2 + z + 1 := (Nat.log2_lt h0).2 (by
      have : 2 ^ (a.log2 + z + 1) = 2 ^ (a.log2 + 1) * 2 ^ z := by rw [← Nat.pow_add]; congr 1; omega
      rw [this]
      exact (Nat.mul_lt_mul_right pz).2 l2)
    omega
  have ld : FP.Core.leading (a * 2 ^ z) 1 = (a.log2 + z : Nat) := by
    unfold FP.Core.leading
    have l1 : (1 : Nat).log2 = 0 := by decide
    simp only [lg, l1]
    rw [if_pos]
    · omega
    · have e1 : (((a.log2 + z : Nat) : Int) - ((0 : Nat) : Int)).toNat = a.log2 + z := by omega
      have e2 : (-(((a.log2 + z : Nat) : Int) - ((0 : Nat) : Int))).toNat = 0 := by omega
      rw [e1, e2, Nat.pow_zero, Nat.mul_one, Nat.one_mul]
      rw [← lg]
      exact Nat.log2_self_le h0
  have qe : FP.Core.quantum f (a * 2 ^ z) 1 (-(z : Int)) = -(fpX f.p a : Int) := by
    unfold FP.Core.quantum
    rw [ld]
    unfold fpX
    omega
  unfold FP.Core.roundRatio
  rw [if_neg h0, qe]
  unfold FP.Core.roundAt
  have nr : FP.Core.nearest (FP.Core.unitsNum (a * 2 ^ z) (-(z : Int)) (-(fpX f.p a : Int))) (FP.Core.unitsDen 1 (-(z : Int)) (-(fpX f.p a : Int))) = a * 2 ^ fpX f.p a := by
    unfold FP.Core.unitsNum FP.Core.unitsDen
    have e1 : (-(z : Int) - -(fpX f.p a : Int)).toNat = fpX f.p a - z := by omega
    have e2 : (-(fpX f.p a : Int) - -(z : Int)).toNat = z - fpX f.p a := by omega
    rw [e1, e2, Nat.one_mul]
    have : a * 2 ^ z * 2 ^ (fpX f.p a - z) = a * 2 ^ fpX f.p a * 2 ^ (z - fpX f.p a) := by
      rw [Nat.mul_assoc, Nat.mul_assoc, ← Nat.pow_add, ← Nat.pow_add]
      congr 2
      omega
    rw [this, fp_near1 _ _ (Nat.two_pow_pos _)]
  rw [nr]
  unfold FP.Core.settle FP.Core.bound
  rw [if_pos n2, if_pos (by omega)]
theorem fp_enc {f : FP.Core.Fmt} {c : Nat} {q : Int} (h1 : f.tails ≤ c) : FP.Core.encode f (.fin false c q) = ((q - f.qmin).toNat + 1) * f.tails + (c - f.tails) := by
  show (if c < f.tails then _ else FP.Core.assemble f false ((q - f.qmin).toNat + 1) (c - f.tails)) = _
  rw [if_neg (by omega)]
  show (0 * f.exps + ((q - f.qmin).toNat + 1)) * f.tails + (c - f.tails) = _
  rw [Nat.zero_mul, Nat.zero_add]
theorem fp_nearGe {A B M : Nat} (hB : 0 < B) (h : M * B ≤ A) : M ≤ FP.Core.nearest A B := by
  have h1 : M ≤ A / B := (Nat.le_div_iff_mul_le hB).2 h
  unfold FP.Core.nearest
  split
  · exact h1
  · split <;> omega
theorem fp_dec {f : FP.Core.Fmt} (g : fpG f) {c : Nat} {q : Int} (h1 : f.tails ≤ c) (h2 : c < 2 ^ f.p) (h3 : f.qmin ≤ q ∧ q ≤ f.qmax) : FP.Core.decode f (FP.Core.encode f (.fin false c q)) = .fin false c q := by
  obtain ⟨g1, g2, g3, g4, g5⟩ := g
  have tp : 0 < f.tails := Nat.two_pow_pos _
  have ep : 2 ^ f.p = 2 * f.tails := by
    unfold FP.Core.Fmt.tails
    rw [Nat.mul_comm, ← Nat.pow_succ]
    congr 1
    omega
  rw [fp_enc h1]
  generalize hE : (q - f.qmin).toNat + 1 = E
  have hEl : E < f.exps - 1 := by omega
  have ht : c - f.tails < f.tails := by omega
  have dT : (E * f.tails + (c - f.tails)) / f.tails = E := by
    rw [Nat.mul_comm, Nat.mul_add_div tp, Nat.div_eq_of_lt ht, Nat.add_zero]
  have fT : FP.Core.fieldT f (E * f.tails + (c - f.tails)) = c - f.tails := by
    unfold FP.Core.fieldT
    rw [Nat.mul_comm, Nat.mul_add_mod, Nat.mod_eq_of_lt ht]
  have fE : FP.Core.fieldE f (E * f.tails + (c - f.tails)) = E := by
    unfold FP.Core.fieldE
    rw [dT, Nat.mod_eq_of_lt (by omega)]
  have fS : FP.Core.fieldS f (E * f.tails + (c - f.tails)) = false := by
    unfold FP.Core.fieldS
    rw [dT, Nat.div_eq_of_lt (by omega)]
    rfl
  unfold FP.Core.decode
  rw [fE, fT, fS, if_neg (by omega), if_neg (by omega)]
  congr 1
  · omega
  · omega
/-- a whole number's bits stand for it -/
theorem fp_val {f : FP.Core.Fmt} (g : fpG f) {a : Nat} (ha : 1 ≤ a) (h2 : a < 2 ^ f.p) : FP.Core.decode f (FP.Core.fromInt f (a : Int)) = .fin false (a * 2 ^ fpX f.p a) (-(fpX f.p a : Int)) := by
  have e1 : FP.Core.ofInt (a : Int) = .fin false a 0 := by
    unfold FP.Core.ofInt
    have : decide ((a : Int) < 0) = false := decide_eq_false (by omega)
    rw [this]; rfl
  have w := fp_whole (z := 0) g ha h2
  rw [Nat.pow_zero, Nat.mul_one] at w
  have e2 : FP.Core.round f (FP.Core.ofInt (a : Int)) = .fin false (a * 2 ^ fpX f.p a) (-(fpX f.p a : Int)) := by
    rw [e1]; exact w
  unfold FP.Core.fromInt
  rw [e2]
  obtain ⟨n1, n2, n3, n4⟩ := fp_norm ha h2
  have g' := g
  obtain ⟨g1, g2, g3, g4, g5⟩ := g'
  refine fp_dec g n1 n2 ⟨?_, by omega⟩
  unfold fpX
  omega
/-- the digits as they come out -/
def fbC (p c : Nat) : Nat := if c < 2 ^ p then c else 2 ^ (p - 1)
def fbK (p c : Nat) (k : Int) : Int := if c < 2 ^ p then k else k + 1
theorem pow_uniq {a n s t x y : Nat} (h1 : n * 2 ^ t ≤ a * 2 ^ s) (h2 : a * 2 ^ s < 2 * (n * 2 ^ t)) (h3 : n * 2 ^ y ≤ a * 2 ^ x) (h4 : a * 2 ^ x < 2 * (n * 2 ^ y)) : t + x = y + s := by
  have key : ∀ {s t x y : Nat}, a * 2 ^ s < 2 * (n * 2 ^ t) → n * 2 ^ y ≤ a * 2 ^ x → ¬ t + x < y + s := by
    intro s t x y h2 h3 q
    have e1 : a * 2 ^ s * 2 ^ x < 2 * (n * 2 ^ t) * 2 ^ x := (Nat.mul_lt_mul_right (Nat.two_pow_pos x)).2 h2
    have e2 : n * 2 ^ y * 2 ^ s ≤ a * 2 ^ x * 2 ^ s := Nat.mul_le_mul_right _ h3
    have e3 : 2 * (n * 2 ^ t) * 2 ^ x = n * 2 ^ (t + x + 1) := by rw [Nat.pow_succ, Nat.pow_add]; ac_rfl
    have e4 : n * 2 ^ y * 2 ^ s = n * 2 ^ (y + s) := by rw [Nat.pow_add]; ac_rfl
    have e5 : n * 2 ^ (t + x + 1) ≤ n * 2 ^ (y + s) := Nat.mul_le_mul_left _ (Nat.pow_le_pow_right (by decide) (by omega))
    have e6 : a * 2 ^ s * 2 ^ x = a * 2 ^ x * 2 ^ s := by ac_rfl
    omega
  have a1 := key h2 h3
  have a2 := key h4 h1
  omega
theorem fp_settle {f : FP.Core.Fmt} (g : fpG f) {c : Nat} {k : Int} (hc : f.tails ≤ c) (hk : -60 ≤ k ∧ k ≤ 59) (hp : (f.p : Int) - 1 - 60 ≤ k + f.p) : FP.Core.encode f (FP.Core.settle f false c (k - ((f.p : Int) - 1))) = (fbK f.p c k + f.emax).toNat * f.tails + (fbC f.p c - f.tails) := by
  obtain ⟨g1, g2, g3, g4, g5⟩ := g
  unfold FP.Core.settle fbK fbC
  by_cases c1 : c < 2 ^ f.p
  · rw [if_pos c1, if_pos c1, if_pos c1]
    unfold FP.Core.bound
    rw [if_pos (by omega), fp_enc hc]
    have : (k - ((f.p : Int) - 1) - f.qmin).toNat + 1 = (k + f.emax).toNat := by omega
    rw [this]
  · rw [if_neg c1, if_neg c1, if_neg c1]
    unfold FP.Core.bound
    rw [if_pos (by omega), fp_enc (Nat.le_refl _)]
    have : (k - ((f.p : Int) - 1) + 1 - f.qmin).toNat + 1 = (k + 1 + f.emax).toNat := by omega
    rw [this]
    rfl
theorem fp_quot {f : FP.Core.Fmt} (g : fpG f) {a n s t : Nat} (ha : 1 ≤ a) (ha2 : a < 2 ^ f.p) (hn : 1 ≤ n) (hn2 : n < 2 ^ f.p) (h1 : n * 2 ^ t ≤ a * 2 ^ s) (h2 : a * 2 ^ s < 2 * (n * 2 ^ t)) : FP.Core.encode f (FP.Core.quotient f (FP.Core.decode f (FP.Core.fromInt f (a : Int))) (FP.Core.decode f (FP.Core.fromInt f (n : Int)))) = (fbK f.p (FP.Core.nearest (a * 2 ^ s * 2 ^ (f.p - 1)) (n * 2 ^ t)) ((t : Int) - s) + f.emax).toNat * f.tails + (fbC f.p (FP.Core.nearest (a * 2 ^ s * 2 ^ (f.p - 1)) (n * 2 ^ t)) - f.tails) := by
  have g' := g
  obtain ⟨g1, g2, g3, g4, g5⟩ := g'
  obtain ⟨m1, m2, m3, m4⟩ := fp_norm ha ha2
  obtain ⟨n1, n2, n3, n4⟩ := fp_norm hn hn2
  rw [fp_val g ha ha2, fp_val g hn hn2]
  have xb : fpX f.p a ≤ f.p - 1 := by unfold fpX; omega
  have yb : fpX f.p n ≤ f.p - 1 := by unfold fpX; omega
  generalize fpX f.p a = x at *
  generalize fpX f.p n = y at *
  have ep : 2 ^ f.p = 2 * 2 ^ (f.p - 1) := by rw [Nat.mul_comm, ← Nat.pow_succ]; congr 1; omega
  have tp := Nat.two_pow_pos (f.p - 1)
  have pt := Nat.two_pow_pos t
  show FP.Core.encode f (if n * 2 ^ y = 0 then _ else FP.Core.roundRatio f (false != false) (a * 2 ^ x) (n * 2 ^ y) (-(x : Int) - -(y : Int))) = _
  rw [if_neg (by omega)]
  show FP.Core.encode f (FP.Core.roundRatio f false (a * 2 ^ x) (n * 2 ^ y) (-(x : Int) - -(y : Int))) = _
  have ge : f.tails ≤ FP.Core.nearest (a * 2 ^ s * 2 ^ (f.p - 1)) (n * 2 ^ t) := by
    refine fp_nearGe (Nat.mul_pos (by omega) pt) ?_
    unfold FP.Core.Fmt.tails
    rw [Nat.mul_comm]
    exact Nat.mul_le_mul_right _ h1
  have ld : FP.Core.leading (a * 2 ^ x) (n * 2 ^ y) = if n * 2 ^ y ≤ a * 2 ^ x then 0 else -1 := by
    unfold FP.Core.leading
    simp only [m3, n3, Int.sub_self]
    have z1 : (0 : Int).toNat = 0 := rfl
    have z2 : (-(0 : Int)).toNat = 0 := rfl
    rw [z1, z2, Nat.pow_zero, Nat.mul_one, Nat.mul_one]
    rfl
  unfold FP.Core.roundRatio
  rw [if_neg (by omega)]
  unfold FP.Core.quantum
  rw [ld]
  by_cases c : n * 2 ^ y ≤ a * 2 ^ x
  · rw [if_pos c]
    have u := pow_uniq h1 h2 c (by omega)
    have eq : max f.qmin (0 + (-(x : Int) - -(y : Int)) - ((f.p : Int) - 1)) = ((t : Int) - s) - ((f.p : Int) - 1) := by omega
    rw [eq]
    unfold FP.Core.roundAt FP.Core.unitsNum FP.Core.unitsDen
    have e1 : (-(x : Int) - -(y : Int) - (((t : Int) - s) - ((f.p : Int) - 1))).toNat = f.p - 1 := by omega
    have e2 : ((((t : Int) - s) - ((f.p : Int) - 1)) - (-(x : Int) - -(y : Int))).toNat = 0 := by omega
    rw [e1, e2, Nat.pow_zero, Nat.mul_one]
    have nr : FP.Core.nearest (a * 2 ^ x * 2 ^ (f.p - 1)) (n * 2 ^ y) = FP.Core.nearest (a * 2 ^ s * 2 ^ (f.p - 1)) (n * 2 ^ t) := by
      refine fp_nearC (by omega) (Nat.mul_pos (by omega) pt) ?_
      have e3 : 2 ^ x * 2 ^ t = 2 ^ s * 2 ^ y := by rw [← Nat.pow_add, ← Nat.pow_add]; congr 1; omega
      calc a * 2 ^ x * 2 ^ (f.p - 1) * (n * 2 ^ t) = a * n * 2 ^ (f.p - 1) * (2 ^ x * 2 ^ t) := by ac_rfl
        _ = a * n * 2 ^ (f.p - 1) * (2 ^ s * 2 ^ y) := by rw [e3]
        _ = a * 2 ^ s * 2 ^ (f.p - 1) * (n * 2 ^ y) := by ac_rfl
    rw [nr]
    exact fp_settle g ge (by omega) (by omega)
  · rw [if_neg c]
    have d1 : a * 2 ^ (x + 1) = 2 * (a * 2 ^ x) := by rw [Nat.pow_succ]; ac_rfl
    have u := pow_uniq (x := x + 1) (y := y) h1 h2 (by omega) (by omega)
    have eq : max f.qmin (-1 + (-(x : Int) - -(y : Int)) - ((f.p : Int) - 1)) = ((t : Int) - s) - ((f.p : Int) - 1) := by omega
    rw [eq]
    unfold FP.Core.roundAt FP.Core.unitsNum FP.Core.unitsDen
    have e1 : (-(x : Int) - -(y : Int) - (((t : Int) - s) - ((f.p : Int) - 1))).toNat = f.p - 1 + 1 := by omega
    have e2 : ((((t : Int) - s) - ((f.p : Int) - 1)) - (-(x : Int) - -(y : Int))).toNat = 0 := by omega
    rw [e1, e2, Nat.pow_zero, Nat.mul_one]
    have nr : FP.Core.nearest (a * 2 ^ x * 2 ^ (f.p - 1 + 1)) (n * 2 ^ y) = FP.Core.nearest (a * 2 ^ s * 2 ^ (f.p - 1)) (n * 2 ^ t) := by
      refine fp_nearC (by omega) (Nat.mul_pos (by omega) pt) ?_
      have e3 : 2 ^ (x + 1) * 2 ^ t = 2 ^ s * 2 ^ y := by rw [← Nat.pow_add, ← Nat.pow_add]; congr 1; omega
      calc a * 2 ^ x * 2 ^ (f.p - 1 + 1) * (n * 2 ^ t) = a * n * 2 ^ (f.p - 1) * (2 ^ (x + 1) * 2 ^ t) := by rw [Nat.pow_succ, Nat.pow_succ]; ac_rfl
        _ = a * n * 2 ^ (f.p - 1) * (2 ^ s * 2 ^ y) := by rw [e3]
        _ = a * 2 ^ s * 2 ^ (f.p - 1) * (n * 2 ^ y) := by ac_rfl
    rw [nr]
    exact fp_settle g ge (by omega) (by omega)
/-- the word of a whole number -/
theorem fp_int {f : FP.Core.Fmt} (g : fpG f) {a : Nat} (ha : 1 ≤ a) (h2 : a < 2 ^ f.p) : FP.Core.fromInt f (a : Int) = ((-(fpX f.p a : Int) - f.qmin).toNat + 1) * f.tails + (a * 2 ^ fpX f.p a - f.tails) := by
  have e1 : FP.Core.ofInt (a : Int) = .fin false a 0 := by
    unfold FP.Core.ofInt
    have : decide ((a : Int) < 0) = false := decide_eq_false (by omega)
    rw [this]; rfl
  have w := fp_whole (z := 0) g ha h2
  rw [Nat.pow_zero, Nat.mul_one] at w
  have e2 : FP.Core.round f (FP.Core.ofInt (a : Int)) = .fin false (a * 2 ^ fpX f.p a) (-(fpX f.p a : Int)) := by
    rw [e1]; exact w
  unfold FP.Core.fromInt
  rw [e2]
  obtain ⟨n1, n2, n3, n4⟩ := fp_norm ha h2
  exact fp_enc n1
theorem fp_w32 {a : Nat} (ha : 1 ≤ a) (h2 : a < 16777216) : FP.Core.fromInt FP.Core.b32 (a : Int) < 4294967296 := by
  have h := fp_int fp_g32 ha (h2 : a < 2 ^ FP.Core.b32.p)
  obtain ⟨n1, n2, n3, n4⟩ := fp_norm (p := FP.Core.b32.p) ha h2
  rw [h]
  have e1 : FP.Core.b32.qmin = -149 := by decide
  have e2 : FP.Core.b32.tails = 8388608 := by decide
  have e3 : (2 : Nat) ^ FP.Core.b32.p = 16777216 := by decide
  rw [e1, e2]
  rw [e3] at n2
  have k : (-(fpX FP.Core.b32.p a : Int) - -149).toNat ≤ 149 := by omega
  omega
theorem fp_w64 {a : Nat} (ha : 1 ≤ a) (h2 : a < 16777216) : FP.Core.fromInt FP.Core.b64 (a : Int) < 18446744073709551616 := by
  have e3 : (2 : Nat) ^ FP.Core.b64.p = 9007199254740992 := by decide
  have h := fp_int fp_g64 ha (by rw [e3]; omega)
  obtain ⟨n1, n2, n3, n4⟩ := fp_norm (p := FP.Core.b64.p) ha (by rw [e3]; omega)
  rw [h]
  have e1 : FP.Core.b64.qmin = -1074 := by decide
  have e2 : FP.Core.b64.tails = 4503599627370496 := by decide
  rw [e1, e2]
  rw [e3] at n2
  have k : (-(fpX FP.Core.b64.p a : Int) - -1074).toNat ≤ 1074 := by omega
  omega
theorem ii_toI {a : Nat} (h : a < 16777216) : (ii a).toInt = (a : Int) := by
  have := Int32.toInt_ofNat_of_lt (n := a) (by show a < 2147483648; omega)
  exact this
theorem f_int {a : Nat} (ha : 1 ≤ a) (ha2 : a < 16777216) : (FP.i2f (ii a)).toNat = FP.Core.fromInt FP.Core.b32 (a : Int) := by
  show (UInt32.ofNat (FP.Core.fromInt FP.Core.b32 (ii a).toInt)).toNat = _
  rw [ii_toI ha2, UInt32.toNat_ofNat_of_lt' (fp_w32 ha ha2)]
theorem d_int {a : Nat} (ha : 1 ≤ a) (ha2 : a < 16777216) : (FP.i2d (ii a)).toNat = FP.Core.fromInt FP.Core.b64 (a : Int) := by
  show (UInt64.ofNat (FP.Core.fromInt FP.Core.b64 (ii a).toInt)).toNat = _
  rw [ii_toI ha2, UInt64.toNat_ofNat_of_lt' (fp_w64 ha ha2)]
/-- float and double -/
theorem f_div {a n s t : Nat} (ha : 1 ≤ a) (ha2 : a < 16777216) (hn : 1 ≤ n) (hn2 : n < 16777216) (h1 : n * 2 ^ t ≤ a * 2 ^ s) (h2 : a * 2 ^ s < 2 * (n * 2 ^ t)) : FP.fdiv (FP.i2f (ii a)) (FP.i2f (ii n)) = UInt32.ofNat ((fbK 24 (FP.Core.nearest (a * 2 ^ s * 2 ^ 23) (n * 2 ^ t)) ((t : Int) - s) + 127).toNat * 8388608 + (fbC 24 (FP.Core.nearest (a * 2 ^ s * 2 ^ 23) (n * 2 ^ t)) - 8388608)) := by
  have q := fp_quot fp_g32 ha ha2 hn hn2 h1 h2
  show UInt32.ofNat (FP.Core.encode FP.Core.b32 (FP.Core.quotient FP.Core.b32 (FP.Core.decode FP.Core.b32 (FP.i2f (ii a)).toNat) (FP.Core.decode FP.Core.b32 (FP.i2f (ii n)).toNat))) = _
  rw [f_int ha ha2, f_int hn hn2]
  exact congrArg UInt32.ofNat q
theorem d_div {a n s t : Nat} (ha : 1 ≤ a) (ha2 : a < 16777216) (hn : 1 ≤ n) (hn2 : n < 16777216) (h1 : n * 2 ^ t ≤ a * 2 ^ s) (h2 : a * 2 ^ s < 2 * (n * 2 ^ t)) : FP.ddiv (FP.i2d (ii a)) (FP.i2d (ii n)) = UInt64.ofNat ((fbK 53 (FP.Core.nearest (a * 2 ^ s * 2 ^ 52) (n * 2 ^ t)) ((t : Int) - s) + 1023).toNat * 4503599627370496 + (fbC 53 (FP.Core.nearest (a * 2 ^ s * 2 ^ 52) (n * 2 ^ t)) - 4503599627370496)) := by
  have e3 : (2 : Nat) ^ FP.Core.b64.p = 9007199254740992 := by decide
  have q := fp_quot fp_g64 ha (by rw [e3]; omega) hn (by rw [e3]; omega) h1 h2
  show UInt64.ofNat (FP.Core.encode FP.Core.b64 (FP.Core.quotient FP.Core.b64 (FP.Core.decode FP.Core.b64 (FP.i2d (ii a)).toNat) (FP.Core.decode FP.Core.b64 (FP.i2d (ii n)).toNat))) = _
  rw [d_int ha ha2, d_int hn hn2]
  exact congrArg UInt64.ofNat q
