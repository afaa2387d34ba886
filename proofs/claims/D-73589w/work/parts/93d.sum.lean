/-! PURE SIDE: sums of whole doubles -/
set_option maxRecDepth 100000
theorem fp_sum {a b X Y : Nat} : FP.Core.exactSum (.fin false (a * 2 ^ X) (-(X : Int))) (.fin false (b * 2 ^ Y) (-(Y : Int))) = .fin false ((a + b) * 2 ^ max X Y) (-((max X Y : Nat) : Int)) := by
  have m : min (-(X : Int)) (-(Y : Int)) = -((max X Y : Nat) : Int) := by omega
  have u : FP.Core.sumUnits false (a * 2 ^ X) (-(X : Int)) false (b * 2 ^ Y) (-(Y : Int)) (-((max X Y : Nat) : Int)) = (((a + b) * 2 ^ max X Y : Nat) : Int) := by
    unfold FP.Core.sumUnits FP.Core.signed FP.Core.inUnits
    have e1 : (-(X : Int) - -((max X Y : Nat) : Int)).toNat = max X Y - X := by omega
    have e2 : (-(Y : Int) - -((max X Y : Nat) : Int)).toNat = max X Y - Y := by omega
    rw [e1, e2, Nat.mul_assoc, Nat.mul_assoc, ← Nat.pow_add, ← Nat.pow_add, show X + (max X Y - X) = max X Y by omega, show Y + (max X Y - Y) = max X Y by omega, Nat.add_mul]
    rfl
  show FP.Core.Datum.fin (FP.Core.sumSign false false (FP.Core.sumUnits false (a * 2 ^ X) (-(X : Int)) false (b * 2 ^ Y) (-(Y : Int)) (min (-(X : Int)) (-(Y : Int))))) (FP.Core.sumUnits false (a * 2 ^ X) (-(X : Int)) false (b * 2 ^ Y) (-(Y : Int)) (min (-(X : Int)) (-(Y : Int)))).natAbs (min (-(X : Int)) (-(Y : Int))) = _
  rw [m, u, Int.natAbs_natCast]
  congr 1
  unfold FP.Core.sumSign
  split
  · rfl
  · exact decide_eq_false (by omega)
theorem d_dec {a : Nat} (ha : a < 16777216) : ∃ X : Nat, FP.Core.decode FP.Core.b64 (FP.i2d (ii a)).toNat = .fin false (a * 2 ^ X) (-(X : Int)) := by
  by_cases a0 : a = 0
  · subst a0
    refine ⟨1074, ?_⟩
    rw [Nat.zero_mul]
    decide +kernel
  · have e3 : (2 : Nat) ^ FP.Core.b64.p = 9007199254740992 := by decide
    have a3 : a < 2 ^ FP.Core.b64.p := by rw [e3]; omega
    exact ⟨_, by rw [d_int (by omega) ha]; exact fp_val fp_g64 (by omega) a3⟩
theorem d_word {a : Nat} (ha : a < 16777216) : ∃ E T, E < 2047 ∧ T < 4503599627370496 ∧ FP.i2d (ii a) = UInt64.ofNat (E * 4503599627370496 + T) := by
  by_cases a0 : a = 0
  · subst a0
    exact ⟨0, 0, by omega, by omega, by decide +kernel⟩
  · have e3 : (2 : Nat) ^ FP.Core.b64.p = 9007199254740992 := by decide
    have a3 : a < 2 ^ FP.Core.b64.p := by rw [e3]; omega
    have h := fp_int fp_g64 (by omega) a3
    obtain ⟨n1, n2, n3, n4⟩ := fp_norm (p := FP.Core.b64.p) (by omega) a3
    have e1 : FP.Core.b64.qmin = -1074 := by decide
    have e2 : FP.Core.b64.tails = 4503599627370496 := by decide
    have e4 : (2 : Nat) ^ (FP.Core.b64.p - 1) = 4503599627370496 := by decide
    rw [e1, e2] at h
    rw [e3] at n2
    rw [e4] at n1
    refine ⟨(-(fpX FP.Core.b64.p a : Int) - -1074).toNat + 1, a * 2 ^ fpX FP.Core.b64.p a - 4503599627370496, by omega, by omega, ?_⟩
    show UInt64.ofNat (FP.Core.fromInt FP.Core.b64 (ii a).toInt) = _
    rw [ii_toI ha, h]
theorem d_sum {a b : Nat} (h : a + b < 16777216) : FP.dadd (FP.i2d (ii a)) (FP.i2d (ii b)) = FP.i2d (ii (a + b : Nat)) := by
  obtain ⟨X, hX⟩ := d_dec (a := a) (by omega)
  obtain ⟨Y, hY⟩ := d_dec (a := b) (by omega)
  show UInt64.ofNat (FP.Core.encode FP.Core.b64 (FP.Core.round FP.Core.b64 (FP.Core.exactSum (FP.Core.decode FP.Core.b64 (FP.i2d (ii a)).toNat) (FP.Core.decode FP.Core.b64 (FP.i2d (ii b)).toNat)))) = UInt64.ofNat (FP.Core.fromInt FP.Core.b64 (ii (a + b : Nat)).toInt)
  rw [hX, hY, fp_sum, ii_toI h]
  have e3 : (2 : Nat) ^ FP.Core.b64.p = 9007199254740992 := by decide
  generalize max X Y = Z
  generalize a + b = c at *
  have a3 : c < 2 ^ FP.Core.b64.p := by rw [e3]; omega
  show UInt64.ofNat (FP.Core.encode FP.Core.b64 (FP.Core.roundRatio FP.Core.b64 false (c * 2 ^ Z) 1 (-(Z : Int)))) = UInt64.ofNat (FP.Core.encode FP.Core.b64 (FP.Core.round FP.Core.b64 (FP.Core.ofInt (c : Int))))
  have e1 : FP.Core.ofInt (c : Int) = .fin false c 0 := by
    unfold FP.Core.ofInt
    have : decide ((c : Int) < 0) = false := decide_eq_false (by omega)
    rw [this]; rfl
  rw [e1]
  show _ = UInt64.ofNat (FP.Core.encode FP.Core.b64 (FP.Core.roundRatio FP.Core.b64 false c 1 0))
  by_cases c0 : c = 0
  · subst c0
    unfold FP.Core.roundRatio
    rw [if_pos (Nat.zero_mul _), if_pos rfl]
  · have w := fp_whole (z := 0) fp_g64 (by omega) a3
    rw [Nat.pow_zero, Nat.mul_one] at w
    rw [fp_whole fp_g64 (by omega) a3]
    exact congrArg (fun d => UInt64.ofNat (FP.Core.encode FP.Core.b64 d)) w.symm
theorem d_zero : FP.dconst0 = FP.i2d (ii (0 : Nat)) := by decide +kernel
