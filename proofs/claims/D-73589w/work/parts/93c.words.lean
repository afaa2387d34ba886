/-! PURE SIDE: words of floats and doubles on both sides -/
set_option maxRecDepth 100000
theorem fc_refl {f : FP.Core.Fmt} {n : Nat} (h : FP.Core.fieldE f n ≠ f.exps - 1) : FP.Core.cmp f n n = some .eq := by
  unfold FP.Core.cmp FP.Core.decode
  rw [if_neg h]
  have k : ∀ s c q, FP.Core.order (.fin s c q) (.fin s c q) = some .eq := by
    intro s c q
    show some (compare (FP.Core.signed s (FP.Core.inUnits c q (min q q))) (FP.Core.signed s (FP.Core.inUnits c q (min q q)))) = some .eq
    generalize FP.Core.signed s (FP.Core.inUnits c q (min q q)) = z
    simp [compare, compareOfLessAndEq]
  split
  · exact k _ _ _
  · exact k _ _ _
theorem w32 {E T : Nat} (hE : E < 255) (hT : T < 8388608) : (UInt32.ofNat (E * 8388608 + T)).toNat = E * 8388608 + T := UInt32.toNat_ofNat_of_lt' (by show _ < 4294967296; omega)
theorem w64 {E T : Nat} (hE : E < 2047) (hT : T < 4503599627370496) : (UInt64.ofNat (E * 4503599627370496 + T)).toNat = E * 4503599627370496 + T := UInt64.toNat_ofNat_of_lt' (by show _ < 18446744073709551616; omega)
theorem nn32 {E T : Nat} (hE : E < 255) (hT : T < 8388608) {β : Type} {P : Option β} : nnF (UInt32.ofNat (E * 8388608 + T)) P = P := by
  unfold nnF
  rw [if_pos]
  rw [UInt32.le_iff_toNat_le, UInt32.toNat_and, w32 hE hT]
  have := @Nat.and_le_left (E * 8388608 + T) (UInt32.toNat 0x7fffffff)
  have e : UInt32.toNat 0x7f800000 = 2139095040 := by decide
  omega
theorem nn64 {E T : Nat} (hE : E < 2047) (hT : T < 4503599627370496) {β : Type} {P : Option β} : nnD (UInt64.ofNat (E * 4503599627370496 + T)) P = P := by
  unfold nnD
  rw [if_pos]
  rw [UInt64.le_iff_toNat_le, UInt64.toNat_and, w64 hE hT]
  have := @Nat.and_le_left (E * 4503599627370496 + T) (UInt64.toNat 0x7fffffffffffffff)
  have e : UInt64.toNat 0x7ff0000000000000 = 9218868437227405312 := by decide
  omega
theorem fb32 {E T : Nat} (hE : E < 255) (hT : T < 8388608) {h : PH} : c_J10_floatToIntBits h (UInt32.ofNat (E * 8388608 + T)) = rI (ii (E * 8388608 + T : Nat)) h := by
  have e : FP.fcmp (UInt32.ofNat (E * 8388608 + T)) (UInt32.ofNat (E * 8388608 + T)) = some .eq := by
    show FP.Core.cmp FP.Core.b32 _ _ = _
    refine fc_refl ?_
    rw [w32 hE hT]
    show (E * 8388608 + T) / 8388608 % 256 ≠ 255
    omega
  unfold c_J10_floatToIntBits c_J10_isNaN
  rw [e]
  show rI (UInt32.ofNat (E * 8388608 + T)).toInt32 h = _
  rw [← ii_nat]
  rfl
theorem fb64 {E T : Nat} (hE : E < 2047) (hT : T < 4503599627370496) {h : PH} : c_J11_doubleToLongBits h (UInt64.ofNat (E * 4503599627370496 + T)) = rL (ll (E * 4503599627370496 + T : Nat)) h := by
  have e : FP.dcmp (UInt64.ofNat (E * 4503599627370496 + T)) (UInt64.ofNat (E * 4503599627370496 + T)) = some .eq := by
    show FP.Core.cmp FP.Core.b64 _ _ = _
    refine fc_refl ?_
    rw [w64 hE hT]
    show (E * 4503599627370496 + T) / 4503599627370496 % 2048 ≠ 2047
    omega
  unfold c_J11_doubleToLongBits c_J11_isNaN
  rw [e]
  show rL (UInt64.ofNat (E * 4503599627370496 + T)).toInt64 h = _
  have : ll ((E * 4503599627370496 + T : Nat) : Int) = Int64.ofNat (E * 4503599627370496 + T) := Int64.ofInt_eq_ofNat
  rw [this]
  rfl
theorem sh23 : ∀ E : Fin 255, (ii (E.val : Int)) <<< ((23 : Int32) &&& 31) = ii ((E.val * 8388608 : Nat) : Int) := by decide +kernel
theorem sh52 : ∀ E : Fin 2047, (ll (E.val : Int)) <<< ((52 : Int32).toInt64 &&& 63) = ll ((E.val * 4503599627370496 : Nat) : Int) := by decide +kernel
theorem or23 {E T : Nat} (hE : E < 255) (hT : T < 8388608) : ii ((E * 8388608 : Nat) : Int) ||| ii (T : Int) = ii ((E * 8388608 + T : Nat) : Int) := by
  rw [← ii_nat, ← ii_nat, ← ii_nat]
  apply Int32.toBitVec_inj.1
  rw [Int32.toBitVec_or]
  show BitVec.ofNat 32 (E * 8388608) ||| BitVec.ofNat 32 T = BitVec.ofNat 32 (E * 8388608 + T)
  apply BitVec.eq_of_toNat_eq
  rw [BitVec.toNat_or, BitVec.toNat_ofNat, BitVec.toNat_ofNat, BitVec.toNat_ofNat, Nat.mod_eq_of_lt (by omega), Nat.mod_eq_of_lt (by omega), Nat.mod_eq_of_lt (by omega)]
  have := Nat.shiftLeft_add_eq_or_of_lt (i := 23) (b := T) (by omega) E
  rw [Nat.shiftLeft_eq] at this
  exact this.symm
theorem or52 {E T : Nat} (hE : E < 2047) (hT : T < 4503599627370496) : ll ((E * 4503599627370496 : Nat) : Int) ||| ll (T : Int) = ll ((E * 4503599627370496 + T : Nat) : Int) := by
  have k : ∀ n : Nat, ll (n : Int) = Int64.ofNat n := fun n => Int64.ofInt_eq_ofNat
  rw [k, k, k]
  apply Int64.toBitVec_inj.1
  rw [Int64.toBitVec_or]
  show BitVec.ofNat 64 (E * 4503599627370496) ||| BitVec.ofNat 64 T = BitVec.ofNat 64 (E * 4503599627370496 + T)
  apply BitVec.eq_of_toNat_eq
  rw [BitVec.toNat_or, BitVec.toNat_ofNat, BitVec.toNat_ofNat, BitVec.toNat_ofNat, Nat.mod_eq_of_lt (by omega), Nat.mod_eq_of_lt (by omega), Nat.mod_eq_of_lt (by omega)]
  have := Nat.shiftLeft_add_eq_or_of_lt (i := 52) (b := T) (by omega) E
  rw [Nat.shiftLeft_eq] at this
  exact this.symm
theorem ms_self {ms : MS} {k i : Nat} : mset ms k i (ms.1 k i) = ms := by
  unfold mset
  refine Prod.ext ?_ rfl
  funext x y
  by_cases c : x = k ∧ y = i
  · simp [c]
  · simp [c]
theorem fbB {a n s t p : Nat} (hp : 2 ≤ p) (hn : 1 ≤ n) (hs : fbS a n s t) : 2 ^ (p - 1) ≤ fbC p (FP.Core.nearest (a * 2 ^ s * 2 ^ (p - 1)) (n * 2 ^ t)) ∧ fbC p (FP.Core.nearest (a * 2 ^ s * 2 ^ (p - 1)) (n * 2 ^ t)) < 2 ^ p ∧ -25 ≤ fbK p (FP.Core.nearest (a * 2 ^ s * 2 ^ (p - 1)) (n * 2 ^ t)) ((t : Int) - s) ∧ fbK p (FP.Core.nearest (a * 2 ^ s * 2 ^ (p - 1)) (n * 2 ^ t)) ((t : Int) - s) ≤ 26 := by
  have ep : 2 ^ p = 2 * 2 ^ (p - 1) := by rw [Nat.mul_comm, ← Nat.pow_succ]; congr 1; omega
  have tp := Nat.two_pow_pos (p - 1)
  have hY : 0 < n * 2 ^ t := Nat.mul_pos (by omega) (Nat.two_pow_pos t)
  obtain ⟨s1, s2, s3, s4⟩ := hs
  have ge : 2 ^ (p - 1) ≤ FP.Core.nearest (a * 2 ^ s * 2 ^ (p - 1)) (n * 2 ^ t) := by
    refine fp_nearGe hY ?_
    rw [Nat.mul_comm]
    exact Nat.mul_le_mul_right _ s1
  unfold fbC fbK
  split <;> omega
theorem fp_zq {f : FP.Core.Fmt} {N : Nat} {q X : Int} (hN : N ≠ 0) (ht : 0 < f.tails) : FP.Core.encode f (FP.Core.quotient f (.fin false 0 q) (.fin false N X)) = 0 := by
  have e1 : FP.Core.quotient f (.fin false 0 q) (.fin false N X) = .fin false 0 f.qmin := by
    show (if N = 0 then _ else _) = _
    rw [if_neg hN]
    unfold FP.Core.roundRatio
    rw [if_pos rfl]
    rfl
  rw [e1]
  show (if 0 < f.tails then _ else _) = _
  rw [if_pos ht]
  show (0 * f.exps + 0) * f.tails + 0 = 0
  rw [Nat.zero_mul, Nat.zero_mul]
theorem fp_zn {p n : Nat} (hn : 1 ≤ n) (h2 : n < 2 ^ p) : n * 2 ^ fpX p n ≠ 0 := by
  have := Nat.two_pow_pos (p - 1)
  have := (fp_norm hn h2).1
  omega
theorem ec32 {C : Nat} (hC : C < 16777216) : (ll (C : Int)).toInt32 = ii C := by
  apply Int32.toInt_inj.1
  rw [Int64.toInt_toInt32, ll_toInt (by omega), ii_toInt (by omega)]
  exact Int.bmod_eq_of_le (by omega) (by omega)
theorem wd32 {C : Nat} {K : Int} (h1 : 8388608 ≤ C) (h2 : C < 16777216) (h3 : -25 ≤ K) (h4 : K ≤ 26) : ((ii K + (127 : Int32)) <<< ((23 : Int32) &&& 31)) ||| ((ll C).toInt32 - (8388608 : Int32)) = ii (((K + 127).toNat * 8388608 + (C - 8388608) : Nat) : Int) := by
  rw [ec32 h2, show (127 : Int32) = ii 127 from rfl, ii_add, show (8388608 : Int32) = ii 8388608 from rfl, ii_sub]
  obtain ⟨E, hE⟩ : ∃ E : Nat, K + 127 = (E : Int) := ⟨(K + 127).toNat, by omega⟩
  obtain ⟨T, hT⟩ : ∃ T : Nat, C = 8388608 + T := ⟨C - 8388608, by omega⟩
  have b1 : E < 255 := by omega
  rw [show (C : Int) - 8388608 = (T : Int) by omega, hE, Int.toNat_natCast, show C - 8388608 = T by omega, ← or23 b1 (by omega), ← sh23 ⟨E, b1⟩]
theorem wd64 {C : Nat} {K : Int} (h1 : 4503599627370496 ≤ C) (h2 : C < 9007199254740992) (h3 : -25 ≤ K) (h4 : K ≤ 26) : (((ii K).toInt64 + (1023 : Int64)) <<< ((52 : Int32).toInt64 &&& 63)) ||| (ll C - (4503599627370496 : Int64)) = ll (((K + 1023).toNat * 4503599627370496 + (C - 4503599627370496) : Nat) : Int) := by
  rw [ll_ii (by omega), show (1023 : Int64) = ll 1023 from rfl, ll_add, show (4503599627370496 : Int64) = ll 4503599627370496 from rfl, ll_sub]
  obtain ⟨E, hE⟩ : ∃ E : Nat, K + 1023 = (E : Int) := ⟨(K + 1023).toNat, by omega⟩
  obtain ⟨T, hT⟩ : ∃ T : Nat, C = 4503599627370496 + T := ⟨C - 4503599627370496, by omega⟩
  have b1 : E < 2047 := by omega
  rw [show (C : Int) - 4503599627370496 = (T : Int) by omega, hE, Int.toNat_natCast, show C - 4503599627370496 = T by omega, ← or52 b1 (by omega), ← sh52 ⟨E, b1⟩]
theorem dI_eq {v w : Int32} {ms : MS} (h : v = w) : dI v ms = dI w ms := by rw [h]
theorem dL_eq {v w : Int64} {ms : MS} (h : v = w) : dL v ms = dL w ms := by rw [h]
theorem m_asF0 {ms : MS} {n : Nat} : d_M_asFloat ms (ii (0 : Nat)) (ii n) = dI (ii (0 * 8388608 + 0 : Nat)) (mset ms 26 0 (ms.1 26 0)) := by
  unfold d_M_asFloat
  rw [if_pos (show ii ((0 : Nat) : Int) = 0 from rfl), ms_self]
  rfl
theorem m_asF0b {n : Nat} (hn : 1 ≤ n ∧ n < 16777216) : FP.fdiv (FP.i2f (ii (0 : Nat))) (FP.i2f (ii n)) = UInt32.ofNat (0 * 8388608 + 0) := by
  have e3 : (2 : Nat) ^ FP.Core.b32.p = 16777216 := by decide
  have hn3 : n < 2 ^ FP.Core.b32.p := by rw [e3]; omega
  show UInt32.ofNat (FP.Core.encode FP.Core.b32 (FP.Core.quotient FP.Core.b32 (FP.Core.decode FP.Core.b32 (FP.i2f (ii (0 : Nat))).toNat) (FP.Core.decode FP.Core.b32 (FP.i2f (ii n)).toNat))) = _
  rw [f_int hn.1 hn.2, fp_val fp_g32 hn.1 hn3, show FP.Core.decode FP.Core.b32 (FP.i2f (ii (0 : Nat))).toNat = .fin false 0 (-149) by decide +kernel, fp_zq (fp_zn hn.1 hn3) (by decide)]
theorem m_asF1 {ms : MS} {a n C : Nat} {K : Int} (ha : 1 ≤ a ∧ a < 16777216) (b1 : 8388608 ≤ C) (b2 : C < 16777216) (b3 : -25 ≤ K) (b4 : K ≤ 26) (f2 : d_M_firstBits ms (ii a) (ii n) (ii (24 : Nat)) = dL (ll C) (mset ms 26 0 (ii K))) : d_M_asFloat ms (ii a) (ii n) = dI (ii (((K + 127).toNat * 8388608 + (C - 8388608) : Nat) : Int)) (mset ms 26 0 (ii K)) := by
  rw [← wd32 b1 b2 b3 b4]
  unfold d_M_asFloat
  rw [if_neg (ii_eq0F (by omega)), show (24 : Int32) = ii (24 : Nat) from rfl, f2]
  unfold bL dL vL nm
  dsimp only
  rw [ms_eq]
theorem m_asF2 {a n s t : Nat} (hn : 1 ≤ n) (f1 : fbS a n s t) : 8388608 ≤ fbC 24 (FP.Core.nearest (a * 2 ^ s * 2 ^ 23) (n * 2 ^ t)) ∧ fbC 24 (FP.Core.nearest (a * 2 ^ s * 2 ^ 23) (n * 2 ^ t)) < 16777216 ∧ -25 ≤ fbK 24 (FP.Core.nearest (a * 2 ^ s * 2 ^ 23) (n * 2 ^ t)) ((t : Int) - s) ∧ fbK 24 (FP.Core.nearest (a * 2 ^ s * 2 ^ 23) (n * 2 ^ t)) ((t : Int) - s) ≤ 26 := by
  have := fbB (p := 24) (by omega) hn f1
  rw [show (2 : Nat) ^ (24 - 1) = 8388608 from rfl, show (2 : Nat) ^ 24 = 16777216 from rfl] at this
  rw [show (2 : Nat) ^ 23 = 8388608 from rfl]
  exact this
/-- one float of the model, and the machine's -/
theorem m_asFloat {ms : MS} {a n : Nat} (ha : a < 16777216) (hn : 1 ≤ n ∧ n < 16777216) : ∃ (E T : Nat) (w : Int32), E < 255 ∧ T < 8388608 ∧ d_M_asFloat ms (ii a) (ii n) = dI (ii (E * 8388608 + T : Nat)) (mset ms 26 0 w) ∧ FP.fdiv (FP.i2f (ii a)) (FP.i2f (ii n)) = UInt32.ofNat (E * 8388608 + T) := by
  by_cases a0 : a = 0
  · subst a0
    exact ⟨0, 0, ms.1 26 0, by omega, by omega, m_asF0, m_asF0b hn⟩
  · obtain ⟨s, t, f1, f2⟩ := m_firstBits (ms := ms) (p := 24) (by omega) (show 1 ≤ a ∧ a < 16777216 by omega) hn
    obtain ⟨b1, b2, b3, b4⟩ := m_asF2 hn.1 f1
    have fd := f_div (by omega) ha hn.1 hn.2 f1.1 f1.2.1
    have k := m_asF1 (by omega) b1 b2 b3 b4 f2
    exact ⟨_, _, _, by omega, by omega, k, fd⟩
/-- one double of the model, and the machine's -/
theorem m_asDouble {ms : MS} {a n : Nat} (ha : a < 16777216) (hn : 1 ≤ n ∧ n < 16777216) : ∃ (E T : Nat) (w : Int32), E < 2047 ∧ T < 4503599627370496 ∧ d_M_asDouble ms (ii a) (ii n) = dL (ll (E * 4503599627370496 + T : Nat)) (mset ms 26 0 w) ∧ FP.ddiv (FP.i2d (ii a)) (FP.i2d (ii n)) = UInt64.ofNat (E * 4503599627370496 + T) := by
  have e3 : (2 : Nat) ^ FP.Core.b64.p = 9007199254740992 := by decide
  have hn3 : n < 2 ^ FP.Core.b64.p := by rw [e3]; omega
  by_cases a0 : a = 0
  · subst a0
    refine ⟨0, 0, ms.1 26 0, by omega, by omega, ?_, ?_⟩
    · unfold d_M_asDouble
      rw [if_pos (show ii ((0 : Nat) : Int) = 0 from rfl), ms_self]
      rfl
    · show UInt64.ofNat (FP.Core.encode FP.Core.b64 (FP.Core.quotient FP.Core.b64 (FP.Core.decode FP.Core.b64 (FP.i2d (ii 0)).toNat) (FP.Core.decode FP.Core.b64 (FP.i2d (ii n)).toNat))) = _
      rw [d_int hn.1 hn.2, fp_val fp_g64 hn.1 hn3, show FP.Core.decode FP.Core.b64 (FP.i2d (ii 0)).toNat = .fin false 0 (-1074) by decide +kernel, fp_zq (fp_zn hn.1 hn3) (by decide)]
  · obtain ⟨s, t, f1, f2⟩ := m_firstBits (ms := ms) (p := 53) (by omega) (show 1 ≤ a ∧ a < 16777216 by omega) hn
    obtain ⟨b1, b2, b3, b4⟩ := fbB (p := 53) (by omega) hn.1 f1
    have fd := d_div (by omega) ha hn.1 hn.2 f1.1 f1.2.1
    rw [fd]
    have b1' : 4503599627370496 ≤ fbC 53 (FP.Core.nearest (a * 2 ^ s * 2 ^ 52) (n * 2 ^ t)) := b1
    have b2' : fbC 53 (FP.Core.nearest (a * 2 ^ s * 2 ^ 52) (n * 2 ^ t)) < 9007199254740992 := b2
    have b3' : -25 ≤ fbK 53 (FP.Core.nearest (a * 2 ^ s * 2 ^ 52) (n * 2 ^ t)) ((t : Int) - s) := b3
    have b4' : fbK 53 (FP.Core.nearest (a * 2 ^ s * 2 ^ 52) (n * 2 ^ t)) ((t : Int) - s) ≤ 26 := b4
    refine ⟨(fbK 53 (FP.Core.nearest (a * 2 ^ s * 2 ^ 52) (n * 2 ^ t)) ((t : Int) - s) + 1023).toNat, fbC 53 (FP.Core.nearest (a * 2 ^ s * 2 ^ 52) (n * 2 ^ t)) - 4503599627370496, ii (fbK 53 (FP.Core.nearest (a * 2 ^ s * 2 ^ 52) (n * 2 ^ t)) ((t : Int) - s)), by omega, by omega, ?_, rfl⟩
    unfold d_M_asDouble
    rw [if_neg (ii_eq0F (by omega)), show (53 : Int32) = ii (53 : Nat) from rfl, f2]
    rw [← wd64 b1' b2' b3' b4']
    unfold bL dL vL nm
    dsimp only
    rw [ms_eq]
