/-! PURE SIDE: ints, bits, ends -/
set_option maxRecDepth 100000
/-- a program's int out of a number -/
def ii (a : Int) : Int32 := Int32.ofInt a
theorem ii_add (a b : Int) : ii a + ii b = ii (a + b) := (Int32.ofInt_add a b).symm
theorem ii_sub (a b : Int) : ii a - ii b = ii (a - b) := (Int32.ofInt_sub a b).symm
theorem ii_mul (a b : Int) : ii a * ii b = ii (a * b) := (Int32.ofInt_mul a b).symm
theorem ii_neg (a : Int) : -(ii a) = ii (-a) := (Int32.ofInt_neg a).symm
theorem ii_lit (n : Nat) : (OfNat.ofNat n : Int32) = ii (n : Int) := (Int32.ofInt_eq_ofNat (n := n)).symm
theorem ii_nat (n : Nat) : Int32.ofNat n = ii (n : Int) := (Int32.ofInt_eq_ofNat (n := n)).symm
theorem ii_int (x : Int32) : ii x.toInt = x := Int32.ofInt_toInt x
theorem ii_toInt {a : Int} (h : -2147483648 ≤ a ∧ a < 2147483648) : (ii a).toInt = a := Int32.toInt_ofInt_of_le (by omega) (by omega)
theorem ii_toNat {a : Int} (h : -2147483648 ≤ a ∧ a < 2147483648) : (ii a).toNatClampNeg = a.toNat := Int32.toNatClampNeg_ofInt_of_le (by omega) (by omega)
theorem ii_le {a b : Int} (h : -2147483648 ≤ a ∧ a < 2147483648 ∧ -2147483648 ≤ b ∧ b < 2147483648) : ii a ≤ ii b ↔ a ≤ b := by
  rw [Int32.le_iff_toInt_le, ii_toInt (by omega), ii_toInt (by omega)]
theorem ii_lt {a b : Int} (h : -2147483648 ≤ a ∧ a < 2147483648 ∧ -2147483648 ≤ b ∧ b < 2147483648) : ii a < ii b ↔ a < b := by
  rw [Int32.lt_iff_toInt_lt, ii_toInt (by omega), ii_toInt (by omega)]
theorem ii_eq {a b : Int} (h : -2147483648 ≤ a ∧ a < 2147483648 ∧ -2147483648 ≤ b ∧ b < 2147483648) : ii a = ii b ↔ a = b := by
  rw [← Int32.toInt_inj, ii_toInt (by omega), ii_toInt (by omega)]
theorem ii_div {a b : Int} (h : 0 ≤ a ∧ a < 2147483648 ∧ 0 < b ∧ b < 2147483648) : ii a / ii b = ii (a / b) := by
  have e : ii (a.tdiv b) = ii a / ii b := Int32.ofInt_tdiv (by show (-2147483648 : Int) ≤ a; omega) (by show a ≤ (2147483647 : Int); omega) (by show (-2147483648 : Int) ≤ b; omega) (by show b ≤ (2147483647 : Int); omega)
  rw [← e, Int.tdiv_eq_ediv_of_nonneg h.1]
theorem ii_mod {a b : Int} (h : 0 ≤ a ∧ a < 2147483648 ∧ 0 < b ∧ b < 2147483648) : ii a % ii b = ii (a % b) := by
  have e : ii (a.tmod b) = ii a % ii b := Int32.ofInt_tmod (by show (-2147483648 : Int) ≤ a; omega) (by show a ≤ (2147483647 : Int); omega) (by show (-2147483648 : Int) ≤ b; omega) (by show b ≤ (2147483647 : Int); omega)
  rw [← e, Int.tmod_eq_emod_of_nonneg h.1]
/-- every program int is one -/
theorem ii_all (x : Int32) : ∃ a : Int, x = ii a ∧ -2147483648 ≤ a ∧ a < 2147483648 := ⟨x.toInt, (ii_int x).symm, x.le_toInt, x.toInt_lt⟩
/-- conditions decided by numbers -/
theorem ii_leT {a b : Int} (h : -2147483648 ≤ a ∧ a < 2147483648 ∧ -2147483648 ≤ b ∧ b < 2147483648 ∧ a ≤ b) : ii a ≤ ii b := (ii_le (by omega)).2 (by omega)
theorem ii_leF {a b : Int} (h : -2147483648 ≤ a ∧ a < 2147483648 ∧ -2147483648 ≤ b ∧ b < 2147483648 ∧ b < a) : ¬ ii a ≤ ii b := fun e => by
  have := (ii_le (by omega)).1 e
  omega
theorem ii_ltT {a b : Int} (h : -2147483648 ≤ a ∧ a < 2147483648 ∧ -2147483648 ≤ b ∧ b < 2147483648 ∧ a < b) : ii a < ii b := (ii_lt (by omega)).2 (by omega)
theorem ii_ltF {a b : Int} (h : -2147483648 ≤ a ∧ a < 2147483648 ∧ -2147483648 ≤ b ∧ b < 2147483648 ∧ b ≤ a) : ¬ ii a < ii b := fun e => by
  have := (ii_lt (by omega)).1 e
  omega
theorem ii_eqT {a b : Int} (h : a = b) : ii a = ii b := by rw [h]
theorem ii_eqF {a b : Int} (h : -2147483648 ≤ a ∧ a < 2147483648 ∧ -2147483648 ≤ b ∧ b < 2147483648 ∧ a ≠ b) : ¬ ii a = ii b := fun e => h.2.2.2.2 ((ii_eq (by omega)).1 e)
theorem ii_eq0F {a : Int} (h : -2147483648 ≤ a ∧ a < 2147483648 ∧ a ≠ 0) : ¬ ii a = 0 := ii_eqF (b := 0) (by omega)
/-- a bit -/
def bn (b : Bool) : Int := if b = true then 1 else 0
theorem bn_t : bn true = 1 := rfl
theorem bn_f : bn false = 0 := rfl
theorem bn_le (b : Bool) : 0 ≤ bn b ∧ bn b ≤ 1 := by cases b <;> decide
theorem bn_inj {a b : Bool} (h : bn a = bn b) : a = b := by
  cases a <;> cases b <;> first | rfl | exact absurd h (by decide)
theorem bn_not (b : Bool) : 1 - bn b = bn (!b) := by cases b <;> rfl
/-- ends so -/
def Ends (P : Option RH) (Q : Rt → PH → Prop) : Prop := ∃ r h', P = some (r, h') ∧ Q r h'
def EV (P : Option RH) (Q : PH → Prop) : Prop := ∃ h', P = some (.inl none, h') ∧ Q h'
def EI (P : Option RH) (Q : Int32 → PH → Prop) : Prop := ∃ v h', P = some (.inl (some (.int v)), h') ∧ Q v h'
def EQ (P : Option RH) (Q : Option Nat → PH → Prop) : Prop := ∃ v h', P = some (.inl (some (va_rf v)), h') ∧ Q v h'
section
variable {h : PH} {a : Nat} {cs : List Nat} {k c : Nat} {fs : List Value} {P P1 P2 : Option RH} {Q : Rt → PH → Prop}
theorem Ends.mono {Q' : Rt → PH → Prop} (e : Ends P Q) (k : ∀ r h', Q r h' → Q' r h') : Ends P Q' := by
  obtain ⟨r, h', e1, e2⟩ := e
  exact ⟨r, h', e1, k r h' e2⟩
theorem q_rV (k : Q (.inl none) h) : Ends (rV h) Q := ⟨_, _, rfl, k⟩
theorem q_rI {v : Int32} (k : Q (.inl (some (.int v))) h) : Ends (rI v h) Q := ⟨_, _, rfl, k⟩
theorem q_rZ0 (k : Q (.inl (some (.int 0))) h) : Ends (rZ 0 h) Q := ⟨_, _, rfl, k⟩
theorem q_rZ1 (k : Q (.inl (some (.int 1))) h) : Ends (rZ 1 h) Q := ⟨_, _, rfl, k⟩
theorem q_rL {v : Int64} (k : Q (.inl (some (.long v))) h) : Ends (rL v h) Q := ⟨_, _, rfl, k⟩
theorem q_rQ {v : Option Nat} (k : Q (.inl (some (va_rf v))) h) : Ends (rQ v h) Q := ⟨_, _, rfl, k⟩
theorem q_rX {v : Nat × Nat} (k : Q (.inr v) h) : Ends (rX v h) Q := ⟨_, _, rfl, k⟩
theorem q_pos {p : Prop} (i : Decidable p) (hp : p) (k : Ends P1 Q) : Ends (@ite _ p i P1 P2) Q := by rw [if_pos hp]; exact k
theorem q_neg {p : Prop} (i : Decidable p) (hp : ¬ p) (k : Ends P2 Q) : Ends (@ite _ p i P1 P2) Q := by rw [if_neg hp]; exact k
theorem q_ite {p : Prop} (i : Decidable p) (k1 : p → Ends P1 Q) (k2 : ¬ p → Ends P2 Q) : Ends (@ite _ p i P1 P2) Q := by
  by_cases hp : p
  · rw [if_pos hp]; exact k1 hp
  · rw [if_neg hp]; exact k2 hp
theorem q_grd (e : h.1 a = some (.inr (c, fs))) (hc : c ∈ cs) (k : Ends P Q) : Ends (grd h a cs P) Q := by
  have : grd h a cs P = P := by unfold grd oC; rw [e]; exact if_pos hc
  rw [this]; exact k
theorem q_gI {v : Int32} {K : Int32 → Option RH} (e : h.1 a = some (.inr (c, fs))) (hc : c ∈ cs) (hv : fs[k]? = some (.int v)) (kk : Ends (K v) Q) : Ends (gI h a cs k K) Q := by
  have : gI h a cs k K = K v := by unfold gI oC; rw [e]; show (if c ∈ cs then vI fs[k]? K else none) = _; rw [if_pos hc, hv]; rfl
  rw [this]; exact kk
theorem q_gL {v : Int64} {K : Int64 → Option RH} (e : h.1 a = some (.inr (c, fs))) (hc : c ∈ cs) (hv : fs[k]? = some (.long v)) (kk : Ends (K v) Q) : Ends (gL h a cs k K) Q := by
  have : gL h a cs k K = K v := by unfold gL oC; rw [e]; show (if c ∈ cs then vL fs[k]? K else none) = _; rw [if_pos hc, hv]; rfl
  rw [this]; exact kk
theorem q_gQ {v : Option Nat} {K : Option Nat → Option RH} (e : h.1 a = some (.inr (c, fs))) (hc : c ∈ cs) (hv : fs[k]? = some (va_rf v)) (kk : Ends (K v) Q) : Ends (gQ h a cs k K) Q := by
  have : gQ h a cs k K = K v := by unfold gQ oC; rw [e]; show (if c ∈ cs then vQ fs[k]? K else none) = _; rw [if_pos hc, hv]; cases v <;> rfl
  rw [this]; exact kk
theorem q_gQr {v : Nat} {K : Option Nat → Option RH} (e : h.1 a = some (.inr (c, fs))) (hc : c ∈ cs) (hv : fs[k]? = some (.ref v)) (kk : Ends (K (some v)) Q) : Ends (gQ h a cs k K) Q := q_gQ (v := some v) e hc hv kk
theorem q_gQn {K : Option Nat → Option RH} (e : h.1 a = some (.inr (c, fs))) (hc : c ∈ cs) (hv : fs[k]? = some .null) (kk : Ends (K none) Q) : Ends (gQ h a cs k K) Q := q_gQ (v := none) e hc hv kk
theorem q_pF {v : Value} {K : PH → Option RH} (e : h.1 a = some (.inr (c, fs))) (hc : c ∈ cs) (hk : k < fs.length) (kk : Ends (K (hset h a (.inr (c, fs.set k v)))) Q) : Ends (pF h a cs k v K) Q := by
  have : pF h a cs k v K = K (hset h a (.inr (c, fs.set k v))) := by unfold pF oC; rw [e]; show (if c ∈ cs then _ else none) = _; rw [if_pos hc]; exact if_pos hk
  rw [this]; exact kk
theorem q_pI {v : Int32} {K : PH → Option RH} (e : h.1 a = some (.inr (c, fs))) (hc : c ∈ cs) (hk : k < fs.length) (kk : Ends (K (hset h a (.inr (c, fs.set k (.int v))))) Q) : Ends (pI h a cs k v K) Q := q_pF e hc hk kk
theorem q_pL {v : Int64} {K : PH → Option RH} (e : h.1 a = some (.inr (c, fs))) (hc : c ∈ cs) (hk : k < fs.length) (kk : Ends (K (hset h a (.inr (c, fs.set k (.long v))))) Q) : Ends (pL h a cs k v K) Q := q_pF e hc hk kk
theorem q_pQ {v : Option Nat} {K : PH → Option RH} (e : h.1 a = some (.inr (c, fs))) (hc : c ∈ cs) (hk : k < fs.length) (kk : Ends (K (hset h a (.inr (c, fs.set k (va_rf v))))) Q) : Ends (pQ h a cs k v K) Q := q_pF e hc hk kk
theorem q_pZ {v : Int32} {K : PH → Option RH} (e : h.1 a = some (.inr (c, fs))) (hc : c ∈ cs) (hk : k < fs.length) (hv : v = 0 ∨ v = 1) (kk : Ends (K (hset h a (.inr (c, fs.set k (.int v))))) Q) : Ends (pZ h a cs k v K) Q := by
  unfold pZ; rw [if_pos hv]; exact q_pF e hc hk kk
theorem q_nn {b : Nat} {K : Nat → Option RH} (kk : Ends (K b) Q) : Ends (nn (some b) K) Q := kk
theorem q_nz {b : Int32} (hb : b ≠ 0) (kk : Ends P Q) : Ends (nz b P) Q := by unfold nz; rw [if_neg hb]; exact kk
theorem q_nzL {b : Int64} (hb : b ≠ 0) (kk : Ends P Q) : Ends (nzL b P) Q := by unfold nzL; rw [if_neg hb]; exact kk
theorem q_nm {α : Type} {e : α} {K : α → Option RH} (kk : Ends (K e) Q) : Ends (nm e K) Q := kk
theorem inB_in {β : Type} {n : Nat} {z : Int} {P : Option β} (hz : 0 ≤ z ∧ z < n ∧ z < 2147483648) : inB (ii z) n P = P := by
  unfold inB
  rw [if_neg]
  rintro (e | e)
  · exact ii_ltF (b := 0) (by omega) e
  · rw [ii_toNat (by omega)] at e; omega
theorem q_ldI {t n : Nat} {z : Int} {f : Nat → Int32} {K : Int32 → Option RH} (e : h.1 a = some (.inl (t, n, .inl f))) (hz : 0 ≤ z ∧ z < n ∧ z < 2147483648) (kk : Ends (K (f z.toNat)) Q) : Ends (ldI h a t (ii z) K) Q := by
  have : ldI h a t (ii z) K = K (f z.toNat) := by unfold ldI aI; rw [e]; show (if t = t then inB _ _ _ else none) = _; rw [if_pos rfl, inB_in hz, ii_toNat (by omega)]
  rw [this]; exact kk
theorem q_ldL {n : Nat} {z : Int} {f : Nat → Int64} {K : Int64 → Option RH} (e : h.1 a = some (.inl (1, n, .inr (.inl f)))) (hz : 0 ≤ z ∧ z < n ∧ z < 2147483648) (kk : Ends (K (f z.toNat)) Q) : Ends (ldL h a (ii z) K) Q := by
  have : ldL h a (ii z) K = K (f z.toNat) := by unfold ldL aL; rw [e]; show (if 1 = 1 then inB _ _ _ else none) = _; rw [if_pos rfl, inB_in hz, ii_toNat (by omega)]
  rw [this]; exact kk
theorem q_ldQ {t n : Nat} {z : Int} {f : Nat → Option Nat} {K : Option Nat → Option RH} (e : h.1 a = some (.inl (t, n, .inr (.inr (.inr (.inr f)))))) (ht : 4 ≤ t ∧ t < 13) (hz : 0 ≤ z ∧ z < n ∧ z < 2147483648) (kk : Ends (K (f z.toNat)) Q) : Ends (ldQ h a (ii z) K) Q := by
  have : ldQ h a (ii z) K = K (f z.toNat) := by unfold ldQ aQ; rw [e]; show (if 4 ≤ t ∧ t < 13 then inB _ _ _ else none) = _; rw [if_pos ht, inB_in hz, ii_toNat (by omega)]
  rw [this]; exact kk
theorem q_stI {n : Nat} {z : Int} {v : Int32} {f : Nat → Int32} {K : PH → Option RH} (e : h.1 a = some (.inl (0, n, .inl f))) (hz : 0 ≤ z ∧ z < n ∧ z < 2147483648) (kk : Ends (K (hset h a (.inl (0, n, .inl (upd f z.toNat v))))) Q) : Ends (stI h a (ii z) v K) Q := by
  have : stI h a (ii z) v K = K (hset h a (.inl (0, n, .inl (upd f z.toNat v)))) := by unfold stI aI; rw [e]; show (if 0 = 0 then inB _ _ _ else none) = _; rw [if_pos rfl, inB_in hz, ii_toNat (by omega)]
  rw [this]; exact kk
theorem q_stB {n : Nat} {z : Int} {v : Int32} {f : Nat → Int32} {K : PH → Option RH} (e : h.1 a = some (.inl (2, n, .inl f))) (hz : 0 ≤ z ∧ z < n ∧ z < 2147483648) (kk : Ends (K (hset h a (.inl (2, n, .inl (upd f z.toNat (vp_nar .byte v)))))) Q) : Ends (stB h a (ii z) v K) Q := by
  have : stB h a (ii z) v K = K (hset h a (.inl (2, n, .inl (upd f z.toNat (vp_nar .byte v))))) := by unfold stB aI; rw [e]; show (if 2 = 2 then inB _ _ _ else none) = _; rw [if_pos rfl, inB_in hz, ii_toNat (by omega)]
  rw [this]; exact kk
theorem q_stL {n : Nat} {z : Int} {v : Int64} {f : Nat → Int64} {K : PH → Option RH} (e : h.1 a = some (.inl (1, n, .inr (.inl f)))) (hz : 0 ≤ z ∧ z < n ∧ z < 2147483648) (kk : Ends (K (hset h a (.inl (1, n, .inr (.inl (vp_updL f z.toNat v)))))) Q) : Ends (stL h a (ii z) v K) Q := by
  have : stL h a (ii z) v K = K (hset h a (.inl (1, n, .inr (.inl (vp_updL f z.toNat v))))) := by unfold stL aL; rw [e]; show (if 1 = 1 then inB _ _ _ else none) = _; rw [if_pos rfl, inB_in hz, ii_toNat (by omega)]
  rw [this]; exact kk
theorem q_stQn {t n : Nat} {z : Int} {f : Nat → Option Nat} {K : PH → Option RH} (e : h.1 a = some (.inl (t, n, .inr (.inr (.inr (.inr f)))))) (ht : 4 ≤ t ∧ t < 13) (h9 : t ≠ 9) (hz : 0 ≤ z ∧ z < n ∧ z < 2147483648) (kk : Ends (K (hset h a (.inl (t, n, .inr (.inr (.inr (.inr (va_up f z.toNat none)))))))) Q) : Ends (stQ h a (ii z) none K) Q := by
  have : stQ h a (ii z) none K = K (hset h a (.inl (t, n, .inr (.inr (.inr (.inr (va_up f z.toNat none))))))) := by unfold stQ aQ; rw [e]; show (if 4 ≤ t ∧ t < 13 then inB _ _ _ else none) = _; rw [if_pos ht, inB_in hz, ii_toNat (by omega)]; exact if_neg h9
  rw [this]; exact kk
theorem q_stQ {t n b : Nat} {z : Int} {pc : PC} {f : Nat → Option Nat} {K : PH → Option RH} (e : h.1 a = some (.inl (t, n, .inr (.inr (.inr (.inr f)))))) (ht : 4 ≤ t ∧ t < 13) (hz : 0 ≤ z ∧ z < n ∧ z < 2147483648) (eb : h.1 b = some pc) (hb : okS t pc = true) (kk : Ends (K (hset h a (.inl (t, n, .inr (.inr (.inr (.inr (va_up f z.toNat (some b))))))))) Q) : Ends (stQ h a (ii z) (some b) K) Q := by
  have : stQ h a (ii z) (some b) K = K (hset h a (.inl (t, n, .inr (.inr (.inr (.inr (va_up f z.toNat (some b)))))))) := by unfold stQ aQ; rw [e]; show (if 4 ≤ t ∧ t < 13 then inB _ _ _ else none) = _; rw [if_pos ht, inB_in hz, ii_toNat (by omega)]; show (match h.1 b with | some _ => _ | none => _) = _; rw [eb]; exact if_pos hb
  rw [this]; exact kk
theorem q_alen {x : Nat × vp_A} {K : Int32 → Option RH} (e : h.1 a = some (.inl x)) (hx : x.1 < 13) (kk : Ends (K (ii (x.2.1 : Int))) Q) : Ends (alen h a K) Q := by
  have : alen h a K = K (ii (x.2.1 : Int)) := by unfold alen; rw [e]; show (if _ then _ else none) = _; rw [if_pos hx, ii_nat]
  rw [this]; exact kk
theorem q_newO {K : Nat → PH → Option RH} (kk : Ends (K h.2.1.1 (hnew h fs.length (.inr (c, fs)))) Q) : Ends (newO h c fs K) Q := kk
theorem q_newA {t : Nat} {z : Int} {f : (Nat → Int32) ⊕ (Nat → Int64) ⊕ (Nat → UInt32) ⊕ (Nat → UInt64) ⊕ (Nat → Option Nat)} {K : Nat → PH → Option RH} (hz : 0 ≤ z ∧ z ≤ 65536) (kk : Ends (K h.2.1.1 (hnew h z.toNat (.inl (t, z.toNat, f)))) Q) : Ends (newA h t (ii z) f K) Q := by
  have : newA h t (ii z) f K = K h.2.1.1 (hnew h z.toNat (.inl (t, z.toNat, f))) := by
    unfold newA
    rw [ii_toNat (by omega), if_neg]
    rintro (e | e)
    · exact ii_ltF (b := 0) (by omega) e
    · omega
  rw [this]; exact kk
theorem q_hV {E : Nat × Nat → PH → Option RH} {K : PH → Option RH} {Q1 : PH → Prop} (e : EV P Q1) (kk : ∀ h', Q1 h' → Ends (K h') Q) : Ends (hV P E K) Q := by
  obtain ⟨h', e1, e2⟩ := e
  rw [e1]; exact kk h' e2
theorem q_hI {E : Nat × Nat → PH → Option RH} {K : Int32 → PH → Option RH} {Q1 : Int32 → PH → Prop} (e : EI P Q1) (kk : ∀ v h', Q1 v h' → Ends (K v h') Q) : Ends (hI P E K) Q := by
  obtain ⟨v, h', e1, e2⟩ := e
  rw [e1]; exact kk v h' e2
theorem q_hIe {E : Nat × Nat → PH → Option RH} {K : Int32 → PH → Option RH} {v : Int32} {h1 : PH} (e : P = rI v h1) (kk : Ends (K v h1) Q) : Ends (hI P E K) Q := by
  rw [e]; exact kk
theorem q_hVe {E : Nat × Nat → PH → Option RH} {K : PH → Option RH} {h1 : PH} (e : P = rV h1) (kk : Ends (K h1) Q) : Ends (hV P E K) Q := by
  rw [e]; exact kk
theorem q_hQ {E : Nat × Nat → PH → Option RH} {K : Option Nat → PH → Option RH} {Q1 : Option Nat → PH → Prop} (e : EQ P Q1) (kk : ∀ v h', Q1 v h' → Ends (K v h') Q) : Ends (hQ P E K) Q := by
  obtain ⟨v, h', e1, e2⟩ := e
  rw [e1]; cases v <;> exact kk _ h' e2
theorem q_hQe {E : Nat × Nat → PH → Option RH} {K : Option Nat → PH → Option RH} {v : Option Nat} {h1 : PH} (e : P = rQ v h1) (kk : Ends (K v h1) Q) : Ends (hQ P E K) Q := by
  rw [e]; cases v <;> exact kk
theorem q_iofT {n : Nat} (e : h.1 a = some (.inr (c, fs))) (kk : Ends P1 Q) : Ends (iof h (some a) c n P1 P2) Q := by
  have : iof h (some a) c n P1 P2 = P1 := by unfold iof; show (match h.1 a with | some (.inr o) => _ | _ => _) = _; rw [e]; exact if_pos rfl
  rw [this]; exact kk
theorem q_iofF {n : Nat} (e : h.1 a = some (.inr (c, fs))) (hn : c ≠ n) (kk : Ends P2 Q) : Ends (iof h (some a) n c P1 P2) Q := by
  have : iof h (some a) n c P1 P2 = P2 := by unfold iof; show (match h.1 a with | some (.inr o) => _ | _ => _) = _; rw [e]; show (if c = n then _ else if c = c then _ else _) = _; rw [if_neg hn, if_pos rfl]
  rw [this]; exact kk
theorem q_iofN {n : Nat} (kk : Ends P2 Q) : Ends (iof h none c n P1 P2) Q := kk
theorem EV.of {Q : PH → Prop} (e : Ends P (fun r h' => r = .inl none ∧ Q h')) : EV P Q := by
  obtain ⟨r, h', e1, e2, e3⟩ := e
  subst e2
  exact ⟨h', e1, e3⟩
theorem EI.of {Q : Int32 → PH → Prop} (e : Ends P (fun r h' => ∃ v, r = .inl (some (.int v)) ∧ Q v h')) : EI P Q := by
  obtain ⟨r, h', e1, v, e2, e3⟩ := e
  subst e2
  exact ⟨v, h', e1, e3⟩
theorem EQ.of {Q : Option Nat → PH → Prop} (e : Ends P (fun r h' => ∃ v, r = .inl (some (va_rf v)) ∧ Q v h')) : EQ P Q := by
  obtain ⟨r, h', e1, v, e2, e3⟩ := e
  subst e2
  exact ⟨v, h', e1, e3⟩
theorem EV.mono {Q Q' : PH → Prop} (e : EV P Q) (k : ∀ h', Q h' → Q' h') : EV P Q' := by
  obtain ⟨h', e1, e2⟩ := e
  exact ⟨h', e1, k h' e2⟩
theorem EI.mono {Q Q' : Int32 → PH → Prop} (e : EI P Q) (k : ∀ v h', Q v h' → Q' v h') : EI P Q' := by
  obtain ⟨v, h', e1, e2⟩ := e
  exact ⟨v, h', e1, k v h' e2⟩
theorem EQ.mono {Q Q' : Option Nat → PH → Prop} (e : EQ P Q) (k : ∀ v h', Q v h' → Q' v h') : EQ P Q' := by
  obtain ⟨v, h', e1, e2⟩ := e
  exact ⟨v, h', e1, k v h' e2⟩
end
theorem hset_hset {h : PH} {a : Nat} {c d : PC} : hset (hset h a c) a d = hset h a d := by
  unfold hset
  refine Prod.ext ?_ rfl
  funext x
  show va_up (va_up h.1 a (some c)) a (some d) x = va_up h.1 a (some d) x
  unfold va_up
  by_cases e : x = a
  · rw [if_pos e, if_pos e]
  · rw [if_neg e, if_neg e, if_neg e]
theorem new_eq {h : PH} {n : Nat} {c : PC} : (hnew h n c).1 h.2.1.1 = some c := va_up_self _ _ _
theorem new_ne {h : PH} {n b : Nat} {c : PC} (e : b ≠ h.2.1.1) : (hnew h n c).1 b = h.1 b := by show va_up h.1 _ _ b = _; rw [va_up, if_neg e]
/-- all cells lie below the size -/
def Wf (h : PH) : Prop := ∀ a, h.2.1.1 ≤ a → h.1 a = none
theorem Wf.lt {h : PH} {a : Nat} {c : PC} (w : Wf h) (e : h.1 a = some c) : a < h.2.1.1 := by
  refine Nat.lt_of_not_le fun h1 => ?_
  rw [w a h1] at e
  cases e
theorem Wf.set {h : PH} {a : Nat} {c : PC} (w : Wf h) (e : a < h.2.1.1) : Wf (hset h a c) := fun b hb => by
  have hb' : h.2.1.1 ≤ b := hb
  rw [up_ne (by omega)]; exact w b hb'
theorem Wf.new {h : PH} {n : Nat} {c : PC} (w : Wf h) : Wf (hnew h n c) := fun b hb => by
  have hb' : h.2.1.1 + 1 ≤ b := hb
  rw [new_ne (by omega)]; exact w b (by omega)
theorem Wf.bump {h : PH} {k n : Nat} (w : Wf h) : Wf (hbump h k n) := fun b hb => by
  have hb' : h.2.1.1 + k ≤ b := hb
  exact w b (by omega)
/-- loops: one round more -/
theorem itr_succ {α : Type} (b : α → α) (z : α) (n : Nat) : itr b z (n + 1) = b (itr b z n) := rfl
theorem il_0 : (0 : Int32) = ii 0 := ii_lit 0
theorem il_1 : (1 : Int32) = ii 1 := ii_lit 1
theorem il_2 : (2 : Int32) = ii 2 := ii_lit 2
theorem il_3 : (3 : Int32) = ii 3 := ii_lit 3
theorem il_4 : (4 : Int32) = ii 4 := ii_lit 4
theorem il_5 : (5 : Int32) = ii 5 := ii_lit 5
theorem il_6 : (6 : Int32) = ii 6 := ii_lit 6
theorem il_7 : (7 : Int32) = ii 7 := ii_lit 7
theorem il_8 : (8 : Int32) = ii 8 := ii_lit 8
theorem il_9 : (9 : Int32) = ii 9 := ii_lit 9
theorem il_10 : (10 : Int32) = ii 10 := ii_lit 10
theorem il_11 : (11 : Int32) = ii 11 := ii_lit 11
theorem il_12 : (12 : Int32) = ii 12 := ii_lit 12
theorem il_13 : (13 : Int32) = ii 13 := ii_lit 13
theorem il_14 : (14 : Int32) = ii 14 := ii_lit 14
theorem il_15 : (15 : Int32) = ii 15 := ii_lit 15
theorem il_16 : (16 : Int32) = ii 16 := ii_lit 16
theorem il_17 : (17 : Int32) = ii 17 := ii_lit 17
theorem il_18 : (18 : Int32) = ii 18 := ii_lit 18
theorem il_19 : (19 : Int32) = ii 19 := ii_lit 19
theorem il_20 : (20 : Int32) = ii 20 := ii_lit 20
theorem il_21 : (21 : Int32) = ii 21 := ii_lit 21
theorem il_22 : (22 : Int32) = ii 22 := ii_lit 22
theorem il_23 : (23 : Int32) = ii 23 := ii_lit 23
theorem il_24 : (24 : Int32) = ii 24 := ii_lit 24
theorem il_26 : (26 : Int32) = ii 26 := ii_lit 26
theorem il_27 : (27 : Int32) = ii 27 := ii_lit 27
theorem il_28 : (28 : Int32) = ii 28 := ii_lit 28
theorem il_30 : (30 : Int32) = ii 30 := ii_lit 30
theorem il_31 : (31 : Int32) = ii 31 := ii_lit 31
theorem il_32 : (32 : Int32) = ii 32 := ii_lit 32
theorem il_35 : (35 : Int32) = ii 35 := ii_lit 35
theorem il_37 : (37 : Int32) = ii 37 := ii_lit 37
theorem il_38 : (38 : Int32) = ii 38 := ii_lit 38
theorem il_39 : (39 : Int32) = ii 39 := ii_lit 39
theorem il_40 : (40 : Int32) = ii 40 := ii_lit 40
theorem il_41 : (41 : Int32) = ii 41 := ii_lit 41
theorem il_45 : (45 : Int32) = ii 45 := ii_lit 45
theorem il_47 : (47 : Int32) = ii 47 := ii_lit 47
theorem il_48 : (48 : Int32) = ii 48 := ii_lit 48
theorem il_50 : (50 : Int32) = ii 50 := ii_lit 50
theorem il_57 : (57 : Int32) = ii 57 := ii_lit 57
theorem il_59 : (59 : Int32) = ii 59 := ii_lit 59
theorem il_60 : (60 : Int32) = ii 60 := ii_lit 60
theorem il_61 : (61 : Int32) = ii 61 := ii_lit 61
theorem il_62 : (62 : Int32) = ii 62 := ii_lit 62
theorem il_63 : (63 : Int32) = ii 63 := ii_lit 63
theorem il_64 : (64 : Int32) = ii 64 := ii_lit 64
theorem il_66 : (66 : Int32) = ii 66 := ii_lit 66
theorem il_67 : (67 : Int32) = ii 67 := ii_lit 67
theorem il_68 : (68 : Int32) = ii 68 := ii_lit 68
theorem il_69 : (69 : Int32) = ii 69 := ii_lit 69
theorem il_70 : (70 : Int32) = ii 70 := ii_lit 70
theorem il_96 : (96 : Int32) = ii 96 := ii_lit 96
theorem il_97 : (97 : Int32) = ii 97 := ii_lit 97
theorem il_99 : (99 : Int32) = ii 99 := ii_lit 99
theorem il_104 : (104 : Int32) = ii 104 := ii_lit 104
theorem il_105 : (105 : Int32) = ii 105 := ii_lit 105
theorem il_111 : (111 : Int32) = ii 111 := ii_lit 111
theorem il_122 : (122 : Int32) = ii 122 := ii_lit 122
theorem il_127 : (127 : Int32) = ii 127 := ii_lit 127
theorem il_150 : (150 : Int32) = ii 150 := ii_lit 150
theorem il_151 : (151 : Int32) = ii 151 := ii_lit 151
theorem il_152 : (152 : Int32) = ii 152 := ii_lit 152
theorem il_160 : (160 : Int32) = ii 160 := ii_lit 160
theorem il_199 : (199 : Int32) = ii 199 := ii_lit 199
theorem il_200 : (200 : Int32) = ii 200 := ii_lit 200
theorem il_206 : (206 : Int32) = ii 206 := ii_lit 206
theorem il_207 : (207 : Int32) = ii 207 := ii_lit 207
theorem il_240 : (240 : Int32) = ii 240 := ii_lit 240
theorem il_255 : (255 : Int32) = ii 255 := ii_lit 255
theorem il_400 : (400 : Int32) = ii 400 := ii_lit 400
theorem il_599 : (599 : Int32) = ii 599 := ii_lit 599
theorem il_600 : (600 : Int32) = ii 600 := ii_lit 600
theorem il_900 : (900 : Int32) = ii 900 := ii_lit 900
theorem il_939 : (939 : Int32) = ii 939 := ii_lit 939
theorem il_940 : (940 : Int32) = ii 940 := ii_lit 940
theorem il_999 : (999 : Int32) = ii 999 := ii_lit 999
theorem il_1000 : (1000 : Int32) = ii 1000 := ii_lit 1000
theorem il_1023 : (1023 : Int32) = ii 1023 := ii_lit 1023
theorem il_2606 : (2606 : Int32) = ii 2606 := ii_lit 2606
theorem il_2607 : (2607 : Int32) = ii 2607 := ii_lit 2607
theorem il_2611 : (2611 : Int32) = ii 2611 := ii_lit 2611
theorem il_2615 : (2615 : Int32) = ii 2615 := ii_lit 2615
theorem il_2616 : (2616 : Int32) = ii 2616 := ii_lit 2616
theorem il_2816 : (2816 : Int32) = ii 2816 := ii_lit 2816
theorem il_3212 : (3212 : Int32) = ii 3212 := ii_lit 3212
theorem il_3213 : (3213 : Int32) = ii 3213 := ii_lit 3213
theorem il_3420 : (3420 : Int32) = ii 3420 := ii_lit 3420
theorem il_5820 : (5820 : Int32) = ii 5820 := ii_lit 5820
theorem il_5821 : (5821 : Int32) = ii 5821 := ii_lit 5821
theorem il_5822 : (5822 : Int32) = ii 5822 := ii_lit 5822
theorem il_6061 : (6061 : Int32) = ii 6061 := ii_lit 6061
theorem il_6062 : (6062 : Int32) = ii 6062 := ii_lit 6062
theorem il_12124 : (12124 : Int32) = ii 12124 := ii_lit 12124
theorem il_12345 : (12345 : Int32) = ii 12345 := ii_lit 12345
theorem il_22491 : (22491 : Int32) = ii 22491 := ii_lit 22491
theorem il_25704 : (25704 : Int32) = ii 25704 := ii_lit 25704
theorem il_1103515245 : (1103515245 : Int32) = ii 1103515245 := ii_lit 1103515245
