/-! PURE SIDE: the model: ends -/
set_option maxRecDepth 100000
def DE (P : Option DR) (Q : Option Value → MS → Prop) : Prop := ∃ r m, P = some (r, m) ∧ Q r m
def DV (P : Option DR) (Q : MS → Prop) : Prop := ∃ m, P = some (none, m) ∧ Q m
def DI (P : Option DR) (Q : Int32 → MS → Prop) : Prop := ∃ v m, P = some (some (.int v), m) ∧ Q v m
section
variable {ms : MS} {P P1 P2 : Option DR} {Q : Option Value → MS → Prop}
theorem d_nm {α : Type} {e : α} {K : α → Option DR} (kk : DE (K e) Q) : DE (nm e K) Q := kk
theorem d_dI {v : Int32} (k : Q (some (.int v)) ms) : DE (dI v ms) Q := ⟨_, _, rfl, k⟩
theorem d_dV (k : Q none ms) : DE (dV ms) Q := ⟨_, _, rfl, k⟩
theorem d_dL {v : Int64} (k : Q (some (.long v)) ms) : DE (dL v ms) Q := ⟨_, _, rfl, k⟩
theorem d_dZ0 (k : Q (some (.int 0)) ms) : DE (dZ 0 ms) Q := ⟨_, _, rfl, k⟩
theorem d_dZ1 (k : Q (some (.int 1)) ms) : DE (dZ 1 ms) Q := ⟨_, _, rfl, k⟩
theorem d_pos {p : Prop} (i : Decidable p) (hp : p) (k : DE P1 Q) : DE (@ite _ p i P1 P2) Q := by rw [if_pos hp]; exact k
theorem d_neg {p : Prop} (i : Decidable p) (hp : ¬ p) (k : DE P2 Q) : DE (@ite _ p i P1 P2) Q := by rw [if_neg hp]; exact k
theorem d_nz {b : Int32} (hb : b ≠ 0) (kk : DE P Q) : DE (nz b P) Q := by unfold nz; rw [if_neg hb]; exact kk
theorem d_nzL {b : Int64} (hb : b ≠ 0) (kk : DE P Q) : DE (nzL b P) Q := by unfold nzL; rw [if_neg hb]; exact kk
theorem d_eA {k N n : Nat} {z : Int} {v : Int32} {K : Int32 → Option DR} (hm : mLn k = N) (hz : z = (n : Int) ∧ n < N ∧ n < 2147483648) (hv : ms.1 k n = v) (kk : DE (K v) Q) : DE (eA ms k (ii z) K) Q := by
  unfold eA
  rw [hm, inB_in (by omega), ii_toNat (by omega)]
  have : z.toNat = n := by omega
  rw [this, hv]
  exact kk
theorem d_eL {k N n : Nat} {z : Int} {v : Int64} {K : Int64 → Option DR} (hm : mLn k = N) (hz : z = (n : Int) ∧ n < N ∧ n < 2147483648) (hv : ms.2 k n = v) (kk : DE (K v) Q) : DE (eL ms k (ii z) K) Q := by
  unfold eL
  rw [hm, inB_in (by omega), ii_toNat (by omega)]
  have : z.toNat = n := by omega
  rw [this, hv]
  exact kk
theorem d_sA {k N n : Nat} {z : Int} {v : Int32} {K : MS → Option DR} (hm : mLn k = N) (hz : z = (n : Int) ∧ n < N ∧ n < 2147483648) (kk : DE (K (mset ms k n v)) Q) : DE (sA ms k (ii z) v K) Q := by
  unfold sA
  rw [hm, inB_in (by omega), ii_toNat (by omega)]
  have : z.toNat = n := by omega
  rw [this]
  exact kk
theorem d_sL {k N n : Nat} {z : Int} {v : Int64} {K : MS → Option DR} (hm : mLn k = N) (hz : z = (n : Int) ∧ n < N ∧ n < 2147483648) (kk : DE (K (msetL ms k n v)) Q) : DE (sL ms k (ii z) v K) Q := by
  unfold sL
  rw [hm, inB_in (by omega), ii_toNat (by omega)]
  have : z.toNat = n := by omega
  rw [this]
  exact kk
theorem d_bI {K : Int32 → MS → Option DR} {Q1 : Int32 → MS → Prop} (e : DI P Q1) (kk : ∀ v m, Q1 v m → DE (K v m) Q) : DE (bI P K) Q := by
  obtain ⟨v, m, e1, e2⟩ := e
  rw [e1]; exact kk v m e2
theorem d_bV {K : MS → Option DR} {Q1 : MS → Prop} (e : DV P Q1) (kk : ∀ m, Q1 m → DE (K m) Q) : DE (bV P K) Q := by
  obtain ⟨m, e1, e2⟩ := e
  rw [e1]; exact kk m e2
theorem d_bIe {K : Int32 → MS → Option DR} {v : Int32} {m : MS} (e : P = dI v m) (kk : DE (K v m) Q) : DE (bI P K) Q := by rw [e]; exact kk
theorem d_bVe {K : MS → Option DR} {m : MS} (e : P = dV m) (kk : DE (K m) Q) : DE (bV P K) Q := by rw [e]; exact kk
theorem DV.of {Q : MS → Prop} (e : DE P (fun r m => r = none ∧ Q m)) : DV P Q := by
  obtain ⟨r, m, e1, e2, e3⟩ := e
  subst e2
  exact ⟨m, e1, e3⟩
theorem DI.of {Q : Int32 → MS → Prop} (e : DE P (fun r m => ∃ v, r = some (.int v) ∧ Q v m)) : DI P Q := by
  obtain ⟨r, m, e1, v, e2, e3⟩ := e
  subst e2
  exact ⟨v, m, e1, e3⟩
theorem DE.ofV {Q1 : MS → Prop} (e : DV P Q1) (k : ∀ m, Q1 m → Q none m) : DE P Q := by
  obtain ⟨m, e1, e2⟩ := e
  exact ⟨_, _, e1, k _ e2⟩
theorem DE.ofI {Q1 : Int32 → MS → Prop} (e : DI P Q1) (k : ∀ v m, Q1 v m → Q (some (.int v)) m) : DE P Q := by
  obtain ⟨v, m, e1, e2⟩ := e
  exact ⟨_, _, e1, k _ _ e2⟩
theorem dEqI {v : Int32} {m : MS} (e : DE P (fun r m' => r = some (.int v) ∧ m' = m)) : P = dI v m := by
  obtain ⟨r, m', e1, e2, e3⟩ := e
  rw [e1, e2, e3]; rfl
end
theorem ms_eq {ms : MS} {k i : Nat} {v : Int32} : (mset ms k i v).1 k i = v := by simp [mset]
theorem ms_ne {ms : MS} {k i x : Nat} {v : Int32} (h : x ≠ i) : (mset ms k i v).1 k x = ms.1 k x := by simp [mset, h]
theorem ms_nk {ms : MS} {k k' i : Nat} {v : Int32} (h : k' ≠ k) : (mset ms k i v).1 k' = ms.1 k' := by
  funext x
  simp [mset, h]
theorem ms_if {ms : MS} {k i x : Nat} {v : Int32} : (mset ms k i v).1 k x = if x = i then v else ms.1 k x := by simp [mset]
/-- a row as the model has it -/
def szs (ls : LL) (k : Nat) : Nat := (ls.getD k []).length
def MR (nw : Nat → Int32) (r : Nat) (ls : LL) : Prop := nw (2607 + r) = ii ls.flatten.length ∧ nw (2611 + r) = ii ls.length ∧ (∀ k, k < 151 → nw (2816 + 151 * r + k) = ii (szs ls k)) ∧ ∀ i, i < ls.flatten.length → nw (3420 + 600 * r + i) = ii (bn (gb ls.flatten i))
def rIx (r x : Nat) : Prop := x = 2607 + r ∨ x = 2611 + r ∨ (2816 + 151 * r ≤ x ∧ x < 2816 + 151 * (r + 1)) ∨ (3420 + 600 * r ≤ x ∧ x < 3420 + 600 * (r + 1))
/-- only the row r is another -/
def MF (r : Nat) (ms ms' : MS) : Prop := ms'.2 = ms.2 ∧ (∀ k, k ≠ 14 → ms'.1 k = ms.1 k) ∧ ∀ x, ¬ rIx r x → ms'.1 14 x = ms.1 14 x
theorem MF.rf {r : Nat} {ms : MS} : MF r ms ms := ⟨rfl, fun _ _ => rfl, fun _ _ => rfl⟩
theorem MF.trans {r : Nat} {a b c : MS} (o : MF r a b) (k : MF r b c) : MF r a c := ⟨k.1.trans o.1, fun j hj => (k.2.1 j hj).trans (o.2.1 j hj), fun x hx => (k.2.2 x hx).trans (o.2.2 x hx)⟩
theorem MF.set {r x : Nat} {ms : MS} {v : Int32} (h : rIx r x) : MF r ms (mset ms 14 x v) := ⟨rfl, fun k hk => ms_nk hk, fun y hy => ms_ne (fun q => hy (by rw [q]; exact h))⟩
theorem szs_at {ls : LL} {k : Nat} {l : List Bool} (h : ls[k]? = some l) : szs ls k = l.length := by unfold szs; rw [getD_at h]
theorem szs_out {ls : LL} {k : Nat} (h : ls.length ≤ k) : szs ls k = 0 := by
  unfold szs
  rw [List.getD_eq_getElem?_getD, List.getElem?_eq_none h]
  rfl
theorem szs_le {ls : LL} {k n : Nat} (h : ∀ l, l ∈ ls → l.length ≤ n) : szs ls k ≤ n := by
  cases hk : ls[k]? with
  | none => rw [szs_out (List.getElem?_eq_none_iff.mp hk)]; exact Nat.zero_le _
  | some l => rw [szs_at hk]; exact h l (List.mem_of_getElem? hk)
theorem m_leafAt {ms : MS} {r k : Nat} : d_M_leafAt ms (ii r) (ii k) = dI (ii (2816 + 151 * r + k : Nat)) ms := by
  unfold d_M_leafAt
  rw [show (2816 : Int32) = ii 2816 from ii_lit 2816, il_151, ii_mul, ii_add, ii_add]
  congr 1
theorem take_mono {ls : LL} {a b : Nat} (h : a ≤ b) : (ls.take a).flatten.length ≤ (ls.take b).flatten.length := by
  have e : ls.take b = (ls.take b).take a ++ (ls.take b).drop a := (List.take_append_drop a _).symm
  rw [List.take_take, Nat.min_eq_left h] at e
  rw [e, List.flatten_append, List.length_append]
  omega
theorem take_szs {ls : LL} {k : Nat} : (ls.take (k + 1)).flatten.length = (ls.take k).flatten.length + szs ls k := by
  cases hk : ls[k]? with
  | none =>
    have := List.getElem?_eq_none_iff.mp hk
    rw [szs_out this, List.take_of_length_le (by omega), List.take_of_length_le (by omega)]
    rfl
  | some l => rw [szs_at hk, take_flat hk]
section
variable {ms : MS} {r low : Nat} {ls : LL}
theorem m_leafOf_l15 {i K : Nat} (hr : r < 4) (hS : ∀ k, k < 151 → ms.1 14 (2816 + 151 * r + k) = ii (szs ls k)) (hK : K < 151) (hi : i ≤ 600) (h1 : (ls.take K).flatten.length ≤ i) (h2 : i < (ls.take (K + 1)).flatten.length) (hT : ls.flatten.length ≤ 600) : ∀ (m fu k : Nat), m < fu → k + m = K → itr (d_M_leafOf_l15) (fun _ _ _ _ _ => none) fu ms (ii r) (ii i) (ii k) (ii (ls.take (k + 1)).flatten.length) = dI (ii K) ms := by
  have tl : ∀ a, (ls.take a).flatten.length ≤ 600 := fun a => by
    have e := congrArg (fun z : LL => z.flatten.length) (List.take_append_drop a ls)
    simp only [List.flatten_append, List.length_append] at e
    omega
  intro m
  induction m with
  | zero =>
    intro fu k hf hk
    obtain ⟨fu, rfl⟩ : ∃ x, fu = x + 1 := ⟨fu - 1, by omega⟩
    have : k = K := by omega
    subst this
    have := tl (k + 1)
    rw [itr_succ]
    unfold d_M_leafOf_l15
    rw [if_pos (ii_ltT (by omega))]
  | succ m ih =>
    intro fu k hf hk
    obtain ⟨fu, rfl⟩ : ∃ x, fu = x + 1 := ⟨fu - 1, by omega⟩
    have t1 := tl (k + 1)
    have t2 := take_mono (ls := ls) (show k + 1 ≤ K by omega)
    have key : DE (d_M_leafOf_l15 (itr (d_M_leafOf_l15) (fun _ _ _ _ _ => none) fu) ms (ii r) (ii i) (ii k) (ii (ls.take (k + 1)).flatten.length)) (fun r m' => r = some (.int (ii K)) ∧ m' = ms) := by
      unfold d_M_leafOf_l15
      refine d_neg _ (ii_ltF (by omega)) ?_
      rw [il_1, ii_add]
      have x1 : ((k : Int) + 1) = ((k + 1 : Nat) : Int) := by omega
      rw [x1]
      refine d_bIe m_leafAt ?_
      refine d_eA (N := 6062) rfl (by omega) (hS (k + 1) (by omega)) ?_
      rw [ii_add]
      refine d_nm ?_
      have x2 : (((ls.take (k + 1)).flatten.length : Int) + (szs ls (k + 1) : Nat)) = ((ls.take (k + 1 + 1)).flatten.length : Int) := by rw [take_szs (k := k + 1)]; omega
      rw [x2]
      exact ⟨_, _, ih fu (k + 1) (by omega) (by omega), rfl, rfl⟩
    rw [itr_succ]
    exact dEqI key
theorem m_leafOf {i : Nat} (hr : r < 4) (hS : ∀ k, k < 151 → ms.1 14 (2816 + 151 * r + k) = ii (szs ls k)) (B : LsB low ls) (hi : i < ls.flatten.length) : d_M_leafOf ms (ii r) (ii i) = dI (ii (loc ls i).1) ms := by
  have hp : ∀ l, l ∈ ls → 1 ≤ l.length := fun l hl => (B.leaf hl).1
  obtain ⟨l, k1, k2, k3, k4⟩ := loc_ok hi hp
  have hb := B.len
  have hT := B.2.1
  have kk := at_lt k1
  have e1 := take_flat k1
  refine dEqI ?_
  unfold d_M_leafOf
  rw [il_0]
  refine d_bIe (m_leafAt (k := 0)) ?_
  refine d_eA (N := 6062) rfl (by omega) (hS 0 (by omega)) ?_
  have e2 : (ls.take (0 + 1)).flatten.length = szs ls 0 := by rw [take_szs]; simp
  have := m_leafOf_l15 (i := i) (K := (loc ls i).1) hr hS (by omega) (by omega) (by omega) (by omega) hT (loc ls i).1 FU 0 (by unfold FU; omega) (by omega)
  rw [e2] at this
  refine ⟨_, _, this, rfl, rfl⟩
end
