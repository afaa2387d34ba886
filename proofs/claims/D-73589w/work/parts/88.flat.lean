/-! THE MODEL FLATTENED: rows -/
set_option maxRecDepth 100000
abbrev DR : Type := Option Value × MS
def dI (v : Int32) (ms : MS) : Option DR := some (some (.int v), ms)
def dZ (v : Int32) (ms : MS) : Option DR := if v = 0 ∨ v = 1 then dI v ms else none
def dL (v : Int64) (ms : MS) : Option DR := some (some (.long v), ms)
def dV (ms : MS) : Option DR := some (none, ms)
def bI (o : Option DR) (K : Int32 → MS → Option DR) : Option DR := match o with
  | some (v, ms) => vI v fun i => K i ms
  | none => none
def bL (o : Option DR) (K : Int64 → MS → Option DR) : Option DR := match o with
  | some (v, ms) => vL v fun i => K i ms
  | none => none
def bV (o : Option DR) (K : MS → Option DR) : Option DR := match o with
  | some (none, ms) => K ms
  | _ => none
/-- length of an array -/
def mLn (k : Nat) : Nat := match k with
  | 1 => 940
  | 14 => 6062
  | 15 => 2607
  | 16 => 12124
  | 17 => 25704
  | 18 => 3213
  | 19 => 3213
  | 27 => 600
  | 30 => 160
  | 31 => 4
  | 34 => 240
  | 20 => 4
  | 21 => 4
  | 22 => 8
  | 23 => 2
  | _ => 0
def eA (ms : MS) (k : Nat) (i : Int32) (K : Int32 → Option DR) : Option DR := inB i (mLn k) (K (ms.1 k i.toNatClampNeg))
def eL (ms : MS) (k : Nat) (i : Int32) (K : Int64 → Option DR) : Option DR := inB i (mLn k) (K (ms.2 k i.toNatClampNeg))
def sA (ms : MS) (k : Nat) (i v : Int32) (K : MS → Option DR) : Option DR := inB i (mLn k) (K (mset ms k i.toNatClampNeg v))
def zP (ms : MS) (k : Nat) (v : Int32) (K : MS → Option DR) : Option DR := if v = 0 ∨ v = 1 then nm (mset ms k 0 v) K else none
def sL (ms : MS) (k : Nat) (i : Int32) (v : Int64) (K : MS → Option DR) : Option DR := inB i (mLn k) (K (msetL ms k i.toNatClampNeg v))
section
variable {g : Nat → Nat} {this : Nat} {ms : MS} {h : PH} {P P1 P2 : Option RH} {P' P1' P2' : Option DR}
theorem n_none : RM g this h P none := fun r ms' e => by cases e
theorem n_rI {v : Int32} (hm : MRep g this ms h) : RM g this h (rI v h) (dI v ms) := fun r ms' e => by
  cases e; exact ⟨h, rfl, hm, MKeep.rf h⟩
theorem n_rZ {v : Int32} (hm : MRep g this ms h) : RM g this h (rZ v h) (dZ v ms) := by
  unfold rZ dZ
  by_cases e : v = 0 ∨ v = 1
  · rw [if_pos e, if_pos e]; exact n_rI hm
  · rw [if_neg e, if_neg e]; exact n_none
theorem n_rL {v : Int64} (hm : MRep g this ms h) : RM g this h (rL v h) (dL v ms) := fun r ms' e => by
  cases e; exact ⟨h, rfl, hm, MKeep.rf h⟩
theorem n_rV (hm : MRep g this ms h) : RM g this h (rV h) (dV ms) := fun r ms' e => by
  cases e; exact ⟨h, rfl, hm, MKeep.rf h⟩
theorem n_if {c : Prop} {_ : Decidable c} (k1 : RM g this h P1 P1') (k2 : RM g this h P2 P2') : RM g this h (if c then P1 else P2) (if c then P1' else P2') := by
  by_cases e : c
  · rw [if_pos e, if_pos e]; exact k1
  · rw [if_neg e, if_neg e]; exact k2
theorem n_nn {a : Nat} {K : Nat → Option RH} (k : RM g this h (K a) P') : RM g this h (nn (some a) K) P' := k
theorem n_nm {α : Type} {e : α} {K : α → Option RH} {K' : α → Option DR} (k : ∀ a, RM g this h (K a) (K' a)) : RM g this h (nm e K) (nm e K') := k e
theorem n_nz {b : Int32} (k : RM g this h P P') : RM g this h (nz b P) (nz b P') := by
  unfold nz
  by_cases e : b = 0
  · rw [if_pos e, if_pos e]; exact n_none
  · rw [if_neg e, if_neg e]; exact k
theorem n_nzL {b : Int64} (k : RM g this h P P') : RM g this h (nzL b P) (nzL b P') := by
  unfold nzL
  by_cases e : b = 0
  · rw [if_pos e, if_pos e]; exact n_none
  · rw [if_neg e, if_neg e]; exact k
theorem n_hI {K : Int32 → PH → Option RH} {K' : Int32 → MS → Option DR} (k0 : RM g this h P P') (k : ∀ v h2 ms2, MRep g this ms2 h2 → RM g this h2 (K v h2) (K' v ms2)) : RM g this h (hI P noX K) (bI P' K') := fun r ms' e => by
  cases hp : P' with
  | none => rw [hp] at e; cases e
  | some z =>
    obtain ⟨v, m2⟩ := z
    rw [hp] at e
    obtain ⟨h2, e1, e2, e3⟩ := k0 v m2 hp
    obtain ⟨i, h4, h5⟩ := vI_some e
    subst h4
    obtain ⟨h', f1, f2, f3⟩ := k i h2 m2 e2 r ms' h5
    exact ⟨h', by rw [e1]; exact f1, f2, e3.trans f3⟩
theorem n_hL {K : Int64 → PH → Option RH} {K' : Int64 → MS → Option DR} (k0 : RM g this h P P') (k : ∀ v h2 ms2, MRep g this ms2 h2 → RM g this h2 (K v h2) (K' v ms2)) : RM g this h (hL P noX K) (bL P' K') := fun r ms' e => by
  cases hp : P' with
  | none => rw [hp] at e; cases e
  | some z =>
    obtain ⟨v, m2⟩ := z
    rw [hp] at e
    obtain ⟨h2, e1, e2, e3⟩ := k0 v m2 hp
    obtain ⟨i, h4, h5⟩ := vL_some e
    subst h4
    obtain ⟨h', f1, f2, f3⟩ := k i h2 m2 e2 r ms' h5
    exact ⟨h', by rw [e1]; exact f1, f2, e3.trans f3⟩
theorem n_hV {K : PH → Option RH} {K' : MS → Option DR} (k0 : RM g this h P P') (k : ∀ h2 ms2, MRep g this ms2 h2 → RM g this h2 (K h2) (K' ms2)) : RM g this h (hV P noX K) (bV P' K') := fun r ms' e => by
  cases hp : P' with
  | none => rw [hp] at e; cases e
  | some z =>
    obtain ⟨v, m2⟩ := z
    rw [hp] at e
    obtain ⟨h2, e1, e2, e3⟩ := k0 v m2 hp
    cases v with
    | some w => cases e
    | none =>
      obtain ⟨h', f1, f2, f3⟩ := k h2 m2 e2 r ms' e
      exact ⟨h', by rw [e1]; exact f1, f2, e3.trans f3⟩
theorem n_pI {k : Nat} {v : Int32} {K : PH → Option RH} {K' : MS → Option DR} (hm : MRep g this ms h) (h1 : k < 39) (h2 : k ∉ mArr) (h3 : k ≠ 12) (kk : ∀ h2 ms2, MRep g this ms2 h2 → RM g this h2 (K h2) (K' ms2)) : RM g this h (pI h this [8] k v K) (nm (mset ms k 0 v) K') := by
  have hl : (mF g ms).length = 39 := by unfold mF; simp
  have e : pI h this [8] k v K = K (hset h this (.inr (8, (mF g ms).set k (.int v)))) := by
    unfold pI pF oC
    rw [hm.1]
    show (if 8 ∈ [8] then (if k < (mF g ms).length then K _ else none) else none) = _
    rw [if_pos (by decide), if_pos (by rw [hl]; exact h1)]
  rw [e]
  exact RM.keep MKeep.obj (kk _ _ (hm.put h2 h3))
theorem n_pZ {k : Nat} {v : Int32} {K : PH → Option RH} {K' : MS → Option DR} (hm : MRep g this ms h) (h1 : k < 39) (h2 : k ∉ mArr) (h3 : k ≠ 12) (kk : ∀ h2 ms2, MRep g this ms2 h2 → RM g this h2 (K h2) (K' ms2)) : RM g this h (pZ h this [8] k v K) (zP ms k v K') := by
  unfold pZ zP
  exact n_if (n_pI (v := v) hm h1 h2 h3 kk) n_none
theorem n_pL {v : Int64} {K : PH → Option RH} {K' : MS → Option DR} (hm : MRep g this ms h) (kk : ∀ h2 ms2, MRep g this ms2 h2 → RM g this h2 (K h2) (K' ms2)) : RM g this h (pL h this [8] 12 v K) (nm (msetL ms 12 0 v) K') := by
  have hl : (mF g ms).length = 39 := by unfold mF; simp
  have e : pL h this [8] 12 v K = K (hset h this (.inr (8, (mF g ms).set 12 (.long v)))) := by
    unfold pL pF oC
    rw [hm.1]
    show (if 8 ∈ [8] then (if 12 < (mF g ms).length then K _ else none) else none) = _
    rw [if_pos (by decide), if_pos (by rw [hl]; decide)]
  rw [e]
  exact RM.keep MKeep.obj (kk _ _ hm.putL)
theorem n_inB {i : Int32} {n : Nat} (k : RM g this h P P') : RM g this h (inB i n P) (inB i n P') := n_if n_none k
theorem n_ldI {k : Nat} {i : Int32} {K : Int32 → Option RH} {K' : Int32 → Option DR} (hm : MRep g this ms h) (hk : (k, mLn k) ∈ iArr) (kk : ∀ v, RM g this h (K v) (K' v)) : RM g this h (ldI h (g k) 0 i K) (eA ms k i K') := by
  have e : ldI h (g k) 0 i K = inB i (mLn k) (K (ms.1 k i.toNatClampNeg)) := by
    unfold ldI aI
    rw [hm.2.1 _ hk]
    rfl
  rw [e]
  exact n_inB (kk _)
theorem n_ldL {k : Nat} {i : Int32} {K : Int64 → Option RH} {K' : Int64 → Option DR} (hm : MRep g this ms h) (hk : (k, mLn k) ∈ lArr) (kk : ∀ v, RM g this h (K v) (K' v)) : RM g this h (ldL h (g k) i K) (eL ms k i K') := by
  have e : ldL h (g k) i K = inB i (mLn k) (K (ms.2 k i.toNatClampNeg)) := by
    unfold ldL aL
    rw [hm.2.2.1 _ hk]
    rfl
  rw [e]
  exact n_inB (kk _)
theorem n_ldZ {i : Int32} {K : Int32 → Option RH} {K' : Int32 → Option DR} (hm : MRep g this ms h) (kk : ∀ v, RM g this h (K v) (K' v)) : RM g this h (ldI h (g 23) 3 i K) (eA ms 23 i K') := by
  have e : ldI h (g 23) 3 i K = inB i (mLn 23) (K (ms.1 23 i.toNatClampNeg)) := by
    unfold ldI aI
    rw [hm.2.2.2.1]
    rfl
  rw [e]
  exact n_inB (kk _)
theorem n_stI {k : Nat} {i v : Int32} {K : PH → Option RH} {K' : MS → Option DR} (hm : MRep g this ms h) (hk : (k, mLn k) ∈ iArr) (kk : ∀ h2 ms2, MRep g this ms2 h2 → RM g this h2 (K h2) (K' ms2)) : RM g this h (stI h (g k) i v K) (sA ms k i v K') := by
  have e : stI h (g k) i v K = inB i (mLn k) (K (hset h (g k) (.inl (0, mLn k, .inl (upd (ms.1 k) i.toNatClampNeg v))))) := by
    unfold stI aI
    rw [hm.2.1 _ hk]
    rfl
  rw [e]
  exact n_inB (RM.keep (MKeep.arr (iArr_m hk)) (kk _ _ (hm.st hk)))
theorem MRep.stLg {k n i : Nat} {v : Int64} (hm : MRep g this ms h) (hk : (k, n) ∈ lArr) : MRep g this (msetL ms k i v) (hset h (g k) (.inl (1, n, .inr (.inl (vp_updL (ms.2 k) i v))))) := by
  obtain ⟨m1, m2, m3, m4, m5, m6⟩ := hm
  have hkm : k ∈ mArr := lArr_m hk
  have hks : (msetL ms k i v).2 k = vp_updL (ms.2 k) i v := by
    funext x
    show (if k = k ∧ x = i then v else ms.2 k x) = if x = i then v else ms.2 k x
    simp
  refine ⟨by rw [up_ne (fun e => m6 k hkm e.symm), mF_arrL hkm]; exact m1, fun q hq => ?_, fun q hq => ?_, ?_, m5, m6⟩
  · have e : q.1 ≠ k := fun e => by
      have a1 := m2 q hq
      have a2 := m3 (k, n) hk
      rw [e] at a1
      rw [a1] at a2
      injection a2 with a2
      injection a2 with a2
      injection a2 with a2 _
      cases a2
    rw [up_ne (fun q' => e (m5 _ (iArr_m hq) _ hkm q'))]; exact m2 q hq
  · by_cases e : q.1 = k
    · have hn : q.2 = n := by
        have a1 := m3 q hq
        have a2 := m3 (k, n) hk
        rw [e] at a1
        have a3 : some (Sum.inl (1, q.2, Sum.inr (Sum.inl (ms.2 k)))) = (some (Sum.inl (1, n, Sum.inr (Sum.inl (ms.2 k)))) : Option PC) := a1.symm.trans a2
        injection a3 with a3
        injection a3 with a3
        injection a3 with _ a3
        injection a3
      rw [e, up_eq, hks, hn]
    · rw [up_ne (fun q' => e (m5 _ (lArr_m hq) _ hkm q')), msetL_ne (k := k) (j := q.1) e]; exact m3 q hq
  · have e : 23 ≠ k := fun e => by
      have a2 := m3 (k, n) hk
      rw [← e] at a2
      rw [m4] at a2
      injection a2 with a2
      injection a2 with a2
      injection a2 with a2 _
      cases a2
    rw [up_ne (fun q' => e (m5 23 (by decide) _ hkm q'))]; exact m4
theorem n_stL {k : Nat} {i : Int32} {v : Int64} {K : PH → Option RH} {K' : MS → Option DR} (hm : MRep g this ms h) (hk : (k, mLn k) ∈ lArr) (kk : ∀ h2 ms2, MRep g this ms2 h2 → RM g this h2 (K h2) (K' ms2)) : RM g this h (stL h (g k) i v K) (sL ms k i v K') := by
  have e : stL h (g k) i v K = inB i (mLn k) (K (hset h (g k) (.inl (1, mLn k, .inr (.inl (vp_updL (ms.2 k) i.toNatClampNeg v)))))) := by
    unfold stL aL
    rw [hm.2.2.1 _ hk]
    rfl
  rw [e]
  exact n_inB (RM.keep (MKeep.arr (lArr_m hk)) (kk _ _ (hm.stLg hk)))
theorem MRep.stZg {i : Nat} {v : Int32} (hm : MRep g this ms h) : MRep g this (mset ms 23 i v) (hset h (g 23) (.inl (3, 2, .inl (upd (ms.1 23) i v)))) := by
  obtain ⟨m1, m2, m3, m4, m5, m6⟩ := hm
  have hks : (mset ms 23 i v).1 23 = upd (ms.1 23) i v := by
    funext x
    show (if 23 = 23 ∧ x = i then v else ms.1 23 x) = if x = i then v else ms.1 23 x
    simp
  refine ⟨by rw [up_ne (fun e => m6 23 (by decide) e.symm), mF_arr (by decide)]; exact m1, fun q hq => ?_, fun q hq => ?_, ?_, m5, m6⟩
  · have e : q.1 ≠ 23 := fun e => by
      have a1 := m2 q hq
      rw [e] at a1
      rw [a1] at m4
      injection m4 with a2
      injection a2 with a2
      injection a2 with a2 _
      cases a2
    rw [up_ne (fun q' => e (m5 _ (iArr_m hq) _ (by decide) q')), mset_ne (k := 23) (j := q.1) e]; exact m2 q hq
  · have e : q.1 ≠ 23 := fun e => by
      have a1 := m3 q hq
      rw [e] at a1
      rw [a1] at m4
      injection m4 with a2
      injection a2 with a2
      injection a2 with a2 _
      cases a2
    rw [up_ne (fun q' => e (m5 _ (lArr_m hq) _ (by decide) q'))]; exact m3 q hq
  · rw [up_eq, hks]
theorem n_stZ {i v : Int32} {K : PH → Option RH} {K' : MS → Option DR} (hm : MRep g this ms h) (kk : ∀ h2 ms2, MRep g this ms2 h2 → RM g this h2 (K h2) (K' ms2)) : RM g this h (stZ h (g 23) i v K) (sA ms 23 i (vp_nar .boolean v) K') := by
  have e : stZ h (g 23) i v K = inB i (mLn 23) (K (hset h (g 23) (.inl (3, 2, .inl (upd (ms.1 23) i.toNatClampNeg (vp_nar .boolean v)))))) := by
    unfold stZ aI
    rw [hm.2.2.2.1]
    rfl
  rw [e]
  exact n_inB (RM.keep (MKeep.arr (by decide)) (kk _ _ hm.stZg))
end
