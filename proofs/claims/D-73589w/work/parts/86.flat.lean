/-! THE MODEL FLATTENED: one object and its arrays as a memory without a heap -/
set_option maxRecDepth 100000
/-- ints (fields at place 0, arrays), longs -/
abbrev MS : Type := (Nat → Nat → Int32) × (Nat → Nat → Int64)
abbrev iArr : List (Nat × Nat) := [(1, 940), (14, 6062), (15, 2607), (16, 12124), (17, 25704), (18, 3213), (19, 3213), (27, 600), (30, 160), (31, 4), (34, 240)]
abbrev lArr : List (Nat × Nat) := [(20, 4), (21, 4), (22, 8)]
abbrev mArr : List Nat := [1, 14, 15, 16, 17, 18, 19, 20, 21, 22, 23, 27, 30, 31, 34]
/-- field k of the object -/
def mV (g : Nat → Nat) (ms : MS) (k : Nat) : Value := if k ∈ mArr then .ref (g k) else if k = 12 then .long (ms.2 12 0) else .int (ms.1 k 0)
def mF (g : Nat → Nat) (ms : MS) : List Value := (List.range 39).map (mV g ms)
def MRep (g : Nat → Nat) (this : Nat) (ms : MS) (h : PH) : Prop := h.1 this = some (.inr (8, mF g ms)) ∧ (∀ q ∈ iArr, h.1 (g q.1) = some (.inl (0, q.2, .inl (ms.1 q.1)))) ∧ (∀ q ∈ lArr, h.1 (g q.1) = some (.inl (1, q.2, .inr (.inl (ms.2 q.1))))) ∧ h.1 (g 23) = some (.inl (3, 2, .inl (ms.1 23))) ∧ (∀ j ∈ mArr, ∀ k ∈ mArr, g j = g k → j = k) ∧ ∀ k ∈ mArr, g k ≠ this
/-- only the model's own cells differ -/
def MKeep (g : Nat → Nat) (this : Nat) (h h' : PH) : Prop := h'.2 = h.2 ∧ ∀ a, a ≠ this → (∀ k ∈ mArr, a ≠ g k) → h'.1 a = h.1 a
def RM (g : Nat → Nat) (this : Nat) (h : PH) (P : Option RH) (P' : Option (Option Value × MS)) : Prop := ∀ r ms', P' = some (r, ms') → ∃ h', P = some (.inl r, h') ∧ MRep g this ms' h' ∧ MKeep g this h h'
theorem MKeep.rf {g : Nat → Nat} {this : Nat} (h : PH) : MKeep g this h h := ⟨rfl, fun _ _ _ => rfl⟩
theorem MKeep.trans {g : Nat → Nat} {this : Nat} {a b c : PH} (h : MKeep g this a b) (k : MKeep g this b c) : MKeep g this a c := ⟨k.1.trans h.1, fun q h1 h2 => (k.2 q h1 h2).trans (h.2 q h1 h2)⟩
theorem RM.keep {g : Nat → Nat} {this : Nat} {h h1 : PH} {P : Option RH} {P' : Option (Option Value × MS)} (hk : MKeep g this h h1) (k : RM g this h1 P P') : RM g this h P P' := fun r ms' e => by
  obtain ⟨h', e1, e2, e3⟩ := k r ms' e
  exact ⟨h', e1, e2, hk.trans e3⟩
def mset (ms : MS) (k i : Nat) (v : Int32) : MS := (fun a j => if a = k ∧ j = i then v else ms.1 a j, ms.2)
def msetL (ms : MS) (k i : Nat) (v : Int64) : MS := (ms.1, fun a j => if a = k ∧ j = i then v else ms.2 a j)
theorem mF_at {g : Nat → Nat} {ms : MS} {k : Nat} (hk : k < 39) : (mF g ms)[k]? = some (mV g ms k) := by
  unfold mF
  rw [List.getElem?_map, List.getElem?_range hk]
  rfl
section
variable {g : Nat → Nat} {this : Nat} {ms : MS} {h : PH} {P : Option RH} {P' : Option (Option Value × MS)}
theorem n_grd (hm : MRep g this ms h) (k : RM g this h P P') : RM g this h (grd h this [8] P) P' := by
  have e : grd h this [8] P = P := by unfold grd oC; rw [hm.1]; rfl
  rw [e]; exact k
theorem n_gI {k : Nat} {K : Int32 → Option RH} {K' : Int32 → Option (Option Value × MS)} (hm : MRep g this ms h) (h1 : k < 39) (h2 : k ∉ mArr) (h3 : k ≠ 12) (kk : ∀ v, RM g this h (K v) (K' v)) : RM g this h (gI h this [8] k K) (nm (ms.1 k 0) K') := by
  have e : gI h this [8] k K = K (ms.1 k 0) := by
    unfold gI oC
    rw [hm.1]
    show (if 8 ∈ [8] then vI (mF g ms)[k]? K else none) = _
    rw [if_pos (by decide), mF_at h1]
    unfold mV
    rw [if_neg h2, if_neg h3]
    rfl
  rw [e]; exact kk _
theorem n_gL {K : Int64 → Option RH} {K' : Int64 → Option (Option Value × MS)} (hm : MRep g this ms h) (kk : ∀ v, RM g this h (K v) (K' v)) : RM g this h (gL h this [8] 12 K) (nm (ms.2 12 0) K') := by
  have e : gL h this [8] 12 K = K (ms.2 12 0) := by
    unfold gL oC
    rw [hm.1]
    show (if 8 ∈ [8] then vL (mF g ms)[12]? K else none) = _
    rw [if_pos (by decide), mF_at (by decide)]
    rfl
  rw [e]; exact kk _
theorem n_gQ {k : Nat} {K : Option Nat → Option RH} (hm : MRep g this ms h) (h1 : k < 39) (h2 : k ∈ mArr) (kk : RM g this h (K (some (g k))) P') : RM g this h (gQ h this [8] k K) P' := by
  have e : gQ h this [8] k K = K (some (g k)) := by
    unfold gQ oC
    rw [hm.1]
    show (if 8 ∈ [8] then vQ (mF g ms)[k]? K else none) = _
    rw [if_pos (by decide), mF_at h1]
    unfold mV
    rw [if_pos h2]
    rfl
  rw [e]; exact kk
end
