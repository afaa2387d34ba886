/-! PURE SIDE: more ends -/
set_option maxRecDepth 100000
def vq (v : Option Value) : Option (Option Nat) := match v with
  | some (.ref a) => some (some a)
  | some .null => some none
  | _ => none
section
variable {h : PH} {a : Nat} {cs : List Nat} {k c : Nat} {fs : List Value} {P P1 P2 : Option RH} {Q : Rt → PH → Prop}
theorem q_gQv {v : Option Nat} {K : Option Nat → Option RH} (e : h.1 a = some (.inr (c, fs))) (hc : c ∈ cs) (hv : vq fs[k]? = some v) (kk : Ends (K v) Q) : Ends (gQ h a cs k K) Q := by
  have g : ∀ o : Option Value, vq o = some v → vQ o K = K v := by
    intro o ho
    cases o with
    | none => cases ho
    | some x => cases x <;> first | (injection ho with ho; subst ho; rfl) | cases ho
  have : gQ h a cs k K = K v := by unfold gQ oC; rw [e]; show (if c ∈ cs then vQ fs[k]? K else none) = _; rw [if_pos hc, g _ hv]
  rw [this]; exact kk
theorem q_ldQv {t n v : Nat} {z : Int} {f : Nat → Option Nat} {K : Option Nat → Option RH} (e : h.1 a = some (.inl (t, n, .inr (.inr (.inr (.inr f)))))) (ht : 4 ≤ t ∧ t < 13) (hz : 0 ≤ z ∧ z < n ∧ z < 2147483648) (hv : f z.toNat = some v) (kk : Ends (K (some v)) Q) : Ends (ldQ h a (ii z) K) Q := q_ldQ e ht hz (by rw [hv]; exact kk)
theorem Ends.ofEI {Q1 : Int32 → PH → Prop} (e : EI P Q1) (k : ∀ v h', Q1 v h' → Q (.inl (some (.int v))) h') : Ends P Q := by
  obtain ⟨v, h', e1, e2⟩ := e
  exact ⟨_, _, e1, k _ _ e2⟩
theorem Ends.ofEV {Q1 : PH → Prop} (e : EV P Q1) (k : ∀ h', Q1 h' → Q (.inl none) h') : Ends P Q := by
  obtain ⟨h', e1, e2⟩ := e
  exact ⟨_, _, e1, k _ e2⟩
theorem Ends.ofEQ {Q1 : Option Nat → PH → Prop} (e : EQ P Q1) (k : ∀ v h', Q1 v h' → Q (.inl (some (va_rf v))) h') : Ends P Q := by
  obtain ⟨v, h', e1, e2⟩ := e
  exact ⟨_, _, e1, k _ _ e2⟩
theorem grd_eq (e : h.1 a = some (.inr (c, fs))) (hc : c ∈ cs) : grd h a cs P = P := by unfold grd oC; rw [e]; exact if_pos hc
theorem q_hVg {E : Nat × Nat → PH → Option RH} {K : PH → Option RH} {Q1 : PH → Prop} (e : h.1 a = some (.inr (c, fs))) (hc : c ∈ cs) (e1 : EV P Q1) (kk : ∀ h', Q1 h' → Ends (K h') Q) : Ends (hV (grd h a cs P) E K) Q := by rw [grd_eq e hc]; exact q_hV e1 kk
theorem q_hIg {E : Nat × Nat → PH → Option RH} {K : Int32 → PH → Option RH} {Q1 : Int32 → PH → Prop} (e : h.1 a = some (.inr (c, fs))) (hc : c ∈ cs) (e1 : EI P Q1) (kk : ∀ v h', Q1 v h' → Ends (K v h') Q) : Ends (hI (grd h a cs P) E K) Q := by rw [grd_eq e hc]; exact q_hI e1 kk
theorem q_hQg {E : Nat × Nat → PH → Option RH} {K : Option Nat → PH → Option RH} {Q1 : Option Nat → PH → Prop} (e : h.1 a = some (.inr (c, fs))) (hc : c ∈ cs) (e1 : EQ P Q1) (kk : ∀ v h', Q1 v h' → Ends (K v h') Q) : Ends (hQ (grd h a cs P) E K) Q := by rw [grd_eq e hc]; exact q_hQ e1 kk
end
