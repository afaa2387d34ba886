/-! PURE SIDE: the upper level: a bit -/
set_option maxRecDepth 100000
theorem up_self {α : Type} {f : Nat → α} {k : Nat} : va_up f k (f k) = f := by
  funext x
  unfold va_up
  by_cases c : x = k
  · simp [c]
  · simp [c]
section
variable {own own' : Nat → Nat} {B z low rm n : Nat} {h h' : PH} {A : Nat → LL} {R N : Nat → Nat} {T : Nat → Bool} {rows seed : Int32} {fs gs : List Value}
theorem BC.gf (C : BC h B rm z n fs gs) (S : SR own B h z low A R N T rows seed) (G : GF own own' R z h h') : BC h' B rm z n fs gs := by
  obtain ⟨e, e6, e7, er, e1, hn⟩ := C
  obtain ⟨ra, na, rf, nf, s1, _⟩ := S.cell
  have n1 : B ≠ z := fun q => by rw [q, s1] at e; cases e
  have n2 : rm ≠ z := fun q => by rw [q, s1] at er; cases er
  exact ⟨G.kd e n1 rfl, e6, e7, G.kd er n2 rfl, e1, hn⟩
theorem b_rope2 {r : Nat} (C : BC h B rm z n fs gs) (S : SR own B h z low A R N T rows seed) (wf : Wf h) (hr : r < 4) : EQ (c_B_rope h B (ii r)) (fun v h' => v = some (R r) ∧ ∃ own', SR own' B h' z low A R N (va_up T r true) rows seed ∧ BC h' B rm z n fs gs ∧ GF own own' R z h h' ∧ h'.2.1.1 ≤ h.2.1.1 + 900 ∧ h'.2.1.2 ≤ h.2.1.2 + 4800) := by
  obtain ⟨v, h', q, q0, own', q1, q2, q3, q4⟩ := b_rope C S wf hr
  rw [up_self, up_self] at q1
  exact ⟨v, h', q, q0, own', q1, C.gf S q2, q2, q3, q4⟩
end
