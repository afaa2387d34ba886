/-! PURE SIDE: the upper level: a rope made ready -/
set_option maxRecDepth 100000
section
variable {own : Nat → Nat} {B z low rm n ρ nu : Nat} {h : PH} {ls : LL} {A : Nat → LL} {R N : Nat → Nat} {T : Nat → Bool} {rows seed : Int32} {fs gs : List Value}
/-- a rope that is built stays as it is -/
theorem p_ready1 (P : RP own ρ h low ls nu true) : c_R_ready h ρ = rQ (some ρ) h := by
  obtain ⟨w', root', mx', at', r5'⟩ := P.cell
  have key : Ends (c_R_ready h ρ) (fun r h' => r = .inl (some (va_rf (some ρ))) ∧ h' = h) := by
    unfold c_R_ready
    refine q_grd r5' (by decide) ?_
    refine q_gI r5' (by decide) rfl ?_
    refine q_neg _ (by first | decide | (intro z; exact absurd z (by decide))) ?_
    exact q_rQ ⟨rfl, rfl⟩
  obtain ⟨r, h', e1, e2, e3⟩ := key
  rw [e1, e2, e3]; rfl
theorem b_rope1 {r : Nat} (C : BC h B rm z n fs gs) (S : SR own B h z low A R N T rows seed) (hr : r < 4) (hT : T r = true) : c_B_rope h B (ii r) = rQ (some (R r)) h := by
  obtain ⟨e, e6, e7, er, e1, hn⟩ := C
  have P := S.2.1 r (by omega)
  rw [hT] at P
  have key : Ends (c_B_rope h B (ii r)) (fun q h' => q = .inl (some (va_rf (some (R r)))) ∧ h' = h) := by
    unfold c_B_rope
    refine q_grd e (by decide) ?_
    refine q_gQr e (by decide) e7 ?_
    refine q_nn ?_
    refine q_rp S hr ?_
    rw [p_ready1 P]
    exact q_rQ ⟨rfl, rfl⟩
  obtain ⟨q, h', e1, e2, e3⟩ := key
  rw [e1, e2, e3]; rfl
theorem b_rope {r : Nat} (C : BC h B rm z n fs gs) (S : SR own B h z low A R N T rows seed) (wf : Wf h) (hr : r < 4) : EQ (c_B_rope h B (ii r)) (fun v h' => v = some (R r) ∧ ∃ own', SR own' B h' z low (va_up A r (A r)) R (va_up N r (N r)) (va_up T r true) rows seed ∧ GF own own' R z h h' ∧ h'.2.1.1 ≤ h.2.1.1 + 900 ∧ h'.2.1.2 ≤ h.2.1.2 + 4800) := by
  obtain ⟨e, e6, e7, er, e1, hn⟩ := C
  refine EQ.of ?_
  unfold c_B_rope
  refine q_grd e (by decide) ?_
  refine q_gQr e (by decide) e7 ?_
  refine q_nn ?_
  refine q_rp S hr ?_
  refine q_hQ (p_ready (S.2.1 r (by omega)) wf) fun v h' ⟨g0, g1, g2, g3, g4⟩ => ?_
  obtain ⟨l1, l2⟩ := SR.lift S wf (by omega) (fun x hx => ow_lt hx) g1 g2
  exact q_rQ ⟨_, rfl, g0, _, l1, l2, g3, g4⟩
end
