/-! PURE SIDE: state: letters as deeds -/
set_option maxRecDepth 100000
section
variable {B z low : Nat} {R : Nat → Nat} {rows seed : Int32} {own N : Nat → Nat} {Tb : Nat → Bool} {A : Nat → LL} {h : PH} {T : List Nat}
theorem z_least {i j k : Nat} (hij : i ≤ j) (hj : j ≤ T.length) (hk : k < j - i) (L : Lt A T) (S : SR own B h z low A R N Tb rows seed) (wf : Wf h) : EI (c_S_leastOf h z (ii i) (ii j) (ii k)) (fun v h' => ∃ c : Nat, v = ii c ∧ c < 8 ∧ (((T.take j).drop i).filter (fun x => decide (x < c))).length ≤ k ∧ k < (((T.take j).drop i).filter (fun x => decide (x < c))).length + (((T.take j).drop i).filter (fun x => x == c)).length ∧ SO own B z low R N h A rows seed 0 0 h') := by
  refine EI.of ?_
  unfold c_S_leastOf
  refine S.grd ?_
  rw [il_0]
  have z1 : ((T.take j).drop i).filter (fun c => decide (c < accN 0 * 2 ^ levN 0)) = [] := List.filter_eq_nil_iff.mpr fun c _ => by
    have : accN 0 * 2 ^ levN 0 = 0 := rfl
    rw [this]
    simp
  have z2 : ((T.take j).drop i).filter (inN 0) = (T.take j).drop i := List.filter_eq_self.mpr fun c _ => rfl
  have := z_least_l15 (k := k) hij hj L 3 FU 0 k h own N Tb (by unfold FU; omega) (by decide) rfl S wf (by rw [z1]; exact Nat.zero_add k) (by rw [z2, List.length_drop, List.length_take]; omega)
  rw [pos0 (by omega), pos0 hj] at this
  exact Ends.ofEI this fun v h' q => ⟨v, rfl, q⟩
theorem z_does6 {r i c : Nat} (hi : i ≤ T.length) (hT : T.length < 200) (hc : c < 8) (L : Lt A T) (S : SR own B h z low A R N Tb rows seed) (wf : Wf h) : EV (c_S_does h z (ii (6 : Nat)) (ii r) (ii i) (ii c)) (fun h' => ∃ A', (∀ k, k < 4 → A' k = A k) ∧ Lt A' (insT i c T) ∧ SO own B z low R N h A' rows seed 0 0 h') := by
  refine EV.of ?_
  unfold c_S_does
  refine S.grd ?_
  refine q_neg _ (by decide) ?_
  refine q_neg _ (by decide) ?_
  refine q_neg _ (by decide) ?_
  refine q_neg _ (by decide) ?_
  refine q_neg _ (by decide) ?_
  refine q_neg _ (by decide) ?_
  refine q_pos _ rfl ?_
  exact q_hV (z_types hi hT hc L S wf) fun h7 q => q_rV ⟨rfl, q⟩
theorem z_does7 {r i x : Nat} (hx : x ≤ 600) (hi : i + x ≤ T.length) (L : Lt A T) (S : SR own B h z low A R N Tb rows seed) (wf : Wf h) : EV (c_S_does h z (ii (7 : Nat)) (ii r) (ii i) (ii x)) (fun h' => ∃ A', (∀ k, k < 4 → A' k = A k) ∧ Lt A' (remTn i x T) ∧ SO own B z low R N h A' rows seed 0 0 h') := by
  refine EV.of ?_
  unfold c_S_does
  refine S.grd ?_
  refine q_neg _ (by decide) ?_
  refine q_neg _ (by decide) ?_
  refine q_neg _ (by decide) ?_
  refine q_neg _ (by decide) ?_
  refine q_neg _ (by decide) ?_
  refine q_neg _ (by decide) ?_
  refine q_neg _ (by decide) ?_
  rw [il_0]
  have l := L.1
  exact Ends.ofEV (z_does7_l168 (i := i) hx (by omega) x FU 0 h own N Tb A T (by unfold FU; omega) (by omega) L hi S wf) fun h' q => ⟨rfl, q⟩
end
