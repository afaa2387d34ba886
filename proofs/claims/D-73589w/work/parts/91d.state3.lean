/-! PURE SIDE: a state packed, unpacked, begun: 2 -/
set_option maxRecDepth 100000
section
variable {B z low : Nat} {R : Nat → Nat} {rows seed : Int32}
/-- other cells new -/
theorem SR.kp {own own' N : Nat → Nat} {T : Nat → Bool} {A : Nat → LL} {h h' : PH} (S : SR own B h z low A R N T rows seed) (ho : ∀ x c, h.1 x = some c → own' x = own x) (o : ∀ x c, h.1 x = some c → (rK c = true ∨ kd c = 6 ∨ kd c = 15) → h'.1 x = some c) : SR own' B h' z low A R N T rows seed := by
  obtain ⟨⟨ra, na, rf, nf, e1, e2, e3, e4, e5⟩, s2, s3, s4⟩ := S
  exact ⟨⟨ra, na, rf, nf, o _ _ e1 (Or.inr (Or.inl rfl)), o _ _ e2 (Or.inr (Or.inr rfl)), o _ _ e3 (Or.inr (Or.inr rfl)), e4, e5⟩, fun k hk => ((s2 k hk).owx ho).kp fun x c e q => o x c e (Or.inl q), s3, s4⟩
theorem z_pack {own N : Nat → Nat} {T : Nat → Bool} {A : Nat → LL} {h : PH} (S : SR own B h z low A R N T rows seed) (wf : Wf h) : EQ (c_S_pack h z) (fun v h' => ∃ a own' N' T', v = some a ∧ SR own' B h' z low A R N' T' rows seed ∧ GF own own' R z h h' ∧ h'.2.1.1 + 2 * s11 N' ≤ h.2.1.1 + 2 * s11 N + 34 ∧ h'.2.1.2 + 7 * s11 N' ≤ h.2.1.2 + 7 * s11 N + 1881 ∧ PA own' B h' a A) := by
  refine EQ.of ?_
  unfold c_S_pack
  refine S.grd ?_
  rw [il_11]
  refine q_newA (by decide) ?_
  have e11 : Int.toNat 11 = 11 := rfl
  rw [e11]
  have S1 : SR own B (hnew h 11 (.inl (8, 11, .inr (.inr (.inr (.inr (fun _ => none))))))) z low A R N T rows seed := S.kp (fun _ _ _ => rfl) fun x c e _ => new_old wf e
  obtain ⟨ra, na, rf, nf, z1, -⟩ := S.cell
  refine Ends.ofEQ (z_pack_l8 (a0 := h.2.1.1) 11 FU 0 _ own N T A _ (by unfold FU; omega) (by omega) S1 wf.new new_eq (fun j hj => by omega)) fun v h' ⟨q1, own', N', T', q2, q3, q4, q5, q6, q7, q8, q9, q10, q11⟩ => ?_
  have b1 : (hnew h 11 (.inl (8, 11, .inr (.inr (.inr (.inr (fun _ => none))))))).2.1.1 = h.2.1.1 + 1 := rfl
  have b2 : (hnew h 11 (.inl (8, 11, .inr (.inr (.inr (.inr (fun _ => none))))))).2.1.2 = h.2.1.2 + 11 := rfl
  rw [b1] at q3 q6 q10
  rw [b2] at q4 q7
  exact ⟨v, rfl, h.2.1.1, own', N', T', q1, q2, ⟨by omega, by omega, q8, q9, fun x hx => q10 x (by omega), fun x c e n q => q11 x c (new_old wf e) n (Nat.ne_of_lt (wf.lt e)) q⟩, by omega, by omega, q5⟩
theorem z_unpack_l2 {a0 : Nat} {A' : Nat → LL} (hA : ∀ k, k < 11 → LsB low (A' k)) : ∀ (m fu k : Nat) (h : PH) (own : Nat → Nat) (N : Nat → Nat) (T : Nat → Bool) (A : Nat → LL), m < fu → k + m = 11 → SR own B h z low A R N T rows seed → Wf h → PA own B h a0 A' → (∀ j, j < k → A j = A' j) → EV (itr (c_S_unpack_l2) (fun _ _ _ _ => none) fu h z a0 (ii k)) (fun h' => ∃ A2, (∀ j, j < 11 → A2 j = A' j) ∧ SO own B z low R N h A2 rows seed 0 0 h') := by
  intro m
  induction m with
  | zero =>
    intro fu k h own N T A hf hk S wf P hj
    obtain ⟨fu, rfl⟩ : ∃ x, fu = x + 1 := ⟨fu - 1, by omega⟩
    obtain ⟨f, p1, p2⟩ := P
    refine EV.of ?_
    rw [itr_succ]
    unfold c_S_unpack_l2
    refine q_alen2 p1 (by decide) ?_
    refine q_pos _ (ii_leT (by omega)) ?_
    exact q_rV ⟨rfl, A, fun j hj' => hj j (by omega), SO.rf S wf⟩
  | succ m ih =>
    intro fu k h own N T A hf hk S wf P hj
    obtain ⟨fu, rfl⟩ : ∃ x, fu = x + 1 := ⟨fu - 1, by omega⟩
    have hk11 : k < 11 := by omega
    obtain ⟨ra, na, rf, nf, z1, z2, z3, z4, z5⟩ := S.cell
    have P' := P
    obtain ⟨f, p1, p2⟩ := P'
    obtain ⟨p, e1, e2⟩ := p2 k hk11
    have key : Ends (hV (c_R_unpack h (R k) p) noX fun h11 => itr (c_S_unpack_l2) (fun _ _ _ _ => none) fu h11 z a0 (ii k + ii 1)) (fun r h' => r = .inl none ∧ ∃ A2, (∀ j, j < 11 → A2 j = A' j) ∧ SO own B z low R N h A2 rows seed 0 0 h') := by
      refine q_hV (p_unpack (S.2.1 k hk11) wf e2 (Ne.symm (S.2.2.2 k hk11)) (hA k hk11)) fun h11 ⟨nu', g1, g2, g3, g4⟩ => ?_
      obtain ⟨own1, N1, T1, S1, G1, y1, y2⟩ := SO.one (c := 0) (s := 0) S wf hk11 (fun x hx => ow_lt hx) g1 g2 (Nat.le_of_eq g3) (Nat.le_of_eq g4)
      rw [ii_add]
      have x1 : ((k : Int) + 1) = ((k + 1 : Nat) : Int) := by omega
      rw [x1]
      refine Ends.ofEV (ih fu (k + 1) h11 own1 N1 T1 _ (by omega) (by omega) S1 G1.wf (P.gf G1 wf z1 S.2.2.2) (fun j hj' => ?_)) fun h' ⟨A2, q1, q2⟩ => ⟨rfl, A2, q1, SO.trans wf S1 G1 y1 y2 q2⟩
      by_cases c : j = k
      · rw [c, up_at]
      · rw [va_up_ne _ _ c]; exact hj j (by omega)
    refine EV.of ?_
    rw [itr_succ]
    unfold c_S_unpack_l2
    refine q_alen2 p1 (by decide) ?_
    refine q_neg _ (ii_leF (by omega)) ?_
    simp only [il_4, il_1]
    by_cases h4 : k < 4
    · refine q_neg _ (ii_leF (by omega)) ?_
      refine q_gQr z1 (by decide) rfl ?_
      refine q_nn ?_
      refine q_ldQn z2 (by decide) (by omega) (z4 k h4) ?_
      refine q_ldQn p1 (by decide) (by omega) e1 ?_
      refine q_nn ?_
      refine q_nn ?_
      exact key
    · refine q_pos _ (ii_leT (by omega)) ?_
      rw [ii_sub]
      have x1 : ((k : Int) - 4) = ((k - 4 : Nat) : Int) := by omega
      rw [x1]
      refine q_gQr z1 (by decide) rfl ?_
      refine q_nn ?_
      refine q_ldQn z3 (by decide) (by omega) (z5 (k - 4) (by omega)) ?_
      refine q_ldQn p1 (by decide) (by omega) e1 ?_
      refine q_nn ?_
      refine q_nn ?_
      have x2 : 4 + (k - 4) = k := by omega
      rw [x2]
      exact key
theorem SR.congr {own N : Nat → Nat} {T : Nat → Bool} {A A' : Nat → LL} {h : PH} (S : SR own B h z low A R N T rows seed) (e : ∀ k, k < 11 → A k = A' k) : SR own B h z low A' R N T rows seed := ⟨S.1, fun k hk => by rw [← e k hk]; exact S.2.1 k hk, S.2.2⟩
theorem z_unpack {own N : Nat → Nat} {T : Nat → Bool} {A A' : Nat → LL} {h : PH} {a0 : Nat} (S : SR own B h z low A R N T rows seed) (wf : Wf h) (P : PA own B h a0 A') (hA : ∀ k, k < 11 → LsB low (A' k)) : EV (c_S_unpack h z a0) (fun h' => SO own B z low R N h A' rows seed 0 0 h') := by
  refine EV.of ?_
  unfold c_S_unpack
  refine S.grd ?_
  rw [il_0]
  refine Ends.ofEV (z_unpack_l2 hA 11 FU 0 h own N T A (by unfold FU; omega) (by omega) S wf P (fun j hj => by omega)) fun h' ⟨A2, q1, own', N', T', q2, q3⟩ => ⟨rfl, own', N', T', q2.congr q1, q3⟩
/-- a rope in any way -/
def RP0 (own : Nat → Nat) (ρ : Nat) (h : PH) (nu : Nat) : Prop := own ρ = ρ ∧ ∃ w row v1 v2 v3 v5 v6 v7 mx at_, Row own ρ h w row ∧ nu = nul row ∧ h.1 ρ = some (.inr (4, [.ref w, v1, v2, v3, .int (ii mx), v5, v6, v7, .int (ii at_)]))
theorem RP.any {own : Nat → Nat} {ρ : Nat} {h : PH} {ls : LL} {nu : Nat} {bt : Bool} (P : RP own ρ h low ls nu bt) : RP0 own ρ h nu := by
  obtain ⟨r1, r2, w, row, root, mx, at_, r3, r4, r5, r6, r7⟩ := P
  exact ⟨r1, w, row, _, _, _, _, _, _, _, _, r3, r4, r5⟩
theorem RP0.rf {own : Nat → Nat} {ρ σ : Nat} {h h' : PH} {nu : Nat} (P : RP0 own ρ h nu) (o : RF own σ h h') (n : ρ ≠ σ) : RP0 own ρ h' nu := by
  obtain ⟨r1, w, row, v1, v2, v3, v5, v6, v7, mx, at_, r3, r4, r5⟩ := P
  have k : ∀ x c, own x = ρ → h.1 x = some c → h'.1 x = some c := fun x c hx hc => o.ow hc (by rw [hx]; exact n)
  exact ⟨r1, w, row, v1, v2, v3, v5, v6, v7, mx, at_, r3.fr k, r4, k _ _ r1 r5⟩
theorem p_begin {own : Nat → Nat} {ρ : Nat} {h : PH} {nu low' : Nat} {fs : List Value} (P : RP0 own ρ h nu) (wf : Wf h) (ez : h.1 z = some (.inr (3, fs))) (hl : 4 ≤ low' ∧ low' ≤ 32) : EV (c_S_begin_2 h z ρ (ii low')) (fun h' => RP own ρ h' low' [] nu false ∧ RF own ρ h h' ∧ h'.2 = h.2) := by
  obtain ⟨r1, w, row, v1, v2, v3, v5, v6, v7, mx, at_, r3, r4, r5⟩ := P
  refine EV.of ?_
  unfold c_S_begin_2
  refine q_grd ez (by decide) ?_
  refine q_pI r5 (by decide) (Nat.le_of_ble_eq_true rfl) ?_
  refine q_hV (Q1 := fun h' => h' = hset h ρ (ropeC w none false low' mx 0 0 0 at_)) (EV.of ?_) fun h' g => ?_
  · unfold c_R_clear
    repeat (first | (with_reducible apply q_nn) | (with_reducible apply q_nm) | ((with_reducible apply q_nz); decide) | ((with_reducible apply q_grd); (first | assumption | exact up_eq | exact new_eq | ((with_reducible refine up_kd ?_ ?_ ?_); (first | assumption | exact up_eq | exact new_eq); (first | assumption | exact up_eq | exact new_eq); exact rfl) | ((with_reducible refine up_nx ?_ ?_); (first | assumption | (apply Ne.symm; assumption) | omega); (first | assumption | exact up_eq | exact new_eq)) | ((with_reducible refine new_old ?_ ?_); (first | assumption | exact TF.wf (by assumption) (by assumption) | exact Wf.setE (by assumption) (by assumption)); (first | assumption | exact up_eq | exact new_eq)) | ((with_reducible refine TF.kd ?_ ?_ ?_); assumption; (first | assumption | exact up_eq | exact new_eq); exact rfl) | ((with_reducible refine RF.kd ?_ ?_ ?_); assumption; (first | assumption | exact up_eq | exact new_eq); exact rfl) | ((with_reducible refine Only.kd ?_ ?_ ?_ ?_); assumption; assumption; (first | assumption | exact up_eq | exact new_eq); exact rfl)); (first | decide | assumption)) | ((first | with_reducible apply q_gI | with_reducible apply q_gL | with_reducible apply q_gQv); (first | assumption | exact up_eq | exact new_eq | ((with_reducible refine up_kd ?_ ?_ ?_); (first | assumption | exact up_eq | exact new_eq); (first | assumption | exact up_eq | exact new_eq); exact rfl) | ((with_reducible refine up_nx ?_ ?_); (first | assumption | (apply Ne.symm; assumption) | omega); (first | assumption | exact up_eq | exact new_eq)) | ((with_reducible refine new_old ?_ ?_); (first | assumption | exact TF.wf (by assumption) (by assumption) | exact Wf.setE (by assumption) (by assumption)); (first | assumption | exact up_eq | exact new_eq)) | ((with_reducible refine TF.kd ?_ ?_ ?_); assumption; (first | assumption | exact up_eq | exact new_eq); exact rfl) | ((with_reducible refine RF.kd ?_ ?_ ?_); assumption; (first | assumption | exact up_eq | exact new_eq); exact rfl) | ((with_reducible refine Only.kd ?_ ?_ ?_ ?_); assumption; assumption; (first | assumption | exact up_eq | exact new_eq); exact rfl)); (first | decide | assumption); first | exact rfl | assumption) | ((first | with_reducible apply q_pI | with_reducible apply q_pL | with_reducible apply q_pQ); (first | assumption | exact up_eq | exact new_eq | ((with_reducible refine up_kd ?_ ?_ ?_); (first | assumption | exact up_eq | exact new_eq); (first | assumption | exact up_eq | exact new_eq); exact rfl) | ((with_reducible refine up_nx ?_ ?_); (first | assumption | (apply Ne.symm; assumption) | omega); (first | assumption | exact up_eq | exact new_eq)) | ((with_reducible refine new_old ?_ ?_); (first | assumption | exact TF.wf (by assumption) (by assumption) | exact Wf.setE (by assumption) (by assumption)); (first | assumption | exact up_eq | exact new_eq)) | ((with_reducible refine TF.kd ?_ ?_ ?_); assumption; (first | assumption | exact up_eq | exact new_eq); exact rfl) | ((with_reducible refine RF.kd ?_ ?_ ?_); assumption; (first | assumption | exact up_eq | exact new_eq); exact rfl) | ((with_reducible refine Only.kd ?_ ?_ ?_ ?_); assumption; assumption; (first | assumption | exact up_eq | exact new_eq); exact rfl)); (first | decide | assumption); exact Nat.le_of_ble_eq_true rfl) | ((with_reducible apply q_pZ); (first | assumption | exact up_eq | exact new_eq | ((with_reducible refine up_kd ?_ ?_ ?_); (first | assumption | exact up_eq | exact new_eq); (first | assumption | exact up_eq | exact new_eq); exact rfl) | ((with_reducible refine up_nx ?_ ?_); (first | assumption | (apply Ne.symm; assumption) | omega); (first | assumption | exact up_eq | exact new_eq)) | ((with_reducible refine new_old ?_ ?_); (first | assumption | exact TF.wf (by assumption) (by assumption) | exact Wf.setE (by assumption) (by assumption)); (first | assumption | exact up_eq | exact new_eq)) | ((with_reducible refine TF.kd ?_ ?_ ?_); assumption; (first | assumption | exact up_eq | exact new_eq); exact rfl) | ((with_reducible refine RF.kd ?_ ?_ ?_); assumption; (first | assumption | exact up_eq | exact new_eq); exact rfl) | ((with_reducible refine Only.kd ?_ ?_ ?_ ?_); assumption; assumption; (first | assumption | exact up_eq | exact new_eq); exact rfl)); (first | decide | assumption); exact Nat.le_of_ble_eq_true rfl; first | exact Or.inl rfl | exact Or.inr rfl | exact Or.inl (by decide) | exact Or.inr (by decide)) | ((first | with_reducible apply q_ldI | with_reducible apply q_ldL | with_reducible apply q_stI | with_reducible apply q_stB | with_reducible apply q_stL); (first | assumption | exact up_eq | exact new_eq | ((with_reducible refine up_kd ?_ ?_ ?_); (first | assumption | exact up_eq | exact new_eq); (first | assumption | exact up_eq | exact new_eq); exact rfl) | ((with_reducible refine up_nx ?_ ?_); (first | assumption | (apply Ne.symm; assumption) | omega); (first | assumption | exact up_eq | exact new_eq)) | ((with_reducible refine new_old ?_ ?_); (first | assumption | exact TF.wf (by assumption) (by assumption) | exact Wf.setE (by assumption) (by assumption)); (first | assumption | exact up_eq | exact new_eq)) | ((with_reducible refine TF.kd ?_ ?_ ?_); assumption; (first | assumption | exact up_eq | exact new_eq); exact rfl) | ((with_reducible refine RF.kd ?_ ?_ ?_); assumption; (first | assumption | exact up_eq | exact new_eq); exact rfl) | ((with_reducible refine Only.kd ?_ ?_ ?_ ?_); assumption; assumption; (first | assumption | exact up_eq | exact new_eq); exact rfl)); omega) | ((first | with_reducible apply q_ldQ0 | with_reducible apply q_ldQ1 | with_reducible apply q_ldQn); (first | assumption | exact up_eq | exact new_eq | ((with_reducible refine up_kd ?_ ?_ ?_); (first | assumption | exact up_eq | exact new_eq); (first | assumption | exact up_eq | exact new_eq); exact rfl) | ((with_reducible refine up_nx ?_ ?_); (first | assumption | (apply Ne.symm; assumption) | omega); (first | assumption | exact up_eq | exact new_eq)) | ((with_reducible refine new_old ?_ ?_); (first | assumption | exact TF.wf (by assumption) (by assumption) | exact Wf.setE (by assumption) (by assumption)); (first | assumption | exact up_eq | exact new_eq)) | ((with_reducible refine TF.kd ?_ ?_ ?_); assumption; (first | assumption | exact up_eq | exact new_eq); exact rfl) | ((with_reducible refine RF.kd ?_ ?_ ?_); assumption; (first | assumption | exact up_eq | exact new_eq); exact rfl) | ((with_reducible refine Only.kd ?_ ?_ ?_ ?_); assumption; assumption; (first | assumption | exact up_eq | exact new_eq); exact rfl)); (first | decide | omega); omega; assumption) | ((with_reducible apply q_ldQ); (first | assumption | exact up_eq | exact new_eq | ((with_reducible refine up_kd ?_ ?_ ?_); (first | assumption | exact up_eq | exact new_eq); (first | assumption | exact up_eq | exact new_eq); exact rfl) | ((with_reducible refine up_nx ?_ ?_); (first | assumption | (apply Ne.symm; assumption) | omega); (first | assumption | exact up_eq | exact new_eq)) | ((with_reducible refine new_old ?_ ?_); (first | assumption | exact TF.wf (by assumption) (by assumption) | exact Wf.setE (by assumption) (by assumption)); (first | assumption | exact up_eq | exact new_eq)) | ((with_reducible refine TF.kd ?_ ?_ ?_); assumption; (first | assumption | exact up_eq | exact new_eq); exact rfl) | ((with_reducible refine RF.kd ?_ ?_ ?_); assumption; (first | assumption | exact up_eq | exact new_eq); exact rfl) | ((with_reducible refine Only.kd ?_ ?_ ?_ ?_); assumption; assumption; (first | assumption | exact up_eq | exact new_eq); exact rfl)); (first | decide | omega); omega) | ((with_reducible apply q_alen); (first | assumption | exact up_eq | exact new_eq | ((with_reducible refine up_kd ?_ ?_ ?_); (first | assumption | exact up_eq | exact new_eq); (first | assumption | exact up_eq | exact new_eq); exact rfl) | ((with_reducible refine up_nx ?_ ?_); (first | assumption | (apply Ne.symm; assumption) | omega); (first | assumption | exact up_eq | exact new_eq)) | ((with_reducible refine new_old ?_ ?_); (first | assumption | exact TF.wf (by assumption) (by assumption) | exact Wf.setE (by assumption) (by assumption)); (first | assumption | exact up_eq | exact new_eq)) | ((with_reducible refine TF.kd ?_ ?_ ?_); assumption; (first | assumption | exact up_eq | exact new_eq); exact rfl) | ((with_reducible refine RF.kd ?_ ?_ ?_); assumption; (first | assumption | exact up_eq | exact new_eq); exact rfl) | ((with_reducible refine Only.kd ?_ ?_ ?_ ?_); assumption; assumption; (first | assumption | exact up_eq | exact new_eq); exact rfl)); exact Nat.le_of_ble_eq_true rfl) | (with_reducible apply q_newO) | ((with_reducible apply q_newA); (first | decide | omega)) | ((with_reducible refine q_pos _ ?_ ?_); first | ((with_reducible refine ii_leT ?_); omega) | ((with_reducible refine ii_ltT ?_); omega) | ((with_reducible refine ii_eqT ?_); omega) | with_reducible exact rfl | with_reducible exact True.intro) | ((with_reducible refine q_neg _ ?_ ?_); first | ((with_reducible refine ii_leF ?_); omega) | ((with_reducible refine ii_ltF ?_); omega) | ((with_reducible refine ii_eqF ?_); omega) | with_reducible exact Option.some_ne_none _ | with_reducible exact not_false) | simp only [il_0, il_1, il_2, il_3, il_4, il_5, il_6, il_7, il_8, il_9, il_10, il_11, il_12, il_13, il_14, il_15, il_16, il_17, il_18, il_19, il_20, il_21, il_22, il_23, il_24, il_26, il_27, il_28, il_30, il_31, il_32, il_35, il_37, il_38, il_39, il_40, il_41, il_45, il_47, il_48, il_50, il_57, il_59, il_60, il_61, il_62, il_63, il_64, il_66, il_67, il_68, il_69, il_70, il_96, il_97, il_99, il_104, il_105, il_111, il_122, il_127, il_150, il_151, il_152, il_160, il_199, il_200, il_206, il_207, il_240, il_255, il_400, il_599, il_600, il_900, il_939, il_940, il_999, il_1000, il_1023, il_2606, il_2607, il_2611, il_2615, il_2616, il_2816, il_3212, il_3213, il_3420, il_5820, il_5821, il_5822, il_6061, il_6062, il_12124, il_12345, il_22491, il_25704, il_1103515245, ii_add, ii_sub, ii_mul, ii_neg])
    simp only [hset_hset]
    exact q_rV ⟨rfl, rfl⟩
  · subst g
    exact q_rV ⟨rfl, ⟨r1, LsB.nil hl, w, row, none, mx, at_, r3.bf r5 (fun x c n e => up_nx n e), r4, up_eq, (fun q => by cases q), fun _ => ⟨rfl, fun k l e => by cases e⟩⟩, RF.set wf r5 r1 rfl, rfl⟩
def SR0 (own : Nat → Nat) (B : Nat) (h : PH) (z : Nat) (R N : Nat → Nat) (rows seed : Int32) : Prop :=
  (∃ ra na rf nf, h.1 z = some (.inr (3, [.ref ra, .ref na, .int rows, .int seed])) ∧ h.1 ra = some (.inl (7, 4, .inr (.inr (.inr (.inr rf))))) ∧ h.1 na = some (.inl (7, 7, .inr (.inr (.inr (.inr nf))))) ∧ (∀ k, k < 4 → rf k = some (R k)) ∧ (∀ k, k < 7 → nf k = some (R (4 + k)))) ∧ (∀ k, k < 11 → RP0 own (R k) h (N k)) ∧ (∀ j k, j < 11 → k < 11 → R j = R k → j = k) ∧ ∀ k, k < 11 → R k ≠ B
theorem SR.any {own N : Nat → Nat} {T : Nat → Bool} {A : Nat → LL} {h : PH} (S : SR own B h z low A R N T rows seed) : SR0 own B h z R N rows seed := ⟨S.1, fun k hk => (S.2.1 k hk).any, S.2.2⟩
/-- while a state is begun -/
def BI (own : Nat → Nat) (z : Nat) (R N : Nat → Nat) (low' : Nat) (rows' seed : Int32) (c nm ra na : Nat) (rf nf : Nat → Option Nat) (h0 h : PH) (k : Nat) : Prop :=
  (h.1 z = some (.inr (3, [.ref ra, .ref na, .int rows', .int seed])) ∧ h.1 ra = some (.inl (7, 4, .inr (.inr (.inr (.inr rf))))) ∧ h.1 na = some (.inl (7, 7, .inr (.inr (.inr (.inr nf))))) ∧ h.1 c = some (.inr (2, [.ref nm, .int rows', .int (ii low')]))) ∧ (∀ j, j < 11 → j < k → RP own (R j) h low' [] (N j) false) ∧ (∀ j, j < 11 → k ≤ j → RP0 own (R j) h (N j)) ∧ Wf h ∧ GF own own R z h0 h ∧ h.2 = h0.2
theorem BI.step {own N : Nat → Nat} {low' c nm ra na k : Nat} {rows' : Int32} {rf nf : Nat → Option Nat} {h0 h h1 : PH} (I : BI own z R N low' rows' seed c nm ra na rf nf h0 h k) (w0 : Wf h0) (hk : k < 11) (inj : ∀ j k, j < 11 → k < 11 → R j = R k → j = k) (P : RP own (R k) h1 low' [] (N k) false) (o : RF own (R k) h h1) (z1 : h1.2 = h.2) : BI own z R N low' rows' seed c nm ra na rf nf h0 h1 (k + 1) := by
  obtain ⟨⟨i1, i2, i3, i4⟩, i5, i6, i7, i8, i9⟩ := I
  refine ⟨⟨o.kd i1 rfl, o.kd i2 rfl, o.kd i3 rfl, o.kd i4 rfl⟩, fun j hj hjk => ?_, fun j hj hjk => (i6 j hj (by omega)).rf o (fun q => by have := inj j k hj hk q; omega), o.wf, i8.trans (o.gf hk fun _ _ => rfl) w0, z1.trans i9⟩
  by_cases e : j = k
  · rw [e]; exact P
  · exact (i5 j hj (by omega)).rf o (fun q => e (inj j k hj hk q))
theorem z_begin_l58 {own N : Nat → Nat} {low' c nm ra na : Nat} {rows' : Int32} {rf nf : Nat → Option Nat} {h0 : PH} (w0 : Wf h0) (hl : 4 ≤ low' ∧ low' ≤ 32) (inj : ∀ j k, j < 11 → k < 11 → R j = R k → j = k) (hnf : ∀ k, k < 7 → nf k = some (R (4 + k))) : ∀ (m fu k : Nat) (h : PH), m < fu → k + m = 7 → BI own z R N low' rows' seed c nm ra na rf nf h0 h (4 + k) → EV (itr (c_S_begin_l58) (fun _ _ _ _ _ _ => none) fu h z c (some na) (ii 7) (ii k)) (fun h' => BI own z R N low' rows' seed c nm ra na rf nf h0 h' 11) := by
  intro m
  induction m with
  | zero =>
    intro fu k h hf hk I
    obtain ⟨fu, rfl⟩ : ∃ x, fu = x + 1 := ⟨fu - 1, by omega⟩
    refine EV.of ?_
    rw [itr_succ]
    unfold c_S_begin_l58
    refine q_pos _ (ii_leT (by omega)) ?_
    have : 4 + k = 11 := by omega
    rw [this] at I
    exact q_rV ⟨rfl, I⟩
  | succ m ih =>
    intro fu k h hf hk I
    obtain ⟨fu, rfl⟩ : ∃ x, fu = x + 1 := ⟨fu - 1, by omega⟩
    have I' := I
    obtain ⟨⟨i1, i2, i3, i4⟩, i5, i6, i7, i8, i9⟩ := I'
    refine EV.of ?_
    rw [itr_succ]
    unfold c_S_begin_l58
    refine q_neg _ (ii_leF (by omega)) ?_
    refine q_nn ?_
    refine q_ldQn i3 (by decide) (by omega) (hnf k (by omega)) ?_
    refine q_gI i4 (by decide) rfl ?_
    refine q_nn ?_
    refine q_hV (p_begin (i6 (4 + k) (by omega) (Nat.le_refl _)) i7 i1 hl) fun h7 ⟨g1, g2, g3⟩ => ?_
    rw [il_1, ii_add]
    exact Ends.ofEV (ih fu (k + 1) h7 (by omega) (by omega) (I.step w0 (by omega) inj g1 g2 g3)) fun h' q => ⟨rfl, q⟩
theorem z_begin_l19 {own N : Nat → Nat} {low' c nm ra na : Nat} {rows' : Int32} {rf nf : Nat → Option Nat} {h0 : PH} (w0 : Wf h0) (hl : 4 ≤ low' ∧ low' ≤ 32) (inj : ∀ j k, j < 11 → k < 11 → R j = R k → j = k) (hrf : ∀ k, k < 4 → rf k = some (R k)) (hnf : ∀ k, k < 7 → nf k = some (R (4 + k))) : ∀ (m fu k : Nat) (h : PH), m < fu → k + m = 4 → BI own z R N low' rows' seed c nm ra na rf nf h0 h k → EV (itr (c_S_begin_l19) (fun _ _ _ _ _ _ => none) fu h z c (some ra) (ii 4) (ii k)) (fun h' => BI own z R N low' rows' seed c nm ra na rf nf h0 h' 11) := by
  intro m
  induction m with
  | zero =>
    intro fu k h hf hk I
    obtain ⟨fu, rfl⟩ : ∃ x, fu = x + 1 := ⟨fu - 1, by omega⟩
    have I' := I
    obtain ⟨⟨i1, i2, i3, i4⟩, i5, i6, i7, i8, i9⟩ := I'
    refine EV.of ?_
    rw [itr_succ]
    unfold c_S_begin_l19
    refine q_pos _ (ii_leT (by omega)) ?_
    refine q_gQr i1 (by decide) rfl ?_
    refine q_nn ?_
    refine q_alen2 i3 (by decide) ?_
    have : k = 4 + 0 := by omega
    rw [this] at I
    exact Ends.ofEV (z_begin_l58 w0 hl inj hnf 7 FU 0 h (by unfold FU; omega) (by omega) I) fun h' q => ⟨rfl, q⟩
  | succ m ih =>
    intro fu k h hf hk I
    obtain ⟨fu, rfl⟩ : ∃ x, fu = x + 1 := ⟨fu - 1, by omega⟩
    have I' := I
    obtain ⟨⟨i1, i2, i3, i4⟩, i5, i6, i7, i8, i9⟩ := I'
    refine EV.of ?_
    rw [itr_succ]
    unfold c_S_begin_l19
    refine q_neg _ (ii_leF (by omega)) ?_
    refine q_nn ?_
    refine q_ldQn i2 (by decide) (by omega) (hrf k (by omega)) ?_
    refine q_gI i4 (by decide) rfl ?_
    refine q_nn ?_
    refine q_hV (p_begin (i6 k (by omega) (Nat.le_refl _)) i7 i1 hl) fun h7 ⟨g1, g2, g3⟩ => ?_
    rw [il_1, ii_add]
    exact Ends.ofEV (ih fu (k + 1) h7 (by omega) (by omega) (I.step w0 (by omega) inj g1 g2 g3)) fun h' q => ⟨rfl, q⟩
theorem z_begin {own N : Nat → Nat} {low' c nm : Nat} {rows' : Int32} {h : PH} (S : SR0 own B h z R N rows seed) (wf : Wf h) (ec : h.1 c = some (.inr (2, [.ref nm, .int rows', .int (ii low')]))) (hl : 4 ≤ low' ∧ low' ≤ 32) : EV (c_S_begin h z c) (fun h' => SR own B h' z low' (fun _ => []) R N (fun _ => false) rows' seed ∧ GF own own R z h h' ∧ h'.2 = h.2) := by
  obtain ⟨⟨ra, na, rf, nf, e1, e2, e3, e4, e5⟩, s2, s3, s4⟩ := S
  refine EV.of ?_
  unfold c_S_begin
  refine q_grd e1 (by decide) ?_
  refine q_gI ec (by decide) rfl ?_
  refine q_pI e1 (by decide) (Nat.le_of_ble_eq_true rfl) ?_
  have n1 : ra ≠ z := kd_ne e2 e1 rfl
  have n2 : na ≠ z := kd_ne e3 e1 rfl
  have n3 : c ≠ z := kd_ne ec e1 rfl
  refine q_gQr up_eq (by decide) rfl ?_
  refine q_nn ?_
  refine q_alen2 (up_nx n1 e2) (by decide) ?_
  rw [il_0]
  have hI : ∀ rw', BI own z R N low' rows' seed c nm ra na rf nf h (hset h z (.inr (3, [.ref ra, .ref na, .int rows', .int seed]))) 0 ∨ rw' = 0 := fun _ => Or.inl ⟨⟨up_eq, up_nx n1 e2, up_nx n2 e3, up_nx n3 ec⟩, fun j _ hj => by omega, fun j hj _ => ?_, wf.setE e1, GF.set wf e1 rfl, rfl⟩
  · have I := (hI 1).resolve_right (by decide)
    refine Ends.ofEV (z_begin_l19 wf hl s3 e4 e5 4 FU 0 _ (by unfold FU; omega) (by omega) I) fun h' q => ?_
    obtain ⟨⟨i1, i2, i3, i4⟩, i5, i6, i7, i8, i9⟩ := q
    exact ⟨rfl, ⟨⟨ra, na, rf, nf, i1, i2, i3, e4, e5⟩, fun k hk => i5 k hk hk, s3, s4⟩, i8, i9⟩
  · obtain ⟨r1, w, row, v1, v2, v3, v5, v6, v7, mx, at_, r3, r4, r5⟩ := s2 j hj
    have lk : ∀ x d, h.1 x = some d → rK d = true → (hset h z (.inr (3, [.ref ra, .ref na, .int rows', .int seed]))).1 x = some d := fun x d e k => up_nx (fun q => by rw [q, e1] at e; injection e with e; rw [← e] at k; cases k) e
    refine ⟨r1, w, row, v1, v2, v3, v5, v6, v7, mx, at_, ⟨lk _ _ r3.1 rfl, r3.2.1, fun k a hk e => ⟨(r3.2.2.1 k a hk e).1, (r3.2.2.1 k a hk e).2.1, ?_⟩, r3.2.2.2⟩, r4, lk _ _ r5 rfl⟩
    obtain ⟨n, oo, t, wd, d1, d2⟩ := (r3.2.2.1 k a hk e).2.2
    exact ⟨n, oo, t, wd, lk _ _ d1 rfl, lk _ _ d2 rfl⟩
theorem z_bits_l13 {own N : Nat → Nat} {T : Nat → Bool} {A : Nat → LL} {h : PH} {ra : Nat} {rf : Nat → Option Nat} (S : SR own B h z low A R N T rows seed) (e2 : h.1 ra = some (.inl (7, 4, .inr (.inr (.inr (.inr rf)))))) (e4 : ∀ k, k < 4 → rf k = some (R k)) : ∀ (m fu k : Nat) (s : Int), m < fu → k + m = 4 → EI (itr (c_S_bits_l13) (fun _ _ _ _ _ => none) fu h (ii s) (some ra) (ii 4) (ii k)) (fun v h' => v = ii (s + (((List.range 4).drop k).map fun j => (A j).flatten.length).sum) ∧ h' = h) := by
  intro m
  induction m with
  | zero =>
    intro fu k s hf hk
    obtain ⟨fu, rfl⟩ : ∃ x, fu = x + 1 := ⟨fu - 1, by omega⟩
    refine EI.of ?_
    rw [itr_succ]
    unfold c_S_bits_l13
    refine q_pos _ (ii_leT (by omega)) ?_
    refine q_rI ⟨_, rfl, ?_, rfl⟩
    have : k = 4 := by omega
    subst this
    have e9 : (List.range 4).drop 4 = [] := by decide
    rw [e9]
    show ii s = ii (s + ((0 : Nat) : Int))
    congr 1
    omega
  | succ m ih =>
    intro fu k s hf hk
    obtain ⟨fu, rfl⟩ : ∃ x, fu = x + 1 := ⟨fu - 1, by omega⟩
    refine EI.of ?_
    rw [itr_succ]
    unfold c_S_bits_l13
    refine q_neg _ (ii_leF (by omega)) ?_
    refine q_nn ?_
    refine q_ldQn e2 (by decide) (by omega) (e4 k (by omega)) ?_
    refine q_nn ?_
    refine q_hIe (p_wide (S.2.1 k (by omega))) ?_
    rw [ii_add, il_1, ii_add]
    refine q_nm ?_
    refine Ends.ofEI (ih fu (k + 1) _ (by omega) (by omega)) fun v h' ⟨g1, g2⟩ => ⟨v, rfl, ?_, g2⟩
    have e8 : (List.range 4).drop k = k :: (List.range 4).drop (k + 1) := by
      rw [List.drop_eq_getElem_cons (by simp; omega)]
      simp
    rw [g1, e8, List.map_cons, List.sum_cons]
    congr 1
    omega
theorem z_bits {own N : Nat → Nat} {T : Nat → Bool} {A : Nat → LL} {h : PH} (S : SR own B h z low A R N T rows seed) : c_S_bits h z = rI (ii ((A 0).flatten.length + (A 1).flatten.length + (A 2).flatten.length + (A 3).flatten.length : Nat)) h := by
  obtain ⟨ra, na, rf, nf, e1, e2, e3, e4, e5⟩ := S.cell
  refine eqI ?_
  unfold c_S_bits
  refine S.grd ?_
  refine q_gQr e1 (by decide) rfl ?_
  refine q_nn ?_
  refine q_alen2 e2 (by decide) ?_
  rw [il_0]
  refine Ends.ofEI (z_bits_l13 S e2 e4 4 FU 0 0 (by unfold FU; omega) (by omega)) fun v h' ⟨g1, g2⟩ => ⟨?_, g2⟩
  rw [g1]
  have : (((List.range 4).drop 0).map fun j => (A j).flatten.length).sum = (A 0).flatten.length + (A 1).flatten.length + (A 2).flatten.length + (A 3).flatten.length := by
    show (A 0).flatten.length + ((A 1).flatten.length + ((A 2).flatten.length + ((A 3).flatten.length + 0))) = _
    omega
  rw [this, Int.zero_add]
end
