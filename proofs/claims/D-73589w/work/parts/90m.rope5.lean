/-! PURE SIDE: ropes, leaves made, split, merged -/
set_option maxRecDepth 100000
section
variable {own : Nat → Nat} {ρ : Nat} {h h' : PH} {w low nu : Nat} {row : Nat → Option Nat} {ls : LL} {bt : Bool} {root : Option Nat}
theorem s_cleared {a : Nat} (e : LeafE h a) : EQ (c_L_cleared h a) (fun v h' => v = some a ∧ LeafL h' a [] ∧ Only h h' a) := by
  obtain ⟨n, o, t, wd, e1, e2⟩ := e
  refine EQ.of ?_
  unfold c_L_cleared
  repeat (first | (with_reducible apply q_nn) | (with_reducible apply q_nm) | ((with_reducible apply q_nz); decide) | ((with_reducible apply q_grd); (first | assumption | exact up_eq | exact new_eq | ((with_reducible refine up_kd ?_ ?_ ?_); (first | assumption | exact up_eq | exact new_eq); (first | assumption | exact up_eq | exact new_eq); exact rfl) | ((with_reducible refine up_nx ?_ ?_); (first | assumption | (apply Ne.symm; assumption) | omega); (first | assumption | exact up_eq | exact new_eq)) | ((with_reducible refine new_old ?_ ?_); (first | assumption | exact TF.wf (by assumption) (by assumption) | exact Wf.setE (by assumption) (by assumption)); (first | assumption | exact up_eq | exact new_eq)) | ((with_reducible refine TF.kd ?_ ?_ ?_); assumption; (first | assumption | exact up_eq | exact new_eq); exact rfl) | ((with_reducible refine RF.kd ?_ ?_ ?_); assumption; (first | assumption | exact up_eq | exact new_eq); exact rfl) | ((with_reducible refine Only.kd ?_ ?_ ?_ ?_); assumption; assumption; (first | assumption | exact up_eq | exact new_eq); exact rfl)); (first | decide | assumption)) | ((first | with_reducible apply q_gI | with_reducible apply q_gL | with_reducible apply q_gQv); (first | assumption | exact up_eq | exact new_eq | ((with_reducible refine up_kd ?_ ?_ ?_); (first | assumption | exact up_eq | exact new_eq); (first | assumption | exact up_eq | exact new_eq); exact rfl) | ((with_reducible refine up_nx ?_ ?_); (first | assumption | (apply Ne.symm; assumption) | omega); (first | assumption | exact up_eq | exact new_eq)) | ((with_reducible refine new_old ?_ ?_); (first | assumption | exact TF.wf (by assumption) (by assumption) | exact Wf.setE (by assumption) (by assumption)); (first | assumption | exact up_eq | exact new_eq)) | ((with_reducible refine TF.kd ?_ ?_ ?_); assumption; (first | assumption | exact up_eq | exact new_eq); exact rfl) | ((with_reducible refine RF.kd ?_ ?_ ?_); assumption; (first | assumption | exact up_eq | exact new_eq); exact rfl) | ((with_reducible refine Only.kd ?_ ?_ ?_ ?_); assumption; assumption; (first | assumption | exact up_eq | exact new_eq); exact rfl)); (first | decide | assumption); first | exact rfl | assumption) | ((first | with_reducible apply q_pI | with_reducible apply q_pL | with_reducible apply q_pQ); (first | assumption | exact up_eq | exact new_eq | ((with_reducible refine up_kd ?_ ?_ ?_); (first | assumption | exact up_eq | exact new_eq); (first | assumption | exact up_eq | exact new_eq); exact rfl) | ((with_reducible refine up_nx ?_ ?_); (first | assumption | (apply Ne.symm; assumption) | omega); (first | assumption | exact up_eq | exact new_eq)) | ((with_reducible refine new_old ?_ ?_); (first | assumption | exact TF.wf (by assumption) (by assumption) | exact Wf.setE (by assumption) (by assumption)); (first | assumption | exact up_eq | exact new_eq)) | ((with_reducible refine TF.kd ?_ ?_ ?_); assumption; (first | assumption | exact up_eq | exact new_eq); exact rfl) | ((with_reducible refine RF.kd ?_ ?_ ?_); assumption; (first | assumption | exact up_eq | exact new_eq); exact rfl) | ((with_reducible refine Only.kd ?_ ?_ ?_ ?_); assumption; assumption; (first | assumption | exact up_eq | exact new_eq); exact rfl)); (first | decide | assumption); exact Nat.le_of_ble_eq_true rfl) | ((with_reducible apply q_pZ); (first | assumption | exact up_eq | exact new_eq | ((with_reducible refine up_kd ?_ ?_ ?_); (first | assumption | exact up_eq | exact new_eq); (first | assumption | exact up_eq | exact new_eq); exact rfl) | ((with_reducible refine up_nx ?_ ?_); (first | assumption | (apply Ne.symm; assumption) | omega); (first | assumption | exact up_eq | exact new_eq)) | ((with_reducible refine new_old ?_ ?_); (first | assumption | exact TF.wf (by assumption) (by assumption) | exact Wf.setE (by assumption) (by assumption)); (first | assumption | exact up_eq | exact new_eq)) | ((with_reducible refine TF.kd ?_ ?_ ?_); assumption; (first | assumption | exact up_eq | exact new_eq); exact rfl) | ((with_reducible refine RF.kd ?_ ?_ ?_); assumption; (first | assumption | exact up_eq | exact new_eq); exact rfl) | ((with_reducible refine Only.kd ?_ ?_ ?_ ?_); assumption; assumption; (first | assumption | exact up_eq | exact new_eq); exact rfl)); (first | decide | assumption); exact Nat.le_of_ble_eq_true rfl; first | exact Or.inl rfl | exact Or.inr rfl | exact Or.inl (by decide) | exact Or.inr (by decide)) | ((first | with_reducible apply q_ldI | with_reducible apply q_ldL | with_reducible apply q_stI | with_reducible apply q_stB | with_reducible apply q_stL); (first | assumption | exact up_eq | exact new_eq | ((with_reducible refine up_kd ?_ ?_ ?_); (first | assumption | exact up_eq | exact new_eq); (first | assumption | exact up_eq | exact new_eq); exact rfl) | ((with_reducible refine up_nx ?_ ?_); (first | assumption | (apply Ne.symm; assumption) | omega); (first | assumption | exact up_eq | exact new_eq)) | ((with_reducible refine new_old ?_ ?_); (first | assumption | exact TF.wf (by assumption) (by assumption) | exact Wf.setE (by assumption) (by assumption)); (first | assumption | exact up_eq | exact new_eq)) | ((with_reducible refine TF.kd ?_ ?_ ?_); assumption; (first | assumption | exact up_eq | exact new_eq); exact rfl) | ((with_reducible refine RF.kd ?_ ?_ ?_); assumption; (first | assumption | exact up_eq | exact new_eq); exact rfl) | ((with_reducible refine Only.kd ?_ ?_ ?_ ?_); assumption; assumption; (first | assumption | exact up_eq | exact new_eq); exact rfl)); omega) | ((first | with_reducible apply q_ldQ0 | with_reducible apply q_ldQ1 | with_reducible apply q_ldQn); (first | assumption | exact up_eq | exact new_eq | ((with_reducible refine up_kd ?_ ?_ ?_); (first | assumption | exact up_eq | exact new_eq); (first | assumption | exact up_eq | exact new_eq); exact rfl) | ((with_reducible refine up_nx ?_ ?_); (first | assumption | (apply Ne.symm; assumption) | omega); (first | assumption | exact up_eq | exact new_eq)) | ((with_reducible refine new_old ?_ ?_); (first | assumption | exact TF.wf (by assumption) (by assumption) | exact Wf.setE (by assumption) (by assumption)); (first | assumption | exact up_eq | exact new_eq)) | ((with_reducible refine TF.kd ?_ ?_ ?_); assumption; (first | assumption | exact up_eq | exact new_eq); exact rfl) | ((with_reducible refine RF.kd ?_ ?_ ?_); assumption; (first | assumption | exact up_eq | exact new_eq); exact rfl) | ((with_reducible refine Only.kd ?_ ?_ ?_ ?_); assumption; assumption; (first | assumption | exact up_eq | exact new_eq); exact rfl)); (first | decide | omega); omega; assumption) | ((with_reducible apply q_ldQ); (first | assumption | exact up_eq | exact new_eq | ((with_reducible refine up_kd ?_ ?_ ?_); (first | assumption | exact up_eq | exact new_eq); (first | assumption | exact up_eq | exact new_eq); exact rfl) | ((with_reducible refine up_nx ?_ ?_); (first | assumption | (apply Ne.symm; assumption) | omega); (first | assumption | exact up_eq | exact new_eq)) | ((with_reducible refine new_old ?_ ?_); (first | assumption | exact TF.wf (by assumption) (by assumption) | exact Wf.setE (by assumption) (by assumption)); (first | assumption | exact up_eq | exact new_eq)) | ((with_reducible refine TF.kd ?_ ?_ ?_); assumption; (first | assumption | exact up_eq | exact new_eq); exact rfl) | ((with_reducible refine RF.kd ?_ ?_ ?_); assumption; (first | assumption | exact up_eq | exact new_eq); exact rfl) | ((with_reducible refine Only.kd ?_ ?_ ?_ ?_); assumption; assumption; (first | assumption | exact up_eq | exact new_eq); exact rfl)); (first | decide | omega); omega) | ((with_reducible apply q_alen); (first | assumption | exact up_eq | exact new_eq | ((with_reducible refine up_kd ?_ ?_ ?_); (first | assumption | exact up_eq | exact new_eq); (first | assumption | exact up_eq | exact new_eq); exact rfl) | ((with_reducible refine up_nx ?_ ?_); (first | assumption | (apply Ne.symm; assumption) | omega); (first | assumption | exact up_eq | exact new_eq)) | ((with_reducible refine new_old ?_ ?_); (first | assumption | exact TF.wf (by assumption) (by assumption) | exact Wf.setE (by assumption) (by assumption)); (first | assumption | exact up_eq | exact new_eq)) | ((with_reducible refine TF.kd ?_ ?_ ?_); assumption; (first | assumption | exact up_eq | exact new_eq); exact rfl) | ((with_reducible refine RF.kd ?_ ?_ ?_); assumption; (first | assumption | exact up_eq | exact new_eq); exact rfl) | ((with_reducible refine Only.kd ?_ ?_ ?_ ?_); assumption; assumption; (first | assumption | exact up_eq | exact new_eq); exact rfl)); exact Nat.le_of_ble_eq_true rfl) | (with_reducible apply q_newO) | ((with_reducible apply q_newA); (first | decide | omega)) | ((with_reducible refine q_pos _ ?_ ?_); first | ((with_reducible refine ii_leT ?_); omega) | ((with_reducible refine ii_ltT ?_); omega) | ((with_reducible refine ii_eqT ?_); omega) | with_reducible exact rfl | with_reducible exact True.intro) | ((with_reducible refine q_neg _ ?_ ?_); first | ((with_reducible refine ii_leF ?_); omega) | ((with_reducible refine ii_ltF ?_); omega) | ((with_reducible refine ii_eqF ?_); omega) | with_reducible exact Option.some_ne_none _ | with_reducible exact not_false) | simp only [il_0, il_1, il_2, il_3, il_4, il_5, il_6, il_7, il_8, il_9, il_10, il_11, il_12, il_13, il_14, il_15, il_16, il_17, il_18, il_19, il_20, il_21, il_22, il_23, il_24, il_26, il_27, il_28, il_30, il_31, il_32, il_35, il_37, il_38, il_39, il_40, il_41, il_45, il_47, il_48, il_50, il_57, il_59, il_60, il_61, il_62, il_63, il_64, il_66, il_67, il_68, il_69, il_70, il_96, il_97, il_99, il_104, il_105, il_111, il_122, il_127, il_150, il_151, il_152, il_160, il_199, il_200, il_206, il_207, il_240, il_255, il_400, il_599, il_600, il_900, il_939, il_940, il_999, il_1000, il_1023, il_2606, il_2607, il_2611, il_2615, il_2616, il_2816, il_3212, il_3213, il_3420, il_5820, il_5821, il_5822, il_6061, il_6062, il_12124, il_12345, il_22491, il_25704, il_1103515245, ii_add, ii_sub, ii_mul, ii_neg])
  simp only [hset_hset]
  refine q_rQ ⟨some a, rfl, rfl, ⟨Nat.zero_le _, lb false wd, ⟨false, wd, up_eq, up_nx (by omega) e2, fun _ _ => rfl⟩, rfl⟩, Only.set0⟩
theorem s_Linit (wf : Wf h) : EV (c_L_init (hnew h ([.int 0, .int 0, .int 0, .null, .int 0] : List Value).length (.inr (9, [.int 0, .int 0, .int 0, .null, .int 0]))) h.2.1.1) (fun h' => LeafL h' h.2.1.1 [] ∧ Wf h' ∧ h'.2 = ((h.2.1.1 + 2, h.2.1.2 + 7), h.2.2) ∧ ∀ x c, h.1 x = some c → h'.1 x = some c) := by
  refine EV.of ?_
  unfold c_L_init
  refine q_grd new_eq (by decide) ?_
  have en : c_N_init (hnew h ([.int 0, .int 0, .int 0, .null, .int 0] : List Value).length (.inr (9, [.int 0, .int 0, .int 0, .null, .int 0]))) h.2.1.1 = rV (hnew h ([.int 0, .int 0, .int 0, .null, .int 0] : List Value).length (.inr (9, [.int 0, .int 0, .int 0, .null, .int 0]))) := by
    unfold c_N_init
    exact grd_eq new_eq (by decide)
  refine q_hVe en ?_
  simp only [il_2]
  refine q_newA (by decide) ?_
  have w2 := wf.new (n := ([.int 0, .int 0, .int 0, .null, .int 0] : List Value).length) (c := .inr (9, [.int 0, .int 0, .int 0, .null, .int 0]))
  refine q_pQ (new_old w2 new_eq) (by decide) (Nat.le_of_ble_eq_true rfl) ?_
  refine q_pI up_eq (by decide) (Nat.le_of_ble_eq_true rfl) ?_
  rw [hset_hset]
  refine q_rV ⟨rfl, ⟨Nat.zero_le _, lb false (fun _ => 0), ⟨false, fun _ => 0, up_eq, up_nx (by omega) new_eq, fun _ _ => rfl⟩, rfl⟩, w2.new.setE (new_old w2 new_eq), rfl, fun x c e => up_nx (Nat.ne_of_lt (wf.lt e)) (new_old w2 (new_old wf e))⟩
/-- a leaf without bits for a place of the row -/
theorem s_fresh {k : Nat} {fs : List Value} (er : h.1 ρ = some (.inr (4, fs))) (e0 : fs[0]? = some (.ref w)) (R : Row own ρ h w row) (wf : Wf h) (r1 : own ρ = ρ) (hk : k < 152) : EQ (c_R_fresh h ρ (ii k)) (fun v h' => ∃ a row', v = some a ∧ row' k = some a ∧ (∀ j, j ≠ k → row' j = row j) ∧ Row (ow own h.2.1.1 ρ) ρ h' w row' ∧ LeafL h' a [] ∧ h'.1 ρ = some (.inr (4, fs)) ∧ (∀ x c, x ≠ w → x ≠ a → x ≠ a + 1 → h.1 x = some c → h'.1 x = some c) ∧ RF own ρ h h' ∧ h'.2.1.1 + 2 * nul row' = h.2.1.1 + 2 * nul row ∧ h'.2.1.2 + 7 * nul row' = h.2.1.2 + 7 * nul row) := by
  have ew := R.1
  have hw : w ≠ ρ := fun q => by rw [q, er] at ew; cases ew
  refine EQ.of ?_
  unfold c_R_fresh
  refine q_grd er (by decide) ?_
  refine q_gQr er (by decide) e0 ?_
  refine q_nn ?_
  cases hr : row k with
  | some a =>
    refine q_ldQ ew (by decide) (by omega) ?_
    rw [Int.toNat_natCast, hr]
    refine q_neg _ (Option.some_ne_none _) ?_
    unfold c_R_fresh_j22
    refine q_gQr er (by decide) e0 ?_
    refine q_nn ?_
    refine q_ldQn ew (by decide) (by omega) hr ?_
    refine q_nn ?_
    obtain ⟨o1, o2, le⟩ := R.2.2.1 k a hk hr
    have R0 := R
    refine q_hQ (s_cleared le) fun v h7 ⟨g1, g2, g3⟩ => ?_
    subst g1
    obtain ⟨n, oo, t, wd, c1, c2⟩ := le
    have ne := leafE_ne (h := h) ⟨n, oo, t, wd, c1, c2⟩ er
    have nw1 : w ≠ a := fun q => by rw [q, c1] at ew; cases ew
    have nw2 : w ≠ a + 1 := fun q => by rw [q, c2] at ew; injection ew with ew; injection ew with ew; injection ew with ew; cases ew
    have R7 : Row own ρ h7 w row := by
      obtain ⟨s1, s2, s3, s4⟩ := R
      refine ⟨(g3.2 w nw1 nw2).trans s1, s2, fun j b hj eb => ?_, s4⟩
      obtain ⟨a1, a2, a3⟩ := s3 j b hj eb
      refine ⟨a1, a2, ?_⟩
      by_cases hp : b = a
      · rw [hp]; exact g2.e
      · obtain ⟨n', oo', t', wd', d1, d2⟩ := a3
        have m2 : b ≠ a + 1 := fun q => by rw [q, c2] at d1; cases d1
        have m3 : b + 1 ≠ a := fun q => by rw [q, c1] at d2; cases d2
        exact ⟨n', oo', t', wd', (g3.2 b hp m2).trans d1, (g3.2 (b + 1) m3 (by omega)).trans d2⟩
    have wf7 : Wf h7 := fun x hx => by
      rw [g3.1] at hx
      have l1 := wf.lt c1
      have l2 := wf.lt c2
      rw [g3.2 x (by omega) (by omega)]
      exact wf x hx
    refine q_rQ ⟨some a, rfl, a, row, rfl, hr, fun j _ => rfl, R7.ow fun x c hx => ow_lt (by have := wf7.lt hx; rw [g3.1] at this; exact this), g2, (g3.2 ρ (fun q => ne.1 q.symm) (fun q => ne.2 q.symm)).trans er, fun x c _ n1 n2 e => (g3.2 x n1 n2).trans e, ⟨by rw [g3.1]; exact Nat.le_refl _, by rw [g3.1]; exact Nat.le_refl _, by rw [g3.1], wf7, fun x c e q => ?_⟩, by rw [g3.1], by rw [g3.1]⟩
    have n1 : x ≠ a := fun n => by
      rcases q with q | q
      · exact q (by rw [n]; exact o1)
      · rw [n, c1] at e; injection e with e; rw [← e] at q; cases q
    have n2 : x ≠ a + 1 := fun n => by
      rcases q with q | q
      · exact q (by rw [n]; exact o2)
      · rw [n, c2] at e; injection e with e; rw [← e] at q; cases q
    exact (g3.2 x n1 n2).trans e
  | none =>
    refine q_ldQ ew (by decide) (by omega) ?_
    rw [Int.toNat_natCast, hr]
    refine q_pos _ rfl ?_
    refine q_gQr er (by decide) e0 ?_
    refine q_newO ?_
    refine q_hV (s_Linit wf) fun h8 ⟨g1, w8, z8, k8⟩ => ?_
    refine q_nn ?_
    obtain ⟨tt, ea⟩ := g1.ln
    refine q_stQ (k8 _ _ ew) (by decide) (by omega) ea rfl ?_
    have z81 : h8.2.1.1 = h.2.1.1 + 2 := by rw [z8]
    have z82 : h8.2.1.2 = h.2.1.2 + 7 := by rw [z8]
    have z83 : h8.2.2 = h.2.2 := by rw [z8]
    have lw := wf.lt ew
    have lr := wf.lt er
    rw [Int.toNat_natCast]
    have nk : va_up row k (some h.2.1.1) k = some h.2.1.1 := va_up_self _ _ _
    have keep : ∀ c, ∀ x d, x ≠ w → h.1 x = some d → (hset h8 w c).1 x = some d := fun c x d n e => up_nx n (k8 _ _ e)
    have gl : ∀ c, LeafL (hset h8 w c) h.2.1.1 [] := fun c => g1.frame fun x d hx e => up_nx (by omega) e
    have w9 : ∀ c, Wf (hset h8 w c) := fun c => w8.setE (k8 _ _ ew)
    unfold c_R_fresh_j22
    refine q_gQr (keep _ _ _ hw.symm er) (by decide) e0 ?_
    refine q_nn ?_
    refine q_ldQn up_eq (by decide) (by omega) nk ?_
    refine q_nn ?_
    refine q_hQ (s_cleared (gl _).e) fun v h7 ⟨g1', g2, g3⟩ => ?_
    subst g1'
    have hn := nul_up (a := h.2.1.1) hk hr
    have z7 : h7.2.1.1 = h.2.1.1 + 2 := by rw [g3.1]; exact z81
    have z7' : h7.2.1.2 = h.2.1.2 + 7 := by rw [g3.1]; exact z82
    have wf7 := g3.wf (gl _) (w9 _)
    have keep7 : ∀ x d, x ≠ w → h.1 x = some d → h7.1 x = some d := fun x d n e => (g3.2 x (by have := wf.lt e; omega) (by have := wf.lt e; omega)).trans (keep _ x d n e)
    refine q_rQ ⟨some h.2.1.1, rfl, h.2.1.1, va_up row k (some h.2.1.1), rfl, nk, fun j hj => va_up_ne _ _ hj, ⟨?_, (ow_lt lw).trans R.2.1, fun j b hj eb => ?_, fun i j b hi hj ei ej => ?_⟩, g2, keep7 _ _ hw.symm er, fun x c n _ _ e => keep7 x c n e, ⟨by omega, by omega, by rw [g3.1]; exact z83, wf7, fun x c e q => ?_⟩, by omega, by omega⟩
    · exact (g3.2 w (by omega) (by omega)).trans up_eq
    · by_cases hjk : j = k
      · rw [hjk, nk] at eb
        injection eb with eb
        rw [← eb]
        exact ⟨ow_ge (Nat.le_refl _), ow_ge (by omega), g2.e⟩
      · rw [va_up_ne _ _ hjk] at eb
        obtain ⟨a1, a2, a3⟩ := R.2.2.1 j b hj eb
        have a3' := a3
        obtain ⟨n', oo', t', wd', d1, d2⟩ := a3'
        have m1 : b ≠ w := fun q => by rw [q, ew] at d1; cases d1
        have m2 : b + 1 ≠ w := fun q => by rw [q, ew] at d2; injection d2 with d2; injection d2 with d2; injection d2 with d2; cases d2
        exact ⟨(ow_lt (wf.lt d1)).trans a1, (ow_lt (wf.lt d2)).trans a2, a3.frame fun x c hx e => keep7 x c (by rcases hx with hx | hx <;> (rw [hx]; assumption)) e⟩
    · have old : ∀ j, j < 152 → row j = some b → b < h.2.1.1 := fun j hj e => by
        obtain ⟨-, -, n', oo', t', wd', d1, d2⟩ := R.2.2.1 j b hj e
        exact wf.lt d1
      by_cases hik : i = k
      · by_cases hjk : j = k
        · omega
        · rw [hik, nk] at ei
          injection ei with ei
          rw [va_up_ne _ _ hjk] at ej
          have := old j hj ej
          omega
      · rw [va_up_ne _ _ hik] at ei
        by_cases hjk : j = k
        · rw [hjk, nk] at ej
          injection ej with ej
          have := old i hi ei
          omega
        · rw [va_up_ne _ _ hjk] at ej
          exact R.2.2.2 i j b hi hj ei ej
    · have n1 : x ≠ w := fun n => by
        rcases q with q | q
        · exact q (by rw [n]; exact R.2.1)
        · rw [n, ew] at e; injection e with e; rw [← e] at q; cases q
      exact keep7 x c n1 e
end
