/-! PURE SIDE: ropes, leaves merged -/
set_option maxRecDepth 100000
def Only2 (h h' : PH) (p q : Nat) : Prop := h'.2 = h.2 ∧ ∀ x, x ≠ p → x ≠ p + 1 → x ≠ q → x ≠ q + 1 → h'.1 x = h.1 x
section
variable {own own' : Nat → Nat} {ρ : Nat} {h h' h1 h2 : PH} {w low nu p q : Nat} {row row' row1 : Nat → Option Nat} {ls : LL} {bt : Bool} {root : Option Nat}
theorem Only2.rf : Only2 h h p q := ⟨rfl, fun _ _ _ _ _ => rfl⟩
theorem Only2.trans (o : Only2 h h1 p q) (k : Only2 h1 h' p q) : Only2 h h' p q := ⟨k.1.trans o.1, fun x a b c d => (k.2 x a b c d).trans (o.2 x a b c d)⟩
theorem Only.two1 (o : Only h h' p) : Only2 h h' p q := ⟨o.1, fun x a b _ _ => o.2 x a b⟩
theorem Only.two2 (o : Only h h' q) : Only2 h h' p q := ⟨o.1, fun x _ _ a b => o.2 x a b⟩
theorem s_merge_l76 {f : Nat} (hpq : p ≠ q) : ∀ (m fu : Nat) (h : PH) (x y : List Bool), m < fu → x.length = f + m → x.length + y.length ≤ 128 → LeafL h p x → LeafL h q y → EV (itr (c_R_merge_l76) (fun _ _ _ _ => none) fu h (some p) (some q) (ii f)) (fun h' => LeafL h' p (x.take f) ∧ LeafL h' q (x.drop f ++ y) ∧ Only2 h h' p q) := by
  intro m
  induction m with
  | zero =>
    intro fu h x y hf hx hxy e1 e2
    obtain ⟨fu, rfl⟩ : ∃ x, fu = x + 1 := ⟨fu - 1, by omega⟩
    obtain ⟨t1, c1⟩ := e1.ln
    refine EV.of ?_
    rw [itr_succ]
    unfold c_R_merge_l76
    repeat (first | (with_reducible apply q_nn) | (with_reducible apply q_nm) | ((with_reducible apply q_nz); decide) | ((with_reducible apply q_grd); (first | assumption | exact up_eq | exact new_eq | ((with_reducible refine up_kd ?_ ?_ ?_); (first | assumption | exact up_eq | exact new_eq); (first | assumption | exact up_eq | exact new_eq); exact rfl) | ((with_reducible refine up_nx ?_ ?_); (first | assumption | (apply Ne.symm; assumption) | omega); (first | assumption | exact up_eq | exact new_eq)) | ((with_reducible refine new_old ?_ ?_); (first | assumption | exact TF.wf (by assumption) (by assumption) | exact Wf.setE (by assumption) (by assumption)); (first | assumption | exact up_eq | exact new_eq)) | ((with_reducible refine TF.kd ?_ ?_ ?_); assumption; (first | assumption | exact up_eq | exact new_eq); exact rfl) | ((with_reducible refine RF.kd ?_ ?_ ?_); assumption; (first | assumption | exact up_eq | exact new_eq); exact rfl) | ((with_reducible refine Only.kd ?_ ?_ ?_ ?_); assumption; assumption; (first | assumption | exact up_eq | exact new_eq); exact rfl)); (first | decide | assumption)) | ((first | with_reducible apply q_gI | with_reducible apply q_gL | with_reducible apply q_gQv); (first | assumption | exact up_eq | exact new_eq | ((with_reducible refine up_kd ?_ ?_ ?_); (first | assumption | exact up_eq | exact new_eq); (first | assumption | exact up_eq | exact new_eq); exact rfl) | ((with_reducible refine up_nx ?_ ?_); (first | assumption | (apply Ne.symm; assumption) | omega); (first | assumption | exact up_eq | exact new_eq)) | ((with_reducible refine new_old ?_ ?_); (first | assumption | exact TF.wf (by assumption) (by assumption) | exact Wf.setE (by assumption) (by assumption)); (first | assumption | exact up_eq | exact new_eq)) | ((with_reducible refine TF.kd ?_ ?_ ?_); assumption; (first | assumption | exact up_eq | exact new_eq); exact rfl) | ((with_reducible refine RF.kd ?_ ?_ ?_); assumption; (first | assumption | exact up_eq | exact new_eq); exact rfl) | ((with_reducible refine Only.kd ?_ ?_ ?_ ?_); assumption; assumption; (first | assumption | exact up_eq | exact new_eq); exact rfl)); (first | decide | assumption); first | exact rfl | assumption) | ((first | with_reducible apply q_pI | with_reducible apply q_pL | with_reducible apply q_pQ); (first | assumption | exact up_eq | exact new_eq | ((with_reducible refine up_kd ?_ ?_ ?_); (first | assumption | exact up_eq | exact new_eq); (first | assumption | exact up_eq | exact new_eq); exact rfl) | ((with_reducible refine up_nx ?_ ?_); (first | assumption | (apply Ne.symm; assumption) | omega); (first | assumption | exact up_eq | exact new_eq)) | ((with_reducible refine new_old ?_ ?_); (first | assumption | exact TF.wf (by assumption) (by assumption) | exact Wf.setE (by assumption) (by assumption)); (first | assumption | exact up_eq | exact new_eq)) | ((with_reducible refine TF.kd ?_ ?_ ?_); assumption; (first | assumption | exact up_eq | exact new_eq); exact rfl) | ((with_reducible refine RF.kd ?_ ?_ ?_); assumption; (first | assumption | exact up_eq | exact new_eq); exact rfl) | ((with_reducible refine Only.kd ?_ ?_ ?_ ?_); assumption; assumption; (first | assumption | exact up_eq | exact new_eq); exact rfl)); (first | decide | assumption); exact Nat.le_of_ble_eq_true rfl) | ((with_reducible apply q_pZ); (first | assumption | exact up_eq | exact new_eq | ((with_reducible refine up_kd ?_ ?_ ?_); (first | assumption | exact up_eq | exact new_eq); (first | assumption | exact up_eq | exact new_eq); exact rfl) | ((with_reducible refine up_nx ?_ ?_); (first | assumption | (apply Ne.symm; assumption) | omega); (first | assumption | exact up_eq | exact new_eq)) | ((with_reducible refine new_old ?_ ?_); (first | assumption | exact TF.wf (by assumption) (by assumption) | exact Wf.setE (by assumption) (by assumption)); (first | assumption | exact up_eq | exact new_eq)) | ((with_reducible refine TF.kd ?_ ?_ ?_); assumption; (first | assumption | exact up_eq | exact new_eq); exact rfl) | ((with_reducible refine RF.kd ?_ ?_ ?_); assumption; (first | assumption | exact up_eq | exact new_eq); exact rfl) | ((with_reducible refine Only.kd ?_ ?_ ?_ ?_); assumption; assumption; (first | assumption | exact up_eq | exact new_eq); exact rfl)); (first | decide | assumption); exact Nat.le_of_ble_eq_true rfl; first | exact Or.inl rfl | exact Or.inr rfl | exact Or.inl (by decide) | exact Or.inr (by decide)) | ((first | with_reducible apply q_ldI | with_reducible apply q_ldL | with_reducible apply q_stI | with_reducible apply q_stB | with_reducible apply q_stL); (first | assumption | exact up_eq | exact new_eq | ((with_reducible refine up_kd ?_ ?_ ?_); (first | assumption | exact up_eq | exact new_eq); (first | assumption | exact up_eq | exact new_eq); exact rfl) | ((with_reducible refine up_nx ?_ ?_); (first | assumption | (apply Ne.symm; assumption) | omega); (first | assumption | exact up_eq | exact new_eq)) | ((with_reducible refine new_old ?_ ?_); (first | assumption | exact TF.wf (by assumption) (by assumption) | exact Wf.setE (by assumption) (by assumption)); (first | assumption | exact up_eq | exact new_eq)) | ((with_reducible refine TF.kd ?_ ?_ ?_); assumption; (first | assumption | exact up_eq | exact new_eq); exact rfl) | ((with_reducible refine RF.kd ?_ ?_ ?_); assumption; (first | assumption | exact up_eq | exact new_eq); exact rfl) | ((with_reducible refine Only.kd ?_ ?_ ?_ ?_); assumption; assumption; (first | assumption | exact up_eq | exact new_eq); exact rfl)); omega) | ((first | with_reducible apply q_ldQ0 | with_reducible apply q_ldQ1 | with_reducible apply q_ldQn); (first | assumption | exact up_eq | exact new_eq | ((with_reducible refine up_kd ?_ ?_ ?_); (first | assumption | exact up_eq | exact new_eq); (first | assumption | exact up_eq | exact new_eq); exact rfl) | ((with_reducible refine up_nx ?_ ?_); (first | assumption | (apply Ne.symm; assumption) | omega); (first | assumption | exact up_eq | exact new_eq)) | ((with_reducible refine new_old ?_ ?_); (first | assumption | exact TF.wf (by assumption) (by assumption) | exact Wf.setE (by assumption) (by assumption)); (first | assumption | exact up_eq | exact new_eq)) | ((with_reducible refine TF.kd ?_ ?_ ?_); assumption; (first | assumption | exact up_eq | exact new_eq); exact rfl) | ((with_reducible refine RF.kd ?_ ?_ ?_); assumption; (first | assumption | exact up_eq | exact new_eq); exact rfl) | ((with_reducible refine Only.kd ?_ ?_ ?_ ?_); assumption; assumption; (first | assumption | exact up_eq | exact new_eq); exact rfl)); (first | decide | omega); omega; assumption) | ((with_reducible apply q_ldQ); (first | assumption | exact up_eq | exact new_eq | ((with_reducible refine up_kd ?_ ?_ ?_); (first | assumption | exact up_eq | exact new_eq); (first | assumption | exact up_eq | exact new_eq); exact rfl) | ((with_reducible refine up_nx ?_ ?_); (first | assumption | (apply Ne.symm; assumption) | omega); (first | assumption | exact up_eq | exact new_eq)) | ((with_reducible refine new_old ?_ ?_); (first | assumption | exact TF.wf (by assumption) (by assumption) | exact Wf.setE (by assumption) (by assumption)); (first | assumption | exact up_eq | exact new_eq)) | ((with_reducible refine TF.kd ?_ ?_ ?_); assumption; (first | assumption | exact up_eq | exact new_eq); exact rfl) | ((with_reducible refine RF.kd ?_ ?_ ?_); assumption; (first | assumption | exact up_eq | exact new_eq); exact rfl) | ((with_reducible refine Only.kd ?_ ?_ ?_ ?_); assumption; assumption; (first | assumption | exact up_eq | exact new_eq); exact rfl)); (first | decide | omega); omega) | ((with_reducible apply q_alen); (first | assumption | exact up_eq | exact new_eq | ((with_reducible refine up_kd ?_ ?_ ?_); (first | assumption | exact up_eq | exact new_eq); (first | assumption | exact up_eq | exact new_eq); exact rfl) | ((with_reducible refine up_nx ?_ ?_); (first | assumption | (apply Ne.symm; assumption) | omega); (first | assumption | exact up_eq | exact new_eq)) | ((with_reducible refine new_old ?_ ?_); (first | assumption | exact TF.wf (by assumption) (by assumption) | exact Wf.setE (by assumption) (by assumption)); (first | assumption | exact up_eq | exact new_eq)) | ((with_reducible refine TF.kd ?_ ?_ ?_); assumption; (first | assumption | exact up_eq | exact new_eq); exact rfl) | ((with_reducible refine RF.kd ?_ ?_ ?_); assumption; (first | assumption | exact up_eq | exact new_eq); exact rfl) | ((with_reducible refine Only.kd ?_ ?_ ?_ ?_); assumption; assumption; (first | assumption | exact up_eq | exact new_eq); exact rfl)); exact Nat.le_of_ble_eq_true rfl) | (with_reducible apply q_newO) | ((with_reducible apply q_newA); (first | decide | omega)) | ((with_reducible refine q_pos _ ?_ ?_); first | ((with_reducible refine ii_leT ?_); omega) | ((with_reducible refine ii_ltT ?_); omega) | ((with_reducible refine ii_eqT ?_); omega) | with_reducible exact rfl | with_reducible exact True.intro) | ((with_reducible refine q_neg _ ?_ ?_); first | ((with_reducible refine ii_leF ?_); omega) | ((with_reducible refine ii_ltF ?_); omega) | ((with_reducible refine ii_eqF ?_); omega) | with_reducible exact Option.some_ne_none _ | with_reducible exact not_false) | simp only [il_0, il_1, il_2, il_3, il_4, il_5, il_6, il_7, il_8, il_9, il_10, il_11, il_12, il_13, il_14, il_15, il_16, il_17, il_18, il_19, il_20, il_21, il_22, il_23, il_24, il_26, il_27, il_28, il_30, il_31, il_32, il_35, il_37, il_38, il_39, il_40, il_41, il_45, il_47, il_48, il_50, il_57, il_59, il_60, il_61, il_62, il_63, il_64, il_66, il_67, il_68, il_69, il_70, il_96, il_97, il_99, il_104, il_105, il_111, il_122, il_127, il_150, il_151, il_152, il_160, il_199, il_200, il_206, il_207, il_240, il_255, il_400, il_599, il_600, il_900, il_939, il_940, il_999, il_1000, il_1023, il_2606, il_2607, il_2611, il_2615, il_2616, il_2816, il_3212, il_3213, il_3420, il_5820, il_5821, il_5822, il_6061, il_6062, il_12124, il_12345, il_22491, il_25704, il_1103515245, ii_add, ii_sub, ii_mul, ii_neg])
    refine q_rV ⟨rfl, ?_, ?_, Only2.rf⟩
    · rw [List.take_of_length_le (by omega)]; exact e1
    · rw [List.drop_of_length_le (by omega)]; exact e2
  | succ m ih =>
    intro fu h x y hf hx hxy e1 e2
    obtain ⟨fu, rfl⟩ : ∃ x, fu = x + 1 := ⟨fu - 1, by omega⟩
    obtain ⟨t1, c1⟩ := e1.ln
    refine EV.of ?_
    rw [itr_succ]
    unfold c_R_merge_l76
    repeat (first | (with_reducible apply q_nn) | (with_reducible apply q_nm) | ((with_reducible apply q_nz); decide) | ((with_reducible apply q_grd); (first | assumption | exact up_eq | exact new_eq | ((with_reducible refine up_kd ?_ ?_ ?_); (first | assumption | exact up_eq | exact new_eq); (first | assumption | exact up_eq | exact new_eq); exact rfl) | ((with_reducible refine up_nx ?_ ?_); (first | assumption | (apply Ne.symm; assumption) | omega); (first | assumption | exact up_eq | exact new_eq)) | ((with_reducible refine new_old ?_ ?_); (first | assumption | exact TF.wf (by assumption) (by assumption) | exact Wf.setE (by assumption) (by assumption)); (first | assumption | exact up_eq | exact new_eq)) | ((with_reducible refine TF.kd ?_ ?_ ?_); assumption; (first | assumption | exact up_eq | exact new_eq); exact rfl) | ((with_reducible refine RF.kd ?_ ?_ ?_); assumption; (first | assumption | exact up_eq | exact new_eq); exact rfl) | ((with_reducible refine Only.kd ?_ ?_ ?_ ?_); assumption; assumption; (first | assumption | exact up_eq | exact new_eq); exact rfl)); (first | decide | assumption)) | ((first | with_reducible apply q_gI | with_reducible apply q_gL | with_reducible apply q_gQv); (first | assumption | exact up_eq | exact new_eq | ((with_reducible refine up_kd ?_ ?_ ?_); (first | assumption | exact up_eq | exact new_eq); (first | assumption | exact up_eq | exact new_eq); exact rfl) | ((with_reducible refine up_nx ?_ ?_); (first | assumption | (apply Ne.symm; assumption) | omega); (first | assumption | exact up_eq | exact new_eq)) | ((with_reducible refine new_old ?_ ?_); (first | assumption | exact TF.wf (by assumption) (by assumption) | exact Wf.setE (by assumption) (by assumption)); (first | assumption | exact up_eq | exact new_eq)) | ((with_reducible refine TF.kd ?_ ?_ ?_); assumption; (first | assumption | exact up_eq | exact new_eq); exact rfl) | ((with_reducible refine RF.kd ?_ ?_ ?_); assumption; (first | assumption | exact up_eq | exact new_eq); exact rfl) | ((with_reducible refine Only.kd ?_ ?_ ?_ ?_); assumption; assumption; (first | assumption | exact up_eq | exact new_eq); exact rfl)); (first | decide | assumption); first | exact rfl | assumption) | ((first | with_reducible apply q_pI | with_reducible apply q_pL | with_reducible apply q_pQ); (first | assumption | exact up_eq | exact new_eq | ((with_reducible refine up_kd ?_ ?_ ?_); (first | assumption | exact up_eq | exact new_eq); (first | assumption | exact up_eq | exact new_eq); exact rfl) | ((with_reducible refine up_nx ?_ ?_); (first | assumption | (apply Ne.symm; assumption) | omega); (first | assumption | exact up_eq | exact new_eq)) | ((with_reducible refine new_old ?_ ?_); (first | assumption | exact TF.wf (by assumption) (by assumption) | exact Wf.setE (by assumption) (by assumption)); (first | assumption | exact up_eq | exact new_eq)) | ((with_reducible refine TF.kd ?_ ?_ ?_); assumption; (first | assumption | exact up_eq | exact new_eq); exact rfl) | ((with_reducible refine RF.kd ?_ ?_ ?_); assumption; (first | assumption | exact up_eq | exact new_eq); exact rfl) | ((with_reducible refine Only.kd ?_ ?_ ?_ ?_); assumption; assumption; (first | assumption | exact up_eq | exact new_eq); exact rfl)); (first | decide | assumption); exact Nat.le_of_ble_eq_true rfl) | ((with_reducible apply q_pZ); (first | assumption | exact up_eq | exact new_eq | ((with_reducible refine up_kd ?_ ?_ ?_); (first | assumption | exact up_eq | exact new_eq); (first | assumption | exact up_eq | exact new_eq); exact rfl) | ((with_reducible refine up_nx ?_ ?_); (first | assumption | (apply Ne.symm; assumption) | omega); (first | assumption | exact up_eq | exact new_eq)) | ((with_reducible refine new_old ?_ ?_); (first | assumption | exact TF.wf (by assumption) (by assumption) | exact Wf.setE (by assumption) (by assumption)); (first | assumption | exact up_eq | exact new_eq)) | ((with_reducible refine TF.kd ?_ ?_ ?_); assumption; (first | assumption | exact up_eq | exact new_eq); exact rfl) | ((with_reducible refine RF.kd ?_ ?_ ?_); assumption; (first | assumption | exact up_eq | exact new_eq); exact rfl) | ((with_reducible refine Only.kd ?_ ?_ ?_ ?_); assumption; assumption; (first | assumption | exact up_eq | exact new_eq); exact rfl)); (first | decide | assumption); exact Nat.le_of_ble_eq_true rfl; first | exact Or.inl rfl | exact Or.inr rfl | exact Or.inl (by decide) | exact Or.inr (by decide)) | ((first | with_reducible apply q_ldI | with_reducible apply q_ldL | with_reducible apply q_stI | with_reducible apply q_stB | with_reducible apply q_stL); (first | assumption | exact up_eq | exact new_eq | ((with_reducible refine up_kd ?_ ?_ ?_); (first | assumption | exact up_eq | exact new_eq); (first | assumption | exact up_eq | exact new_eq); exact rfl) | ((with_reducible refine up_nx ?_ ?_); (first | assumption | (apply Ne.symm; assumption) | omega); (first | assumption | exact up_eq | exact new_eq)) | ((with_reducible refine new_old ?_ ?_); (first | assumption | exact TF.wf (by assumption) (by assumption) | exact Wf.setE (by assumption) (by assumption)); (first | assumption | exact up_eq | exact new_eq)) | ((with_reducible refine TF.kd ?_ ?_ ?_); assumption; (first | assumption | exact up_eq | exact new_eq); exact rfl) | ((with_reducible refine RF.kd ?_ ?_ ?_); assumption; (first | assumption | exact up_eq | exact new_eq); exact rfl) | ((with_reducible refine Only.kd ?_ ?_ ?_ ?_); assumption; assumption; (first | assumption | exact up_eq | exact new_eq); exact rfl)); omega) | ((first | with_reducible apply q_ldQ0 | with_reducible apply q_ldQ1 | with_reducible apply q_ldQn); (first | assumption | exact up_eq | exact new_eq | ((with_reducible refine up_kd ?_ ?_ ?_); (first | assumption | exact up_eq | exact new_eq); (first | assumption | exact up_eq | exact new_eq); exact rfl) | ((with_reducible refine up_nx ?_ ?_); (first | assumption | (apply Ne.symm; assumption) | omega); (first | assumption | exact up_eq | exact new_eq)) | ((with_reducible refine new_old ?_ ?_); (first | assumption | exact TF.wf (by assumption) (by assumption) | exact Wf.setE (by assumption) (by assumption)); (first | assumption | exact up_eq | exact new_eq)) | ((with_reducible refine TF.kd ?_ ?_ ?_); assumption; (first | assumption | exact up_eq | exact new_eq); exact rfl) | ((with_reducible refine RF.kd ?_ ?_ ?_); assumption; (first | assumption | exact up_eq | exact new_eq); exact rfl) | ((with_reducible refine Only.kd ?_ ?_ ?_ ?_); assumption; assumption; (first | assumption | exact up_eq | exact new_eq); exact rfl)); (first | decide | omega); omega; assumption) | ((with_reducible apply q_ldQ); (first | assumption | exact up_eq | exact new_eq | ((with_reducible refine up_kd ?_ ?_ ?_); (first | assumption | exact up_eq | exact new_eq); (first | assumption | exact up_eq | exact new_eq); exact rfl) | ((with_reducible refine up_nx ?_ ?_); (first | assumption | (apply Ne.symm; assumption) | omega); (first | assumption | exact up_eq | exact new_eq)) | ((with_reducible refine new_old ?_ ?_); (first | assumption | exact TF.wf (by assumption) (by assumption) | exact Wf.setE (by assumption) (by assumption)); (first | assumption | exact up_eq | exact new_eq)) | ((with_reducible refine TF.kd ?_ ?_ ?_); assumption; (first | assumption | exact up_eq | exact new_eq); exact rfl) | ((with_reducible refine RF.kd ?_ ?_ ?_); assumption; (first | assumption | exact up_eq | exact new_eq); exact rfl) | ((with_reducible refine Only.kd ?_ ?_ ?_ ?_); assumption; assumption; (first | assumption | exact up_eq | exact new_eq); exact rfl)); (first | decide | omega); omega) | ((with_reducible apply q_alen); (first | assumption | exact up_eq | exact new_eq | ((with_reducible refine up_kd ?_ ?_ ?_); (first | assumption | exact up_eq | exact new_eq); (first | assumption | exact up_eq | exact new_eq); exact rfl) | ((with_reducible refine up_nx ?_ ?_); (first | assumption | (apply Ne.symm; assumption) | omega); (first | assumption | exact up_eq | exact new_eq)) | ((with_reducible refine new_old ?_ ?_); (first | assumption | exact TF.wf (by assumption) (by assumption) | exact Wf.setE (by assumption) (by assumption)); (first | assumption | exact up_eq | exact new_eq)) | ((with_reducible refine TF.kd ?_ ?_ ?_); assumption; (first | assumption | exact up_eq | exact new_eq); exact rfl) | ((with_reducible refine RF.kd ?_ ?_ ?_); assumption; (first | assumption | exact up_eq | exact new_eq); exact rfl) | ((with_reducible refine Only.kd ?_ ?_ ?_ ?_); assumption; assumption; (first | assumption | exact up_eq | exact new_eq); exact rfl)); exact Nat.le_of_ble_eq_true rfl) | (with_reducible apply q_newO) | ((with_reducible apply q_newA); (first | decide | omega)) | ((with_reducible refine q_pos _ ?_ ?_); first | ((with_reducible refine ii_leT ?_); omega) | ((with_reducible refine ii_ltT ?_); omega) | ((with_reducible refine ii_eqT ?_); omega) | with_reducible exact rfl | with_reducible exact True.intro) | ((with_reducible refine q_neg _ ?_ ?_); first | ((with_reducible refine ii_leF ?_); omega) | ((with_reducible refine ii_ltF ?_); omega) | ((with_reducible refine ii_eqF ?_); omega) | with_reducible exact Option.some_ne_none _ | with_reducible exact not_false) | simp only [il_0, il_1, il_2, il_3, il_4, il_5, il_6, il_7, il_8, il_9, il_10, il_11, il_12, il_13, il_14, il_15, il_16, il_17, il_18, il_19, il_20, il_21, il_22, il_23, il_24, il_26, il_27, il_28, il_30, il_31, il_32, il_35, il_37, il_38, il_39, il_40, il_41, il_45, il_47, il_48, il_50, il_57, il_59, il_60, il_61, il_62, il_63, il_64, il_66, il_67, il_68, il_69, il_70, il_96, il_97, il_99, il_104, il_105, il_111, il_122, il_127, il_150, il_151, il_152, il_160, il_199, il_200, il_206, il_207, il_240, il_255, il_400, il_599, il_600, il_900, il_939, il_940, il_999, il_1000, il_1023, il_2606, il_2607, il_2611, il_2615, il_2616, il_2816, il_3212, il_3213, il_3420, il_5820, il_5821, il_5822, il_6061, il_6062, il_12124, il_12345, il_22491, il_25704, il_1103515245, ii_add, ii_sub, ii_mul, ii_neg])
    have x1 : ((x.length : Int) - 1) = ((x.length - 1 : Nat) : Int) := by omega
    rw [x1]
    refine q_hIe (e1.gb (by omega)) ?_
    refine q_nn ?_
    refine q_hV (s_insert (k := 0) e2 (Nat.zero_le _) (by omega)) fun h9 ⟨g1, g2⟩ => ?_
    have e19 := e1.only e2 g2 hpq
    obtain ⟨t9, c9⟩ := e19.ln
    refine q_gI c9 (by decide) rfl ?_
    rw [ii_sub, x1]
    refine q_hV (s_remove e19 (by omega)) fun h11 ⟨g3, g4⟩ => ?_
    have e2b := g1.only e19 g4 (Ne.symm hpq)
    have hr : remB (x.length - 1) x = x.take (x.length - 1) := by
      unfold remB
      rw [List.drop_of_length_le (by omega), List.append_nil]
    have hi : insB 0 (gb x (x.length - 1)) y = gb x (x.length - 1) :: y := rfl
    rw [hr] at g3
    rw [hi] at e2b
    refine Ends.ofEV (ih fu h11 (x.take (x.length - 1)) (gb x (x.length - 1) :: y) (by omega) (by rw [List.length_take]; omega) (by rw [List.length_take, List.length_cons]; omega) g3 e2b) fun h' ⟨q1, q2, q3⟩ => ⟨rfl, ?_, ?_, (g2.two2.trans g4.two1).trans q3⟩
    · rw [List.take_take, Nat.min_eq_left (by omega)] at q1
      exact q1
    · have : (x.take (x.length - 1)).drop f ++ gb x (x.length - 1) :: y = x.drop f ++ y := by
        have e5 : x = x.take (x.length - 1) ++ [gb x (x.length - 1)] := by
          have e6 := (List.take_append_drop (x.length - 1) x).symm
          rw [drop_gb (by omega), List.drop_of_length_le (i := x.length - 1 + 1) (by omega)] at e6
          exact e6
        conv => rhs; rw [e5]
        rw [List.drop_append_of_le_length (by rw [List.length_take]; omega), List.append_assoc]
        rfl
      rw [this] at q2
      exact q2
theorem s_merge_l46 {f : Nat} (hpq : p ≠ q) : ∀ (m fu : Nat) (h : PH) (x y : List Bool), m < fu → f ≤ x.length + m → f ≤ x.length + y.length → x.length + y.length ≤ 128 → LeafL h p x → LeafL h q y → EV (itr (c_R_merge_l46) (fun _ _ _ _ => none) fu h (some p) (some q) (ii f)) (fun h' => LeafL h' p ((x ++ y).take f) ∧ LeafL h' q ((x ++ y).drop f) ∧ Only2 h h' p q) := by
  intro m
  induction m with
  | zero =>
    intro fu h x y hf hm hfx hxy e1 e2
    obtain ⟨fu, rfl⟩ : ∃ x, fu = x + 1 := ⟨fu - 1, by omega⟩
    obtain ⟨t1, c1⟩ := e1.ln
    refine EV.of ?_
    rw [itr_succ]
    unfold c_R_merge_l46
    repeat (first | (with_reducible apply q_nn) | (with_reducible apply q_nm) | ((with_reducible apply q_nz); decide) | ((with_reducible apply q_grd); (first | assumption | exact up_eq | exact new_eq | ((with_reducible refine up_kd ?_ ?_ ?_); (first | assumption | exact up_eq | exact new_eq); (first | assumption | exact up_eq | exact new_eq); exact rfl) | ((with_reducible refine up_nx ?_ ?_); (first | assumption | (apply Ne.symm; assumption) | omega); (first | assumption | exact up_eq | exact new_eq)) | ((with_reducible refine new_old ?_ ?_); (first | assumption | exact TF.wf (by assumption) (by assumption) | exact Wf.setE (by assumption) (by assumption)); (first | assumption | exact up_eq | exact new_eq)) | ((with_reducible refine TF.kd ?_ ?_ ?_); assumption; (first | assumption | exact up_eq | exact new_eq); exact rfl) | ((with_reducible refine RF.kd ?_ ?_ ?_); assumption; (first | assumption | exact up_eq | exact new_eq); exact rfl) | ((with_reducible refine Only.kd ?_ ?_ ?_ ?_); assumption; assumption; (first | assumption | exact up_eq | exact new_eq); exact rfl)); (first | decide | assumption)) | ((first | with_reducible apply q_gI | with_reducible apply q_gL | with_reducible apply q_gQv); (first | assumption | exact up_eq | exact new_eq | ((with_reducible refine up_kd ?_ ?_ ?_); (first | assumption | exact up_eq | exact new_eq); (first | assumption | exact up_eq | exact new_eq); exact rfl) | ((with_reducible refine up_nx ?_ ?_); (first | assumption | (apply Ne.symm; assumption) | omega); (first | assumption | exact up_eq | exact new_eq)) | ((with_reducible refine new_old ?_ ?_); (first | assumption | exact TF.wf (by assumption) (by assumption) | exact Wf.setE (by assumption) (by assumption)); (first | assumption | exact up_eq | exact new_eq)) | ((with_reducible refine TF.kd ?_ ?_ ?_); assumption; (first | assumption | exact up_eq | exact new_eq); exact rfl) | ((with_reducible refine RF.kd ?_ ?_ ?_); assumption; (first | assumption | exact up_eq | exact new_eq); exact rfl) | ((with_reducible refine Only.kd ?_ ?_ ?_ ?_); assumption; assumption; (first | assumption | exact up_eq | exact new_eq); exact rfl)); (first | decide | assumption); first | exact rfl | assumption) | ((first | with_reducible apply q_pI | with_reducible apply q_pL | with_reducible apply q_pQ); (first | assumption | exact up_eq | exact new_eq | ((with_reducible refine up_kd ?_ ?_ ?_); (first | assumption | exact up_eq | exact new_eq); (first | assumption | exact up_eq | exact new_eq); exact rfl) | ((with_reducible refine up_nx ?_ ?_); (first | assumption | (apply Ne.symm; assumption) | omega); (first | assumption | exact up_eq | exact new_eq)) | ((with_reducible refine new_old ?_ ?_); (first | assumption | exact TF.wf (by assumption) (by assumption) | exact Wf.setE (by assumption) (by assumption)); (first | assumption | exact up_eq | exact new_eq)) | ((with_reducible refine TF.kd ?_ ?_ ?_); assumption; (first | assumption | exact up_eq | exact new_eq); exact rfl) | ((with_reducible refine RF.kd ?_ ?_ ?_); assumption; (first | assumption | exact up_eq | exact new_eq); exact rfl) | ((with_reducible refine Only.kd ?_ ?_ ?_ ?_); assumption; assumption; (first | assumption | exact up_eq | exact new_eq); exact rfl)); (first | decide | assumption); exact Nat.le_of_ble_eq_true rfl) | ((with_reducible apply q_pZ); (first | assumption | exact up_eq | exact new_eq | ((with_reducible refine up_kd ?_ ?_ ?_); (first | assumption | exact up_eq | exact new_eq); (first | assumption | exact up_eq | exact new_eq); exact rfl) | ((with_reducible refine up_nx ?_ ?_); (first | assumption | (apply Ne.symm; assumption) | omega); (first | assumption | exact up_eq | exact new_eq)) | ((with_reducible refine new_old ?_ ?_); (first | assumption | exact TF.wf (by assumption) (by assumption) | exact Wf.setE (by assumption) (by assumption)); (first | assumption | exact up_eq | exact new_eq)) | ((with_reducible refine TF.kd ?_ ?_ ?_); assumption; (first | assumption | exact up_eq | exact new_eq); exact rfl) | ((with_reducible refine RF.kd ?_ ?_ ?_); assumption; (first | assumption | exact up_eq | exact new_eq); exact rfl) | ((with_reducible refine Only.kd ?_ ?_ ?_ ?_); assumption; assumption; (first | assumption | exact up_eq | exact new_eq); exact rfl)); (first | decide | assumption); exact Nat.le_of_ble_eq_true rfl; first | exact Or.inl rfl | exact Or.inr rfl | exact Or.inl (by decide) | exact Or.inr (by decide)) | ((first | with_reducible apply q_ldI | with_reducible apply q_ldL | with_reducible apply q_stI | with_reducible apply q_stB | with_reducible apply q_stL); (first | assumption | exact up_eq | exact new_eq | ((with_reducible refine up_kd ?_ ?_ ?_); (first | assumption | exact up_eq | exact new_eq); (first | assumption | exact up_eq | exact new_eq); exact rfl) | ((with_reducible refine up_nx ?_ ?_); (first | assumption | (apply Ne.symm; assumption) | omega); (first | assumption | exact up_eq | exact new_eq)) | ((with_reducible refine new_old ?_ ?_); (first | assumption | exact TF.wf (by assumption) (by assumption) | exact Wf.setE (by assumption) (by assumption)); (first | assumption | exact up_eq | exact new_eq)) | ((with_reducible refine TF.kd ?_ ?_ ?_); assumption; (first | assumption | exact up_eq | exact new_eq); exact rfl) | ((with_reducible refine RF.kd ?_ ?_ ?_); assumption; (first | assumption | exact up_eq | exact new_eq); exact rfl) | ((with_reducible refine Only.kd ?_ ?_ ?_ ?_); assumption; assumption; (first | assumption | exact up_eq | exact new_eq); exact rfl)); omega) | ((first | with_reducible apply q_ldQ0 | with_reducible apply q_ldQ1 | with_reducible apply q_ldQn); (first | assumption | exact up_eq | exact new_eq | ((with_reducible refine up_kd ?_ ?_ ?_); (first | assumption | exact up_eq | exact new_eq); (first | assumption | exact up_eq | exact new_eq); exact rfl) | ((with_reducible refine up_nx ?_ ?_); (first | assumption | (apply Ne.symm; assumption) | omega); (first | assumption | exact up_eq | exact new_eq)) | ((with_reducible refine new_old ?_ ?_); (first | assumption | exact TF.wf (by assumption) (by assumption) | exact Wf.setE (by assumption) (by assumption)); (first | assumption | exact up_eq | exact new_eq)) | ((with_reducible refine TF.kd ?_ ?_ ?_); assumption; (first | assumption | exact up_eq | exact new_eq); exact rfl) | ((with_reducible refine RF.kd ?_ ?_ ?_); assumption; (first | assumption | exact up_eq | exact new_eq); exact rfl) | ((with_reducible refine Only.kd ?_ ?_ ?_ ?_); assumption; assumption; (first | assumption | exact up_eq | exact new_eq); exact rfl)); (first | decide | omega); omega; assumption) | ((with_reducible apply q_ldQ); (first | assumption | exact up_eq | exact new_eq | ((with_reducible refine up_kd ?_ ?_ ?_); (first | assumption | exact up_eq | exact new_eq); (first | assumption | exact up_eq | exact new_eq); exact rfl) | ((with_reducible refine up_nx ?_ ?_); (first | assumption | (apply Ne.symm; assumption) | omega); (first | assumption | exact up_eq | exact new_eq)) | ((with_reducible refine new_old ?_ ?_); (first | assumption | exact TF.wf (by assumption) (by assumption) | exact Wf.setE (by assumption) (by assumption)); (first | assumption | exact up_eq | exact new_eq)) | ((with_reducible refine TF.kd ?_ ?_ ?_); assumption; (first | assumption | exact up_eq | exact new_eq); exact rfl) | ((with_reducible refine RF.kd ?_ ?_ ?_); assumption; (first | assumption | exact up_eq | exact new_eq); exact rfl) | ((with_reducible refine Only.kd ?_ ?_ ?_ ?_); assumption; assumption; (first | assumption | exact up_eq | exact new_eq); exact rfl)); (first | decide | omega); omega) | ((with_reducible apply q_alen); (first | assumption | exact up_eq | exact new_eq | ((with_reducible refine up_kd ?_ ?_ ?_); (first | assumption | exact up_eq | exact new_eq); (first | assumption | exact up_eq | exact new_eq); exact rfl) | ((with_reducible refine up_nx ?_ ?_); (first | assumption | (apply Ne.symm; assumption) | omega); (first | assumption | exact up_eq | exact new_eq)) | ((with_reducible refine new_old ?_ ?_); (first | assumption | exact TF.wf (by assumption) (by assumption) | exact Wf.setE (by assumption) (by assumption)); (first | assumption | exact up_eq | exact new_eq)) | ((with_reducible refine TF.kd ?_ ?_ ?_); assumption; (first | assumption | exact up_eq | exact new_eq); exact rfl) | ((with_reducible refine RF.kd ?_ ?_ ?_); assumption; (first | assumption | exact up_eq | exact new_eq); exact rfl) | ((with_reducible refine Only.kd ?_ ?_ ?_ ?_); assumption; assumption; (first | assumption | exact up_eq | exact new_eq); exact rfl)); exact Nat.le_of_ble_eq_true rfl) | (with_reducible apply q_newO) | ((with_reducible apply q_newA); (first | decide | omega)) | ((with_reducible refine q_pos _ ?_ ?_); first | ((with_reducible refine ii_leT ?_); omega) | ((with_reducible refine ii_ltT ?_); omega) | ((with_reducible refine ii_eqT ?_); omega) | with_reducible exact rfl | with_reducible exact True.intro) | ((with_reducible refine q_neg _ ?_ ?_); first | ((with_reducible refine ii_leF ?_); omega) | ((with_reducible refine ii_ltF ?_); omega) | ((with_reducible refine ii_eqF ?_); omega) | with_reducible exact Option.some_ne_none _ | with_reducible exact not_false) | simp only [il_0, il_1, il_2, il_3, il_4, il_5, il_6, il_7, il_8, il_9, il_10, il_11, il_12, il_13, il_14, il_15, il_16, il_17, il_18, il_19, il_20, il_21, il_22, il_23, il_24, il_26, il_27, il_28, il_30, il_31, il_32, il_35, il_37, il_38, il_39, il_40, il_41, il_45, il_47, il_48, il_50, il_57, il_59, il_60, il_61, il_62, il_63, il_64, il_66, il_67, il_68, il_69, il_70, il_96, il_97, il_99, il_104, il_105, il_111, il_122, il_127, il_150, il_151, il_152, il_160, il_199, il_200, il_206, il_207, il_240, il_255, il_400, il_599, il_600, il_900, il_939, il_940, il_999, il_1000, il_1023, il_2606, il_2607, il_2611, il_2615, il_2616, il_2816, il_3212, il_3213, il_3420, il_5820, il_5821, il_5822, il_6061, il_6062, il_12124, il_12345, il_22491, il_25704, il_1103515245, ii_add, ii_sub, ii_mul, ii_neg])
    refine Ends.ofEV (s_merge_l76 hpq (x.length - f) FU h x y (by unfold FU; omega) (by omega) hxy e1 e2) fun h' ⟨q1, q2, q3⟩ => ⟨rfl, ?_, ?_, q3⟩
    · rw [List.take_append_of_le_length (by omega)]; exact q1
    · rw [List.drop_append_of_le_length (by omega)]; exact q2
  | succ m ih =>
    intro fu h x y hf hm hfx hxy e1 e2
    obtain ⟨fu, rfl⟩ : ∃ x, fu = x + 1 := ⟨fu - 1, by omega⟩
    obtain ⟨t1, c1⟩ := e1.ln
    by_cases hxf : f ≤ x.length
    · refine EV.of ?_
      rw [itr_succ]
      unfold c_R_merge_l46
      repeat (first | (with_reducible apply q_nn) | (with_reducible apply q_nm) | ((with_reducible apply q_nz); decide) | ((with_reducible apply q_grd); (first | assumption | exact up_eq | exact new_eq | ((with_reducible refine up_kd ?_ ?_ ?_); (first | assumption | exact up_eq | exact new_eq); (first | assumption | exact up_eq | exact new_eq); exact rfl) | ((with_reducible refine up_nx ?_ ?_); (first | assumption | (apply Ne.symm; assumption) | omega); (first | assumption | exact up_eq | exact new_eq)) | ((with_reducible refine new_old ?_ ?_); (first | assumption | exact TF.wf (by assumption) (by assumption) | exact Wf.setE (by assumption) (by assumption)); (first | assumption | exact up_eq | exact new_eq)) | ((with_reducible refine TF.kd ?_ ?_ ?_); assumption; (first | assumption | exact up_eq | exact new_eq); exact rfl) | ((with_reducible refine RF.kd ?_ ?_ ?_); assumption; (first | assumption | exact up_eq | exact new_eq); exact rfl) | ((with_reducible refine Only.kd ?_ ?_ ?_ ?_); assumption; assumption; (first | assumption | exact up_eq | exact new_eq); exact rfl)); (first | decide | assumption)) | ((first | with_reducible apply q_gI | with_reducible apply q_gL | with_reducible apply q_gQv); (first | assumption | exact up_eq | exact new_eq | ((with_reducible refine up_kd ?_ ?_ ?_); (first | assumption | exact up_eq | exact new_eq); (first | assumption | exact up_eq | exact new_eq); exact rfl) | ((with_reducible refine up_nx ?_ ?_); (first | assumption | (apply Ne.symm; assumption) | omega); (first | assumption | exact up_eq | exact new_eq)) | ((with_reducible refine new_old ?_ ?_); (first | assumption | exact TF.wf (by assumption) (by assumption) | exact Wf.setE (by assumption) (by assumption)); (first | assumption | exact up_eq | exact new_eq)) | ((with_reducible refine TF.kd ?_ ?_ ?_); assumption; (first | assumption | exact up_eq | exact new_eq); exact rfl) | ((with_reducible refine RF.kd ?_ ?_ ?_); assumption; (first | assumption | exact up_eq | exact new_eq); exact rfl) | ((with_reducible refine Only.kd ?_ ?_ ?_ ?_); assumption; assumption; (first | assumption | exact up_eq | exact new_eq); exact rfl)); (first | decide | assumption); first | exact rfl | assumption) | ((first | with_reducible apply q_pI | with_reducible apply q_pL | with_reducible apply q_pQ); (first | assumption | exact up_eq | exact new_eq | ((with_reducible refine up_kd ?_ ?_ ?_); (first | assumption | exact up_eq | exact new_eq); (first | assumption | exact up_eq | exact new_eq); exact rfl) | ((with_reducible refine up_nx ?_ ?_); (first | assumption | (apply Ne.symm; assumption) | omega); (first | assumption | exact up_eq | exact new_eq)) | ((with_reducible refine new_old ?_ ?_); (first | assumption | exact TF.wf (by assumption) (by assumption) | exact Wf.setE (by assumption) (by assumption)); (first | assumption | exact up_eq | exact new_eq)) | ((with_reducible refine TF.kd ?_ ?_ ?_); assumption; (first | assumption | exact up_eq | exact new_eq); exact rfl) | ((with_reducible refine RF.kd ?_ ?_ ?_); assumption; (first | assumption | exact up_eq | exact new_eq); exact rfl) | ((with_reducible refine Only.kd ?_ ?_ ?_ ?_); assumption; assumption; (first | assumption | exact up_eq | exact new_eq); exact rfl)); (first | decide | assumption); exact Nat.le_of_ble_eq_true rfl) | ((with_reducible apply q_pZ); (first | assumption | exact up_eq | exact new_eq | ((with_reducible refine up_kd ?_ ?_ ?_); (first | assumption | exact up_eq | exact new_eq); (first | assumption | exact up_eq | exact new_eq); exact rfl) | ((with_reducible refine up_nx ?_ ?_); (first | assumption | (apply Ne.symm; assumption) | omega); (first | assumption | exact up_eq | exact new_eq)) | ((with_reducible refine new_old ?_ ?_); (first | assumption | exact TF.wf (by assumption) (by assumption) | exact Wf.setE (by assumption) (by assumption)); (first | assumption | exact up_eq | exact new_eq)) | ((with_reducible refine TF.kd ?_ ?_ ?_); assumption; (first | assumption | exact up_eq | exact new_eq); exact rfl) | ((with_reducible refine RF.kd ?_ ?_ ?_); assumption; (first | assumption | exact up_eq | exact new_eq); exact rfl) | ((with_reducible refine Only.kd ?_ ?_ ?_ ?_); assumption; assumption; (first | assumption | exact up_eq | exact new_eq); exact rfl)); (first | decide | assumption); exact Nat.le_of_ble_eq_true rfl; first | exact Or.inl rfl | exact Or.inr rfl | exact Or.inl (by decide) | exact Or.inr (by decide)) | ((first | with_reducible apply q_ldI | with_reducible apply q_ldL | with_reducible apply q_stI | with_reducible apply q_stB | with_reducible apply q_stL); (first | assumption | exact up_eq | exact new_eq | ((with_reducible refine up_kd ?_ ?_ ?_); (first | assumption | exact up_eq | exact new_eq); (first | assumption | exact up_eq | exact new_eq); exact rfl) | ((with_reducible refine up_nx ?_ ?_); (first | assumption | (apply Ne.symm; assumption) | omega); (first | assumption | exact up_eq | exact new_eq)) | ((with_reducible refine new_old ?_ ?_); (first | assumption | exact TF.wf (by assumption) (by assumption) | exact Wf.setE (by assumption) (by assumption)); (first | assumption | exact up_eq | exact new_eq)) | ((with_reducible refine TF.kd ?_ ?_ ?_); assumption; (first | assumption | exact up_eq | exact new_eq); exact rfl) | ((with_reducible refine RF.kd ?_ ?_ ?_); assumption; (first | assumption | exact up_eq | exact new_eq); exact rfl) | ((with_reducible refine Only.kd ?_ ?_ ?_ ?_); assumption; assumption; (first | assumption | exact up_eq | exact new_eq); exact rfl)); omega) | ((first | with_reducible apply q_ldQ0 | with_reducible apply q_ldQ1 | with_reducible apply q_ldQn); (first | assumption | exact up_eq | exact new_eq | ((with_reducible refine up_kd ?_ ?_ ?_); (first | assumption | exact up_eq | exact new_eq); (first | assumption | exact up_eq | exact new_eq); exact rfl) | ((with_reducible refine up_nx ?_ ?_); (first | assumption | (apply Ne.symm; assumption) | omega); (first | assumption | exact up_eq | exact new_eq)) | ((with_reducible refine new_old ?_ ?_); (first | assumption | exact TF.wf (by assumption) (by assumption) | exact Wf.setE (by assumption) (by assumption)); (first | assumption | exact up_eq | exact new_eq)) | ((with_reducible refine TF.kd ?_ ?_ ?_); assumption; (first | assumption | exact up_eq | exact new_eq); exact rfl) | ((with_reducible refine RF.kd ?_ ?_ ?_); assumption; (first | assumption | exact up_eq | exact new_eq); exact rfl) | ((with_reducible refine Only.kd ?_ ?_ ?_ ?_); assumption; assumption; (first | assumption | exact up_eq | exact new_eq); exact rfl)); (first | decide | omega); omega; assumption) | ((with_reducible apply q_ldQ); (first | assumption | exact up_eq | exact new_eq | ((with_reducible refine up_kd ?_ ?_ ?_); (first | assumption | exact up_eq | exact new_eq); (first | assumption | exact up_eq | exact new_eq); exact rfl) | ((with_reducible refine up_nx ?_ ?_); (first | assumption | (apply Ne.symm; assumption) | omega); (first | assumption | exact up_eq | exact new_eq)) | ((with_reducible refine new_old ?_ ?_); (first | assumption | exact TF.wf (by assumption) (by assumption) | exact Wf.setE (by assumption) (by assumption)); (first | assumption | exact up_eq | exact new_eq)) | ((with_reducible refine TF.kd ?_ ?_ ?_); assumption; (first | assumption | exact up_eq | exact new_eq); exact rfl) | ((with_reducible refine RF.kd ?_ ?_ ?_); assumption; (first | assumption | exact up_eq | exact new_eq); exact rfl) | ((with_reducible refine Only.kd ?_ ?_ ?_ ?_); assumption; assumption; (first | assumption | exact up_eq | exact new_eq); exact rfl)); (first | decide | omega); omega) | ((with_reducible apply q_alen); (first | assumption | exact up_eq | exact new_eq | ((with_reducible refine up_kd ?_ ?_ ?_); (first | assumption | exact up_eq | exact new_eq); (first | assumption | exact up_eq | exact new_eq); exact rfl) | ((with_reducible refine up_nx ?_ ?_); (first | assumption | (apply Ne.symm; assumption) | omega); (first | assumption | exact up_eq | exact new_eq)) | ((with_reducible refine new_old ?_ ?_); (first | assumption | exact TF.wf (by assumption) (by assumption) | exact Wf.setE (by assumption) (by assumption)); (first | assumption | exact up_eq | exact new_eq)) | ((with_reducible refine TF.kd ?_ ?_ ?_); assumption; (first | assumption | exact up_eq | exact new_eq); exact rfl) | ((with_reducible refine RF.kd ?_ ?_ ?_); assumption; (first | assumption | exact up_eq | exact new_eq); exact rfl) | ((with_reducible refine Only.kd ?_ ?_ ?_ ?_); assumption; assumption; (first | assumption | exact up_eq | exact new_eq); exact rfl)); exact Nat.le_of_ble_eq_true rfl) | (with_reducible apply q_newO) | ((with_reducible apply q_newA); (first | decide | omega)) | ((with_reducible refine q_pos _ ?_ ?_); first | ((with_reducible refine ii_leT ?_); omega) | ((with_reducible refine ii_ltT ?_); omega) | ((with_reducible refine ii_eqT ?_); omega) | with_reducible exact rfl | with_reducible exact True.intro) | ((with_reducible refine q_neg _ ?_ ?_); first | ((with_reducible refine ii_leF ?_); omega) | ((with_reducible refine ii_ltF ?_); omega) | ((with_reducible refine ii_eqF ?_); omega) | with_reducible exact Option.some_ne_none _ | with_reducible exact not_false) | simp only [il_0, il_1, il_2, il_3, il_4, il_5, il_6, il_7, il_8, il_9, il_10, il_11, il_12, il_13, il_14, il_15, il_16, il_17, il_18, il_19, il_20, il_21, il_22, il_23, il_24, il_26, il_27, il_28, il_30, il_31, il_32, il_35, il_37, il_38, il_39, il_40, il_41, il_45, il_47, il_48, il_50, il_57, il_59, il_60, il_61, il_62, il_63, il_64, il_66, il_67, il_68, il_69, il_70, il_96, il_97, il_99, il_104, il_105, il_111, il_122, il_127, il_150, il_151, il_152, il_160, il_199, il_200, il_206, il_207, il_240, il_255, il_400, il_599, il_600, il_900, il_939, il_940, il_999, il_1000, il_1023, il_2606, il_2607, il_2611, il_2615, il_2616, il_2816, il_3212, il_3213, il_3420, il_5820, il_5821, il_5822, il_6061, il_6062, il_12124, il_12345, il_22491, il_25704, il_1103515245, ii_add, ii_sub, ii_mul, ii_neg])
      refine Ends.ofEV (s_merge_l76 hpq (x.length - f) FU h x y (by unfold FU; omega) (by omega) hxy e1 e2) fun h' ⟨q1, q2, q3⟩ => ⟨rfl, ?_, ?_, q3⟩
      · rw [List.take_append_of_le_length (by omega)]; exact q1
      · rw [List.drop_append_of_le_length (by omega)]; exact q2
    · cases y with
      | nil => simp at hfx; omega
      | cons b y =>
        rw [List.length_cons] at hfx hxy
        refine EV.of ?_
        rw [itr_succ]
        unfold c_R_merge_l46
        repeat (first | (with_reducible apply q_nn) | (with_reducible apply q_nm) | ((with_reducible apply q_nz); decide) | ((with_reducible apply q_grd); (first | assumption | exact up_eq | exact new_eq | ((with_reducible refine up_kd ?_ ?_ ?_); (first | assumption | exact up_eq | exact new_eq); (first | assumption | exact up_eq | exact new_eq); exact rfl) | ((with_reducible refine up_nx ?_ ?_); (first | assumption | (apply Ne.symm; assumption) | omega); (first | assumption | exact up_eq | exact new_eq)) | ((with_reducible refine new_old ?_ ?_); (first | assumption | exact TF.wf (by assumption) (by assumption) | exact Wf.setE (by assumption) (by assumption)); (first | assumption | exact up_eq | exact new_eq)) | ((with_reducible refine TF.kd ?_ ?_ ?_); assumption; (first | assumption | exact up_eq | exact new_eq); exact rfl) | ((with_reducible refine RF.kd ?_ ?_ ?_); assumption; (first | assumption | exact up_eq | exact new_eq); exact rfl) | ((with_reducible refine Only.kd ?_ ?_ ?_ ?_); assumption; assumption; (first | assumption | exact up_eq | exact new_eq); exact rfl)); (first | decide | assumption)) | ((first | with_reducible apply q_gI | with_reducible apply q_gL | with_reducible apply q_gQv); (first | assumption | exact up_eq | exact new_eq | ((with_reducible refine up_kd ?_ ?_ ?_); (first | assumption | exact up_eq | exact new_eq); (first | assumption | exact up_eq | exact new_eq); exact rfl) | ((with_reducible refine up_nx ?_ ?_); (first | assumption | (apply Ne.symm; assumption) | omega); (first | assumption | exact up_eq | exact new_eq)) | ((with_reducible refine new_old ?_ ?_); (first | assumption | exact TF.wf (by assumption) (by assumption) | exact Wf.setE (by assumption) (by assumption)); (first | assumption | exact up_eq | exact new_eq)) | ((with_reducible refine TF.kd ?_ ?_ ?_); assumption; (first | assumption | exact up_eq | exact new_eq); exact rfl) | ((with_reducible refine RF.kd ?_ ?_ ?_); assumption; (first | assumption | exact up_eq | exact new_eq); exact rfl) | ((with_reducible refine Only.kd ?_ ?_ ?_ ?_); assumption; assumption; (first | assumption | exact up_eq | exact new_eq); exact rfl)); (first | decide | assumption); first | exact rfl | assumption) | ((first | with_reducible apply q_pI | with_reducible apply q_pL | with_reducible apply q_pQ); (first | assumption | exact up_eq | exact new_eq | ((with_reducible refine up_kd ?_ ?_ ?_); (first | assumption | exact up_eq | exact new_eq); (first | assumption | exact up_eq | exact new_eq); exact rfl) | ((with_reducible refine up_nx ?_ ?_); (first | assumption | (apply Ne.symm; assumption) | omega); (first | assumption | exact up_eq | exact new_eq)) | ((with_reducible refine new_old ?_ ?_); (first | assumption | exact TF.wf (by assumption) (by assumption) | exact Wf.setE (by assumption) (by assumption)); (first | assumption | exact up_eq | exact new_eq)) | ((with_reducible refine TF.kd ?_ ?_ ?_); assumption; (first | assumption | exact up_eq | exact new_eq); exact rfl) | ((with_reducible refine RF.kd ?_ ?_ ?_); assumption; (first | assumption | exact up_eq | exact new_eq); exact rfl) | ((with_reducible refine Only.kd ?_ ?_ ?_ ?_); assumption; assumption; (first | assumption | exact up_eq | exact new_eq); exact rfl)); (first | decide | assumption); exact Nat.le_of_ble_eq_true rfl) | ((with_reducible apply q_pZ); (first | assumption | exact up_eq | exact new_eq | ((with_reducible refine up_kd ?_ ?_ ?_); (first | assumption | exact up_eq | exact new_eq); (first | assumption | exact up_eq | exact new_eq); exact rfl) | ((with_reducible refine up_nx ?_ ?_); (first | assumption | (apply Ne.symm; assumption) | omega); (first | assumption | exact up_eq | exact new_eq)) | ((with_reducible refine new_old ?_ ?_); (first | assumption | exact TF.wf (by assumption) (by assumption) | exact Wf.setE (by assumption) (by assumption)); (first | assumption | exact up_eq | exact new_eq)) | ((with_reducible refine TF.kd ?_ ?_ ?_); assumption; (first | assumption | exact up_eq | exact new_eq); exact rfl) | ((with_reducible refine RF.kd ?_ ?_ ?_); assumption; (first | assumption | exact up_eq | exact new_eq); exact rfl) | ((with_reducible refine Only.kd ?_ ?_ ?_ ?_); assumption; assumption; (first | assumption | exact up_eq | exact new_eq); exact rfl)); (first | decide | assumption); exact Nat.le_of_ble_eq_true rfl; first | exact Or.inl rfl | exact Or.inr rfl | exact Or.inl (by decide) | exact Or.inr (by decide)) | ((first | with_reducible apply q_ldI | with_reducible apply q_ldL | with_reducible apply q_stI | with_reducible apply q_stB | with_reducible apply q_stL); (first | assumption | exact up_eq | exact new_eq | ((with_reducible refine up_kd ?_ ?_ ?_); (first | assumption | exact up_eq | exact new_eq); (first | assumption | exact up_eq | exact new_eq); exact rfl) | ((with_reducible refine up_nx ?_ ?_); (first | assumption | (apply Ne.symm; assumption) | omega); (first | assumption | exact up_eq | exact new_eq)) | ((with_reducible refine new_old ?_ ?_); (first | assumption | exact TF.wf (by assumption) (by assumption) | exact Wf.setE (by assumption) (by assumption)); (first | assumption | exact up_eq | exact new_eq)) | ((with_reducible refine TF.kd ?_ ?_ ?_); assumption; (first | assumption | exact up_eq | exact new_eq); exact rfl) | ((with_reducible refine RF.kd ?_ ?_ ?_); assumption; (first | assumption | exact up_eq | exact new_eq); exact rfl) | ((with_reducible refine Only.kd ?_ ?_ ?_ ?_); assumption; assumption; (first | assumption | exact up_eq | exact new_eq); exact rfl)); omega) | ((first | with_reducible apply q_ldQ0 | with_reducible apply q_ldQ1 | with_reducible apply q_ldQn); (first | assumption | exact up_eq | exact new_eq | ((with_reducible refine up_kd ?_ ?_ ?_); (first | assumption | exact up_eq | exact new_eq); (first | assumption | exact up_eq | exact new_eq); exact rfl) | ((with_reducible refine up_nx ?_ ?_); (first | assumption | (apply Ne.symm; assumption) | omega); (first | assumption | exact up_eq | exact new_eq)) | ((with_reducible refine new_old ?_ ?_); (first | assumption | exact TF.wf (by assumption) (by assumption) | exact Wf.setE (by assumption) (by assumption)); (first | assumption | exact up_eq | exact new_eq)) | ((with_reducible refine TF.kd ?_ ?_ ?_); assumption; (first | assumption | exact up_eq | exact new_eq); exact rfl) | ((with_reducible refine RF.kd ?_ ?_ ?_); assumption; (first | assumption | exact up_eq | exact new_eq); exact rfl) | ((with_reducible refine Only.kd ?_ ?_ ?_ ?_); assumption; assumption; (first | assumption | exact up_eq | exact new_eq); exact rfl)); (first | decide | omega); omega; assumption) | ((with_reducible apply q_ldQ); (first | assumption | exact up_eq | exact new_eq | ((with_reducible refine up_kd ?_ ?_ ?_); (first | assumption | exact up_eq | exact new_eq); (first | assumption | exact up_eq | exact new_eq); exact rfl) | ((with_reducible refine up_nx ?_ ?_); (first | assumption | (apply Ne.symm; assumption) | omega); (first | assumption | exact up_eq | exact new_eq)) | ((with_reducible refine new_old ?_ ?_); (first | assumption | exact TF.wf (by assumption) (by assumption) | exact Wf.setE (by assumption) (by assumption)); (first | assumption | exact up_eq | exact new_eq)) | ((with_reducible refine TF.kd ?_ ?_ ?_); assumption; (first | assumption | exact up_eq | exact new_eq); exact rfl) | ((with_reducible refine RF.kd ?_ ?_ ?_); assumption; (first | assumption | exact up_eq | exact new_eq); exact rfl) | ((with_reducible refine Only.kd ?_ ?_ ?_ ?_); assumption; assumption; (first | assumption | exact up_eq | exact new_eq); exact rfl)); (first | decide | omega); omega) | ((with_reducible apply q_alen); (first | assumption | exact up_eq | exact new_eq | ((with_reducible refine up_kd ?_ ?_ ?_); (first | assumption | exact up_eq | exact new_eq); (first | assumption | exact up_eq | exact new_eq); exact rfl) | ((with_reducible refine up_nx ?_ ?_); (first | assumption | (apply Ne.symm; assumption) | omega); (first | assumption | exact up_eq | exact new_eq)) | ((with_reducible refine new_old ?_ ?_); (first | assumption | exact TF.wf (by assumption) (by assumption) | exact Wf.setE (by assumption) (by assumption)); (first | assumption | exact up_eq | exact new_eq)) | ((with_reducible refine TF.kd ?_ ?_ ?_); assumption; (first | assumption | exact up_eq | exact new_eq); exact rfl) | ((with_reducible refine RF.kd ?_ ?_ ?_); assumption; (first | assumption | exact up_eq | exact new_eq); exact rfl) | ((with_reducible refine Only.kd ?_ ?_ ?_ ?_); assumption; assumption; (first | assumption | exact up_eq | exact new_eq); exact rfl)); exact Nat.le_of_ble_eq_true rfl) | (with_reducible apply q_newO) | ((with_reducible apply q_newA); (first | decide | omega)) | ((with_reducible refine q_pos _ ?_ ?_); first | ((with_reducible refine ii_leT ?_); omega) | ((with_reducible refine ii_ltT ?_); omega) | ((with_reducible refine ii_eqT ?_); omega) | with_reducible exact rfl | with_reducible exact True.intro) | ((with_reducible refine q_neg _ ?_ ?_); first | ((with_reducible refine ii_leF ?_); omega) | ((with_reducible refine ii_ltF ?_); omega) | ((with_reducible refine ii_eqF ?_); omega) | with_reducible exact Option.some_ne_none _ | with_reducible exact not_false) | simp only [il_0, il_1, il_2, il_3, il_4, il_5, il_6, il_7, il_8, il_9, il_10, il_11, il_12, il_13, il_14, il_15, il_16, il_17, il_18, il_19, il_20, il_21, il_22, il_23, il_24, il_26, il_27, il_28, il_30, il_31, il_32, il_35, il_37, il_38, il_39, il_40, il_41, il_45, il_47, il_48, il_50, il_57, il_59, il_60, il_61, il_62, il_63, il_64, il_66, il_67, il_68, il_69, il_70, il_96, il_97, il_99, il_104, il_105, il_111, il_122, il_127, il_150, il_151, il_152, il_160, il_199, il_200, il_206, il_207, il_240, il_255, il_400, il_599, il_600, il_900, il_939, il_940, il_999, il_1000, il_1023, il_2606, il_2607, il_2611, il_2615, il_2616, il_2816, il_3212, il_3213, il_3420, il_5820, il_5821, il_5822, il_6061, il_6062, il_12124, il_12345, il_22491, il_25704, il_1103515245, ii_add, ii_sub, ii_mul, ii_neg])
        refine q_hIe (e2.gb (k := 0) (by rw [List.length_cons]; omega)) ?_
        have hb : gb (b :: y) 0 = b := rfl
        rw [hb]
        refine q_hV (s_insert e1 (Nat.le_refl _) (by omega)) fun h9 ⟨g1, g2⟩ => ?_
        have e29 := e2.only e1 g2 (Ne.symm hpq)
        refine q_hV (s_remove (k := 0) e29 (by rw [List.length_cons]; omega)) fun h10 ⟨g3, g4⟩ => ?_
        have e1b := g1.only e29 g4 hpq
        have hi : insB x.length b x = x ++ [b] := by unfold insB; rw [List.take_length, List.drop_length]
        have hr : remB 0 (b :: y) = y := rfl
        rw [hi] at e1b
        rw [hr] at g3
        refine Ends.ofEV (ih fu h10 (x ++ [b]) y (by omega) (by rw [List.length_append, List.length_singleton]; omega) (by rw [List.length_append, List.length_singleton]; omega) (by rw [List.length_append, List.length_singleton]; omega) e1b g3) fun h' ⟨q1, q2, q3⟩ => ⟨rfl, ?_, ?_, (g2.two1.trans g4.two2).trans q3⟩
        · rw [List.append_assoc] at q1; exact q1
        · rw [List.append_assoc] at q2; exact q2
theorem Row.only2 {l l' m m' : List Bool} (R : Row own ρ h w row) (e : LeafL h p l) (e2 : LeafL h q m) (e' : LeafL h' p l') (e2' : LeafL h' q m') (o : Only2 h h' p q) : Row own ρ h' w row := by
  obtain ⟨s1, s2, s3, s4⟩ := R
  obtain ⟨q1, g, ⟨s, v, g1, g2, g3⟩, q3⟩ := e
  obtain ⟨q1', g', ⟨s', v', g1', g2', g3'⟩, q3'⟩ := e2
  have w1 : w ≠ p := fun q => by rw [q, g1] at s1; cases s1
  have w2 : w ≠ p + 1 := fun q => by rw [q, g2] at s1; injection s1 with s1; injection s1 with s1; injection s1 with s1; cases s1
  have w3 : w ≠ q := fun q => by rw [q, g1'] at s1; cases s1
  have w4 : w ≠ q + 1 := fun q => by rw [q, g2'] at s1; injection s1 with s1; injection s1 with s1; injection s1 with s1; cases s1
  refine ⟨(o.2 w w1 w2 w3 w4).trans s1, s2, fun k a hk ea => ?_, s4⟩
  obtain ⟨a1, a2, a3⟩ := s3 k a hk ea
  refine ⟨a1, a2, ?_⟩
  by_cases hp : a = p
  · rw [hp]; exact e'.e
  · by_cases hq : a = q
    · rw [hq]; exact e2'.e
    · obtain ⟨n, oo, t, wd, c1, c2⟩ := a3
      have m2 : a ≠ p + 1 := fun q => by rw [q, g2] at c1; cases c1
      have m3 : a + 1 ≠ p := fun q => by rw [q, g1] at c2; cases c2
      have m4 : a ≠ q + 1 := fun q => by rw [q, g2'] at c1; cases c1
      have m5 : a + 1 ≠ q := fun q => by rw [q, g1'] at c2; cases c2
      exact ⟨n, oo, t, wd, (o.2 a hp m2 hq m4).trans c1, (o.2 (a + 1) m3 (by omega) m5 (by omega)).trans c2⟩
theorem LeafL.only2 {b : Nat} {l m k : List Bool} (e : LeafL h b l) (ep : LeafL h p m) (eq : LeafL h q k) (o : Only2 h h' p q) (hp : b ≠ p) (hq : b ≠ q) : LeafL h' b l := by
  have a1 := leaf_dis e ep
  have a2 := leaf_dis e eq
  have a3 := leaf_dis ep e
  have a4 := leaf_dis eq e
  refine e.frame fun x c hx hc => ?_
  rw [o.2 x (by omega) (by omega) (by omega) (by omega)]
  exact hc
theorem Only2.rF {l m : List Bool} (o : Only2 h h' p q) (e : LeafL h p l) (e2 : LeafL h q m) (o1 : own p = ρ) (o2 : own (p + 1) = ρ) (o3 : own q = ρ) (o4 : own (q + 1) = ρ) (wf : Wf h) : RF own ρ h h' := by
  obtain ⟨q1, g, ⟨s, v, g1, g2, g3⟩, q3⟩ := e
  obtain ⟨q1', g', ⟨s', v', g1', g2', g3'⟩, q3'⟩ := e2
  have l1 := wf.lt g1
  have l2 := wf.lt g2
  have l3 := wf.lt g1'
  have l4 := wf.lt g2'
  refine ⟨by rw [o.1]; exact Nat.le_refl _, by rw [o.1]; exact Nat.le_refl _, by rw [o.1], fun x hx => ?_, fun x c e q => ?_⟩
  · rw [o.1] at hx
    rw [o.2 x (by omega) (by omega) (by omega) (by omega)]
    exact wf x hx
  · have k1 : ∀ y d, h.1 y = some d → own y = ρ → rK d = true → x ≠ y := fun y d ey oy ky n => by
      rcases q with q | q
      · exact q (by rw [n]; exact oy)
      · rw [n, ey] at e; injection e with e; rw [← e, ky] at q; cases q
    rw [o.2 x (k1 _ _ g1 o1 rfl) (k1 _ _ g2 o2 rfl) (k1 _ _ g1' o3 rfl) (k1 _ _ g2' o4 rfl)]
    exact e
theorem Loose.upd2 {k k2 : Nat} {l l' m m' : List Bool} (L : Loose h row ls) (R : Row own ρ h w row) (hl : ls.length ≤ 152) (hne : k ≠ k2) (hk : ls[k]? = some l) (hk2 : ls[k2]? = some m) (hp : row k = some p) (hq : row k2 = some q) (e : LeafL h p l) (e2 : LeafL h q m) (e' : LeafL h' p l') (e2' : LeafL h' q m') (o : Only2 h h' p q) : Loose h' row ((ls.set k l').set k2 m') := by
  have a1 := at_lt hk
  have a2 := at_lt hk2
  intro j x hx
  rw [List.getElem?_set, List.length_set] at hx
  by_cases h1 : k2 = j
  · subst h1
    rw [if_pos rfl, if_pos a2] at hx
    injection hx with hx
    exact ⟨q, hq, by rw [← hx]; exact e2'⟩
  · rw [if_neg h1, List.getElem?_set] at hx
    by_cases h2 : k = j
    · subst h2
      rw [if_pos rfl, if_pos a1] at hx
      injection hx with hx
      exact ⟨p, hp, by rw [← hx]; exact e'⟩
    · rw [if_neg h2] at hx
      have hj2 := at_lt hx
      obtain ⟨a, b1, b2⟩ := L j x hx
      refine ⟨a, b1, b2.only2 e e2 o (fun z => h2 ?_) (fun z => h1 ?_)⟩
      · rw [z] at b1
        exact R.2.2.2 k j p (by omega) (by omega) hp b1
      · rw [z] at b1
        exact R.2.2.2 k2 j q (by omega) (by omega) hq b1
theorem p_merge {k : Nat} {a c : List Bool} {mx t lt at_ : Int} (er : h.1 ρ = some (ropeC w none false low mx ls.length t lt at_)) (R : Row own ρ h w row) (L : Loose h row ls) (wf : Wf h) (r1 : own ρ = ρ) (hlow : low ≤ 32) (hn : ls.length ≤ 150) (hk : ls[k]? = some a) (hk2 : ls[k + 1]? = some c) (hl : a.length ≤ 64) (hl2 : c.length ≤ 64) : EV (c_R_merge h ρ (ii k)) (fun h' => ∃ row', Row own ρ h' w row' ∧ Loose h' row' (mrg low ls k) ∧ h'.1 ρ = some (ropeC w none false low mx (mrg low ls k).length t lt at_) ∧ RF own ρ h h' ∧ h'.2 = h.2 ∧ nul row' = nul row) := by
  have a1 := at_lt hk2
  obtain ⟨p, lp, ep⟩ := L k a hk
  obtain ⟨q, lq, eq⟩ := L (k + 1) c hk2
  have ew := R.1
  have hw : w ≠ ρ := fun q => by rw [q, er] at ew; cases ew
  obtain ⟨o1, o2, -⟩ := R.2.2.1 _ p (by omega) lp
  obtain ⟨o3, o4, -⟩ := R.2.2.1 _ q (by omega) lq
  have hpq : p ≠ q := fun z => by
    rw [z] at lp
    have := R.2.2.2 k (k + 1) q (by omega) (by omega) lp lq
    omega
  obtain ⟨tp, cp⟩ := ep.ln
  obtain ⟨tq, cq⟩ := eq.ln
  have x1 : ((k : Int) + 1) = ((k + 1 : Nat) : Int) := by omega
  refine EV.of ?_
  unfold c_R_merge
  simp only [il_1, il_2, ii_add]
  rw [x1]
  refine q_grd er (by decide) ?_
  refine q_gQr er (by decide) rfl ?_
  refine q_nn ?_
  refine q_ldQn ew (by decide) (by omega) lp ?_
  refine q_gQr er (by decide) rfl ?_
  refine q_nn ?_
  refine q_ldQn ew (by decide) (by omega) lq ?_
  refine q_nn ?_
  refine q_gI cp (by decide) rfl ?_
  refine q_nn ?_
  refine q_gI cq (by decide) rfl ?_
  refine q_nm ?_
  refine q_gI er (by decide) rfl ?_
  rw [ii_add, ii_mul]
  have hpre : ls = ls.take k ++ a :: c :: ls.drop (k + 2) := by
    have e1 := split_at hk
    have e2 : ls.drop (k + 1) = c :: ls.drop (k + 2) := by
      rw [List.getElem?_eq_getElem a1] at hk2
      injection hk2 with hk2
      rw [List.drop_eq_getElem_cons a1, hk2]
    rw [e2] at e1
    exact e1
  have hlt2 : (ls.take k).length = k := by rw [List.length_take]; omega
  by_cases hall : 2 * low < a.length + c.length
  · refine q_neg _ (ii_leF (by omega)) ?_
    refine q_nz (by decide) ?_
    have x5 : (ii ((a.length : Int) + c.length) + ii 1) / ii 2 = ii (((a.length + c.length + 1) / 2 : Nat) : Int) := by
      rw [ii_add, ii_div (by omega)]
      congr 1
    rw [x5]
    refine q_nm ?_
    have hme : mrg low ls k = (ls.set k ((a ++ c).take ((a.length + c.length + 1) / 2))).set (k + 1) ((a ++ c).drop ((a.length + c.length + 1) / 2)) := by
      rw [mrg_eq hk hk2, if_pos hall]
      conv => rhs; rw [hpre]
      rw [List.set_append_right _ _ (by omega), hlt2, Nat.sub_self, List.set_append_right _ _ (by omega), hlt2, Nat.add_sub_cancel_left]
      rfl
    refine Ends.ofEV (s_merge_l46 (f := (a.length + c.length + 1) / 2) hpq ((a.length + c.length + 1) / 2) FU h a c (by unfold FU; omega) (by omega) (by omega) (by omega) ep eq) fun h' ⟨q1, q2, q3⟩ => ?_
    refine ⟨rfl, row, R.only2 ep eq q1 q2 q3, ?_, ?_, q3.rF ep eq o1 o2 o3 o4 wf, q3.1, rfl⟩
    · rw [hme]
      exact L.upd2 R (by omega) (by omega) hk hk2 lp lq ep eq q1 q2 q3
    · rw [hme, List.length_set, List.length_set]
      have ne1 := leafE_ne ep.e er
      have ne2 := leafE_ne eq.e er
      rw [q3.2 ρ (Ne.symm ne1.1) (Ne.symm ne1.2) (Ne.symm ne2.1) (Ne.symm ne2.2)]
      exact er
  · refine q_pos _ (ii_leT (by omega)) ?_
    refine q_gI cq (by decide) rfl ?_
    refine q_hV (s_add (i := 0) hpq (Nat.le_refl _) (Nat.zero_le _) (by omega) ep eq) fun h18 ⟨g1, g2⟩ => ?_
    rw [List.drop_zero, List.take_length] at g1
    have er2 := g2.kd ep er rfl
    have wf2 := g2.wf ep wf
    have R2 := R.only ep g1 g2
    have L2 := L.upd R (by omega) hk lp ep g1 g2
    have rf2 := g2.rF ep o1 o2 wf
    have ew2 := R2.1
    have eq2 := eq.only ep g2 (Ne.symm hpq)
    refine q_gQr er2 (by decide) rfl ?_
    refine q_gQr er2 (by decide) rfl ?_
    refine q_gI er2 (by decide) rfl ?_
    refine q_nn ?_
    refine q_nn ?_
    have x2 : ((k : Int) + 2) = ((k + 2 : Nat) : Int) := by omega
    have x3 : ((ls.length : Int) - k - 2) = ((ls.length - k - 2 : Nat) : Int) := by omega
    rw [ii_sub, ii_sub, x2, x3]
    refine q_cpQ2 ew2 (by omega) (by omega) (R2.els (by omega)) ?_
    refine q_gI (up_nx hw.symm er2) (by decide) rfl ?_
    refine q_pI (up_nx hw.symm er2) (by decide) (Nat.le_of_ble_eq_true rfl) ?_
    refine q_gQr up_eq (by decide) rfl ?_
    refine q_gI up_eq (by decide) rfl ?_
    refine q_nn ?_
    have x6 : ii (ls.length : Int) - ii 1 = ii ((ls.length - 1 : Nat) : Int) := by rw [ii_sub]; congr 1; omega
    rw [x6]
    obtain ⟨tq2, cq2⟩ := eq2.ln
    have qw : q ≠ w := fun z => by rw [z, ew] at cq; cases cq
    have qr : q ≠ ρ := (leafE_ne eq.e er).1
    refine q_stQ (up_nx hw up_eq) (by decide) (by omega) (up_nx qr (up_nx qw cq2)) rfl ?_
    rw [Int.toNat_natCast]
    obtain ⟨row3, hrow3⟩ : ∃ r, r = va_up (va_cpy row row (k + 2) (k + 1) (ls.length - k - 2)) (ls.length - 1) (some q) := ⟨_, rfl⟩
    rw [← hrow3]
    have r3a : row3 (ls.length - 1) = some q := by rw [hrow3, va_up_self]
    have r3b : ∀ j, j ≤ k → row3 j = row j := fun j hj => by
      rw [hrow3, va_up_ne _ _ (by omega)]
      unfold va_cpy
      rw [if_neg (by omega)]
    have r3c : ∀ j, k + 1 ≤ j → j + 1 < ls.length → row3 j = row (j + 1) := fun j hj hj2 => by
      rw [hrow3, va_up_ne _ _ (by omega)]
      unfold va_cpy
      rw [if_pos (by omega)]
      congr 1; omega
    have r3d : ∀ j, ls.length ≤ j → row3 j = row j := fun j hj => by
      rw [hrow3, va_up_ne _ _ (by omega)]
      unfold va_cpy
      rw [if_neg (by omega)]
    have R3 : Row own ρ (hset h18 w (.inl (4, 152, .inr (.inr (.inr (.inr row3)))))) w row3 := by
      refine R2.perm (σ := sgM k ls.length) (fun j hj => ⟨?_, sgM_lt (by omega) (by omega) hj⟩) (fun i j _ _ e => sgM_inj (by omega) e)
      unfold sgM
      by_cases q1 : j + 1 = ls.length
      · rw [if_pos q1, lq]
        have : j = ls.length - 1 := by omega
        rw [this, r3a]
      · rw [if_neg q1]
        by_cases q2 : k + 1 ≤ j ∧ j + 1 < ls.length
        · rw [if_pos q2, r3c j q2.1 q2.2]
        · rw [if_neg q2]
          by_cases q3 : j ≤ k
          · exact r3b j q3
          · exact r3d j (by omega)
    have some1 : ∀ j, j < ls.length → ∃ q, row j = some q := fun j hj => by
      obtain ⟨q, q1, -⟩ := L j _ (List.getElem?_eq_getElem hj)
      exact ⟨q, q1⟩
    have nul3 : nul row3 = nul row := nul_congr fun j hj => by
      by_cases q1 : ls.length ≤ j
      · rw [r3d j q1]
      · obtain ⟨z, e⟩ := some1 j (by omega)
        rw [e]
        by_cases q2 : j ≤ k
        · rw [r3b j q2, e]
        · by_cases q3 : j + 1 = ls.length
          · have : j = ls.length - 1 := by omega
            rw [this, r3a]; rfl
          · rw [r3c j (by omega) (by omega)]
            obtain ⟨z2, e2⟩ := some1 (j + 1) (by omega)
            rw [e2]; rfl
    have hsw : ∀ c1 c2 c3, hset (hset (hset h18 w c1) ρ c2) w c3 = hset (hset h18 w c3) ρ c2 := by
      intro c1 c2 c3
      refine Prod.ext ?_ rfl
      funext x
      show va_up (va_up (va_up h18.1 w (some c1)) ρ (some c2)) w (some c3) x = va_up (va_up h18.1 w (some c3)) ρ (some c2) x
      unfold va_up
      by_cases z1 : x = w
      · have z2 : ¬ x = ρ := by rw [z1]; exact hw
        simp [z1, hw]
      · simp [z1]
    rw [hsw]
    have er3 : (hset h18 w (.inl (4, 152, .inr (.inr (.inr (.inr row3)))))).1 ρ = _ := up_nx hw.symm er2
    have nx : ∀ c, ∀ x d, x ≠ ρ → (hset h18 w (.inl (4, 152, .inr (.inr (.inr (.inr row3)))))).1 x = some d → (hset (hset h18 w (.inl (4, 152, .inr (.inr (.inr (.inr row3)))))) ρ c).1 x = some d := fun c x d n e => up_nx n e
    have lf : ∀ cc y m, LeafL h18 y m → LeafL (hset (hset h18 w (.inl (4, 152, .inr (.inr (.inr (.inr row3)))))) ρ cc) y m := fun cc y m e => by
      have e1 := leafL_w (c := .inl (4, 152, .inr (.inr (.inr (.inr row3))))) e ew2
      have ne := leafE_ne e1.e er3
      exact e1.frame fun x d hx hc => up_nx (by rcases hx with hx | hx <;> (rw [hx]; first | exact ne.1 | exact ne.2)) hc
    have hme : mrg low ls k = ls.take k ++ (a ++ c) :: ls.drop (k + 2) := by rw [mrg_eq hk hk2, if_neg hall]
    have hml : (mrg low ls k).length = ls.length - 1 := by
      rw [hme, List.length_append, hlt2, List.length_cons, List.length_drop]; omega
    refine q_rV ⟨rfl, row3, R3.bf er3 (nx _), ?_, ?_, rf2.trans ((RF.set wf2 ew2 R2.2.1 rfl).trans (RF.set (wf2.setE ew2) er3 r1 rfl)), g2.1, nul3⟩
    · rw [hme]
      intro j m e
      by_cases q1 : j < k
      · rw [List.getElem?_append_left (by omega), List.getElem?_take_of_lt q1] at e
        obtain ⟨y, e1, e2⟩ := L2 j m (by rw [List.getElem?_set_ne (by omega)]; exact e)
        exact ⟨y, by rw [r3b j (by omega)]; exact e1, lf _ y m e2⟩
      · rw [List.getElem?_append_right (by omega), hlt2] at e
        by_cases q2 : j = k
        · rw [q2, Nat.sub_self] at e
          injection e with e
          rw [← e, q2]
          exact ⟨p, by rw [r3b k (Nat.le_refl _)]; exact lp, lf _ p _ g1⟩
        · obtain ⟨y, hy⟩ : ∃ y, j - k = y + 1 := ⟨j - k - 1, by omega⟩
          rw [hy, List.getElem?_cons_succ, List.getElem?_drop] at e
          have e3 : ls[j + 1]? = some m := by rw [← e]; congr 1; omega
          have hy2 := at_lt e3
          obtain ⟨z, e1, e2⟩ := L2 (j + 1) m (by rw [List.getElem?_set_ne (by omega)]; exact e3)
          exact ⟨z, by rw [r3c j (by omega) (by omega)]; exact e1, lf _ z m e2⟩
    · rw [up_eq, hml]; rfl
end
