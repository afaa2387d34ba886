/-! PURE SIDE: ropes, writing -/
set_option maxRecDepth 100000
def setL : LL → Nat → Bool → LL
  | [], _, _ => []
  | l :: ls, i, v => if i < l.length then l.set i v :: ls else l :: setL ls (i - l.length) v
def flL : LL → Nat → Nat → LL
  | [], _, _ => []
  | l :: ls, f, t => flp f t l :: flL ls (f - l.length) (t - l.length)
theorem setL_cons (l : List Bool) (ls : LL) (i : Nat) (v : Bool) : setL (l :: ls) i v = if i < l.length then l.set i v :: ls else l :: setL ls (i - l.length) v := rfl
theorem flL_cons (l : List Bool) (ls : LL) (f t : Nat) : flL (l :: ls) f t = flp f t l :: flL ls (f - l.length) (t - l.length) := rfl
theorem setX_snd {v : Bool} : ∀ {xs : LX} {i : Nat}, (setX xs i v).map Prod.snd = setL (xs.map Prod.snd) i v := by
  intro xs
  induction xs with
  | nil => intro i; rfl
  | cons p xs ih =>
    intro i
    rw [setX_cons, List.map_cons, setL_cons]
    by_cases h : i < p.2.length
    · rw [if_pos h, if_pos h]; rfl
    · rw [if_neg h, if_neg h, List.map_cons, ih]
theorem flX_snd : ∀ {xs : LX} {f t : Nat}, (flX xs f t).map Prod.snd = flL (xs.map Prod.snd) f t := by
  intro xs
  induction xs with
  | nil => intro f t; rfl
  | cons p xs ih =>
    intro f t
    rw [flX_cons, List.map_cons, List.map_cons, flL_cons, ih]
theorem setL_len {v : Bool} : ∀ {ls : LL} {i : Nat}, (setL ls i v).map List.length = ls.map List.length := by
  intro ls
  induction ls with
  | nil => intro i; rfl
  | cons l ls ih =>
    intro i
    rw [setL_cons]
    by_cases h : i < l.length
    · rw [if_pos h, List.map_cons, List.map_cons, List.length_set]
    · rw [if_neg h, List.map_cons, List.map_cons, ih]
theorem flL_len : ∀ {ls : LL} {f t : Nat}, (flL ls f t).map List.length = ls.map List.length := by
  intro ls
  induction ls with
  | nil => intro f t; rfl
  | cons l ls ih =>
    intro f t
    rw [flL_cons, List.map_cons, List.map_cons, flp_len, ih]
theorem setL_fl {v : Bool} : ∀ {ls : LL} {i : Nat}, (setL ls i v).flatten = ls.flatten.set i v := by
  intro ls
  induction ls with
  | nil => intro i; rfl
  | cons l ls ih =>
    intro i
    rw [setL_cons]
    by_cases h : i < l.length
    · rw [if_pos h, List.flatten_cons, List.flatten_cons, List.set_append_left _ _ h]
    · rw [if_neg h, List.flatten_cons, List.flatten_cons, ih, List.set_append_right _ _ (by omega)]
theorem flL_fl : ∀ {ls : LL} {f t : Nat}, (flL ls f t).flatten = flp f t ls.flatten := by
  intro ls
  induction ls with
  | nil => intro f t; rfl
  | cons l ls ih =>
    intro f t
    rw [flL_cons, List.flatten_cons, List.flatten_cons, ih, flp_app]
theorem setL_app {v : Bool} {r : LL} : ∀ {ls : LL} {i : Nat}, ls.flatten.length ≤ i → setL (ls ++ r) i v = ls ++ setL r (i - ls.flatten.length) v := by
  intro ls
  induction ls with
  | nil => intro i _; simp
  | cons l ls ih =>
    intro i h
    rw [List.flatten_cons, List.length_append] at h
    rw [List.cons_append, setL_cons, if_neg (by omega), ih (by omega), List.flatten_cons, List.length_append, Nat.sub_sub]
    rfl
theorem split_at {α : Type} {ls : List α} {k : Nat} {l : α} (h : ls[k]? = some l) : ls = ls.take k ++ l :: ls.drop (k + 1) := by
  have hk := at_lt h
  rw [List.getElem?_eq_getElem hk] at h
  injection h with h
  rw [← h, List.getElem_cons_drop, List.take_append_drop]
theorem setL_loc {ls : LL} {i : Nat} {v : Bool} {l : List Bool} (h1 : ls[(loc ls i).1]? = some l) (h2 : (loc ls i).2 < l.length) (h4 : i = (ls.take (loc ls i).1).flatten.length + (loc ls i).2) : setL ls i v = ls.set (loc ls i).1 (l.set (loc ls i).2 v) := by
  have hk := at_lt h1
  have e := split_at h1
  have hl : (ls.take (loc ls i).1).length = (loc ls i).1 := by rw [List.length_take]; omega
  have r : ls.set (loc ls i).1 (l.set (loc ls i).2 v) = ls.take (loc ls i).1 ++ l.set (loc ls i).2 v :: ls.drop ((loc ls i).1 + 1) := by
    rw [List.set_eq_take_append_cons_drop, if_pos hk]
  rw [r]
  generalize loc ls i = kk at *
  conv => lhs; rw [e]
  rw [setL_app (by omega), setL_cons]
  have : i - (ls.take kk.1).flatten.length = kk.2 := by omega
  rw [this, if_pos h2]
theorem LsB.congr {low : Nat} {ls ls' : LL} (b : LsB low ls) (h : ls'.map List.length = ls.map List.length) : LsB low ls' := by
  have hl : ls'.length = ls.length := by
    have := congrArg List.length h
    rw [List.length_map, List.length_map] at this
    exact this
  refine ⟨b.1, ?_, fun l hl' => ?_⟩
  · rw [List.length_flatten, h, ← List.length_flatten]; exact b.2.1
  · have : l.length ∈ ls'.map List.length := List.mem_map.mpr ⟨l, hl', rfl⟩
    rw [h] at this
    obtain ⟨m, m1, m2⟩ := List.mem_map.mp this
    rw [← m2, hl]
    exact b.2.2 m m1
theorem len_eq {ls ls' : LL} (h : ls'.map List.length = ls.map List.length) : ls'.length = ls.length ∧ ls'.flatten.length = ls.flatten.length := by
  refine ⟨?_, by rw [List.length_flatten, h, ← List.length_flatten]⟩
  have := congrArg List.length h
  rw [List.length_map, List.length_map] at this
  exact this
section
variable {own : Nat → Nat} {ρ : Nat} {h h' : PH} {w low nu : Nat} {row : Nat → Option Nat} {ls : LL} {bt : Bool} {root : Option Nat}
theorem Row.only {p : Nat} {l l' : List Bool} (R : Row own ρ h w row) (e : LeafL h p l) (e' : LeafL h' p l') (o : Only h h' p) : Row own ρ h' w row := by
  obtain ⟨s1, s2, s3, s4⟩ := R
  refine ⟨o.kd e s1 rfl, s2, fun k a hk ea => ?_, s4⟩
  obtain ⟨a1, a2, a3⟩ := s3 k a hk ea
  refine ⟨a1, a2, ?_⟩
  by_cases hp : a = p
  · rw [hp]; exact e'.e
  · obtain ⟨n, oo, t, wd, c1, c2⟩ := a3
    obtain ⟨q1, g, ⟨s, v, g1, g2, g3⟩, q3⟩ := e
    have m2 : a ≠ p + 1 := fun q => by rw [q, g2] at c1; cases c1
    have m3 : a + 1 ≠ p := fun q => by rw [q, g1] at c2; cases c2
    exact ⟨n, oo, t, wd, (o.2 a hp m2).trans c1, (o.2 (a + 1) m3 (by omega)).trans c2⟩
theorem Loose.upd {k p : Nat} {l l' : List Bool} (L : Loose h row ls) (R : Row own ρ h w row) (hl : ls.length ≤ 152) (hk : ls[k]? = some l) (hp : row k = some p) (e : LeafL h p l) (e' : LeafL h' p l') (o : Only h h' p) : Loose h' row (ls.set k l') := by
  intro j m hm
  rw [List.getElem?_set] at hm
  have hk2 := at_lt hk
  by_cases hj : k = j
  · subst hj
    rw [if_pos rfl, if_pos hk2] at hm
    injection hm with hm
    exact ⟨p, hp, by rw [← hm]; exact e'⟩
  · rw [if_neg hj] at hm
    have hj2 := at_lt hm
    obtain ⟨a, a1, a2⟩ := L j m hm
    refine ⟨a, a1, a2.only e o fun q => hj ?_⟩
    rw [q] at a1
    exact R.2.2.2 k j p (by omega) (by omega) hp a1
theorem Only.rF {p : Nat} {l : List Bool} (o : Only h h' p) (e : LeafL h p l) (o1 : own p = ρ) (o2 : own (p + 1) = ρ) (wf : Wf h) : RF own ρ h h' := (o.tf (lo := 0) (hi := 0) e o1 o2).rF wf
theorem p_write {i : Nat} {v : Bool} (R : RP own ρ h low ls nu bt) (wf : Wf h) (hi : i < ls.flatten.length) : EV (c_R_write h ρ (ii i) (ii (bn v))) (fun h' => RP own ρ h' low (setL ls i v) nu bt ∧ RF own ρ h h' ∧ h'.2 = h.2) := by
  have hbd := R.bnd
  obtain ⟨w0, root0, mx0, at0, e0⟩ := R.cell
  have hle := len_eq (setL_len (v := v) (ls := ls) (i := i))
  have hcn := set_cnt (b := v) hi
  rw [← gb_at hi] at hcn
  refine EV.of ?_
  unfold c_R_write
  refine q_grd e0 (by decide) ?_
  refine q_gI e0 (by decide) rfl ?_
  refine q_hI (p_get R wf hi) fun v1 h2 ⟨g1, R2, o2, z2⟩ => ?_
  subst g1
  obtain ⟨r1, r2, w, row, root, mx, at_, r3, r4, r5, r6, r7⟩ := R2
  have wf2 := o2.wf
  refine q_pI r5 (by decide) (Nat.le_of_ble_eq_true rfl) ?_
  rw [ii_sub, ii_add]
  have ec : ((cnt ls.flatten : Int) + (bn v - bn (gb ls.flatten i))) = (cnt (setL ls i v).flatten : Int) := by rw [setL_fl]; omega
  rw [ec]
  refine q_gI up_eq (by decide) rfl ?_
  have nx : ∀ c, ∀ x d, x ≠ ρ → h2.1 x = some d → (hset h2 ρ c).1 x = some d := fun c x d n e => up_nx n e
  cases bt with
  | false =>
    obtain ⟨r8, L⟩ := r7 rfl
    subst r8
    refine q_pos _ (by first | trivial | rfl | decide) ?_
    have hw : w ≠ ρ := fun q => by have := r3.1; rw [q, r5] at this; cases this
    refine q_hI (s_leafOf (ls := ls) up_eq (up_nx hw r3.1) (L.bf r5 (nx _)) (by omega) (by omega)) fun v h3 ⟨g1, g2⟩ => ?_
    subst g1
    subst g2
    rw [hset_hset]
    obtain ⟨l, k1, k2, k3, k4⟩ := loc_ok hi fun l hl => (r2.leaf hl).1
    have hk := at_lt k1
    have L3 := L.bf (h' := hset h2 ρ (ropeC w none false low mx ls.length ls.flatten.length (cnt (setL ls i v).flatten) (loc ls i).2)) r5 (nx _)
    have R3 := r3.bf (h' := hset h2 ρ (ropeC w none false low mx ls.length ls.flatten.length (cnt (setL ls i v).flatten) (loc ls i).2)) r5 (nx _)
    obtain ⟨p, lp, el⟩ := L3 _ l k1
    have ew := R3.1
    have hl := el.1
    obtain ⟨o1, o2', -⟩ := R3.2.2.1 _ p (by omega) lp
    repeat (first | (with_reducible apply q_nn) | (with_reducible apply q_nm) | ((with_reducible apply q_nz); decide) | ((with_reducible apply q_grd); (first | assumption | exact up_eq | exact new_eq | ((with_reducible refine up_kd ?_ ?_ ?_); (first | assumption | exact up_eq | exact new_eq); (first | assumption | exact up_eq | exact new_eq); exact rfl) | ((with_reducible refine up_nx ?_ ?_); (first | assumption | (apply Ne.symm; assumption) | omega); (first | assumption | exact up_eq | exact new_eq)) | ((with_reducible refine new_old ?_ ?_); (first | assumption | exact TF.wf (by assumption) (by assumption) | exact Wf.setE (by assumption) (by assumption)); (first | assumption | exact up_eq | exact new_eq)) | ((with_reducible refine TF.kd ?_ ?_ ?_); assumption; (first | assumption | exact up_eq | exact new_eq); exact rfl) | ((with_reducible refine RF.kd ?_ ?_ ?_); assumption; (first | assumption | exact up_eq | exact new_eq); exact rfl) | ((with_reducible refine Only.kd ?_ ?_ ?_ ?_); assumption; assumption; (first | assumption | exact up_eq | exact new_eq); exact rfl)); (first | decide | assumption)) | ((first | with_reducible apply q_gI | with_reducible apply q_gL | with_reducible apply q_gQv); (first | assumption | exact up_eq | exact new_eq | ((with_reducible refine up_kd ?_ ?_ ?_); (first | assumption | exact up_eq | exact new_eq); (first | assumption | exact up_eq | exact new_eq); exact rfl) | ((with_reducible refine up_nx ?_ ?_); (first | assumption | (apply Ne.symm; assumption) | omega); (first | assumption | exact up_eq | exact new_eq)) | ((with_reducible refine new_old ?_ ?_); (first | assumption | exact TF.wf (by assumption) (by assumption) | exact Wf.setE (by assumption) (by assumption)); (first | assumption | exact up_eq | exact new_eq)) | ((with_reducible refine TF.kd ?_ ?_ ?_); assumption; (first | assumption | exact up_eq | exact new_eq); exact rfl) | ((with_reducible refine RF.kd ?_ ?_ ?_); assumption; (first | assumption | exact up_eq | exact new_eq); exact rfl) | ((with_reducible refine Only.kd ?_ ?_ ?_ ?_); assumption; assumption; (first | assumption | exact up_eq | exact new_eq); exact rfl)); (first | decide | assumption); first | exact rfl | assumption) | ((first | with_reducible apply q_pI | with_reducible apply q_pL | with_reducible apply q_pQ); (first | assumption | exact up_eq | exact new_eq | ((with_reducible refine up_kd ?_ ?_ ?_); (first | assumption | exact up_eq | exact new_eq); (first | assumption | exact up_eq | exact new_eq); exact rfl) | ((with_reducible refine up_nx ?_ ?_); (first | assumption | (apply Ne.symm; assumption) | omega); (first | assumption | exact up_eq | exact new_eq)) | ((with_reducible refine new_old ?_ ?_); (first | assumption | exact TF.wf (by assumption) (by assumption) | exact Wf.setE (by assumption) (by assumption)); (first | assumption | exact up_eq | exact new_eq)) | ((with_reducible refine TF.kd ?_ ?_ ?_); assumption; (first | assumption | exact up_eq | exact new_eq); exact rfl) | ((with_reducible refine RF.kd ?_ ?_ ?_); assumption; (first | assumption | exact up_eq | exact new_eq); exact rfl) | ((with_reducible refine Only.kd ?_ ?_ ?_ ?_); assumption; assumption; (first | assumption | exact up_eq | exact new_eq); exact rfl)); (first | decide | assumption); exact Nat.le_of_ble_eq_true rfl) | ((with_reducible apply q_pZ); (first | assumption | exact up_eq | exact new_eq | ((with_reducible refine up_kd ?_ ?_ ?_); (first | assumption | exact up_eq | exact new_eq); (first | assumption | exact up_eq | exact new_eq); exact rfl) | ((with_reducible refine up_nx ?_ ?_); (first | assumption | (apply Ne.symm; assumption) | omega); (first | assumption | exact up_eq | exact new_eq)) | ((with_reducible refine new_old ?_ ?_); (first | assumption | exact TF.wf (by assumption) (by assumption) | exact Wf.setE (by assumption) (by assumption)); (first | assumption | exact up_eq | exact new_eq)) | ((with_reducible refine TF.kd ?_ ?_ ?_); assumption; (first | assumption | exact up_eq | exact new_eq); exact rfl) | ((with_reducible refine RF.kd ?_ ?_ ?_); assumption; (first | assumption | exact up_eq | exact new_eq); exact rfl) | ((with_reducible refine Only.kd ?_ ?_ ?_ ?_); assumption; assumption; (first | assumption | exact up_eq | exact new_eq); exact rfl)); (first | decide | assumption); exact Nat.le_of_ble_eq_true rfl; first | exact Or.inl rfl | exact Or.inr rfl | exact Or.inl (by decide) | exact Or.inr (by decide)) | ((first | with_reducible apply q_ldI | with_reducible apply q_ldL | with_reducible apply q_stI | with_reducible apply q_stB | with_reducible apply q_stL); (first | assumption | exact up_eq | exact new_eq | ((with_reducible refine up_kd ?_ ?_ ?_); (first | assumption | exact up_eq | exact new_eq); (first | assumption | exact up_eq | exact new_eq); exact rfl) | ((with_reducible refine up_nx ?_ ?_); (first | assumption | (apply Ne.symm; assumption) | omega); (first | assumption | exact up_eq | exact new_eq)) | ((with_reducible refine new_old ?_ ?_); (first | assumption | exact TF.wf (by assumption) (by assumption) | exact Wf.setE (by assumption) (by assumption)); (first | assumption | exact up_eq | exact new_eq)) | ((with_reducible refine TF.kd ?_ ?_ ?_); assumption; (first | assumption | exact up_eq | exact new_eq); exact rfl) | ((with_reducible refine RF.kd ?_ ?_ ?_); assumption; (first | assumption | exact up_eq | exact new_eq); exact rfl) | ((with_reducible refine Only.kd ?_ ?_ ?_ ?_); assumption; assumption; (first | assumption | exact up_eq | exact new_eq); exact rfl)); omega) | ((first | with_reducible apply q_ldQ0 | with_reducible apply q_ldQ1 | with_reducible apply q_ldQn); (first | assumption | exact up_eq | exact new_eq | ((with_reducible refine up_kd ?_ ?_ ?_); (first | assumption | exact up_eq | exact new_eq); (first | assumption | exact up_eq | exact new_eq); exact rfl) | ((with_reducible refine up_nx ?_ ?_); (first | assumption | (apply Ne.symm; assumption) | omega); (first | assumption | exact up_eq | exact new_eq)) | ((with_reducible refine new_old ?_ ?_); (first | assumption | exact TF.wf (by assumption) (by assumption) | exact Wf.setE (by assumption) (by assumption)); (first | assumption | exact up_eq | exact new_eq)) | ((with_reducible refine TF.kd ?_ ?_ ?_); assumption; (first | assumption | exact up_eq | exact new_eq); exact rfl) | ((with_reducible refine RF.kd ?_ ?_ ?_); assumption; (first | assumption | exact up_eq | exact new_eq); exact rfl) | ((with_reducible refine Only.kd ?_ ?_ ?_ ?_); assumption; assumption; (first | assumption | exact up_eq | exact new_eq); exact rfl)); (first | decide | omega); omega; assumption) | ((with_reducible apply q_ldQ); (first | assumption | exact up_eq | exact new_eq | ((with_reducible refine up_kd ?_ ?_ ?_); (first | assumption | exact up_eq | exact new_eq); (first | assumption | exact up_eq | exact new_eq); exact rfl) | ((with_reducible refine up_nx ?_ ?_); (first | assumption | (apply Ne.symm; assumption) | omega); (first | assumption | exact up_eq | exact new_eq)) | ((with_reducible refine new_old ?_ ?_); (first | assumption | exact TF.wf (by assumption) (by assumption) | exact Wf.setE (by assumption) (by assumption)); (first | assumption | exact up_eq | exact new_eq)) | ((with_reducible refine TF.kd ?_ ?_ ?_); assumption; (first | assumption | exact up_eq | exact new_eq); exact rfl) | ((with_reducible refine RF.kd ?_ ?_ ?_); assumption; (first | assumption | exact up_eq | exact new_eq); exact rfl) | ((with_reducible refine Only.kd ?_ ?_ ?_ ?_); assumption; assumption; (first | assumption | exact up_eq | exact new_eq); exact rfl)); (first | decide | omega); omega) | ((with_reducible apply q_alen); (first | assumption | exact up_eq | exact new_eq | ((with_reducible refine up_kd ?_ ?_ ?_); (first | assumption | exact up_eq | exact new_eq); (first | assumption | exact up_eq | exact new_eq); exact rfl) | ((with_reducible refine up_nx ?_ ?_); (first | assumption | (apply Ne.symm; assumption) | omega); (first | assumption | exact up_eq | exact new_eq)) | ((with_reducible refine new_old ?_ ?_); (first | assumption | exact TF.wf (by assumption) (by assumption) | exact Wf.setE (by assumption) (by assumption)); (first | assumption | exact up_eq | exact new_eq)) | ((with_reducible refine TF.kd ?_ ?_ ?_); assumption; (first | assumption | exact up_eq | exact new_eq); exact rfl) | ((with_reducible refine RF.kd ?_ ?_ ?_); assumption; (first | assumption | exact up_eq | exact new_eq); exact rfl) | ((with_reducible refine Only.kd ?_ ?_ ?_ ?_); assumption; assumption; (first | assumption | exact up_eq | exact new_eq); exact rfl)); exact Nat.le_of_ble_eq_true rfl) | (with_reducible apply q_newO) | ((with_reducible apply q_newA); (first | decide | omega)) | ((with_reducible refine q_pos _ ?_ ?_); first | ((with_reducible refine ii_leT ?_); omega) | ((with_reducible refine ii_ltT ?_); omega) | ((with_reducible refine ii_eqT ?_); omega) | with_reducible exact rfl | with_reducible exact True.intro) | ((with_reducible refine q_neg _ ?_ ?_); first | ((with_reducible refine ii_leF ?_); omega) | ((with_reducible refine ii_ltF ?_); omega) | ((with_reducible refine ii_eqF ?_); omega) | with_reducible exact Option.some_ne_none _ | with_reducible exact not_false) | simp only [il_0, il_1, il_2, il_3, il_4, il_5, il_6, il_7, il_8, il_9, il_10, il_11, il_12, il_13, il_14, il_15, il_16, il_17, il_18, il_19, il_20, il_21, il_22, il_23, il_24, il_26, il_27, il_28, il_30, il_31, il_32, il_35, il_37, il_38, il_39, il_40, il_41, il_45, il_47, il_48, il_50, il_57, il_59, il_60, il_61, il_62, il_63, il_64, il_66, il_67, il_68, il_69, il_70, il_96, il_97, il_99, il_104, il_105, il_111, il_122, il_127, il_150, il_151, il_152, il_160, il_199, il_200, il_206, il_207, il_240, il_255, il_400, il_599, il_600, il_900, il_939, il_940, il_999, il_1000, il_1023, il_2606, il_2607, il_2611, il_2615, il_2616, il_2816, il_3212, il_3213, il_3420, il_5820, il_5821, il_5822, il_6061, il_6062, il_12124, il_12345, il_22491, il_25704, il_1103515245, ii_add, ii_sub, ii_mul, ii_neg])
    have wf3 : Wf (hset h2 ρ (ropeC w none false low mx ls.length ls.flatten.length (cnt (setL ls i v).flatten) (loc ls i).2)) := wf2.setE r5
    refine q_hV (s_write el k2) fun h4 ⟨g1, g2⟩ => ?_
    have er4 := g2.kd el up_eq rfl
    have RF4 := g2.rF el o1 o2' wf3
    refine q_rV ⟨rfl, ⟨r1, r2.congr setL_len, w, row, none, mx, (loc ls i).2, R3.only el g1 g2, r4, ?_, (fun q => by cases q), fun _ => ⟨rfl, ?_⟩⟩, o2.trans ((RF.set wf2 r5 r1 rfl).trans RF4), ?_⟩
    · rw [er4, hle.1, hle.2]
    · rw [setL_loc k1 k2 k4]
      exact L3.upd R3 (by omega) k1 lp el g1 g2
    · rw [g2.1]; exact z2
  | true =>
    refine q_neg _ (by first | decide | (intro z; exact absurd z (by decide))) ?_
    obtain ⟨rm, B⟩ := r6 rfl
    rcases B with ⟨B1, B2⟩ | ⟨a, xs, b, hh, e1, e2, e3, e4, T⟩
    · subst B1
      exact absurd hi (Nat.not_lt_zero _)
    · subst e1
      have hxl : xs.length = ls.length := by rw [← e2, List.length_map]
      have nd := xs_nodup r3 (by omega) e3
      have hf := fl_ls e2
      refine q_gQr up_eq (by decide) rfl ?_
      refine q_nn ?_
      have T2 : ∀ c, Tree own ρ b (hset h2 ρ c) 12 a xs b hh := fun c => T.bf r5 e4.1 (nx c)
      refine q_hVg up_eq (by decide) (t_write 12 12 a b hh xs _ i _ (Nat.le_refl _) (T2 _) nd (by rw [hf]; exact hi) (by rw [hf]; omega) up_eq) fun h4 ⟨g1, g2⟩ => ?_
      have wf3 := g2.wf (wf2.setE r5)
      refine q_rV ⟨rfl, ?_, o2.trans ((RF.set wf2 r5 r1 rfl).trans (g2.rF (wf2.setE r5))), ?_⟩
      · rw [r4]
        refine RP.tree (mx := mx) (at_ := at_) r1 (r2.congr setL_len) (r3.bf r5 (nx _)) (T2 _) g1 setX_ad (by rw [setX_snd, e2]) e3 e4 g2 ?_ (by rw [rm, hle.1])
        have := g2.kd up_eq rfl
        rw [this, hle.1, hle.2]
        rfl
      · rw [g2.1]; exact z2
theorem flip_leaf {b p F f t : Nat} {l : List Bool} {fs : List Value} (e : LeafL h p l) (er : h.1 ρ = some (.inr (4, fs))) (o1 : own p = ρ) (o2 : own (p + 1) = ρ) (hb : p + 1 < b) (hf : f ≤ l.length) (ht : t ≤ l.length) : EV (c_R_flip_2 (F + 1) h ρ p (ii f) (ii t)) (fun h' => LeafL h' p (flp f t l) ∧ Only h h' p) := by
  have hl := e.1
  obtain ⟨tt, ea⟩ := e.ln
  refine EV.of ?_
  show Ends (b_R_flip_2 (c_R_flip_2 F) h ρ p (ii f) (ii t)) _
  unfold b_R_flip_2
  refine q_grd er (by decide) ?_
  by_cases hft : f < t
  case neg =>
    refine q_neg _ (ii_ltF (by omega)) ?_
    refine q_rV ⟨rfl, ?_, Only.rf⟩
    rw [flp_none (by omega)]
    exact e
  refine q_pos _ (ii_ltT (by omega)) ?_
  have key : Ends (c_R_flip_2_j23 (c_R_flip_2 F) h ρ p (ii f) (ii t)) (fun r h' => r = .inl none ∧ LeafL h' p (flp f t l) ∧ Only h h' p) := by
    unfold c_R_flip_2_j23
    refine q_iofT ea ?_
    refine q_grd ea (by decide) ?_
    refine q_hV (s_flipL e (by omega) ht) fun h1 ⟨g1, g2⟩ => ?_
    exact q_rV ⟨rfl, g1, g2⟩
  by_cases h0 : f = 0
  · refine q_pos _ (by rw [h0]; rfl) ?_
    refine q_gI ea (by decide) rfl ?_
    by_cases h1 : t = l.length
    · refine q_pos _ (by rw [h1]) ?_
      have ed : dsp2 h p 9 10 (c_L_turnAll h p) (c_I_turnAll h p) = c_L_turnAll h p := by unfold dsp2; rw [ea]; rfl
      rw [ed]
      refine q_hV (s_turnL e) fun h1 ⟨g1, g2⟩ => ?_
      refine q_rV ⟨rfl, ?_, g2⟩
      rw [h0, flp_all (by omega)]
      exact g1
    · refine q_neg _ (ii_eqF (by omega)) ?_
      exact key
  · refine q_neg _ (ii_eq0F (by omega)) ?_
    exact key
theorem flL_at : ∀ {ls : LL} {f t k : Nat} {l : List Bool}, ls[k]? = some l → (flL ls f t)[k]? = some (flp (f - (ls.take k).flatten.length) (t - (ls.take k).flatten.length) l) := by
  intro ls
  induction ls with
  | nil => intro f t k l h; cases h
  | cons x ls ih =>
    intro f t k l h
    rw [flL_cons]
    cases k with
    | zero =>
      injection h with h
      rw [h]; rfl
    | succ k =>
      rw [List.getElem?_cons_succ] at h ⊢
      rw [ih h, List.take_succ_cons, List.flatten_cons, List.length_append, Nat.sub_sub, Nat.sub_sub]
theorem p_flip_l52 {f t : Nat} {mx lt at_ : Int} (hft : f ≤ t) (ht : t ≤ 600) (r1 : own ρ = ρ) (hl5 : ls.length ≤ 150) (hsz : ∀ l, l ∈ ls → l.length ≤ 64) (htot : ls.flatten.length ≤ 600) : ∀ (m fu k : Nat) (h : PH), m < fu → k + m = ls.length → Wf h → h.1 ρ = some (ropeC w none false low mx ls.length ls.flatten.length lt at_) → Row own ρ h w row → Loose h row ((flL ls f t).take k ++ ls.drop k) → EV (itr (c_R_flip_l52) (fun _ _ _ _ _ _ => none) fu h ρ (ii f) (ii t) (ii (ls.take k).flatten.length) (ii k)) (fun h' => Row own ρ h' w row ∧ Loose h' row (flL ls f t) ∧ h'.1 ρ = some (ropeC w none false low mx ls.length ls.flatten.length lt at_) ∧ RF own ρ h h' ∧ h'.2 = h.2) := by
  have hlf := len_eq (flL_len (ls := ls) (f := f) (t := t))
  intro m
  induction m with
  | zero =>
    intro fu k h hf hk wf er R L
    obtain ⟨fu, rfl⟩ : ∃ x, fu = x + 1 := ⟨fu - 1, by omega⟩
    refine EV.of ?_
    rw [itr_succ]
    unfold c_R_flip_l52
    repeat (first | (with_reducible apply q_nn) | (with_reducible apply q_nm) | ((with_reducible apply q_nz); decide) | ((with_reducible apply q_grd); (first | assumption | exact up_eq | exact new_eq | ((with_reducible refine up_kd ?_ ?_ ?_); (first | assumption | exact up_eq | exact new_eq); (first | assumption | exact up_eq | exact new_eq); exact rfl) | ((with_reducible refine up_nx ?_ ?_); (first | assumption | (apply Ne.symm; assumption) | omega); (first | assumption | exact up_eq | exact new_eq)) | ((with_reducible refine new_old ?_ ?_); (first | assumption | exact TF.wf (by assumption) (by assumption) | exact Wf.setE (by assumption) (by assumption)); (first | assumption | exact up_eq | exact new_eq)) | ((with_reducible refine TF.kd ?_ ?_ ?_); assumption; (first | assumption | exact up_eq | exact new_eq); exact rfl) | ((with_reducible refine RF.kd ?_ ?_ ?_); assumption; (first | assumption | exact up_eq | exact new_eq); exact rfl) | ((with_reducible refine Only.kd ?_ ?_ ?_ ?_); assumption; assumption; (first | assumption | exact up_eq | exact new_eq); exact rfl)); (first | decide | assumption)) | ((first | with_reducible apply q_gI | with_reducible apply q_gL | with_reducible apply q_gQv); (first | assumption | exact up_eq | exact new_eq | ((with_reducible refine up_kd ?_ ?_ ?_); (first | assumption | exact up_eq | exact new_eq); (first | assumption | exact up_eq | exact new_eq); exact rfl) | ((with_reducible refine up_nx ?_ ?_); (first | assumption | (apply Ne.symm; assumption) | omega); (first | assumption | exact up_eq | exact new_eq)) | ((with_reducible refine new_old ?_ ?_); (first | assumption | exact TF.wf (by assumption) (by assumption) | exact Wf.setE (by assumption) (by assumption)); (first | assumption | exact up_eq | exact new_eq)) | ((with_reducible refine TF.kd ?_ ?_ ?_); assumption; (first | assumption | exact up_eq | exact new_eq); exact rfl) | ((with_reducible refine RF.kd ?_ ?_ ?_); assumption; (first | assumption | exact up_eq | exact new_eq); exact rfl) | ((with_reducible refine Only.kd ?_ ?_ ?_ ?_); assumption; assumption; (first | assumption | exact up_eq | exact new_eq); exact rfl)); (first | decide | assumption); first | exact rfl | assumption) | ((first | with_reducible apply q_pI | with_reducible apply q_pL | with_reducible apply q_pQ); (first | assumption | exact up_eq | exact new_eq | ((with_reducible refine up_kd ?_ ?_ ?_); (first | assumption | exact up_eq | exact new_eq); (first | assumption | exact up_eq | exact new_eq); exact rfl) | ((with_reducible refine up_nx ?_ ?_); (first | assumption | (apply Ne.symm; assumption) | omega); (first | assumption | exact up_eq | exact new_eq)) | ((with_reducible refine new_old ?_ ?_); (first | assumption | exact TF.wf (by assumption) (by assumption) | exact Wf.setE (by assumption) (by assumption)); (first | assumption | exact up_eq | exact new_eq)) | ((with_reducible refine TF.kd ?_ ?_ ?_); assumption; (first | assumption | exact up_eq | exact new_eq); exact rfl) | ((with_reducible refine RF.kd ?_ ?_ ?_); assumption; (first | assumption | exact up_eq | exact new_eq); exact rfl) | ((with_reducible refine Only.kd ?_ ?_ ?_ ?_); assumption; assumption; (first | assumption | exact up_eq | exact new_eq); exact rfl)); (first | decide | assumption); exact Nat.le_of_ble_eq_true rfl) | ((with_reducible apply q_pZ); (first | assumption | exact up_eq | exact new_eq | ((with_reducible refine up_kd ?_ ?_ ?_); (first | assumption | exact up_eq | exact new_eq); (first | assumption | exact up_eq | exact new_eq); exact rfl) | ((with_reducible refine up_nx ?_ ?_); (first | assumption | (apply Ne.symm; assumption) | omega); (first | assumption | exact up_eq | exact new_eq)) | ((with_reducible refine new_old ?_ ?_); (first | assumption | exact TF.wf (by assumption) (by assumption) | exact Wf.setE (by assumption) (by assumption)); (first | assumption | exact up_eq | exact new_eq)) | ((with_reducible refine TF.kd ?_ ?_ ?_); assumption; (first | assumption | exact up_eq | exact new_eq); exact rfl) | ((with_reducible refine RF.kd ?_ ?_ ?_); assumption; (first | assumption | exact up_eq | exact new_eq); exact rfl) | ((with_reducible refine Only.kd ?_ ?_ ?_ ?_); assumption; assumption; (first | assumption | exact up_eq | exact new_eq); exact rfl)); (first | decide | assumption); exact Nat.le_of_ble_eq_true rfl; first | exact Or.inl rfl | exact Or.inr rfl | exact Or.inl (by decide) | exact Or.inr (by decide)) | ((first | with_reducible apply q_ldI | with_reducible apply q_ldL | with_reducible apply q_stI | with_reducible apply q_stB | with_reducible apply q_stL); (first | assumption | exact up_eq | exact new_eq | ((with_reducible refine up_kd ?_ ?_ ?_); (first | assumption | exact up_eq | exact new_eq); (first | assumption | exact up_eq | exact new_eq); exact rfl) | ((with_reducible refine up_nx ?_ ?_); (first | assumption | (apply Ne.symm; assumption) | omega); (first | assumption | exact up_eq | exact new_eq)) | ((with_reducible refine new_old ?_ ?_); (first | assumption | exact TF.wf (by assumption) (by assumption) | exact Wf.setE (by assumption) (by assumption)); (first | assumption | exact up_eq | exact new_eq)) | ((with_reducible refine TF.kd ?_ ?_ ?_); assumption; (first | assumption | exact up_eq | exact new_eq); exact rfl) | ((with_reducible refine RF.kd ?_ ?_ ?_); assumption; (first | assumption | exact up_eq | exact new_eq); exact rfl) | ((with_reducible refine Only.kd ?_ ?_ ?_ ?_); assumption; assumption; (first | assumption | exact up_eq | exact new_eq); exact rfl)); omega) | ((first | with_reducible apply q_ldQ0 | with_reducible apply q_ldQ1 | with_reducible apply q_ldQn); (first | assumption | exact up_eq | exact new_eq | ((with_reducible refine up_kd ?_ ?_ ?_); (first | assumption | exact up_eq | exact new_eq); (first | assumption | exact up_eq | exact new_eq); exact rfl) | ((with_reducible refine up_nx ?_ ?_); (first | assumption | (apply Ne.symm; assumption) | omega); (first | assumption | exact up_eq | exact new_eq)) | ((with_reducible refine new_old ?_ ?_); (first | assumption | exact TF.wf (by assumption) (by assumption) | exact Wf.setE (by assumption) (by assumption)); (first | assumption | exact up_eq | exact new_eq)) | ((with_reducible refine TF.kd ?_ ?_ ?_); assumption; (first | assumption | exact up_eq | exact new_eq); exact rfl) | ((with_reducible refine RF.kd ?_ ?_ ?_); assumption; (first | assumption | exact up_eq | exact new_eq); exact rfl) | ((with_reducible refine Only.kd ?_ ?_ ?_ ?_); assumption; assumption; (first | assumption | exact up_eq | exact new_eq); exact rfl)); (first | decide | omega); omega; assumption) | ((with_reducible apply q_ldQ); (first | assumption | exact up_eq | exact new_eq | ((with_reducible refine up_kd ?_ ?_ ?_); (first | assumption | exact up_eq | exact new_eq); (first | assumption | exact up_eq | exact new_eq); exact rfl) | ((with_reducible refine up_nx ?_ ?_); (first | assumption | (apply Ne.symm; assumption) | omega); (first | assumption | exact up_eq | exact new_eq)) | ((with_reducible refine new_old ?_ ?_); (first | assumption | exact TF.wf (by assumption) (by assumption) | exact Wf.setE (by assumption) (by assumption)); (first | assumption | exact up_eq | exact new_eq)) | ((with_reducible refine TF.kd ?_ ?_ ?_); assumption; (first | assumption | exact up_eq | exact new_eq); exact rfl) | ((with_reducible refine RF.kd ?_ ?_ ?_); assumption; (first | assumption | exact up_eq | exact new_eq); exact rfl) | ((with_reducible refine Only.kd ?_ ?_ ?_ ?_); assumption; assumption; (first | assumption | exact up_eq | exact new_eq); exact rfl)); (first | decide | omega); omega) | ((with_reducible apply q_alen); (first | assumption | exact up_eq | exact new_eq | ((with_reducible refine up_kd ?_ ?_ ?_); (first | assumption | exact up_eq | exact new_eq); (first | assumption | exact up_eq | exact new_eq); exact rfl) | ((with_reducible refine up_nx ?_ ?_); (first | assumption | (apply Ne.symm; assumption) | omega); (first | assumption | exact up_eq | exact new_eq)) | ((with_reducible refine new_old ?_ ?_); (first | assumption | exact TF.wf (by assumption) (by assumption) | exact Wf.setE (by assumption) (by assumption)); (first | assumption | exact up_eq | exact new_eq)) | ((with_reducible refine TF.kd ?_ ?_ ?_); assumption; (first | assumption | exact up_eq | exact new_eq); exact rfl) | ((with_reducible refine RF.kd ?_ ?_ ?_); assumption; (first | assumption | exact up_eq | exact new_eq); exact rfl) | ((with_reducible refine Only.kd ?_ ?_ ?_ ?_); assumption; assumption; (first | assumption | exact up_eq | exact new_eq); exact rfl)); exact Nat.le_of_ble_eq_true rfl) | (with_reducible apply q_newO) | ((with_reducible apply q_newA); (first | decide | omega)) | ((with_reducible refine q_pos _ ?_ ?_); first | ((with_reducible refine ii_leT ?_); omega) | ((with_reducible refine ii_ltT ?_); omega) | ((with_reducible refine ii_eqT ?_); omega) | with_reducible exact rfl | with_reducible exact True.intro) | ((with_reducible refine q_neg _ ?_ ?_); first | ((with_reducible refine ii_leF ?_); omega) | ((with_reducible refine ii_ltF ?_); omega) | ((with_reducible refine ii_eqF ?_); omega) | with_reducible exact Option.some_ne_none _ | with_reducible exact not_false) | simp only [il_0, il_1, il_2, il_3, il_4, il_5, il_6, il_7, il_8, il_9, il_10, il_11, il_12, il_13, il_14, il_15, il_16, il_17, il_18, il_19, il_20, il_21, il_22, il_23, il_24, il_26, il_27, il_28, il_30, il_31, il_32, il_35, il_37, il_38, il_39, il_40, il_41, il_45, il_47, il_48, il_50, il_57, il_59, il_60, il_61, il_62, il_63, il_64, il_66, il_67, il_68, il_69, il_70, il_96, il_97, il_99, il_104, il_105, il_111, il_122, il_127, il_150, il_151, il_152, il_160, il_199, il_200, il_206, il_207, il_240, il_255, il_400, il_599, il_600, il_900, il_939, il_940, il_999, il_1000, il_1023, il_2606, il_2607, il_2611, il_2615, il_2616, il_2816, il_3212, il_3213, il_3420, il_5820, il_5821, il_5822, il_6061, il_6062, il_12124, il_12345, il_22491, il_25704, il_1103515245, ii_add, ii_sub, ii_mul, ii_neg])
    refine q_rV ⟨rfl, R, ?_, er, RF.rf wf, rfl⟩
    rw [List.take_of_length_le (by omega), List.drop_of_length_le (by omega), List.append_nil] at L
    exact L
  | succ m ih =>
    intro fu k h hf hk wf er R L
    obtain ⟨fu, rfl⟩ : ∃ x, fu = x + 1 := ⟨fu - 1, by omega⟩
    have hkl : k < ls.length := by omega
    have hkl2 : ((flL ls f t).take k).length = k := by rw [List.length_take]; omega
    have lk : ls[k]? = some ls[k] := List.getElem?_eq_getElem hkl
    have ek : ((flL ls f t).take k ++ ls.drop k)[k]? = some ls[k] := by
      rw [List.getElem?_append_right (by omega), hkl2, Nat.sub_self, List.getElem?_drop, Nat.add_zero, lk]
    obtain ⟨p, lp, el⟩ := L k _ ek
    obtain ⟨o1, o2, -⟩ := R.2.2.1 k p (by omega) lp
    obtain ⟨tt, ea⟩ := el.ln
    have ew := R.1
    have hs := hsz _ (List.getElem_mem hkl)
    have hpre : (ls.take k).flatten.length + ls[k].length ≤ 600 := by
      have e1 := congrArg (fun z : LL => z.flatten.length) (split_at lk)
      simp only [List.flatten_append, List.flatten_cons, List.length_append] at e1
      omega
    refine EV.of ?_
    rw [itr_succ]
    unfold c_R_flip_l52
    repeat (first | (with_reducible apply q_nn) | (with_reducible apply q_nm) | ((with_reducible apply q_nz); decide) | ((with_reducible apply q_grd); (first | assumption | exact up_eq | exact new_eq | ((with_reducible refine up_kd ?_ ?_ ?_); (first | assumption | exact up_eq | exact new_eq); (first | assumption | exact up_eq | exact new_eq); exact rfl) | ((with_reducible refine up_nx ?_ ?_); (first | assumption | (apply Ne.symm; assumption) | omega); (first | assumption | exact up_eq | exact new_eq)) | ((with_reducible refine new_old ?_ ?_); (first | assumption | exact TF.wf (by assumption) (by assumption) | exact Wf.setE (by assumption) (by assumption)); (first | assumption | exact up_eq | exact new_eq)) | ((with_reducible refine TF.kd ?_ ?_ ?_); assumption; (first | assumption | exact up_eq | exact new_eq); exact rfl) | ((with_reducible refine RF.kd ?_ ?_ ?_); assumption; (first | assumption | exact up_eq | exact new_eq); exact rfl) | ((with_reducible refine Only.kd ?_ ?_ ?_ ?_); assumption; assumption; (first | assumption | exact up_eq | exact new_eq); exact rfl)); (first | decide | assumption)) | ((first | with_reducible apply q_gI | with_reducible apply q_gL | with_reducible apply q_gQv); (first | assumption | exact up_eq | exact new_eq | ((with_reducible refine up_kd ?_ ?_ ?_); (first | assumption | exact up_eq | exact new_eq); (first | assumption | exact up_eq | exact new_eq); exact rfl) | ((with_reducible refine up_nx ?_ ?_); (first | assumption | (apply Ne.symm; assumption) | omega); (first | assumption | exact up_eq | exact new_eq)) | ((with_reducible refine new_old ?_ ?_); (first | assumption | exact TF.wf (by assumption) (by assumption) | exact Wf.setE (by assumption) (by assumption)); (first | assumption | exact up_eq | exact new_eq)) | ((with_reducible refine TF.kd ?_ ?_ ?_); assumption; (first | assumption | exact up_eq | exact new_eq); exact rfl) | ((with_reducible refine RF.kd ?_ ?_ ?_); assumption; (first | assumption | exact up_eq | exact new_eq); exact rfl) | ((with_reducible refine Only.kd ?_ ?_ ?_ ?_); assumption; assumption; (first | assumption | exact up_eq | exact new_eq); exact rfl)); (first | decide | assumption); first | exact rfl | assumption) | ((first | with_reducible apply q_pI | with_reducible apply q_pL | with_reducible apply q_pQ); (first | assumption | exact up_eq | exact new_eq | ((with_reducible refine up_kd ?_ ?_ ?_); (first | assumption | exact up_eq | exact new_eq); (first | assumption | exact up_eq | exact new_eq); exact rfl) | ((with_reducible refine up_nx ?_ ?_); (first | assumption | (apply Ne.symm; assumption) | omega); (first | assumption | exact up_eq | exact new_eq)) | ((with_reducible refine new_old ?_ ?_); (first | assumption | exact TF.wf (by assumption) (by assumption) | exact Wf.setE (by assumption) (by assumption)); (first | assumption | exact up_eq | exact new_eq)) | ((with_reducible refine TF.kd ?_ ?_ ?_); assumption; (first | assumption | exact up_eq | exact new_eq); exact rfl) | ((with_reducible refine RF.kd ?_ ?_ ?_); assumption; (first | assumption | exact up_eq | exact new_eq); exact rfl) | ((with_reducible refine Only.kd ?_ ?_ ?_ ?_); assumption; assumption; (first | assumption | exact up_eq | exact new_eq); exact rfl)); (first | decide | assumption); exact Nat.le_of_ble_eq_true rfl) | ((with_reducible apply q_pZ); (first | assumption | exact up_eq | exact new_eq | ((with_reducible refine up_kd ?_ ?_ ?_); (first | assumption | exact up_eq | exact new_eq); (first | assumption | exact up_eq | exact new_eq); exact rfl) | ((with_reducible refine up_nx ?_ ?_); (first | assumption | (apply Ne.symm; assumption) | omega); (first | assumption | exact up_eq | exact new_eq)) | ((with_reducible refine new_old ?_ ?_); (first | assumption | exact TF.wf (by assumption) (by assumption) | exact Wf.setE (by assumption) (by assumption)); (first | assumption | exact up_eq | exact new_eq)) | ((with_reducible refine TF.kd ?_ ?_ ?_); assumption; (first | assumption | exact up_eq | exact new_eq); exact rfl) | ((with_reducible refine RF.kd ?_ ?_ ?_); assumption; (first | assumption | exact up_eq | exact new_eq); exact rfl) | ((with_reducible refine Only.kd ?_ ?_ ?_ ?_); assumption; assumption; (first | assumption | exact up_eq | exact new_eq); exact rfl)); (first | decide | assumption); exact Nat.le_of_ble_eq_true rfl; first | exact Or.inl rfl | exact Or.inr rfl | exact Or.inl (by decide) | exact Or.inr (by decide)) | ((first | with_reducible apply q_ldI | with_reducible apply q_ldL | with_reducible apply q_stI | with_reducible apply q_stB | with_reducible apply q_stL); (first | assumption | exact up_eq | exact new_eq | ((with_reducible refine up_kd ?_ ?_ ?_); (first | assumption | exact up_eq | exact new_eq); (first | assumption | exact up_eq | exact new_eq); exact rfl) | ((with_reducible refine up_nx ?_ ?_); (first | assumption | (apply Ne.symm; assumption) | omega); (first | assumption | exact up_eq | exact new_eq)) | ((with_reducible refine new_old ?_ ?_); (first | assumption | exact TF.wf (by assumption) (by assumption) | exact Wf.setE (by assumption) (by assumption)); (first | assumption | exact up_eq | exact new_eq)) | ((with_reducible refine TF.kd ?_ ?_ ?_); assumption; (first | assumption | exact up_eq | exact new_eq); exact rfl) | ((with_reducible refine RF.kd ?_ ?_ ?_); assumption; (first | assumption | exact up_eq | exact new_eq); exact rfl) | ((with_reducible refine Only.kd ?_ ?_ ?_ ?_); assumption; assumption; (first | assumption | exact up_eq | exact new_eq); exact rfl)); omega) | ((first | with_reducible apply q_ldQ0 | with_reducible apply q_ldQ1 | with_reducible apply q_ldQn); (first | assumption | exact up_eq | exact new_eq | ((with_reducible refine up_kd ?_ ?_ ?_); (first | assumption | exact up_eq | exact new_eq); (first | assumption | exact up_eq | exact new_eq); exact rfl) | ((with_reducible refine up_nx ?_ ?_); (first | assumption | (apply Ne.symm; assumption) | omega); (first | assumption | exact up_eq | exact new_eq)) | ((with_reducible refine new_old ?_ ?_); (first | assumption | exact TF.wf (by assumption) (by assumption) | exact Wf.setE (by assumption) (by assumption)); (first | assumption | exact up_eq | exact new_eq)) | ((with_reducible refine TF.kd ?_ ?_ ?_); assumption; (first | assumption | exact up_eq | exact new_eq); exact rfl) | ((with_reducible refine RF.kd ?_ ?_ ?_); assumption; (first | assumption | exact up_eq | exact new_eq); exact rfl) | ((with_reducible refine Only.kd ?_ ?_ ?_ ?_); assumption; assumption; (first | assumption | exact up_eq | exact new_eq); exact rfl)); (first | decide | omega); omega; assumption) | ((with_reducible apply q_ldQ); (first | assumption | exact up_eq | exact new_eq | ((with_reducible refine up_kd ?_ ?_ ?_); (first | assumption | exact up_eq | exact new_eq); (first | assumption | exact up_eq | exact new_eq); exact rfl) | ((with_reducible refine up_nx ?_ ?_); (first | assumption | (apply Ne.symm; assumption) | omega); (first | assumption | exact up_eq | exact new_eq)) | ((with_reducible refine new_old ?_ ?_); (first | assumption | exact TF.wf (by assumption) (by assumption) | exact Wf.setE (by assumption) (by assumption)); (first | assumption | exact up_eq | exact new_eq)) | ((with_reducible refine TF.kd ?_ ?_ ?_); assumption; (first | assumption | exact up_eq | exact new_eq); exact rfl) | ((with_reducible refine RF.kd ?_ ?_ ?_); assumption; (first | assumption | exact up_eq | exact new_eq); exact rfl) | ((with_reducible refine Only.kd ?_ ?_ ?_ ?_); assumption; assumption; (first | assumption | exact up_eq | exact new_eq); exact rfl)); (first | decide | omega); omega) | ((with_reducible apply q_alen); (first | assumption | exact up_eq | exact new_eq | ((with_reducible refine up_kd ?_ ?_ ?_); (first | assumption | exact up_eq | exact new_eq); (first | assumption | exact up_eq | exact new_eq); exact rfl) | ((with_reducible refine up_nx ?_ ?_); (first | assumption | (apply Ne.symm; assumption) | omega); (first | assumption | exact up_eq | exact new_eq)) | ((with_reducible refine new_old ?_ ?_); (first | assumption | exact TF.wf (by assumption) (by assumption) | exact Wf.setE (by assumption) (by assumption)); (first | assumption | exact up_eq | exact new_eq)) | ((with_reducible refine TF.kd ?_ ?_ ?_); assumption; (first | assumption | exact up_eq | exact new_eq); exact rfl) | ((with_reducible refine RF.kd ?_ ?_ ?_); assumption; (first | assumption | exact up_eq | exact new_eq); exact rfl) | ((with_reducible refine Only.kd ?_ ?_ ?_ ?_); assumption; assumption; (first | assumption | exact up_eq | exact new_eq); exact rfl)); exact Nat.le_of_ble_eq_true rfl) | (with_reducible apply q_newO) | ((with_reducible apply q_newA); (first | decide | omega)) | ((with_reducible refine q_pos _ ?_ ?_); first | ((with_reducible refine ii_leT ?_); omega) | ((with_reducible refine ii_ltT ?_); omega) | ((with_reducible refine ii_eqT ?_); omega) | with_reducible exact rfl | with_reducible exact True.intro) | ((with_reducible refine q_neg _ ?_ ?_); first | ((with_reducible refine ii_leF ?_); omega) | ((with_reducible refine ii_ltF ?_); omega) | ((with_reducible refine ii_eqF ?_); omega) | with_reducible exact Option.some_ne_none _ | with_reducible exact not_false) | simp only [il_0, il_1, il_2, il_3, il_4, il_5, il_6, il_7, il_8, il_9, il_10, il_11, il_12, il_13, il_14, il_15, il_16, il_17, il_18, il_19, il_20, il_21, il_22, il_23, il_24, il_26, il_27, il_28, il_30, il_31, il_32, il_35, il_37, il_38, il_39, il_40, il_41, il_45, il_47, il_48, il_50, il_57, il_59, il_60, il_61, il_62, il_63, il_64, il_66, il_67, il_68, il_69, il_70, il_96, il_97, il_99, il_104, il_105, il_111, il_122, il_127, il_150, il_151, il_152, il_160, il_199, il_200, il_206, il_207, il_240, il_255, il_400, il_599, il_600, il_900, il_939, il_940, il_999, il_1000, il_1023, il_2606, il_2607, il_2611, il_2615, il_2616, il_2816, il_3212, il_3213, il_3420, il_5820, il_5821, il_5822, il_6061, il_6062, il_12124, il_12345, il_22491, il_25704, il_1103515245, ii_add, ii_sub, ii_mul, ii_neg])
    have a3 : (if ii ((f : Int) - (ls.take k).flatten.length) < ii 0 then ii 0 else ii ((f : Int) - (ls.take k).flatten.length)) = ii ((f - (ls.take k).flatten.length : Nat) : Int) := by
      by_cases c : f < (ls.take k).flatten.length
      · rw [if_pos (ii_ltT (by omega))]; congr 1; omega
      · rw [if_neg (ii_ltF (by omega))]; congr 1; omega
    rw [a3]
    generalize hA : (ls.take k).flatten.length = A at *
    have key : EV (c_R_flip_2 12 h ρ p (ii ((f - A : Nat) : Int)) (if ii (ls[k].length : Int) < ii ((t : Int) - A) then ii (ls[k].length : Int) else ii ((t : Int) - A))) (fun h' => LeafL h' p (flp (f - A) (t - A) ls[k]) ∧ Only h h' p) := by
      by_cases c0 : t < A
      · rw [if_neg (ii_ltF (by omega))]
        refine EV.of ?_
        show Ends (b_R_flip_2 (c_R_flip_2 11) h ρ p _ _) _
        unfold b_R_flip_2
        refine q_grd er (by decide) ?_
        refine q_neg _ (ii_ltF (by omega)) ?_
        refine q_rV ⟨rfl, ?_, Only.rf⟩
        rw [flp_none (by omega)]
        exact el
      · have e2 : (if ii (ls[k].length : Int) < ii ((t : Int) - A) then ii (ls[k].length : Int) else ii ((t : Int) - A)) = ii ((min (t - A) ls[k].length : Nat) : Int) := by
          by_cases c : ls[k].length < t - A
          · rw [if_pos (ii_ltT (by omega))]; congr 1; omega
          · rw [if_neg (ii_ltF (by omega))]; congr 1; omega
        rw [e2]
        by_cases c2 : f - A ≤ ls[k].length
        · have e3 : flp (f - A) (t - A) ls[k] = flp (f - A) (min (t - A) ls[k].length) ls[k] := by
            have := flp_min (f := f - A) (t := t - A) (m := ls[k].length) (l := ls[k]) (Nat.le_refl _)
            rw [← this, Nat.min_eq_left c2]
          rw [e3]
          exact flip_leaf (b := p + 2) el er o1 o2 (by omega) c2 (by omega)
        · refine EV.of ?_
          show Ends (b_R_flip_2 (c_R_flip_2 11) h ρ p _ _) _
          unfold b_R_flip_2
          refine q_grd er (by decide) ?_
          refine q_neg _ (ii_ltF (by omega)) ?_
          refine q_rV ⟨rfl, ?_, Only.rf⟩
          rw [flp_far (by omega)]
          exact el
    refine q_hVg er (by decide) key fun h15 ⟨g1, g2⟩ => ?_
    repeat (first | (with_reducible apply q_nn) | (with_reducible apply q_nm) | ((with_reducible apply q_nz); decide) | ((with_reducible apply q_grd); (first | assumption | exact up_eq | exact new_eq | ((with_reducible refine up_kd ?_ ?_ ?_); (first | assumption | exact up_eq | exact new_eq); (first | assumption | exact up_eq | exact new_eq); exact rfl) | ((with_reducible refine up_nx ?_ ?_); (first | assumption | (apply Ne.symm; assumption) | omega); (first | assumption | exact up_eq | exact new_eq)) | ((with_reducible refine new_old ?_ ?_); (first | assumption | exact TF.wf (by assumption) (by assumption) | exact Wf.setE (by assumption) (by assumption)); (first | assumption | exact up_eq | exact new_eq)) | ((with_reducible refine TF.kd ?_ ?_ ?_); assumption; (first | assumption | exact up_eq | exact new_eq); exact rfl) | ((with_reducible refine RF.kd ?_ ?_ ?_); assumption; (first | assumption | exact up_eq | exact new_eq); exact rfl) | ((with_reducible refine Only.kd ?_ ?_ ?_ ?_); assumption; assumption; (first | assumption | exact up_eq | exact new_eq); exact rfl)); (first | decide | assumption)) | ((first | with_reducible apply q_gI | with_reducible apply q_gL | with_reducible apply q_gQv); (first | assumption | exact up_eq | exact new_eq | ((with_reducible refine up_kd ?_ ?_ ?_); (first | assumption | exact up_eq | exact new_eq); (first | assumption | exact up_eq | exact new_eq); exact rfl) | ((with_reducible refine up_nx ?_ ?_); (first | assumption | (apply Ne.symm; assumption) | omega); (first | assumption | exact up_eq | exact new_eq)) | ((with_reducible refine new_old ?_ ?_); (first | assumption | exact TF.wf (by assumption) (by assumption) | exact Wf.setE (by assumption) (by assumption)); (first | assumption | exact up_eq | exact new_eq)) | ((with_reducible refine TF.kd ?_ ?_ ?_); assumption; (first | assumption | exact up_eq | exact new_eq); exact rfl) | ((with_reducible refine RF.kd ?_ ?_ ?_); assumption; (first | assumption | exact up_eq | exact new_eq); exact rfl) | ((with_reducible refine Only.kd ?_ ?_ ?_ ?_); assumption; assumption; (first | assumption | exact up_eq | exact new_eq); exact rfl)); (first | decide | assumption); first | exact rfl | assumption) | ((first | with_reducible apply q_pI | with_reducible apply q_pL | with_reducible apply q_pQ); (first | assumption | exact up_eq | exact new_eq | ((with_reducible refine up_kd ?_ ?_ ?_); (first | assumption | exact up_eq | exact new_eq); (first | assumption | exact up_eq | exact new_eq); exact rfl) | ((with_reducible refine up_nx ?_ ?_); (first | assumption | (apply Ne.symm; assumption) | omega); (first | assumption | exact up_eq | exact new_eq)) | ((with_reducible refine new_old ?_ ?_); (first | assumption | exact TF.wf (by assumption) (by assumption) | exact Wf.setE (by assumption) (by assumption)); (first | assumption | exact up_eq | exact new_eq)) | ((with_reducible refine TF.kd ?_ ?_ ?_); assumption; (first | assumption | exact up_eq | exact new_eq); exact rfl) | ((with_reducible refine RF.kd ?_ ?_ ?_); assumption; (first | assumption | exact up_eq | exact new_eq); exact rfl) | ((with_reducible refine Only.kd ?_ ?_ ?_ ?_); assumption; assumption; (first | assumption | exact up_eq | exact new_eq); exact rfl)); (first | decide | assumption); exact Nat.le_of_ble_eq_true rfl) | ((with_reducible apply q_pZ); (first | assumption | exact up_eq | exact new_eq | ((with_reducible refine up_kd ?_ ?_ ?_); (first | assumption | exact up_eq | exact new_eq); (first | assumption | exact up_eq | exact new_eq); exact rfl) | ((with_reducible refine up_nx ?_ ?_); (first | assumption | (apply Ne.symm; assumption) | omega); (first | assumption | exact up_eq | exact new_eq)) | ((with_reducible refine new_old ?_ ?_); (first | assumption | exact TF.wf (by assumption) (by assumption) | exact Wf.setE (by assumption) (by assumption)); (first | assumption | exact up_eq | exact new_eq)) | ((with_reducible refine TF.kd ?_ ?_ ?_); assumption; (first | assumption | exact up_eq | exact new_eq); exact rfl) | ((with_reducible refine RF.kd ?_ ?_ ?_); assumption; (first | assumption | exact up_eq | exact new_eq); exact rfl) | ((with_reducible refine Only.kd ?_ ?_ ?_ ?_); assumption; assumption; (first | assumption | exact up_eq | exact new_eq); exact rfl)); (first | decide | assumption); exact Nat.le_of_ble_eq_true rfl; first | exact Or.inl rfl | exact Or.inr rfl | exact Or.inl (by decide) | exact Or.inr (by decide)) | ((first | with_reducible apply q_ldI | with_reducible apply q_ldL | with_reducible apply q_stI | with_reducible apply q_stB | with_reducible apply q_stL); (first | assumption | exact up_eq | exact new_eq | ((with_reducible refine up_kd ?_ ?_ ?_); (first | assumption | exact up_eq | exact new_eq); (first | assumption | exact up_eq | exact new_eq); exact rfl) | ((with_reducible refine up_nx ?_ ?_); (first | assumption | (apply Ne.symm; assumption) | omega); (first | assumption | exact up_eq | exact new_eq)) | ((with_reducible refine new_old ?_ ?_); (first | assumption | exact TF.wf (by assumption) (by assumption) | exact Wf.setE (by assumption) (by assumption)); (first | assumption | exact up_eq | exact new_eq)) | ((with_reducible refine TF.kd ?_ ?_ ?_); assumption; (first | assumption | exact up_eq | exact new_eq); exact rfl) | ((with_reducible refine RF.kd ?_ ?_ ?_); assumption; (first | assumption | exact up_eq | exact new_eq); exact rfl) | ((with_reducible refine Only.kd ?_ ?_ ?_ ?_); assumption; assumption; (first | assumption | exact up_eq | exact new_eq); exact rfl)); omega) | ((first | with_reducible apply q_ldQ0 | with_reducible apply q_ldQ1 | with_reducible apply q_ldQn); (first | assumption | exact up_eq | exact new_eq | ((with_reducible refine up_kd ?_ ?_ ?_); (first | assumption | exact up_eq | exact new_eq); (first | assumption | exact up_eq | exact new_eq); exact rfl) | ((with_reducible refine up_nx ?_ ?_); (first | assumption | (apply Ne.symm; assumption) | omega); (first | assumption | exact up_eq | exact new_eq)) | ((with_reducible refine new_old ?_ ?_); (first | assumption | exact TF.wf (by assumption) (by assumption) | exact Wf.setE (by assumption) (by assumption)); (first | assumption | exact up_eq | exact new_eq)) | ((with_reducible refine TF.kd ?_ ?_ ?_); assumption; (first | assumption | exact up_eq | exact new_eq); exact rfl) | ((with_reducible refine RF.kd ?_ ?_ ?_); assumption; (first | assumption | exact up_eq | exact new_eq); exact rfl) | ((with_reducible refine Only.kd ?_ ?_ ?_ ?_); assumption; assumption; (first | assumption | exact up_eq | exact new_eq); exact rfl)); (first | decide | omega); omega; assumption) | ((with_reducible apply q_ldQ); (first | assumption | exact up_eq | exact new_eq | ((with_reducible refine up_kd ?_ ?_ ?_); (first | assumption | exact up_eq | exact new_eq); (first | assumption | exact up_eq | exact new_eq); exact rfl) | ((with_reducible refine up_nx ?_ ?_); (first | assumption | (apply Ne.symm; assumption) | omega); (first | assumption | exact up_eq | exact new_eq)) | ((with_reducible refine new_old ?_ ?_); (first | assumption | exact TF.wf (by assumption) (by assumption) | exact Wf.setE (by assumption) (by assumption)); (first | assumption | exact up_eq | exact new_eq)) | ((with_reducible refine TF.kd ?_ ?_ ?_); assumption; (first | assumption | exact up_eq | exact new_eq); exact rfl) | ((with_reducible refine RF.kd ?_ ?_ ?_); assumption; (first | assumption | exact up_eq | exact new_eq); exact rfl) | ((with_reducible refine Only.kd ?_ ?_ ?_ ?_); assumption; assumption; (first | assumption | exact up_eq | exact new_eq); exact rfl)); (first | decide | omega); omega) | ((with_reducible apply q_alen); (first | assumption | exact up_eq | exact new_eq | ((with_reducible refine up_kd ?_ ?_ ?_); (first | assumption | exact up_eq | exact new_eq); (first | assumption | exact up_eq | exact new_eq); exact rfl) | ((with_reducible refine up_nx ?_ ?_); (first | assumption | (apply Ne.symm; assumption) | omega); (first | assumption | exact up_eq | exact new_eq)) | ((with_reducible refine new_old ?_ ?_); (first | assumption | exact TF.wf (by assumption) (by assumption) | exact Wf.setE (by assumption) (by assumption)); (first | assumption | exact up_eq | exact new_eq)) | ((with_reducible refine TF.kd ?_ ?_ ?_); assumption; (first | assumption | exact up_eq | exact new_eq); exact rfl) | ((with_reducible refine RF.kd ?_ ?_ ?_); assumption; (first | assumption | exact up_eq | exact new_eq); exact rfl) | ((with_reducible refine Only.kd ?_ ?_ ?_ ?_); assumption; assumption; (first | assumption | exact up_eq | exact new_eq); exact rfl)); exact Nat.le_of_ble_eq_true rfl) | (with_reducible apply q_newO) | ((with_reducible apply q_newA); (first | decide | omega)) | ((with_reducible refine q_pos _ ?_ ?_); first | ((with_reducible refine ii_leT ?_); omega) | ((with_reducible refine ii_ltT ?_); omega) | ((with_reducible refine ii_eqT ?_); omega) | with_reducible exact rfl | with_reducible exact True.intro) | ((with_reducible refine q_neg _ ?_ ?_); first | ((with_reducible refine ii_leF ?_); omega) | ((with_reducible refine ii_ltF ?_); omega) | ((with_reducible refine ii_eqF ?_); omega) | with_reducible exact Option.some_ne_none _ | with_reducible exact not_false) | simp only [il_0, il_1, il_2, il_3, il_4, il_5, il_6, il_7, il_8, il_9, il_10, il_11, il_12, il_13, il_14, il_15, il_16, il_17, il_18, il_19, il_20, il_21, il_22, il_23, il_24, il_26, il_27, il_28, il_30, il_31, il_32, il_35, il_37, il_38, il_39, il_40, il_41, il_45, il_47, il_48, il_50, il_57, il_59, il_60, il_61, il_62, il_63, il_64, il_66, il_67, il_68, il_69, il_70, il_96, il_97, il_99, il_104, il_105, il_111, il_122, il_127, il_150, il_151, il_152, il_160, il_199, il_200, il_206, il_207, il_240, il_255, il_400, il_599, il_600, il_900, il_939, il_940, il_999, il_1000, il_1023, il_2606, il_2607, il_2611, il_2615, il_2616, il_2816, il_3212, il_3213, il_3420, il_5820, il_5821, il_5822, il_6061, il_6062, il_12124, il_12345, il_22491, il_25704, il_1103515245, ii_add, ii_sub, ii_mul, ii_neg])
    have er2 := g2.kd el er rfl
    have wf2 := g2.wf el wf
    have R2 := R.only el g1 g2
    have hA1 : (ls.take (k + 1)).flatten.length = A + ls[k].length := by
      rw [← List.take_append_getElem hkl, List.flatten_append, List.length_append, hA]; simp
    have hA2 : ((A : Int) + ls[k].length) = ((ls.take (k + 1)).flatten.length : Int) := by omega
    rw [hA2]
    have L2 : Loose h15 row ((flL ls f t).take (k + 1) ++ ls.drop (k + 1)) := by
      have := L.upd R (by rw [List.length_append, hkl2, List.length_drop]; omega) ek lp el g1 g2
      have e5 : ((flL ls f t).take k ++ ls.drop k).set k (flp (f - A) (t - A) ls[k]) = (flL ls f t).take (k + 1) ++ ls.drop (k + 1) := by
        have q := flL_at (f := f) (t := t) lk
        rw [hA] at q
        have hq := at_lt q
        rw [List.getElem?_eq_getElem hq] at q
        injection q with q
        rw [List.set_append_right _ _ (by omega), hkl2, Nat.sub_self, ← List.take_append_getElem hq, q, List.append_assoc, List.drop_eq_getElem_cons hkl]
        rfl
      rw [e5] at this
      exact this
    refine Ends.ofEV (ih fu (k + 1) h15 (by omega) (by omega) wf2 er2 R2 L2) fun h' ⟨q1, q2, q3, q4, q5⟩ => ⟨rfl, q1, q2, q3, (g2.rF el o1 o2 wf).trans q4, q5.trans g2.1⟩
theorem cnt_flp {l : List Bool} {f t : Nat} (hft : f ≤ t) (ht : t ≤ l.length) : (cnt (flp f t l) : Int) = cnt l + ((t : Int) - f - 2 * ((cnt (l.take t) : Int) - cnt (l.take f))) := by
  have e1 : l = l.take f ++ ((l.take t).drop f ++ l.drop t) := by
    have e3 : l.take f = (l.take t).take f := by rw [List.take_take, Nat.min_eq_left hft]
    rw [← List.append_assoc, e3, List.take_append_drop, List.take_append_drop]
  have l1 : (l.take f).length = f := by rw [List.length_take]; omega
  have l2 : ((l.take t).drop f).length = t - f := by rw [List.length_drop, List.length_take]; omega
  have e2 : flp f t l = l.take f ++ (((l.take t).drop f).map not ++ l.drop t) := by
    conv => lhs; rw [e1]
    rw [flp_app, flp_app, l1, Nat.sub_self, l2, flp_far (by omega), flp_all (by omega), flp_none (by omega)]
  have e4 : cnt (l.take t) = cnt (l.take f) + cnt ((l.take t).drop f) := by
    have e3 : l.take f = (l.take t).take f := by rw [List.take_take, Nat.min_eq_left hft]
    rw [e3, ← cnt_app, List.take_append_drop]
  have e5 := congrArg cnt e1
  rw [cnt_app, cnt_app] at e5
  have e6 := cnt_not ((l.take t).drop f)
  rw [e2, cnt_app, cnt_app]
  omega
theorem p_flip {f t : Nat} (R : RP own ρ h low ls nu bt) (wf : Wf h) (hft : f < t) (ht : t ≤ ls.flatten.length) : EV (c_R_flip h ρ (ii f) (ii t)) (fun h' => RP own ρ h' low (flL ls f t) nu bt ∧ RF own ρ h h' ∧ h'.2 = h.2) := by
  have hbd := R.bnd
  obtain ⟨w0, root0, mx0, at0, e0⟩ := R.cell
  have hle := len_eq (flL_len (ls := ls) (f := f) (t := t))
  have hcn := cnt_flp (l := ls.flatten) (Nat.le_of_lt hft) ht
  refine EV.of ?_
  unfold c_R_flip
  refine q_grd e0 (by decide) ?_
  refine q_hI (p_ones R wf ht) fun v1 h1 ⟨g1, R1, o1, z1⟩ => ?_
  subst g1
  refine q_hI (p_ones R1 o1.wf (by omega)) fun v1 h2 ⟨g1, R2, o2, z2⟩ => ?_
  subst g1
  refine q_nm ?_
  obtain ⟨r1, r2, w, row, root, mx, at_, r3, r4, r5, r6, r7⟩ := R2
  have wf2 := o2.wf
  refine q_gI r5 (by decide) rfl ?_
  refine q_pI r5 (by decide) (Nat.le_of_ble_eq_true rfl) ?_
  rw [il_2, ii_sub, ii_sub, ii_mul, ii_sub, ii_add]
  have ec : ((cnt ls.flatten : Int) + ((t : Int) - f - 2 * ((cnt (ls.flatten.take t) : Int) - cnt (ls.flatten.take f)))) = (cnt (flL ls f t).flatten : Int) := by rw [flL_fl]; omega
  rw [ec]
  refine q_gI up_eq (by decide) rfl ?_
  have nx : ∀ c, ∀ x d, x ≠ ρ → h2.1 x = some d → (hset h2 ρ c).1 x = some d := fun c x d n e => up_nx n e
  cases bt with
  | false =>
    obtain ⟨r8, L⟩ := r7 rfl
    subst r8
    refine q_pos _ (by first | trivial | rfl | decide) ?_
    refine Ends.ofEV (p_flip_l52 (ls := ls) (w := w) (row := row) (low := low) (mx := mx) (lt := (cnt (flL ls f t).flatten : Int)) (at_ := at_) (Nat.le_of_lt hft) (by omega) r1 (by omega) (fun l hl => (r2.leaf hl).2) (by omega) ls.length FU 0 _ (by unfold FU; omega) (by omega) (wf2.setE r5) up_eq (r3.bf r5 (nx _)) (by rw [List.take_zero, List.drop_zero, List.nil_append]; exact L.bf r5 (nx _))) fun h' ⟨q1, q2, q3, q4, q5⟩ => ?_
    refine ⟨rfl, ⟨r1, r2.congr flL_len, w, row, none, mx, at_, q1, r4, ?_, (fun q => by cases q), fun _ => ⟨rfl, q2⟩⟩, o1.trans (o2.trans ((RF.set wf2 r5 r1 rfl).trans q4)), ?_⟩
    · rw [q3, hle.1, hle.2]
    · rw [q5]
      exact z2.trans z1
  | true =>
    refine q_neg _ (by first | decide | (intro z; exact absurd z (by decide))) ?_
    obtain ⟨rm, B⟩ := r6 rfl
    rcases B with ⟨B1, B2⟩ | ⟨a, xs, b, hh, e1, e2, e3, e4, T⟩
    · subst B1
      have : ([] : LL).flatten.length = 0 := rfl
      omega
    · subst e1
      have hxl : xs.length = ls.length := by rw [← e2, List.length_map]
      have nd := xs_nodup r3 (by omega) e3
      have hf := fl_ls e2
      refine q_gQr up_eq (by decide) rfl ?_
      refine q_nn ?_
      have T2 : ∀ c, Tree own ρ b (hset h2 ρ c) 12 a xs b hh := fun c => T.bf r5 e4.1 (nx c)
      refine q_hVg up_eq (by decide) (t_flip 12 12 a b hh xs _ f t _ (Nat.le_refl _) (T2 _) nd (by rw [hf]; omega) (by rw [hf]; exact ht) (by rw [hf]; omega) up_eq) fun h4 ⟨g1, g2⟩ => ?_
      refine q_rV ⟨rfl, ?_, o1.trans (o2.trans ((RF.set wf2 r5 r1 rfl).trans (g2.rF (wf2.setE r5)))), ?_⟩
      · rw [r4]
        refine RP.tree (mx := mx) (at_ := at_) r1 (r2.congr flL_len) (r3.bf r5 (nx _)) (T2 _) g1 flX_ad (by rw [flX_snd, e2]) e3 e4 g2 ?_ (by rw [rm, hle.1])
        have := g2.kd up_eq rfl
        rw [this, hle.1, hle.2]
        rfl
      · rw [g2.1]
        exact z2.trans z1
end
