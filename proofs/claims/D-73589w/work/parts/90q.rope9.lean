/-! PURE SIDE: ropes, bits taken -/
set_option maxRecDepth 100000
def tkL (low : Nat) (ls : LL) (k : Nat) (l : List Bool) : LL := if low ≤ l.length then ls.set k l else if 1 < ls.length then mrg low (ls.set k l) (min k (ls.length - 2)) else if l.length = 0 then [] else ls.set k l
def remL (low i : Nat) (ls : LL) : LL := tkL low ls (loc ls i).1 (remB (loc ls i).2 (ls.getD (loc ls i).1 []))
theorem two_at {ls : LL} {k : Nat} {a c : List Bool} (h : ls[k]? = some a) (h2 : ls[k + 1]? = some c) : ls = ls.take k ++ a :: c :: ls.drop (k + 2) := by
  have e1 := split_at h
  have a1 := at_lt h2
  have e2 : ls.drop (k + 1) = c :: ls.drop (k + 2) := by
    rw [List.getElem?_eq_getElem a1] at h2
    injection h2 with h2
    rw [List.drop_eq_getElem_cons a1, h2]
  rw [e2] at e1
  exact e1
theorem mrg_fl {low : Nat} {ls : LL} {k : Nat} (hk : k + 1 < ls.length) : (mrg low ls k).flatten = ls.flatten := by
  have h1 : ls[k]? = some ls[k] := List.getElem?_eq_getElem (by omega)
  have h2 : ls[k + 1]? = some ls[k + 1] := List.getElem?_eq_getElem hk
  have e := two_at h1 h2
  rw [mrg_eq h1 h2]
  conv => rhs; rw [e]
  by_cases hc : 2 * low < ls[k].length + ls[k + 1].length
  · rw [if_pos hc, List.flatten_append, List.flatten_append, List.flatten_cons, List.flatten_cons, List.flatten_cons, List.flatten_cons, ← List.append_assoc (List.take _ _), List.take_append_drop, List.append_assoc]
  · rw [if_neg hc, List.flatten_append, List.flatten_append, List.flatten_cons, List.flatten_cons, List.flatten_cons, List.append_assoc]
theorem remB_mid {A l B : List Bool} {o : Nat} (ho : o < l.length) : remB (A.length + o) (A ++ (l ++ B)) = A ++ (remB o l ++ B) := by
  unfold remB
  rw [List.take_append, List.take_of_length_le (by omega), List.drop_append, List.drop_of_length_le (by omega), Nat.add_sub_cancel_left, List.take_append_of_le_length (by omega)]
  have : A.length + o + 1 - A.length = o + 1 := by omega
  rw [this, List.drop_append_of_le_length (by omega)]
  simp
theorem tkL_fl {low : Nat} {ls : LL} {k : Nat} {l x : List Bool} (h : ls[k]? = some x) (hl : low = 0 ∨ 1 ≤ low) : (tkL low ls k l).flatten = (ls.set k l).flatten := by
  have hk := at_lt h
  unfold tkL
  by_cases h1 : low ≤ l.length
  · rw [if_pos h1]
  · rw [if_neg h1]
    by_cases h2 : 1 < ls.length
    · rw [if_pos h2, mrg_fl (by rw [List.length_set]; omega)]
    · rw [if_neg h2]
      by_cases h3 : l.length = 0
      · rw [if_pos h3, set_at h]
        have : l = [] := List.length_eq_zero_iff.mp h3
        have e1 : ls.take k = [] := List.length_eq_zero_iff.mp (by rw [List.length_take]; omega)
        have e2 : ls.drop (k + 1) = [] := List.length_eq_zero_iff.mp (by rw [List.length_drop]; omega)
        rw [this, e1, e2]
        rfl
      · rw [if_neg h3]
theorem remL_fl {low i : Nat} {ls : LL} (hi : i < ls.flatten.length) (hp : ∀ l, l ∈ ls → 1 ≤ l.length) : (remL low i ls).flatten = remB i ls.flatten := by
  obtain ⟨l, k1, k2, k3, k4⟩ := loc_ok hi hp
  unfold remL
  rw [tkL_fl k1 (by omega), getD_at k1, set_at k1, List.flatten_append, List.flatten_cons]
  have h9 := remB_mid (A := (ls.take (loc ls i).1).flatten) (l := l) (B := (ls.drop ((loc ls i).1 + 1)).flatten) k2
  rw [← k4, ← k3] at h9
  rw [h9]
theorem mrg_ok {low : Nat} {ls : LL} {k : Nat} {a c : List Bool} (hlow : 4 ≤ low) (h : ls[k]? = some a) (h2 : ls[k + 1]? = some c) (ho : ∀ j x, ls[j]? = some x → j ≠ k → j ≠ k + 1 → low ≤ x.length ∧ x.length ≤ 2 * low) (hs : 2 * low - 1 ≤ a.length + c.length ∧ a.length + c.length ≤ 3 * low) : ∀ x, x ∈ mrg low ls k → low ≤ x.length ∧ x.length ≤ 2 * low := by
  have a1 := at_lt h2
  have o1 : ∀ x, x ∈ ls.take k → low ≤ x.length ∧ x.length ≤ 2 * low := fun x hx => by
    obtain ⟨j, hj, e⟩ := List.mem_iff_getElem.mp hx
    rw [List.length_take] at hj
    rw [List.getElem_take] at e
    exact ho j x (by rw [List.getElem?_eq_getElem (by omega), e]) (by omega) (by omega)
  have o2 : ∀ x, x ∈ ls.drop (k + 2) → low ≤ x.length ∧ x.length ≤ 2 * low := fun x hx => by
    obtain ⟨j, hj, e⟩ := List.mem_iff_getElem.mp hx
    rw [List.length_drop] at hj
    rw [List.getElem_drop] at e
    exact ho (k + 2 + j) x (by rw [List.getElem?_eq_getElem (by omega), e]) (by omega) (by omega)
  intro x hx
  rw [mrg_eq h h2] at hx
  by_cases hc : 2 * low < a.length + c.length
  · rw [if_pos hc, List.mem_append, List.mem_cons, List.mem_cons] at hx
    rcases hx with hx | hx | hx | hx
    · exact o1 x hx
    · rw [hx, List.length_take, List.length_append]; omega
    · rw [hx, List.length_drop, List.length_append]; omega
    · exact o2 x hx
  · rw [if_neg hc, List.mem_append, List.mem_cons] at hx
    rcases hx with hx | hx | hx
    · exact o1 x hx
    · rw [hx, List.length_append]; omega
    · exact o2 x hx
theorem remL_ok {low i : Nat} {ls : LL} (B : LsB low ls) (hi : i < ls.flatten.length) : LsB low (remL low i ls) := by
  have hp : ∀ l, l ∈ ls → 1 ≤ l.length := fun l hl => (B.leaf hl).1
  have hf := remL_fl (low := low) hi hp
  have b1 := B.1
  have bt := B.2.1
  refine ⟨B.1, by rw [hf]; have := remB_len hi; omega, ?_⟩
  obtain ⟨l, k1, k2, k3, k4⟩ := loc_ok hi hp
  have kk := at_lt k1
  have hm := B.2.2 l (List.mem_of_getElem? k1)
  have hl1 := remB_len (i := (loc ls i).2) (l := l) k2
  unfold remL
  rw [getD_at k1]
  unfold tkL
  by_cases h1 : low ≤ (remB (loc ls i).2 l).length
  · rw [if_pos h1]
    intro x hx
    rw [List.length_set]
    rcases List.mem_or_eq_of_mem_set hx with hx | hx
    · exact B.2.2 x hx
    · rw [hx]; omega
  · rw [if_neg h1]
    by_cases h2 : 1 < ls.length
    · rw [if_pos h2]
      have hlow : l.length = low := by have := hm.2.2 h2; omega
      have key : ∀ x, x ∈ mrg low (ls.set (loc ls i).1 (remB (loc ls i).2 l)) (min (loc ls i).1 (ls.length - 2)) → low ≤ x.length ∧ x.length ≤ 2 * low := by
        have hs : (ls.set (loc ls i).1 (remB (loc ls i).2 l)).length = ls.length := List.length_set
        have oth : ∀ (j : Nat) (x : List Bool), (ls.set (loc ls i).1 (remB (loc ls i).2 l))[j]? = some x → j ≠ (loc ls i).1 → low ≤ x.length ∧ x.length ≤ 2 * low := fun j x e n => by
          rw [List.getElem?_set_ne (fun q => n q.symm)] at e
          have := B.2.2 x (List.mem_of_getElem? e)
          exact ⟨this.2.2 h2, this.2.1⟩
        have sf := set_self_at (l' := remB (loc ls i).2 l) k1
        by_cases hlast : (loc ls i).1 ≤ ls.length - 2
        · rw [Nat.min_eq_left hlast]
          have e2 : (ls.set (loc ls i).1 (remB (loc ls i).2 l))[(loc ls i).1 + 1]? = some ((ls.set (loc ls i).1 (remB (loc ls i).2 l))[(loc ls i).1 + 1]'(by omega)) := List.getElem?_eq_getElem (by omega)
          have := oth _ _ e2 (by omega)
          exact mrg_ok b1.1 sf e2 (fun j x e n _ => oth j x e n) (by omega)
        · have hkl : (loc ls i).1 = ls.length - 2 + 1 := by omega
          rw [Nat.min_eq_right (by omega)]
          have e1 : (ls.set (loc ls i).1 (remB (loc ls i).2 l))[ls.length - 2]? = some ((ls.set (loc ls i).1 (remB (loc ls i).2 l))[ls.length - 2]'(by omega)) := List.getElem?_eq_getElem (by omega)
          have := oth _ _ e1 (by omega)
          have sf' : (ls.set (loc ls i).1 (remB (loc ls i).2 l))[ls.length - 2 + 1]? = some (remB (loc ls i).2 l) := by rw [← hkl]; exact sf
          exact mrg_ok b1.1 e1 sf' (fun j x e _ n => oth j x e (by omega)) (by omega)
      intro x hx
      have := key x hx
      exact ⟨by omega, this.2, fun _ => this.1⟩
    · rw [if_neg h2]
      by_cases h3 : (remB (loc ls i).2 l).length = 0
      · rw [if_pos h3]
        intro x hx
        cases hx
      · rw [if_neg h3]
        intro x hx
        rw [List.length_set]
        rcases List.mem_or_eq_of_mem_set hx with hx | hx
        · exact B.2.2 x hx
        · rw [hx]; omega
section
variable {own own' : Nat → Nat} {ρ : Nat} {h h' h1 h2 : PH} {w low nu p q : Nat} {row row' row1 : Nat → Option Nat} {ls : LL} {bt : Bool} {root : Option Nat}
theorem p_remove {i : Nat} (R : RP own ρ h low ls nu bt) (wf : Wf h) (hi : i < ls.flatten.length) : EV (c_R_remove h ρ (ii i)) (fun h' => RP own ρ h' low (remL low i ls) nu false ∧ RF own ρ h h' ∧ h'.2 = h.2) := by
  have hbd := R.bnd
  obtain ⟨w0, root0, mx0, at0, e0⟩ := R.cell
  have hp : ∀ l, l ∈ ls → 1 ≤ l.length := fun l hl => (R.2.1.leaf hl).1
  have B' := remL_ok R.2.1 hi
  have F' := remL_fl (low := low) hi hp
  have c1 := remB_cnt hi
  have c2 := remB_len hi
  rw [← gb_at hi] at c1
  have lowb := R.2.1.1
  have r2' := R.2.1
  obtain ⟨l, k1, k2, k3, k4⟩ := loc_ok hi hp
  have kk := at_lt k1
  have hm := r2'.2.2 l (List.mem_of_getElem? k1)
  have hl1 := remB_len (i := (loc ls i).2) (l := l) k2
  have hgb := loc_gb k3 k2 k4
  refine EV.of ?_
  unfold c_R_remove
  refine q_grd e0 (by decide) ?_
  refine q_hV (p_loosen R wf) fun h1 ⟨R1, f1, z1⟩ => ?_
  obtain ⟨r1, r2, w, row, root, mx, at_, r3, r4, r5, r6, r7⟩ := R1
  obtain ⟨r8, L⟩ := r7 rfl
  subst r8
  have wf1 := f1.wf
  refine q_hI (s_leafOf r5 r3.1 L (by omega) (by omega)) fun v h2 ⟨g1, g2⟩ => ?_
  subst g1
  have er2 : h2.1 ρ = some (ropeC w none false low mx ls.length ls.flatten.length (cnt ls.flatten) (loc ls i).2) := by rw [g2, up_eq]
  have R2 : Row own ρ h2 w row := by rw [g2]; exact r3.bf r5 (fun x d n e => up_nx n e)
  have L2 : Loose h2 row ls := by rw [g2]; exact L.bf r5 (fun x d n e => up_nx n e)
  have wf2 : Wf h2 := by rw [g2]; exact wf1.setE r5
  have rf2 : RF own ρ h h2 := by rw [g2]; exact f1.trans (RF.set wf1 r5 r1 rfl)
  have z2 : h2.2 = h.2 := by rw [g2]; exact z1
  clear g2
  obtain ⟨p, lp, ep⟩ := L2 _ l k1
  have ew2 := R2.1
  obtain ⟨o1, o2, -⟩ := R2.2.2.1 _ p (by omega) lp
  refine q_gI er2 (by decide) rfl ?_
  refine q_gQr er2 (by decide) rfl ?_
  refine q_nn ?_
  refine q_ldQn ew2 (by decide) (by omega) lp ?_
  refine q_gI er2 (by decide) rfl ?_
  refine q_nn ?_
  refine q_hIe (ep.gb k2) ?_
  refine q_pI er2 (by decide) (Nat.le_of_ble_eq_true rfl) ?_
  refine q_gI up_eq (by decide) rfl ?_
  refine q_pI up_eq (by decide) (Nat.le_of_ble_eq_true rfl) ?_
  rw [hset_hset, ii_sub, il_1, ii_sub]
  have x1 : ((ls.flatten.length : Int) - 1) = ((remL low i ls).flatten.length : Int) := by rw [F']; omega
  have x2 : ((cnt ls.flatten : Int) - bn (gb l (loc ls i).2)) = (cnt (remL low i ls).flatten : Int) := by rw [F', ← hgb]; omega
  rw [x1, x2]
  obtain ⟨C, hC⟩ : ∃ c, c = ropeC w none false low mx ls.length (remL low i ls).flatten.length (cnt (remL low i ls).flatten) (loc ls i).2 := ⟨_, rfl⟩
  have eC : (Sum.inr (4, List.set (List.set [Value.ref w, va_rf none, .int (ii (bn false)), .int (ii low), .int (ii mx), .int (ii ls.length), .int (ii ls.flatten.length), .int (ii (cnt ls.flatten)), .int (ii (loc ls i).2)] 7 (.int (ii (cnt (remL low i ls).flatten)))) 6 (.int (ii (remL low i ls).flatten.length))) : PC) = C := by rw [hC]; rfl
  rw [eC]
  have er5 : (hset h2 ρ C).1 ρ = some (ropeC w none false low mx ls.length (remL low i ls).flatten.length (cnt (remL low i ls).flatten) (loc ls i).2) := by rw [up_eq, hC]
  have R5 := R2.bf (h' := hset h2 ρ C) er2 (fun x d n e => up_nx n e)
  have L5 := L2.bf (h' := hset h2 ρ C) er2 (fun x d n e => up_nx n e)
  have wf5 : Wf (hset h2 ρ C) := wf2.setE er2
  have rf5 : RF own ρ h (hset h2 ρ C) := rf2.trans (RF.set wf2 er2 r1 rfl)
  have z5 : (hset h2 ρ C).2 = h.2 := z2
  generalize hset h2 ρ C = H at *
  obtain ⟨p', lp', ep5⟩ := L5 _ l k1
  rw [lp] at lp'
  injection lp' with lp'
  subst lp'
  refine q_gQr er5 (by decide) rfl ?_
  refine q_nn ?_
  refine q_ldQn R5.1 (by decide) (by omega) lp ?_
  refine q_gI er5 (by decide) rfl ?_
  refine q_nn ?_
  refine q_hV (s_remove ep5 k2) fun h24 ⟨g1, g2⟩ => ?_
  have er24 := g2.kd ep5 er5 rfl
  have wf24 := g2.wf ep5 wf5
  have R24 := R5.only ep5 g1 g2
  have L24 := L5.upd R5 (by omega) k1 lp ep5 g1 g2
  have rf24 := rf5.trans (g2.rF ep5 o1 o2 wf5)
  have z24 : h24.2 = h.2 := g2.1.trans z5
  obtain ⟨t24, c24⟩ := g1.ln
  have eR : remL low i ls = tkL low ls (loc ls i).1 (remB (loc ls i).2 l) := by unfold remL; rw [getD_at k1]
  refine q_gQr er24 (by decide) rfl ?_
  refine q_nn ?_
  refine q_ldQn R24.1 (by decide) (by omega) lp ?_
  refine q_nn ?_
  refine q_gI c24 (by decide) rfl ?_
  refine q_gI er24 (by decide) rfl ?_
  by_cases h1 : low ≤ (remB (loc ls i).2 l).length
  · refine q_neg _ (ii_ltF (by omega)) ?_
    have e1 : remL low i ls = ls.set (loc ls i).1 (remB (loc ls i).2 l) := by rw [eR]; unfold tkL; rw [if_pos h1]
    refine q_rV ⟨rfl, ⟨r1, B', w, row, none, mx, (loc ls i).2, R24, r4, ?_, (fun q => by cases q), fun _ => ⟨rfl, by rw [e1]; exact L24⟩⟩, rf24, z24⟩
    have e2 : (remL low i ls).length = ls.length := by rw [e1, List.length_set]
    rw [e2]
    exact er24
  · refine q_pos _ (ii_ltT (by omega)) ?_
    refine q_gI er24 (by decide) rfl ?_
    by_cases h2 : 1 < ls.length
    · refine q_neg _ (ii_leF (b := 1) (by omega)) ?_
      refine q_gI er24 (by decide) rfl ?_
      have x3 : (if ii (ls.length : Int) - (2 : Int32) < ii ((loc ls i).1 : Int) then ii (ls.length : Int) - (2 : Int32) else ii ((loc ls i).1 : Int)) = ii ((min (loc ls i).1 (ls.length - 2) : Nat) : Int) := by
        rw [il_2, ii_sub]
        by_cases c : ls.length - 2 < (loc ls i).1
        · rw [if_pos (ii_ltT (by omega))]; congr 1; omega
        · rw [if_neg (ii_ltF (by omega))]; congr 1; omega
      rw [x3]
      have hs : (ls.set (loc ls i).1 (remB (loc ls i).2 l)).length = ls.length := List.length_set
      have all64 : ∀ (j : Nat) (x : List Bool), (ls.set (loc ls i).1 (remB (loc ls i).2 l))[j]? = some x → x.length ≤ 64 := fun j x e => by
        rcases List.mem_or_eq_of_mem_set (List.mem_of_getElem? e) with hx | hx
        · exact (r2'.leaf hx).2
        · rw [hx]; omega
      have e1 : (ls.set (loc ls i).1 (remB (loc ls i).2 l))[min (loc ls i).1 (ls.length - 2)]? = some ((ls.set (loc ls i).1 (remB (loc ls i).2 l))[min (loc ls i).1 (ls.length - 2)]'(by omega)) := List.getElem?_eq_getElem (by omega)
      have e2 : (ls.set (loc ls i).1 (remB (loc ls i).2 l))[min (loc ls i).1 (ls.length - 2) + 1]? = some ((ls.set (loc ls i).1 (remB (loc ls i).2 l))[min (loc ls i).1 (ls.length - 2) + 1]'(by omega)) := List.getElem?_eq_getElem (by omega)
      have er24' : h24.1 ρ = some (ropeC w none false low mx (ls.set (loc ls i).1 (remB (loc ls i).2 l)).length (remL low i ls).flatten.length (cnt (remL low i ls).flatten) (loc ls i).2) := by rw [hs]; exact er24
      refine q_hV (p_merge er24' R24 L24 wf24 r1 (by omega) (by omega) e1 e2 (all64 _ _ e1) (all64 _ _ e2)) fun h43 ⟨row', q1, q2, q3, q4, q5, q6⟩ => ?_
      have e3 : remL low i ls = mrg low (ls.set (loc ls i).1 (remB (loc ls i).2 l)) (min (loc ls i).1 (ls.length - 2)) := by rw [eR]; unfold tkL; rw [if_neg h1, if_pos h2]
      rw [← e3] at q2 q3
      exact q_rV ⟨rfl, ⟨r1, B', w, row', none, mx, (loc ls i).2, q1, by rw [q6]; exact r4, q3, (fun q => by cases q), fun _ => ⟨rfl, q2⟩⟩, rf24.trans q4, q5.trans z24⟩
    · refine q_pos _ (ii_leT (b := 1) (by omega)) ?_
      have k0 : (loc ls i).1 = 0 := by omega
      have lp0 : row 0 = some p := by rw [← k0]; exact lp
      refine q_gQr er24 (by decide) rfl ?_
      refine q_nn ?_
      rw [il_0]
      refine q_ldQ0 R24.1 (by decide) (by decide) lp0 ?_
      refine q_nn ?_
      refine q_gI c24 (by decide) rfl ?_
      by_cases h3 : (remB (loc ls i).2 l).length = 0
      · refine q_pos _ (ii_eqT (by omega)) ?_
        refine q_pI er24 (by decide) (Nat.le_of_ble_eq_true rfl) ?_
        have e1 : remL low i ls = [] := by rw [eR]; unfold tkL; rw [if_neg h1, if_neg h2, if_pos h3]
        refine q_rV ⟨rfl, ⟨r1, B', w, row, none, mx, (loc ls i).2, R24.bf er24 (fun x d n e => up_nx n e), r4, up_eq.trans ?_, (fun q => by cases q), fun _ => ⟨rfl, by rw [e1]; exact fun k l e => by cases e⟩⟩, rf24.trans (RF.set wf24 er24 r1 rfl), z24⟩
        have e2 : (remL low i ls).length = 0 := by rw [e1]; rfl
        rw [e2]
        rfl
      · refine q_neg _ (ii_eqF (by omega)) ?_
        have e1 : remL low i ls = ls.set (loc ls i).1 (remB (loc ls i).2 l) := by rw [eR]; unfold tkL; rw [if_neg h1, if_neg h2, if_neg h3]
        refine q_rV ⟨rfl, ⟨r1, B', w, row, none, mx, (loc ls i).2, R24, r4, ?_, (fun q => by cases q), fun _ => ⟨rfl, by rw [e1]; exact L24⟩⟩, rf24, z24⟩
        have e2 : (remL low i ls).length = ls.length := by rw [e1, List.length_set]
        rw [e2]
        exact er24
end
