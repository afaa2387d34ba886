/-! PURE SIDE: ropes, bits put -/
set_option maxRecDepth 100000
def plc (ls : LL) (i : Nat) : Nat × Nat := if i = 0 then (0, 0) else ((loc ls (i - 1)).1, (loc ls (i - 1)).2 + 1)
def putL (low : Nat) (ls : LL) (k : Nat) (l : List Bool) : LL := if 2 * low < l.length then halv (ls.set k l) k else ls.set k l
def insL (low i : Nat) (b : Bool) (ls : LL) : LL := if ls.length = 0 then [[b]] else putL low ls (plc ls i).1 (insB (plc ls i).2 b (ls.getD (plc ls i).1 []))
theorem plc_ok {ls : LL} {i : Nat} (hi : i ≤ ls.flatten.length) (hn : ls.length ≠ 0) (hp : ∀ l, l ∈ ls → 1 ≤ l.length) : ∃ l, ls[(plc ls i).1]? = some l ∧ (plc ls i).2 ≤ l.length ∧ ls.flatten = (ls.take (plc ls i).1).flatten ++ (l ++ (ls.drop ((plc ls i).1 + 1)).flatten) ∧ i = (ls.take (plc ls i).1).flatten.length + (plc ls i).2 := by
  unfold plc
  by_cases h0 : i = 0
  · rw [if_pos h0]
    cases ls with
    | nil => exact absurd rfl hn
    | cons l ls => exact ⟨l, rfl, Nat.zero_le _, by simp, by simp [h0]⟩
  · rw [if_neg h0]
    obtain ⟨l, k1, k2, k3, k4⟩ := loc_ok (ls := ls) (i := i - 1) (by omega) hp
    exact ⟨l, k1, by omega, k3, by simp only []; omega⟩
theorem set_at {ls : LL} {k : Nat} {l l' : List Bool} (h : ls[k]? = some l) : ls.set k l' = ls.take k ++ l' :: ls.drop (k + 1) := by
  rw [List.set_eq_take_append_cons_drop, if_pos (at_lt h)]
theorem halv_fl {ls : LL} {k : Nat} : (halv ls k).flatten = ls.flatten := by
  cases h : ls[k]? with
  | none => unfold halv; rw [h]
  | some l =>
    have e := split_at h
    conv => rhs; rw [e]
    rw [halv_eq h, List.flatten_append, List.flatten_append, List.flatten_cons, List.flatten_cons, List.flatten_cons, ← List.append_assoc (l.take _), List.take_append_drop]
theorem insB_mid {A l B : List Bool} {o : Nat} {b : Bool} (ho : o ≤ l.length) : insB (A.length + o) b (A ++ (l ++ B)) = A ++ (insB o b l ++ B) := by
  unfold insB
  rw [List.take_append, List.take_of_length_le (by omega), List.drop_append, List.drop_of_length_le (by omega), Nat.add_sub_cancel_left, List.take_append_of_le_length ho, List.drop_append_of_le_length ho]
  simp
theorem getD_at {ls : LL} {k : Nat} {l : List Bool} (h : ls[k]? = some l) : ls.getD k [] = l := by
  rw [List.getD_eq_getElem?_getD, h]; rfl
theorem putL_fl {low : Nat} {ls : LL} {k : Nat} {l : List Bool} : (putL low ls k l).flatten = (ls.set k l).flatten := by
  unfold putL
  by_cases h : 2 * low < l.length
  · rw [if_pos h, halv_fl]
  · rw [if_neg h]
theorem insL_fl {low i : Nat} {b : Bool} {ls : LL} (hi : i ≤ ls.flatten.length) (hp : ∀ l, l ∈ ls → 1 ≤ l.length) : (insL low i b ls).flatten = insB i b ls.flatten := by
  unfold insL
  by_cases hn : ls.length = 0
  · rw [if_pos hn]
    have : ls = [] := List.length_eq_zero_iff.mp hn
    subst this
    have : i = 0 := by simpa using hi
    subst this
    rfl
  · rw [if_neg hn]
    obtain ⟨l, k1, k2, k3, k4⟩ := plc_ok hi hn hp
    rw [putL_fl, getD_at k1, set_at k1, List.flatten_append, List.flatten_cons]
    have h9 := insB_mid (A := (ls.take (plc ls i).1).flatten) (l := l) (B := (ls.drop ((plc ls i).1 + 1)).flatten) (b := b) k2
    rw [← k4, ← k3] at h9
    rw [h9]
theorem halv_len {ls : LL} {k : Nat} {l : List Bool} (h : ls[k]? = some l) : (halv ls k).length = ls.length + 1 := by
  have := at_lt h
  rw [halv_eq h, List.length_append, List.length_cons, List.length_cons, List.length_take, List.length_drop]
  omega
theorem set_self_at {ls : LL} {k : Nat} {l l' : List Bool} (h : ls[k]? = some l) : (ls.set k l')[k]? = some l' := List.getElem?_set_self (at_lt h)
theorem insL_ok {low i : Nat} {b : Bool} {ls : LL} (B : LsB low ls) (hi : i ≤ ls.flatten.length) (ht : ls.flatten.length < 600) : LsB low (insL low i b ls) := by
  have hp : ∀ l, l ∈ ls → 1 ≤ l.length := fun l hl => (B.leaf hl).1
  have hf := insL_fl (low := low) (b := b) hi hp
  refine ⟨B.1, by rw [hf, insB_len]; omega, ?_⟩
  have b1 := B.1
  unfold insL
  by_cases hn : ls.length = 0
  · rw [if_pos hn]
    intro l hl
    rw [List.mem_singleton.mp hl]
    exact ⟨Nat.le_refl _, by simp; omega, fun q => by simp at q⟩
  · rw [if_neg hn]
    obtain ⟨l, k1, k2, k3, k4⟩ := plc_ok hi hn hp
    rw [getD_at k1]
    have hl1 := insB_len (i := (plc ls i).2) (b := b) (l := l)
    have hm := B.2.2 l (List.mem_of_getElem? k1)
    unfold putL
    by_cases hc : 2 * low < (insB (plc ls i).2 b l).length
    · rw [if_pos hc]
      have k1' := set_self_at (l' := insB (plc ls i).2 b l) k1
      rw [halv_eq k1']
      intro x hx
      rw [List.mem_append, List.mem_cons, List.mem_cons] at hx
      rcases hx with hx | hx | hx | hx
      · have hx1 : x ∈ ls := by
          rw [List.take_set_of_le (Nat.le_refl _)] at hx
          exact List.mem_of_mem_take hx
        have := B.2.2 x hx1
        refine ⟨this.1, this.2.1, fun _ => this.2.2 ?_⟩
        have : 1 ≤ (plc ls i).1 := by
          refine Nat.one_le_iff_ne_zero.mpr fun q => ?_
          rw [q] at hx
          simp at hx
        have := at_lt k1
        omega
      · rw [hx, List.length_take]; omega
      · rw [hx, List.length_drop]; omega
      · have hx1 : x ∈ ls := by
          rw [List.drop_set_of_lt (by omega)] at hx
          exact List.mem_of_mem_drop hx
        have := B.2.2 x hx1
        refine ⟨this.1, this.2.1, fun _ => this.2.2 ?_⟩
        have h1 : (ls.set (plc ls i).1 (insB (plc ls i).2 b l)).drop ((plc ls i).1 + 1) ≠ [] := fun q => by rw [q] at hx; cases hx
        have h2 : (plc ls i).1 + 1 < ls.length := by
          refine Nat.lt_of_not_le fun q => h1 ?_
          exact List.drop_of_length_le (by rw [List.length_set]; exact q)
        omega
    · rw [if_neg hc]
      intro x hx
      rw [List.length_set]
      rcases List.mem_or_eq_of_mem_set hx with hx | hx
      · exact B.2.2 x hx
      · rw [hx]
        exact ⟨by omega, by omega, fun q => by have := hm.2.2 q; omega⟩
section
variable {own own' : Nat → Nat} {ρ : Nat} {h h' h1 h2 : PH} {w low nu p q : Nat} {row row' row1 : Nat → Option Nat} {ls : LL} {bt : Bool} {root : Option Nat}
theorem p_ins_j77 {k pl : Nat} {b : Bool} {l : List Bool} {mx t lt at_ : Int} (er : h.1 ρ = some (ropeC w none false low mx ls.length t lt at_)) (R : Row own ρ h w row) (L : Loose h row ls) (wf : Wf h) (r1 : own ρ = ρ) (hlow : low ≤ 32) (hn : ls.length ≤ 150) (hk : ls[k]? = some l) (hl : l.length ≤ 64) (hpl : pl ≤ l.length) : EV (c_R_insert_j77 h ρ (ii (bn b)) (ii k) (ii pl)) (fun h' => ∃ row', Row (ow own h.2.1.1 ρ) ρ h' w row' ∧ Loose h' row' (putL low ls k (insB pl b l)) ∧ h'.1 ρ = some (ropeC w none false low mx (putL low ls k (insB pl b l)).length t lt at_) ∧ RF own ρ h h' ∧ h'.2.1.1 + 2 * nul row' = h.2.1.1 + 2 * nul row ∧ h'.2.1.2 + 7 * nul row' = h.2.1.2 + 7 * nul row) := by
  have hk2 := at_lt hk
  obtain ⟨p, lp, ep⟩ := L k l hk
  have ew := R.1
  obtain ⟨o1, o2, -⟩ := R.2.2.1 _ p (by omega) lp
  refine EV.of ?_
  unfold c_R_insert_j77
  refine q_gQr er (by decide) rfl ?_
  refine q_nn ?_
  refine q_ldQn ew (by decide) (by omega) lp ?_
  refine q_nn ?_
  refine q_hV (s_insert ep hpl (by omega)) fun h7 ⟨g1, g2⟩ => ?_
  have er7 := g2.kd ep er rfl
  have R7 := R.only ep g1 g2
  have L7 := L.upd R (by omega) hk lp ep g1 g2
  have wf7 := g2.wf ep wf
  have rf7 := g2.rF ep o1 o2 wf
  have z7 : h7.2.1.1 = h.2.1.1 := by rw [g2.1]
  have z8 : h7.2.1.2 = h.2.1.2 := by rw [g2.1]
  obtain ⟨t7, c7⟩ := g1.ln
  have hl1 := insB_len (i := pl) (b := b) (l := l)
  refine q_gQr er7 (by decide) rfl ?_
  refine q_nn ?_
  refine q_ldQn R7.1 (by decide) (by omega) lp ?_
  refine q_nn ?_
  refine q_gI c7 (by decide) rfl ?_
  refine q_gI er7 (by decide) rfl ?_
  rw [il_2, ii_mul]
  by_cases hc : 2 * low < (insB pl b l).length
  · refine q_neg _ (ii_leF (by omega)) ?_
    have er7' : h7.1 ρ = some (ropeC w none false low mx (ls.set k (insB pl b l)).length t lt at_) := by rw [List.length_set]; exact er7
    refine q_hV (p_halve er7' R7 L7 wf7 r1 (by rw [List.length_set]; exact hn) (set_self_at hk) (by omega)) fun h16 ⟨row', q1, q2, q3, q4, q5, q6⟩ => ?_
    have e1 : putL low ls k (insB pl b l) = halv (ls.set k (insB pl b l)) k := by unfold putL; rw [if_pos hc]
    rw [z7] at q1
    refine q_rV ⟨rfl, row', q1, by rw [e1]; exact q2, ?_, rf7.trans q4, by omega, by omega⟩
    rw [e1, halv_len (set_self_at hk)]
    exact q3
  · refine q_pos _ (ii_leT (by omega)) ?_
    have e1 : putL low ls k (insB pl b l) = ls.set k (insB pl b l) := by unfold putL; rw [if_neg hc]
    refine q_rV ⟨rfl, row, R7.ow fun x c hx => ow_lt (by have := wf7.lt hx; omega), by rw [e1]; exact L7, by rw [e1, List.length_set]; exact er7, rf7, by omega, by omega⟩
theorem p_insert {i : Nat} {b : Bool} (R : RP own ρ h low ls nu bt) (wf : Wf h) (hi : i ≤ ls.flatten.length) (ht : ls.flatten.length < 600) : EV (c_R_insert h ρ (ii i) (ii (bn b))) (fun h' => ∃ nu', RP (ow own h.2.1.1 ρ) ρ h' low (insL low i b ls) nu' false ∧ RF own ρ h h' ∧ h'.2.1.1 + 2 * nu' = h.2.1.1 + 2 * nu ∧ h'.2.1.2 + 7 * nu' = h.2.1.2 + 7 * nu) := by
  have hbd := R.bnd
  obtain ⟨w0, root0, mx0, at0, e0⟩ := R.cell
  have hp : ∀ l, l ∈ ls → 1 ≤ l.length := fun l hl => (R.2.1.leaf hl).1
  have B' := insL_ok (b := b) R.2.1 hi ht
  have F' := insL_fl (low := low) (b := b) hi hp
  have c1 := insB_cnt (i := i) (b := b) (l := ls.flatten)
  have c2 := insB_len (i := i) (b := b) (l := ls.flatten)
  refine EV.of ?_
  unfold c_R_insert
  refine q_grd e0 (by decide) ?_
  refine q_hV (p_loosen R wf) fun h1 ⟨R1, f1, z1⟩ => ?_
  obtain ⟨r1, r2, w, row, root, mx, at_, r3, r4, r5, r6, r7⟩ := R1
  obtain ⟨r8, L⟩ := r7 rfl
  subst r8
  have wf1 := f1.wf
  refine q_gI r5 (by decide) rfl ?_
  refine q_pI r5 (by decide) (Nat.le_of_ble_eq_true rfl) ?_
  refine q_gI up_eq (by decide) rfl ?_
  refine q_pI up_eq (by decide) (Nat.le_of_ble_eq_true rfl) ?_
  refine q_gI up_eq (by decide) rfl ?_
  rw [hset_hset, il_1, ii_add, ii_add]
  have x1 : ((ls.flatten.length : Int) + 1) = ((insL low i b ls).flatten.length : Int) := by rw [F', c2]; omega
  have x2 : ((cnt ls.flatten : Int) + bn b) = (cnt (insL low i b ls).flatten : Int) := by rw [F', c1]
  rw [x1, x2]
  have nx : ∀ c, ∀ x d, x ≠ ρ → h1.1 x = some d → (hset h1 ρ c).1 x = some d := fun c x d n e => up_nx n e
  have z11 : h1.2.1.1 = h.2.1.1 := by rw [z1]
  have z12 : h1.2.1.2 = h.2.1.2 := by rw [z1]
  obtain ⟨C, hC⟩ : ∃ c, c = ropeC w none false low mx ls.length (insL low i b ls).flatten.length (cnt (insL low i b ls).flatten) at_ := ⟨_, rfl⟩
  have eC : (Sum.inr (4, List.set (List.set [Value.ref w, va_rf none, .int (ii (bn false)), .int (ii low), .int (ii mx), .int (ii ls.length), .int (ii ls.flatten.length), .int (ii (cnt ls.flatten)), .int (ii at_)] 6 (.int (ii (insL low i b ls).flatten.length))) 7 (.int (ii (cnt (insL low i b ls).flatten)))) : PC) = C := by rw [hC]; rfl
  rw [eC]
  have er5 : (hset h1 ρ C).1 ρ = some (ropeC w none false low mx ls.length (insL low i b ls).flatten.length (cnt (insL low i b ls).flatten) at_) := by rw [up_eq, hC]
  have R5 := r3.bf (h' := hset h1 ρ C) r5 (nx C)
  have L5 := L.bf (h' := hset h1 ρ C) r5 (nx C)
  have wf5 : Wf (hset h1 ρ C) := wf1.setE r5
  have rf5 : RF own ρ h (hset h1 ρ C) := f1.trans (RF.set wf1 r5 r1 rfl)
  have z5 : (hset h1 ρ C).2.1.1 = h.2.1.1 := z11
  have z6 : (hset h1 ρ C).2.1.2 = h.2.1.2 := z12
  generalize hset h1 ρ C = H at *
  by_cases hn : ls.length = 0
  · refine q_pos _ (by rw [hn]; rfl) ?_
    have hI : insL low i b ls = [[b]] := by unfold insL; rw [if_pos hn]
    refine q_hQ (s_fresh (k := 0) er5 rfl R5 wf5 r1 (by decide)) fun v h9 ⟨a, row1, g1, ek, ej, Ra, La, er9, fr, rf9, y1, y2⟩ => ?_
    subst g1
    refine q_nn ?_
    obtain ⟨o1, o2, -⟩ := Ra.2.2.1 0 a (by decide) ek
    have wf9 := rf9.wf
    refine q_hV (s_insert (k := 0) (b := b) La (Nat.zero_le _) (by decide)) fun h13 ⟨g1, g2⟩ => ?_
    have er13 := g2.kd La er9 rfl
    have wf13 := g2.wf La wf9
    have R13 := Ra.only La g1 g2
    refine q_pI er13 (by decide) (Nat.le_of_ble_eq_true rfl) ?_
    rw [z5] at R13 o1 o2
    have own1 : ow own h.2.1.1 ρ ρ = ρ := by
      by_cases q : ρ < h.2.1.1
      · rw [ow_lt q]; exact r1
      · rw [ow_ge (by omega)]
    have nx9 : ∀ c, ∀ x d, x ≠ ρ → h13.1 x = some d → (hset h13 ρ c).1 x = some d := fun c x d n e => up_nx n e
    have rf13 : RF (ow own h.2.1.1 ρ) ρ h9 h13 := g2.rF La o1 o2 wf9
    refine q_rV ⟨rfl, nul row1, ⟨own1, B', w, row1, none, mx, at_, R13.bf er13 (nx9 _), rfl, ?_, (fun q => by cases q), fun _ => ⟨rfl, ?_⟩⟩, ?_, ?_, ?_⟩
    · rw [up_eq, hI]; rfl
    · rw [hI]
      intro k l e
      cases k with
      | zero =>
        injection e with e
        rw [← e]
        refine ⟨a, ek, ?_⟩
        have ne := leafE_ne g1.e er13
        exact LeafL.frame (show LeafL h13 a [b] from g1) fun x d hx hc => up_nx (by rcases hx with hx | hx <;> (rw [hx]; first | exact ne.1 | exact ne.2)) hc
      | succ k => cases e
    · exact rf_ow2 (rf5.trans rf9) wf (rf13.trans (RF.set wf13 er13 own1 rfl))
    · show h13.2.1.1 + _ = _
      rw [g2.1, r4]; omega
    · show h13.2.1.2 + _ = _
      rw [g2.1, r4]; omega
  · refine q_neg _ (ii_eq0F (by omega)) ?_
    obtain ⟨l, k1, k2, k3, k4⟩ := plc_ok hi hn hp
    have hI : insL low i b ls = putL low ls (plc ls i).1 (insB (plc ls i).2 b l) := by unfold insL; rw [if_neg hn, getD_at k1]
    have hll := R.2.1.leaf (List.mem_of_getElem? k1)
    have lowb := R.2.1.1
    have own1 : ow own h.2.1.1 ρ ρ = ρ := by
      by_cases q : ρ < h.2.1.1
      · rw [ow_lt q]; exact r1
      · rw [ow_ge (by omega)]
    have fin : ∀ (H' : PH) (at' : Int), H'.1 ρ = some (ropeC w none false low mx ls.length (insL low i b ls).flatten.length (cnt (insL low i b ls).flatten) at') → Row own ρ H' w row → Loose H' row ls → Wf H' → RF own ρ h H' → H'.2 = H.2 → Ends (c_R_insert_j77 H' ρ (ii (bn b)) (ii (plc ls i).1) (ii (plc ls i).2)) (fun r h' => r = .inl none ∧ ∃ nu', RP (ow own h.2.1.1 ρ) ρ h' low (insL low i b ls) nu' false ∧ RF own ρ h h' ∧ h'.2.1.1 + 2 * nu' = h.2.1.1 + 2 * nu ∧ h'.2.1.2 + 7 * nu' = h.2.1.2 + 7 * nu) := by
      intro H' at' e1 e2 e3 e4 e5 e6
      have y1 : H'.2.1.1 = h.2.1.1 := by rw [e6]; exact z5
      have y2 : H'.2.1.2 = h.2.1.2 := by rw [e6]; exact z6
      refine Ends.ofEV (p_ins_j77 (b := b) e1 e2 e3 e4 r1 (by omega) (by omega) k1 (by omega) k2) fun h' ⟨row', q1, q2, q3, q4, q5, q6⟩ => ⟨rfl, nul row', ?_, e5.trans q4, by omega, by omega⟩
      rw [← hI] at q2 q3
      rw [y1] at q1
      exact ⟨own1, B', w, row', none, mx, at', q1, rfl, q3, (fun q => by cases q), fun _ => ⟨rfl, q2⟩⟩
    by_cases h0 : i = 0
    · refine q_pos _ (by rw [h0]; rfl) ?_
      unfold c_R_insert_j62
      refine q_pos _ (by rw [h0]; rfl) ?_
      have ep : plc ls i = (0, 0) := by unfold plc; rw [if_pos h0]
      rw [ep] at fin
      exact fin H at_ er5 R5 L5 wf5 rf5 rfl
    · refine q_neg _ (ii_eq0F (by omega)) ?_
      have ep : plc ls i = ((loc ls (i - 1)).1, (loc ls (i - 1)).2 + 1) := by unfold plc; rw [if_neg h0]
      have x3 : ii (i : Int) - ii 1 = ii ((i - 1 : Nat) : Int) := by rw [ii_sub]; congr 1; omega
      rw [x3]
      refine q_hI (s_leafOf er5 R5.1 L5 (by omega) (by omega)) fun v h7 ⟨g1, g2⟩ => ?_
      subst g1
      unfold c_R_insert_j62
      refine q_neg _ (ii_eq0F (by omega)) ?_
      have er7 : h7.1 ρ = some (ropeC w none false low mx ls.length (insL low i b ls).flatten.length (cnt (insL low i b ls).flatten) (loc ls (i - 1)).2) := by rw [g2, up_eq]
      refine q_gI er7 (by decide) rfl ?_
      have x4 : ii ((loc ls (i - 1)).2 : Int) + (1 : Int32) = ii (((loc ls (i - 1)).2 + 1 : Nat) : Int) := by rw [il_1, ii_add]; congr 1
      rw [x4]
      rw [ep] at fin
      subst g2
      exact fin _ _ er7 (R5.bf er5 (fun x d n e => up_nx n e)) (L5.bf er5 (fun x d n e => up_nx n e)) (wf5.setE er5) (rf5.trans (RF.set wf5 er5 r1 rfl)) rfl
end
