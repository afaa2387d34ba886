/-! PURE SIDE: ropes, leaves split and merged -/
set_option maxRecDepth 100000
def halv (ls : LL) (k : Nat) : LL := match ls[k]? with
  | none => ls
  | some l => ls.take k ++ l.take ((l.length + 1) / 2) :: l.drop ((l.length + 1) / 2) :: ls.drop (k + 1)
def mrg (low : Nat) (ls : LL) (k : Nat) : LL := match ls[k]?, ls[k + 1]? with
  | some a, some c => if 2 * low < a.length + c.length then ls.take k ++ (a ++ c).take ((a.length + c.length + 1) / 2) :: (a ++ c).drop ((a.length + c.length + 1) / 2) :: ls.drop (k + 2) else ls.take k ++ (a ++ c) :: ls.drop (k + 2)
  | _, _ => ls
theorem halv_eq {ls : LL} {k : Nat} {l : List Bool} (h : ls[k]? = some l) : halv ls k = ls.take k ++ l.take ((l.length + 1) / 2) :: l.drop ((l.length + 1) / 2) :: ls.drop (k + 1) := by
  unfold halv
  rw [h]
theorem mrg_eq {low : Nat} {ls : LL} {k : Nat} {a c : List Bool} (h : ls[k]? = some a) (h2 : ls[k + 1]? = some c) : mrg low ls k = if 2 * low < a.length + c.length then ls.take k ++ (a ++ c).take ((a.length + c.length + 1) / 2) :: (a ++ c).drop ((a.length + c.length + 1) / 2) :: ls.drop (k + 2) else ls.take k ++ (a ++ c) :: ls.drop (k + 2) := by
  unfold mrg
  rw [h, h2]
def sgH (k n j : Nat) : Nat := if j = k + 1 then n else if k + 2 ≤ j ∧ j ≤ n then j - 1 else j
theorem sgH_inj {k n i j : Nat} (h : k + 1 ≤ n) (e : sgH k n i = sgH k n j) : i = j := by
  unfold sgH at e
  repeat' split at e
  all_goals omega
theorem sgH_lt {k n j : Nat} (h : n < 152) (hj : j < 152) : sgH k n j < 152 := by
  unfold sgH
  repeat' split
  all_goals omega
def sgM (k n j : Nat) : Nat := if j + 1 = n then k + 1 else if k + 1 ≤ j ∧ j + 1 < n then j + 1 else j
theorem sgM_inj {k n i j : Nat} (h : k + 2 ≤ n) (e : sgM k n i = sgM k n j) : i = j := by
  unfold sgM at e
  repeat' split at e
  all_goals omega
theorem sgM_lt {k n j : Nat} (h : n < 152) (hk : k + 2 ≤ n) (hj : j < 152) : sgM k n j < 152 := by
  unfold sgM
  repeat' split
  all_goals omega
section
variable {own own' : Nat → Nat} {ρ : Nat} {h h' h2 : PH} {w low nu : Nat} {row row' row1 : Nat → Option Nat} {ls : LL} {bt : Bool} {root : Option Nat}
theorem rf_ow2 {h1 : PH} (o : RF own ρ h h1) (wf : Wf h) (k : RF (ow own h.2.1.1 ρ) ρ h1 h') : RF own ρ h h' := ⟨Nat.le_trans o.1 k.1, Nat.le_trans o.2.1 k.2.1, k.2.2.1.trans o.2.2.1, k.2.2.2.1, fun x c e q => k.2.2.2.2 x c (o.2.2.2.2 x c e q) (by rw [ow_lt (wf.lt e)]; exact q)⟩
theorem q_cpQ2 {a sp dp n t l : Nat} {f : Nat → Option Nat} {K : PH → Option RH} {Q : Rt → PH → Prop} (e : h.1 a = some (.inl (t, l, .inr (.inr (.inr (.inr f)))))) (h1 : sp + n ≤ l) (h2 : dp + n ≤ l) (h3 : elsOk h t f sp n = true) (kk : Ends (K (hset h a (.inl (t, l, .inr (.inr (.inr (.inr (va_cpy f f sp dp n)))))))) Q) (ht : 4 ≤ t ∧ t < 13 := by decide) (hl : l ≤ 1000 := by decide) : Ends (cpQ2 h a a (ii sp) (ii dp) (ii n) K) Q := by
  have : cpQ2 h a a (ii sp) (ii dp) (ii n) K = K (hset h a (.inl (t, l, .inr (.inr (.inr (.inr (va_cpy f f sp dp n))))))) := by
    unfold cpQ2
    rw [if_pos rfl]
    unfold cpQ aQ
    rw [e]
    show (if 4 ≤ t ∧ t < 13 then _ else none) = _
    rw [if_pos ht, ii_toNat (by omega), ii_toNat (by omega), ii_toNat (by omega), Int.toNat_natCast, Int.toNat_natCast, Int.toNat_natCast]
    dsimp only
    rw [if_neg]
    rintro (q | q | q | q | q | q)
    · exact ii_ltF (b := 0) (by omega) q
    · exact ii_ltF (b := 0) (by omega) q
    · exact ii_ltF (b := 0) (by omega) q
    · omega
    · omega
    · rw [h3] at q; cases q
  rw [this]; exact kk
theorem Row.els {sp n : Nat} (R : Row own ρ h w row) (hn : sp + n ≤ 152) : elsOk h 4 row sp n = true := by
  unfold elsOk
  rw [List.all_eq_true]
  intro i hi
  have hi := List.mem_range.mp hi
  cases hr : row (sp + i) with
  | none => rfl
  | some y =>
    obtain ⟨-, -, m, oo, t, wd, d1, d2⟩ := R.2.2.1 (sp + i) y (by omega) hr
    show (match h.1 y with | some c => okS 4 c | none => false) = true
    rw [d1]
    rfl
theorem Row.perm {σ : Nat → Nat} (R : Row own ρ h w row) (hs : ∀ j, j < 152 → row' j = row (σ j) ∧ σ j < 152) (inj : ∀ i j, i < 152 → j < 152 → σ i = σ j → i = j) : Row own ρ (hset h w (.inl (4, 152, .inr (.inr (.inr (.inr row')))))) w row' := by
  obtain ⟨s1, s2, s3, s4⟩ := R
  refine ⟨up_eq, s2, fun k a hk e => ?_, fun i j a hi hj ei ej => ?_⟩
  · obtain ⟨q1, q2⟩ := hs k hk
    rw [q1] at e
    obtain ⟨a1, a2, a3⟩ := s3 _ a q2 e
    have a3' := a3
    obtain ⟨n', oo', t', wd', d1, d2⟩ := a3'
    have m1 : a ≠ w := fun q => by rw [q, s1] at d1; cases d1
    have m2 : a + 1 ≠ w := fun q => by rw [q, s1] at d2; injection d2 with d2; injection d2 with d2; injection d2 with d2; cases d2
    exact ⟨a1, a2, a3.frame fun x c hx e => up_nx (by rcases hx with hx | hx <;> (rw [hx]; assumption)) e⟩
  · obtain ⟨q1, q2⟩ := hs i hi
    obtain ⟨q3, q4⟩ := hs j hj
    rw [q1] at ei
    rw [q3] at ej
    exact inj i j hi hj (s4 _ _ a q2 q4 ei ej)
theorem leafL_w {p : Nat} {l : List Bool} {c : PC} {f : Nat → Option Nat} (e : LeafL h p l) (ew : h.1 w = some (.inl (4, 152, .inr (.inr (.inr (.inr f)))))) : LeafL (hset h w c) p l := by
  have e' := e
  obtain ⟨a1, g, ⟨s, v, g1, g2, g3⟩, a3⟩ := e'
  have m1 : p ≠ w := fun q => by rw [q, ew] at g1; cases g1
  have m2 : p + 1 ≠ w := fun q => by rw [q, ew] at g2; injection g2 with g2; injection g2 with g2; injection g2 with g2; cases g2
  exact e.frame fun x c hx e => up_nx (by rcases hx with hx | hx <;> (rw [hx]; assumption)) e
theorem Loose.fresh {k a : Nat} (L : Loose h row ls) (R : Row own ρ h w row) (R1 : Row own' ρ h2 w row1) (hk : ls.length ≤ k) (hk2 : k < 152) (ek : row1 k = some a) (ej : ∀ j, j ≠ k → row1 j = row j) (fr : ∀ x c, x ≠ w → x ≠ a → x ≠ a + 1 → h.1 x = some c → h2.1 x = some c) : Loose h2 row1 ls := by
  intro j l e
  have hj := at_lt e
  obtain ⟨p, e1, e2⟩ := L j l e
  have ew := R.1
  have p1 : row1 j = some p := by rw [ej j (by omega)]; exact e1
  refine ⟨p, p1, ?_⟩
  obtain ⟨-, -, n1, o1, t1, w1, b1, b2⟩ := R1.2.2.1 j p (by omega) p1
  obtain ⟨-, -, n2, o2, t2, w2, c1, c2⟩ := R1.2.2.1 k a hk2 ek
  have m1 : p ≠ a := fun q => by
    rw [q] at p1
    have := R1.2.2.2 j k a (by omega) hk2 p1 ek
    omega
  have m2 : p ≠ a + 1 := fun q => by rw [q, c2] at b1; cases b1
  have m3 : p + 1 ≠ a := fun q => by rw [q, c1] at b2; cases b2
  have e2' := e2
  obtain ⟨a1, g, ⟨s, v, g1, g2, g3⟩, a3⟩ := e2'
  have m4 : p ≠ w := fun q => by rw [q, ew] at g1; cases g1
  have m5 : p + 1 ≠ w := fun q => by rw [q, ew] at g2; injection g2 with g2; injection g2 with g2; injection g2 with g2; cases g2
  refine e2.frame fun x c hx e => ?_
  rcases hx with hx | hx
  · exact fr x c (by rw [hx]; exact m4) (by rw [hx]; exact m1) (by rw [hx]; exact m2) e
  · exact fr x c (by rw [hx]; exact m5) (by rw [hx]; exact m3) (by rw [hx]; omega) e
theorem p_halve {k : Nat} {l : List Bool} {mx t lt at_ : Int} (er : h.1 ρ = some (ropeC w none false low mx ls.length t lt at_)) (R : Row own ρ h w row) (L : Loose h row ls) (wf : Wf h) (r1 : own ρ = ρ) (hn : ls.length ≤ 150) (hk : ls[k]? = some l) (hl : l.length ≤ 128) : EV (c_R_halve h ρ (ii k)) (fun h' => ∃ row', Row (ow own h.2.1.1 ρ) ρ h' w row' ∧ Loose h' row' (halv ls k) ∧ h'.1 ρ = some (ropeC w none false low mx (ls.length + 1 : Nat) t lt at_) ∧ RF own ρ h h' ∧ h'.2.1.1 + 2 * nul row' = h.2.1.1 + 2 * nul row ∧ h'.2.1.2 + 7 * nul row' = h.2.1.2 + 7 * nul row) := by
  have hk2 := at_lt hk
  refine EV.of ?_
  unfold c_R_halve
  refine q_grd er (by decide) ?_
  refine q_gI er (by decide) rfl ?_
  refine q_hQ (s_fresh er rfl R wf r1 (show ls.length < 152 by omega)) fun v h2 ⟨a, row1, g1, ek, ej, R1, La, er2, fr, rf2, z1, z2⟩ => ?_
  subst g1
  have L2 := L.fresh R R1 (Nat.le_refl _) (by omega) ek ej fr
  have ew2 := R1.1
  have wf2 := rf2.wf
  obtain ⟨p, lp, el⟩ := L2 k l hk
  obtain ⟨o1, o2, -⟩ := R1.2.2.1 _ a (by omega) ek
  obtain ⟨o3, o4, -⟩ := R1.2.2.1 _ p (by omega) lp
  have hpa : p ≠ a := fun q => by
    rw [q] at lp
    have := R1.2.2.2 k ls.length a (by omega) (by omega) lp ek
    omega
  have hw : w ≠ ρ := fun q => by have := R.1; rw [q, er] at this; cases this
  refine q_gQr er2 (by decide) rfl ?_
  refine q_gQr er2 (by decide) rfl ?_
  refine q_gI er2 (by decide) rfl ?_
  refine q_nn ?_
  refine q_nn ?_
  simp only [il_1, il_2, ii_add, ii_sub]
  have x1 : ((k : Int) + 1) = ((k + 1 : Nat) : Int) := by omega
  have x2 : ((k : Int) + 2) = ((k + 2 : Nat) : Int) := by omega
  have x3 : ((ls.length : Int) - k - 1) = ((ls.length - k - 1 : Nat) : Int) := by omega
  rw [x1, x2, x3]
  refine q_cpQ2 ew2 (by omega) (by omega) (R1.els (by omega)) ?_
  refine q_gQr (up_nx hw.symm er2) (by decide) rfl ?_
  refine q_nn ?_
  obtain ⟨ta, ea⟩ := La.ln
  have aw : a ≠ w := fun q => by rw [q, ew2] at ea; cases ea
  refine q_stQ up_eq (by decide) (by omega) (up_nx aw ea) rfl ?_
  rw [hset_hset, Int.toNat_natCast]
  obtain ⟨row3, hrow3⟩ : ∃ r, r = va_up (va_cpy row1 row1 (k + 1) (k + 2) (ls.length - k - 1)) (k + 1) (some a) := ⟨_, rfl⟩
  rw [← hrow3]
  have R3 : Row (ow own h.2.1.1 ρ) ρ (hset h2 w (.inl (4, 152, .inr (.inr (.inr (.inr row3)))))) w row3 := by
    refine R1.perm (σ := sgH k ls.length) (fun j hj => ⟨?_, sgH_lt (by omega) hj⟩) (fun i j _ _ e => sgH_inj (by omega) e)
    rw [hrow3]
    unfold sgH
    by_cases q1 : j = k + 1
    · rw [if_pos q1, q1, va_up_self, ek]
    · rw [va_up_ne _ _ q1, if_neg q1]
      unfold va_cpy
      by_cases q2 : k + 2 ≤ j ∧ j ≤ ls.length
      · rw [if_pos q2, if_pos (by omega)]
        congr 1; omega
      · rw [if_neg q2, if_neg (by omega)]
  have r3a : row3 (k + 1) = some a := by rw [hrow3, va_up_self]
  have r3b : ∀ j, j ≤ k → row3 j = row1 j := fun j hj => by
    rw [hrow3, va_up_ne _ _ (by omega)]
    unfold va_cpy
    rw [if_neg (by omega)]
  have r3c : ∀ j, k + 2 ≤ j → j ≤ ls.length → row3 j = row1 (j - 1) := fun j hj hj2 => by
    rw [hrow3, va_up_ne _ _ (by omega)]
    unfold va_cpy
    rw [if_pos (by omega)]
    congr 1; omega
  have r3d : ∀ j, ls.length < j → row3 j = row1 j := fun j hj => by
    rw [hrow3, va_up_ne _ _ (by omega)]
    unfold va_cpy
    rw [if_neg (by omega)]
  have some1 : ∀ j, j < ls.length → ∃ q, row1 j = some q := fun j hj => by
    obtain ⟨q, q1, -⟩ := L2 j _ (List.getElem?_eq_getElem hj)
    exact ⟨q, q1⟩
  have nul3 : nul row3 = nul row1 := nul_congr fun j hj => by
    by_cases q1 : ls.length < j
    · rw [r3d j q1]
    · have s1 : (row1 j).isNone = false := by
        by_cases q2 : j = ls.length
        · rw [q2, ek]; rfl
        · obtain ⟨q, e⟩ := some1 j (by omega)
          rw [e]; rfl
      rw [s1]
      by_cases q2 : j ≤ k
      · rw [r3b j q2, s1]
      · by_cases q3 : j = k + 1
        · rw [q3, r3a]; rfl
        · rw [r3c j (by omega) (by omega)]
          obtain ⟨q, e⟩ := some1 (j - 1) (by omega)
          rw [e]; rfl
  have gp : ∀ c, (hset (hset h2 w (.inl (4, 152, .inr (.inr (.inr (.inr row3)))))) ρ c).1 w = some (.inl (4, 152, .inr (.inr (.inr (.inr row3))))) := fun c => up_nx hw up_eq
  have er3 : (hset h2 w (.inl (4, 152, .inr (.inr (.inr (.inr row3)))))).1 ρ = _ := up_nx hw.symm er2
  refine q_gI er3 (by decide) rfl ?_
  refine q_pI er3 (by decide) (Nat.le_of_ble_eq_true rfl) ?_
  rw [ii_add]
  have x4 : ((ls.length : Int) + 1) = ((ls.length + 1 : Nat) : Int) := by omega
  rw [x4]
  have nx : ∀ c, ∀ x d, x ≠ ρ → (hset h2 w (.inl (4, 152, .inr (.inr (.inr (.inr row3)))))).1 x = some d → (hset (hset h2 w (.inl (4, 152, .inr (.inr (.inr (.inr row3)))))) ρ c).1 x = some d := fun c x d n e => up_nx n e
  have R4 : ∀ c, Row (ow own h.2.1.1 ρ) ρ (hset (hset h2 w (.inl (4, 152, .inr (.inr (.inr (.inr row3)))))) ρ c) w row3 := fun c => R3.bf er3 (nx c)
  have lf : ∀ c q m, LeafL h2 q m → LeafL (hset (hset h2 w (.inl (4, 152, .inr (.inr (.inr (.inr row3)))))) ρ c) q m := fun c q m e => by
    have e1 := leafL_w (c := .inl (4, 152, .inr (.inr (.inr (.inr row3))))) e ew2
    have ne := leafE_ne e1.e er3
    exact e1.frame fun x d hx hc => up_nx (by rcases hx with hx | hx <;> (rw [hx]; first | exact ne.1 | exact ne.2)) hc
  have wf4 : ∀ c, Wf (hset (hset h2 w (.inl (4, 152, .inr (.inr (.inr (.inr row3)))))) ρ c) := fun c => (wf2.setE ew2).setE er3
  have hlt : (ls.take (k + 1)).length = k + 1 := by rw [List.length_take]; omega
  have L4 : ∀ c, Loose (hset (hset h2 w (.inl (4, 152, .inr (.inr (.inr (.inr row3)))))) ρ c) row3 (ls.take (k + 1) ++ [] :: ls.drop (k + 1)) := by
    intro c j m e
    by_cases q1 : j < k + 1
    · rw [List.getElem?_append_left (by omega), List.getElem?_take_of_lt q1] at e
      obtain ⟨q, e1, e2⟩ := L2 j m e
      exact ⟨q, by rw [r3b j (by omega)]; exact e1, lf c q m e2⟩
    · rw [List.getElem?_append_right (by omega), hlt] at e
      by_cases q2 : j = k + 1
      · rw [q2, Nat.sub_self] at e
        injection e with e
        rw [← e, q2]
        exact ⟨a, r3a, lf c a [] La⟩
      · obtain ⟨y, hy⟩ : ∃ y, j - (k + 1) = y + 1 := ⟨j - (k + 2), by omega⟩
        rw [hy, List.getElem?_cons_succ, List.getElem?_drop] at e
        have hy2 := at_lt e
        have e3 : ls[j - 1]? = some m := by rw [← e]; congr 1; omega
        obtain ⟨q, e1, e2⟩ := L2 (j - 1) m e3
        exact ⟨q, by rw [r3c j (by omega) (by omega)]; exact e1, lf c q m e2⟩
  obtain ⟨c4, hc4⟩ : ∃ c, c = ropeC w none false low mx (ls.length + 1 : Nat) t lt at_ := ⟨_, rfl⟩
  have ec4 : (Sum.inr (4, List.set [Value.ref w, va_rf none, .int (ii (bn false)), .int (ii low), .int (ii mx), .int (ii ls.length), .int (ii t), .int (ii lt), .int (ii at_)] 5 (.int (ii (ls.length + 1 : Nat)))) : PC) = c4 := by rw [hc4]; rfl
  rw [ec4]
  have lp3 : row3 k = some p := by rw [r3b k (Nat.le_refl _)]; exact lp
  have er4 : (hset (hset h2 w (.inl (4, 152, .inr (.inr (.inr (.inr row3)))))) ρ c4).1 ρ = some (ropeC w none false low mx (ls.length + 1 : Nat) t lt at_) := by rw [up_eq, hc4]
  have R4 := R4 c4
  have L4 := L4 c4
  have wf4 := wf4 c4
  have ew4 := gp c4
  have rf4 : RF (ow own h.2.1.1 ρ) ρ h2 (hset (hset h2 w (.inl (4, 152, .inr (.inr (.inr (.inr row3)))))) ρ c4) := (RF.set wf2 ew2 R1.2.1 rfl).trans (RF.set (wf2.setE ew2) er3 ((ow_lt (wf.lt er)).trans r1) rfl)
  have z4 : (hset (hset h2 w (.inl (4, 152, .inr (.inr (.inr (.inr row3)))))) ρ c4).2 = h2.2 := rfl
  have La4 := lf c4 a [] La
  have el4 := lf c4 p l el
  clear lf nx gp R3
  generalize hset (hset h2 w (.inl (4, 152, .inr (.inr (.inr (.inr row3)))))) ρ c4 = H at *
  obtain ⟨tp, ep⟩ := el4.ln
  refine q_gQr er4 (by decide) rfl ?_
  refine q_nn ?_
  refine q_ldQn ew4 (by decide) (by omega) lp3 ?_
  refine q_nn ?_
  refine q_gI ep (by decide) rfl ?_
  refine q_nz (by decide) ?_
  have x5 : (ii (l.length : Int) + ii 1) / ii 2 = ii (((l.length + 1) / 2 : Nat) : Int) := by
    rw [ii_add, ii_div (by omega)]
    congr 1
  rw [x5]
  refine q_nm ?_
  refine q_gI ep (by decide) rfl ?_
  refine q_nn ?_
  refine q_hV (s_add (Ne.symm hpa) (Nat.le_refl _) (by omega) (by simp; omega) La4 el4) fun h29 ⟨g1, g2⟩ => ?_
  have e29 : ([] : List Bool) ++ (l.take l.length).drop ((l.length + 1) / 2) = l.drop ((l.length + 1) / 2) := by rw [List.take_length]; rfl
  rw [e29] at g1
  have el5 := el4.only La4 g2 hpa
  have wf5 := g2.wf La4 wf4
  have er5 := g2.kd La4 er4 rfl
  have R5 := R4.only La4 g1 g2
  have ix1 : (ls.take (k + 1) ++ [] :: ls.drop (k + 1))[k + 1]? = some [] := by rw [List.getElem?_append_right (by omega), hlt, Nat.sub_self]; rfl
  have L5 := L4.upd R4 (by rw [List.length_append, hlt, List.length_cons, List.length_drop]; omega) ix1 r3a La4 g1 g2
  refine q_hV (s_shorten el5 (by omega)) fun h30 ⟨g3, g4⟩ => ?_
  have ix2 : ((ls.take (k + 1) ++ [] :: ls.drop (k + 1)).set (k + 1) (l.drop ((l.length + 1) / 2)))[k]? = some l := by
    rw [List.getElem?_set_ne (by omega), List.getElem?_append_left (by omega), List.getElem?_take_of_lt (by omega)]; exact hk
  have L6 := L5.upd R5 (by rw [List.length_set, List.length_append, hlt, List.length_cons, List.length_drop]; omega) ix2 lp3 el5 g3 g4
  have R6 := R5.only el5 g3 g4
  have elist : (((ls.take (k + 1) ++ [] :: ls.drop (k + 1)).set (k + 1) (l.drop ((l.length + 1) / 2))).set k (l.take ((l.length + 1) / 2))) = halv ls k := by
    have hk' : ls.take (k + 1) = ls.take k ++ [l] := by
      rw [List.getElem?_eq_getElem hk2] at hk
      injection hk with hk
      rw [← List.take_append_getElem hk2, hk]
    have hlt2 : (ls.take k).length = k := by rw [List.length_take]; omega
    rw [halv_eq hk, List.set_append_right _ _ (by omega), hlt, Nat.sub_self, hk', List.append_assoc, List.set_append_right _ _ (by omega), hlt2, Nat.sub_self]
    rfl
  rw [elist] at L6
  refine q_rV ⟨rfl, row3, R6, L6, g4.kd el5 er5 rfl, ?_, ?_, ?_⟩
  · have rfx : RF (ow own h.2.1.1 ρ) ρ h2 h30 := rf4.trans ((g2.rF La4 o1 o2 wf4).trans (g4.rF el5 o3 o4 wf5))
    exact rf_ow2 rf2 wf rfx
  · rw [g4.1, g2.1, z4, nul3]; exact z1
  · rw [g4.1, g2.1, z4, nul3]; exact z2
end
