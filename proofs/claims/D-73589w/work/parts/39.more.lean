/-! ROWS: switches, guards of calls, dispatch -/
set_option maxRecDepth 100000
theorem rf_cat (r : Option Nat) : (va_rf r).category = 1 := by cases r <;> rfl
theorem cat4 {rest : List Value} (h : rest.length ≤ 4) : (rest.map fun v => v.category).sum ≤ 8 := by
  have key : ∀ l : List Value, (l.map fun v => v.category).sum ≤ 2 * l.length := by
    intro l
    induction l with
    | nil => exact Nat.le_refl 0
    | cons a l ih =>
      have ha : a.category ≤ 2 := by cases a <;> exact Nat.le_of_ble_eq_true rfl
      simp only [List.map_cons, List.sum_cons, List.length_cons]
      omega
  have := key rest
  omega
theorem MM.none {y : MethodName} {ws : List Cond} {lev : Nat} {av : List Value} {h : PH} : MM y ws lev av h none := ⟨fun r h1 hP => (by cases hP), fun l G _ r h1 hP => (by cases hP)⟩
theorem MM.grd {y : MethodName} {ws : List Cond} {lev : Nat} {av : List Value} {h : PH} {b : Nat} {cs : List Nat} {P : Option RH} (hM : MM y ws lev av h P) : MM y ws lev av h (grd h b cs P) := ⟨fun r h1 hP => hM.1 r h1 (grd_some hP).2, fun l G hf r h1 hP => hM.2 l G hf r h1 (grd_some hP).2⟩
theorem grd1 {β : Type} {h : PH} {a c : Nat} {P : Option β} {z : β} (e : grd h a [c] P = some z) : ∃ fs, h.1 a = some (.inr (c, fs)) := by
  obtain ⟨⟨c', fs, h1, h2⟩, -⟩ := grd_some e
  have : c' = c := by simpa using h2
  subst this
  exact ⟨fs, h1⟩
theorem grdN {β : Type} {h : PH} {a : Nat} {cs : List Nat} {P : Option β} {z : β} (e : grd h a cs P = some z) : ∃ c fs, h.1 a = some (.inr (c, fs)) ∧ c ∈ cs := by
  obtain ⟨⟨c', fs, h1, h2⟩, -⟩ := grd_some e
  exact ⟨c', fs, h1, h2⟩
section
variable {own : String} {cc : ByteArray} {nL lev : Nat} {ret : Option FieldType} {hh : List (Nat × Nat × Nat × Nat)} {ini : Bool}
variable {h : PH} {pc : Nat} {lv : List (Nat × Value)} {st : List Value} {P P1 P2 : Option RH}
/-- at a switch, the first n cases from lo on being out -/
def SimS (y : Yx) (h : PH) (pc : Nat) (lv : List (Nat × Value)) (x : Int32) (st : List Value) (lo : Int) (n : Nat) (P : Option RH) : Prop := (¬ (lo ≤ x.toInt ∧ x.toInt < lo + n)) → Sim y h pc lv (.int x :: st) P
theorem x_sw0 {x : Int32} {lo : Int} (k : SimS (own, cc, nL, lev, ret, hh, ini) h pc lv x st lo 0 P) : Sim (own, cc, nL, lev, ret, hh, ini) h pc lv (.int x :: st) P := k (by omega)
theorem x_sw {x v : Int32} {dflt lo hi off : Int} {offs : Array Int} {len n : Nat} (tgt : Nat) (d : decode cc pc = .ok (.tableswitch dflt lo hi offs, len)) (hv : v.toInt = lo + n) (h1 : ¬ v.toInt < lo) (h2 : ¬ hi < v.toInt) (ho : offs[(v.toInt - lo).toNat]? = some off) (ht : (pc : Int) + off = (tgt : Int)) (k : Sim (own, cc, nL, lev, ret, hh, ini) h tgt lv st P1) (kk : SimS (own, cc, nL, lev, ret, hh, ini) h pc lv x st lo (n + 1) P2) : SimS (own, cc, nL, lev, ret, hh, ini) h pc lv x st lo n (if x = v then P1 else P2) := by
  intro hn
  by_cases e : x = v
  · subst e
    rw [if_pos rfl]
    exact Sim.one k (fun hx hb ho' hts hl w => lv_tableIn hx hb d h1 h2 ho ht w)
  · rw [if_neg e]
    refine kk (fun hc => ?_)
    have e2 : x.toInt ≠ v.toInt := fun q => e (Int32.toInt_inj.mp q)
    omega
theorem x_swD {x : Int32} {dflt lo hi : Int} {offs : Array Int} {len n : Nat} (tgt : Nat) (d : decode cc pc = .ok (.tableswitch dflt lo hi offs, len)) (hn : hi = lo + n - 1) (ht : (pc : Int) + dflt = (tgt : Int)) (k : Sim (own, cc, nL, lev, ret, hh, ini) h tgt lv st P) : SimS (own, cc, nL, lev, ret, hh, ini) h pc lv x st lo n P := fun hc => Sim.one k (fun hx hb ho hts hl w => lv_tableOut hx hb d (by omega) ht w)
/-- at a lookup switch: the pairs ps are still to be looked at -/
def SimL (y : Yx) (h : PH) (pc : Nat) (lv : List (Nat × Value)) (x : Int32) (st : List Value) (all ps : List (Int × Int)) (dflt : Int) (P : Option RH) : Prop := Op.lookupswitch.offset all dflt x.toInt = Op.lookupswitch.offset ps dflt x.toInt → Sim y h pc lv (.int x :: st) P
theorem x_lk0 {x : Int32} {dflt : Int} {ps : Array (Int × Int)} {len : Nat} (d : decode cc pc = .ok (.lookupswitch dflt ps, len)) (k : SimL (own, cc, nL, lev, ret, hh, ini) h pc lv x st ps.toList ps.toList dflt P) : Sim (own, cc, nL, lev, ret, hh, ini) h pc lv (.int x :: st) P := k rfl
theorem x_lk {x v : Int32} {dflt a o : Int} {ps : Array (Int × Int)} {r : List (Int × Int)} {len : Nat} (tgt : Nat) (d : decode cc pc = .ok (.lookupswitch dflt ps, len)) (hp : (ps.toList.zip (ps.toList.drop 1)).all (fun (a, next) => a.1 < next.1) = true) (hv : v.toInt = a) (ht : (pc : Int) + o = (tgt : Int)) (k : Sim (own, cc, nL, lev, ret, hh, ini) h tgt lv st P1) (kk : SimL (own, cc, nL, lev, ret, hh, ini) h pc lv x st ps.toList r dflt P2) : SimL (own, cc, nL, lev, ret, hh, ini) h pc lv x st ps.toList ((a, o) :: r) dflt (if x = v then P1 else P2) := by
  intro e
  by_cases e1 : x = v
  · subst e1
    rw [if_pos rfl]
    exact Sim.one k (fun hx hb ho hts hl w => lv_lookup hx hb d hp (e.trans (by rw [Op.lookupswitch.offset_cons, if_pos hv.symm])) ht w)
  · rw [if_neg e1]
    refine kk (e.trans ?_)
    rw [Op.lookupswitch.offset_cons, if_neg (fun q => e1 (Int32.toInt_inj.mp (q.symm.trans hv.symm)))]
theorem x_lkD {x : Int32} {dflt : Int} {ps : Array (Int × Int)} {len : Nat} (tgt : Nat) (d : decode cc pc = .ok (.lookupswitch dflt ps, len)) (hp : (ps.toList.zip (ps.toList.drop 1)).all (fun (a, next) => a.1 < next.1) = true) (ht : (pc : Int) + dflt = (tgt : Int)) (k : Sim (own, cc, nL, lev, ret, hh, ini) h tgt lv st P) : SimL (own, cc, nL, lev, ret, hh, ini) h pc lv x st ps.toList [] dflt P := fun e => Sim.one k (fun hx hb ho hts hl w => lv_lookup hx hb d hp (e.trans rfl) ht w)
/-- one method or another, by the receiver's class -/
def dsp2 (h : PH) (b c1 c2 : Nat) (P1 P2 : Option RH) : Option RH := match h.1 b with
  | some (.inr o) => if o.1 = c1 then P1 else if o.1 = c2 then P2 else none
  | _ => none
theorem x_callD2 {index m1 m2 l1 l2 n c1 c2 b : Nat} {x y1 y2 : MethodName} {b1 b2 : ByteArray} {rt : Option FieldType} {As rest st0 : List Value} {P1 P2 : Option RH} {Kc : PH → Option RH} (s1 : SiU own index [c1] x y1 b1 m1 rt n) (s2 : SiU own index [c2] x y2 b2 m2 rt n) (hM1 : MM y1 (ws_ y1 b1 m1 rt) l1 (.ref b :: As) h P1) (hM2 : MM y2 (ws_ y2 b2 m2 rt) l2 (.ref b :: As) h P2) (hst : st0 = As.reverse ++ .ref b :: rest) (hn : As.length = n) (hl1 : l1 + 1 ≤ lev) (hl2 : l2 + 1 ≤ lev) (hr : (rest.map fun v => v.category).sum ≤ 8) (d : decode cc pc = .ok (.invokevirtual index, 3))
    (kn : ∀ h2, Sim (own, cc, nL, lev, ret, hh, ini) h2 (pc + 3) lv rest (Kc h2)) : Sim (own, cc, nL, lev, ret, hh, ini) h pc lv st0 (hV (dsp2 h b c1 c2 P1 P2) noX Kc) := by
  cases hc : h.1 b with
  | none =>
    have : dsp2 h b c1 c2 P1 P2 = none := by simp only [dsp2, hc]
    rw [this]; exact Sim.none
  | some z =>
    cases z with
    | inl y9 =>
      have : dsp2 h b c1 c2 P1 P2 = none := by simp only [dsp2, hc]
      rw [this]; exact Sim.none
    | inr o =>
      have e0 : dsp2 h b c1 c2 P1 P2 = if o.1 = c1 then P1 else if o.1 = c2 then P2 else none := by simp only [dsp2, hc]
      rw [e0]
      by_cases e1 : o.1 = c1
      · rw [if_pos e1]
        exact x_callU s1 hM1 (fun z e => ⟨c1, o.2, by rw [hc, ← e1], List.mem_cons_self⟩) hst hn hl1 hr d (kV kn) xNo
      · rw [if_neg e1]
        by_cases e2 : o.1 = c2
        · rw [if_pos e2]
          exact x_callU s2 hM2 (fun z e => ⟨c2, o.2, by rw [hc, ← e2], List.mem_cons_self⟩) hst hn hl2 hr d (kV kn) xNo
        · rw [if_neg e2]; exact Sim.none
end
