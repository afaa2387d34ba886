/-! ROWS: objects and arrays made, references in arrays, casts, ends of methods -/
set_option maxRecDepth 100000
/-- what may be stored in an array of sort t -/
def okS (t : Nat) (c : PC) : Bool := match c with
  | .inl y => t == 9 && y.1 == 8
  | .inr o => (t == 4 && o.1 == 9) || (t == 5 && (o.1 == 9 || o.1 == 10)) || (t == 6 && o.1 == 10) || (t == 7 && o.1 == 4) || (t == 8 && o.1 == 11) || (t == 10 && o.1 == 12) || (t == 11 && o.1 == 18) || (t == 12 && decide (100 ≤ o.1))
def stQ {β : Type} (h : PH) (a : Nat) (i : Int32) (r : Option Nat) (K : PH → Option β) : Option β := aQ h a fun t n f => inB i n (match r with
  | none => if t = 9 then none else K (hset h a (.inl (t, n, .inr (.inr (.inr (.inr (va_up f i.toNatClampNeg none)))))))
  | some b => match h.1 b with
    | some c => if okS t c = true then K (hset h a (.inl (t, n, .inr (.inr (.inr (.inr (va_up f i.toNatClampNeg (some b)))))))) else none
    | none => none)
/-- what a 'new' of class c asks: fs are the fields' first values -/
def NI (own : String) (index c : Nat) (fs : List Value) : Prop := ∃ (C : String) (T : u_T) (N : Nat) (ty : Nat → FieldType), CI c C T N ty ∧ Cond.classLink own index C ∈ lw_all ∧ Cond.instantiable C N ∈ lw_all ∧ Cond.initialized C ∈ lw_all ∧ (∀ j, j < N → defaultValue (ty j) = vp_V fs j) ∧ fs.length = N
section
variable {own : String} {cc : ByteArray} {nL lev : Nat} {ret : Option FieldType} {hh : List (Nat × Nat × Nat × Nat)} {ini : Bool}
variable {h : PH} {pc : Nat} {lv : List (Nat × Value)} {st : List Value} {P P1 P2 : Option RH}
theorem x_new {index c : Nat} {fs : List Value} {Kc : Nat → PH → Option RH} (ni : NI own index c fs) (d : decode cc pc = .ok (.new index, 3)) (kk : ∀ a h', Sim (own, cc, nL, lev, ret, hh, ini) h' (pc + 3) lv (.ref a :: st) (Kc a h')) : Sim (own, cc, nL, lev, ret, hh, ini) h pc lv st (newO h c fs Kc) := by
  have kk := kk h.2.1.1 (hnew h fs.length (.inr (c, fs)))
  refine ⟨fun r' h1' hP' => LeH.trans (LeH.new h fs.length (.inr (c, fs))) (kk.1 r' h1' hP'), fun p l e R s m args below meth c0 G h0 r h1 K hP hle H locs ls hR hS hl => ?_⟩
  have k1 := kk.1 _ _ hP
  have k2 := kk.2 p l e R s m args below meth c0 G h0 r h1 K hP
  obtain ⟨hx, hb, hml, ho, hts, hlk, hret, hKK, hCK, hbs, hRm, -⟩ := K
  have g1 : h.2.1.1 + 1 ≤ h1.2.1.1 := k1.1
  have g2 : h.2.1.2 + fs.length ≤ h1.2.1.2 := k1.2.1
  obtain ⟨C, T, N, ty, hCI, n1, n2, n3, n4, n5⟩ := ni
  have hle1 := hle.1
  have hle2 := hle.2.1
  have hKn := hKK.1.1 c _ hCI.1
  subst n5
  refine W.newcK (n := fs.length) hx hb ho (hts _ n1) (hts _ n2) (hts _ n3) rfl d (by rw [hRm]; show _ ≤ h1.2.1.1 - h0.2.1.1; omega) (by rw [hRm]; show _ ≤ h1.2.1.2 - h0.2.1.2; omega) hKn.2.1 rfl fun H1 kC hkC e1 z1 o1 => ?_
  have hba : G.2.1 ≤ H.size := Nat.le_trans hbs hS.1
  have hok : cOk G H.size (.inr (c, fs)) H1 := by
    have n9 : ¬ 100 ≤ c := by have := hCI.2.2.2.2; omega
    simp only [cOk, n9, if_false]
    exact ⟨hba, ⟨_, hCI.1, (u_born ty hts hCI.2.1 hKn hkC e1 hCI.2.2.1).to n4⟩⟩
  have hR' := Rep.new (n := fs.length) hR hok z1 o1
  have k3 := k2 (LeH.trans hle (LeH.new h fs.length (.inr (c, fs)))) H1 locs ls hR' ⟨Nat.le_trans hS.1 (by omega), fun q a1 a2 => (o1 q (Nat.lt_of_lt_of_le a1 hS.1)).trans (hS.2.1 q a1 a2), hS.2.2⟩ hl
  have ec : (hnew h fs.length (.inr (c, fs))).2.1.1 - h0.2.1.1 = (h.2.1.1 - h0.2.1.1) + 1 := by show h.2.1.1 + 1 - _ = _; omega
  have es : (hnew h fs.length (.inr (c, fs))).2.1.2 - h0.2.1.2 = (h.2.1.2 - h0.2.1.2) + fs.length := by show h.2.1.2 + fs.length - _ = _; omega
  rw [ec, es] at k3
  rw [hR.1]
  exact k3
/-- an array made: the machine's row gives the cell -/
theorem newA_core {p : Program} {l : Launch} {e : Env} {R : Room} {s : State} {m : MethodId} {args : Array Value} {below : List Frame} {meth : Method} {c : Code} {G : GG} {h0 : PH} {r : Rt} {h1 h : PH} {H H1 : Heap} {locs : List Loc} {ls : Array Slot} {t : Nat} {n : Nat} {f : (Nat → Int32) ⊕ (Nat → Int64) ⊕ (Nat → UInt32) ⊕ (Nat → UInt64) ⊕ (Nat → Option Nat)} {Q : State → Prop} {pc' : Nat}
    (hle : LeH h0 h) (hbs : G.2.1 ≤ s.heap.size) (hR : Rep G h H) (hS : va_S (GA G) s.heap H locs) (e1 : H1[H.size]? = some (vp_cell (G.1.2 t) (n, f))) (z1 : H1.size = H.size + 1) (o1 : ∀ q : Nat, q < H.size → H1[q]? = H[q]?)
    (k : LeH h0 (hnew h n (.inl (t, n, f))) → Rep G (hnew h n (.inl (t, n, f))) H1 → va_S (GA G) s.heap H1 locs → W p l e R s m args below meth c H1 locs ((hnew h n (.inl (t, n, f))).2.1.1 - h0.2.1.1) ((hnew h n (.inl (t, n, f))).2.1.2 - h0.2.1.2) Q (F0 m pc' ls (.ref h.2.1.1 :: st))) :
    W p l e R s m args below meth c H1 locs ((h.2.1.1 - h0.2.1.1) + 1) ((h.2.1.2 - h0.2.1.2) + n) Q (F0 m pc' ls (.ref H.size :: st)) := by
  have hle1 := hle.1
  have hle2 := hle.2.1
  have hba : G.2.1 ≤ H.size := Nat.le_trans hbs hS.1
  have k3 := k (LeH.trans hle (LeH.new h n _)) (Rep.new (n := n) hR ⟨hba, e1⟩ z1 o1) ⟨Nat.le_trans hS.1 (by omega), fun q a1 a2 => (o1 q (Nat.lt_of_lt_of_le a1 hS.1)).trans (hS.2.1 q a1 a2), hS.2.2⟩
  have ec : (hnew h n (.inl (t, n, f))).2.1.1 - h0.2.1.1 = (h.2.1.1 - h0.2.1.1) + 1 := by show h.2.1.1 + 1 - _ = _; omega
  have es : (hnew h n (.inl (t, n, f))).2.1.2 - h0.2.1.2 = (h.2.1.2 - h0.2.1.2) + n := by show h.2.1.2 + n - _ = _; omega
  rw [ec, es] at k3
  rw [hR.1]
  exact k3
theorem x_newa {t : Nat} {atype : ArrayType} {ty : FieldType} {n : Int32} {f : (Nat → Int32) ⊕ (Nat → Int64) ⊕ (Nat → UInt32) ⊕ (Nat → UInt64) ⊕ (Nat → Option Nat)} {Kc : Nat → PH → Option RH} (hty : newarray.typeOf atype = ty) (harr : Cond.arrayClass ty ∈ lw_all) (hdef : ∀ (cA : ClassId) (N : Nat), vp_cell cA (N, f) = arrV cA N (fun _ => defaultValue ty)) (hby : componentBytes ty ≤ 8) (hfc : ∀ (G : GG) (s : State), KK G s → s.vm.findClass ("[" ++ ty.toString) = some (G.1.2 t)) (d : decode cc pc = .ok (.newarray atype, 2)) (kk : ∀ a h', Sim (own, cc, nL, lev, ret, hh, ini) h' (pc + 2) lv (.ref a :: st) (Kc a h')) : Sim (own, cc, nL, lev, ret, hh, ini) h pc lv (.int n :: st) (newA h t n f Kc) := by
  subst hty
  unfold newA
  by_cases hn : n < 0 ∨ 65536 < n.toNatClampNeg
  · rw [if_pos hn]; exact Sim.none
  · rw [if_neg hn]
    have kk := kk h.2.1.1 (hnew h n.toNatClampNeg (.inl (t, n.toNatClampNeg, f)))
    refine ⟨fun r' h1' hP' => LeH.trans (LeH.new h _ _) (kk.1 r' h1' hP'), fun p l e R s m args below meth c0 G h0 r h1 K hP hle H locs ls hR hS hl => ?_⟩
    have k1 := kk.1 _ _ hP
    have k2 := kk.2 p l e R s m args below meth c0 G h0 r h1 K hP
    obtain ⟨hx, hb, hml, ho, hts, hlk, hret, hKK, hCK, hbs, hRm, -⟩ := K
    have g1 : h.2.1.1 + 1 ≤ h1.2.1.1 := k1.1
    have g2 : h.2.1.2 + n.toNatClampNeg ≤ h1.2.1.2 := k1.2.1
    have hle1 := hle.1
    have hle2 := hle.2.1
    have hb8 : n.toNatClampNeg * componentBytes (newarray.typeOf atype) ≤ 65536 * 8 := Nat.mul_le_mul (by omega) hby
    refine va_newaK hx hb (hts _ harr) rfl d rfl (fun q => hn (Or.inl q)) rfl (Nat.le_trans hb8 (by decide)) (by rw [hRm]; show _ ≤ h1.2.1.1 - h0.2.1.1; omega) (by rw [hRm]; show _ ≤ h1.2.1.2 - h0.2.1.2; omega) rfl fun H1 cA e1 z1 o1 hAr hNm => ?_
    have hcA : cA = G.1.2 t := Option.some.inj (hNm.symm.trans (hfc G s hKK))
    subst hcA
    exact newA_core (r := r) (h1 := h1) (t := t) (n := n.toNatClampNeg) (f := f) hle hbs hR hS (by rw [hdef]; exact e1) z1 o1 (fun a1 a2 a3 => k2 a1 H1 locs ls a2 a3 hl)
theorem x_newaI {n : Int32} {Kc : Nat → PH → Option RH} (d : decode cc pc = .ok (.newarray .int, 2)) (kk : ∀ a h', Sim (own, cc, nL, lev, ret, hh, ini) h' (pc + 2) lv (.ref a :: st) (Kc a h')) : Sim (own, cc, nL, lev, ret, hh, ini) h pc lv (.int n :: st) (newA h 0 n (.inl (fun _ => 0)) Kc) := x_newa (ty := .int) rfl q491 (fun cA N => by rw [vp_cell_i]; rfl) (by decide) (fun G s hk => (hk.1.2 0 _ rfl).2) d kk
theorem x_newaL {n : Int32} {Kc : Nat → PH → Option RH} (d : decode cc pc = .ok (.newarray .long, 2)) (kk : ∀ a h', Sim (own, cc, nL, lev, ret, hh, ini) h' (pc + 2) lv (.ref a :: st) (Kc a h')) : Sim (own, cc, nL, lev, ret, hh, ini) h pc lv (.int n :: st) (newA h 1 n (.inr (.inl (fun _ => 0))) Kc) := x_newa (ty := .long) rfl q274 (fun cA N => by rw [vp_cell_l]; rfl) (by decide) (fun G s hk => (hk.1.2 1 _ rfl).2) d kk
theorem x_newaB {n : Int32} {Kc : Nat → PH → Option RH} (d : decode cc pc = .ok (.newarray .byte, 2)) (kk : ∀ a h', Sim (own, cc, nL, lev, ret, hh, ini) h' (pc + 2) lv (.ref a :: st) (Kc a h')) : Sim (own, cc, nL, lev, ret, hh, ini) h pc lv (.int n :: st) (newA h 2 n (.inl (fun _ => 0)) Kc) := x_newa (ty := .byte) rfl q222 (fun cA N => by rw [vp_cell_i]; rfl) (by decide) (fun G s hk => (hk.1.2 2 _ rfl).2) d kk
theorem x_newaZ {n : Int32} {Kc : Nat → PH → Option RH} (d : decode cc pc = .ok (.newarray .boolean, 2)) (kk : ∀ a h', Sim (own, cc, nL, lev, ret, hh, ini) h' (pc + 2) lv (.ref a :: st) (Kc a h')) : Sim (own, cc, nL, lev, ret, hh, ini) h pc lv (.int n :: st) (newA h 3 n (.inl (fun _ => 0)) Kc) := x_newa (ty := .boolean) rfl q1804 (fun cA N => by rw [vp_cell_i]; rfl) (by decide) (fun G s hk => (hk.1.2 3 _ rfl).2) d kk
theorem x_newaQ {t index : Nat} {C : String} {n : Int32} {Kc : Nat → PH → Option RH} (hC : C ∈ aoTab) (hl1 : Cond.classLink own index C ∈ lw_all) (hfc : ∀ (G : GG) (s : State), KK G s → s.vm.findClass ("[" ++ (FieldType.object C).toString) = some (G.1.2 t)) (d : decode cc pc = .ok (.anewarray index, 3)) (kk : ∀ a h', Sim (own, cc, nL, lev, ret, hh, ini) h' (pc + 3) lv (.ref a :: st) (Kc a h')) : Sim (own, cc, nL, lev, ret, hh, ini) h pc lv (.int n :: st) (newA h t n (.inr (.inr (.inr (.inr (fun _ => none))))) Kc) := by
  unfold newA
  by_cases hn : n < 0 ∨ 65536 < n.toNatClampNeg
  · rw [if_pos hn]; exact Sim.none
  · rw [if_neg hn]
    have kk := kk h.2.1.1 (hnew h n.toNatClampNeg (.inl (t, n.toNatClampNeg, .inr (.inr (.inr (.inr (fun _ => none)))))))
    refine ⟨fun r' h1' hP' => LeH.trans (LeH.new h _ _) (kk.1 r' h1' hP'), fun p l e R s m args below meth c0 G h0 r h1 K hP hle H locs ls hR hS hl => ?_⟩
    have k1 := kk.1 _ _ hP
    have k2 := kk.2 p l e R s m args below meth c0 G h0 r h1 K hP
    obtain ⟨hx, hb, hml, ho, hts, hlk, hret, hKK, hCK, hbs, hRm, -⟩ := K
    have g1 : h.2.1.1 + 1 ≤ h1.2.1.1 := k1.1
    have g2 : h.2.1.2 + n.toNatClampNeg ≤ h1.2.1.2 := k1.2.1
    have hle1 := hle.1
    have hle2 := hle.2.1
    refine W.anew hx hb ho (hts _ hl1) (va_AO.use (hKK.2.2.1 C hC)) rfl d rfl (fun q => hn (Or.inl q)) (by omega) (by rw [hRm]; show _ ≤ h1.2.1.1 - h0.2.1.1; omega) (by rw [hRm]; show _ ≤ h1.2.1.2 - h0.2.1.2; omega) fun cA kA comp f1 f2 f3 f4 => ?_
    have hcA : cA = G.1.2 t := Option.some.inj (f1.symm.trans (hfc G s hKK))
    subst hcA
    refine newA_core (r := r) (h1 := h1) (t := t) (n := n.toNatClampNeg) (f := .inr (.inr (.inr (.inr (fun _ => none))))) hle hbs hR hS ?_ ?_ ?_ (fun a1 a2 a3 => k2 a1 _ locs ls a2 a3 hl)
    · rw [Array.getElem?_push_size, vp_cell_q, arrV_new]
      rfl
    · rw [Array.size_push]
    · intro q hq
      rw [Array.getElem?_push, if_neg (Nat.ne_of_lt hq)]
theorem x_newaQ9 {index : Nat} {n : Int32} {Kc : Nat → PH → Option RH} (hl1 : Cond.classLink own index (FieldType.array (.object RX14)).toString ∈ lw_all) (d : decode cc pc = .ok (.anewarray index, 3)) (kk : ∀ a h', Sim (own, cc, nL, lev, ret, hh, ini) h' (pc + 3) lv (.ref a :: st) (Kc a h')) : Sim (own, cc, nL, lev, ret, hh, ini) h pc lv (.int n :: st) (newA h 9 n (.inr (.inr (.inr (.inr (fun _ => none))))) Kc) := by
  unfold newA
  by_cases hn : n < 0 ∨ 65536 < n.toNatClampNeg
  · rw [if_pos hn]; exact Sim.none
  · rw [if_neg hn]
    have kk := kk h.2.1.1 (hnew h n.toNatClampNeg (.inl (9, n.toNatClampNeg, .inr (.inr (.inr (.inr (fun _ => none)))))))
    refine ⟨fun r' h1' hP' => LeH.trans (LeH.new h _ _) (kk.1 r' h1' hP'), fun p l e R s m args below meth c0 G h0 r h1 K hP hle H locs ls hR hS hl => ?_⟩
    have k1 := kk.1 _ _ hP
    have k2 := kk.2 p l e R s m args below meth c0 G h0 r h1 K hP
    obtain ⟨hx, hb, hml, ho, hts, hlk, hret, hKK, hCK, hbs, hRm, -⟩ := K
    have g1 : h.2.1.1 + 1 ≤ h1.2.1.1 := k1.1
    have g2 : h.2.1.2 + n.toNatClampNeg ≤ h1.2.1.2 := k1.2.1
    have hle1 := hle.1
    have hle2 := hle.2.1
    have h9 := hKK.2.2.2.2.2.2.1
    refine W.anewA hx hb ho (hts _ hl1) h9 rfl d rfl (fun q => hn (Or.inl q)) (by omega) (by rw [hRm]; show _ ≤ h1.2.1.1 - h0.2.1.1; omega) (by rw [hRm]; show _ ≤ h1.2.1.2 - h0.2.1.2; omega) fun cA kA comp f1 f2 f3 f4 => ?_
    have hcA : cA = G.1.2 9 := Option.some.inj (f1.symm.trans (hKK.1.2 9 _ rfl).2)
    subst hcA
    refine newA_core (r := r) (h1 := h1) (t := 9) (n := n.toNatClampNeg) (f := .inr (.inr (.inr (.inr (fun _ => none))))) hle hbs hR hS ?_ ?_ ?_ (fun a1 a2 a3 => k2 a1 _ locs ls a2 a3 hl)
    · rw [Array.getElem?_push_size, vp_cell_q, arrV_new]
      rfl
    · rw [Array.size_push]
    · intro q hq
      rw [Array.getElem?_push, if_neg (Nat.ne_of_lt hq)]
theorem aTy_ref {t : Nat} (h1 : 4 ≤ t) (h2 : t < 13) {ty : FieldType} (h : aTy[t]? = some ty) : ty.isReference = true := by
  match t, h1, h2 with
  | 4, _, _ => cases h; rfl
  | 5, _, _ => cases h; rfl
  | 6, _, _ => cases h; rfl
  | 7, _, _ => cases h; rfl
  | 8, _, _ => cases h; rfl
  | 9, _, _ => cases h; rfl
  | 10, _, _ => cases h; rfl
  | 11, _, _ => cases h; rfl
  | 12, _, _ => cases h; rfl
  | t + 13, _, h => omega
theorem x_aald {a : Nat} {i : Int32} {Kc : Option Nat → Option RH} (d : decode cc pc = .ok (.aaload, 1)) (kk : ∀ v, Sim (own, cc, nL, lev, ret, hh, ini) h (pc + 1) lv (va_rf v :: st) (Kc v)) : Sim (own, cc, nL, lev, ret, hh, ini) h pc lv (.int i :: .ref a :: st) (ldQ h a i Kc) := Sim.use fun z e => by
  obtain ⟨t, n, f, h1, t1, t2, h2⟩ := aQ_some e
  obtain ⟨h3, h4⟩ := inB_some h2
  have he : ldQ h a i Kc = Kc (f i.toNatClampNeg) := by rw [h4]; exact e
  rw [he]
  have kk := kk (f i.toNatClampNeg)
  refine ⟨kk.1, fun p l e R s m args below meth c G h0 r h1' K hP hle H locs ls hR hS hl => ?_⟩
  have k1 := kk.1 _ _ hP
  have k2 := kk.2 p l e R s m args below meth c G h0 r h1' K hP
  obtain ⟨hx, hb, hml, ho, hts, hlk, hret, hKK, -⟩ := K
  obtain ⟨ty, ht, hty⟩ := aTys_at (dA := G.1.2) t t2
  have hlt : i.toNatClampNeg < n := Nat.not_le.mp fun q => h3 (Or.inr q)
  refine W.aald (v := va_rf (f i.toNatClampNeg)) hx hb (hR.2.2 a _ h1).2 ((hKK.1.2 t _ ht).1 n (fun j => va_rf (f j))) (aTy_ref t1 t2 hty) (fun q => by cases q) (by show ¬ (i < 0 ∨ (arrV _ _ _).slots.size ≤ _); rw [arrV_size]; exact h3) (by show (arrV _ _ _).slots[_]? = _; rw [arrV_read _ _ hlt]) rfl rfl d (k2 hle H locs ls hR hS hl)
end
