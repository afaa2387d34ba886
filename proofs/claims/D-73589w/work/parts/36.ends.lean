/-! ROWS: references into arrays, casts, ends of methods, bodies -/
set_option maxRecDepth 100000
/-- an array cast -/
def grdA {β : Type} (h : PH) (a t : Nat) (P : Option β) : Option β := match h.1 a with
  | some (.inl y) => if y.1 = t then P else none
  | _ => none
/-- 'instanceof' class c; objects of class n aren't -/
def iof {β : Type} (h : PH) (r : Option Nat) (c n : Nat) (P1 P0 : Option β) : Option β := match r with
  | none => P0
  | some a => match h.1 a with
    | some (.inr o) => if o.1 = c then P1 else if o.1 = n then P0 else none
    | _ => none
theorem aTys_obj {dA : Nat → ClassId} {t : Nat} (h1 : 4 ≤ t) (h2 : t < 13) (h3 : t ≠ 9) : ∃ C, (aTys dA)[t]? = some (dA t, .object C) := by
  match t, h1, h2, h3 with
  | 4, _, _, _ => exact ⟨_, rfl⟩
  | 5, _, _, _ => exact ⟨_, rfl⟩
  | 6, _, _, _ => exact ⟨_, rfl⟩
  | 7, _, _, _ => exact ⟨_, rfl⟩
  | 8, _, _, _ => exact ⟨_, rfl⟩
  | 9, _, _, h => exact absurd rfl h
  | 10, _, _, _ => exact ⟨_, rfl⟩
  | 11, _, _, _ => exact ⟨_, rfl⟩
  | 12, _, _, _ => exact ⟨_, rfl⟩
  | t + 13, _, h, _ => omega
/-- the machine's side of a store: array class, component, the value's cell -/
def ElOk (G : GG) (s : State) (H : Heap) (t b : Nat) : Prop := ∃ (kA : Class) (comp : ClassId) (ty : FieldType) (kcomp kv : Class) (cv : Cell), s.vm.classes[G.1.2 t]? = some kA ∧ kA.kind = .array comp ty ∧ ty.isReference = true ∧ s.vm.classes[comp]? = some kcomp ∧ H[b]? = some cv ∧ (∀ q, cv.vm ≠ .statics q) ∧ s.vm.classes[cv.cls]? = some kv ∧ s.vm.assignable cv.cls comp = true
theorem el_obj {G : GG} {s : State} {H : Heap} {t b c : Nat} {fs : List Value} {C E : String} {T : u_T} {N : Nat} (hK : KK G s) (ht : (aTys G.1.2)[t]? = some (G.1.2 t, .object E)) (hc : clTab[c]? = some (C, T, N)) (hlt : c < 19) (hcell : cOk G b (.inr (c, fs)) H) (hasg : ∀ c0 t0 : ClassId, s.vm.findClass C = some c0 → s.vm.findClass E = some t0 → s.vm.assignable c0 t0 = true) : ElOk G s H t b := by
  obtain ⟨kA, comp, k1, k2, k3, -⟩ := (hK.1.2 t _ ht).2
  obtain ⟨kcomp, hkc, -⟩ := Vm.findClass_spec k3
  obtain ⟨-, hP⟩ := hcell.obj hlt
  obtain ⟨r', hr', cellV, g1, g2, g3, -⟩ := hP 0 _ rfl
  have hcls := (hK.1.1 c _ hc).2
  obtain ⟨kC, hkC, -⟩ := hcls.2
  refine ⟨kA, comp, _, kcomp, kC, cellV, k1, k2, rfl, hkc, g1, fun q h => (by rw [g3] at h; cases h), (by rw [g2]; exact hkC), ?_⟩
  rw [g2]
  exact hasg _ _ hcls.1 k3
theorem el_all {G : GG} {s : State} {H : Heap} {locs : List Loc} {t b : Nat} {c : PC} (hK : KK G s) (hC : CK G s s.heap) (hbs : G.2.1 ≤ s.heap.size) (hS : va_S (GA G) s.heap H locs) (hcell : cOk G b c H) (ho : okS t c = true) : ElOk G s H t b := by
  have same : ∀ {C : String} {c0 t0 : ClassId}, s.vm.findClass C = some c0 → s.vm.findClass C = some t0 → s.vm.assignable c0 t0 = true := by
    intro C c0 t0 h1 h2
    cases h1.symm.trans h2
    exact va_asg _ _
  cases c with
  | inl y =>
    simp only [okS, Bool.and_eq_true, beq_iff_eq] at ho
    obtain ⟨rfl, hy⟩ := ho
    obtain ⟨comp, c9, k9, f1, -, f3, f4, f5⟩ := arrayOverA_spec hK.2.2.2.2.2.2.1
    have hc9 : c9 = G.1.2 9 := Option.some.inj (f5.symm.trans (hK.1.2 9 _ rfl).2)
    obtain ⟨kA8, comp8, m1, m2, m3, m4⟩ := (hK.1.2 8 _ rfl).2
    have hcomp : comp = G.1.2 8 := Option.some.inj (f1.symm.trans m4)
    subst hc9; subst hcomp
    have hce : H[b]? = some (vp_cell (G.1.2 y.1) y.2) := hcell.2
    rw [hy] at hce
    have v0 : (vp_cell (G.1.2 8) y.2).vm = .none := by obtain ⟨t', n, f | f | f | f | f⟩ := y <;> rfl
    have v1 : (vp_cell (G.1.2 8) y.2).cls = G.1.2 8 := by obtain ⟨t', n, f | f | f | f | f⟩ := y <;> rfl
    exact ⟨k9, G.1.2 8, _, kA8, kA8, _, f3, f4, rfl, m1, hce, fun q h => (by rw [v0] at h; cases h), (by rw [v1]; exact m1), (by rw [v1]; exact va_asg _ _)⟩
  | inr o =>
    simp only [okS, Bool.or_eq_true, Bool.and_eq_true, beq_iff_eq, decide_eq_true_eq] at ho
    obtain ⟨c, fs⟩ := o
    rcases ho with ((((((h | h) | h) | h) | h) | h) | h) | h
    · obtain ⟨rfl, rfl⟩ := h
      exact el_obj (E := RX12) hK rfl ci_9.1 (by decide) hcell (fun _ _ => same)
    · obtain ⟨rfl, h⟩ := h
      rcases h with rfl | rfl
      · refine el_obj (E := RX11) hK rfl ci_9.1 (by decide) hcell (fun c0 t0 h1 h2 => ?_)
        obtain ⟨c3, c4, hc3, hc4, hasg⟩ := Cond.castable_spec (hK.2.1 _ q2346 rfl)
        cases hc3.symm.trans h1
        cases hc4.symm.trans h2
        exact hasg
      · refine el_obj (E := RX11) hK rfl ci_10.1 (by decide) hcell (fun c0 t0 h1 h2 => ?_)
        obtain ⟨c3, c4, hc3, hc4, hasg⟩ := Cond.castable_spec (hK.2.1 _ q2347 rfl)
        cases hc3.symm.trans h1
        cases hc4.symm.trans h2
        exact hasg
    · obtain ⟨rfl, rfl⟩ := h
      exact el_obj (E := RX13) hK rfl ci_10.1 (by decide) hcell (fun _ _ => same)
    · obtain ⟨rfl, rfl⟩ := h
      exact el_obj (E := RX5) hK rfl ci_4.1 (by decide) hcell (fun _ _ => same)
    · obtain ⟨rfl, rfl⟩ := h
      exact el_obj (E := RX14) hK rfl ci_11.1 (by decide) hcell (fun _ _ => same)
    · obtain ⟨rfl, rfl⟩ := h
      exact el_obj (E := RX15) hK rfl ci_12.1 (by decide) hcell (fun _ _ => same)
    · obtain ⟨rfl, rfl⟩ := h
      exact el_obj (E := RX21) hK rfl ci_18.1 (by decide) hcell (fun _ _ => same)
    · obtain ⟨rfl, h⟩ := h
      obtain ⟨kA, comp, k1, k2, k3, -⟩ := (hK.1.2 12 _ rfl).2
      obtain ⟨kcomp, hkc, -⟩ := Vm.findClass_spec k3
      have h9 : 100 ≤ c := h
      simp only [cOk, h9, if_true] at hcell
      have hO := ((hC.1.kept hS.2.1).1 (c - 100) (by omega)).1
      obtain ⟨cell, a1, a2, a3, -⟩ := hO
      rw [← hcell.2] at a1
      have e0 := Option.some.inj (a3.symm.trans k3)
      exact ⟨kA, comp, _, kcomp, kcomp, cell, k1, k2, rfl, hkc, a1, fun q hq => (by rw [hq] at a2; cases a2), (by rw [e0]; exact hkc), (by rw [e0]; exact va_asg _ _)⟩
section
variable {own : String} {cc : ByteArray} {nL lev : Nat} {ret : Option FieldType} {hh : List (Nat × Nat × Nat × Nat)} {ini : Bool}
variable {h : PH} {pc : Nat} {lv : List (Nat × Value)} {st : List Value} {P P1 P2 : Option RH}
theorem ast_core {G : GG} {a t n : Nat} {f : Nat → Option Nat} {i : Int32} {r : Option Nat} {H1 : Heap} (e : H1[a]? = some ((vp_cell (G.1.2 t) (n, .inr (.inr (.inr (.inr f))))).setSlot i.toNatClampNeg (va_rf r))) : H1[a]? = some (vp_cell (G.1.2 t) (n, .inr (.inr (.inr (.inr (va_up f i.toNatClampNeg r)))))) := by
  rw [e, vp_cell_q, vp_cell_q, arrV_store]
  congr 2
  funext q
  by_cases hq : q = i.toNatClampNeg
  · subst hq
    simp [updV, va_up]
  · simp [updV, va_up, hq]
theorem x_aast {a : Nat} {i : Int32} {r : Option Nat} {Kc : PH → Option RH} (d : decode cc pc = .ok (.aastore, 1)) (kk : ∀ h', Sim (own, cc, nL, lev, ret, hh, ini) h' (pc + 1) lv st (Kc h')) : Sim (own, cc, nL, lev, ret, hh, ini) h pc lv (va_rf r :: .int i :: .ref a :: st) (stQ h a i r Kc) := Sim.use fun z e => by
  obtain ⟨t, n, f, g1, t1, t2, g2⟩ := aQ_some e
  obtain ⟨g3, g4⟩ := inB_some g2
  have hlt : i.toNatClampNeg < n := Nat.not_le.mp fun q => g3 (Or.inr q)
  have h0 : ¬ i < 0 := fun q => g3 (Or.inl q)
  have he0 : stQ h a i r Kc = inB i n (match r with
    | none => if t = 9 then none else Kc (hset h a (.inl (t, n, .inr (.inr (.inr (.inr (va_up f i.toNatClampNeg none)))))))
    | some b => match h.1 b with
      | some c => if okS t c = true then Kc (hset h a (.inl (t, n, .inr (.inr (.inr (.inr (va_up f i.toNatClampNeg (some b)))))))) else none
      | none => none) := by
    simp only [stQ, aQ, g1, t1, t2, and_self, if_true]
    cases r <;> rfl
  rw [he0] at e ⊢
  have he1 := (inB_some e).2
  have hin : ∀ Z : Option RH, inB i n Z = Z := fun Z => by
    unfold inB; exact if_neg (fun q => q.elim h0 (fun q => absurd hlt (Nat.not_lt.mpr q)))
  rw [hin]
  cases r with
  | none =>
    dsimp only at he1 ⊢
    by_cases h9 : t = 9
    · rw [if_pos h9] at he1; cases he1
    · rw [if_neg h9]
      have kk := kk (hset h a (.inl (t, n, .inr (.inr (.inr (.inr (va_up f i.toNatClampNeg none)))))))
      refine ⟨kk.1, fun p l e R s m args below meth c G h0 r h1 K hP hle H locs ls hR hS hl => ?_⟩
      have k2 := kk.2 p l e R s m args below meth c G h0 r h1 K hP
      obtain ⟨hx, hb, hml, ho, hts, hlk, hret, hKK, -⟩ := K
      obtain ⟨C, ht⟩ := aTys_obj (dA := G.1.2) t1 t2 h9
      refine va_WaastN (C := C) hx hb (hR.2.2 a _ g1).2 ((hKK.1.2 t _ ht).1 n (fun j => va_rf (f j))) (fun h => by cases h) (by show ¬ (i < 0 ∨ (arrV _ _ _).slots.size ≤ _); rw [arrV_size]; exact g3) rfl rfl d fun H1 e z oq => ?_
      exact k2 hle H1 _ ls (st_core hR g1 (ast_core (r := none) e) z oq) (hS.put z oq (hR.2.2 a _ g1).1) hl
  | some b =>
    dsimp only at he1 ⊢
    cases hb0 : h.1 b with
    | none => rw [hb0] at he1; cases he1
    | some c0 =>
      rw [hb0] at he1
      dsimp only at he1 ⊢
      by_cases hok : okS t c0 = true
      · rw [if_pos hok]
        have kk := kk (hset h a (.inl (t, n, .inr (.inr (.inr (.inr (va_up f i.toNatClampNeg (some b))))))))
        refine ⟨kk.1, fun p l e R s m args below meth c G h0' r h1 K hP hle H locs ls hR hS hl => ?_⟩
        have k2 := kk.2 p l e R s m args below meth c G h0' r h1 K hP
        obtain ⟨hx, hb, hml, ho, hts, hlk, hret, hKK, hCK, hbs, -⟩ := K
        obtain ⟨kA, comp, ty, kcomp, kv, cv, w1, w2, w3, w4, w5, w6, w7, w8⟩ := el_all hKK hCK hbs hS (hR.2.2 b _ hb0) hok
        refine W.aast hx hb (hR.2.2 a _ g1).2 (fun q h => by cases h) (fun h => by cases h) w1 w2 w3 w4 ⟨h0, by show _ < (arrV _ _ _).slots.size; rw [arrV_size]; exact hlt⟩ w5 w6 w7 w8 rfl rfl d fun H1 e z oq => ?_
        exact k2 hle H1 _ ls (st_core hR g1 (ast_core (r := some b) e) z oq) (hS.put z oq (hR.2.2 a _ g1).1) hl
      · rw [if_neg hok] at he1; cases he1
theorem x_cast {a index c : Nat} {C : String} {T : u_T} {N : Nat} {ty : Nat → FieldType} (hCI : CI c C T N ty) (hlk : Cond.classLink own index C ∈ lw_all) (d : decode cc pc = .ok (.checkcast index, 3)) (k : Sim (own, cc, nL, lev, ret, hh, ini) h (pc + 3) lv (.ref a :: st) P) : Sim (own, cc, nL, lev, ret, hh, ini) h pc lv (.ref a :: st) (grd h a [c] P) := Sim.use fun z e => by
  obtain ⟨⟨c', fs, h1, h2⟩, h3⟩ := grd_some e
  have hc' : c' = c := by simpa using h2
  subst hc'
  have he : grd h a [c'] P = P := e.trans h3.symm
  rw [he]
  refine ⟨k.1, fun p l e R s m args below meth c0 G h0 r h1' K hP hle H locs ls hR hS hl => ?_⟩
  have k2 := k.2 p l e R s m args below meth c0 G h0 r h1' K hP hle H locs ls hR hS hl
  obtain ⟨hx, hb, hml, ho, hts, hlk', hret, hKK, -⟩ := K
  obtain ⟨-, hPw⟩ := (hR.2.2 a _ h1).obj hCI.2.2.2.2
  exact va_castS hx hb ho (hts _ hlk) (hKK.1.1 c' _ hCI.1).2 (va_recv hKK.1 hPw hCI.1 (q0 := 0) rfl) d k2
theorem x_inst {index c n : Nat} {r : Option Nat} {C C' : String} {T T' : u_T} {N N' : Nat} {ty ty' : Nat → FieldType} (hCI : CI c C T N ty) (hCI' : CI n C' T' N' ty') (hnc : (C', C) ∈ ncTab) (hlk : Cond.classLink own index C ∈ lw_all) (d : decode cc pc = .ok (.instanceof index, 3)) (k1 : Sim (own, cc, nL, lev, ret, hh, ini) h (pc + 3) lv (.int 1 :: st) P1) (k0 : Sim (own, cc, nL, lev, ret, hh, ini) h (pc + 3) lv (.int 0 :: st) P2) : Sim (own, cc, nL, lev, ret, hh, ini) h pc lv (va_rf r :: st) (iof h r c n P1 P2) := by
  cases r with
  | none => exact Sim.one k0 (fun hx hb ho hts hl w => lv_instN hx hb d w)
  | some a =>
    show Sim _ h pc lv _ (match h.1 a with
      | some (.inr o) => if o.1 = c then P1 else if o.1 = n then P2 else none
      | _ => none)
    cases hc : h.1 a with
    | none => exact Sim.none
    | some z =>
      cases z with
      | inl y => exact Sim.none
      | inr o =>
        dsimp only
        by_cases e1 : o.1 = c
        · rw [if_pos e1]
          refine ⟨k1.1, fun p l e R s m args below meth c0 G h0 r h1' K hP hle H locs ls hR hS hl => ?_⟩
          have k2 := k1.2 p l e R s m args below meth c0 G h0 r h1' K hP hle H locs ls hR hS hl
          obtain ⟨hx, hb, hml, ho, hts, hlk', hret, hKK, -⟩ := K
          have hcl : clTab[o.1]? = some (C, T, N) := by rw [e1]; exact hCI.1
          obtain ⟨-, hPw⟩ := (hR.2.2 a _ hc).obj (by rw [e1]; exact hCI.2.2.2.2)
          exact va_instS hx hb ho (hts _ hlk) (hKK.1.1 c _ hCI.1).2 (va_recv hKK.1 hPw hcl (q0 := 0) rfl) d k2
        · rw [if_neg e1]
          by_cases e2 : o.1 = n
          · rw [if_pos e2]
            refine ⟨k0.1, fun p l e R s m args below meth c0 G h0 r h1' K hP hle H locs ls hR hS hl => ?_⟩
            have k2 := k0.2 p l e R s m args below meth c0 G h0 r h1' K hP hle H locs ls hR hS hl
            obtain ⟨hx, hb, hml, ho, hts, hlk', hret, hKK, -⟩ := K
            have hcl : clTab[o.1]? = some (C', T', N') := by rw [e2]; exact hCI'.1
            obtain ⟨-, hPw⟩ := (hR.2.2 a _ hc).obj (by rw [e2]; exact hCI'.2.2.2.2)
            exact va_instNo hx hb ho (hts _ hlk) (hKK.2.2.2.2.1 _ hnc) (va_recv hKK.1 hPw hcl (q0 := 0) rfl) d k2
          · rw [if_neg e2]; exact Sim.none
theorem x_if_eqT {a : Int32} {off : Int} (tgt : Nat) (ha : a = 0) (ht : (pc : Int) + off = (tgt : Int)) (d : decode cc pc = .ok (.ifCond .eq off, 3)) (k : Sim (own, cc, nL, lev, ret, hh, ini) h tgt lv st P) : Sim (own, cc, nL, lev, ret, hh, ini) h pc lv (.int a :: st) P := Sim.eq (if_pos ha).symm (x_if_eq tgt ht d k (P2 := none) Sim.none)
theorem x_if_eqF {a : Int32} {off : Int} (tgt : Nat) (ha : ¬ a = 0) (ht : (pc : Int) + off = (tgt : Int)) (d : decode cc pc = .ok (.ifCond .eq off, 3)) (k : Sim (own, cc, nL, lev, ret, hh, ini) h (pc + 3) lv st P) : Sim (own, cc, nL, lev, ret, hh, ini) h pc lv (.int a :: st) P := Sim.eq (if_neg ha).symm (x_if_eq tgt ht d (P1 := none) Sim.none k)
theorem x_if_neF {a : Int32} {off : Int} (tgt : Nat) (ha : a = 0) (ht : (pc : Int) + off = (tgt : Int)) (d : decode cc pc = .ok (.ifCond .ne off, 3)) (k : Sim (own, cc, nL, lev, ret, hh, ini) h (pc + 3) lv st P) : Sim (own, cc, nL, lev, ret, hh, ini) h pc lv (.int a :: st) P := Sim.eq (if_pos ha).symm (x_if_ne tgt ht d (P2 := none) Sim.none k)
theorem x_if_neT {a : Int32} {off : Int} (tgt : Nat) (ha : ¬ a = 0) (ht : (pc : Int) + off = (tgt : Int)) (d : decode cc pc = .ok (.ifCond .ne off, 3)) (k : Sim (own, cc, nL, lev, ret, hh, ini) h tgt lv st P) : Sim (own, cc, nL, lev, ret, hh, ini) h pc lv (.int a :: st) P := Sim.eq (if_neg ha).symm (x_if_ne tgt ht d k (P1 := none) Sim.none)
theorem x_ifnull {r : Option Nat} {off : Int} (tgt : Nat) (ht : (pc : Int) + off = (tgt : Int)) (d : decode cc pc = .ok (.ifnull off, 3)) (k0 : Sim (own, cc, nL, lev, ret, hh, ini) h tgt lv st P1) (k1 : Sim (own, cc, nL, lev, ret, hh, ini) h (pc + 3) lv st P2) : Sim (own, cc, nL, lev, ret, hh, ini) h pc lv (va_rf r :: st) (if r = none then P1 else P2) := by
  cases r with
  | none => rw [if_pos rfl]; exact Sim.one k0 (fun hx hb ho hts hl w => lv_ifnullN hx hb d ht w)
  | some a => rw [if_neg (by intro e; cases e)]; exact Sim.one k1 (fun hx hb ho hts hl w => lv_ifnull hx hb d w)
theorem x_ifnonnull {r : Option Nat} {off : Int} (tgt : Nat) (ht : (pc : Int) + off = (tgt : Int)) (d : decode cc pc = .ok (.ifnonnull off, 3)) (k1 : Sim (own, cc, nL, lev, ret, hh, ini) h tgt lv st P2) (k0 : Sim (own, cc, nL, lev, ret, hh, ini) h (pc + 3) lv st P1) : Sim (own, cc, nL, lev, ret, hh, ini) h pc lv (va_rf r :: st) (if r = none then P1 else P2) := by
  cases r with
  | none => rw [if_pos rfl]; exact Sim.one k0 (fun hx hb ho hts hl w => lv_ifnonnullN hx hb d w)
  | some a => rw [if_neg (by intro e; cases e)]; exact Sim.one k1 (fun hx hb ho hts hl w => lv_ifnonnull hx hb d ht w)
theorem x_idiv {a b : Int32} (d : decode cc pc = .ok (.idiv, 1)) (k : Sim (own, cc, nL, lev, ret, hh, ini) h (pc + 1) lv (.int (a / b) :: st) P) : Sim (own, cc, nL, lev, ret, hh, ini) h pc lv (.int b :: .int a :: st) (nz b P) := by
  unfold nz
  by_cases hb0 : b = 0
  · rw [if_pos hb0]; exact Sim.none
  · rw [if_neg hb0]; exact Sim.one k (fun hx hb ho hts hl w => lv_idiv hx hb d hb0 w)
theorem x_irem {a b : Int32} (d : decode cc pc = .ok (.irem, 1)) (k : Sim (own, cc, nL, lev, ret, hh, ini) h (pc + 1) lv (.int (a - a / b * b) :: st) P) : Sim (own, cc, nL, lev, ret, hh, ini) h pc lv (.int b :: .int a :: st) (nz b P) := by
  unfold nz
  by_cases hb0 : b = 0
  · rw [if_pos hb0]; exact Sim.none
  · rw [if_neg hb0]; exact Sim.one k (fun hx hb ho hts hl w => lv_irem hx hb d hb0 w)
theorem x_ldiv {a b : Int64} (d : decode cc pc = .ok (.ldiv, 1)) (k : Sim (own, cc, nL, lev, ret, hh, ini) h (pc + 1) lv (.long (a / b) :: st) P) : Sim (own, cc, nL, lev, ret, hh, ini) h pc lv (.long b :: .long a :: st) (nzL b P) := by
  unfold nzL
  by_cases hb0 : b = 0
  · rw [if_pos hb0]; exact Sim.none
  · rw [if_neg hb0]; exact Sim.one k (fun hx hb ho hts hl w => lv_ldiv hx hb d hb0 w)
theorem x_lrem {a b : Int64} (d : decode cc pc = .ok (.lrem, 1)) (k : Sim (own, cc, nL, lev, ret, hh, ini) h (pc + 1) lv (.long (a - a / b * b) :: st) P) : Sim (own, cc, nL, lev, ret, hh, ini) h pc lv (.long b :: .long a :: st) (nzL b P) := by
  unfold nzL
  by_cases hb0 : b = 0
  · rw [if_pos hb0]; exact Sim.none
  · rw [if_neg hb0]; exact Sim.one k (fun hx hb ho hts hl w => lv_lrem hx hb d hb0 w)
theorem some_rt {v : Rt} {h : PH} {r : Rt} {h1 : PH} (e : (some (v, h) : Option RH) = some (r, h1)) : r = v ∧ h1 = h := by cases e; exact ⟨rfl, rfl⟩
theorem qn_of {G : GG} {s : State} {H : Heap} {locs : List Loc} {h : PH} {v : Option Value} {args : Array Value} (hKK : KK G s) (hCK : CK G s s.heap) (hbs : G.2.1 ≤ s.heap.size) (hR : Rep G h H) (hS : va_S (GA G) s.heap H locs) : ∀ t : State, t.heap = H → s.WarmedH t.vm → Qn G (.inl v) h args s (.returned v) t := fun t ht hW =>
  ⟨⟨v, rfl, rfl⟩, ⟨KK.warm hW hKK, by rw [ht]; exact (CK.moved hW.alike hCK).kept hS.2.1, by rw [ht]; exact Nat.le_trans hbs hS.1, by rw [ht]; exact hR⟩, hS.F ht⟩
theorem mono_some {v : Rt} : Mono h (some (v, h)) := fun r h1 e => by obtain ⟨-, e2⟩ := some_rt e; rw [e2]; exact LeH.rf h
theorem x_iret {v : Int32} (d : decode cc pc = .ok (.ireturn, 1)) : Sim (own, cc, nL, lev, some .int, hh, ini) h pc lv [.int v] (rI v h) := by
  refine ⟨mono_some, fun p l e R s m args below meth c G h0 r h1 K hP hle H locs ls hR hS hl => ?_⟩
  obtain ⟨hx, hb, hml, ho, hts, hlk, hret, hKK, hCK, hbs, -⟩ := K
  obtain ⟨rfl, rfl⟩ := some_rt hP
  exact vx_ret (W.iret hx hb hret (qn_of hKK hCK hbs hR hS) hS.2.2 d hlk)
theorem x_zret {v : Int32} (d : decode cc pc = .ok (.ireturn, 1)) : Sim (own, cc, nL, lev, some .boolean, hh, ini) h pc lv [.int v] (rZ v h) := by
  unfold rZ
  by_cases hv : v = 0 ∨ v = 1
  · rw [if_pos hv]
    refine ⟨mono_some, fun p l e R s m args below meth c G h0 r h1 K hP hle H locs ls hR hS hl => ?_⟩
    obtain ⟨hx, hb, hml, ho, hts, hlk, hret, hKK, hCK, hbs, -⟩ := K
    obtain ⟨rfl, rfl⟩ := some_rt hP
    exact vx_ret (W.zret hx hb hret (okV_bool hv).1 (qn_of hKK hCK hbs hR hS) hS.2.2 d hlk)
  · rw [if_neg hv]; exact Sim.none
theorem x_lret {v : Int64} (d : decode cc pc = .ok (.lreturn, 1)) : Sim (own, cc, nL, lev, some .long, hh, ini) h pc lv [.long v] (rL v h) := by
  refine ⟨mono_some, fun p l e R s m args below meth c G h0 r h1 K hP hle H locs ls hR hS hl => ?_⟩
  obtain ⟨hx, hb, hml, ho, hts, hlk, hret, hKK, hCK, hbs, -⟩ := K
  obtain ⟨rfl, rfl⟩ := some_rt hP
  exact vx_ret (W.lret hx hb hret (qn_of hKK hCK hbs hR hS) hS.2.2 d hlk)
theorem x_vret (d : decode cc pc = .ok (.return_, 1)) : Sim (own, cc, nL, lev, none, hh, ini) h pc lv [] (rV h) := by
  refine ⟨mono_some, fun p l e R s m args below meth c G h0 r h1 K hP hle H locs ls hR hS hl => ?_⟩
  obtain ⟨hx, hb, hml, ho, hts, hlk, hret, hKK, hCK, hbs, -⟩ := K
  obtain ⟨rfl, rfl⟩ := some_rt hP
  exact vx_ret (W.vret hx hb hret (qn_of hKK hCK hbs hR hS) hS.2.2 d hlk)
theorem x_aret {v : Option Nat} {rt : FieldType} (hrt : (∃ n, rt = .object n) ∨ ∃ t, rt = .array t) (d : decode cc pc = .ok (.areturn, 1)) : Sim (own, cc, nL, lev, some rt, hh, ini) h pc lv [va_rf v] (rQ v h) := by
  refine ⟨mono_some, fun p l e R s m args below meth c G h0 r h1 K hP hle H locs ls hR hS hl => ?_⟩
  obtain ⟨hx, hb, hml, ho, hts, hlk, hret, hKK, hCK, hbs, -⟩ := K
  obtain ⟨rfl, rfl⟩ := some_rt hP
  exact vx_ret (W.aret hx hb hret hrt (by cases v with | none => exact Or.inl rfl | some a => exact Or.inr ⟨a, rfl⟩) (qn_of hKK hCK hbs hR hS) hS.2.2 d hlk)
end
theorem blind {G : GG} {h : PH} {av : List Value} : FrameBlind (va_Pc av (fun U => RepS G h U)) := fun a U g mk q => by
  obtain ⟨e, hk, hc, hb, hr⟩ := q
  exact ⟨e, KK.same (s := U) rfl hk, CK.moved (s := U) (Vm.Alike.refl U.vm) hc, hb, hr⟩
theorem MT.of {l : Launch} {G : GG} {y : MethodName} {own : String} {cc : ByteArray} {maxL lev : Nat} {rt : Option FieldType} {av : List Value} {h : PH} {P : Option RH} {ini : Bool} (hy : plainName y.cls = true) (hown : y.cls = own) (hini : ini = true → y.name = "<init>") (hsl : (lg_sl av).length ≤ maxL) (body : Sim (own, cc, maxL, lev, rt, [], ini) h 0 (lv_args 0 av) [] P) : MT l G y (ws_ y cc maxL rt) lev av h P := by
  subst hown
  intro hfl r h1 hP
  have hle := body.1 r h1 hP
  refine ⟨hle, ?_⟩
  refine vx_ofW (cc := cc) (maxL := maxL) (ret := rt) hy rfl ?_
  intro p e s m args below meth c s₁ B hml htab hv
  obtain ⟨rfl, hKK, hCK, hbs, hR⟩ := hv
  have hts := atoms_spec (ws := ws_ y cc maxL rt) B.pre
  have hts' : ∀ w ∈ lw_all, w.before _ s = true := fun w h => hts w (List.mem_cons_of_mem _ h)
  have hl := lv_entry av (n := maxL) hsl
  rw [lg_entry_eq]
  have hk : Kx (y.cls, cc, maxL, lev, rt, [], ini) p l (rmL lev (h1.2.1.1 - h.2.1.1) (h1.2.1.2 - h.2.1.2)) s m av.toArray meth c G h h1 := ⟨B.exec, B.bytes, hml, findClass_of_methodNamed B.named, hts', B.notSynchronized, B.returns, hKK, hCK, hbs, rfl, hfl, by
    cases hz : c.exceptionTable.toList with
    | nil => rfl
    | cons a b => exact absurd (List.mem_cons_self) (fun h9 => htab a (by rw [hz]; exact h9)), fun hi => ((name_of_methodNamed B.named B.method).1).trans (hini hi)⟩
  have k := body.2 p l e _ s m av.toArray below meth c G h r h1 hk hP (LeH.rf h) s.heap [] _ hR va_S.rf (by rw [hml]; exact hl)
  rw [Nat.sub_self, Nat.sub_self] at k
  exact k
