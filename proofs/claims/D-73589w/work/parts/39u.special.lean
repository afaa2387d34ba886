/-! ROWS: copies of arrays -/
set_option maxRecDepth 100000
section
variable {own : String} {cc : ByteArray} {nL lev : Nat} {ret : Option FieldType} {hh : List (Nat × Nat × Nat × Nat)} {ini : Bool}
variable {h : PH} {pc : Nat} {lv : List (Nat × Value)} {st : List Value} {P P1 P2 : Option RH}
theorem clone_core {p : Program} {l : Launch} {e : Env} {R : Room} {s : State} {m : MethodId} {args : Array Value} {below : List Frame} {meth : Method} {c : Code} {G : GG} {H : Heap} {locs : List Loc} {ls : Array Slot} {cells slots : Nat} {Q : State → Prop} {own ad : String} {cc : ByteArray} {pc index a t : Nat} {x : vp_A} {ty : FieldType} {rest : List Value}
    (hexec : p.tables.exec = Jvm.exec) (hb : c.code = cc) (hml : c.maxLocals = ls.size) (hown : s.vm.findClass own = some m.cls)
    (hlink : (Cond.methodLink own index ⟨ad, "clone", "()Ljava/lang/Object;"⟩).before args s = true) (hsame : (Cond.sameMethod ad "java/lang/Object" "clone" "()Ljava/lang/Object;").before args s = true)
    (hnat : (Cond.native ⟨"java/lang/Object", "clone", "()Ljava/lang/Object;"⟩).before args s = true) (hinst : (Cond.instanceMethod ⟨"java/lang/Object", "clone", "()Ljava/lang/Object;"⟩).before args s = true)
    (hsel : (Cond.selects ad ⟨ad, "clone", "()Ljava/lang/Object;"⟩ ⟨"java/lang/Object", "clone", "()Ljava/lang/Object;"⟩).before args s = true) (hcl : va_Nw (.castable ad "java/lang/Cloneable") s)
    (hK : KK G s) (ht : (aTys G.1.2)[t]? = some (G.1.2 t, ty)) (ha : H[a]? = some (vp_cell (G.1.2 t) x)) (hnm : s.vm.findClass ad = some (G.1.2 t)) (hfit : ∀ (i : Nat) (v : Value), (vp_cell (G.1.2 t) x).slots[i]? = some v → fits ty v = true)
    (hframes : 1 ≤ R.frames) (hlocals : (rest.map fun v => v.category).sum + 14 ≤ R.locals) (hcells : cells + 1 ≤ R.cells) (hslots : slots + x.1 ≤ R.slots) (hdg : decode cc pc = .ok (.invokevirtual index, 3))
    (kk : ∀ H1 : Heap, H1[H.size]? = some (vp_cell (G.1.2 t) x) → H1.size = H.size + 1 → (∀ q : Nat, q < H.size → H1[q]? = H[q]?) → W p l e R s m args below meth c H1 locs (cells + 1) (slots + x.1) Q (F0 m (pc + 3) ls (.ref H.size :: rest))) : W p l e R s m args below meth c H locs cells slots Q (F0 m pc ls (.ref a :: rest)) := by
  have hsz : (vp_cell (G.1.2 t) x).slots.size = x.1 := by
    obtain ⟨n, f | f | f | f | f⟩ := x <;> exact arrV_size _ _ _
  have hvm0 : (vp_cell (G.1.2 t) x).vm = .none := by
    obtain ⟨n, f | f | f | f | f⟩ := x <;> rfl
  have hcl0 : (vp_cell (G.1.2 t) x).cls = G.1.2 t := by
    obtain ⟨n, f | f | f | f | f⟩ := x <;> rfl
  have hcellE : ({ cls := (vp_cell (G.1.2 t) x).cls, slots := (vp_cell (G.1.2 t) x).slots } : Cell) = vp_cell (G.1.2 t) x := by
    obtain ⟨n, f | f | f | f | f⟩ := x <;> rfl
  obtain ⟨c0, t0', f1, f2, f3⟩ := Cond.castable_spec (va_Nw.use (A := args) rfl hcl)
  cases hnm.symm.trans f1
  intro T hT X
  have hcellT : T.heap[a]? = some (vp_cell (G.1.2 t) x) := by rw [hT]; exact ha
  obtain ⟨-, kA, hkA, comp, hkind⟩ := State.isArrayOf_alike X.warmed.alike ((hK.1.2 t _ ht).1 0 (fun _ => .null))
  obtain ⟨-, kS, hkS, compS, hkindS⟩ := (hK.1.2 t _ ht).1 0 (fun _ => .null)
  obtain ⟨vm', X', st⟩ := X.cloneArray hexec hown hlink hsame hnat hinst hsel (a := a) (cell := vp_cell (G.1.2 t) x) hcellT (fun k h => by rw [hvm0] at h; cases h) (by rw [hvm0]; exact fun h => by cases h) (by rw [hcl0]; exact hnm) f2 (by rw [hcl0]; exact f3)
    (fun i v hv => by
      rw [hcl0]
      have hk' : T.vm.classes[G.1.2 t]? = some kA := hkA
      simpa [State.fitsSlot, State.slotType?, hk', hkind] using hfit i v hv)
    (g := F0 m pc ls (.ref a :: rest)) rfl (by rw [hml]) rfl (by rw [hb]; exact hdg) hframes (by show 2 * 0 + _ + 14 ≤ _; omega) hcells (by rw [hsz]; exact hslots) (hloader := by rw [hcl0]; exact Vm.clonesLoader_of_array hkS hkindS)
  rw [hcellE, hsz] at X'
  generalize hH1 : H.push (vp_cell (G.1.2 t) x) = H1
  have z1 : H1.size = H.size + 1 := by rw [← hH1, Array.size_push]
  have e1 : H1[H.size]? = some (vp_cell (G.1.2 t) x) := by rw [← hH1, Array.getElem?_push_size]
  have o1 : ∀ q : Nat, q < H.size → H1[q]? = H[q]? := fun q hq => by rw [← hH1, Array.getElem?_push, if_neg (Nat.ne_of_lt hq)]
  obtain ⟨t9, b1, b2⟩ := kk H1 e1 z1 o1 ((T.setVm vm').pushCell (vp_cell (G.1.2 t) x)) (by rw [← hH1, ← hT]; rfl) X'
  refine ⟨t9, st t9 ?_, b2⟩
  rw [hcellE, hT]
  exact b1
theorem x_cloneI {index a : Nat} {Kc : Nat → PH → Option RH} (hl1 : Cond.methodLink own index ⟨"[I", "clone", "()Ljava/lang/Object;"⟩ ∈ lw_all) (hlv : 1 ≤ lev) (hs : (st.map fun v => v.category).sum ≤ 8) (d : decode cc pc = .ok (.invokevirtual index, 3)) (kk : ∀ a' h', Sim (own, cc, nL, lev, ret, hh, ini) h' (pc + 3) lv (.ref a' :: st) (Kc a' h')) : Sim (own, cc, nL, lev, ret, hh, ini) h pc lv (.ref a :: st) (clI h a Kc) := Sim.use fun z e => by
  obtain ⟨n, f, g1, g2⟩ := aI_some e
  have he : clI h a Kc = Kc h.2.1.1 (hnew h n (.inl (0, n, .inl f))) := by rw [g2]; exact e
  rw [he]
  have kk := kk h.2.1.1 (hnew h n (.inl (0, n, .inl f)))
  refine ⟨fun r' h1' hP' => LeH.trans (LeH.new h _ _) (kk.1 r' h1' hP'), fun p l e R s m args below meth c G h0 r h1 K hP hle H locs ls hR hS hl => ?_⟩
  have k1 := kk.1 _ _ hP
  have k2 := kk.2 p l e R s m args below meth c G h0 r h1 K hP
  obtain ⟨hx, hb, hml, ho, hts, hlk, hret, hKK, hCK, hbs, hRm, -⟩ := K
  have l1 : h.2.1.1 + 1 ≤ h1.2.1.1 := k1.1
  have l2 : h.2.1.2 + n ≤ h1.2.1.2 := k1.2.1
  have hle1 := hle.1
  have hle2 := hle.2.1
  refine clone_core (t := 0) (ty := .int) (x := (n, .inl f)) hx hb hl.1.symm ho (hts _ hl1) (hts _ q1580) (hts _ q1574) (hts _ q1575) (hts _ q1581) (hKK.2.1 _ q1582 rfl) hKK rfl (hR.2.2 a _ g1).2 (va_nm_int (hKK.1.2 0 _ rfl).2) (fun i v hv => by rw [vp_cell_i] at hv; exact va_fit (fun i _ => rfl) i v hv) (by rw [hRm]; exact hlv) (by rw [hRm]; show _ ≤ 128 * lev; omega) (by rw [hRm]; show _ ≤ h1.2.1.1 - h0.2.1.1; omega) (by rw [hRm]; show _ ≤ h1.2.1.2 - h0.2.1.2; omega) d (fun H1 e1 z1 o1 => ?_)
  exact newA_core (r := r) (h1 := h1) (t := 0) (n := n) (f := .inl f) hle hbs hR hS e1 z1 o1 (fun a1 a2 a3 => k2 a1 H1 locs ls a2 a3 hl)
theorem x_cloneL {index a : Nat} {Kc : Nat → PH → Option RH} (hl1 : Cond.methodLink own index ⟨"[J", "clone", "()Ljava/lang/Object;"⟩ ∈ lw_all) (hlv : 1 ≤ lev) (hs : (st.map fun v => v.category).sum ≤ 8) (d : decode cc pc = .ok (.invokevirtual index, 3)) (kk : ∀ a' h', Sim (own, cc, nL, lev, ret, hh, ini) h' (pc + 3) lv (.ref a' :: st) (Kc a' h')) : Sim (own, cc, nL, lev, ret, hh, ini) h pc lv (.ref a :: st) (clL h a Kc) := Sim.use fun z e => by
  obtain ⟨n, f, g1, g2⟩ := aL_some e
  have he : clL h a Kc = Kc h.2.1.1 (hnew h n (.inl (1, n, .inr (.inl f)))) := by rw [g2]; exact e
  rw [he]
  have kk := kk h.2.1.1 (hnew h n (.inl (1, n, .inr (.inl f))))
  refine ⟨fun r' h1' hP' => LeH.trans (LeH.new h _ _) (kk.1 r' h1' hP'), fun p l e R s m args below meth c G h0 r h1 K hP hle H locs ls hR hS hl => ?_⟩
  have k1 := kk.1 _ _ hP
  have k2 := kk.2 p l e R s m args below meth c G h0 r h1 K hP
  obtain ⟨hx, hb, hml, ho, hts, hlk, hret, hKK, hCK, hbs, hRm, -⟩ := K
  have l1 : h.2.1.1 + 1 ≤ h1.2.1.1 := k1.1
  have l2 : h.2.1.2 + n ≤ h1.2.1.2 := k1.2.1
  have hle1 := hle.1
  have hle2 := hle.2.1
  refine clone_core (t := 1) (ty := .long) (x := (n, .inr (.inl f))) hx hb hl.1.symm ho (hts _ hl1) (hts _ q1573) (hts _ q1574) (hts _ q1575) (hts _ q1576) (hKK.2.1 _ q1577 rfl) hKK rfl (hR.2.2 a _ g1).2 (va_nm_long (hKK.1.2 1 _ rfl).2) (fun i v hv => by rw [vp_cell_l] at hv; exact va_fit (fun i _ => rfl) i v hv) (by rw [hRm]; exact hlv) (by rw [hRm]; show _ ≤ 128 * lev; omega) (by rw [hRm]; show _ ≤ h1.2.1.1 - h0.2.1.1; omega) (by rw [hRm]; show _ ≤ h1.2.1.2 - h0.2.1.2; omega) d (fun H1 e1 z1 o1 => ?_)
  exact newA_core (r := r) (h1 := h1) (t := 1) (n := n) (f := .inr (.inl f)) hle hbs hR hS e1 z1 o1 (fun a1 a2 a3 => k2 a1 H1 locs ls a2 a3 hl)
theorem castA_core {index a t : Nat} {ad : String} (hnm : ∀ (G : GG) (s : State), KK G s → s.vm.findClass ad = some (G.1.2 t)) (hl1 : Cond.classLink own index ad ∈ lw_all) (d : decode cc pc = .ok (.checkcast index, 3)) (k : Sim (own, cc, nL, lev, ret, hh, ini) h (pc + 3) lv (.ref a :: st) P) : Sim (own, cc, nL, lev, ret, hh, ini) h pc lv (.ref a :: st) (grdA h a t P) := by
  unfold grdA
  cases hc : h.1 a with
  | none => exact Sim.none
  | some z =>
    cases z with
    | inr o => exact Sim.none
    | inl y =>
      dsimp only
      by_cases e0 : y.1 = t
      · rw [if_pos e0]
        refine ⟨k.1, fun p l e R s m args below meth c G h0 r h1 K hP hle H locs ls hR hS hl => ?_⟩
        have k2 := k.2 p l e R s m args below meth c G h0 r h1 K hP hle H locs ls hR hS hl
        obtain ⟨hx, hb, hml, ho, hts, hlk, hret, hKK, -⟩ := K
        exact va_castA hx hb ho (hts _ hl1) (hR.2.2 a _ hc).arr.2 0 rfl (by rw [hnm G s hKK, ← e0]) d k2
      · rw [if_neg e0]; exact Sim.none
theorem x_castA0 {index a : Nat} (hl1 : Cond.classLink own index "[I" ∈ lw_all) (d : decode cc pc = .ok (.checkcast index, 3)) (k : Sim (own, cc, nL, lev, ret, hh, ini) h (pc + 3) lv (.ref a :: st) P) : Sim (own, cc, nL, lev, ret, hh, ini) h pc lv (.ref a :: st) (grdA h a 0 P) := castA_core (fun G s hk => va_nm_int (hk.1.2 0 _ rfl).2) hl1 d k
theorem x_castA1 {index a : Nat} (hl1 : Cond.classLink own index "[J" ∈ lw_all) (d : decode cc pc = .ok (.checkcast index, 3)) (k : Sim (own, cc, nL, lev, ret, hh, ini) h (pc + 3) lv (.ref a :: st) P) : Sim (own, cc, nL, lev, ret, hh, ini) h pc lv (.ref a :: st) (grdA h a 1 P) := castA_core (fun G s hk => va_nm_long (hk.1.2 1 _ rfl).2) hl1 d k
end
