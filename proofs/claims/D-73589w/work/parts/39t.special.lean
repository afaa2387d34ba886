/-! ROWS: copies of arrays, a store that is refused -/
set_option maxRecDepth 100000
/-- the elements that move may be stored -/
def elsOk (h : PH) (t : Nat) (f : Nat → Option Nat) (sp n : Nat) : Bool := (List.range n).all fun i => match f (sp + i) with
  | none => true
  | some y => match h.1 y with
    | some c => okS t c
    | none => false
/-- part of an array of references is laid elsewhere in it -/
def cpQ {β : Type} (h : PH) (a : Nat) (sp dp n : Int32) (K : PH → Option β) : Option β := aQ h a fun t l f =>
  if sp < 0 ∨ dp < 0 ∨ n < 0 ∨ l < sp.toNatClampNeg + n.toNatClampNeg ∨ l < dp.toNatClampNeg + n.toNatClampNeg ∨ elsOk h t f sp.toNatClampNeg n.toNatClampNeg = false then none
  else K (hset h a (.inl (t, l, .inr (.inr (.inr (.inr (va_cpy f f sp.toNatClampNeg dp.toNatClampNeg n.toNatClampNeg)))))))
/-- a store into an array of Inner or Leaf: a Leaf into Inner's is refused -/
def stX (h : PH) (a : Nat) (i : Int32) (b : Nat) (K : PH → Option RH) (E : Nat → PH → Option RH) : Option RH := aQ h a fun t n f => inB i n (match h.1 b with
  | some (.inr o) => if t = 6 ∧ o.1 = 9 then E (h.2.1.1 + 2) (hbump h 3 23) else if okS t (.inr o) = true then K (hset h a (.inl (t, n, .inr (.inr (.inr (.inr (va_up f i.toNatClampNeg (some b)))))))) else none
  | _ => none)
theorem aastore_bad {e : Env} {s : State} {f : JFrame} {Q : Unit → Pre} {E : CtlPost} {d : Bool} {acts : List Action} {a v : Addr} {i : Int32} {rest : List Value} {c cv : Cell} {k kv kcomp : Class} {comp : ClassId} {t : FieldType}
    (hs : s.topJava?.isSome) (hstack : f.stack = .ref v :: .int i :: .ref a :: rest) (hcell : s.heap[a]? = some c) (hobj : ∀ x, c.vm ≠ .statics x) (hknown : c.vm ≠ .unknown)
    (hk : s.vm.classes[c.cls]? = some k) (hkind : k.kind = .array comp t) (hi : ¬ i < 0) (hlt : i.toNatClampNeg < c.slots.size)
    (hv : s.heap[v]? = some cv) (hvobj : ∀ x, cv.vm ≠ .statics x) (hkv : s.vm.classes[cv.cls]? = some kv) (hkcomp : s.vm.classes[comp]? = some kcomp)
    (hinst : s.vm.assignable cv.cls comp = false) :
    wp aastore.sem Q E e d acts (s.setTop f) ↔ E (.throwNew "java/lang/ArrayStoreException" (some kv.shown)) acts (s.setTop { f with stack := rest }) := by
  have harr : s.isArray c := ⟨hobj, k, hk, comp, t, hkind⟩
  simp [aastore.sem, hs, hstack, hcell, hobj, hknown, hk, hkind, hi, hlt, Nat.not_le.mpr hlt, harr, hv, hvobj, hkv, hkcomp, hinst]
theorem aast_bad {p : Program} {l : Launch} {e : Env} {R : Room} {s : State} {m : MethodId} {args : Array Value} {below : List Frame} {meth : Method} {c : Code} {T : State} {locs : List Loc} {cells slots : Nat} (X : Stand p l e R s m args below meth c T locs cells slots) (hexec : p.tables.exec = Jvm.exec)
    {a v : Addr} {cell cv : Cell} {j : Int32} {k kv kcomp : Class} {comp : ClassId} {t : FieldType} (hcell : T.heap[a]? = some cell) (hobj : ∀ q, cell.vm ≠ .statics q) (hknown : cell.vm ≠ .unknown)
    (hk : s.vm.classes[cell.cls]? = some k) (hkind : k.kind = .array comp t) (hkcomp : s.vm.classes[comp]? = some kcomp) (hin : ¬ j < 0 ∧ j.toNatClampNeg < cell.slots.size)
    (hv : T.heap[v]? = some cv) (hvobj : ∀ q, cv.vm ≠ .statics q) (hkv : s.vm.classes[cv.cls]? = some kv) (hinst : s.vm.assignable cv.cls comp = false)
    {g : JFrame} (hg : g.method = m) {rest : List Value} (hstack : g.stack = .ref v :: .int j :: .ref a :: rest) (hdg : decode c.code g.pc = .ok (.aastore, 1)) :
    ∀ target, Steps p.tables e below ((T.setTop { g with stack := rest }).pushFrame (.throwNew "java/lang/ArrayStoreException" (some kv.shown) none)) target → Steps p.tables e below (T.setTop g) target := by
  have hal : s.vm.Alike T.vm := X.warmed.alike
  obtain ⟨k₁, hk₁, hek⟩ := hal.2.2 _ _ hk
  have hkind₁ : k₁.kind = .array comp t := by rw [hek]; exact hkind
  obtain ⟨kcomp₁, hkcomp₁, -⟩ := hal.2.2 _ _ hkcomp
  obtain ⟨kv₁, hkv₁, hekv⟩ := hal.2.2 _ _ hkv
  have hsh : kv₁.shown = kv.shown := by rw [hekv]; rfl
  have hinst₁ : T.vm.assignable cv.cls comp = false := by rw [hal.assignable]; exact hinst
  intro target hrest
  subst hg
  jvm_step X.here [hexec, hdg, aastore_bad (e := e) (s := T) (f := g) X.here.top hstack hcell hobj hknown hk₁ hkind₁ hin.1 hin.2 hv hvobj hkv₁ hkcomp₁ hinst₁, hsh]
  exact hrest
/-! the words of the throws -/
theorem words_at {L : List Cond} {ps : List Nat} (hL : L = ps.filterMap (fun i => lw_tbl[i]?)) (hk : L.all (fun w => goodWord w || nwKind w) = true) {args : Array Value} {s : State} {G : GG} (hts : ∀ w ∈ lw_all, w.before args s = true) (hKK : KK G s) : ∀ w ∈ L, w.before args s = true := by
  intro w hw
  have h1 := List.all_eq_true.mp hk w hw
  have h2 : w ∈ lw_tbl := by
    rw [hL] at hw
    obtain ⟨i, -, hi⟩ := List.mem_filterMap.mp hw
    exact List.mem_of_getElem? hi
  simp only [Bool.or_eq_true] at h1
  rcases h1 with h1 | h1
  · exact hts w (lw_g h2 h1)
  · exact va_Nw.use (nw_tab h1) (hKK.2.1 w h2 h1)
abbrev aseW : List Cond := vx_atM "java/lang/ArrayStoreException" ["java/lang/RuntimeException", "java/lang/Exception"]
abbrev nseW : List Cond := vx_at0 "BitRopes" 154 "java/util/NoSuchElementException" ["java/lang/RuntimeException", "java/lang/Exception"]
theorem aseW_pl : aseW = ([111, 173, 182, 186, 189, 191, 174, 175, 151, 152, 176, 181, 187, 207, 163, 208, 165, 209, 167, 177, 179, 169, 929, 930, 206, 169, 920, 921, 922, 923, 940, 923, 924, 925, 926, 157, 926, 927, 928, 929, 159, 122, 942, 222, 943, 945, 944, 946, 130, 919, 938, 941, 184, 933, 934, 936, 932, 172, 171, 931] : List Nat).filterMap (fun i => lw_tbl[i]?) := by decide +kernel
theorem aseW_k : aseW.all (fun w => goodWord w || nwKind w) = true := by decide +kernel
theorem aseW_o : ∀ w ∈ aseW, vx_ot w = true := by decide +kernel
theorem nseW_pl : nseW = ([111, 173, 182, 186, 189, 191, 174, 175, 151, 152, 176, 181, 187, 207, 163, 208, 165, 209, 167, 177, 179, 169, 1610, 1611, 1612, 1613, 939, 1613, 1614, 1615, 1616, 156, 1616, 1617, 1618, 174, 158, 1609, 1601, 1602, 1603, 185, 1604, 1605, 1606, 1607, 172, 171, 1608] : List Nat).filterMap (fun i => lw_tbl[i]?) := by decide +kernel
theorem nseW_k : nseW.all (fun w => goodWord w || nwKind w) = true := by decide +kernel
theorem nseW_o : ∀ w ∈ Cond.classLink "BitRopes" 152 "java/util/NoSuchElementException" :: Cond.initialized "java/util/NoSuchElementException" :: nseW, vx_ot w = true := by decide +kernel
section
variable {own : String} {cc : ByteArray} {nL lev : Nat} {ret : Option FieldType} {hh : List (Nat × Nat × Nat × Nat)} {ini : Bool}
variable {h : PH} {pc : Nat} {lv : List (Nat × Value)} {st : List Value} {P P1 P2 : Option RH}
/-- 'throw new NoSuchElementException()', in BitRopes.must -/
theorem x_throwN (hown : own = "BitRopes") (hhe : hh = []) (hlv : 12 ≤ lev) (d0 : decode cc pc = .ok (.new 152, 3)) (d3 : decode cc (pc + 3) = .ok (.dup, 1)) (d4 : decode cc (pc + 4) = .ok (.invokespecial 154, 3)) (d7 : decode cc (pc + 7) = .ok (.athrow, 1)) : Sim (own, cc, nL, lev, ret, hh, ini) h pc lv [] (rX (h.2.1.1, 1) (hbump h 1 6)) := by
  subst hown
  subst hhe
  refine ⟨fun r h1 hP => ?_, fun p l e R s m args below meth c G h0 r h1 K hP hle H locs ls hR hS hl => ?_⟩
  · obtain ⟨-, e2⟩ := some_rt hP
    rw [e2]; exact LeH.bump h 1 6
  · obtain ⟨hx, hb, hml, ho, hts, hlk, hret, hKK, hCK, hbs, hRm, hfl, htab, -⟩ := K
    obtain ⟨rfl, rfl⟩ := some_rt hP
    have hle1 := hle.1
    have hle2 := hle.2.1
    refine vx_throw0 (A := GA G) (names := ["java/lang/RuntimeException", "java/lang/Exception"]) hx hb hfl ho (by decide) (by decide) (hts _ q1600) (hts _ q133) (words_at nseW_pl nseW_k hts hKK) nseW_o hCK.2.1 hCK.2.2.1 hS hl.1 d0 d3 d4 d7 (by rw [htab]; exact fun z hz => absurd hz List.not_mem_nil) (by rw [hRm]; show 5 < lev; omega) (by rw [hRm]; show 0 + 81 ≤ 128 * lev; omega) (by rw [hRm]; show _ ≤ (h.2.1.1 + 1) - h0.2.1.1; omega) (by rw [hRm]; show _ ≤ (h.2.1.2 + 6) - h0.2.1.2; omega) hlk (fun t hW hz hq hz1 => ?_) hS.2.2 (by show _ ≤ (h.2.1.1 + 1) - h0.2.1.1; omega) (by show _ ≤ (h.2.1.2 + 6) - h0.2.1.2; omega)
    refine ⟨⟨1, by rw [hR.1], rfl⟩, ⟨KK.warm hW hKK, (CK.moved hW.alike (hCK.kept hS.2.1)).kept (fun a h9 _ => hq a h9), Nat.le_trans hbs (Nat.le_trans hS.1 hz), Rep.grow hR hz1 hq⟩, ⟨Nat.le_trans hS.1 hz, fun q a1 a2 => (hq q (Nat.lt_of_lt_of_le a1 hS.1)).trans (hS.2.1 q a1 a2)⟩⟩
theorem not_hidden {vm : Vm} {C : String} {c : ClassId} {k : Class} (h : vm.findClass C = some c) (hk : vm.classes[c]? = some k) : k.hidden = none ∧ k.name = C := by
  obtain ⟨hlt, hp, _⟩ := Array.findIdx?_eq_some_iff_getElem.mp h
  have e : vm.classes[c] = k := (Array.getElem?_eq_some_iff.mp hk).2
  rw [e] at hp
  simp only [Bool.and_eq_true, beq_iff_eq] at hp
  exact ⟨Option.isNone_iff_eq_none.mp hp.1.1.2, hp.1.1.1⟩
theorem x_aastX {a b lo hi hp ct : Nat} {i : Int32} {Kc : PH → Option RH} {E : Nat → PH → Option RH} (hhe : hh = [(lo, hi, hp, ct)]) (hcov : ∀ z ∈ tableOf hh, covers z pc = true) (hct : ct ≠ 0) (hlink : Cond.classLink own ct "java/lang/ArrayStoreException" ∈ lw_all) (hlv : 90 ≤ lev) (hst : (st.map fun v => v.category).sum ≤ 8) (d : decode cc pc = .ok (.aastore, 1)) (k1 : ∀ h', Sim (own, cc, nL, lev, ret, hh, ini) h' (pc + 1) lv st (Kc h')) (k2 : ∀ q h', Sim (own, cc, nL, lev, ret, hh, ini) h' hp lv [.ref q] (E q h')) : Sim (own, cc, nL, lev, ret, hh, ini) h pc lv (.ref b :: .int i :: .ref a :: st) (stX h a i b Kc E) := Sim.use fun z e => by
  obtain ⟨t, n, f, g1, t1, t2, g2⟩ := aQ_some e
  obtain ⟨g3, g4⟩ := inB_some g2
  have hlt : i.toNatClampNeg < n := Nat.not_le.mp fun q => g3 (Or.inr q)
  have h0' : ¬ i < 0 := fun q => g3 (Or.inl q)
  have hin : ∀ Z : Option RH, inB i n Z = Z := fun Z => by
    unfold inB; exact if_neg (fun q => q.elim h0' (fun q => absurd hlt (Nat.not_lt.mpr q)))
  cases hb0 : h.1 b with
  | none => rw [hb0] at g4; cases g4
  | some c0 =>
    cases c0 with
    | inl y => rw [hb0] at g4; cases g4
    | inr o =>
      have he0 : stX h a i b Kc E = if t = 6 ∧ o.1 = 9 then E (h.2.1.1 + 2) (hbump h 3 23) else if okS t (.inr o) = true then Kc (hset h a (.inl (t, n, .inr (.inr (.inr (.inr (va_up f i.toNatClampNeg (some b)))))))) else none := by
        simp only [stX, aQ, g1, t1, t2, and_self, if_true, hin, hb0]
      rw [he0] at e ⊢
      by_cases hbad : t = 6 ∧ o.1 = 9
      · rw [if_pos hbad]
        obtain ⟨rfl, ho9⟩ := hbad
        have kk := k2 (h.2.1.1 + 2) (hbump h 3 23)
        refine ⟨fun r h1 hP => LeH.trans (LeH.bump h 3 23) (kk.1 r h1 hP), fun p l e R s m args below meth c G h0 r h1 K hP hle H locs ls hR hS hl => ?_⟩
        have kl := kk.1 r h1 hP
        have kw := kk.2 p l e R s m args below meth c G h0 r h1 K hP (LeH.trans hle (LeH.bump h 3 23))
        obtain ⟨hx, hb, hml, ho, hts, hlk, hret, hKK, hCK, hbs, hRm, hfl, htab, -⟩ := K
        have l1 : h.2.1.1 + 3 ≤ h1.2.1.1 := kl.1
        have l2 : h.2.1.2 + 23 ≤ h1.2.1.2 := kl.2.1
        have hle1 := hle.1
        have hle2 := hle.2.1
        obtain ⟨kA, comp, w1, w2, w3, -⟩ := (hKK.1.2 6 _ rfl).2
        obtain ⟨kcomp, hkc, -⟩ := Vm.findClass_spec w3
        have hcl9 : clTab[o.1]? = some (RX12, TX12, 5) := by rw [ho9]; rfl
        obtain ⟨-, hPw⟩ := (hR.2.2 b _ hb0).obj (by rw [ho9]; decide)
        obtain ⟨r', hr', cellV, v1, v2, v3, -⟩ := hPw 0 _ rfl
        have hcls := (hKK.1.1 o.1 _ hcl9).2
        obtain ⟨kC, hkC, -⟩ := hcls.2
        obtain ⟨nh1, nh2⟩ := not_hidden hcls.1 hkC
        have hsh : kC.shown = "BitRopes$Leaf" := by
          simp only [Class.shown, nh1, nh2]
          decide +kernel
        have hno : s.vm.assignable cellV.cls comp = false := by
          obtain ⟨x1, x2, y1, y2, y3⟩ := hKK.2.2.2.2.1 (RX12, RX13) (by decide +kernel)
          have e1 : cellV.cls = x1 := by rw [v2]; exact Option.some.inj (hcls.1.symm.trans y1)
          have e2 : comp = x2 := Option.some.inj (w3.symm.trans y2)
          rw [e1, e2]; exact y3
        have note : vx_Note p l e R s m args below meth c H locs (h.2.1.1 - h0.2.1.1) (h.2.1.2 - h0.2.1.2) (vx_MQ below (Qn G r h1) (Xn G r h1) args s (h1.2.1.1 - h0.2.1.1) (h1.2.1.2 - h0.2.1.2) (GA G)) (F0 m pc ls st) "java/lang/ArrayStoreException" "BitRopes$Leaf" := by
          refine vx_vm (A := GA G) (nb := 13) (names := ["java/lang/RuntimeException", "java/lang/Exception"]) hx hfl (by decide) (by decide) (by decide) (by decide) (words_at aseW_pl aseW_k hts hKK) aseW_o hCK.2.1 hCK.2.2.1 hS hl.1 (by decide +kernel) (by decide +kernel) (by decide) (by rw [hRm]; show 6 < lev; omega) (by rw [hRm]; show _ ≤ 128 * lev; omega) (by decide) (by rw [hRm]; show _ ≤ h1.2.1.1 - h0.2.1.1; omega) (by rw [hRm]; show _ ≤ h1.2.1.2 - h0.2.1.2; omega) hlk (fun H1 q9 ce hz hq9 hq hS1 c1 c2 c3 => ?_)
          subst hhe
          have kw := kw H1 locs ls (Rep.grow hR hz hq) hS1 hl
          have ec : (hbump h 3 23).2.1.1 - h0.2.1.1 = (h.2.1.1 - h0.2.1.1) + 3 := by show h.2.1.1 + 3 - _ = _; omega
          have es : (hbump h 3 23).2.1.2 - h0.2.1.2 = (h.2.1.2 - h0.2.1.2) + (13 + 10) := by show h.2.1.2 + 23 - _ = _; omega
          have hq8 : q9 = h.2.1.1 + 2 := by rw [hq9, hR.1]
          rw [ec, es, ← hq8] at kw
          exact vx_catch (own := own) (E := "java/lang/ArrayStoreException") ho [] _ [] (by rw [htab]; rfl) (fun z hz => absurd hz List.not_mem_nil) (hcov _ List.mem_cons_self) hct (hts _ hlink) (va_Nw.use rfl (hKK.2.1 _ q938 rfl)) c1 c2 c3 kw
        intro T hT X
        obtain ⟨t9, st9, q9⟩ := note T hT X
        refine ⟨t9, aast_bad X hx (kv := kC) (by rw [hT]; exact (hR.2.2 a _ g1).2) (fun q h => by cases h) (fun h => by cases h) w1 w2 hkc ⟨h0', by show _ < (arrV _ _ _).slots.size; rw [arrV_size]; exact hlt⟩ (by rw [hT]; exact v1) (fun q h => by rw [v3] at h; cases h) (by rw [v2]; exact hkC) hno (g := F0 m pc ls (.ref b :: .int i :: .ref a :: st)) rfl (rest := st) rfl (by rw [hb]; exact d) t9 (by rw [hsh]; exact st9), q9⟩
      · rw [if_neg hbad] at e ⊢
        by_cases hok : okS t (.inr o) = true
        · have kk := x_aast (own := own) (nL := nL) (lev := lev) (ret := ret) (hh := hh) (ini := ini) (h := h) (a := a) (i := i) (r := some b) (Kc := Kc) d k1
          have e9 : stQ h a i (some b) Kc = Kc (hset h a (.inl (t, n, .inr (.inr (.inr (.inr (va_up f i.toNatClampNeg (some b)))))))) := by
            simp only [stQ, aQ, g1, t1, t2, and_self, if_true, hin, hb0, hok]
          rw [e9] at kk
          rw [if_pos hok]
          exact kk
        · rw [if_neg hok] at e; cases e
end
