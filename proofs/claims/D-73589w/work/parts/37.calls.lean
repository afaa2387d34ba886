/-! ROWS: calls, exceptions -/
set_option maxRecDepth 100000
/-- a method whose pure function is P, at these arguments -/
def MM (y : MethodName) (ws : List Cond) (lev : Nat) (av : List Value) (h : PH) (P : Option RH) : Prop := Mono h P ∧ ∀ (l : Launch) (G : GG), MT l G y ws lev av h P
theorem MM.of {y : MethodName} {own : String} {cc : ByteArray} {maxL lev : Nat} {rt : Option FieldType} {av : List Value} {h : PH} {P : Option RH} {ini : Bool} (hy : plainName y.cls = true) (hown : y.cls = own) (hini : ini = true → y.name = "<init>") (hsl : (lg_sl av).length ≤ maxL) (body : Sim (own, cc, maxL, lev, rt, [], ini) h 0 (lv_args 0 av) [] P) : MM y (ws_ y cc maxL rt) lev av h P := ⟨body.1, fun l G => MT.of hy hown hini hsl body⟩
/-- the same, a method with handlers -/
theorem MM.ofH {y : MethodName} {own : String} {cc : ByteArray} {maxL lev : Nat} {rt : Option FieldType} {hh : List (Nat × Nat × Nat × Nat)} {av : List Value} {h : PH} {P : Option RH} (hy : plainName y.cls = true) (hown : y.cls = own) (hsl : (lg_sl av).length ≤ maxL) (body : Sim (own, cc, maxL, lev, rt, hh, false) h 0 (lv_args 0 av) [] P) : MM y (wsW_ y cc maxL rt hh) lev av h P := by
  subst hown
  refine ⟨body.1, fun l G hfl r h1 hP => ⟨body.1 r h1 hP, ?_⟩⟩
  refine vx_ofWH (cc := cc) (maxL := maxL) (ret := rt) (hh := hh) hy rfl ?_
  intro p e s m args below meth c s₁ B hml hv
  obtain ⟨rfl, hKK, hCK, hbs, hR⟩ := hv
  have hts := atoms_spec (ws := wsW_ y cc maxL rt hh) B.pre
  have hts' : ∀ w ∈ lw_all, w.before _ s = true := fun w h => hts w (List.mem_cons_of_mem _ h)
  have hl := lv_entry av (n := maxL) hsl
  rw [lg_entry_eq]
  have hk : Kx (y.cls, cc, maxL, lev, rt, hh, false) p l (rmL lev (h1.2.1.1 - h.2.1.1) (h1.2.1.2 - h.2.1.2)) s m av.toArray meth c G h h1 := ⟨B.exec, B.bytes, hml, findClass_of_methodNamed B.named, hts', B.notSynchronized, B.returns, hKK, hCK, hbs, rfl, hfl, vx_table (x := y) B (hts _ List.mem_cons_self), fun hi => by cases hi⟩
  have k := body.2 p l e _ s m av.toArray below meth c G h r h1 hk hP (LeH.rf h) s.heap [] _ hR va_S.rf (by rw [hml]; exact hl)
  rw [Nat.sub_self, Nat.sub_self] at k
  exact k
theorem call_core {p : Program} {l : Launch} {e : Env} {R : Room} {s : State} {m : MethodId} {args : Array Value} {below : List Frame} {meth : Method} {c : Code} {G : GG} {h0 h h2 : PH} {rr : Rt} {H : Heap} {locs : List Loc} {ls : Array Slot} {pc : Nat} {st0 rest : List Value} {a : Array Value} {Q : State → Prop}
    (run : vx_Run p l e R s m args below meth c H locs (h.2.1.1 - h0.2.1.1) (h.2.1.2 - h0.2.1.2) (h2.2.1.1 - h.2.1.1) (h2.2.1.2 - h.2.1.2) (F0 m pc ls st0) rest (Qn G rr h2 a) (Xn G rr h2) (GA G)) (hS : va_S (GA G) s.heap H locs) (le1 : LeH h0 h) (le2 : LeH h h2)
    (kn : ∀ v, rr = .inl v → ∀ (H' : Heap) (locs' : List Loc), Rep G h2 H' → va_S (GA G) s.heap H' locs' → W p l e R s m args below meth c H' locs' (h2.2.1.1 - h0.2.1.1) (h2.2.1.2 - h0.2.1.2) Q (F0 m (pc + 3) ls (v.toList ++ rest)))
    (kx : ∀ q k, rr = .inr (q, k) → ∀ (H' : Heap) (locs' : List Loc) (ce : Cell), Rep G h2 H' → va_S (GA G) s.heap H' locs' → H'[q]? = some ce → ce.vm = .none → s.vm.findClass (xcName k) = some ce.cls → vx_W p l e R s m args below meth c H' locs' (h2.2.1.1 - h0.2.1.1) (h2.2.1.2 - h0.2.1.2) Q (F0 m pc ls rest) q) :
    W p l e R s m args below meth c H locs (h.2.1.1 - h0.2.1.1) (h.2.1.2 - h0.2.1.2) Q (F0 m pc ls st0) := by
  have e1c : (h.2.1.1 - h0.2.1.1) + (h2.2.1.1 - h.2.1.1) = h2.2.1.1 - h0.2.1.1 := by have := le1.1; have := le2.1; omega
  have e1s : (h.2.1.2 - h0.2.1.2) + (h2.2.1.2 - h.2.1.2) = h2.2.1.2 - h0.2.1.2 := by have := le1.2; have := le2.2.1; omega
  intro T hT X
  have frame : ∀ {st₀ t T' : State} {L : List Loc}, st₀.heap = H → T'.heap = t.heap → (∀ q ∈ L, GA G q.base) → va_F (GA G) st₀ t → va_S (GA G) s.heap T'.heap (locs ++ L) := by
    intro st₀ t T' L a0 a1 a2 a3
    refine ⟨by rw [a1]; exact Nat.le_trans hS.1 (by rw [← a0]; exact a3.1), fun q b1 b2 => ?_, fun q hq => ?_⟩
    · rw [a1, a3.2 q (by rw [a0]; exact Nat.lt_of_lt_of_le b1 hS.1) b2, a0]
      exact hS.2.1 q b1 b2
    · rcases List.mem_append.mp hq with b | b
      · exact hS.2.2 q b
      · exact a2 q b
  rcases run T hT X with ⟨v, st₀, t, T', L, a0, X', hL, e1, e2, ⟨⟨v', hv1, hv2⟩, hRS, hF⟩, st⟩ | ⟨q, st₀, t, T', L, E, ce, a0, X', hL, e1, e2, ⟨⟨k, hq1, hq2⟩, hRS, hF⟩, hce, hcv, hcl, st⟩
  · cases hv2
    rw [e1c, e1s] at X'
    obtain ⟨t2, a1, b1⟩ := kn v hv1 T'.heap (locs ++ L) (by rw [e1]; exact hRS.2.2.2) (frame a0 e1 hL hF) T' rfl X'
    exact ⟨t2, st t2 a1, b1⟩
  · rw [e1c, e1s] at X'
    obtain ⟨t2, a1, b1⟩ := kx q k hq1 T'.heap (locs ++ L) ce (by rw [e1]; exact hRS.2.2.2) (frame a0 e1 hL hF) (by rw [e1]; exact hce) hcv (by rw [← hq2]; exact hcl) T' rfl X'
    exact ⟨t2, st.trans a1, b1⟩
section
variable {own : String} {cc : ByteArray} {nL lev : Nat} {ret : Option FieldType} {hh : List (Nat × Nat × Nat × Nat)} {ini : Bool}
variable {h : PH} {pc : Nat} {lv : List (Nat × Value)} {st : List Value} {P P1 P2 : Option RH}
theorem Sim.call {P0 : Option RH} {Kn : Option Value → PH → Option RH} {E : Nat × Nat → PH → Option RH} {st0 rest : List Value} (mono0 : Mono h P0)
    (run : ∀ (p : Program) (l : Launch) (e : Env) (R : Room) (s : State) (m : MethodId) (args : Array Value) (below : List Frame) (meth : Method) (c : Code) (G : GG) (h0 h1 : PH) (rr : Rt) (h2 : PH), Kx (own, cc, nL, lev, ret, hh, ini) p l R s m args meth c G h0 h1 → P0 = some (rr, h2) → LeH h0 h → LeH h2 h1 → ∀ (H : Heap) (locs : List Loc) (ls : Array Slot), Rep G h H → va_S (GA G) s.heap H locs → lv_has ls c.maxLocals lv →
      ∃ a, vx_Run p l e R s m args below meth c H locs (h.2.1.1 - h0.2.1.1) (h.2.1.2 - h0.2.1.2) (h2.2.1.1 - h.2.1.1) (h2.2.1.2 - h.2.1.2) (F0 m pc ls st0) rest (Qn G rr h2 a) (Xn G rr h2) (GA G))
    (kn : ∀ v h2, P0 = some (.inl v, h2) → Sim (own, cc, nL, lev, ret, hh, ini) h2 (pc + 3) lv (v.toList ++ rest) (Kn v h2))
    (kx : ∀ q k h2, P0 = some (.inr (q, k), h2) → SimX (own, cc, nL, lev, ret, hh, ini) h2 pc lv q k (E (q, k) h2)) : Sim (own, cc, nL, lev, ret, hh, ini) h pc lv st0 (hB P0 Kn E) := by
  cases P0 with
  | none => exact Sim.none
  | some z =>
    obtain ⟨rr, h2⟩ := z
    have le2 : LeH h h2 := mono0 rr h2 rfl
    cases rr with
    | inl v =>
      show Sim _ h pc lv st0 (Kn v h2)
      have k := kn v h2 rfl
      refine ⟨fun r h1 hP => LeH.trans le2 (k.1 r h1 hP), fun p l e R s m args below meth c G h0 r h1 K hP hle H locs ls hR hS hl => ?_⟩
      obtain ⟨a, hrun⟩ := run p l e R s m args below meth c G h0 h1 _ h2 K rfl hle (k.1 r h1 hP) H locs ls hR hS hl
      refine call_core hrun hS hle le2 (fun v' hv H' locs' hR' hS' => ?_) (fun q k' hq => by cases hq)
      cases hv
      exact k.2 p l e R s m args below meth c G h0 r h1 K hP (LeH.trans hle le2) H' locs' ls hR' hS' hl
    | inr q =>
      obtain ⟨q, k0⟩ := q
      show Sim _ h pc lv st0 (E (q, k0) h2)
      have k := kx q k0 h2 rfl
      refine ⟨fun r h1 hP => LeH.trans le2 (k.1 r h1 hP), fun p l e R s m args below meth c G h0 r h1 K hP hle H locs ls hR hS hl => ?_⟩
      obtain ⟨a, hrun⟩ := run p l e R s m args below meth c G h0 h1 _ h2 K rfl hle (k.1 r h1 hP) H locs ls hR hS hl
      refine call_core hrun hS hle le2 (fun v' hv => by cases hv) (fun q' k' hq H' locs' ce hR' hS' c1 c2 c3 => ?_)
      cases hq
      exact k.2 p l e R s m args below meth c G h0 r h1 K hP (LeH.trans hle le2) H' locs' ls rest ce hR' hS' hl c1 c2 c3
theorem kI {rest : List Value} {P0 : Option RH} {Kc : Int32 → PH → Option RH} (k : ∀ i h2, Sim (own, cc, nL, lev, ret, hh, ini) h2 pc lv (.int i :: rest) (Kc i h2)) : ∀ (v : Option Value) (h2 : PH), P0 = some (.inl v, h2) → Sim (own, cc, nL, lev, ret, hh, ini) h2 pc lv (v.toList ++ rest) (vI v fun i => Kc i h2) := fun v h2 _ => Sim.use fun z e => by
  obtain ⟨i, h4, h5⟩ := vI_some e
  subst h4
  exact k i h2
theorem kL {rest : List Value} {P0 : Option RH} {Kc : Int64 → PH → Option RH} (k : ∀ i h2, Sim (own, cc, nL, lev, ret, hh, ini) h2 pc lv (.long i :: rest) (Kc i h2)) : ∀ (v : Option Value) (h2 : PH), P0 = some (.inl v, h2) → Sim (own, cc, nL, lev, ret, hh, ini) h2 pc lv (v.toList ++ rest) (vL v fun i => Kc i h2) := fun v h2 _ => Sim.use fun z e => by
  obtain ⟨i, h4, h5⟩ := vL_some e
  subst h4
  exact k i h2
theorem kQ {rest : List Value} {P0 : Option RH} {Kc : Option Nat → PH → Option RH} (k : ∀ i h2, Sim (own, cc, nL, lev, ret, hh, ini) h2 pc lv (va_rf i :: rest) (Kc i h2)) : ∀ (v : Option Value) (h2 : PH), P0 = some (.inl v, h2) → Sim (own, cc, nL, lev, ret, hh, ini) h2 pc lv (v.toList ++ rest) (vQ v fun i => Kc i h2) := fun v h2 _ => Sim.use fun z e => by
  obtain ⟨i, h4, h5⟩ := vQ_some e
  subst h4
  rw [vQ_rf]
  exact k i h2
theorem kV {rest : List Value} {P0 : Option RH} {Kc : PH → Option RH} (k : ∀ h2, Sim (own, cc, nL, lev, ret, hh, ini) h2 pc lv rest (Kc h2)) : ∀ (v : Option Value) (h2 : PH), P0 = some (.inl v, h2) → Sim (own, cc, nL, lev, ret, hh, ini) h2 pc lv (v.toList ++ rest) (match v with
  | none => Kc h2
  | some _ => none) := fun v h2 _ => by
  cases v with
  | none => exact k h2
  | some w => exact Sim.none
theorem xNo {P0 : Option RH} : ∀ (q k : Nat) (h2 : PH), P0 = some (.inr (q, k), h2) → SimX (own, cc, nL, lev, ret, hh, ini) h2 pc lv q k (noX (q, k) h2) := fun q k h2 _ => ⟨fun r h1 hP => (by cases hP), fun p l e R s m args below meth c G h0 r h1 K hP => (by cases hP)⟩
theorem xOut0 {q k : Nat} (hout : ∀ z ∈ tableOf hh, covers z pc = false) : SimX (own, cc, nL, lev, ret, hh, ini) h pc lv q k (rX (q, k) h) := by
  refine ⟨mono_some, fun p l e R s m args below meth c G h0 r h1 K hP hle H locs ls st ce hR hS hl c1 c2 c3 => ?_⟩
  obtain ⟨hx, hb, hml, ho, hts, hlk, hret, hKK, hCK, hbs, hRm, hfl, htab, -⟩ := K
  obtain ⟨rfl, rfl⟩ := some_rt hP
  exact vx_out (E := xcName k) (by rw [htab]; exact hout) hlk c1 c2 c3 (fun t ht hW => ⟨⟨k, rfl, rfl⟩, ⟨KK.warm hW hKK, by rw [ht]; exact (CK.moved hW.alike hCK).kept hS.2.1, by rw [ht]; exact Nat.le_trans hbs hS.1, by rw [ht]; exact hR⟩, hS.F ht⟩) hS.2.2 (Nat.le_refl _) (Nat.le_refl _)
theorem xOut {P0 : Option RH} (hout : ∀ z ∈ tableOf hh, covers z pc = false) : ∀ (q k : Nat) (h2 : PH), P0 = some (.inr (q, k), h2) → SimX (own, cc, nL, lev, ret, hh, ini) h2 pc lv q k (rX (q, k) h2) := fun q k h2 _ => xOut0 hout
/-- caught: the one row of the table covers the place -/
theorem xCatch {P0 : Option RH} {k0 lo hi hp ct : Nat} {name : String} {E : Nat × Nat → PH → Option RH} (hhe : hh = [(lo, hi, hp, ct)]) (hcov : ∀ z ∈ tableOf hh, covers z pc = true) (hct : ct ≠ 0) (hname : xcName k0 = name) (hlink : Cond.classLink own ct name ∈ lw_all) (hcast : Cond.castable name name ∈ lw_tbl)
    (hk : ∀ q k h2, ¬ k = k0 → E (q, k) h2 = none) (kk : ∀ q h2, Sim (own, cc, nL, lev, ret, hh, ini) h2 hp lv [.ref q] (E (q, k0) h2)) : ∀ (q k : Nat) (h2 : PH), P0 = some (.inr (q, k), h2) → SimX (own, cc, nL, lev, ret, hh, ini) h2 pc lv q k (E (q, k) h2) := by
  intro q k h2 _
  by_cases e : k = k0
  · subst e
    have k1 := kk q h2
    refine ⟨k1.1, fun p l e R s m args below meth c G h0 r h1 K hP hle H locs ls st ce hR hS hl c1 c2 c3 => ?_⟩
    have k2 := k1.2 p l e R s m args below meth c G h0 r h1 K hP hle H locs ls hR hS hl
    obtain ⟨hx, hb, hml, ho, hts, hlk, hret, hKK, hCK, hbs, hRm, hfl, htab, -⟩ := K
    subst hhe
    rw [hname] at c3
    exact vx_catch (own := own) (E := name) ho [] _ [] (by rw [htab]; rfl) (fun z hz => absurd hz List.not_mem_nil) (hcov _ List.mem_cons_self) hct (hts _ hlink) (va_Nw.use rfl (hKK.2.1 _ hcast rfl)) c1 c2 c3 k2
  · rw [hk q k h2 e]
    exact ⟨fun r h1 hP => (by cases hP), fun p l e R s m args below meth c G h0 r h1 K hP => (by cases hP)⟩
theorem x_athrow {q k : Nat} (hcell : ∀ G H, Rep G h H → ∀ s, KK G s → ∃ ce : Cell, H[q]? = some ce ∧ ce.vm = .none ∧ s.vm.findClass (xcName k) = some ce.cls) (d : decode cc pc = .ok (.athrow, 1)) (kk : SimX (own, cc, nL, lev, ret, hh, ini) h pc lv q k P) : Sim (own, cc, nL, lev, ret, hh, ini) h pc lv (.ref q :: st) P := by
  refine ⟨kk.1, fun p l e R s m args below meth c G h0 r h1 K hP hle H locs ls hR hS hl => ?_⟩
  have k2 := kk.2 p l e R s m args below meth c G h0 r h1 K hP hle H locs ls st
  obtain ⟨hx, hb, hml, ho, hts, hlk, hret, hKK, -⟩ := K
  obtain ⟨ce, c1, c2, c3⟩ := hcell G H hR s hKK
  exact vx_athrow hx hb d (k2 ce hR hS hl c1 c2 c3)
/-- 'throw' of the one Fault object -/
theorem x_athrowF {q : Nat} (d : decode cc pc = .ok (.athrow, 1)) (hout : ∀ z ∈ tableOf hh, covers z pc = false) : Sim (own, cc, nL, lev, ret, hh, ini) h pc lv (.ref q :: st) (grd h q [1] (rX (q, 0) h)) := Sim.use fun z e => by
  obtain ⟨⟨c', fs, h1, h2⟩, h3⟩ := grd_some e
  have hc' : c' = 1 := by simpa using h2
  subst hc'
  have he : grd h q [1] (rX (q, 0) h) = rX (q, 0) h := e.trans h3.symm
  rw [he]
  refine x_athrow (k := 0) (fun G H hR s hKK => ?_) d (xOut0 hout)
  obtain ⟨-, hPw⟩ := (hR.2.2 q _ h1).obj (by decide)
  obtain ⟨r0, g1, cell, q1, q2, q3, q4⟩ := hPw 0 _ rfl
  exact ⟨cell, q1, q3, by rw [q2]; exact (hKK.1.1 1 _ rfl).2.1⟩
/-! the calls -/
def SiS (own : String) (index : Nat) (y : MethodName) (bytes : ByteArray) (maxL : Nat) (rt : Option FieldType) (n : Nat) : Prop := GoodIn lw_all (va_wsS own index y (ws_ y bytes maxL rt)) ∧ (y.cls ≠ "java/lang/invoke/MethodHandle" ∧ y.cls ≠ "java/lang/invoke/VarHandle" ∧ (parseMethodDescriptor y.desc).map (fun d => d.parameters.length) = some n) ∧ maxL ≤ 100
theorem room_lv {R : Room} {lev lev' maxL a b : Nat} (hR : R = rmL lev a b) (hl : lev' + 1 ≤ lev) (hm : maxL ≤ 100) : lev' + 1 ≤ R.frames ∧ 8 + (maxL + 11) + 128 * lev' ≤ R.locals := by
  subst hR
  exact ⟨hl, by show _ ≤ 128 * lev; omega⟩
theorem x_callS {index maxL lev' n : Nat} {y : MethodName} {bytes : ByteArray} {rt : Option FieldType} {As rest st0 : List Value} {P0 : Option RH} {Kn : Option Value → PH → Option RH} {E : Nat × Nat → PH → Option RH} (si : SiS own index y bytes maxL rt n) (hM : MM y (ws_ y bytes maxL rt) lev' As h P0) (hst : st0 = As.reverse ++ rest) (hn : As.length = n) (hlv : lev' + 1 ≤ lev) (hr : (rest.map fun v => v.category).sum ≤ 8) (d : decode cc pc = .ok (.invokestatic index, 3))
    (kn : ∀ v h2, P0 = some (.inl v, h2) → Sim (own, cc, nL, lev, ret, hh, ini) h2 (pc + 3) lv (v.toList ++ rest) (Kn v h2)) (kx : ∀ q k h2, P0 = some (.inr (q, k), h2) → SimX (own, cc, nL, lev, ret, hh, ini) h2 pc lv q k (E (q, k) h2)) : Sim (own, cc, nL, lev, ret, hh, ini) h pc lv st0 (hB P0 Kn E) := by
  refine Sim.call hM.1 (fun p l e R s m args below meth c G h0 h1 rr h2 K hP hle hle2 H locs ls hR hS hl => ?_) kn kx
  obtain ⟨hx, hb, hml, ho, hts, hlk, hret, hKK, hCK, hbs, hRm, hfl, htab, -⟩ := K
  obtain ⟨le2, hMet⟩ := hM.2 l G hfl rr h2 hP
  have := hle.1; have := hle.2.1; have := hle2.1; have := hle2.2.1; have := le2.1; have := le2.2.1
  exact ⟨_, vx_runS ⟨hx, hb, hml, ho, hts⟩ hMet (va_cwS n hts si.1 rfl rfl rfl si.2.1 (room_lv hRm hlv si.2.2)) ⟨blind, fun U hU hW => ⟨rfl, KK.warm hW hKK, by rw [hU]; exact (CK.moved hW.alike hCK).kept hS.2.1, by rw [hU]; exact Nat.le_trans hbs hS.1, by rw [hU]; exact hR⟩⟩ rfl hn (by rw [← hml]; exact hl.1) hst (lv_room hr) d ⟨by rw [hRm]; show _ ≤ h1.2.1.1 - h0.2.1.1; omega, by rw [hRm]; show _ ≤ h1.2.1.2 - h0.2.1.2; omega⟩⟩
def SiV (own : String) (index c : Nat) (y : MethodName) (bytes : ByteArray) (maxL : Nat) (rt : Option FieldType) (n : Nat) : Prop := ∃ (C : String) (T : u_T) (N : Nat), clTab[c]? = some (C, T, N) ∧ c < 19 ∧ GoodIn lw_all (wsV own index C y (ws_ y bytes maxL rt)) ∧ (y.cls = C ∧ y.cls ≠ "java/lang/invoke/MethodHandle" ∧ y.cls ≠ "java/lang/invoke/VarHandle" ∧ (parseMethodDescriptor y.desc).map (fun d => d.parameters.length) = some n) ∧ maxL ≤ 100
theorem x_callV {index maxL lev' n c b : Nat} {y : MethodName} {bytes : ByteArray} {rt : Option FieldType} {As rest st0 : List Value} {P0 : Option RH} {Kn : Option Value → PH → Option RH} {E : Nat × Nat → PH → Option RH} (si : SiV own index c y bytes maxL rt n) (hM : MM y (ws_ y bytes maxL rt) lev' (.ref b :: As) h P0) (hg : ∀ z, P0 = some z → ∃ fs, h.1 b = some (.inr (c, fs))) (hst : st0 = As.reverse ++ .ref b :: rest) (hn : As.length = n) (hlv : lev' + 1 ≤ lev) (hr : (rest.map fun v => v.category).sum ≤ 8) (d : decode cc pc = .ok (.invokevirtual index, 3))
    (kn : ∀ v h2, P0 = some (.inl v, h2) → Sim (own, cc, nL, lev, ret, hh, ini) h2 (pc + 3) lv (v.toList ++ rest) (Kn v h2)) (kx : ∀ q k h2, P0 = some (.inr (q, k), h2) → SimX (own, cc, nL, lev, ret, hh, ini) h2 pc lv q k (E (q, k) h2)) : Sim (own, cc, nL, lev, ret, hh, ini) h pc lv st0 (hB P0 Kn E) := by
  refine Sim.call hM.1 (fun p l e R s m args below meth c0 G h0 h1 rr h2 K hP hle hle2 H locs ls hR hS hl => ?_) kn kx
  obtain ⟨hx, hb, hml, ho, hts, hlk, hret, hKK, hCK, hbs, hRm, hfl, htab, -⟩ := K
  obtain ⟨le2, hMet⟩ := hM.2 l G hfl rr h2 hP
  obtain ⟨fs, hfs⟩ := hg _ hP
  obtain ⟨C, T, N, hcl, hc19, s1, s2, s3⟩ := si
  obtain ⟨-, hPw⟩ := (hR.2.2 b _ hfs).obj hc19
  have := hle.1; have := hle.2.1; have := hle2.1; have := hle2.2.1; have := le2.1; have := le2.2.1
  exact ⟨_, vx_runV ⟨hx, hb, hml, ho, hts⟩ hMet (cwV n hts s1 rfl rfl rfl s2 (room_lv hRm hlv s3)) ⟨blind, va_recv hKK.1 hPw hcl (q0 := 0) rfl, fun U hU hW => ⟨rfl, KK.warm hW hKK, by rw [hU]; exact (CK.moved hW.alike hCK).kept hS.2.1, by rw [hU]; exact Nat.le_trans hbs hS.1, by rw [hU]; exact hR⟩⟩ rfl hn (by rw [← hml]; exact hl.1) hst (lv_room hr) d ⟨by rw [hRm]; show _ ≤ h1.2.1.1 - h0.2.1.1; omega, by rw [hRm]; show _ ≤ h1.2.1.2 - h0.2.1.2; omega⟩⟩
end
