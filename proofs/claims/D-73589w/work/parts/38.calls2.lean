/-! ROWS: more sorts of calls -/
set_option maxRecDepth 100000
section
variable {own : String} {cc : ByteArray} {nL lev : Nat} {ret : Option FieldType} {hh : List (Nat × Nat × Nat × Nat)} {ini : Bool}
variable {h : PH} {pc : Nat} {lv : List (Nat × Value)} {st : List Value} {P P1 P2 : Option RH}
def SiI (own : String) (index : Nat) (y : MethodName) (bytes : ByteArray) (maxL n : Nat) : Prop := Cond.code y bytes maxL none ∈ lw_all ∧ Cond.initialized y.cls ∈ lw_all ∧ Cond.methodLink own index y ∈ lw_all ∧ Cond.instanceMethod y ∈ lw_all ∧ y.name = "<init>" ∧ (y.cls ≠ "java/lang/invoke/MethodHandle" ∧ y.cls ≠ "java/lang/invoke/VarHandle" ∧ (parseMethodDescriptor y.desc).map (fun d => d.parameters.length) = some n) ∧ maxL ≤ 100
theorem x_callI {index maxL lev' n b : Nat} {y : MethodName} {bytes : ByteArray} {As rest st0 : List Value} {P0 : Option RH} {Kn : Option Value → PH → Option RH} {E : Nat × Nat → PH → Option RH} (si : SiI own index y bytes maxL n) (hM : MM y (ws_ y bytes maxL none) lev' (.ref b :: As) h P0) (hst : st0 = As.reverse ++ .ref b :: rest) (hn : As.length = n) (hlv : lev' + 1 ≤ lev) (hr : (rest.map fun v => v.category).sum ≤ 8) (d : decode cc pc = .ok (.invokespecial index, 3))
    (kn : ∀ v h2, P0 = some (.inl v, h2) → Sim (own, cc, nL, lev, ret, hh, ini) h2 (pc + 3) lv (v.toList ++ rest) (Kn v h2)) (kx : ∀ q k h2, P0 = some (.inr (q, k), h2) → SimX (own, cc, nL, lev, ret, hh, ini) h2 pc lv q k (E (q, k) h2)) : Sim (own, cc, nL, lev, ret, hh, ini) h pc lv st0 (hB P0 Kn E) := by
  refine Sim.call hM.1 (fun p l e R s m args below meth c0 G h0 h1 rr h2 K hP hle hle2 H locs ls hR hS hl => ?_) kn kx
  obtain ⟨hx, hb, hml, ho, hts, hlk, hret, hKK, hCK, hbs, hRm, hfl, htab, -⟩ := K
  obtain ⟨le2, hMet⟩ := hM.2 l G hfl rr h2 hP
  have := hle.1; have := hle.2.1; have := hle2.1; have := hle2.2.1; have := le2.1; have := le2.2.1
  obtain ⟨s1, s2, s3, s4, s5, s6, s7⟩ := si
  exact ⟨_, vx_runI ⟨hx, hb, hml, ho, hts⟩ hMet (cwI n hts (lw_meth s1) rfl rfl rfl (hts _ s2) (hts _ s3) (hts _ s4) s5 s6 (room_lv hRm hlv s7)) ⟨blind, fun U hU hW => ⟨rfl, KK.warm hW hKK, by rw [hU]; exact (CK.moved hW.alike hCK).kept hS.2.1, by rw [hU]; exact Nat.le_trans hbs hS.1, by rw [hU]; exact hR⟩⟩ rfl hn (by rw [← hml]; exact hl.1) hst (lv_room hr) d ⟨by rw [hRm]; show _ ≤ h1.2.1.1 - h0.2.1.1; omega, by rw [hRm]; show _ ≤ h1.2.1.2 - h0.2.1.2; omega⟩⟩
def SiIN (own : String) (index : Nat) (host : String) (y : MethodName) (bytes : ByteArray) (maxL n : Nat) : Prop := Cond.code y bytes maxL none ∈ lw_all ∧ Cond.initialized y.cls ∈ lw_all ∧ Cond.methodLinkNest own index y host ∈ lw_tbl ∧ Cond.instanceMethod y ∈ lw_all ∧ y.name = "<init>" ∧ (y.cls ≠ "java/lang/invoke/MethodHandle" ∧ y.cls ≠ "java/lang/invoke/VarHandle" ∧ (parseMethodDescriptor y.desc).map (fun d => d.parameters.length) = some n) ∧ maxL ≤ 100
theorem x_callIN {index maxL lev' n b : Nat} {host : String} {y : MethodName} {bytes : ByteArray} {As rest st0 : List Value} {P0 : Option RH} {Kn : Option Value → PH → Option RH} {E : Nat × Nat → PH → Option RH} (si : SiIN own index host y bytes maxL n) (hM : MM y (ws_ y bytes maxL none) lev' (.ref b :: As) h P0) (hst : st0 = As.reverse ++ .ref b :: rest) (hn : As.length = n) (hlv : lev' + 1 ≤ lev) (hr : (rest.map fun v => v.category).sum ≤ 8) (d : decode cc pc = .ok (.invokespecial index, 3))
    (kn : ∀ v h2, P0 = some (.inl v, h2) → Sim (own, cc, nL, lev, ret, hh, ini) h2 (pc + 3) lv (v.toList ++ rest) (Kn v h2)) (kx : ∀ q k h2, P0 = some (.inr (q, k), h2) → SimX (own, cc, nL, lev, ret, hh, ini) h2 pc lv q k (E (q, k) h2)) : Sim (own, cc, nL, lev, ret, hh, ini) h pc lv st0 (hB P0 Kn E) := by
  refine Sim.call hM.1 (fun p l e R s m args below meth c0 G h0 h1 rr h2 K hP hle hle2 H locs ls hR hS hl => ?_) kn kx
  obtain ⟨hx, hb, hml, ho, hts, hlk, hret, hKK, hCK, hbs, hRm, hfl, htab, -⟩ := K
  obtain ⟨le2, hMet⟩ := hM.2 l G hfl rr h2 hP
  have := hle.1; have := hle.2.1; have := hle2.1; have := hle2.2.1; have := le2.1; have := le2.2.1
  obtain ⟨s1, s2, s3, s4, s5, s6, s7⟩ := si
  exact ⟨_, vx_runIN ⟨hx, hb, hml, ho, hts⟩ hMet ⟨va_cnB n hts (lw_meth s1) rfl rfl rfl (hKK.2.1 _ s3 rfl) (hts _ s2) s6 (room_lv hRm hlv s7), s5, hts _ s4⟩ ⟨blind, fun U hU hW => ⟨rfl, KK.warm hW hKK, by rw [hU]; exact (CK.moved hW.alike hCK).kept hS.2.1, by rw [hU]; exact Nat.le_trans hbs hS.1, by rw [hU]; exact hR⟩⟩ rfl hn (by rw [← hml]; exact hl.1) hst (lv_room hr) d ⟨by rw [hRm]; show _ ≤ h1.2.1.1 - h0.2.1.1; omega, by rw [hRm]; show _ ≤ h1.2.1.2 - h0.2.1.2; omega⟩⟩
def SiSN (own : String) (index : Nat) (host : String) (y : MethodName) (bytes : ByteArray) (maxL : Nat) (rt : Option FieldType) (n : Nat) : Prop := Cond.code y bytes maxL rt ∈ lw_all ∧ Cond.initialized y.cls ∈ lw_all ∧ Cond.methodLinkNest own index y host ∈ lw_tbl ∧ Cond.static y ∈ lw_all ∧ (y.cls ≠ "java/lang/invoke/MethodHandle" ∧ y.cls ≠ "java/lang/invoke/VarHandle" ∧ (parseMethodDescriptor y.desc).map (fun d => d.parameters.length) = some n) ∧ maxL ≤ 100
theorem x_callSN {index maxL lev' n : Nat} {y : MethodName} {bytes : ByteArray} {rt : Option FieldType} {As rest st0 : List Value} {host : String} {P0 : Option RH} {Kn : Option Value → PH → Option RH} {E : Nat × Nat → PH → Option RH} (si : SiSN own index host y bytes maxL rt n) (hM : MM y (ws_ y bytes maxL rt) lev' (As) h P0) (hst : st0 = As.reverse ++ rest) (hn : As.length = n) (hlv : lev' + 1 ≤ lev) (hr : (rest.map fun v => v.category).sum ≤ 8) (d : decode cc pc = .ok (.invokestatic index, 3))
    (kn : ∀ v h2, P0 = some (.inl v, h2) → Sim (own, cc, nL, lev, ret, hh, ini) h2 (pc + 3) lv (v.toList ++ rest) (Kn v h2)) (kx : ∀ q k h2, P0 = some (.inr (q, k), h2) → SimX (own, cc, nL, lev, ret, hh, ini) h2 pc lv q k (E (q, k) h2)) : Sim (own, cc, nL, lev, ret, hh, ini) h pc lv st0 (hB P0 Kn E) := by
  refine Sim.call hM.1 (fun p l e R s m args below meth c0 G h0 h1 rr h2 K hP hle hle2 H locs ls hR hS hl => ?_) kn kx
  obtain ⟨hx, hb, hml, ho, hts, hlk, hret, hKK, hCK, hbs, hRm, hfl, htab, -⟩ := K
  obtain ⟨le2, hMet⟩ := hM.2 l G hfl rr h2 hP
  have := hle.1; have := hle.2.1; have := hle2.1; have := hle2.2.1; have := le2.1; have := le2.2.1
  obtain ⟨s1, s2, s3, s4, s6, s7⟩ := si
  exact ⟨_, vx_runSN ⟨hx, hb, hml, ho, hts⟩ hMet ⟨va_cnB n hts (lw_meth s1) rfl rfl rfl (hKK.2.1 _ s3 rfl) (hts _ s2) s6 (room_lv hRm hlv s7), hts _ s4, trivial⟩ ⟨blind, fun U hU hW => ⟨rfl, KK.warm hW hKK, by rw [hU]; exact (CK.moved hW.alike hCK).kept hS.2.1, by rw [hU]; exact Nat.le_trans hbs hS.1, by rw [hU]; exact hR⟩⟩ rfl hn (by rw [← hml]; exact hl.1) hst (lv_room hr) d ⟨by rw [hRm]; show _ ≤ h1.2.1.1 - h0.2.1.1; omega, by rw [hRm]; show _ ≤ h1.2.1.2 - h0.2.1.2; omega⟩⟩
def SiVN (own : String) (index c : Nat) (host : String) (y : MethodName) (bytes : ByteArray) (maxL : Nat) (rt : Option FieldType) (n : Nat) : Prop := ∃ (C : String) (T : u_T) (N : Nat), clTab[c]? = some (C, T, N) ∧ c < 19 ∧ Cond.code y bytes maxL rt ∈ lw_all ∧ Cond.initialized y.cls ∈ lw_all ∧ Cond.methodLinkNest own index y host ∈ lw_tbl ∧ Cond.instanceMethod y ∈ lw_all ∧ Cond.selects C y y ∈ lw_all ∧ (y.cls ≠ "java/lang/invoke/MethodHandle" ∧ y.cls ≠ "java/lang/invoke/VarHandle" ∧ (parseMethodDescriptor y.desc).map (fun d => d.parameters.length) = some n) ∧ maxL ≤ 100
theorem x_callVN {index maxL lev' n : Nat} {y : MethodName} {bytes : ByteArray} {rt : Option FieldType} {As rest st0 : List Value} {c b : Nat} {host : String} {P0 : Option RH} {Kn : Option Value → PH → Option RH} {E : Nat × Nat → PH → Option RH} (si : SiVN own index c host y bytes maxL rt n) (hM : MM y (ws_ y bytes maxL rt) lev' (.ref b :: As) h P0) (hg : ∀ z, P0 = some z → ∃ fs, h.1 b = some (.inr (c, fs))) (hst : st0 = As.reverse ++ .ref b :: rest) (hn : As.length = n) (hlv : lev' + 1 ≤ lev) (hr : (rest.map fun v => v.category).sum ≤ 8) (d : decode cc pc = .ok (.invokevirtual index, 3))
    (kn : ∀ v h2, P0 = some (.inl v, h2) → Sim (own, cc, nL, lev, ret, hh, ini) h2 (pc + 3) lv (v.toList ++ rest) (Kn v h2)) (kx : ∀ q k h2, P0 = some (.inr (q, k), h2) → SimX (own, cc, nL, lev, ret, hh, ini) h2 pc lv q k (E (q, k) h2)) : Sim (own, cc, nL, lev, ret, hh, ini) h pc lv st0 (hB P0 Kn E) := by
  refine Sim.call hM.1 (fun p l e R s m args below meth c0 G h0 h1 rr h2 K hP hle hle2 H locs ls hR hS hl => ?_) kn kx
  obtain ⟨hx, hb, hml, ho, hts, hlk, hret, hKK, hCK, hbs, hRm, hfl, htab, -⟩ := K
  obtain ⟨le2, hMet⟩ := hM.2 l G hfl rr h2 hP
  have := hle.1; have := hle.2.1; have := hle2.1; have := hle2.2.1; have := le2.1; have := le2.2.1
  obtain ⟨C, T, N, hcl, hc19, s1, s2, s3, s4, s5, s6, s7⟩ := si
  obtain ⟨fs, hfs⟩ := hg _ hP
  obtain ⟨-, hPw⟩ := (hR.2.2 b _ hfs).obj hc19
  exact ⟨_, vx_runVN ⟨hx, hb, hml, ho, hts⟩ hMet ⟨va_cnB n hts (lw_meth s1) rfl rfl rfl (hKK.2.1 _ s3 rfl) (hts _ s2) s6 (room_lv hRm hlv s7), hts _ s4, hts _ s5⟩ ⟨blind, va_recv hKK.1 hPw hcl (q0 := 0) rfl, fun U hU hW => ⟨rfl, KK.warm hW hKK, by rw [hU]; exact (CK.moved hW.alike hCK).kept hS.2.1, by rw [hU]; exact Nat.le_trans hbs hS.1, by rw [hU]; exact hR⟩⟩ rfl hn (by rw [← hml]; exact hl.1) hst (lv_room hr) d ⟨by rw [hRm]; show _ ≤ h1.2.1.1 - h0.2.1.1; omega, by rw [hRm]; show _ ≤ h1.2.1.2 - h0.2.1.2; omega⟩⟩
/-- an inherited or overriding method, the receiver of one of the classes cs -/
def SiU (own : String) (index : Nat) (cs : List Nat) (x y : MethodName) (bytes : ByteArray) (maxL : Nat) (rt : Option FieldType) (n : Nat) : Prop := maxL ≤ 100 ∧ ∀ c ∈ cs, ∃ (C : String) (T : u_T) (N : Nat) (owner : String), clTab[c]? = some (C, T, N) ∧ c < 19 ∧ (Cond.methodLink own index x ∈ lw_all ∧ Cond.sameMethod x.cls owner x.name x.desc ∈ lw_all ∧ (Cond.selects C x y ∈ lw_all ∨ Cond.selects C x y ∈ selP) ∧ Cond.instanceMethod y ∈ lw_all ∧ Cond.initialized y.cls ∈ lw_all ∧ Cond.code y bytes maxL rt ∈ lw_all) ∧ (y = ⟨owner, x.name, x.desc⟩ ∨ Cond.declares ⟨owner, x.name, x.desc⟩ ∈ lw_tbl) ∧ (owner ≠ "java/lang/invoke/MethodHandle" ∧ owner ≠ "java/lang/invoke/VarHandle" ∧ (parseMethodDescriptor x.desc).map (fun d => d.parameters.length) = some n)
theorem siU_n {own : String} {index : Nat} {x y : MethodName} {bytes : ByteArray} {maxL : Nat} {rt : Option FieldType} {n : Nat} (hm : maxL ≤ 100) : SiU own index [] x y bytes maxL rt n := ⟨hm, fun c hc => absurd hc List.not_mem_nil⟩
theorem siU_c {own : String} {index c : Nat} {cs : List Nat} {x y : MethodName} {bytes : ByteArray} {maxL : Nat} {rt : Option FieldType} {n : Nat} {C : String} {T : u_T} {N : Nat} {owner : String} (h1 : clTab[c]? = some (C, T, N)) (h2 : c < 19) (h3 : Cond.methodLink own index x ∈ lw_all ∧ Cond.sameMethod x.cls owner x.name x.desc ∈ lw_all ∧ (Cond.selects C x y ∈ lw_all ∨ Cond.selects C x y ∈ selP) ∧ Cond.instanceMethod y ∈ lw_all ∧ Cond.initialized y.cls ∈ lw_all ∧ Cond.code y bytes maxL rt ∈ lw_all) (h4 : y = ⟨owner, x.name, x.desc⟩ ∨ Cond.declares ⟨owner, x.name, x.desc⟩ ∈ lw_tbl) (h5 : owner ≠ "java/lang/invoke/MethodHandle" ∧ owner ≠ "java/lang/invoke/VarHandle" ∧ (parseMethodDescriptor x.desc).map (fun d => d.parameters.length) = some n) (t : SiU own index cs x y bytes maxL rt n) : SiU own index (c :: cs) x y bytes maxL rt n := ⟨t.1, fun c' hc => by
  rcases List.mem_cons.mp hc with e | e
  · subst e
    exact ⟨C, T, N, owner, h1, h2, h3, h4, h5⟩
  · exact t.2 c' e⟩
theorem x_callU {index maxL lev' n : Nat} {y : MethodName} {bytes : ByteArray} {rt : Option FieldType} {As rest st0 : List Value} {x : MethodName} {b : Nat} {cs : List Nat} {P0 : Option RH} {Kn : Option Value → PH → Option RH} {E : Nat × Nat → PH → Option RH} (si : SiU own index cs x y bytes maxL rt n) (hM : MM y (ws_ y bytes maxL rt) lev' (.ref b :: As) h P0) (hg : ∀ z, P0 = some z → ∃ c fs, h.1 b = some (.inr (c, fs)) ∧ c ∈ cs) (hst : st0 = As.reverse ++ .ref b :: rest) (hn : As.length = n) (hlv : lev' + 1 ≤ lev) (hr : (rest.map fun v => v.category).sum ≤ 8) (d : decode cc pc = .ok (.invokevirtual index, 3))
    (kn : ∀ v h2, P0 = some (.inl v, h2) → Sim (own, cc, nL, lev, ret, hh, ini) h2 (pc + 3) lv (v.toList ++ rest) (Kn v h2)) (kx : ∀ q k h2, P0 = some (.inr (q, k), h2) → SimX (own, cc, nL, lev, ret, hh, ini) h2 pc lv q k (E (q, k) h2)) : Sim (own, cc, nL, lev, ret, hh, ini) h pc lv st0 (hB P0 Kn E) := by
  refine Sim.call hM.1 (fun p l e R s m args below meth c0 G h0 h1 rr h2 K hP hle hle2 H locs ls hR hS hl => ?_) kn kx
  obtain ⟨hx, hb, hml, ho, hts, hlk, hret, hKK, hCK, hbs, hRm, hfl, htab, -⟩ := K
  obtain ⟨le2, hMet⟩ := hM.2 l G hfl rr h2 hP
  have := hle.1; have := hle.2.1; have := hle2.1; have := hle2.2.1; have := le2.1; have := le2.2.1
  obtain ⟨c, fs, hfs, hcs⟩ := hg _ hP
  obtain ⟨C, T, N, owner, hcl, hc19, s1, s2, s3⟩ := si.2 c hcs
  obtain ⟨-, hPw⟩ := (hR.2.2 b _ hfs).obj hc19
  have cw : va_CU R s args own C owner index x y bytes maxL rt (ws_ y bytes maxL rt) (rmL lev' (h2.2.1.1 - h.2.1.1) (h2.2.1.2 - h.2.1.2)) (h2.2.1.1 - h.2.1.1) (h2.2.1.2 - h.2.1.2) n := by
    obtain ⟨w1, w2, w3, w4, w5, w6⟩ := s1
    have hR9 := room_lv (lev' := lev') hRm hlv si.1
    refine ⟨⟨rfl, rfl, hR9.1, hR9.2, pay_in hts (lw_meth w6), List.mem_cons_self⟩, hts _ w6, hts _ w5, ⟨s3.1, s3.2.1⟩, fun sig h9 => ?_, hts _ w1, hts _ w2, ?_, ?_, hts _ w4⟩
    · have h8 := s3.2.2
      rw [h9] at h8
      exact (Option.some.inj h8).symm
    · rcases s2 with e1 | e1
      · rw [← e1]; exact va_Decl.of (hts _ w4) (hts _ w6)
      · exact va_Decl.abs (hKK.2.1 _ e1 rfl)
    · rcases w3 with e1 | e1
      · exact hts _ e1
      · exact va_Nw.use rfl (hKK.2.2.2.2.2.2.2 _ e1)
  exact ⟨_, vx_runU ⟨hx, hb, hml, ho, hts⟩ hMet cw ⟨blind, va_recv hKK.1 hPw hcl (q0 := 0) rfl, fun U hU hW => ⟨rfl, KK.warm hW hKK, by rw [hU]; exact (CK.moved hW.alike hCK).kept hS.2.1, by rw [hU]; exact Nat.le_trans hbs hS.1, by rw [hU]; exact hR⟩⟩ rfl hn (by rw [← hml]; exact hl.1) hst (lv_room hr) d ⟨by rw [hRm]; show _ ≤ h1.2.1.1 - h0.2.1.1; omega, by rw [hRm]; show _ ≤ h1.2.1.2 - h0.2.1.2; omega⟩⟩
/-- a method with handlers, by its own class -/
def SiVX (own : String) (index c : Nat) (y : MethodName) (bytes : ByteArray) (maxL : Nat) (rt : Option FieldType) (h9 : List (Nat × Nat × Nat × Nat)) (n : Nat) : Prop := ∃ (C : String) (T : u_T) (N : Nat), clTab[c]? = some (C, T, N) ∧ c < 19 ∧ GoodIn lw_all (wsV own index C y (wsW_ y bytes maxL rt h9)) ∧ (y.cls = C ∧ y.cls ≠ "java/lang/invoke/MethodHandle" ∧ y.cls ≠ "java/lang/invoke/VarHandle" ∧ (parseMethodDescriptor y.desc).map (fun d => d.parameters.length) = some n) ∧ maxL ≤ 100
theorem x_callVX {index maxL lev' n : Nat} {y : MethodName} {bytes : ByteArray} {rt : Option FieldType} {As rest st0 : List Value} {c b : Nat} {h9 : List (Nat × Nat × Nat × Nat)} {P0 : Option RH} {Kn : Option Value → PH → Option RH} {E : Nat × Nat → PH → Option RH} (si : SiVX own index c y bytes maxL rt h9 n) (hM : MM y (wsW_ y bytes maxL rt h9) lev' (.ref b :: As) h P0) (hg : ∀ z, P0 = some z → ∃ fs, h.1 b = some (.inr (c, fs))) (hst : st0 = As.reverse ++ .ref b :: rest) (hn : As.length = n) (hlv : lev' + 1 ≤ lev) (hr : (rest.map fun v => v.category).sum ≤ 8) (d : decode cc pc = .ok (.invokevirtual index, 3))
    (kn : ∀ v h2, P0 = some (.inl v, h2) → Sim (own, cc, nL, lev, ret, hh, ini) h2 (pc + 3) lv (v.toList ++ rest) (Kn v h2)) (kx : ∀ q k h2, P0 = some (.inr (q, k), h2) → SimX (own, cc, nL, lev, ret, hh, ini) h2 pc lv q k (E (q, k) h2)) : Sim (own, cc, nL, lev, ret, hh, ini) h pc lv st0 (hB P0 Kn E) := by
  refine Sim.call hM.1 (fun p l e R s m args below meth c0 G h0 h1 rr h2 K hP hle hle2 H locs ls hR hS hl => ?_) kn kx
  obtain ⟨hx, hb, hml, ho, hts, hlk, hret, hKK, hCK, hbs, hRm, hfl, htab, -⟩ := K
  obtain ⟨le2, hMet⟩ := hM.2 l G hfl rr h2 hP
  have := hle.1; have := hle.2.1; have := hle2.1; have := hle2.2.1; have := le2.1; have := le2.2.1
  obtain ⟨fs, hfs⟩ := hg _ hP
  obtain ⟨C, T, N, hcl, hc19, s1, s2, s3⟩ := si
  obtain ⟨-, hPw⟩ := (hR.2.2 b _ hfs).obj hc19
  exact ⟨_, vx_runVX ⟨hx, hb, hml, ho, hts⟩ hMet (vx_cwVW n hts s1 rfl rfl rfl s2 (room_lv hRm hlv s3)) ⟨blind, va_recv hKK.1 hPw hcl (q0 := 0) rfl, fun U hU hW => ⟨rfl, KK.warm hW hKK, by rw [hU]; exact (CK.moved hW.alike hCK).kept hS.2.1, by rw [hU]; exact Nat.le_trans hbs hS.1, by rw [hU]; exact hR⟩⟩ rfl hn (by rw [← hml]; exact hl.1) hst (lv_room hr) d ⟨by rw [hRm]; show _ ≤ h1.2.1.1 - h0.2.1.1; omega, by rw [hRm]; show _ ≤ h1.2.1.2 - h0.2.1.2; omega⟩⟩
def SiSX (own : String) (index : Nat) (y : MethodName) (bytes : ByteArray) (maxL : Nat) (rt : Option FieldType) (h9 : List (Nat × Nat × Nat × Nat)) (n : Nat) : Prop := GoodIn lw_all (va_wsS own index y (wsW_ y bytes maxL rt h9)) ∧ (y.cls ≠ "java/lang/invoke/MethodHandle" ∧ y.cls ≠ "java/lang/invoke/VarHandle" ∧ (parseMethodDescriptor y.desc).map (fun d => d.parameters.length) = some n) ∧ maxL ≤ 100
theorem x_callSX {index maxL lev' n : Nat} {y : MethodName} {bytes : ByteArray} {rt : Option FieldType} {As rest st0 : List Value} {h9 : List (Nat × Nat × Nat × Nat)} {P0 : Option RH} {Kn : Option Value → PH → Option RH} {E : Nat × Nat → PH → Option RH} (si : SiSX own index y bytes maxL rt h9 n) (hM : MM y (wsW_ y bytes maxL rt h9) lev' (As) h P0) (hst : st0 = As.reverse ++ rest) (hn : As.length = n) (hlv : lev' + 1 ≤ lev) (hr : (rest.map fun v => v.category).sum ≤ 8) (d : decode cc pc = .ok (.invokestatic index, 3))
    (kn : ∀ v h2, P0 = some (.inl v, h2) → Sim (own, cc, nL, lev, ret, hh, ini) h2 (pc + 3) lv (v.toList ++ rest) (Kn v h2)) (kx : ∀ q k h2, P0 = some (.inr (q, k), h2) → SimX (own, cc, nL, lev, ret, hh, ini) h2 pc lv q k (E (q, k) h2)) : Sim (own, cc, nL, lev, ret, hh, ini) h pc lv st0 (hB P0 Kn E) := by
  refine Sim.call hM.1 (fun p l e R s m args below meth c0 G h0 h1 rr h2 K hP hle hle2 H locs ls hR hS hl => ?_) kn kx
  obtain ⟨hx, hb, hml, ho, hts, hlk, hret, hKK, hCK, hbs, hRm, hfl, htab, -⟩ := K
  obtain ⟨le2, hMet⟩ := hM.2 l G hfl rr h2 hP
  have := hle.1; have := hle.2.1; have := hle2.1; have := hle2.2.1; have := le2.1; have := le2.2.1
  exact ⟨_, vx_runSX ⟨hx, hb, hml, ho, hts⟩ hMet (vx_cwSW n hts si.1 rfl rfl rfl si.2.1 (room_lv hRm hlv si.2.2)) ⟨blind, fun U hU hW => ⟨rfl, KK.warm hW hKK, by rw [hU]; exact (CK.moved hW.alike hCK).kept hS.2.1, by rw [hU]; exact Nat.le_trans hbs hS.1, by rw [hU]; exact hR⟩⟩ rfl hn (by rw [← hml]; exact hl.1) hst (lv_room hr) d ⟨by rw [hRm]; show _ ≤ h1.2.1.1 - h0.2.1.1; omega, by rw [hRm]; show _ ≤ h1.2.1.2 - h0.2.1.2; omega⟩⟩
theorem call_core5 {p : Program} {l : Launch} {e : Env} {R : Room} {s : State} {m : MethodId} {args : Array Value} {below : List Frame} {meth : Method} {c : Code} {G : GG} {h0 h h2 : PH} {v0 : Option Value} {H : Heap} {locs : List Loc} {ls : Array Slot} {pc : Nat} {st0 rest : List Value} {a : Array Value} {Q : State → Prop}
    (run : vx_Run5 p l e R s m args below meth c H locs (h.2.1.1 - h0.2.1.1) (h.2.1.2 - h0.2.1.2) (h2.2.1.1 - h.2.1.1) (h2.2.1.2 - h.2.1.2) (F0 m pc ls st0) rest (Qn G (.inl v0) h2 a) (Xn G (.inl v0) h2) (GA G)) (hS : va_S (GA G) s.heap H locs) (le1 : LeH h0 h) (le2 : LeH h h2)
    (kn : ∀ (H' : Heap) (locs' : List Loc), Rep G h2 H' → va_S (GA G) s.heap H' locs' → W p l e R s m args below meth c H' locs' (h2.2.1.1 - h0.2.1.1) (h2.2.1.2 - h0.2.1.2) Q (F0 m (pc + 5) ls (v0.toList ++ rest))) :
    W p l e R s m args below meth c H locs (h.2.1.1 - h0.2.1.1) (h.2.1.2 - h0.2.1.2) Q (F0 m pc ls st0) := by
  have e1c : (h.2.1.1 - h0.2.1.1) + (h2.2.1.1 - h.2.1.1) = h2.2.1.1 - h0.2.1.1 := by have := le1.1; have := le2.1; omega
  have e1s : (h.2.1.2 - h0.2.1.2) + (h2.2.1.2 - h.2.1.2) = h2.2.1.2 - h0.2.1.2 := by have := le1.2; have := le2.2.1; omega
  intro T hT X
  rcases run T hT X with ⟨v, st₀, t, T', L, a0, X', hL, e1, e2, ⟨⟨v', hv1, hv2⟩, hRS, hF⟩, st⟩ | ⟨q, st₀, t, T', L, E, ce, a0, X', hL, e1, e2, ⟨⟨k, hq1, hq2⟩, hRS, hF⟩, hce, hcv, hcl, st⟩
  · cases hv2
    cases hv1
    rw [e1c, e1s] at X'
    have fr : va_S (GA G) s.heap T'.heap (locs ++ L) := by
      refine ⟨by rw [e1]; exact Nat.le_trans hS.1 (by rw [← a0]; exact hF.1), fun q b1 b2 => ?_, fun q hq => ?_⟩
      · rw [e1, hF.2 q (by rw [a0]; exact Nat.lt_of_lt_of_le b1 hS.1) b2, a0]
        exact hS.2.1 q b1 b2
      · rcases List.mem_append.mp hq with b | b
        · exact hS.2.2 q b
        · exact hL q b
    obtain ⟨t2, a1, b1⟩ := kn T'.heap (locs ++ L) (by rw [e1]; exact hRS.2.2.2) fr T' rfl X'
    exact ⟨t2, st t2 a1, b1⟩
  · cases hq1
/-- a call by the interface Cond: the receiver's class c -/
def SiF (own : String) (index c : Nat) (y : MethodName) (bytes : ByteArray) (maxL : Nat) : Prop := ∃ (C : String) (T : u_T) (N : Nat), clTab[c]? = some (C, T, N) ∧ c < 19 ∧ (C, y) ∈ fwTab ∧ GoodIn lw_all (va_wsF own index C yCond y (ws_ y bytes maxL (some .boolean))) ∧ maxL ≤ 100
theorem lw_F {own C : String} {idx : Nat} {x y : MethodName} {b : ByteArray} {L : Nat} {r : Option FieldType} (h1 : Cond.methodLink own idx x ∈ lw_all) (h3 : Cond.selects C x y ∈ lw_all) (h4 : Cond.instanceMethod y ∈ lw_all) (h5 : Cond.initialized y.cls ∈ lw_all) (h6 : Cond.code y b L r ∈ lw_all) : GoodIn lw_all (va_wsF own idx C x y (ws_ y b L r)) := by
  unfold va_wsF
  refine lw_app ?_ (lw_meth h6)
  intro w hw
  simp only [List.mem_cons, List.not_mem_nil, or_false] at hw
  rcases hw with e | e | e | e
  · rw [e]; exact h1
  · rw [e]; exact h3
  · rw [e]; exact h4
  · rw [e]; exact h5
theorem x_callF1 {index maxL lev' c b count : Nat} {y : MethodName} {bytes : ByteArray} {As rest st0 : List Value} {P0 : Option RH} {Kc : Int32 → PH → Option RH} (si : SiF own index c y bytes maxL) (hM : MM y (ws_ y bytes maxL (some .boolean)) lev' (.ref b :: As) h P0) (hg : ∃ fs, h.1 b = some (.inr (c, fs))) (hst : st0 = As.reverse ++ .ref b :: rest) (hn : As.length = 2) (hlv : lev' + 1 ≤ lev) (hr : (rest.map fun v => v.category).sum ≤ 8) (d : decode cc pc = .ok (.invokeinterface index count, 5))
    (kn : ∀ i h2, Sim (own, cc, nL, lev, ret, hh, ini) h2 (pc + 5) lv (.int i :: rest) (Kc i h2)) : Sim (own, cc, nL, lev, ret, hh, ini) h pc lv st0 (hI P0 noX Kc) := by
  cases P0 with
  | none => exact Sim.none
  | some z =>
    obtain ⟨rr, h2⟩ := z
    cases rr with
    | inr q => exact Sim.none
    | inl v =>
      show Sim _ h pc lv st0 (vI v fun i => Kc i h2)
      refine Sim.use fun z e => ?_
      obtain ⟨i, h4, h5⟩ := vI_some e
      subst h4
      show Sim _ h pc lv st0 (Kc i h2)
      have le2 : LeH h h2 := hM.1 _ h2 rfl
      have k := kn i h2
      refine ⟨fun r h1 hP => LeH.trans le2 (k.1 r h1 hP), fun p l e R s m args below meth c0 G h0 r h1 K hP hle H locs ls hR hS hl => ?_⟩
      have k2 := k.2 p l e R s m args below meth c0 G h0 r h1 K hP (LeH.trans hle le2)
      have hle2 := k.1 r h1 hP
      obtain ⟨hx, hb, hml, ho, hts, hlk, hret, hKK, hCK, hbs, hRm, hfl, htab, -⟩ := K
      obtain ⟨-, hMet⟩ := hM.2 l G hfl _ h2 rfl
      have := hle.1; have := hle.2.1; have := hle2.1; have := hle2.2.1; have := le2.1; have := le2.2.1
      obtain ⟨C, T, N, hcl, hc19, s1, s2, s3⟩ := si
      obtain ⟨fs, hfs⟩ := hg
      obtain ⟨-, hPw⟩ := (hR.2.2 b _ hfs).obj hc19
      have hrun := vx_runF (e := e) (below := below) (meth := meth) (locs := locs) (count := count) (g := F0 m pc ls st0) (rest := rest) (As := As) (hKK.1.1 c _ hcl).2 ⟨hx, hb, hml, ho, hts⟩ hMet (va_cwF 2 hts s2 rfl rfl rfl (hKK.2.2.2.1 _ s1) (by decide +kernel) (room_lv hRm hlv s3)) ⟨blind, va_recv hKK.1 hPw hcl (q0 := 0) rfl, fun U hU hW => ⟨rfl, KK.warm hW hKK, by rw [hU]; exact (CK.moved hW.alike hCK).kept hS.2.1, by rw [hU]; exact Nat.le_trans hbs hS.1, by rw [hU]; exact hR⟩⟩ rfl hn (by rw [← hml]; exact hl.1) hst (lv_room hr) d ⟨by rw [hRm]; show (h.2.1.1 - h0.2.1.1) + _ ≤ h1.2.1.1 - h0.2.1.1; omega, by rw [hRm]; show (h.2.1.2 - h0.2.1.2) + _ ≤ h1.2.1.2 - h0.2.1.2; omega⟩
      exact call_core5 hrun hS hle le2 (fun H' locs' hR' hS' => k2 H' locs' ls hR' hS' hl)
end
