/-! THE START: the tables' facts, the text constants, the script -/
set_option maxRecDepth 100000
theorem sel_sub {C : String} {y : MethodName} {s : State} {args : Array Value} {n : Nat} (hy : y.cls ≠ "java/lang/invoke/MethodHandle" ∧ y.cls ≠ "java/lang/invoke/VarHandle")
    (hins : (Cond.instantiable C n).before args s = true) (hpriv : (Cond.privateMethod y).before args s = true) (hinst : (Cond.instanceMethod y).before args s = true) {C9 : String} {x9 y9 : MethodName} (h9 : y9.cls = y.cls) (hsel9 : (Cond.selects C9 x9 y9).before args s = true) :
    (Cond.selects C y y).before args s = true := by
  obtain ⟨c, k, hc, hk, -, hniab, -, -⟩ := Cond.instantiable_spec hins
  obtain ⟨c8, r8, m8, -, -, hn8, -, k8, hk8, hi8⟩ := Cond.selects_spec hsel9
  obtain ⟨mk, methM, hnamed, hmethM, -, -⟩ := Cond.instanceMethod_spec hinst
  have hfound : s.methodFound? y.cls y.name y.desc = some mk := State.methodFound?_of_named hnamed hy
  have hsel : selectMethod {} s.vm c mk = .method mk := selectMethod_private hmethM (Cond.privateMethod_at hpriv mk methM hnamed hmethM)
  have hcl : mk.cls = m8.cls := Option.some.inj ((findClass_of_methodNamed hnamed).symm.trans (h9 ▸ findClass_of_methodNamed hn8))
  simp only [Cond.before, Cond.holds, Cond.value, hc, hfound, hnamed, hsel, hk]
  simp [hcl, hk8, hi8]
theorem st_cl {s : State} {b : Nat} (hts : ∀ w ∈ lw_tbl, w.before #[Value.ref b] s = true) : ∃ D : va_G, ∀ (c : Nat) (q : vw_C), clTab[c]? = some q → u_Kn s q.1 q.2.1 q.2.2 (D.1 c) (D.2 c) := by
  obtain ⟨c0, i0, k0⟩ := u_known (C := RX1) (T := TX1) (N := 21) (n := 21) hts (fun w h => lw_all_tbl (in_X1 w h)) (hts _ (by first | exact lw_all_tbl q146 | exact q146))
  obtain ⟨c1, i1, k1⟩ := u_known (C := RX2) (T := TX2) (N := 8) (n := 8) hts (fun w h => lw_all_tbl (in_X2 w h)) (hts _ (by first | exact lw_all_tbl q154 | exact q154))
  obtain ⟨c2, i2, k2⟩ := u_known (C := RX3) (T := TX3) (N := 3) (n := 3) hts (fun w h => lw_all_tbl (in_X3 w h)) (hts _ (by first | exact lw_all_tbl q249 | exact q249))
  obtain ⟨c3, i3, k3⟩ := u_known (C := RX4) (T := TX4) (N := 4) (n := 4) hts (fun w h => lw_all_tbl (in_X4 w h)) (hts _ (by first | exact lw_all_tbl q276 | exact q276))
  obtain ⟨c4, i4, k4⟩ := u_known (C := RX5) (T := TX5) (N := 9) (n := 9) hts (fun w h => lw_all_tbl (in_X5 w h)) (hts _ (by first | exact lw_all_tbl q283 | exact q283))
  obtain ⟨c5, i5, k5⟩ := u_known (C := RX7) (T := TX7) (N := 12) (n := 12) hts (fun w h => lw_all_tbl (in_X7 w h)) (hts _ (by first | exact lw_all_tbl q339 | exact q339))
  obtain ⟨c6, i6, k6⟩ := u_known (C := RX8) (T := TX8) (N := 12) (n := 12) hts (fun w h => lw_all_tbl (in_X8 w h)) (hts _ (by first | exact lw_all_tbl q399 | exact q399))
  obtain ⟨c7, i7, k7⟩ := u_known (C := RX9) (T := TX9) (N := 12) (n := 12) hts (fun w h => lw_all_tbl (in_X9 w h)) (hts _ (by first | exact lw_all_tbl q454 | exact q454))
  obtain ⟨c8, i8, k8⟩ := u_known (C := RX10) (T := TX10) (N := 39) (n := 39) hts (fun w h => lw_all_tbl (in_X10 w h)) (hts _ (by first | exact lw_all_tbl q1675 | exact q1675))
  obtain ⟨c9, i9, k9⟩ := u_known (C := RX12) (T := TX12) (N := 5) (n := 5) hts (fun w h => lw_all_tbl (in_X12 w h)) (hts _ (by first | exact lw_all_tbl q769 | exact q769))
  obtain ⟨c10, i10, k10⟩ := u_known (C := RX13) (T := TX13) (N := 5) (n := 5) hts (fun w h => lw_all_tbl (in_X13 w h)) (hts _ (by first | exact lw_all_tbl q950 | exact q950))
  obtain ⟨c11, i11, k11⟩ := u_known (C := RX14) (T := TX14) (N := 2) (n := 2) hts (fun w h => lw_all_tbl (in_X14 w h)) (hts _ (by first | exact lw_all_tbl q1115 | exact q1115))
  obtain ⟨c12, i12, k12⟩ := u_known (C := RX15) (T := TX15) (N := 4) (n := 4) hts (fun w h => lw_all_tbl (in_X15 w h)) (hts _ (by first | exact lw_all_tbl q1343 | exact q1343))
  obtain ⟨c13, i13, k13⟩ := u_known (C := RX16) (T := TX16) (N := 1) (n := 1) hts (fun w h => lw_all_tbl (in_X16 w h)) (hts _ (by first | exact lw_all_tbl q1418 | exact q1418))
  obtain ⟨c14, i14, k14⟩ := u_known (C := RX17) (T := TX17) (N := 2) (n := 2) hts (fun w h => lw_all_tbl (in_X17 w h)) (hts _ (by first | exact lw_all_tbl q1431 | exact q1431))
  obtain ⟨c15, i15, k15⟩ := u_known (C := RX18) (T := TX18) (N := 3) (n := 3) hts (fun w h => lw_all_tbl (in_X18 w h)) (hts _ (by first | exact lw_all_tbl q1447 | exact q1447))
  obtain ⟨c16, i16, k16⟩ := u_known (C := RX19) (T := TX19) (N := 2) (n := 2) hts (fun w h => lw_all_tbl (in_X19 w h)) (hts _ (by first | exact lw_all_tbl q1464 | exact q1464))
  obtain ⟨c17, i17, k17⟩ := u_known (C := RX20) (T := TX20) (N := 2) (n := 2) hts (fun w h => lw_all_tbl (in_X20 w h)) (hts _ (by first | exact lw_all_tbl q1478 | exact q1478))
  obtain ⟨c18, i18, k18⟩ := u_known (C := RX21) (T := TX21) (N := 3) (n := 3) hts (fun w h => lw_all_tbl (in_X21 w h)) (hts _ (by first | exact lw_all_tbl q1547 | exact q1547))
  refine ⟨(fun c => match c with
    | 0 => c0
    | 1 => c1
    | 2 => c2
    | 3 => c3
    | 4 => c4
    | 5 => c5
    | 6 => c6
    | 7 => c7
    | 8 => c8
    | 9 => c9
    | 10 => c10
    | 11 => c11
    | 12 => c12
    | 13 => c13
    | 14 => c14
    | 15 => c15
    | 16 => c16
    | 17 => c17
    | 18 => c18
    | _ => 0, fun c => match c with
    | 0 => i0
    | 1 => i1
    | 2 => i2
    | 3 => i3
    | 4 => i4
    | 5 => i5
    | 6 => i6
    | 7 => i7
    | 8 => i8
    | 9 => i9
    | 10 => i10
    | 11 => i11
    | 12 => i12
    | 13 => i13
    | 14 => i14
    | 15 => i15
    | 16 => i16
    | 17 => i17
    | 18 => i18
    | _ => fun _ => 0), fun c q hq => ?_⟩
  match c, hq with
  | 0, hq => cases hq; exact k0
  | 1, hq => cases hq; exact k1
  | 2, hq => cases hq; exact k2
  | 3, hq => cases hq; exact k3
  | 4, hq => cases hq; exact k4
  | 5, hq => cases hq; exact k5
  | 6, hq => cases hq; exact k6
  | 7, hq => cases hq; exact k7
  | 8, hq => cases hq; exact k8
  | 9, hq => cases hq; exact k9
  | 10, hq => cases hq; exact k10
  | 11, hq => cases hq; exact k11
  | 12, hq => cases hq; exact k12
  | 13, hq => cases hq; exact k13
  | 14, hq => cases hq; exact k14
  | 15, hq => cases hq; exact k15
  | 16, hq => cases hq; exact k16
  | 17, hq => cases hq; exact k17
  | 18, hq => cases hq; exact k18
  | n + 19, hq => simp at hq
theorem st_ar {s : State} {b : Nat} (hts : ∀ w ∈ lw_tbl, w.before #[Value.ref b] s = true) : ∃ dA : Nat → ClassId, ∀ (k : Nat) (q : ClassId × FieldType), (aTys dA)[k]? = some q → ArrOfT s q.1 q.2 ∧ va_RA s q.1 q.2 := by
  obtain ⟨d0, x0, p0, f0, g0, e0⟩ := Cond.arrayClass_spec (hts _ (by first | exact lw_all_tbl q491 | exact q491))
  obtain ⟨d1, x1, p1, f1, g1, e1⟩ := Cond.arrayClass_spec (hts _ (by first | exact lw_all_tbl q274 | exact q274))
  obtain ⟨d2, x2, p2, f2, g2, e2⟩ := Cond.arrayClass_spec (hts _ (by first | exact lw_all_tbl q222 | exact q222))
  obtain ⟨d3, x3, p3, f3, g3, e3⟩ := Cond.arrayClass_spec (hts _ (by first | exact lw_all_tbl q1804 | exact q1804))
  obtain ⟨p4, d4, x4, a4, z4, g4, e4, f4⟩ := Cond.arrayOver_spec (hts _ (by first | exact lw_all_tbl q289 | exact q289))
  obtain ⟨p5, d5, x5, a5, z5, g5, e5, f5⟩ := Cond.arrayOver_spec (hts _ (by first | exact lw_all_tbl q949 | exact q949))
  obtain ⟨p6, d6, x6, a6, z6, g6, e6, f6⟩ := Cond.arrayOver_spec (hts _ (by first | exact lw_all_tbl q947 | exact q947))
  obtain ⟨p7, d7, x7, a7, z7, g7, e7, f7⟩ := Cond.arrayOver_spec (hts _ (by first | exact lw_all_tbl q282 | exact q282))
  obtain ⟨p8, d8, x8, a8, z8, g8, e8, f8⟩ := Cond.arrayOver_spec (hts _ (by first | exact lw_all_tbl q452 | exact q452))
  obtain ⟨p10, d10, x10, a10, z10, g10, e10, f10⟩ := Cond.arrayOver_spec (hts _ (by first | exact lw_all_tbl q414 | exact q414))
  obtain ⟨p11, d11, x11, a11, z11, g11, e11, f11⟩ := Cond.arrayOver_spec (hts _ (by first | exact lw_all_tbl q493 | exact q493))
  obtain ⟨p12, d12, x12, a12, z12, g12, e12, f12⟩ := Cond.arrayOver_spec (hts _ (by first | exact lw_all_tbl q224 | exact q224))
  obtain ⟨p9, d9, x9, a9, z9, g9, e9, f9⟩ := arrayOverA_spec (hts _ (by first | exact lw_all_tbl q451 | exact q451))
  refine ⟨fun c => match c with
    | 0 => d0
    | 1 => d1
    | 2 => d2
    | 3 => d3
    | 4 => d4
    | 5 => d5
    | 6 => d6
    | 7 => d7
    | 8 => d8
    | 9 => d9
    | 10 => d10
    | 11 => d11
    | 12 => d12
    | _ => 0, fun k q hq => ?_⟩
  match k, hq with
  | 0, hq => cases hq; exact ⟨fun N z => ⟨(fun k h => by cases h), x0, g0, p0, e0⟩, f0⟩
  | 1, hq => cases hq; exact ⟨fun N z => ⟨(fun k h => by cases h), x1, g1, p1, e1⟩, f1⟩
  | 2, hq => cases hq; exact ⟨fun N z => ⟨(fun k h => by cases h), x2, g2, p2, e2⟩, f2⟩
  | 3, hq => cases hq; exact ⟨fun N z => ⟨(fun k h => by cases h), x3, g3, p3, e3⟩, f3⟩
  | 4, hq => cases hq; exact ⟨fun N z => ⟨(fun k h => by cases h), x4, g4, p4, e4⟩, x4, p4, g4, e4, a4, f4⟩
  | 5, hq => cases hq; exact ⟨fun N z => ⟨(fun k h => by cases h), x5, g5, p5, e5⟩, x5, p5, g5, e5, a5, f5⟩
  | 6, hq => cases hq; exact ⟨fun N z => ⟨(fun k h => by cases h), x6, g6, p6, e6⟩, x6, p6, g6, e6, a6, f6⟩
  | 7, hq => cases hq; exact ⟨fun N z => ⟨(fun k h => by cases h), x7, g7, p7, e7⟩, x7, p7, g7, e7, a7, f7⟩
  | 8, hq => cases hq; exact ⟨fun N z => ⟨(fun k h => by cases h), x8, g8, p8, e8⟩, x8, p8, g8, e8, a8, f8⟩
  | 9, hq => cases hq; exact ⟨fun N z => ⟨(fun k h => by cases h), x9, g9, p9, e9⟩, f9⟩
  | 10, hq => cases hq; exact ⟨fun N z => ⟨(fun k h => by cases h), x10, g10, p10, e10⟩, x10, p10, g10, e10, a10, f10⟩
  | 11, hq => cases hq; exact ⟨fun N z => ⟨(fun k h => by cases h), x11, g11, p11, e11⟩, x11, p11, g11, e11, a11, f11⟩
  | 12, hq => cases hq; exact ⟨fun N z => ⟨(fun k h => by cases h), x12, g12, p12, e12⟩, x12, p12, g12, e12, a12, f12⟩
  | n + 13, hq => simp at hq
theorem st_fw {s : State} {b : Nat} (hts : ∀ w ∈ lw_tbl, w.before #[Value.ref b] s = true) : ∀ q ∈ fwTab, va_Fw q.1 yCond q.2 s := by
  intro q hq
  simp only [fwTab, List.mem_cons, List.not_mem_nil, or_false] at hq
  rcases hq with e | e | e | e | e
  · rw [e]; exact va_Fw.of (hts _ (by first | exact lw_all_tbl q1497 | exact q1497)) (hts _ (by first | exact lw_all_tbl q1496 | exact q1496)) (hts _ (by first | exact lw_all_tbl q1539 | exact q1539)) (hts _ (by first | exact lw_all_tbl q1537 | exact q1537)) (hts _ (by first | exact lw_all_tbl q1535 | exact q1535))
  · rw [e]; exact va_Fw.of (hts _ (by first | exact lw_all_tbl q1497 | exact q1497)) (hts _ (by first | exact lw_all_tbl q1496 | exact q1496)) (hts _ (by first | exact lw_all_tbl q1529 | exact q1529)) (hts _ (by first | exact lw_all_tbl q1527 | exact q1527)) (hts _ (by first | exact lw_all_tbl q1525 | exact q1525))
  · rw [e]; exact va_Fw.of (hts _ (by first | exact lw_all_tbl q1497 | exact q1497)) (hts _ (by first | exact lw_all_tbl q1496 | exact q1496)) (hts _ (by first | exact lw_all_tbl q1518 | exact q1518)) (hts _ (by first | exact lw_all_tbl q1516 | exact q1516)) (hts _ (by first | exact lw_all_tbl q1514 | exact q1514))
  · rw [e]; exact va_Fw.of (hts _ (by first | exact lw_all_tbl q1497 | exact q1497)) (hts _ (by first | exact lw_all_tbl q1496 | exact q1496)) (hts _ (by first | exact lw_all_tbl q1510 | exact q1510)) (hts _ (by first | exact lw_all_tbl q1508 | exact q1508)) (hts _ (by first | exact lw_all_tbl q1506 | exact q1506))
  · rw [e]; exact va_Fw.of (hts _ (by first | exact lw_all_tbl q1497 | exact q1497)) (hts _ (by first | exact lw_all_tbl q1496 | exact q1496)) (hts _ (by first | exact lw_all_tbl q1502 | exact q1502)) (hts _ (by first | exact lw_all_tbl q1500 | exact q1500)) (hts _ (by first | exact lw_all_tbl q1498 | exact q1498))
theorem st_ao {s : State} {b : Nat} (hts : ∀ w ∈ lw_tbl, w.before #[Value.ref b] s = true) : ∀ C ∈ aoTab, va_AO C s := by
  intro C hC
  simp only [aoTab, List.mem_cons, List.not_mem_nil, or_false] at hC
  rcases hC with e | e | e | e | e | e | e | e
  · rw [e]; exact va_AO.of (hts _ (by first | exact lw_all_tbl q289 | exact q289))
  · rw [e]; exact va_AO.of (hts _ (by first | exact lw_all_tbl q949 | exact q949))
  · rw [e]; exact va_AO.of (hts _ (by first | exact lw_all_tbl q947 | exact q947))
  · rw [e]; exact va_AO.of (hts _ (by first | exact lw_all_tbl q282 | exact q282))
  · rw [e]; exact va_AO.of (hts _ (by first | exact lw_all_tbl q452 | exact q452))
  · rw [e]; exact va_AO.of (hts _ (by first | exact lw_all_tbl q414 | exact q414))
  · rw [e]; exact va_AO.of (hts _ (by first | exact lw_all_tbl q493 | exact q493))
  · rw [e]; exact va_AO.of (hts _ (by first | exact lw_all_tbl q224 | exact q224))
theorem st_sel {s : State} {b : Nat} (hts : ∀ w ∈ lw_tbl, w.before #[Value.ref b] s = true) : ∀ w ∈ selP, va_Nw w s := by
  intro w hw
  simp only [selP, List.flatMap_cons, List.flatMap_nil, List.map_cons, List.map_nil, List.append_nil, List.cons_append, List.nil_append, List.mem_cons, List.not_mem_nil, or_false] at hw
  rcases hw with e | e | e | e | e | e | e | e | e | e | e | e
  · rw [e]; exact va_Nw.of rfl (sel_sub (by decide) (hts _ (by first | exact lw_all_tbl q339 | exact q339)) (hts _ (by first | exact lw_all_tbl q605 | exact q605)) (hts _ (by first | exact lw_all_tbl q606 | exact q606)) (y9 := ⟨RX6, "begin", "()V"⟩) rfl (hts _ (by first | exact lw_all_tbl q594 | exact q594)))
  · rw [e]; exact va_Nw.of rfl (sel_sub (by decide) (hts _ (by first | exact lw_all_tbl q339 | exact q339)) (hts _ (by first | exact lw_all_tbl q609 | exact q609)) (hts _ (by first | exact lw_all_tbl q610 | exact q610)) (y9 := ⟨RX6, "begin", "()V"⟩) rfl (hts _ (by first | exact lw_all_tbl q594 | exact q594)))
  · rw [e]; exact va_Nw.of rfl (sel_sub (by decide) (hts _ (by first | exact lw_all_tbl q339 | exact q339)) (hts _ (by first | exact lw_all_tbl q616 | exact q616)) (hts _ (by first | exact lw_all_tbl q617 | exact q617)) (y9 := ⟨RX6, "begin", "()V"⟩) rfl (hts _ (by first | exact lw_all_tbl q594 | exact q594)))
  · rw [e]; exact va_Nw.of rfl (sel_sub (by decide) (hts _ (by first | exact lw_all_tbl q339 | exact q339)) (hts _ (by first | exact lw_all_tbl q620 | exact q620)) (hts _ (by first | exact lw_all_tbl q621 | exact q621)) (y9 := ⟨RX6, "begin", "()V"⟩) rfl (hts _ (by first | exact lw_all_tbl q594 | exact q594)))
  · rw [e]; exact va_Nw.of rfl (sel_sub (by decide) (hts _ (by first | exact lw_all_tbl q399 | exact q399)) (hts _ (by first | exact lw_all_tbl q605 | exact q605)) (hts _ (by first | exact lw_all_tbl q606 | exact q606)) (y9 := ⟨RX6, "begin", "()V"⟩) rfl (hts _ (by first | exact lw_all_tbl q594 | exact q594)))
  · rw [e]; exact va_Nw.of rfl (sel_sub (by decide) (hts _ (by first | exact lw_all_tbl q399 | exact q399)) (hts _ (by first | exact lw_all_tbl q609 | exact q609)) (hts _ (by first | exact lw_all_tbl q610 | exact q610)) (y9 := ⟨RX6, "begin", "()V"⟩) rfl (hts _ (by first | exact lw_all_tbl q594 | exact q594)))
  · rw [e]; exact va_Nw.of rfl (sel_sub (by decide) (hts _ (by first | exact lw_all_tbl q399 | exact q399)) (hts _ (by first | exact lw_all_tbl q616 | exact q616)) (hts _ (by first | exact lw_all_tbl q617 | exact q617)) (y9 := ⟨RX6, "begin", "()V"⟩) rfl (hts _ (by first | exact lw_all_tbl q594 | exact q594)))
  · rw [e]; exact va_Nw.of rfl (sel_sub (by decide) (hts _ (by first | exact lw_all_tbl q399 | exact q399)) (hts _ (by first | exact lw_all_tbl q620 | exact q620)) (hts _ (by first | exact lw_all_tbl q621 | exact q621)) (y9 := ⟨RX6, "begin", "()V"⟩) rfl (hts _ (by first | exact lw_all_tbl q594 | exact q594)))
  · rw [e]; exact va_Nw.of rfl (sel_sub (by decide) (hts _ (by first | exact lw_all_tbl q454 | exact q454)) (hts _ (by first | exact lw_all_tbl q605 | exact q605)) (hts _ (by first | exact lw_all_tbl q606 | exact q606)) (y9 := ⟨RX6, "begin", "()V"⟩) rfl (hts _ (by first | exact lw_all_tbl q594 | exact q594)))
  · rw [e]; exact va_Nw.of rfl (sel_sub (by decide) (hts _ (by first | exact lw_all_tbl q454 | exact q454)) (hts _ (by first | exact lw_all_tbl q609 | exact q609)) (hts _ (by first | exact lw_all_tbl q610 | exact q610)) (y9 := ⟨RX6, "begin", "()V"⟩) rfl (hts _ (by first | exact lw_all_tbl q594 | exact q594)))
  · rw [e]; exact va_Nw.of rfl (sel_sub (by decide) (hts _ (by first | exact lw_all_tbl q454 | exact q454)) (hts _ (by first | exact lw_all_tbl q616 | exact q616)) (hts _ (by first | exact lw_all_tbl q617 | exact q617)) (y9 := ⟨RX6, "begin", "()V"⟩) rfl (hts _ (by first | exact lw_all_tbl q594 | exact q594)))
  · rw [e]; exact va_Nw.of rfl (sel_sub (by decide) (hts _ (by first | exact lw_all_tbl q454 | exact q454)) (hts _ (by first | exact lw_all_tbl q620 | exact q620)) (hts _ (by first | exact lw_all_tbl q621 | exact q621)) (y9 := ⟨RX6, "begin", "()V"⟩) rfl (hts _ (by first | exact lw_all_tbl q594 | exact q594)))
