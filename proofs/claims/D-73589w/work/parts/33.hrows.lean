/-! ROWS over the heap -/
set_option maxRecDepth 100000
theorem u_apartO {args : Array Value} {s : State} {C O f d O' f' d' : String} (h : (Cond.laysFinal C O f d).before args s = true) (h' : (Cond.laysFinal C O' f' d').before args s = true)
    {cf kf fi fd cf' kf' fi' fd'} (hi : s.fieldFound? O f d = some (cf, kf, fi, fd)) (hi' : s.fieldFound? O' f' d' = some (cf', kf', fi', fd')) (hne : O ≠ O') : fd.slot ≠ fd'.slot := by
  have cls : ∀ {cls name desc : String} {c i : Nat} {k : Class} {f : Field}, s.fieldFound? cls name desc = some (c, k, i, f) → s.vm.classes[c]? = some k := by
    intro cls name desc c i k f h
    simp only [State.fieldFound?, Option.bind_eq_bind, Option.bind_eq_some_iff] at h
    obtain ⟨a1, -, a2, -, ⟨a3, a4⟩, -, a5, ha5, a6, -, h6⟩ := h
    cases h6
    exact ha5
  obtain ⟨c1, k1, c2, k2, i2, f2, hc1, -, hf2, -, -, -, ho2, -, dd, hd, hn, -⟩ := Cond.laysFinal_spec h
  obtain ⟨c3, k3, c4, k4, i4, f4, hc3, -, hf4, -, -, -, ho4, -, de, he, hm, -⟩ := Cond.laysFinal_spec h'
  cases hi.symm.trans hf2
  cases hi'.symm.trans hf4
  cases hc1.symm.trans hc3
  intro hs
  rw [hs] at hd
  cases hd.symm.trans he
  obtain ⟨q1, w1, w2⟩ := Vm.findClass_spec ho2
  obtain ⟨q3, w3, w4⟩ := Vm.findClass_spec ho4
  cases w1.symm.trans (cls hf2)
  cases w3.symm.trans (cls hf4)
  exact hne (w2.symm.trans (hn.symm.trans (hm.trans w4)))
/-- a class by its number -/
def CI (c : Nat) (C : String) (T : u_T) (N : Nat) (ty : Nat → FieldType) : Prop := clTab[c]? = some (C, T, N) ∧ (∀ w ∈ u_ws C T N, w ∈ lw_all) ∧ (∀ k, k < N → parseFieldDescriptor (T k).2.2.1 = some (ty k)) ∧ (∀ a, a < N → ∀ b, b < N → a ≠ b → (T a).2.1 ≠ (T b).2.1 ∨ ((T a).2.2.2 = true ∧ (T b).2.2.2 = true ∧ (T a).1 ≠ (T b).1)) ∧ c < 19
theorem ci_0 : CI 0 RX1 TX1 21 tyX1 := ⟨rfl, in_X1, tyX1_ok, fun a ha b hb hn => Or.inl (nmX1 a ha b hb hn), by decide⟩
theorem ci_1 : CI 1 RX2 TX2 8 tyX2 := ⟨rfl, in_X2, tyX2_ok, fun a ha b hb hn => Or.inl (nmX2 a ha b hb hn), by decide⟩
theorem ci_2 : CI 2 RX3 TX3 3 tyX3 := ⟨rfl, in_X3, tyX3_ok, fun a ha b hb hn => Or.inl (nmX3 a ha b hb hn), by decide⟩
theorem ci_3 : CI 3 RX4 TX4 4 tyX4 := ⟨rfl, in_X4, tyX4_ok, fun a ha b hb hn => Or.inl (nmX4 a ha b hb hn), by decide⟩
theorem ci_4 : CI 4 RX5 TX5 9 tyX5 := ⟨rfl, in_X5, tyX5_ok, fun a ha b hb hn => Or.inl (nmX5 a ha b hb hn), by decide⟩
theorem ci_5 : CI 5 RX7 TX7 12 tyX7 := ⟨rfl, in_X7, tyX7_ok, by decide +kernel, by decide⟩
theorem ci_6 : CI 6 RX8 TX8 12 tyX8 := ⟨rfl, in_X8, tyX8_ok, by decide +kernel, by decide⟩
theorem ci_7 : CI 7 RX9 TX9 12 tyX9 := ⟨rfl, in_X9, tyX9_ok, by decide +kernel, by decide⟩
theorem ci_8 : CI 8 RX10 TX10 39 tyX10 := ⟨rfl, in_X10, tyX10_ok, fun a ha b hb hn => Or.inl (nmX10 a ha b hb hn), by decide⟩
theorem ci_9 : CI 9 RX12 TX12 5 tyX12 := ⟨rfl, in_X12, tyX12_ok, fun a ha b hb hn => Or.inl (nmX12 a ha b hb hn), by decide⟩
theorem ci_10 : CI 10 RX13 TX13 5 tyX13 := ⟨rfl, in_X13, tyX13_ok, fun a ha b hb hn => Or.inl (nmX13 a ha b hb hn), by decide⟩
theorem ci_11 : CI 11 RX14 TX14 2 tyX14 := ⟨rfl, in_X14, tyX14_ok, fun a ha b hb hn => Or.inl (nmX14 a ha b hb hn), by decide⟩
theorem ci_12 : CI 12 RX15 TX15 4 tyX15 := ⟨rfl, in_X15, tyX15_ok, fun a ha b hb hn => Or.inl (nmX15 a ha b hb hn), by decide⟩
theorem ci_13 : CI 13 RX16 TX16 1 tyX16 := ⟨rfl, in_X16, tyX16_ok, fun a ha b hb hn => Or.inl (nmX16 a ha b hb hn), by decide⟩
theorem ci_14 : CI 14 RX17 TX17 2 tyX17 := ⟨rfl, in_X17, tyX17_ok, fun a ha b hb hn => Or.inl (nmX17 a ha b hb hn), by decide⟩
theorem ci_15 : CI 15 RX18 TX18 3 tyX18 := ⟨rfl, in_X18, tyX18_ok, fun a ha b hb hn => Or.inl (nmX18 a ha b hb hn), by decide⟩
theorem ci_16 : CI 16 RX19 TX19 2 tyX19 := ⟨rfl, in_X19, tyX19_ok, fun a ha b hb hn => Or.inl (nmX19 a ha b hb hn), by decide⟩
theorem ci_17 : CI 17 RX20 TX20 2 tyX20 := ⟨rfl, in_X20, tyX20_ok, fun a ha b hb hn => Or.inl (nmX20 a ha b hb hn), by decide⟩
theorem ci_18 : CI 18 RX21 TX21 3 tyX21 := ⟨rfl, in_X21, tyX21_ok, fun a ha b hb hn => Or.inl (nmX21 a ha b hb hn), by decide⟩
def FL (own : String) (index : Nat) (ref n d : String) : Prop := Cond.fieldLink own index ref n d ∈ lw_all ∨ ∃ host, Cond.fieldLinkNest own index ref n d host ∈ lw_tbl
/-- an entry for a field: of objects of classes cs the k-th field, its type, whether it is final -/
def FI (own : String) (index : Nat) (cs : List Nat) (k : Nat) (fty : FieldType) (fin wr : Bool) : Prop := ∀ c ∈ cs, ∃ (C : String) (T : u_T) (N : Nat) (ty : Nat → FieldType) (ref : String), CI c C T N ty ∧ k < N ∧ ty k = fty ∧ (T k).2.2.2 = fin ∧ FL own index ref (T k).2.1 (T k).2.2.1 ∧ (ref = (T k).1 ∨ Cond.sameField ref (T k).1 (T k).2.1 (T k).2.2.1 ∈ lw_all) ∧ (fin = true → wr = true → (T k).1 = own)
theorem fi_c {own : String} {index c : Nat} {cs : List Nat} {k : Nat} {fty : FieldType} {fin wr : Bool} {C : String} {T : u_T} {N : Nat} {ty : Nat → FieldType} {ref : String} (h1 : CI c C T N ty) (h2 : k < N) (h3 : ty k = fty) (h4 : (T k).2.2.2 = fin) (h5 : FL own index ref (T k).2.1 (T k).2.2.1) (h6 : ref = (T k).1 ∨ Cond.sameField ref (T k).1 (T k).2.1 (T k).2.2.1 ∈ lw_all) (h7 : fin = true → wr = true → (T k).1 = own) (ht : FI own index cs k fty fin wr) : FI own index (c :: cs) k fty fin wr := by
  intro c' hc
  rcases List.mem_cons.mp hc with e | e
  · subst e
    exact ⟨C, T, N, ty, ref, h1, h2, h3, h4, h5, h6, h7⟩
  · exact ht c' e
theorem fi_n {own : String} {index : Nat} {k : Nat} {fty : FieldType} {fin wr : Bool} : FI own index [] k fty fin wr := fun c h => absurd h List.not_mem_nil
theorem ap_all {args : Array Value} {s : State} {D : va_G} {tys : List (ClassId × FieldType)} {c : Nat} {C : String} {T : u_T} {N : Nat} {ty : Nat → FieldType} (hts : ∀ w ∈ lw_all, w.before args s = true) (h : CI c C T N ty) (hK : va_K D clTab tys s) : ∀ x y, x < N → y < N → x ≠ y → (D.2 c) x ≠ (D.2 c) y := by
  intro x y hx hy hne
  obtain ⟨hc, hin, hty, hnm, -⟩ := h
  obtain ⟨hS, -⟩ := hK.1 c _ hc
  obtain ⟨_, _, _, fa, hia, ea⟩ := hS x hx
  obtain ⟨_, _, _, fb, hib, eb⟩ := hS y hy
  rw [← ea, ← eb]
  rcases hnm x hx y hy hne with h1 | ⟨h1, h2, h3⟩
  · refine u_apart (u_lays hts hin hx) (u_lays hts hin hy) hia hib ?_
    rw [(State.fieldFound?_type hia (hty x hx)).1, (State.fieldFound?_type hib (hty y hy)).1]
    exact h1
  · have l1 := hts _ (hin _ (u_in_lay hx))
    have l2 := hts _ (hin _ (u_in_lay hy))
    unfold u_lay at l1 l2
    rw [if_pos h1] at l1
    rw [if_pos h2] at l2
    exact u_apartO l1 l2 hia hib h3
theorem cOk.obj {G : GG} {a c : Nat} {fs : List Value} {H : Heap} (h : cOk G a (.inr (c, fs)) H) (hc : c < 19) : G.2.1 ≤ a ∧ va_P G.1.1 clTab [(a, .inr (c, fs))] H := by
  have h1 : ¬ 100 ≤ c := by omega
  simp only [cOk, h1, if_false] at h
  refine ⟨h.1, fun k q hk => ?_⟩
  cases k with
  | zero => cases hk; exact h.2
  | succ k => simp at hk
theorem cOk.arr {G : GG} {a : Nat} {y : Nat × vp_A} {H : Heap} (h : cOk G a (.inl y) H) : G.2.1 ≤ a ∧ va_P G.1.1 clTab [(a, .inl (G.1.2 y.1, y.2))] H := by
  refine ⟨h.1, fun k q hk => ?_⟩
  cases k with
  | zero => cases hk; exact h.2
  | succ k => simp at hk
section
variable {own : String} {cc : ByteArray} {nL lev : Nat} {ret : Option FieldType} {hh : List (Nat × Nat × Nat × Nat)} {ini : Bool}
variable {h : PH} {pc : Nat} {lv : List (Nat × Value)} {st : List Value} {P P1 P2 : Option RH}
theorem Sim.use (k : ∀ z, P = some z → Sim (own, cc, nL, lev, ret, hh, ini) h pc lv st P) : Sim (own, cc, nL, lev, ret, hh, ini) h pc lv st P := ⟨fun r h1 hP => (k _ hP).1 r h1 hP, fun p l e R s m args below meth c G h0 r h1 K hP => (k _ hP).2 p l e R s m args below meth c G h0 r h1 K hP⟩
theorem x_nn {r : Option Nat} {Kc : Nat → Option RH} (k : ∀ a, r = some a → Sim (own, cc, nL, lev, ret, hh, ini) h pc lv st (Kc a)) : Sim (own, cc, nL, lev, ret, hh, ini) h pc lv st (nn r Kc) := by
  cases r with
  | none => exact Sim.none
  | some a => exact k a rfl
theorem x_nm {α : Type} {e : α} {Kc : α → Option RH} (k : ∀ a, a = e → Sim (own, cc, nL, lev, ret, hh, ini) h pc lv st (Kc a)) : Sim (own, cc, nL, lev, ret, hh, ini) h pc lv st (nm e Kc) := k e rfl
theorem x_nmI {e : Int32} {Kc : Int32 → Option RH} (k : ∀ a, Sim (own, cc, nL, lev, ret, hh, ini) h pc lv (.int a :: st) (Kc a)) : Sim (own, cc, nL, lev, ret, hh, ini) h pc lv (.int e :: st) (nm e Kc) := k e
theorem x_nmL {e : Int64} {Kc : Int64 → Option RH} (k : ∀ a, Sim (own, cc, nL, lev, ret, hh, ini) h pc lv (.long a :: st) (Kc a)) : Sim (own, cc, nL, lev, ret, hh, ini) h pc lv (.long e :: st) (nm e Kc) := k e
theorem x_nmF {e : UInt32} {Kc : UInt32 → Option RH} (k : ∀ a, Sim (own, cc, nL, lev, ret, hh, ini) h pc lv (.float a :: st) (Kc a)) : Sim (own, cc, nL, lev, ret, hh, ini) h pc lv (.float e :: st) (nm e Kc) := k e
theorem x_nmD {e : UInt64} {Kc : UInt64 → Option RH} (k : ∀ a, Sim (own, cc, nL, lev, ret, hh, ini) h pc lv (.double a :: st) (Kc a)) : Sim (own, cc, nL, lev, ret, hh, ini) h pc lv (.double e :: st) (nm e Kc) := k e
theorem x_grd {a : Nat} {cs : List Nat} (k : Sim (own, cc, nL, lev, ret, hh, ini) h pc lv st P) : Sim (own, cc, nL, lev, ret, hh, ini) h pc lv st (grd h a cs P) := Sim.use fun z e => by
  obtain ⟨⟨c, fs, h1, h2⟩, h3⟩ := grd_some e
  have : grd h a cs P = P := by simp only [grd, oC, h1, h2, if_true]
  rw [this]
  exact k
theorem get_core {a index k c : Nat} {cs : List Nat} {fs : List Value} {v : Value} {fty : FieldType} {fin wr : Bool} (fi : FI own index cs k fty fin wr) (d : decode cc pc = .ok (.getfield index, 3)) (hc : h.1 a = some (.inr (c, fs))) (hcs : c ∈ cs) (hv : fs[k]? = some v) (kk : Sim (own, cc, nL, lev, ret, hh, ini) h (pc + 3) lv (v :: st) P) : Sim (own, cc, nL, lev, ret, hh, ini) h pc lv (.ref a :: st) P := by
  refine ⟨kk.1, fun p l e R s m args below meth c0 G h0 r h1 K hP hle H locs ls hR hS hl => ?_⟩
  have k1 := kk.1 _ _ hP
  have k2 := kk.2 p l e R s m args below meth c0 G h0 r h1 K hP
  obtain ⟨hx, hb, hml, ho, hts, hlk, hret, hKK, hCK, hbs, hRm, hfl, htab, hini⟩ := K
  obtain ⟨C, T, N, ty, ref, hCI, hkN, -, -, hFL, hsm, -⟩ := fi c hcs
  obtain ⟨-, hPw⟩ := (hR.2.2 a _ hc).obj hCI.2.2.2.2
  have hsame : ∀ y, s.fieldFound? (T k).1 (T k).2.1 (T k).2.2.1 = some y → s.fieldFound? ref (T k).2.1 (T k).2.2.1 = some y := by
    rcases hsm with e1 | e1
    · rw [e1]; exact fun y hy => hy
    · exact fun y hy => u_same (hts _ e1) y hy
  rcases hFL with hF | ⟨host, hF⟩
  · exact va_get hx hb hts hCI.2.1 ho hKK.1 hPw 0 rfl hCI.1 k hkN (hts _ hF) hsame hv d (k2 hle H locs ls hR hS hl)
  · exact va_getN hx hb hts hCI.2.1 ho hKK.1 hPw 0 rfl hCI.1 k hkN (va_Nw.use rfl (hKK.2.1 _ hF rfl)) hsame hv d (k2 hle H locs ls hR hS hl)
theorem x_getI {a index k : Nat} {cs : List Nat} {fty : FieldType} {fin wr : Bool} {Kc : Int32 → Option RH} (fi : FI own index cs k fty fin wr) (d : decode cc pc = .ok (.getfield index, 3)) (kk : ∀ v, Sim (own, cc, nL, lev, ret, hh, ini) h (pc + 3) lv (.int v :: st) (Kc v)) : Sim (own, cc, nL, lev, ret, hh, ini) h pc lv (.ref a :: st) (gI h a cs k Kc) := Sim.use fun z e => by
  obtain ⟨c, fs, h1, h2, h3⟩ := oC_some e
  obtain ⟨i, h4, h5⟩ := vI_some h3
  have : gI h a cs k Kc = Kc i := by simp only [gI, oC, h1, h2, if_true, vI, h4]
  rw [this]
  exact get_core fi d h1 h2 h4 (kk i)
theorem x_getL {a index k : Nat} {cs : List Nat} {fty : FieldType} {fin wr : Bool} {Kc : Int64 → Option RH} (fi : FI own index cs k fty fin wr) (d : decode cc pc = .ok (.getfield index, 3)) (kk : ∀ v, Sim (own, cc, nL, lev, ret, hh, ini) h (pc + 3) lv (.long v :: st) (Kc v)) : Sim (own, cc, nL, lev, ret, hh, ini) h pc lv (.ref a :: st) (gL h a cs k Kc) := Sim.use fun z e => by
  obtain ⟨c, fs, h1, h2, h3⟩ := oC_some e
  obtain ⟨i, h4, h5⟩ := vL_some h3
  have : gL h a cs k Kc = Kc i := by simp only [gL, oC, h1, h2, if_true, vL, h4]
  rw [this]
  exact get_core fi d h1 h2 h4 (kk i)
theorem vQ_rf {β : Type} {r : Option Nat} {K : Option Nat → Option β} : vQ (some (va_rf r)) K = K r := by cases r <;> rfl
theorem x_getQ {a index k : Nat} {cs : List Nat} {fty : FieldType} {fin wr : Bool} {Kc : Option Nat → Option RH} (fi : FI own index cs k fty fin wr) (d : decode cc pc = .ok (.getfield index, 3)) (kk : ∀ v, Sim (own, cc, nL, lev, ret, hh, ini) h (pc + 3) lv (va_rf v :: st) (Kc v)) : Sim (own, cc, nL, lev, ret, hh, ini) h pc lv (.ref a :: st) (gQ h a cs k Kc) := Sim.use fun z e => by
  obtain ⟨c, fs, h1, h2, h3⟩ := oC_some e
  obtain ⟨i, h4, h5⟩ := vQ_some h3
  have : gQ h a cs k Kc = Kc i := by simp only [gQ, oC, h1, h2, if_true, h4, vQ_rf]
  rw [this]
  exact get_core fi d h1 h2 h4 (kk i)
def okV (fty : FieldType) (v : Value) : Prop := narrow fty v = v ∧ fits fty v = true
theorem okV_int (v : Int32) : okV .int (.int v) := ⟨rfl, rfl⟩
theorem okV_long (v : Int64) : okV .long (.long v) := ⟨rfl, rfl⟩
theorem okV_bool {v : Int32} (h : v = 0 ∨ v = 1) : okV .boolean (.int v) := by
  rcases h with rfl | rfl <;> exact ⟨by decide, by decide⟩
theorem okV_obj (C : String) (r : Option Nat) : okV (.object C) (va_rf r) := by cases r <;> exact ⟨rfl, rfl⟩
theorem okV_arr (t : FieldType) (r : Option Nat) : okV (.array t) (va_rf r) := by cases r <;> exact ⟨rfl, rfl⟩
theorem put_core {a index k c : Nat} {cs : List Nat} {fs : List Value} {v : Value} {fty : FieldType} {fin : Bool} (fi : FI own index cs k fty fin true) (hfin : fin = true → ini = true) (hv : okV fty v) (d : decode cc pc = .ok (.putfield index, 3)) (hc : h.1 a = some (.inr (c, fs))) (hcs : c ∈ cs) (hk : k < fs.length) (kk : Sim (own, cc, nL, lev, ret, hh, ini) (hset h a (.inr (c, fs.set k v))) (pc + 3) lv st P) : Sim (own, cc, nL, lev, ret, hh, ini) h pc lv (v :: .ref a :: st) P := by
  refine ⟨kk.1, fun p l e R s m args below meth c0 G h0 r h1 K hP hle H locs ls hR hS hl => ?_⟩
  have k1 := kk.1 _ _ hP
  have k2 := kk.2 p l e R s m args below meth c0 G h0 r h1 K hP
  obtain ⟨hx, hb, hml, ho, hts, hlk, hret, hKK, hCK, hbs, hRm, hfl, htab, hini⟩ := K
  obtain ⟨C, T, N, ty, ref, hCI, hkN, hty, hfi, hFL, hsm, hown⟩ := fi c hcs
  obtain ⟨hba, hPw⟩ := (hR.2.2 a _ hc).obj hCI.2.2.2.2
  have hcl := hCI.1
  have hin := hCI.2.1
  have hsame : ∀ y, s.fieldFound? (T k).1 (T k).2.1 (T k).2.2.1 = some y → s.fieldFound? ref (T k).2.1 (T k).2.2.1 = some y := by
    rcases hsm with e1 | e1
    · rw [e1]; exact fun y hy => hy
    · exact fun y hy => u_same (hts _ e1) y hy
  have hap := ap_all hts hCI hKK.1
  have hd := hCI.2.2.1 k hkN
  rw [hty] at hd
  obtain ⟨r0, g1, cell, q1, q2, q3, q4⟩ := hPw 0 _ rfl
  have hr : r0 = (C, T, N) := Option.some.inj (g1.symm.trans hcl)
  subst hr
  obtain ⟨hSl, hfc, kC, hkC, hkind⟩ := hKK.1.1 c _ hcl
  obtain ⟨cf, kf, fi2, f, hi, hsl⟩ := hSl k hkN
  have hlay := hts _ (hin _ (u_in_lay hkN))
  unfold u_lay at hlay
  have hst := (u_facts hfc hkC (u_lays hts hin hkN) hi).1
  have done : ∀ (H' : Heap), H'[a]? = some (cell.setSlot (G.1.1.2 c k) v) → H'.size = H.size → (∀ q, q ≠ a → H'[q]? = H[q]?) → W p l e R s m args below meth c0 H' (locs ++ [⟨a, G.1.1.2 c k⟩]) (h.2.1.1 - h0.2.1.1) (h.2.1.2 - h0.2.1.2) (vx_MQ below (Qn G r h1) (Xn G r h1) args s (h1.2.1.1 - h0.2.1.1) (h1.2.1.2 - h0.2.1.2) (GA G)) (F0 m (pc + 3) ls st) := by
    intro H' e1 e2 e3
    have hok : cOk G a (.inr (c, fs.set k v)) H' := by
      have n1 : ¬ 100 ≤ c := by have := hCI.2.2.2.2; omega
      simp only [cOk, n1, if_false]
      exact ⟨hba, ⟨_, hcl, t_OB.to (V := updV (vp_V fs) k v) ⟨_, e1, q2, q3, t_set q4 hap hkN v⟩ (fun j _ => vp_updV_set hk v j)⟩⟩
    exact k2 hle H' _ ls (Rep.set hR hok e2 e3) (hS.put e2 e3 hba) hl
  cases fin with
  | false =>
    rw [if_neg (by rw [hfi]; decide)] at hlay
    have h6 := u_store hfc hkC hkind hlay hi hd hv.1 hv.2
    rcases hFL with hF | ⟨host, hF⟩
    · refine W.putK hx hb (f := f) ⟨ho, hts _ hF, ⟨_, _, _, hsame _ hi⟩, hst⟩ (by rw [q2]; exact h6) q1 q3 (by rw [hsl]; exact k2_hasslot (q4 k hkN)) rfl rfl d fun H' e1 e2 e3 => ?_
      rw [hsl] at e1 ⊢
      exact done H' e1 e2 e3
    · refine va_WputK hx hb (f := f) ho (va_Nw.use rfl (hKK.2.1 _ hF rfl)) (hsame _ hi) hst (by rw [q2]; exact h6) q1 q3 (by rw [hsl]; exact k2_hasslot (q4 k hkN)) rfl rfl d fun H' e1 e2 e3 => ?_
      rw [hsl] at e1 ⊢
      exact done H' e1 e2 e3
  | true =>
    rw [if_pos hfi] at hlay
    have hcf : m.cls = cf := by
      obtain ⟨_, _, c', _, _, _, -, -, hf', -, -, -, hown2, -⟩ := Cond.laysFinal_spec hlay
      have e1 : c' = cf := by have := hi.symm.trans hf'; simp at this; exact this.1.symm
      rw [hown rfl rfl] at hown2
      rw [← e1]; exact Option.some.inj (ho.symm.trans hown2)
    have h6 := u_fits hfc hkC hkind (Or.inr hlay) hi hd hv.1 hv.2
    rcases hFL with hF | ⟨host, hF⟩
    · refine W.putFinK hx hb ho (hts _ hF) (hsame _ hi) hst hcf (hini (hfin rfl)) (by rw [q2]; exact h6) q1 q3 (by rw [hsl]; exact k2_hasslot (q4 k hkN)) rfl rfl d fun H' e1 e2 e3 => ?_
      rw [hsl] at e1 ⊢
      exact done H' e1 e2 e3
    · have ha : a < H.size := (Array.getElem?_eq_some_iff.mp q1).1
      refine va_Wputf hx hb ho (va_Nw.use rfl (hKK.2.1 _ hF rfl)) (hsame _ hi) hst (Or.inr ⟨hcf, hini (hfin rfl)⟩) q1 (by rw [q3]; exact fun h => by cases h) (by rw [hsl]; exact k2_hasslot (q4 k hkN)) h6.1 (by rw [q2, q3]; exact h6.2) rfl rfl d ?_
      rw [hsl]
      refine done _ ?_ ?_ ?_
      · simp [Array.getElem?_setIfInBounds, ha]
      · simp
      · intro q hq
        simp [Array.getElem?_setIfInBounds, Ne.symm hq]
theorem x_pF {a index k : Nat} {cs : List Nat} {v : Value} {fty : FieldType} {fin : Bool} {Kc : PH → Option RH} (fi : FI own index cs k fty fin true) (hfin : fin = true → ini = true) (hv : okV fty v) (d : decode cc pc = .ok (.putfield index, 3)) (kk : ∀ h', Sim (own, cc, nL, lev, ret, hh, ini) h' (pc + 3) lv st (Kc h')) : Sim (own, cc, nL, lev, ret, hh, ini) h pc lv (v :: .ref a :: st) (pF h a cs k v Kc) := Sim.use fun z e => by
  obtain ⟨c, fs, h1, h2, h3⟩ := oC_some e
  by_cases hk : k < fs.length
  · have : pF h a cs k v Kc = Kc (hset h a (.inr (c, fs.set k v))) := by simp only [pF, oC, h1, h2, if_true, hk]
    rw [this]
    exact put_core fi hfin hv d h1 h2 hk (kk _)
  · rw [if_neg hk] at h3; cases h3
theorem x_pI {a index k : Nat} {cs : List Nat} {v : Int32} {fin : Bool} {Kc : PH → Option RH} (fi : FI own index cs k .int fin true) (hfin : fin = true → ini = true) (d : decode cc pc = .ok (.putfield index, 3)) (kk : ∀ h', Sim (own, cc, nL, lev, ret, hh, ini) h' (pc + 3) lv st (Kc h')) : Sim (own, cc, nL, lev, ret, hh, ini) h pc lv (.int v :: .ref a :: st) (pI h a cs k v Kc) := x_pF fi hfin (okV_int v) d kk
theorem x_pL {a index k : Nat} {cs : List Nat} {v : Int64} {fin : Bool} {Kc : PH → Option RH} (fi : FI own index cs k .long fin true) (hfin : fin = true → ini = true) (d : decode cc pc = .ok (.putfield index, 3)) (kk : ∀ h', Sim (own, cc, nL, lev, ret, hh, ini) h' (pc + 3) lv st (Kc h')) : Sim (own, cc, nL, lev, ret, hh, ini) h pc lv (.long v :: .ref a :: st) (pL h a cs k v Kc) := x_pF fi hfin (okV_long v) d kk
theorem x_pZ {a index k : Nat} {cs : List Nat} {v : Int32} {fin : Bool} {Kc : PH → Option RH} (fi : FI own index cs k .boolean fin true) (hfin : fin = true → ini = true) (d : decode cc pc = .ok (.putfield index, 3)) (kk : ∀ h', Sim (own, cc, nL, lev, ret, hh, ini) h' (pc + 3) lv st (Kc h')) : Sim (own, cc, nL, lev, ret, hh, ini) h pc lv (.int v :: .ref a :: st) (pZ h a cs k v Kc) := by
  unfold pZ
  by_cases hv : v = 0 ∨ v = 1
  · rw [if_pos hv]; exact x_pF fi hfin (okV_bool hv) d kk
  · rw [if_neg hv]; exact Sim.none
theorem x_pQ {a index k : Nat} {cs : List Nat} {C : String} {v : Option Nat} {fin : Bool} {Kc : PH → Option RH} (fi : FI own index cs k (.object C) fin true) (hfin : fin = true → ini = true) (d : decode cc pc = .ok (.putfield index, 3)) (kk : ∀ h', Sim (own, cc, nL, lev, ret, hh, ini) h' (pc + 3) lv st (Kc h')) : Sim (own, cc, nL, lev, ret, hh, ini) h pc lv (va_rf v :: .ref a :: st) (pQ h a cs k v Kc) := x_pF fi hfin (okV_obj C v) d kk
theorem x_pQA {a index k : Nat} {cs : List Nat} {t : FieldType} {v : Option Nat} {fin : Bool} {Kc : PH → Option RH} (fi : FI own index cs k (.array t) fin true) (hfin : fin = true → ini = true) (d : decode cc pc = .ok (.putfield index, 3)) (kk : ∀ h', Sim (own, cc, nL, lev, ret, hh, ini) h' (pc + 3) lv st (Kc h')) : Sim (own, cc, nL, lev, ret, hh, ini) h pc lv (va_rf v :: .ref a :: st) (pQ h a cs k v Kc) := x_pF fi hfin (okV_arr t v) d kk
end
