/-! ROWS: text constants, statics, floats; String.length, String.charAt -/
set_option maxRecDepth 100000
theorem str_at {G : GG} {h : PH} {H : Heap} {a i : Nat} {fs : List Value} (hR : Rep G h H) (hc : h.1 a = some (.inr (100 + i, fs))) : a = G.2.2.1 i := by
  have hk := hR.2.2 a _ hc
  unfold cOk at hk
  dsimp only at hk
  rw [if_pos (Nat.le_add_right 100 i)] at hk
  have h2 := hk.2
  rw [Nat.add_sub_cancel_left 100 i] at h2
  exact h2
def gS {β : Type} (h : PH) (a : Nat) (K : Nat → Option β) : Option β := match h.1 a with
  | some (.inr o) => if 100 ≤ o.1 ∧ o.1 < 123 then K (o.1 - 100) else none
  | _ => none
theorem gS_some {β : Type} {h : PH} {a : Nat} {K : Nat → Option β} {z : β} (e : gS h a K = some z) : ∃ i fs, i < 23 ∧ h.1 a = some (.inr (100 + i, fs)) ∧ K i = some z := by
  unfold gS at e
  split at e
  · rename_i o ho
    split at e
    · rename_i hc
      obtain ⟨c, fs⟩ := o
      refine ⟨c - 100, fs, by have := hc.2; dsimp only at this; omega, ?_, e⟩
      rw [ho]
      have : 100 + (c - 100) = c := by have := hc.1; dsimp only at this; omega
      rw [this]
    · cases e
  · cases e
def tLen (i : Nat) : Int32 := Int32.ofNat (strLen.getD i 0)
def tCh (i : Nat) (x : Int32) : Int32 := (strByt.getD i []).getD x.toNatClampNeg 0
section
variable {own : String} {cc : ByteArray} {nL lev : Nat} {ret : Option FieldType} {hh : List (Nat × Nat × Nat × Nat)} {ini : Bool}
variable {h : PH} {pc : Nat} {lv : List (Nat × Value)} {st : List Value} {P P1 P2 : Option RH}
theorem x_ldcS {index k : Nat} {tx : String} (hm : (own, index, tx, k) ∈ strTab) (d : decode cc pc = .ok (.ldc index, 2)) (kk : Sim (own, cc, nL, lev, ret, hh, ini) h (pc + 2) lv (.ref (h.2.2 k) :: st) P) : Sim (own, cc, nL, lev, ret, hh, ini) h pc lv st P := by
  refine ⟨kk.1, fun p l e R s m args below meth c G h0 r h1 K hP hle H locs ls hR hS hl => ?_⟩
  have k2 := kk.2 p l e R s m args below meth c G h0 r h1 K hP hle H locs ls hR hS hl
  obtain ⟨hx, hb, hml, ho, hts, hlk, hret, hKK, hCK, hbs, -⟩ := K
  rw [hR.2.1] at k2
  exact va_ldcS hx hb ho (hKK.2.2.2.2.2.1 _ hm) d k2
/-- a static of a library class -/
theorem x_gst {index : Nat} {C n d0 : String} {v : Value} (hz : ∀ (G : GG) (s : State) (H : Heap), h.2.2 = G.2.2.1 → CK G s H → va_Z C n d0 v (GA G) s H) (hl1 : Cond.fieldLink own index C n d0 ∈ lw_all) (d : decode cc pc = .ok (.getstatic index, 3)) (kk : Sim (own, cc, nL, lev, ret, hh, ini) h (pc + 3) lv (v :: st) P) : Sim (own, cc, nL, lev, ret, hh, ini) h pc lv st P := by
  refine ⟨kk.1, fun p l e R s m args below meth c G h0 r h1 K hP hle H locs ls hR hS hl => ?_⟩
  have k2 := kk.2 p l e R s m args below meth c G h0 r h1 K hP hle H locs ls hR hS hl
  obtain ⟨hx, hb, hml, ho, hts, hlk, hret, hKK, hCK, hbs, -⟩ := K
  exact va_gets hx hb (hz G s _ hR.2.1 hCK) hS ho (hts _ hl1) (fun x hx => hx) d k2
theorem z_cs (G : GG) (s : State) (H : Heap) (_ : h.2.2 = G.2.2.1) (hc : CK G s H) : va_Z "java/lang/String" "COMPACT_STRINGS" "Z" (.int 1) (GA G) s H := hc.2.2.2.1
theorem z_fm (G : GG) (s : State) (H : Heap) (e : h.2.2 = G.2.2.1) (hc : CK G s H) : va_Z "jdk/internal/util/Preconditions" "SIOOBE_FORMATTER" "Ljava/util/function/BiFunction;" (va_rf (zO (h.2.2 202))) (GA G) s H := by rw [e]; exact hc.2.2.2.2.1
theorem z_us (G : GG) (s : State) (H : Heap) (e : h.2.2 = G.2.2.1) (hc : CK G s H) : va_Z "java/lang/Throwable" "UNASSIGNED_STACK" "[Ljava/lang/StackTraceElement;" (va_rf (zO (h.2.2 200))) (GA G) s H := by rw [e]; exact hc.2.2.2.2.2.1
theorem z_ss (G : GG) (s : State) (H : Heap) (e : h.2.2 = G.2.2.1) (hc : CK G s H) : va_Z "java/lang/Throwable" "SUPPRESSED_SENTINEL" "Ljava/util/List;" (va_rf (zO (h.2.2 201))) (GA G) s H := by rw [e]; exact hc.2.2.2.2.2.2.1
theorem x_strV {a i index : Nat} {fs : List Value} (hc : h.1 a = some (.inr (100 + i, fs))) (hi : i < 23) (hl1 : Cond.fieldLink own index "java/lang/String" "value" "[B" ∈ lw_all) (d : decode cc pc = .ok (.getfield index, 3)) (kk : Sim (own, cc, nL, lev, ret, hh, ini) h (pc + 3) lv (.ref (h.2.2 (100 + i)) :: st) P) : Sim (own, cc, nL, lev, ret, hh, ini) h pc lv (.ref a :: st) P := by
  refine ⟨kk.1, fun p l e R s m args below meth c G h0 r h1 K hP hle H locs ls hR hS hl => ?_⟩
  have k2 := kk.2 p l e R s m args below meth c G h0 r h1 K hP hle H locs ls hR hS hl
  obtain ⟨hx, hb, hml, ho, hts, hlk, hret, hKK, hCK, hbs, -⟩ := K
  rw [hR.2.1] at k2
  rw [str_at hR hc]
  exact vk_getf hx hb (hCK.1.1 i hi).2.2.1 hS ho (hts _ hl1) (fun x hx => hx) d k2
theorem x_strC {a i index : Nat} {fs : List Value} (hc : h.1 a = some (.inr (100 + i, fs))) (hi : i < 23) (hl1 : Cond.fieldLink own index "java/lang/String" "code\x72" "B" ∈ lw_all) (d : decode cc pc = .ok (.getfield index, 3)) (kk : Sim (own, cc, nL, lev, ret, hh, ini) h (pc + 3) lv (.int 0 :: st) P) : Sim (own, cc, nL, lev, ret, hh, ini) h pc lv (.ref a :: st) P := by
  refine ⟨kk.1, fun p l e R s m args below meth c G h0 r h1 K hP hle H locs ls hR hS hl => ?_⟩
  have k2 := kk.2 p l e R s m args below meth c G h0 r h1 K hP hle H locs ls hR hS hl
  obtain ⟨hx, hb, hml, ho, hts, hlk, hret, hKK, hCK, hbs, -⟩ := K
  rw [str_at hR hc]
  exact vk_getf hx hb (hCK.1.1 i hi).2.1 hS ho (hts _ hl1) (fun x hx => hx) d k2
theorem x_strL {i : Nat} (hi : i < 23) (d : decode cc pc = .ok (.arraylength, 1)) (kk : Sim (own, cc, nL, lev, ret, hh, ini) h (pc + 1) lv (.int (tLen i) :: st) P) : Sim (own, cc, nL, lev, ret, hh, ini) h pc lv (.ref (h.2.2 (100 + i)) :: st) P := by
  refine ⟨kk.1, fun p l e R s m args below meth c G h0 r h1 K hP hle H locs ls hR hS hl => ?_⟩
  have k2 := kk.2 p l e R s m args below meth c G h0 r h1 K hP hle H locs ls hR hS hl
  obtain ⟨hx, hb, hml, ho, hts, hlk, hret, hKK, hCK, hbs, -⟩ := K
  rw [hR.2.1]
  exact va_tlen hx hb (hCK.1.1 i hi).2.2.2 hS rfl d k2
theorem x_strB {i : Nat} {x : Int32} (hi : i < 23) (hin : vp_in x (strLen.getD i 0)) (d : decode cc pc = .ok (.baload, 1)) (kk : Sim (own, cc, nL, lev, ret, hh, ini) h (pc + 1) lv (.int (tCh i x) :: st) P) : Sim (own, cc, nL, lev, ret, hh, ini) h pc lv (.int x :: .ref (h.2.2 (100 + i)) :: st) P := by
  refine ⟨kk.1, fun p l e R s m args below meth c G h0 r h1 K hP hle H locs ls hR hS hl => ?_⟩
  have k2 := kk.2 p l e R s m args below meth c G h0 r h1 K hP hle H locs ls hR hS hl
  obtain ⟨hx, hb, hml, ho, hts, hlk, hret, hKK, hCK, hbs, -⟩ := K
  rw [hR.2.1]
  exact va_tb hx hb (hCK.1.1 i hi).2.2.2 hS hin rfl d k2
theorem x_nret {v : Int32} {ty : FieldType} (hn : narrow ty (.int v) = .int v) (d : decode cc pc = .ok (.ireturn, 1)) : Sim (own, cc, nL, lev, some ty, hh, ini) h pc lv [.int v] (rI v h) := by
  refine ⟨mono_some, fun p l e R s m args below meth c G h0 r h1 K hP hle H locs ls hR hS hl => ?_⟩
  obtain ⟨hx, hb, hml, ho, hts, hlk, hret, hKK, hCK, hbs, -⟩ := K
  obtain ⟨rfl, rfl⟩ := some_rt hP
  exact vx_ret (W.zret hx hb hret hn (qn_of hKK hCK hbs hR hS) hS.2.2 d hlk)
theorem x_i2c {x v : Int32} (hv : (x.toUInt32 % 65536).toInt32 = v) (d : decode cc pc = .ok (.i2c, 1)) (k : Sim (own, cc, nL, lev, ret, hh, ini) h (pc + 1) lv (.int v :: st) P) : Sim (own, cc, nL, lev, ret, hh, ini) h pc lv (.int x :: st) P := Sim.one k (fun hx hb ho hts hl w => lv_i2c hx hb d hv w)
theorem x_fcmp {x y : UInt32} {op : CmpOp} (d : decode cc pc = .ok (.fcmp op, 1)) (k : Sim (own, cc, nL, lev, ret, hh, ini) h (pc + 1) lv (.int (Op.cmpValue (FP.fcmp x y) op) :: st) P) : Sim (own, cc, nL, lev, ret, hh, ini) h pc lv (.float y :: .float x :: st) P := Sim.one k (fun hx hb ho hts hl w => lv_fcmp hx hb d w)
theorem x_dcmp {x y : UInt64} {op : CmpOp} (d : decode cc pc = .ok (.dcmp op, 1)) (k : Sim (own, cc, nL, lev, ret, hh, ini) h (pc + 1) lv (.int (Op.cmpValue (FP.dcmp x y) op) :: st) P) : Sim (own, cc, nL, lev, ret, hh, ini) h pc lv (.double y :: .double x :: st) P := Sim.one k (fun hx hb ho hts hl w => lv_dcmp hx hb d w)
theorem x_f2i {index : Nat} {b : UInt32} (hl1 : Cond.methodLink own index ⟨"java/lang/Float", "floatToRawIntBits", "(F)I"⟩ ∈ lw_all) (hlv : 1 ≤ lev) (hs : (st.map fun v => v.category).sum ≤ 8) (d : decode cc pc = .ok (.invokestatic index, 3)) (kk : Sim (own, cc, nL, lev, ret, hh, ini) h (pc + 3) lv (.int b.toInt32 :: st) P) : Sim (own, cc, nL, lev, ret, hh, ini) h pc lv (.float b :: st) P := by
  refine ⟨kk.1, fun p l e R s m args below meth c G h0 r h1 K hP hle H locs ls hR hS hl => ?_⟩
  have k2 := kk.2 p l e R s m args below meth c G h0 r h1 K hP hle H locs ls hR hS hl
  obtain ⟨hx, hb, hml, ho, hts, hlk, hret, hKK, hCK, hbs, hRm, -⟩ := K
  exact vn_f2i hx hb hl.1.symm ho (hts _ hl1) (hts _ q1637) (hts _ q1636) (hts _ q135) (by rw [hRm]; exact hlv) (by rw [hRm]; show _ ≤ 128 * lev; omega) d k2
theorem x_d2l {index : Nat} {b : UInt64} (hl1 : Cond.methodLink own index ⟨"java/lang/Double", "doubleToRawLongBits", "(D)J"⟩ ∈ lw_all) (hlv : 1 ≤ lev) (hs : (st.map fun v => v.category).sum ≤ 8) (d : decode cc pc = .ok (.invokestatic index, 3)) (kk : Sim (own, cc, nL, lev, ret, hh, ini) h (pc + 3) lv (.long b.toInt64 :: st) P) : Sim (own, cc, nL, lev, ret, hh, ini) h pc lv (.double b :: st) P := by
  refine ⟨kk.1, fun p l e R s m args below meth c G h0 r h1 K hP hle H locs ls hR hS hl => ?_⟩
  have k2 := kk.2 p l e R s m args below meth c G h0 r h1 K hP hle H locs ls hR hS hl
  obtain ⟨hx, hb, hml, ho, hts, hlk, hret, hKK, hCK, hbs, hRm, -⟩ := K
  exact vn_d2l hx hb hl.1.symm ho (hts _ hl1) (hts _ q1662) (hts _ q1661) (hts _ q136) (by rw [hRm]; exact hlv) (by rw [hRm]; show _ ≤ 128 * lev; omega) d k2
/-- a call of a text constant's method -/
def SiT (own : String) (index : Nat) (y : MethodName) (bytes : ByteArray) (maxL : Nat) (rt : Option FieldType) (n : Nat) : Prop := GoodIn lw_all (wsV own index "java/lang/String" y (ws_ y bytes maxL rt)) ∧ (y.cls = "java/lang/String" ∧ y.cls ≠ "java/lang/invoke/MethodHandle" ∧ y.cls ≠ "java/lang/invoke/VarHandle" ∧ (parseMethodDescriptor y.desc).map (fun d => d.parameters.length) = some n) ∧ maxL ≤ 100
theorem x_callT {index maxL lev' n b : Nat} {y : MethodName} {bytes : ByteArray} {rt : Option FieldType} {As rest st0 : List Value} {P0 : Option RH} {Kn : Option Value → PH → Option RH} {E : Nat × Nat → PH → Option RH} (si : SiT own index y bytes maxL rt n) (hM : MM y (ws_ y bytes maxL rt) lev' (.ref b :: As) h P0) (hg : ∀ z, P0 = some z → ∃ i fs, i < 23 ∧ h.1 b = some (.inr (100 + i, fs))) (hst : st0 = As.reverse ++ .ref b :: rest) (hn : As.length = n) (hlv : lev' + 1 ≤ lev) (hr : (rest.map fun v => v.category).sum ≤ 8) (d : decode cc pc = .ok (.invokevirtual index, 3))
    (kn : ∀ v h2, P0 = some (.inl v, h2) → Sim (own, cc, nL, lev, ret, hh, ini) h2 (pc + 3) lv (v.toList ++ rest) (Kn v h2)) (kx : ∀ q k h2, P0 = some (.inr (q, k), h2) → SimX (own, cc, nL, lev, ret, hh, ini) h2 pc lv q k (E (q, k) h2)) : Sim (own, cc, nL, lev, ret, hh, ini) h pc lv st0 (hB P0 Kn E) := by
  refine Sim.call hM.1 (fun p l e R s m args below meth c0 G h0 h1 rr h2 K hP hle hle2 H locs ls hR hS hl => ?_) kn kx
  obtain ⟨hx, hb, hml, ho, hts, hlk, hret, hKK, hCK, hbs, hRm, hfl, htab, -⟩ := K
  obtain ⟨le2, hMet⟩ := hM.2 l G hfl rr h2 hP
  obtain ⟨i, fs, hi, hfs⟩ := hg _ hP
  obtain ⟨s1, s2, s3⟩ := si
  have := hle.1; have := hle.2.1; have := hle2.1; have := hle2.2.1; have := le2.1; have := le2.2.1
  exact ⟨_, vx_runV ⟨hx, hb, hml, ho, hts⟩ hMet (cwV n hts s1 rfl rfl rfl s2 (room_lv hRm hlv s3)) ⟨blind, by rw [str_at hR hfs]; exact vk_recv hCK.1 hi hS, fun U hU hW => ⟨rfl, KK.warm hW hKK, by rw [hU]; exact (CK.moved hW.alike hCK).kept hS.2.1, by rw [hU]; exact Nat.le_trans hbs hS.1, by rw [hU]; exact hR⟩⟩ rfl hn (by rw [← hml]; exact hl.1) hst (lv_room hr) d ⟨by rw [hRm]; show _ ≤ h1.2.1.1 - h0.2.1.1; omega, by rw [hRm]; show _ ≤ h1.2.1.2 - h0.2.1.2; omega⟩⟩
end
/-- a body's contract, the class one whose natives the machine has (Float) -/
theorem vx_ofWF {l : Launch} {y : MethodName} {ws ws' : List Cond} {rm : Room} {Pc : Array Value → State → Prop} {Qc : Array Value → State → Outcome → State → Prop} {XC : Addr → String → State → State → Prop} {mc ms : Nat} {free : Addr → Prop} {cc : ByteArray} {maxL : Nat} {ret : Option FieldType}
    (hy : plainFor y = true) (hw : ws = Cond.code y cc maxL ret :: ws')
    (body : ∀ p e s m args below meth c s₁, BodyLoose p l y (headSpec ws rm) cc maxL ret e s m args below meth c s₁ → c.maxLocals = maxL → (∀ x ∈ c.exceptionTable.toList, False) → Pc args s →
      W p l e (headSpec ws rm).room s m args below meth c s.heap [] 0 0 (vx_MQ below Qc XC args s mc ms free) (entryFrame m args maxL)) : vx_Met l y ws rm Pc Qc XC mc ms free := by
  refine MetFree.of_bodySF (code := cc) (maxLocals := maxL) (ret := ret) hy ?_ ?_
  · intro args s m h hn
    obtain ⟨meth, c, h1, h2, h3, h4, h5, h6, -, -⟩ := Cond.code_spec hn (atoms_spec (ws := ws) h _ (by rw [hw]; exact List.mem_cons_self))
    exact ⟨meth, c, h1, h2, h3, h4, h5, h6⟩
  · intro p e s m args below meth c s₁ B hml hP _
    have hh0 : s₁.heap = s.heap := by rw [B.state]; rfl
    have ht : ∀ x ∈ c.exceptionTable.toList, False := by
      obtain ⟨meth9, c9, h1, h2, -, -, -, -, h7, -⟩ := Cond.code_spec B.named (atoms_spec (ws := ws) B.pre _ (by rw [hw]; exact List.mem_cons_self))
      cases Option.some.inj (h1.symm.trans B.method)
      cases Option.some.inj (h2.symm.trans (Stand.of_body B).code)
      intro x hx
      rw [Array.isEmpty_iff.mp h7] at hx
      cases hx
    obtain ⟨t, a1, o, b1, b2, b3⟩ := body p e s m args below meth c s₁ B hml ht hP s₁ hh0 (Stand.of_body B)
    exact ⟨t, o, a1, b1, b2, b3⟩
theorem MM.ofF {y : MethodName} {own : String} {cc : ByteArray} {maxL lev : Nat} {rt : Option FieldType} {av : List Value} {h : PH} {P : Option RH} {ini : Bool} (hy : plainFor y = true) (hown : y.cls = own) (hini : ini = true → y.name = "<init>") (hsl : (lg_sl av).length ≤ maxL) (body : Sim (own, cc, maxL, lev, rt, [], ini) h 0 (lv_args 0 av) [] P) : MM y (ws_ y cc maxL rt) lev av h P := ⟨body.1, fun l G => by
  subst hown
  intro hfl r h1 hP
  have hle := body.1 r h1 hP
  refine ⟨hle, ?_⟩
  refine vx_ofWF (cc := cc) (maxL := maxL) (ret := rt) hy rfl ?_
  intro p e s m args below meth c s₁ B hml htab hv
  obtain ⟨rfl, hKK, hCK, hbs, hR⟩ := hv
  have hts := atoms_spec (ws := ws_ y cc maxL rt) B.pre
  have hts' : ∀ w ∈ lw_all, w.before _ s = true := fun w h => hts w (List.mem_cons_of_mem _ h)
  have hl := lv_entry av (n := maxL) hsl
  rw [lg_entry_eq]
  have hk : Kx (y.cls, cc, maxL, lev, rt, [], ini) p l (rmL lev (h1.2.1.1 - h.2.1.1) (h1.2.1.2 - h.2.1.2)) s m av.toArray meth c G h h1 := ⟨B.exec, B.bytes, hml, findClass_of_methodNamed B.named, hts', B.notSynchronized, B.returns, hKK, hCK, hbs, rfl, hfl, by
    cases hz : c.exceptionTable.toList with
    | nil => rfl
    | cons a b => exact absurd (List.mem_cons_self) (fun h9 => htab a (by rw [hz]; exact h9)), fun hi => ((name_of_methodNamed B.named B.method).1).trans (hini hi)⟩
  have k := body.2 p l e _ s m av.toArray below meth c G h r h1 hk hP (LeH.rf h) s.heap [] _ hR va_S.rf (by rw [hml]; exact hl)
  rw [Nat.sub_self, Nat.sub_self] at k
  exact k⟩
/-! the walks of the library's string methods -/
theorem str_ok : ((List.range 23).all fun i => (List.range (strLen.getD i 0)).all fun j => decide ((((((strByt.getD i []).getD j 0) &&& 255).toUInt32 % 65536).toInt32 = (strByt.getD i []).getD j 0) ∧ narrow .char (.int ((strByt.getD i []).getD j 0)) = .int ((strByt.getD i []).getD j 0))) = true := by decide +kernel
theorem tCh_ok {i : Nat} {x : Int32} (hi : i < 23) (hin : vp_in x (strLen.getD i 0)) : (((tCh i x &&& 255).toUInt32 % 65536).toInt32 = tCh i x) ∧ narrow .char (.int (tCh i x)) = .int (tCh i x) := by
  have hlt : x.toNatClampNeg < strLen.getD i 0 := Nat.not_le.mp fun q => hin (Or.inr q)
  have h1 := List.all_eq_true.mp str_ok i (List.mem_range.mpr hi)
  have h2 := List.all_eq_true.mp h1 _ (List.mem_range.mpr hlt)
  exact of_decide_eq_true h2
def c_J4_checkIndex (h : PH) (x n : Int32) (_ : Option Nat) : Option RH := if x < 0 then none else if x < n then rI x h else none
theorem m_J4_checkIndex (h : PH) (x n : Int32) (f : Option Nat) : MM yJ4_checkIndex (ws_ yJ4_checkIndex cJ4_checkIndex 3 (some .int)) 1 [.int x, .int n, va_rf f] h (c_J4_checkIndex h x n f) := by
  refine MM.of (by decide) rfl (by decide) (by cases f <;> exact Nat.le_of_ble_eq_true rfl) (own := RJ4) (cc := cJ4_checkIndex) (maxL := 3) (lev := 1) (rt := (some .int)) (ini := false) ?_
  show Sim _ h 0 [(0, .int x), (1, .int n), (2, va_rf f)] [] _
  unfold c_J4_checkIndex
  refine x_iload_n (pc := 0) (v := x) 0 rfl rfl dJ4_checkIndex_0 ?_
  refine x_if_lt (pc := 1) 9 (by decide) dJ4_checkIndex_1 Sim.none ?_
  refine x_iload_n (pc := 4) (v := x) 0 rfl rfl dJ4_checkIndex_4 ?_
  refine x_iload_n (pc := 5) (v := n) 1 rfl rfl dJ4_checkIndex_5 ?_
  refine x_icmp_lt (pc := 6) 16 (by decide) dJ4_checkIndex_6 ?_ Sim.none
  refine x_iload_n (pc := 16) (v := x) 0 rfl rfl dJ4_checkIndex_16 ?_
  exact x_iret (pc := 17) dJ4_checkIndex_17
theorem si_J2_1059 : SiS RJ2 1059 yJ4_checkIndex cJ4_checkIndex 3 (some .int) 3 := ⟨lw_S q662 q663 q124 q664, ⟨by decide, by decide, by decide +kernel⟩, by decide⟩
def c_J2_checkIndex (h : PH) (x n : Int32) : Option RH := if x < 0 then none else if x < n then rV h else none
theorem m_J2_checkIndex (h : PH) (x n : Int32) : MM yJ2_checkIndex (ws_ yJ2_checkIndex cJ2_checkIndex 2 none) 2 [.int x, .int n] h (c_J2_checkIndex h x n) := by
  refine MM.of (by decide) rfl (by decide) (Nat.le_of_ble_eq_true rfl) (own := RJ2) (cc := cJ2_checkIndex) (maxL := 2) (lev := 2) (rt := none) (ini := false) ?_
  show Sim _ h 0 [(0, .int x), (1, .int n)] [] _
  have e : c_J2_checkIndex h x n = hI (c_J4_checkIndex h x n (zO (h.2.2 202))) noX (fun _ h2 => rV h2) := by
    unfold c_J2_checkIndex c_J4_checkIndex
    by_cases h1 : x < 0
    · rw [if_pos h1, if_pos h1]; rfl
    · rw [if_neg h1, if_neg h1]
      by_cases h2 : x < n
      · rw [if_pos h2, if_pos h2]; rfl
      · rw [if_neg h2, if_neg h2]; rfl
  rw [e]
  refine x_iload_n (pc := 0) (v := x) 0 rfl rfl dJ2_checkIndex_0 ?_
  refine x_iload_n (pc := 1) (v := n) 1 rfl rfl dJ2_checkIndex_1 ?_
  refine x_gst (pc := 2) z_fm q660 dJ2_checkIndex_2 ?_
  refine x_callS (pc := 5) (As := [.int x, .int n, va_rf (zO (h.2.2 202))]) (rest := []) (lev' := 1) si_J2_1059 (m_J4_checkIndex h x n _) rfl rfl (by decide) (by decide) dJ2_checkIndex_5 (kI (fun i h2 => ?_)) xNo
  refine x_pop (pc := 8) rfl dJ2_checkIndex_8 ?_
  exact x_vret (pc := 9) dJ2_checkIndex_9
def c_J3_charAt (h : PH) (i : Nat) (x : Int32) : Option RH := if x < 0 ∨ strLen.getD i 0 ≤ x.toNatClampNeg then none else rI (tCh i x) h
theorem tLen_lt : ∀ i, i < 23 → ∀ x : Int32, ¬ (x < 0 ∨ strLen.getD i 0 ≤ x.toNatClampNeg) → x < tLen i := by
  intro i hi x hx
  have hb : strLen.getD i 0 < 8 := by
    have : ((List.range 23).all fun i => decide (strLen.getD i 0 < 8)) = true := by decide
    exact of_decide_eq_true (List.all_eq_true.mp this i (List.mem_range.mpr hi))
  have h1 : ¬ x < 0 := fun q => hx (Or.inl q)
  have h2 : x.toNatClampNeg < strLen.getD i 0 := Nat.not_le.mp fun q => hx (Or.inr q)
  have h0 : (0 : Int) ≤ x.toInt := by
    have := Int32.not_lt.mp h1
    simpa using Int32.le_iff_toInt_le.mp this
  rw [Int32.lt_iff_toInt_lt]
  have h3 : (tLen i).toInt = ((strLen.getD i 0 : Nat) : Int) := by
    unfold tLen
    rw [Int32.toInt_ofNat_of_lt (by omega)]
  rw [h3]
  have h4 : x.toNatClampNeg = x.toInt.toNat := rfl
  omega
theorem si_J3_9 : SiS RJ3 9 yJ2_checkIndex cJ2_checkIndex 2 none 2 := ⟨lw_S q657 q658 q122 q659, ⟨by decide, by decide, by decide +kernel⟩, by decide⟩
theorem m_J3_charAt (h : PH) (i : Nat) (hi : i < 23) (x : Int32) : MM yJ3_charAt (ws_ yJ3_charAt cJ3_charAt 2 (some .char)) 3 [.ref (h.2.2 (100 + i)), .int x] h (c_J3_charAt h i x) := by
  refine MM.of (by decide) rfl (by decide) (Nat.le_of_ble_eq_true rfl) (own := RJ3) (cc := cJ3_charAt) (maxL := 2) (lev := 3) (rt := (some .char)) (ini := false) ?_
  show Sim _ h 0 [(0, .ref (h.2.2 (100 + i))), (1, .int x)] [] _
  unfold c_J3_charAt
  by_cases hx : x < 0 ∨ strLen.getD i 0 ≤ x.toNatClampNeg
  · rw [if_pos hx]; exact Sim.none
  · rw [if_neg hx]
    have hp : c_J2_checkIndex h x (tLen i) = rV h := by
      unfold c_J2_checkIndex
      rw [if_neg (fun q => hx (Or.inl q)), if_pos (tLen_lt i hi x hx)]
    refine x_iload_n (pc := 0) (v := x) 1 rfl rfl dJ3_charAt_0 ?_
    refine x_aload_nR (pc := 1) (a := h.2.2 (100 + i)) 0 rfl rfl dJ3_charAt_1 ?_
    refine x_strL (pc := 2) hi dJ3_charAt_2 ?_
    refine Sim.eq (P' := hB (c_J2_checkIndex h x (tLen i)) (fun _ _ => rI (tCh i x) h) noX) (by rw [hp]; rfl) ?_
    refine x_callS (pc := 3) (As := [.int x, .int (tLen i)]) (rest := []) (lev' := 2) si_J3_9 (m_J2_checkIndex h x (tLen i)) rfl rfl (by decide) (by decide) dJ3_charAt_3 (fun v h2 e => ?_) xNo
    rw [hp] at e
    cases e
    refine x_aload_nR (pc := 6) (a := h.2.2 (100 + i)) 0 rfl rfl dJ3_charAt_6 ?_
    refine x_iload_n (pc := 7) (v := x) 1 rfl rfl dJ3_charAt_7 ?_
    refine x_strB (pc := 8) hi hx dJ3_charAt_8 ?_
    refine x_sipush (pc := 9) (v := 255) (by decide) dJ3_charAt_9 ?_
    refine x_iand (pc := 12) dJ3_charAt_12 ?_
    refine x_i2c (pc := 13) (tCh_ok hi hx).1 dJ3_charAt_13 ?_
    exact x_nret (pc := 14) (tCh_ok hi hx).2 dJ3_charAt_14
theorem m_J2_coder (h : PH) (a i : Nat) (fs : List Value) (hi : i < 23) (hc : h.1 a = some (.inr (100 + i, fs))) : MM yJ2_coder (ws_ yJ2_coder cJ2_coder 1 (some .byte)) 1 [.ref a] h (rI 0 h) := by
  refine MM.of (by decide) rfl (by decide) (Nat.le_of_ble_eq_true rfl) (own := RJ2) (cc := cJ2_coder) (maxL := 1) (lev := 1) (rt := (some .byte)) (ini := false) ?_
  show Sim _ h 0 [(0, .ref a)] [] _
  refine x_gst (pc := 0) z_cs q644 dJ2_coder_0 ?_
  refine x_if_eqF (pc := 3) 13 (by decide) (by decide) dJ2_coder_3 ?_
  refine x_aload_nR (pc := 6) (a := a) 0 rfl rfl dJ2_coder_6 ?_
  refine x_strC (pc := 7) hc hi q2349 dJ2_coder_7 ?_
  refine x_goto (pc := 10) 14 (by decide) dJ2_coder_10 ?_
  exact x_nret (pc := 14) rfl dJ2_coder_14
theorem m_J2_isLatin1 (h : PH) (a i : Nat) (fs : List Value) (hi : i < 23) (hc : h.1 a = some (.inr (100 + i, fs))) : MM yJ2_isLatin1 (ws_ yJ2_isLatin1 cJ2_isLatin1 1 (some .boolean)) 1 [.ref a] h (rI 1 h) := by
  refine MM.of (by decide) rfl (by decide) (Nat.le_of_ble_eq_true rfl) (own := RJ2) (cc := cJ2_isLatin1) (maxL := 1) (lev := 1) (rt := (some .boolean)) (ini := false) ?_
  show Sim _ h 0 [(0, .ref a)] [] _
  refine x_gst (pc := 0) z_cs q644 dJ2_isLatin1_0 ?_
  refine x_if_eqF (pc := 3) 17 (by decide) (by decide) dJ2_isLatin1_3 ?_
  refine x_aload_nR (pc := 6) (a := a) 0 rfl rfl dJ2_isLatin1_6 ?_
  refine x_strC (pc := 7) hc hi q2349 dJ2_isLatin1_7 ?_
  refine x_if_neF (pc := 10) 17 rfl (by decide) dJ2_isLatin1_10 ?_
  refine x_iconst (pc := 13) (v := 1) (by decide) dJ2_isLatin1_13 ?_
  refine x_goto (pc := 14) 18 (by decide) dJ2_isLatin1_14 ?_
  exact x_nret (pc := 18) rfl dJ2_isLatin1_18
def c_J2_length (h : PH) (a : Nat) : Option RH := gS h a fun i => rI (tLen i) h
def c_J2_charAt (h : PH) (a : Nat) (x : Int32) : Option RH := gS h a fun i => c_J3_charAt h i x
theorem si_J2_335 : SiT RJ2 335 yJ2_coder cJ2_coder 1 (some .byte) 0 := ⟨lw_V q640 q641 q642 q122 q643, ⟨rfl, by decide, by decide, by decide +kernel⟩, by decide⟩
theorem si_J2_492 : SiT RJ2 492 yJ2_isLatin1 cJ2_isLatin1 1 (some .boolean) 0 := ⟨lw_V q650 q651 q652 q122 q653, ⟨rfl, by decide, by decide, by decide +kernel⟩, by decide⟩
theorem si_J2_495 : SiS RJ2 495 yJ3_charAt cJ3_charAt 2 (some .char) 2 := ⟨lw_S q654 q655 q123 q656, ⟨by decide, by decide, by decide +kernel⟩, by decide⟩
theorem m_J2_length (h : PH) (a : Nat) : MM yJ2_length (ws_ yJ2_length cJ2_length 1 (some .int)) 2 [.ref a] h (c_J2_length h a) := by
  refine MM.of (by decide) rfl (by decide) (Nat.le_of_ble_eq_true rfl) (own := RJ2) (cc := cJ2_length) (maxL := 1) (lev := 2) (rt := (some .int)) (ini := false) ?_
  show Sim _ h 0 [(0, .ref a)] [] _
  refine Sim.use fun z ez => ?_
  obtain ⟨i, fs, hi, hc, e⟩ := gS_some ez
  have e9 : c_J2_length h a = rI (tLen i) h := ez.trans e.symm
  rw [e9]
  refine x_aload_nR (pc := 0) (a := a) 0 rfl rfl dJ2_length_0 ?_
  refine x_strV (pc := 1) hc hi q2348 dJ2_length_1 ?_
  refine x_strL (pc := 4) hi dJ2_length_4 ?_
  refine x_aload_nR (pc := 5) (a := a) 0 rfl rfl dJ2_length_5 ?_
  refine Sim.eq (P' := hB (rI 0 h) (fun _ _ => rI (tLen i) h) noX) rfl ?_
  refine x_callT (pc := 6) (As := []) (rest := [.int (tLen i)]) (lev' := 1) si_J2_335 (m_J2_coder h a i fs hi hc) (fun _ _ => ⟨i, fs, hi, hc⟩) rfl rfl (by decide) (Nat.le_of_ble_eq_true rfl) dJ2_length_6 (fun v h2 e => ?_) xNo
  cases e
  refine x_ishr (pc := 9) dJ2_length_9 ?_
  have e0 : tLen i >>> (0 &&& 31 : Int32) = tLen i := by
    rw [show (0 &&& 31 : Int32) = 0 by decide]
    simp
  rw [e0]
  exact x_iret (pc := 10) dJ2_length_10
theorem m_J2_charAt (h : PH) (a : Nat) (x : Int32) : MM yJ2_charAt (ws_ yJ2_charAt cJ2_charAt 2 (some .char)) 4 [.ref a, .int x] h (c_J2_charAt h a x) := by
  refine MM.of (by decide) rfl (by decide) (Nat.le_of_ble_eq_true rfl) (own := RJ2) (cc := cJ2_charAt) (maxL := 2) (lev := 4) (rt := (some .char)) (ini := false) ?_
  show Sim _ h 0 [(0, .ref a), (1, .int x)] [] _
  refine Sim.use fun z ez => ?_
  obtain ⟨i, fs, hi, hc, e⟩ := gS_some ez
  have e9 : c_J2_charAt h a x = c_J3_charAt h i x := ez.trans e.symm
  rw [e9]
  by_cases hx : x < 0 ∨ strLen.getD i 0 ≤ x.toNatClampNeg
  · rw [show c_J3_charAt h i x = none from if_pos hx]; exact Sim.none
  · have hp : c_J3_charAt h i x = rI (tCh i x) h := if_neg hx
    refine x_aload_nR (pc := 0) (a := a) 0 rfl rfl dJ2_charAt_0 ?_
    refine Sim.eq (P' := hB (rI 1 h) (fun _ _ => c_J3_charAt h i x) noX) rfl ?_
    refine x_callT (pc := 1) (As := []) (rest := []) (lev' := 1) si_J2_492 (m_J2_isLatin1 h a i fs hi hc) (fun _ _ => ⟨i, fs, hi, hc⟩) rfl rfl (by decide) (by decide) dJ2_charAt_1 (fun v h2 e => ?_) xNo
    cases e
    refine x_if_eqF (pc := 4) 16 (by decide) (by decide) dJ2_charAt_4 ?_
    refine x_aload_nR (pc := 7) (a := a) 0 rfl rfl dJ2_charAt_7 ?_
    refine x_strV (pc := 8) hc hi q2348 dJ2_charAt_8 ?_
    refine x_iload_n (pc := 11) (v := x) 1 rfl rfl dJ2_charAt_11 ?_
    refine Sim.eq (P' := hB (c_J3_charAt h i x) (fun _ _ => c_J3_charAt h i x) noX) (by rw [hp]; rfl) ?_
    refine x_callS (pc := 12) (As := [.ref (h.2.2 (100 + i)), .int x]) (rest := []) (lev' := 3) si_J2_495 (m_J3_charAt h i hi x) rfl rfl (by decide) (by decide) dJ2_charAt_12 (fun v h2 e => ?_) xNo
    rw [hp] at e ⊢
    cases e
    exact x_nret (pc := 15) (tCh_ok hi hx).2 dJ2_charAt_15
