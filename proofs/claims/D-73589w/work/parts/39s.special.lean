/-! ROWS: what the JDK does for us: Object's constructor, clone, arraycopy, fractions -/
set_option maxRecDepth 100000
section
variable {β : Type}
/-- a float that is a number; a double -/
def nnF (x : UInt32) (P : Option β) : Option β := if x &&& 0x7fffffff ≤ 0x7f800000 then P else none
def nnD (x : UInt64) (P : Option β) : Option β := if x &&& 0x7fffffffffffffff ≤ 0x7ff0000000000000 then P else none
/-- an array of ints, of longs, like another one -/
def clI (h : PH) (a : Nat) (K : Nat → PH → Option β) : Option β := aI h a 0 fun n f => K h.2.1.1 (hnew h n (.inl (0, n, .inl f)))
def clL (h : PH) (a : Nat) (K : Nat → PH → Option β) : Option β := aL h a fun n f => K h.2.1.1 (hnew h n (.inl (1, n, .inr (.inl f))))
end
section
variable {own : String} {cc : ByteArray} {nL lev : Nat} {ret : Option FieldType} {hh : List (Nat × Nat × Nat × Nat)} {ini : Bool}
variable {h : PH} {pc : Nat} {lv : List (Nat × Value)} {st : List Value} {P P1 P2 : Option RH}
theorem x_objInit {index a : Nat} (hl1 : Cond.methodLink own index Lib.objectInit ∈ lw_all) (hlv : 1 ≤ lev) (hs : (st.map fun v => v.category).sum ≤ 8) (d : decode cc pc = .ok (.invokespecial index, 3)) (k : Sim (own, cc, nL, lev, ret, hh, ini) h (pc + 3) lv st P) : Sim (own, cc, nL, lev, ret, hh, ini) h pc lv (.ref a :: st) P := by
  refine ⟨k.1, fun p l e R s m args below meth c G h0 r h1 K hP hle H locs ls hR hS hl => ?_⟩
  have k2 := k.2 p l e R s m args below meth c G h0 r h1 K hP hle H locs ls hR hS hl
  obtain ⟨hx, hb, hml, ho, hts, hlk, hret, hKK, hCK, hbs, hRm, -⟩ := K
  refine W.objInit hx hb ho (hts _ hl1) (hts _ q151) (hts _ q152) rfl hl.1 rfl d ?_ ?_ k2
  · rw [hRm]; exact hlv
  · rw [hRm]; show 2 * 0 + _ + 12 ≤ 128 * lev; omega
theorem x_fdiv {a b : UInt32} (d : decode cc pc = .ok (.fdiv, 1)) (k : Sim (own, cc, nL, lev, ret, hh, ini) h (pc + 1) lv (.float (FP.fdiv a b) :: st) P) : Sim (own, cc, nL, lev, ret, hh, ini) h pc lv (.float b :: .float a :: st) (nnF (FP.fdiv a b) P) := by
  unfold nnF
  by_cases hb0 : FP.fdiv a b &&& 0x7fffffff ≤ 0x7f800000
  · rw [if_pos hb0]; exact Sim.one k (fun hx hb ho hts hl w => lv_fdiv hx hb d hb0 w)
  · rw [if_neg hb0]; exact Sim.none
theorem x_ddiv {a b : UInt64} (d : decode cc pc = .ok (.ddiv, 1)) (k : Sim (own, cc, nL, lev, ret, hh, ini) h (pc + 1) lv (.double (FP.ddiv a b) :: st) P) : Sim (own, cc, nL, lev, ret, hh, ini) h pc lv (.double b :: .double a :: st) (nnD (FP.ddiv a b) P) := by
  unfold nnD
  by_cases hb0 : FP.ddiv a b &&& 0x7fffffffffffffff ≤ 0x7ff0000000000000
  · rw [if_pos hb0]; exact Sim.one k (fun hx hb ho hts hl w => lv_ddiv hx hb d hb0 w)
  · rw [if_neg hb0]; exact Sim.none
theorem x_dadd {a b : UInt64} (d : decode cc pc = .ok (.dadd, 1)) (k : Sim (own, cc, nL, lev, ret, hh, ini) h (pc + 1) lv (.double (FP.dadd a b) :: st) P) : Sim (own, cc, nL, lev, ret, hh, ini) h pc lv (.double b :: .double a :: st) (nnD (FP.dadd a b) P) := by
  unfold nnD
  by_cases hb0 : FP.dadd a b &&& 0x7fffffffffffffff ≤ 0x7ff0000000000000
  · rw [if_pos hb0]; exact Sim.one k (fun hx hb ho hts hl w => lv_dadd hx hb d hb0 w)
  · rw [if_neg hb0]; exact Sim.none
theorem x_mmax {index : Nat} {a b : Int32} (hl1 : Cond.methodLink own index ⟨"java/lang/Math", "max", "(II)I"⟩ ∈ lw_all) (hlv : 1 ≤ lev) (hs : (st.map fun v => v.category).sum ≤ 8) (d : decode cc pc = .ok (.invokestatic index, 3)) (k : Sim (own, cc, nL, lev, ret, hh, ini) h (pc + 3) lv (.int (if a < b then b else a) :: st) P) : Sim (own, cc, nL, lev, ret, hh, ini) h pc lv (.int b :: .int a :: st) P := by
  refine ⟨k.1, fun p l e R s m args below meth c G h0 r h1 K hP hle H locs ls hR hS hl => ?_⟩
  have k1 := k.1 _ _ hP
  have k2 := k.2 p l e R s m args below meth c G h0 r h1 K hP hle H locs ls hR hS hl
  obtain ⟨hx, hb, hml, ho, hts, hlk, hret, hKK, hCK, hbs, hRm, -⟩ := K
  have := k1.1; have := k1.2.1; have := hle.1; have := hle.2.1
  exact va_mmax hx hb hl.1.symm ho (hts _ hl1) (hts _ q1013) (hts _ q132) (hts _ q1014) (by rw [hRm]; exact hlv) (by rw [hRm]; show _ ≤ 128 * lev; omega) (by rw [hRm]; show _ ≤ h1.2.1.1 - h0.2.1.1; omega) (by rw [hRm]; show _ ≤ h1.2.1.2 - h0.2.1.2; omega) d k2
theorem x_mmin {index : Nat} {a b : Int32} (hl1 : Cond.methodLink own index ⟨"java/lang/Math", "min", "(II)I"⟩ ∈ lw_all) (hlv : 1 ≤ lev) (hs : (st.map fun v => v.category).sum ≤ 8) (d : decode cc pc = .ok (.invokestatic index, 3)) (k : Sim (own, cc, nL, lev, ret, hh, ini) h (pc + 3) lv (.int (if b < a then b else a) :: st) P) : Sim (own, cc, nL, lev, ret, hh, ini) h pc lv (.int b :: .int a :: st) P := by
  refine ⟨k.1, fun p l e R s m args below meth c G h0 r h1 K hP hle H locs ls hR hS hl => ?_⟩
  have k1 := k.1 _ _ hP
  have k2 := k.2 p l e R s m args below meth c G h0 r h1 K hP hle H locs ls hR hS hl
  obtain ⟨hx, hb, hml, ho, hts, hlk, hret, hKK, hCK, hbs, hRm, -⟩ := K
  have := k1.1; have := k1.2.1; have := hle.1; have := hle.2.1
  exact va_mmin hx hb hl.1.symm ho (hts _ hl1) (hts _ q1051) (hts _ q132) (hts _ q1052) (by rw [hRm]; exact hlv) (by rw [hRm]; show _ ≤ 128 * lev; omega) (by rw [hRm]; show _ ≤ h1.2.1.1 - h0.2.1.1; omega) (by rw [hRm]; show _ ≤ h1.2.1.2 - h0.2.1.2; omega) d k2
end
