/-! ROWS: the script -/
set_option maxRecDepth 100000
def ldS {β : Type} (h : PH) (a : Nat) (i : Int32) (K : Int32 → Option β) : Option β := if a = h.2.2 300 then inB i (h.2.2 301) (K (Int32.ofNat (h.2.2 (400 + i.toNatClampNeg)))) else none
def lenS {β : Type} (h : PH) (a : Nat) (K : Int32 → Option β) : Option β := if a = h.2.2 300 then K (Int32.ofNat (h.2.2 301)) else none
section
variable {own : String} {cc : ByteArray} {nL lev : Nat} {ret : Option FieldType} {hh : List (Nat × Nat × Nat × Nat)} {ini : Bool}
variable {h : PH} {pc : Nat} {lv : List (Nat × Value)} {st : List Value} {P P1 P2 : Option RH}
theorem x_scrL {a : Nat} {Kc : Int32 → Option RH} (d : decode cc pc = .ok (.arraylength, 1)) (kk : ∀ v, Sim (own, cc, nL, lev, ret, hh, ini) h (pc + 1) lv (.int v :: st) (Kc v)) : Sim (own, cc, nL, lev, ret, hh, ini) h pc lv (.ref a :: st) (lenS h a Kc) := by
  unfold lenS
  by_cases ea : a = h.2.2 300
  · rw [if_pos ea]
    have kk := kk (Int32.ofNat (h.2.2 301))
    refine ⟨kk.1, fun p l e R s m args below meth c G h0 r h1 K hP hle H locs ls hR hS hl => ?_⟩
    have k2 := kk.2 p l e R s m args below meth c G h0 r h1 K hP hle H locs ls hR hS hl
    obtain ⟨hx, hb, hml, ho, hts, hlk, hret, hKK, hCK, hbs, -⟩ := K
    rw [hR.2.1] at k2 ea
    rw [ea]
    exact va_tlen hx hb hCK.2.2.2.2.2.2.2 hS rfl d k2
  · rw [if_neg ea]; exact Sim.none
theorem x_scrI {a : Nat} {i : Int32} {Kc : Int32 → Option RH} (d : decode cc pc = .ok (.iaload, 1)) (kk : ∀ v, Sim (own, cc, nL, lev, ret, hh, ini) h (pc + 1) lv (.int v :: st) (Kc v)) : Sim (own, cc, nL, lev, ret, hh, ini) h pc lv (.int i :: .ref a :: st) (ldS h a i Kc) := by
  unfold ldS
  by_cases ea : a = h.2.2 300
  · rw [if_pos ea]
    unfold inB
    by_cases hi : i < 0 ∨ h.2.2 301 ≤ i.toNatClampNeg
    · rw [if_pos hi]; exact Sim.none
    · rw [if_neg hi]
      have kk := kk (Int32.ofNat (h.2.2 (400 + i.toNatClampNeg)))
      refine ⟨kk.1, fun p l e R s m args below meth c G h0 r h1 K hP hle H locs ls hR hS hl => ?_⟩
      have k2 := kk.2 p l e R s m args below meth c G h0 r h1 K hP hle H locs ls hR hS hl
      obtain ⟨hx, hb, hml, ho, hts, hlk, hret, hKK, hCK, hbs, -⟩ := K
      rw [hR.2.1] at k2 ea hi
      rw [ea]
      exact va_ti hx hb hCK.2.2.2.2.2.2.2 hS hi rfl d k2
  · rw [if_neg ea]; exact Sim.none
end
