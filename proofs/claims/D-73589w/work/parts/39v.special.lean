/-! ROW: System.arraycopy within one array of references -/
set_option maxRecDepth 100000
section
variable {own : String} {cc : ByteArray} {nL lev : Nat} {ret : Option FieldType} {hh : List (Nat × Nat × Nat × Nat)} {ini : Bool}
variable {h : PH} {pc : Nat} {lv : List (Nat × Value)} {st : List Value} {P P1 P2 : Option RH}
theorem copy_core {p : Program} {l : Launch} {e : Env} {R : Room} {s : State} {m : MethodId} {args : Array Value} {below : List Frame} {meth : Method} {c : Code} {G : GG} {H : Heap} {locs : List Loc} {ls : Array Slot} {cells slots : Nat} {Q : State → Prop} {own : String} {E : FieldType} {cc : ByteArray} {pc index a t n0 : Nat} {f : Nat → Option Nat} {rest : List Value}
    (hexec : p.tables.exec = Jvm.exec) (hb : c.code = cc) (hml : c.maxLocals = ls.size) (hown : s.vm.findClass own = some m.cls) (hlink : (Cond.methodLink own index arraycopyName).before args s = true) (hnat : (Cond.native arraycopyName).before args s = true) (hstat : (Cond.static arraycopyName).before args s = true) (hini : (Cond.initialized "java/lang/System").before args s = true)
    (hK : KK G s) (ht : (aTys G.1.2)[t]? = some (G.1.2 t, E)) (hrk : ((refKind E != refKind E) || (!refKind E && E != E)) = false) (hf0 : fits E .null = true) (hf1 : ∀ y, fits E (.ref y) = true) (hc1 : H[a]? = some (vp_cell (G.1.2 t) (n0, .inr (.inr (.inr (.inr f))))))
    {sp dp n : Int32} (h1 : ¬ sp < 0) (h2 : ¬ dp < 0) (h3 : ¬ n < 0) (h4 : sp.toNatClampNeg + n.toNatClampNeg ≤ n0) (h5 : dp.toNatClampNeg + n.toNatClampNeg ≤ n0) (hel : ∀ i : Nat, i < n.toNatClampNeg → ∀ y : Nat, f (sp.toNatClampNeg + i) = some y → ElOk G s H t y)
    (hframes : 1 ≤ R.frames) (hlocals : (rest.map fun v => v.category).sum + 18 ≤ R.locals) (hdg : decode cc pc = .ok (.invokestatic index, 3))
    (kk : ∀ (H1 : Heap) (locs1 : List Loc), H1[a]? = some (vp_cell (G.1.2 t) (n0, .inr (.inr (.inr (.inr (va_cpy f f sp.toNatClampNeg dp.toNatClampNeg n.toNatClampNeg)))))) → H1.size = H.size → (∀ q : Nat, q ≠ a → H1[q]? = H[q]?) → (∀ x ∈ locs1, x ∈ locs ∨ x.1 = a) → W p l e R s m args below meth c H1 locs1 cells slots Q (F0 m (pc + 3) ls rest)) : W p l e R s m args below meth c H locs cells slots Q (F0 m pc ls (.int n :: .int dp :: .ref a :: .int sp :: .ref a :: rest)) := by
  have nn : ∀ z : Int32, ¬ z < 0 → z.toInt = (z.toNatClampNeg : Int) := by
    intro z hz
    have hz0 : (0 : Int) ≤ z.toInt := by
      have := Int32.not_lt.mp hz
      simpa using Int32.le_iff_toInt_le.mp this
    show z.toInt = ((z.toInt.toNat : Nat) : Int)
    omega
  intro T hT X
  obtain ⟨-, k0, hk0, cm0, hkk0⟩ := (hK.1.2 t _ ht).1 n0 (fun j => va_rf (f j))
  obtain ⟨vm', X', step⟩ := X.arraycopy hexec hown hlink hnat hstat hini (src := a) (dst := a) (cs := vp_cell (G.1.2 t) (n0, .inr (.inr (.inr (.inr f))))) (cd := vp_cell (G.1.2 t) (n0, .inr (.inr (.inr (.inr f))))) (srcPos := sp) (destPos := dp) (n := n) (by rw [hT]; exact hc1) (by rw [hT]; exact hc1)
    (fun _ h => by cases h) (fun _ h => by cases h) (fun h => by cases h) (fun h => by cases h) hk0 hk0 hkk0 hkk0 hrk h1 h2 h3
    (by rw [nn sp h1, nn n h3]; show ¬ _ > ((arrV (G.1.2 t) n0 (fun j => va_rf (f j))).slots.size : Int); rw [arrV_size]; omega)
    (by rw [nn dp h2, nn n h3]; show ¬ _ > ((arrV (G.1.2 t) n0 (fun j => va_rf (f j))).slots.size : Int); rw [arrV_size]; omega)
    (fun vm₁ hal i hi => by
      have e : (vp_cell (G.1.2 t) (n0, .inr (.inr (.inr (.inr f))))).slots.getD (sp.toNatClampNeg + i) .null = va_rf (f (sp.toNatClampNeg + i)) := by
        show (arrV (G.1.2 t) n0 (fun j => va_rf (f j))).slots.getD _ _ = _
        rw [Array.getD_eq_getD_getElem?, arrV_read _ _ (by omega)]
        rfl
      rw [e]
      cases hy : f (sp.toNatClampNeg + i) with
      | none => exact ⟨hf0, trivial⟩
      | some y =>
        obtain ⟨kA, comp, ty, kcomp, kv, cv, w1, w2, w3, w4, w5, w6, w7, w8⟩ := hel i hi y hy
        cases hk0.symm.trans w1
        cases hkk0.symm.trans w2
        obtain ⟨kC', hkC', -⟩ := hal.2.2 _ _ w7
        obtain ⟨kE', hkE', -⟩ := hal.2.2 _ _ w4
        refine ⟨hf1 y, cv, (show T.heap[y]? = some cv by rw [hT]; exact w5), w6, ⟨kC', hkC'⟩, ?_, ?_⟩
        · exact ⟨kE', hkE'⟩
        · show vm₁.assignable _ _ = true
          rw [hal.assignable]
          exact w8)
    (g := F0 m pc ls (.int n :: .int dp :: .ref a :: .int sp :: .ref a :: rest)) rfl (by rw [hml]) (rest := rest) rfl (by rw [hb]; exact hdg) hframes (by show 2 * 0 + _ + (7 + 11) ≤ _; omega)
  have e1 : copied (vp_cell (G.1.2 t) (n0, .inr (.inr (.inr (.inr f))))) (vp_cell (G.1.2 t) (n0, .inr (.inr (.inr (.inr f))))) sp dp n = vp_cell (G.1.2 t) (n0, .inr (.inr (.inr (.inr (va_cpy f f sp.toNatClampNeg dp.toNatClampNeg n.toNatClampNeg))))) := by
    rw [vp_cell_q, vp_cell_q]
    exact va_copied (fun z => va_rf z) (G.1.2 t) (G.1.2 t) f f h4
  rw [e1] at X' step
  have hl : a < H.size := (Array.getElem?_eq_some_iff.mp hc1).1
  have hheap : ((T.setVm vm').setCell a (vp_cell (G.1.2 t) (n0, .inr (.inr (.inr (.inr (va_cpy f f sp.toNatClampNeg dp.toNatClampNeg n.toNatClampNeg))))))).heap = H.setIfInBounds a (vp_cell (G.1.2 t) (n0, .inr (.inr (.inr (.inr (va_cpy f f sp.toNatClampNeg dp.toNatClampNeg n.toNatClampNeg)))))) := by rw [← hT]; rfl
  obtain ⟨t9, a1, b1⟩ := kk _ _ (by simp [Array.getElem?_setIfInBounds, hl]) (by simp) (fun q hq => by simp [Array.getElem?_setIfInBounds, Ne.symm hq]) (fun x hx => by
      rcases List.mem_append.mp hx with h | h
      · exact Or.inl h
      · obtain ⟨z, -, hz⟩ := List.mem_map.mp h
        rw [← hz]
        exact Or.inr rfl) _ hheap X'
  exact ⟨t9, step t9 a1, b1⟩
theorem x_acopy {index a : Nat} {sp dp n : Int32} {K : PH → Option RH} (hl1 : Cond.methodLink own index arraycopyName ∈ lw_all) (hlv : 1 ≤ lev) (hs : (st.map fun v => v.category).sum ≤ 8) (d : decode cc pc = .ok (.invokestatic index, 3)) (kk : ∀ h', Sim (own, cc, nL, lev, ret, hh, ini) h' (pc + 3) lv st (K h')) : Sim (own, cc, nL, lev, ret, hh, ini) h pc lv (.int n :: .int dp :: .ref a :: .int sp :: .ref a :: st) (cpQ h a sp dp n K) := Sim.use fun z e => by
  obtain ⟨t, l0, f, g1, t1, t2, g2⟩ := aQ_some e
  have he : cpQ h a sp dp n K = some z := e
  by_cases hc : sp < 0 ∨ dp < 0 ∨ n < 0 ∨ l0 < sp.toNatClampNeg + n.toNatClampNeg ∨ l0 < dp.toNatClampNeg + n.toNatClampNeg ∨ elsOk h t f sp.toNatClampNeg n.toNatClampNeg = false
  · rw [if_pos hc] at g2; cases g2
  · rw [if_neg hc] at g2
    have he2 : cpQ h a sp dp n K = K (hset h a (.inl (t, l0, .inr (.inr (.inr (.inr (va_cpy f f sp.toNatClampNeg dp.toNatClampNeg n.toNatClampNeg))))))) := he.trans g2.symm
    rw [he2]
    simp only [not_or, Bool.not_eq_false] at hc
    obtain ⟨c1, c2, c3, c4, c5, c6⟩ := hc
    have kk := kk (hset h a (.inl (t, l0, .inr (.inr (.inr (.inr (va_cpy f f sp.toNatClampNeg dp.toNatClampNeg n.toNatClampNeg)))))))
    refine ⟨kk.1, fun p l e R s m args below meth c G h0 r h1 K hP hle H locs ls hR hS hl => ?_⟩
    have k2 := kk.2 p l e R s m args below meth c G h0 r h1 K hP
    obtain ⟨hx, hb, hml, ho, hts, hlk, hret, hKK, hCK, hbs, hRm, -⟩ := K
    obtain ⟨C, ht, hrk, hf0, hf1⟩ : ∃ E, (aTys G.1.2)[t]? = some (G.1.2 t, E) ∧ ((refKind E != refKind E) || (!refKind E && E != E)) = false ∧ fits E .null = true ∧ ∀ y, fits E (.ref y) = true := by
      by_cases h9 : t = 9
      · subst h9
        exact ⟨.array (.object RX14), rfl, by decide, rfl, fun _ => rfl⟩
      · obtain ⟨C, ht⟩ := aTys_obj (dA := G.1.2) t1 t2 h9
        exact ⟨.object C, ht, by simp [refKind], rfl, fun _ => rfl⟩
    refine copy_core (t := t) (E := C) hx hb hl.1.symm ho (hts _ hl1) (hts _ q838) (hts _ q837) (hts _ q128) hKK ht hrk hf0 hf1 (hR.2.2 a _ g1).2 c1 c2 c3 (by omega) (by omega) ?_ (by rw [hRm]; exact hlv) (by rw [hRm]; show _ ≤ 128 * lev; omega) d (fun H1 locs1 e1 z1 o1 l1 => ?_)
    · intro i hi y hy
      have hz := List.all_eq_true.mp c6 i (List.mem_range.mpr hi)
      rw [hy] at hz
      dsimp only at hz
      cases hb0 : h.1 y with
      | none => rw [hb0] at hz; cases hz
      | some c0 =>
        rw [hb0] at hz
        exact el_all hKK hCK hbs hS (hR.2.2 y _ hb0) hz
    · refine k2 hle H1 locs1 ls (st_core hR g1 e1 z1 o1) ⟨by rw [z1]; exact hS.1, fun q w1 w2 => ?_, fun x hx => ?_⟩ hl
      · rw [o1 q (fun e => w2 (by rw [e]; exact (hR.2.2 a _ g1).1))]
        exact hS.2.1 q w1 w2
      · rcases l1 x hx with w | w
        · exact hS.2.2 x w
        · rw [w]; exact (hR.2.2 a _ g1).1
/-- the two arrays are one -/
def cpQ2 {β : Type} (h : PH) (a b : Nat) (sp dp n : Int32) (K : PH → Option β) : Option β := if a = b then cpQ h b sp dp n K else none
theorem x_acopy2 {index a b : Nat} {sp dp n : Int32} {K : PH → Option RH} (hl1 : Cond.methodLink own index arraycopyName ∈ lw_all) (hlv : 1 ≤ lev) (hs : (st.map fun v => v.category).sum ≤ 8) (d : decode cc pc = .ok (.invokestatic index, 3)) (kk : ∀ h', Sim (own, cc, nL, lev, ret, hh, ini) h' (pc + 3) lv st (K h')) : Sim (own, cc, nL, lev, ret, hh, ini) h pc lv (.int n :: .int dp :: .ref b :: .int sp :: .ref a :: st) (cpQ2 h a b sp dp n K) := by
  unfold cpQ2
  by_cases e : a = b
  · subst e; rw [if_pos rfl]; exact x_acopy hl1 hlv hs d kk
  · rw [if_neg e]; exact Sim.none
end
