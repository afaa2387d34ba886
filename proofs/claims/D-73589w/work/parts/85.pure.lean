/-! WHAT IS LEFT: a law about pure functions alone -/
set_option maxRecDepth 100000
/-- the pure heap at the start: the text constants -/
def h00 (ad : Nat → Nat) (n0 : Nat) : PH := (fun a => match (List.range 23).find? (fun i => ad i == a) with
  | some i => some (.inr (100 + i, []))
  | none => none, (n0, 0), ad)
/-- THE PURE LAW -/
def PureLaw : Prop := ∀ (ad : Nat → Nat) (n0 : Nat), ad 301 ≤ 384 → (∀ i j, i < 23 → j < 23 → ad i = ad j → i = j) → (∀ i, i < 23 → ad i < n0) → ∃ h1, c_W_law (h00 ad n0) (ad 300) = some (.inl (some (.int 1)), h1) ∧ h1.2.1.1 ≤ n0 + 777572 ∧ h1.2.1.2 ≤ 6632317
theorem h00_rep {G : GG} {H : Heap} (hG : G.2.1 = H.size) : Rep G (h00 G.2.2.1 G.2.1) H := by
  refine ⟨hG.symm, rfl, fun a c hc => ?_⟩
  have hc' : (match (List.range 23).find? (fun i => G.2.2.1 i == a) with
    | some i => some (Sum.inr (100 + i, []))
    | none => none) = some c := hc
  cases hf : (List.range 23).find? (fun i => G.2.2.1 i == a) with
  | none => rw [hf] at hc'; cases hc'
  | some i =>
    rw [hf] at hc'
    cases hc'
    have h1 := List.find?_some hf
    have h2 := List.mem_range.mp (List.mem_of_find?_eq_some hf)
    unfold cOk
    dsimp only
    rw [if_pos (Nat.le_add_right 100 i)]
    exact ⟨by omega, by rw [Nat.add_sub_cancel_left]; exact (beq_iff_eq.mp h1).symm⟩
theorem whole_of (pl : PureLaw) {p : Program} {e : Env} {s : State} {m : MethodId} {below : List Frame} {meth : Method} {c : Code} {l : Launch} {b L : Nat} {xs : Nat → Int32} (hL : L ≤ 384) (hst : l.stackTraces = false) (hx : p.tables.exec = Jvm.exec) (hb : c.code = code) (hret : meth.sig.returnType = some .boolean) (hml : c.maxLocals = 7) (hown : s.vm.findClass RX0 = some m.cls) (hts : ∀ w ∈ lw_tbl, w.before #[Value.ref b] s = true) (hlk : meth.locks = false) (htab : c.exceptionTable.toList = []) (hX : va_X b L xs s s.heap) (hbl : b < s.heap.size) (hg : nrw.before #[Value.ref b] s = true) :
    W p l e room_1 s m #[Value.ref b] below meth c s.heap [] 0 0 (jn_Z below #[Value.ref b] s) (entryFrame m ([Value.ref b] : List Value).toArray 7) := by
  obtain ⟨G, hG, hKK, hCK, hb0, hL0, -, hinj, hlt⟩ := st_all hts hg hX hbl
  obtain ⟨h1, hP, hc, hs⟩ := pl G.2.2.1 G.2.1 (by rw [hL0]; exact hL) hinj (fun i hi => by rw [hG]; exact hlt i hi)
  rw [hb0] at hP
  have e1 : (h00 G.2.2.1 G.2.1).2.1.1 = G.2.1 := rfl
  have e2 : (h00 G.2.2.1 G.2.1).2.1.2 = 0 := rfl
  exact jn_law hst hx hb hret hml hown hts hlk htab hG hKK hCK (h00_rep hG) hP (by rw [e1]; exact hc) (by rw [e2, Nat.zero_add]; exact hs)
