/-! THE LAW'S WALK AND THE MACHINE: from a pure answer to the law's end -/
set_option maxRecDepth 100000
theorem room_mono {s : State} {pl : Platform} {R R' : Room} (h1 : R'.frames ≤ R.frames) (h2 : R'.locals ≤ R.locals) (h3 : R'.cells ≤ R.cells) (h4 : R'.slots ≤ R.slots) (h : s.hasRoom pl R = true) : s.hasRoom pl R' = true := by
  simp only [State.hasRoom, Bool.and_eq_true, decide_eq_true_eq] at h ⊢
  obtain ⟨⟨⟨⟨a1, a2, a3, a4, a5, a6⟩, a7⟩, a8⟩, a9⟩ := h
  exact ⟨⟨⟨⟨by omega, by omega, by omega, by omega, by omega, a6⟩, by omega⟩, by omega⟩, a9⟩
theorem stand_room {p : Program} {l : Launch} {e : Env} {R R' : Room} {s : State} {m : MethodId} {args : Array Value} {below : List Frame} {meth : Method} {c : Code} {T : State} {locs : List Loc} {cells slots : Nat} (h1 : R'.frames ≤ R.frames) (h2 : R'.locals ≤ R.locals) (h3 : R'.cells ≤ R.cells) (h4 : R'.slots ≤ R.slots) (X : Stand p l e R s m args below meth c T locs cells slots) : Stand p l e R' s m args below meth c T locs cells slots :=
  ⟨X.admits, X.cas, X.clock, X.frames, room_mono h1 h2 h3 h4 X.room, X.hears, X.method, X.code, X.here, X.tail, X.warmed, X.limits, X.bytes, X.same⟩
/-- the law's own post, out of the contract's -/
def jn_Z (below : List Frame) (a : Array Value) (s : State) : State → Prop := fun t => ∃ o, t.status = .running ∧ Ended t below o ∧ o = .returned (some (.int 1)) ∧ Framed s o t [] 777572 6632317
theorem jn_law {p : Program} {e : Env} {s : State} {m : MethodId} {below : List Frame} {meth : Method} {c : Code} {l : Launch} {b : Nat} (hst : l.stackTraces = false) (hx : p.tables.exec = Jvm.exec) (hb : c.code = code) (hret : meth.sig.returnType = some .boolean) (hml : c.maxLocals = 7) (hown : s.vm.findClass RX0 = some m.cls) (hts : ∀ w ∈ lw_tbl, w.before #[Value.ref b] s = true) (hlk : meth.locks = false) (htab : c.exceptionTable.toList = [])
    {G : GG} (hG : G.2.1 = s.heap.size) (hKK : KK G s) (hCK : CK G s s.heap) {h0 h1 : PH} (hR : Rep G h0 s.heap) (hP : c_W_law h0 b = some (.inl (some (.int 1)), h1)) (hc : h1.2.1.1 ≤ h0.2.1.1 + 777572) (hs : h1.2.1.2 ≤ h0.2.1.2 + 6632317) :
    W p l e room_1 s m #[Value.ref b] below meth c s.heap [] 0 0 (jn_Z below #[Value.ref b] s) (entryFrame m ([Value.ref b] : List Value).toArray 7) := by
  have hl := lv_entry [Value.ref b] (n := 7) (Nat.le_of_ble_eq_true rfl)
  rw [lg_entry_eq]
  have hk : Kx Y_W_law p l (rmL 182 (h1.2.1.1 - h0.2.1.1) (h1.2.1.2 - h0.2.1.2)) s m #[Value.ref b] meth c G h0 h1 := ⟨hx, hb, hml, hown, fun w hw => hts w (lw_all_tbl hw), hlk, hret, hKK, hCK, Nat.le_of_eq hG, rfl, hst, htab, fun hi => by cases hi⟩
  have k := (m_W_law h0 b).2 p l e _ s m #[Value.ref b] below meth c G h0 _ h1 hk hP (LeH.rf h0) s.heap [] _ hR va_S.rf (by rw [hml]; exact hl)
  rw [Nat.sub_self, Nat.sub_self] at k
  intro T hT X
  obtain ⟨t, st, q⟩ := k T hT (stand_room (by show 182 ≤ 8192; decide) (by show 128 * 182 ≤ 104096; decide) (by show _ - _ ≤ 777572; omega) (by show _ - _ ≤ 6632317; omega) X)
  refine ⟨t, st, ?_⟩
  obtain ⟨o, q1, q2, q3⟩ := q
  refine ⟨o, q1, q2, ?_⟩
  rcases q3 with ⟨⟨⟨v, g1, g2⟩, g3, g4⟩, Lx, ⟨⟨f0, f1⟩, f2, f3⟩, f4⟩ | ⟨q, g1, g2⟩
  · cases g1
    refine ⟨g2, ⟨_, g2⟩, f2, ?_⟩
    refine (State.sameButNew.drop_fresh (L := []) (J := Lx) (by simpa using f3) (fun x hx => by have := f4 x hx; rw [← hG]; exact this)).mono (by omega) (by omega)
  · obtain ⟨E, ce, Lx, ⟨⟨k9, e9, -⟩, -⟩, -⟩ := g2
    cases e9
