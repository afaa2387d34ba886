/-! ROWS: arrays, new, ends of methods -/
set_option maxRecDepth 100000
section
variable {own : String} {cc : ByteArray} {nL lev : Nat} {ret : Option FieldType} {hh : List (Nat × Nat × Nat × Nat)} {ini : Bool}
variable {h : PH} {pc : Nat} {lv : List (Nat × Value)} {st : List Value} {P P1 P2 : Option RH}
theorem x_iald {a : Nat} {i : Int32} {Kc : Int32 → Option RH} (d : decode cc pc = .ok (.iaload, 1)) (kk : ∀ v, Sim (own, cc, nL, lev, ret, hh, ini) h (pc + 1) lv (.int v :: st) (Kc v)) : Sim (own, cc, nL, lev, ret, hh, ini) h pc lv (.int i :: .ref a :: st) (ldI h a 0 i Kc) := Sim.use fun z e => by
  obtain ⟨n, f, h1, h2⟩ := aI_some e
  obtain ⟨h3, h4⟩ := inB_some h2
  have he : ldI h a 0 i Kc = Kc (f i.toNatClampNeg) := by rw [h4]; exact e
  rw [he]
  have kk := kk (f i.toNatClampNeg)
  refine ⟨kk.1, fun p l e R s m args below meth c G h0 r h1' K hP hle H locs ls hR hS hl => ?_⟩
  have k1 := kk.1 _ _ hP
  have k2 := kk.2 p l e R s m args below meth c G h0 r h1' K hP
  obtain ⟨hx, hb, hml, ho, hts, hlk, hret, hKK, -⟩ := K
  exact va_iald hx hb hKK.1 (hR.2.2 a _ h1).arr.2 0 0 rfl rfl h3 d (k2 hle H locs ls hR hS hl)
theorem x_bald {a : Nat} {i : Int32} {Kc : Int32 → Option RH} (d : decode cc pc = .ok (.baload, 1)) (kk : ∀ v, Sim (own, cc, nL, lev, ret, hh, ini) h (pc + 1) lv (.int v :: st) (Kc v)) : Sim (own, cc, nL, lev, ret, hh, ini) h pc lv (.int i :: .ref a :: st) (ldI h a 2 i Kc) := Sim.use fun z e => by
  obtain ⟨n, f, h1, h2⟩ := aI_some e
  obtain ⟨h3, h4⟩ := inB_some h2
  have he : ldI h a 2 i Kc = Kc (f i.toNatClampNeg) := by rw [h4]; exact e
  rw [he]
  have kk := kk (f i.toNatClampNeg)
  refine ⟨kk.1, fun p l e R s m args below meth c G h0 r h1' K hP hle H locs ls hR hS hl => ?_⟩
  have k1 := kk.1 _ _ hP
  have k2 := kk.2 p l e R s m args below meth c G h0 r h1' K hP
  obtain ⟨hx, hb, hml, ho, hts, hlk, hret, hKK, -⟩ := K
  exact va_bald hx hb hKK.1 (hR.2.2 a _ h1).arr.2 0 2 rfl rfl h3 d (k2 hle H locs ls hR hS hl)
theorem x_zald {a : Nat} {i : Int32} {Kc : Int32 → Option RH} (d : decode cc pc = .ok (.baload, 1)) (kk : ∀ v, Sim (own, cc, nL, lev, ret, hh, ini) h (pc + 1) lv (.int v :: st) (Kc v)) : Sim (own, cc, nL, lev, ret, hh, ini) h pc lv (.int i :: .ref a :: st) (ldI h a 3 i Kc) := Sim.use fun z e => by
  obtain ⟨n, f, h1, h2⟩ := aI_some e
  obtain ⟨h3, h4⟩ := inB_some h2
  have he : ldI h a 3 i Kc = Kc (f i.toNatClampNeg) := by rw [h4]; exact e
  rw [he]
  have kk := kk (f i.toNatClampNeg)
  refine ⟨kk.1, fun p l e R s m args below meth c G h0 r h1' K hP hle H locs ls hR hS hl => ?_⟩
  have k1 := kk.1 _ _ hP
  have k2 := kk.2 p l e R s m args below meth c G h0 r h1' K hP
  obtain ⟨hx, hb, hml, ho, hts, hlk, hret, hKK, -⟩ := K
  exact va_zald hx hb hKK.1 (hR.2.2 a _ h1).arr.2 0 3 rfl rfl h3 d (k2 hle H locs ls hR hS hl)
theorem x_lald {a : Nat} {i : Int32} {Kc : Int64 → Option RH} (d : decode cc pc = .ok (.laload, 1)) (kk : ∀ v, Sim (own, cc, nL, lev, ret, hh, ini) h (pc + 1) lv (.long v :: st) (Kc v)) : Sim (own, cc, nL, lev, ret, hh, ini) h pc lv (.int i :: .ref a :: st) (ldL h a i Kc) := Sim.use fun z e => by
  obtain ⟨n, f, h1, h2⟩ := aL_some e
  obtain ⟨h3, h4⟩ := inB_some h2
  have he : ldL h a i Kc = Kc (f i.toNatClampNeg) := by rw [h4]; exact e
  rw [he]
  have kk := kk (f i.toNatClampNeg)
  refine ⟨kk.1, fun p l e R s m args below meth c G h0 r h1' K hP hle H locs ls hR hS hl => ?_⟩
  have k1 := kk.1 _ _ hP
  have k2 := kk.2 p l e R s m args below meth c G h0 r h1' K hP
  obtain ⟨hx, hb, hml, ho, hts, hlk, hret, hKK, -⟩ := K
  exact va_lald hx hb hKK.1 (hR.2.2 a _ h1).arr.2 0 1 rfl rfl h3 d (k2 hle H locs ls hR hS hl)
/-- a store: the machine's row gives the new cell -/
theorem st_core {G : GG} {a : Nat} {y y' : Nat × vp_A} {H H1 : Heap} {h : PH} (hR : Rep G h H) (hy : h.1 a = some (.inl y)) (e : H1[a]? = some (vp_cell (G.1.2 y'.1) y'.2)) (z : H1.size = H.size) (oq : ∀ q : Nat, q ≠ a → H1[q]? = H[q]?) : Rep G (hset h a (.inl y')) H1 := Rep.set hR ⟨(hR.2.2 a _ hy).1, e⟩ z oq
theorem x_iast {a : Nat} {i v : Int32} {Kc : PH → Option RH} (d : decode cc pc = .ok (.iastore, 1)) (kk : ∀ h', Sim (own, cc, nL, lev, ret, hh, ini) h' (pc + 1) lv st (Kc h')) : Sim (own, cc, nL, lev, ret, hh, ini) h pc lv (.int v :: .int i :: .ref a :: st) (stI h a i v Kc) := Sim.use fun z e => by
  obtain ⟨n, f, g1, g2⟩ := aI_some e
  obtain ⟨g3, g4⟩ := inB_some g2
  have he : stI h a i v Kc = Kc (hset h a (.inl (0, n, .inl (upd f i.toNatClampNeg v)))) := by rw [g4]; exact e
  rw [he]
  have kk := kk (hset h a (.inl (0, n, .inl (upd f i.toNatClampNeg v))))
  refine ⟨kk.1, fun p l e R s m args below meth c G h0 r h1 K hP hle H locs ls hR hS hl => ?_⟩
  have k1 := kk.1 _ _ hP
  have k2 := kk.2 p l e R s m args below meth c G h0 r h1 K hP
  obtain ⟨hx, hb, hml, ho, hts, hlk, hret, hKK, -⟩ := K
  refine W.iast hx hb (hR.2.2 a _ g1).2 ((hKK.1.2 0 _ rfl).1 n (fun j => .int (f j))) (fun q => by cases q) (by show ¬ (i < 0 ∨ (arrV _ _ _).slots.size ≤ _); rw [arrV_size]; exact g3) rfl rfl d fun H1 e z oq => ?_
  refine k2 hle H1 _ ls (st_core hR g1 ?_ z oq) (hS.put z oq (hR.2.2 a _ g1).1) hl
  rw [e]
  show some _ = some (vp_cell (G.1.2 0) (n, .inl _))
  rw [vp_cell_i, vp_cell_i, arrV_store]
  congr 2
  funext q
  by_cases hq : q = i.toNatClampNeg
  · subst hq
    simp [updV, upd]
  · simp [updV, upd, hq]
theorem x_bast {a : Nat} {i v : Int32} {Kc : PH → Option RH} (d : decode cc pc = .ok (.bastore, 1)) (kk : ∀ h', Sim (own, cc, nL, lev, ret, hh, ini) h' (pc + 1) lv st (Kc h')) : Sim (own, cc, nL, lev, ret, hh, ini) h pc lv (.int v :: .int i :: .ref a :: st) (stB h a i v Kc) := Sim.use fun z e => by
  obtain ⟨n, f, g1, g2⟩ := aI_some e
  obtain ⟨g3, g4⟩ := inB_some g2
  have he : stB h a i v Kc = Kc (hset h a (.inl (2, n, .inl (upd f i.toNatClampNeg (vp_nar .byte v))))) := by rw [g4]; exact e
  rw [he]
  have kk := kk (hset h a (.inl (2, n, .inl (upd f i.toNatClampNeg (vp_nar .byte v)))))
  refine ⟨kk.1, fun p l e R s m args below meth c G h0 r h1 K hP hle H locs ls hR hS hl => ?_⟩
  have k1 := kk.1 _ _ hP
  have k2 := kk.2 p l e R s m args below meth c G h0 r h1 K hP
  obtain ⟨hx, hb, hml, ho, hts, hlk, hret, hKK, -⟩ := K
  refine W.bast hx hb (hR.2.2 a _ g1).2 ((hKK.1.2 2 _ rfl).1 n (fun j => .int (f j))) (fun q => by cases q) (by show ¬ (i < 0 ∨ (arrV _ _ _).slots.size ≤ _); rw [arrV_size]; exact g3) rfl rfl d fun H1 e z oq => ?_
  refine k2 hle H1 _ ls (st_core hR g1 ?_ z oq) (hS.put z oq (hR.2.2 a _ g1).1) hl
  rw [e]
  show some _ = some (vp_cell (G.1.2 2) (n, .inl _))
  rw [vp_cell_i, vp_cell_i, arrV_store]
  congr 2
  funext q
  by_cases hq : q = i.toNatClampNeg
  · subst hq
    simp [updV, upd, vp_nar]
    try rfl
  · simp [updV, upd, hq]
theorem x_zast {a : Nat} {i v : Int32} {Kc : PH → Option RH} (d : decode cc pc = .ok (.bastore, 1)) (kk : ∀ h', Sim (own, cc, nL, lev, ret, hh, ini) h' (pc + 1) lv st (Kc h')) : Sim (own, cc, nL, lev, ret, hh, ini) h pc lv (.int v :: .int i :: .ref a :: st) (stZ h a i v Kc) := Sim.use fun z e => by
  obtain ⟨n, f, g1, g2⟩ := aI_some e
  obtain ⟨g3, g4⟩ := inB_some g2
  have he : stZ h a i v Kc = Kc (hset h a (.inl (3, n, .inl (upd f i.toNatClampNeg (vp_nar .boolean v))))) := by rw [g4]; exact e
  rw [he]
  have kk := kk (hset h a (.inl (3, n, .inl (upd f i.toNatClampNeg (vp_nar .boolean v)))))
  refine ⟨kk.1, fun p l e R s m args below meth c G h0 r h1 K hP hle H locs ls hR hS hl => ?_⟩
  have k1 := kk.1 _ _ hP
  have k2 := kk.2 p l e R s m args below meth c G h0 r h1 K hP
  obtain ⟨hx, hb, hml, ho, hts, hlk, hret, hKK, -⟩ := K
  refine W.zast hx hb (hR.2.2 a _ g1).2 ((hKK.1.2 3 _ rfl).1 n (fun j => .int (f j))) (fun q => by cases q) (by show ¬ (i < 0 ∨ (arrV _ _ _).slots.size ≤ _); rw [arrV_size]; exact g3) rfl rfl d fun H1 e z oq => ?_
  refine k2 hle H1 _ ls (st_core hR g1 ?_ z oq) (hS.put z oq (hR.2.2 a _ g1).1) hl
  rw [e]
  show some _ = some (vp_cell (G.1.2 3) (n, .inl _))
  rw [vp_cell_i, vp_cell_i, arrV_store]
  congr 2
  funext q
  by_cases hq : q = i.toNatClampNeg
  · subst hq
    simp [updV, upd, vp_nar]
    try rfl
  · simp [updV, upd, hq]
theorem x_last {a : Nat} {i : Int32} {v : Int64} {Kc : PH → Option RH} (d : decode cc pc = .ok (.lastore, 1)) (kk : ∀ h', Sim (own, cc, nL, lev, ret, hh, ini) h' (pc + 1) lv st (Kc h')) : Sim (own, cc, nL, lev, ret, hh, ini) h pc lv (.long v :: .int i :: .ref a :: st) (stL h a i v Kc) := Sim.use fun z e => by
  obtain ⟨n, f, g1, g2⟩ := aL_some e
  obtain ⟨g3, g4⟩ := inB_some g2
  have he : stL h a i v Kc = Kc (hset h a (.inl (1, n, .inr (.inl (vp_updL f i.toNatClampNeg v))))) := by rw [g4]; exact e
  rw [he]
  have kk := kk (hset h a (.inl (1, n, .inr (.inl (vp_updL f i.toNatClampNeg v)))))
  refine ⟨kk.1, fun p l e R s m args below meth c G h0 r h1 K hP hle H locs ls hR hS hl => ?_⟩
  have k1 := kk.1 _ _ hP
  have k2 := kk.2 p l e R s m args below meth c G h0 r h1 K hP
  obtain ⟨hx, hb, hml, ho, hts, hlk, hret, hKK, -⟩ := K
  refine W.last hx hb (hR.2.2 a _ g1).2 ((hKK.1.2 1 _ rfl).1 n (fun j => .long (f j))) (fun q => by cases q) (by show ¬ (i < 0 ∨ (arrV _ _ _).slots.size ≤ _); rw [arrV_size]; exact g3) rfl rfl d fun H1 e z oq => ?_
  refine k2 hle H1 _ ls (st_core hR g1 ?_ z oq) (hS.put z oq (hR.2.2 a _ g1).1) hl
  rw [e]
  show some _ = some (vp_cell (G.1.2 1) (n, .inr (.inl _)))
  rw [vp_cell_l, vp_cell_l, arrV_store]
  congr 2
  funext q
  by_cases hq : q = i.toNatClampNeg
  · subst hq
    simp [updV, vp_updL]
  · simp [updV, vp_updL, hq]
theorem aTys_at {dA : Nat → ClassId} : ∀ t, t < 13 → ∃ ty, (aTys dA)[t]? = some (dA t, ty) ∧ aTy[t]? = some ty := by
  intro t ht
  match t, ht with
  | 0, _ => exact ⟨_, rfl, rfl⟩
  | 1, _ => exact ⟨_, rfl, rfl⟩
  | 2, _ => exact ⟨_, rfl, rfl⟩
  | 3, _ => exact ⟨_, rfl, rfl⟩
  | 4, _ => exact ⟨_, rfl, rfl⟩
  | 5, _ => exact ⟨_, rfl, rfl⟩
  | 6, _ => exact ⟨_, rfl, rfl⟩
  | 7, _ => exact ⟨_, rfl, rfl⟩
  | 8, _ => exact ⟨_, rfl, rfl⟩
  | 9, _ => exact ⟨_, rfl, rfl⟩
  | 10, _ => exact ⟨_, rfl, rfl⟩
  | 11, _ => exact ⟨_, rfl, rfl⟩
  | 12, _ => exact ⟨_, rfl, rfl⟩
  | t + 13, h => omega
theorem x_alen {a : Nat} {Kc : Int32 → Option RH} (d : decode cc pc = .ok (.arraylength, 1)) (kk : ∀ v, Sim (own, cc, nL, lev, ret, hh, ini) h (pc + 1) lv (.int v :: st) (Kc v)) : Sim (own, cc, nL, lev, ret, hh, ini) h pc lv (.ref a :: st) (alen h a Kc) := Sim.use fun z e => by
  have e0 := e
  unfold alen at e
  split at e
  · rename_i y hy
    split at e
    · rename_i hlt
      have he : alen h a Kc = Kc (Int32.ofNat y.2.1) := by rw [e0, e]
      rw [he]
      have kk := kk (Int32.ofNat y.2.1)
      refine ⟨kk.1, fun p l e R s m args below meth c G h0 r h1 K hP hle H locs ls hR hS hl => ?_⟩
      have k1 := kk.1 _ _ hP
      have k2 := kk.2 p l e R s m args below meth c G h0 r h1 K hP
      obtain ⟨hx, hb, hml, ho, hts, hlk, hret, hKK, -⟩ := K
      obtain ⟨ty, ht, -⟩ := aTys_at (dA := G.1.2) y.1 hlt
      exact va_alen (v := Int32.ofNat y.2.1) hx hb hKK.1 (hR.2.2 a _ hy).arr.2 0 y.1 rfl ht rfl d (k2 hle H locs ls hR hS hl)
    · cases e
  · cases e
end
