/-! PURE SIDE: the whole relation: the model; questions -/
set_option maxRecDepth 100000
def NW (nw : Nat → Int32) (w : KP) : Prop := MO nw w.low w.n w.A w.T ∧ (w.sn = none → nw 5820 = ii 0) ∧ ∀ s, w.sn = some s → nw 5820 = ii 1 ∧ nw 5821 = ii s.2 ∧ ∀ k, k ≤ s.2 → nw (5822 + 4 * k) = ii (s.1 k).1 ∧ nw (5822 + 4 * k + 1) = ii (s.1 k).2.1 ∧ nw (5822 + 4 * k + 2) = ii (s.1 k).2.2.1 ∧ nw (5822 + 4 * k + 3) = ii (s.1 k).2.2.2
def KM (ms : MS) (k : Nat) (o : Option KP) : Prop := (o = none → ms.1 23 k = ii 0) ∧ ∀ w, o = some w → ms.1 23 k = ii 1 ∧ NW (fun x => ms.1 16 (6062 * k + x)) w ∧ ∀ r, r < w.n → ms.2 22 (4 * k + r) = ll (n27 (w.nm r))
def CM (X : XS) (ms : MS) : Prop := (∀ i, i < 940 → ms.1 1 i = ii (X.tp i)) ∧ ms.1 2 0 = ii X.len ∧ NW (ms.1 14) X.w ∧ (∀ r, r < X.w.n → ms.2 20 r = ll (n27 (X.w.nm r))) ∧ ms.1 24 0 = ii X.L.length ∧ US (ms.1 17) X.L ∧ (∀ k, k < 2 → KM ms k (X.im k)) ∧ ms.1 10 0 = ii X.ft ∧ ms.1 28 0 = ii X.sk.length ∧ (∀ (k x : Nat), X.sk[k]? = some x → ms.1 27 k = ii x) ∧ (X.td = none → ms.1 33 0 = ii 0) ∧ ∀ t, X.td = some t → ms.1 33 0 = ii 1 ∧ ∀ k, k < 4 → ms.1 31 k = ii (t k)
/-- fields that matter between calls -/
abbrev cmF : List Nat := [1, 2, 10, 14, 16, 17, 23, 24, 27, 28, 31, 33]
theorem KM.congr {ms ms' : MS} {k : Nat} {o : Option KP} (C : KM ms k o) (e1 : ms'.1 23 = ms.1 23) (e2 : ms'.1 16 = ms.1 16) (e3 : ms'.2 22 = ms.2 22) : KM ms' k o := by
  unfold KM
  rw [e1, e2, e3]
  exact C
theorem CM.congr {X : XS} {ms ms' : MS} (C : CM X ms) (e : ∀ k, k ∈ cmF → ms'.1 k = ms.1 k) (e1 : ms'.2 20 = ms.2 20) (e2 : ms'.2 22 = ms.2 22) : CM X ms' := by
  obtain ⟨c1, c2, c3, c4, c5, c6, c7, c8, c9, c10, c11, c12⟩ := C
  have f := fun k hk => e k hk
  refine ⟨?_, ?_, ?_, ?_, ?_, ?_, fun k hk => (c7 k hk).congr (f 23 (by decide)) (f 16 (by decide)) e2, ?_, ?_, ?_, ?_, ?_⟩
  · rw [f 1 (by decide)]; exact c1
  · rw [f 2 (by decide)]; exact c2
  · rw [f 14 (by decide)]; exact c3
  · rw [e1]; exact c4
  · rw [f 24 (by decide)]; exact c5
  · rw [f 17 (by decide)]; exact c6
  · rw [f 10 (by decide)]; exact c8
  · rw [f 28 (by decide)]; exact c9
  · rw [f 27 (by decide)]; exact c10
  · rw [f 33 (by decide)]; exact c11
  · rw [f 33 (by decide), f 31 (by decide)]; exact c12
theorem CM.set {X : XS} {ms : MS} {k i : Nat} {v : Int32} (C : CM X ms) (hk : k ∉ cmF) : CM X (mset ms k i v) := C.congr (fun j hj => ms_nk fun q => hk (by rw [← q]; exact hj)) rfl rfl
section
variable {b own own' : Nat → Nat} {X : XS} {h h' : PH} {c s : Nat} {ms : MS}
theorem CM.qm (C : CM X ms) (I : XI X) : QM ms X.w.n X.w.A := by
  obtain ⟨c1, c2, c3, _⟩ := C
  obtain ⟨⟨i1, i2, ⟨i3, i4, i5⟩, _⟩, _⟩ := I
  refine ⟨c3.1.1, i1, fun r hr => ⟨c3.1.2.2.1 r hr, (i3 r (by omega)).2.1, (i3 r (by omega)).len, fun l hl => ?_⟩⟩
  have := (i3 r (by omega)).leaf hl
  omega
theorem CM.qt (C : CM X ms) (I : XI X) : QT ms X.w.T := by
  obtain ⟨c1, c2, c3, _⟩ := C
  obtain ⟨⟨i1, i2, ⟨i3, i4, i5⟩, _⟩, _⟩ := I
  exact ⟨c3.1.2.2.2.1, c3.1.2.2.2.2, i4.1, i4.2.1⟩
theorem XI.iv (I : XI X) : IV X.w.low X.w.A := fun r hr => I.1.2.2.1.1 r (by omega)
theorem XI.lt (I : XI X) : Lt X.w.A X.w.T := I.1.2.2.1.2.1
/-- other rows and letters -/
abbrev xA (X : XS) (A : Nat → LL) (T : List Nat) : XS := (X.1, X.2.1, (X.w.n, X.w.low, X.w.nm, A, T, X.w.sn), X.2.2.2)
theorem Apt.ow {R R' : Nat → Nat} {z z' : Nat} (P : Apt b own R R' z z') (e1 : own' z = own z) (e2 : own' z' = own z') : Apt b own' R R' z z' := ⟨⟨e1.trans P.1.1, e2.trans P.1.2⟩, P.2⟩
end
