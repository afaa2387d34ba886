/-! the words of the pure functions -/
set_option maxRecDepth 100000
section
variable {β : Type}
/-- not null -/
def nn (r : Option Nat) (K : Nat → Option β) : Option β := match r with
  | none => none
  | some a => K a
/-- an object of one of these classes -/
def oC (h : PH) (a : Nat) (cs : List Nat) (K : Nat → List Value → Option β) : Option β := match h.1 a with
  | some (.inr o) => if o.1 ∈ cs then K o.1 o.2 else none
  | _ => none
def vI (v : Option Value) (K : Int32 → Option β) : Option β := match v with
  | some (.int i) => K i
  | _ => none
def vL (v : Option Value) (K : Int64 → Option β) : Option β := match v with
  | some (.long i) => K i
  | _ => none
def vQ (v : Option Value) (K : Option Nat → Option β) : Option β := match v with
  | some (.ref a) => K (some a)
  | some .null => K none
  | _ => none
def gI (h : PH) (a : Nat) (cs : List Nat) (k : Nat) (K : Int32 → Option β) : Option β := oC h a cs fun _ fs => vI fs[k]? K
def gL (h : PH) (a : Nat) (cs : List Nat) (k : Nat) (K : Int64 → Option β) : Option β := oC h a cs fun _ fs => vL fs[k]? K
def gQ (h : PH) (a : Nat) (cs : List Nat) (k : Nat) (K : Option Nat → Option β) : Option β := oC h a cs fun _ fs => vQ fs[k]? K
def pF (h : PH) (a : Nat) (cs : List Nat) (k : Nat) (v : Value) (K : PH → Option β) : Option β := oC h a cs fun c fs => if k < fs.length then K (hset h a (.inr (c, fs.set k v))) else none
def pI (h : PH) (a : Nat) (cs : List Nat) (k : Nat) (v : Int32) (K : PH → Option β) : Option β := pF h a cs k (.int v) K
def pL (h : PH) (a : Nat) (cs : List Nat) (k : Nat) (v : Int64) (K : PH → Option β) : Option β := pF h a cs k (.long v) K
def pQ (h : PH) (a : Nat) (cs : List Nat) (k : Nat) (v : Option Nat) (K : PH → Option β) : Option β := pF h a cs k (va_rf v) K
/-- a boolean field -/
def pZ (h : PH) (a : Nat) (cs : List Nat) (k : Nat) (v : Int32) (K : PH → Option β) : Option β := if v = 0 ∨ v = 1 then pF h a cs k (.int v) K else none
def aI (h : PH) (a t : Nat) (K : Nat → (Nat → Int32) → Option β) : Option β := match h.1 a with
  | some (.inl (t', n, .inl f)) => if t' = t then K n f else none
  | _ => none
def aL (h : PH) (a : Nat) (K : Nat → (Nat → Int64) → Option β) : Option β := match h.1 a with
  | some (.inl (t', n, .inr (.inl f))) => if t' = 1 then K n f else none
  | _ => none
def aQ (h : PH) (a : Nat) (K : Nat → Nat → (Nat → Option Nat) → Option β) : Option β := match h.1 a with
  | some (.inl (t', n, .inr (.inr (.inr (.inr f))))) => if 4 ≤ t' ∧ t' < 13 then K t' n f else none
  | _ => none
/-- the index lies in the array -/
def inB (i : Int32) (n : Nat) (P : Option β) : Option β := if i < 0 ∨ n ≤ i.toNatClampNeg then none else P
def ldI (h : PH) (a t : Nat) (i : Int32) (K : Int32 → Option β) : Option β := aI h a t fun n f => inB i n (K (f i.toNatClampNeg))
def ldL (h : PH) (a : Nat) (i : Int32) (K : Int64 → Option β) : Option β := aL h a fun n f => inB i n (K (f i.toNatClampNeg))
def ldQ (h : PH) (a : Nat) (i : Int32) (K : Option Nat → Option β) : Option β := aQ h a fun _ n f => inB i n (K (f i.toNatClampNeg))
def stI (h : PH) (a : Nat) (i v : Int32) (K : PH → Option β) : Option β := aI h a 0 fun n f => inB i n (K (hset h a (.inl (0, n, .inl (upd f i.toNatClampNeg v)))))
def stB (h : PH) (a : Nat) (i v : Int32) (K : PH → Option β) : Option β := aI h a 2 fun n f => inB i n (K (hset h a (.inl (2, n, .inl (upd f i.toNatClampNeg (vp_nar .byte v))))))
def stZ (h : PH) (a : Nat) (i v : Int32) (K : PH → Option β) : Option β := aI h a 3 fun n f => inB i n (K (hset h a (.inl (3, n, .inl (upd f i.toNatClampNeg (vp_nar .boolean v))))))
def stL (h : PH) (a : Nat) (i : Int32) (v : Int64) (K : PH → Option β) : Option β := aL h a fun n f => inB i n (K (hset h a (.inl (1, n, .inr (.inl (vp_updL f i.toNatClampNeg v))))))
def alen (h : PH) (a : Nat) (K : Int32 → Option β) : Option β := match h.1 a with
  | some (.inl x) => if x.1 < 13 then K (Int32.ofNat x.2.1) else none
  | _ => none
def newO (h : PH) (c : Nat) (fs : List Value) (K : Nat → PH → Option β) : Option β := K h.2.1.1 (hnew h fs.length (.inr (c, fs)))
def newA (h : PH) (t : Nat) (n : Int32) (f : (Nat → Int32) ⊕ (Nat → Int64) ⊕ (Nat → UInt32) ⊕ (Nat → UInt64) ⊕ (Nat → Option Nat)) (K : Nat → PH → Option β) : Option β :=
  if n < 0 ∨ 65536 < n.toNatClampNeg then none else K h.2.1.1 (hnew h n.toNatClampNeg (.inl (t, n.toNatClampNeg, f)))
/-- division -/
def nz (b : Int32) (P : Option β) : Option β := if b = 0 then none else P
def nzL (b : Int64) (P : Option β) : Option β := if b = 0 then none else P
/-- a name for a number -/
def nm {α : Type} (e : α) (K : α → Option β) : Option β := K e
/-- the receiver's class -/
def grd (h : PH) (a : Nat) (cs : List Nat) (P : Option β) : Option β := oC h a cs fun _ _ => P
end
def rI (v : Int32) (h : PH) : Option RH := some (.inl (some (.int v)), h)
def rZ (v : Int32) (h : PH) : Option RH := if v = 0 ∨ v = 1 then rI v h else none
def rL (v : Int64) (h : PH) : Option RH := some (.inl (some (.long v)), h)
def rQ (v : Option Nat) (h : PH) : Option RH := some (.inl (some (va_rf v)), h)
def rV (h : PH) : Option RH := some (.inl none, h)
def rX (q : Nat × Nat) (h : PH) : Option RH := some (.inr q, h)
/-- behind a call -/
def hB (o : Option RH) (K : Option Value → PH → Option RH) (E : Nat × Nat → PH → Option RH) : Option RH := match o with
  | none => none
  | some (.inl v, h) => K v h
  | some (.inr q, h) => E q h
def noX (_ : Nat × Nat) (_ : PH) : Option RH := none
def hI (o : Option RH) (E : Nat × Nat → PH → Option RH) (K : Int32 → PH → Option RH) : Option RH := hB o (fun v h => vI v fun i => K i h) E
def hL (o : Option RH) (E : Nat × Nat → PH → Option RH) (K : Int64 → PH → Option RH) : Option RH := hB o (fun v h => vL v fun i => K i h) E
def hQ (o : Option RH) (E : Nat × Nat → PH → Option RH) (K : Option Nat → PH → Option RH) : Option RH := hB o (fun v h => vQ v fun i => K i h) E
def hV (o : Option RH) (E : Nat × Nat → PH → Option RH) (K : PH → Option RH) : Option RH := hB o (fun v h => match v with
  | none => K h
  | some _ => none) E
/-- loops' fuel -/
def FU : Nat := 100000
theorem oC_some {β : Type} {h : PH} {a : Nat} {cs : List Nat} {K : Nat → List Value → Option β} {z : β} (e : oC h a cs K = some z) : ∃ c fs, h.1 a = some (.inr (c, fs)) ∧ c ∈ cs ∧ K c fs = some z := by
  unfold oC at e
  split at e
  · rename_i o ho
    split at e
    · rename_i hc
      exact ⟨o.1, o.2, ho, hc, e⟩
    · cases e
  · cases e
theorem grd_some {β : Type} {h : PH} {a : Nat} {cs : List Nat} {P : Option β} {z : β} (e : grd h a cs P = some z) : (∃ c fs, h.1 a = some (.inr (c, fs)) ∧ c ∈ cs) ∧ P = some z := by
  obtain ⟨c, fs, h1, h2, h3⟩ := oC_some e
  exact ⟨⟨c, fs, h1, h2⟩, h3⟩
theorem inB_some {β : Type} {i : Int32} {n : Nat} {P : Option β} {z : β} (e : inB i n P = some z) : vp_in i n ∧ P = some z := by
  unfold inB at e
  split at e
  · cases e
  · rename_i h
    exact ⟨h, e⟩
theorem vI_some {β : Type} {v : Option Value} {K : Int32 → Option β} {z : β} (e : vI v K = some z) : ∃ i, v = some (.int i) ∧ K i = some z := by
  unfold vI at e
  split at e
  · exact ⟨_, rfl, e⟩
  · cases e
theorem vL_some {β : Type} {v : Option Value} {K : Int64 → Option β} {z : β} (e : vL v K = some z) : ∃ i, v = some (.long i) ∧ K i = some z := by
  unfold vL at e
  split at e
  · exact ⟨_, rfl, e⟩
  · cases e
theorem vQ_some {β : Type} {v : Option Value} {K : Option Nat → Option β} {z : β} (e : vQ v K = some z) : ∃ r, v = some (va_rf r) ∧ K r = some z := by
  unfold vQ at e
  split at e
  · exact ⟨some _, rfl, e⟩
  · exact ⟨none, rfl, e⟩
  · cases e
theorem aI_some {β : Type} {h : PH} {a t : Nat} {K : Nat → (Nat → Int32) → Option β} {z : β} (e : aI h a t K = some z) : ∃ n f, h.1 a = some (.inl (t, n, .inl f)) ∧ K n f = some z := by
  unfold aI at e
  split at e
  · rename_i t' n f ho
    split at e
    · rename_i hc
      subst hc
      exact ⟨n, f, ho, e⟩
    · cases e
  · cases e
theorem aL_some {β : Type} {h : PH} {a : Nat} {K : Nat → (Nat → Int64) → Option β} {z : β} (e : aL h a K = some z) : ∃ n f, h.1 a = some (.inl (1, n, .inr (.inl f))) ∧ K n f = some z := by
  unfold aL at e
  split at e
  · rename_i t' n f ho
    split at e
    · rename_i hc
      subst hc
      exact ⟨n, f, ho, e⟩
    · cases e
  · cases e
theorem aQ_some {β : Type} {h : PH} {a : Nat} {K : Nat → Nat → (Nat → Option Nat) → Option β} {z : β} (e : aQ h a K = some z) : ∃ t n f, h.1 a = some (.inl (t, n, .inr (.inr (.inr (.inr f))))) ∧ 4 ≤ t ∧ t < 13 ∧ K t n f = some z := by
  unfold aQ at e
  split at e
  · rename_i t' n f ho
    split at e
    · rename_i hc
      exact ⟨t', n, f, ho, hc.1, hc.2, e⟩
    · cases e
  · cases e
/-- so many rounds -/
def itr {α : Type} (b : α → α) (z : α) : Nat → α
  | 0 => z
  | n + 1 => b (itr b z n)
