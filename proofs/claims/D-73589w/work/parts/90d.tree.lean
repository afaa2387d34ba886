/-! PURE SIDE: kinds, frames, trees -/
set_option maxRecDepth 100000
def kd (c : PC) : Nat := match c with
  | .inl x => 2 * x.1 + 1
  | .inr o => 2 * o.1
def tK (c : PC) : Bool := kd c == 18 || kd c == 20 || kd c == 3
def rK (c : PC) : Bool := tK c || kd c == 8 || kd c == 9 || kd c == 11 || kd c == 13
theorem kd_ne {h : PH} {a b : Nat} {c d : PC} (e : h.1 b = some c) (e' : h.1 a = some d) (k : (kd c == kd d) = false) : b ≠ a := fun q => by
  rw [q, e'] at e
  injection e with e
  subst e
  rw [beq_self_eq_true] at k
  cases k
theorem up_kd {h : PH} {a b : Nat} {c d d' : PC} (e : h.1 b = some c) (e' : h.1 a = some d') (k : (kd c == kd d') = false) : (hset h a d).1 b = some c := (up_ne (kd_ne e e' k)).trans e
theorem up_nx {h : PH} {a b : Nat} {c d : PC} (n : b ≠ a) (e : h.1 b = some d) : (hset h a c).1 b = some d := (up_ne n).trans e
theorem new_old {h : PH} {b n : Nat} {c d : PC} (w : Wf h) (e : h.1 b = some d) : (hnew h n c).1 b = some d := (new_ne (Nat.ne_of_lt (w.lt e))).trans e
theorem bump_old {h : PH} {b k n : Nat} {d : PC} (e : h.1 b = some d) : (hbump h k n).1 b = some d := e
theorem Wf.setE {h : PH} {a : Nat} {c d : PC} (w : Wf h) (e : h.1 a = some d) : Wf (hset h a c) := w.set (w.lt e)
theorem Only.kd {h h' : PH} {a b : Nat} {c : PC} {m : List Bool} (o : Only h h' a) (ea : LeafL h a m) (e : h.1 b = some c) (k : tK c = false) : h'.1 b = some c := by
  obtain ⟨a1, g, ⟨s, v, g1, g2, g3⟩, a3⟩ := ea
  have n1 : b ≠ a := fun q => by
    rw [q, g1] at e
    injection e with e
    rw [← e] at k
    cases k
  have n2 : b ≠ a + 1 := fun q => by
    rw [q, g2] at e
    injection e with e
    rw [← e] at k
    cases k
  exact (o.2 b n1 n2).trans e
theorem Only.wf {h h' : PH} {a : Nat} {m : List Bool} (o : Only h h' a) (ea : LeafL h a m) (w : Wf h) : Wf h' := fun x hx => by
  obtain ⟨a1, g, ⟨s, v, g1, g2, g3⟩, a3⟩ := ea
  rw [o.1] at hx
  have l1 := w.lt g1
  have l2 := w.lt g2
  rw [o.2 x (by omega) (by omega)]
  exact w x hx
abbrev LX : Type := List (Nat × List Bool)
def fl (xs : LX) : List Bool := (xs.map Prod.snd).flatten
def ad (xs : LX) : List Nat := xs.map Prod.fst
def nots (xs : LX) : LX := xs.map fun p => (p.1, p.2.map not)
def trn (w : Bool) (xs : LX) : LX := if w = true then nots xs else xs
theorem fl_app (a b : LX) : fl (a ++ b) = fl a ++ fl b := by simp [fl]
theorem ad_app (a b : LX) : ad (a ++ b) = ad a ++ ad b := by simp [ad]
theorem ad_nots (a : LX) : ad (nots a) = ad a := by simp [ad, nots, Function.comp_def]
theorem ad_trn (w : Bool) (a : LX) : ad (trn w a) = ad a := by
  unfold trn
  cases w
  · rfl
  · exact ad_nots a
theorem nots_app (a b : LX) : nots (a ++ b) = nots a ++ nots b := by simp [nots]
theorem nots_nots (a : LX) : nots (nots a) = a := by
  unfold nots
  rw [List.map_map]
  have : ((fun p : Nat × List Bool => (p.1, p.2.map not)) ∘ fun p : Nat × List Bool => (p.1, p.2.map not)) = id := by
    funext p
    simp [Function.comp_def]
  rw [this, List.map_id]
theorem fl_nots (a : LX) : fl (nots a) = (fl a).map not := by
  unfold fl nots
  rw [List.map_flatten, List.map_map, List.map_map]
  rfl
theorem nots_len (a : LX) : (nots a).length = a.length := by simp [nots]
theorem ad_len (a : LX) : (ad a).length = a.length := by simp [ad]
theorem nots_trn (w : Bool) (a : LX) : nots (trn w a) = trn (!w) a := by
  cases w
  · rfl
  · exact nots_nots a
def inT (as : List Nat) (lo hi x : Nat) : Prop := (∃ p, p ∈ as ∧ (x = p ∨ x = p + 1)) ∨ (lo ≤ x ∧ x < hi)
/-- what an act on a tree changes -/
def TF (own : Nat → Nat) (ρ : Nat) (as : List Nat) (lo hi : Nat) (h h' : PH) : Prop := h'.2 = h.2 ∧ (∀ x, h.1 x = none → h'.1 x = none) ∧ ∀ x c, h.1 x = some c → (own x ≠ ρ ∨ tK c = false ∨ ¬ inT as lo hi x) → h'.1 x = some c
section
variable {own : Nat → Nat} {ρ b lo hi m m' : Nat} {h h' h1 : PH} {as as' : List Nat}
theorem TF.rf : TF own ρ as lo hi h h := ⟨rfl, fun _ e => e, fun _ _ e _ => e⟩
theorem TF.trans (o : TF own ρ as lo hi h h1) (k : TF own ρ as lo hi h1 h') : TF own ρ as lo hi h h' := ⟨k.1.trans o.1, fun x e => k.2.1 x (o.2.1 x e), fun x c e q => k.2.2 x c (o.2.2 x c e q) q⟩
theorem TF.mono {lo' hi' : Nat} (o : TF own ρ as lo hi h h') (k : ∀ x, inT as lo hi x → inT as' lo' hi' x) : TF own ρ as' lo' hi' h h' := ⟨o.1, o.2.1, fun x c e q => o.2.2 x c e (by
  rcases q with q | q | q
  · exact Or.inl q
  · exact Or.inr (Or.inl q)
  · exact Or.inr (Or.inr fun z => q (k x z)))⟩
theorem TF.kd {x : Nat} {c : PC} (o : TF own ρ as lo hi h h') (e : h.1 x = some c) (k : tK c = false) : h'.1 x = some c := o.2.2 x c e (Or.inr (Or.inl k))
theorem TF.ow {x : Nat} {c : PC} (o : TF own ρ as lo hi h h') (e : h.1 x = some c) (k : own x ≠ ρ) : h'.1 x = some c := o.2.2 x c e (Or.inl k)
theorem TF.out {x : Nat} {c : PC} (o : TF own ρ as lo hi h h') (e : h.1 x = some c) (k : ¬ inT as lo hi x) : h'.1 x = some c := o.2.2 x c e (Or.inr (Or.inr k))
theorem TF.wf (o : TF own ρ as lo hi h h') (w : Wf h) : Wf h' := fun x hx => by
  rw [o.1] at hx
  exact o.2.1 x (w x hx)
theorem Only.tf {a : Nat} {l : List Bool} (o : Only h h' a) (ea : LeafL h a l) (o1 : own a = ρ) (o2 : own (a + 1) = ρ) : TF own ρ [a] lo hi h h' := by
  obtain ⟨a1, g, ⟨s, v, g1, g2, g3⟩, a3⟩ := ea
  refine ⟨o.1, fun x e => ?_, fun x c e q => ?_⟩
  · have n1 : x ≠ a := fun q => by rw [q, g1] at e; cases e
    have n2 : x ≠ a + 1 := fun q => by rw [q, g2] at e; cases e
    rw [o.2 x n1 n2]; exact e
  · have n1 : x ≠ a := fun n1 => by
      rcases q with q | q | q
      · exact q (by rw [n1]; exact o1)
      · rw [n1, g1] at e
        injection e with e
        rw [← e] at q
        cases q
      · exact q (Or.inl ⟨a, List.mem_singleton.mpr rfl, Or.inl n1⟩)
    have n2 : x ≠ a + 1 := fun n1 => by
      rcases q with q | q | q
      · exact q (by rw [n1]; exact o2)
      · rw [n1, g2] at e
        injection e with e
        rw [← e] at q
        cases q
      · exact q (Or.inl ⟨a, List.mem_singleton.mpr rfl, Or.inr n1⟩)
    rw [o.2 x n1 n2]; exact e
theorem TF.set {a : Nat} {c d : PC} (e : h.1 a = some d) (o1 : own a = ρ) (k : tK d = true) (b1 : lo ≤ a) (b2 : a < hi) : TF own ρ as lo hi h (hset h a c) := by
  refine ⟨rfl, fun x q => ?_, fun x c' e' q => ?_⟩
  · have n1 : x ≠ a := fun n => by rw [n, e] at q; cases q
    rw [up_ne n1]; exact q
  · have n1 : x ≠ a := fun n => by
      rcases q with q | q | q
      · exact q (by rw [n]; exact o1)
      · rw [n, e] at e'
        injection e' with e'
        rw [← e', k] at q
        cases q
      · exact q (Or.inr (by omega))
    rw [up_ne n1]; exact e'
theorem LeafL.frame {a : Nat} {l : List Bool} (e : LeafL h a l) (k : ∀ x c, (x = a ∨ x = a + 1) → h.1 x = some c → h'.1 x = some c) : LeafL h' a l := by
  obtain ⟨a1, g, ⟨s, v, g1, g2, g3⟩, a3⟩ := e
  exact ⟨a1, g, ⟨s, v, k _ _ (Or.inl rfl) g1, k _ _ (Or.inr rfl) g2, g3⟩, a3⟩
theorem leaf_dis {p q : Nat} {l l' : List Bool} (e : LeafL h p l) (e' : LeafL h q l') : p ≠ q + 1 := fun n => by
  obtain ⟨a1, g, ⟨s, v, g1, g2, g3⟩, a3⟩ := e
  obtain ⟨a1', g', ⟨s', v', g1', g2', g3'⟩, a3'⟩ := e'
  rw [n, g2'] at g1
  cases g1
abbrev nodeC (s o n : Int) (ka : Nat) (w : Bool) : PC := .inr (10, [.int (ii s), .int (ii o), .int (ii n), .ref ka, .int (ii (bn w))])
/-- what lies under an inner node -/
def Kids (T : Nat → LX → Nat → Nat → Prop) (own : Nat → Nat) (ρ b : Nat) (h : PH) (a ka k0 k1 lo m m' hi : Nat) (x0 x1 : LX) : Prop :=
  (own a = ρ ∧ own ka = ρ) ∧ (∃ t f, h.1 ka = some (.inl (t, 2, .inr (.inr (.inr (.inr f))))) ∧ f 0 = some k0 ∧ f 1 = some k1 ∧ 4 ≤ t ∧ t < 7) ∧ (b ≤ lo ∧ lo ≤ m ∧ m ≤ m' ∧ m' ≤ ka ∧ ka < hi ∧ m' ≤ a ∧ a < hi) ∧ (x1.length ≤ x0.length ∧ x0.length ≤ x1.length + 1 ∧ 1 ≤ x1.length) ∧ T k0 x0 lo m ∧ T k1 x1 m m'
def Tree (own : Nat → Nat) (ρ b : Nat) (h : PH) : Nat → Nat → LX → Nat → Nat → Prop
  | 0, _, _, _, _ => False
  | d + 1, a, xs, lo, hi => (∃ l, xs = [(a, l)] ∧ LeafL h a l ∧ own a = ρ ∧ own (a + 1) = ρ ∧ a + 1 < b ∧ b ≤ lo ∧ lo ≤ hi) ∨
    ∃ ka k0 k1 m m' w x0 x1, Kids (fun k xs lo hi => Tree own ρ b h d k xs lo hi) own ρ b h a ka k0 k1 lo m m' hi x0 x1 ∧ h.1 a = some (nodeC (fl xs).length (cnt (fl xs)) xs.length ka w) ∧ xs = trn w (x0 ++ x1)
theorem Tree.bd {d a : Nat} {xs : LX} (T : Tree own ρ b h d a xs lo hi) : b ≤ lo ∧ lo ≤ hi ∧ 1 ≤ xs.length := by
  cases d with
  | zero => exact absurd T id
  | succ d =>
    rcases T with ⟨l, q, -, -, -, -, q1, q2⟩ | ⟨ka, k0, k1, m, m', w, x0, x1, ⟨-, -, q1, q3, -, -⟩, -, q⟩
    · subst q; exact ⟨q1, q2, Nat.le_refl _⟩
    · have := congrArg List.length (congrArg ad q)
      rw [ad_trn, ad_len, ad_len, List.length_append] at this
      omega
theorem Tree.leafs {d : Nat} : ∀ {a lo hi : Nat} {xs : LX}, Tree own ρ b h d a xs lo hi → ∀ p, p ∈ ad xs → (∃ l, LeafL h p l) ∧ p + 1 < b ∧ own p = ρ ∧ own (p + 1) = ρ := by
  induction d with
  | zero => intro a lo hi xs T; exact absurd T id
  | succ d ih =>
    intro a lo hi xs T p hp
    rcases T with ⟨l, q, q1, q2, q3, q4, -, -⟩ | ⟨ka, k0, k1, m, m', w, x0, x1, ⟨-, -, -, -, t0, t1⟩, -, q⟩
    · subst q
      have : p = a := by simpa [ad] using hp
      subst this
      exact ⟨⟨l, q1⟩, q4, q2, q3⟩
    · rw [q, ad_trn, ad_app, List.mem_append] at hp
      rcases hp with hp | hp
      · exact ih t0 p hp
      · exact ih t1 p hp
theorem Tree.frame {d : Nat} : ∀ {a lo hi : Nat} {xs : LX}, Tree own ρ b h d a xs lo hi → (∀ x c, inT (ad xs) lo hi x → h.1 x = some c → h'.1 x = some c) → Tree own ρ b h' d a xs lo hi := by
  induction d with
  | zero => intro a lo hi xs T; exact absurd T id
  | succ d ih =>
    intro a lo hi xs T k
    rcases T with ⟨l, q, q1, q2, q3, q4, q5, q6⟩ | ⟨ka, k0, k1, m, m', w, x0, x1, ⟨u1, ⟨t, f, f1, f2, f3, f4, f5⟩, u3, u4, t0, t1⟩, e, q⟩
    · refine Or.inl ⟨l, q, q1.frame (fun x c hx hc => k x c (Or.inl ⟨a, ?_, hx⟩) hc), q2, q3, q4, q5, q6⟩
      rw [q]; simp [ad]
    · have hq : ad xs = ad x0 ++ ad x1 := by rw [q, ad_trn, ad_app]
      refine Or.inr ⟨ka, k0, k1, m, m', w, x0, x1, ⟨u1, ⟨t, f, k _ _ (Or.inr (by omega)) f1, f2, f3, f4, f5⟩, u3, u4, ih t0 (fun x c hx hc => k x c ?_ hc), ih t1 (fun x c hx hc => k x c ?_ hc)⟩, k _ _ (Or.inr (by omega)) e, q⟩
      · rcases hx with ⟨p, hp, z⟩ | z
        · exact Or.inl ⟨p, by rw [hq]; exact List.mem_append_left _ hp, z⟩
        · exact Or.inr (by omega)
      · rcases hx with ⟨p, hp, z⟩ | z
        · exact Or.inl ⟨p, by rw [hq]; exact List.mem_append_right _ hp, z⟩
        · exact Or.inr (by omega)
/-- two trees beside one another -/
theorem tree_dis {d d' a a' : Nat} {x0 x1 : LX} {lo1 hi1 : Nat} (t0 : Tree own ρ b h d a x0 lo hi) (t1 : Tree own ρ b h d' a' x1 lo1 hi1) (hd : hi ≤ lo1 ∨ hi1 ≤ lo) (nd : ∀ p, p ∈ ad x0 → p ∈ ad x1 → False) (x : Nat) (z0 : inT (ad x0) lo hi x) (z1 : inT (ad x1) lo1 hi1 x) : False := by
  have b0 := t0.bd
  have b1 := t1.bd
  rcases z0 with ⟨p, hp, z0⟩ | z0
  · obtain ⟨⟨l, p1⟩, p2, -, -⟩ := t0.leafs p hp
    rcases z1 with ⟨q, hq, z1⟩ | z1
    · obtain ⟨⟨l', q1⟩, q2, -, -⟩ := t1.leafs q hq
      have n1 := leaf_dis p1 q1
      have n2 := leaf_dis q1 p1
      have n3 : p = q := by omega
      subst n3
      exact nd p hp hq
    · omega
  · rcases z1 with ⟨q, hq, z1⟩ | z1
    · obtain ⟨⟨l', q1⟩, q2, -, -⟩ := t1.leafs q hq
      omega
    · omega
theorem Tree.sib {d d' a a' : Nat} {x0 x1 : LX} {lo1 hi1 : Nat} (t1 : Tree own ρ b h d' a' x1 lo1 hi1) (t0 : Tree own ρ b h d a x0 lo hi) (o : TF own ρ (ad x0) lo hi h h') (hd : hi ≤ lo1 ∨ hi1 ≤ lo) (nd : ∀ p, p ∈ ad x0 → p ∈ ad x1 → False) : Tree own ρ b h' d' a' x1 lo1 hi1 :=
  t1.frame fun x c hx hc => o.out hc fun z => tree_dis t0 t1 hd nd x z hx
theorem Tree.hd {d a : Nat} {xs : LX} (T : Tree own ρ b h d a xs lo hi) : ∃ c fs, h.1 a = some (.inr (c, fs)) ∧ c ∈ [9, 10] ∧ fs[0]? = some (.int (ii (fl xs).length)) ∧ fs[1]? = some (.int (ii (cnt (fl xs)))) ∧ fs[2]? = some (.int (ii xs.length)) := by
  cases d with
  | zero => exact absurd T id
  | succ d =>
    rcases T with ⟨l, q, q1, -, -, -, -, -⟩ | ⟨ka, k0, k1, m, m', w, x0, x1, -, e, q⟩
    · subst q
      obtain ⟨t, e⟩ := q1.ln
      refine ⟨9, _, e, by decide, ?_, ?_, ?_⟩
      · simp [fl]
      · simp [fl]
      · show some (Value.int 1) = some (Value.int (ii 1))
        rw [← il_1]
    · exact ⟨10, _, e, by decide, rfl, rfl, rfl⟩
theorem Kids.at {d a ka k0 k1 : Nat} {x0 x1 : LX} (K : Kids (fun k xs lo hi => Tree own ρ b h d k xs lo hi) own ρ b h a ka k0 k1 lo m m' hi x0 x1) (k : ∀ x c, (x < m' ∨ x = ka) → h.1 x = some c → h'.1 x = some c) : Kids (fun k xs lo hi => Tree own ρ b h' d k xs lo hi) own ρ b h' a ka k0 k1 lo m m' hi x0 x1 := by
  obtain ⟨u1, ⟨t, f, f1, f2, f3, f4, f5⟩, u3, u4, t0, t1⟩ := K
  refine ⟨u1, ⟨t, f, k _ _ (Or.inr rfl) f1, f2, f3, f4, f5⟩, u3, u4, t0.frame (fun x c hx hc => k x c ?_ hc), t1.frame (fun x c hx hc => k x c ?_ hc)⟩
  · rcases hx with ⟨p, hp, z⟩ | z
    · have := t0.leafs p hp
      exact Or.inl (by omega)
    · exact Or.inl (by omega)
  · rcases hx with ⟨p, hp, z⟩ | z
    · have := t1.leafs p hp
      exact Or.inl (by omega)
    · exact Or.inl (by omega)
theorem Tree.lt {d a : Nat} {xs : LX} (T : Tree own ρ b h d a xs lo hi) : a < hi := by
  cases d with
  | zero => exact absurd T id
  | succ d =>
    rcases T with ⟨l, q, -, -, -, q0, q1, q2⟩ | ⟨ka, k0, k1, m, m', w, x0, x1, ⟨-, -, q1, q3, -, -⟩, -, q⟩
    · omega
    · omega
/-- rope frames -/
def RF (own : Nat → Nat) (ρ : Nat) (h h' : PH) : Prop := h.2.1.1 ≤ h'.2.1.1 ∧ h.2.1.2 ≤ h'.2.1.2 ∧ h'.2.2 = h.2.2 ∧ Wf h' ∧ ∀ x c, h.1 x = some c → (own x ≠ ρ ∨ rK c = false) → h'.1 x = some c
theorem RF.kd {x : Nat} {c : PC} (o : RF own ρ h h') (e : h.1 x = some c) (k : rK c = false) : h'.1 x = some c := o.2.2.2.2 x c e (Or.inr k)
theorem RF.ow {x : Nat} {c : PC} (o : RF own ρ h h') (e : h.1 x = some c) (k : own x ≠ ρ) : h'.1 x = some c := o.2.2.2.2 x c e (Or.inl k)
theorem RF.wf (o : RF own ρ h h') : Wf h' := o.2.2.2.1
theorem RF.rf (w : Wf h) : RF own ρ h h := ⟨Nat.le_refl _, Nat.le_refl _, rfl, w, fun _ _ e _ => e⟩
theorem RF.trans (o : RF own ρ h h1) (k : RF own ρ h1 h') : RF own ρ h h' := ⟨Nat.le_trans o.1 k.1, Nat.le_trans o.2.1 k.2.1, k.2.2.1.trans o.2.2.1, k.2.2.2.1, fun x c e q => k.2.2.2.2 x c (o.2.2.2.2 x c e q) q⟩
theorem tK_rK {c : PC} (k : rK c = false) : tK c = false := by
  unfold rK at k
  cases hc : tK c
  · rfl
  · rw [hc] at k; simp at k
theorem TF.rF (o : TF own ρ as lo hi h h') (w : Wf h) : RF own ρ h h' := ⟨by rw [o.1]; exact Nat.le_refl _, by rw [o.1]; exact Nat.le_refl _, by rw [o.1], o.wf w, fun x c e q => o.2.2 x c e (by
  rcases q with q | q
  · exact Or.inl q
  · exact Or.inr (Or.inl (tK_rK q)))⟩
theorem RF.set {a : Nat} {c d : PC} (w : Wf h) (e : h.1 a = some d) (o1 : own a = ρ) (k : rK d = true) : RF own ρ h (hset h a c) := by
  refine ⟨Nat.le_refl _, Nat.le_refl _, rfl, w.setE e, fun x c' e' q => ?_⟩
  have n1 : x ≠ a := fun n => by
    rcases q with q | q
    · exact q (by rw [n]; exact o1)
    · rw [n, e] at e'
      injection e' with e'
      rw [← e', k] at q
      cases q
  rw [up_ne n1]; exact e'
theorem RF.new {n : Nat} {c : PC} (w : Wf h) : RF own ρ h (hnew h n c) := ⟨Nat.le_succ _, Nat.le_add_right _ _, rfl, w.new, fun x c' e' _ => new_old w e'⟩
theorem RF.bump {k n : Nat} (w : Wf h) : RF own ρ h (hbump h k n) := ⟨Nat.le_add_right _ _, Nat.le_add_right _ _, rfl, w.bump, fun x c' e' _ => e'⟩
end
