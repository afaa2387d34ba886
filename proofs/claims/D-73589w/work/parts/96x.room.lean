/-! PURE SIDE: rooms: what is read; the component: words -/
set_option maxRecDepth 100000
/-- what is read of a room: low, how many rows, names, bits, letters, were letters seen -/
abbrev RS : Type := Nat × Nat × (Nat → List Nat) × (Nat → List Bool) × List Nat × Bool
abbrev RS.lo (S : RS) : Nat := S.1
abbrev RS.n (S : RS) : Nat := S.2.1
abbrev RS.nm (S : RS) : Nat → List Nat := S.2.2.1
abbrev RS.bs (S : RS) : Nat → List Bool := S.2.2.2.1
abbrev RS.T (S : RS) : List Nat := S.2.2.2.2.1
abbrev RS.hl (S : RS) : Bool := S.2.2.2.2.2
def bldL (low : Nat) (l : List Bool) : LL := l.foldl (fun ls c => insL low ls.flatten.length c ls) []
def wAll (f : Nat → Nat) (t : Tk) (lo hi ex : Nat) : Bool := (seg f t.at_ t.p).all fun c => decide (lo ≤ c ∧ c ≤ hi) || decide (c = ex)
def wBits (f : Nat → Nat) (t : Tk) : List Bool := (seg f t.at_ t.p).map fun c => decide (c = 105)
def wLets (f : Nat → Nat) (t : Tk) : List Nat := (seg f t.at_ t.p).map fun c => c - 97
abbrev RR (α : Type) : Type := (Nat × Nat) ⊕ (α × Tk)
/-- the words of a row -/
def rmR (f : Nat → Nat) (n : Nat) : Nat → List Bool → Tk → RR (List Bool)
  | 0, _, _ => .inl (0, 0)
  | k + 1, l, t => if t.k ≠ 1 then .inr (l, t) else if wAll f t 105 105 111 = false then .inl (2, t.at_) else if 600 < l.length + (t.p - t.at_) then .inl (4, t.at_) else rmR f n k (l ++ wBits f t) (nx f n 900 t)
/-- the words of letters -/
def rmLt (f : Nat → Nat) (n : Nat) : Nat → List Nat → Tk → RR (List Nat)
  | 0, _, _ => .inl (0, 0)
  | k + 1, l, t => if t.k ≠ 1 then .inr (l, t) else if wAll f t 97 104 97 = false then .inl (2, t.at_) else if 200 < l.length + (t.p - t.at_) then .inl (4, t.at_) else rmLt f n k (l ++ wLets f t) (nx f n 900 t)
def rmN (f : Nat → Nat) (n : Nat) (S : RS) (t : Tk) : RR RS := if nmOk f t = false then .inl (1, t.at_) else if ofN S.nm (seg f t.at_ t.p) S.n 0 ≠ -1 then .inl (3, t.at_) else match rmR f n 942 [] (nx f n 900 t) with
  | .inl e => .inl e
  | .inr (l, t') => .inr ((S.lo, S.n + 1, va_up S.nm S.n (seg f t.at_ t.p), va_up S.bs S.n l, S.T, S.hl), t')
def rmV (f : Nat → Nat) (n : Nat) (S : RS) (t : Tk) : RR RS := if t.k ≠ 2 then .inl (1, t.at_) else if ¬ (4 ≤ nv (seg f t.at_ t.p) ∧ nv (seg f t.at_ t.p) ≤ 32) then .inl (2, t.at_) else .inr ((nv (seg f t.at_ t.p), S.2), nx f n 900 t)
def rmT (f : Nat → Nat) (n : Nat) (S : RS) (t : Tk) : RR RS := match rmLt f n 942 S.T t with
  | .inl e => .inl e
  | .inr (l, t') => .inr ((S.lo, S.n, S.nm, S.bs, l, true), t')
def rmW (f : Nat → Nat) (n : Nat) (w : Nat) (S : RS) (t : Tk) : RR RS := if w = 0 then rmV f n S t else if w = 1 then rmN f n S t else rmT f n S t
def rmLn (f : Nat → Nat) (n c : Nat) (S : RS) (t : Tk) : RR RS := if fkw f t 0 3 0 = -1 then .inl (1, t.at_) else if fkw f t 0 3 0 = 0 ∧ c ≠ 0 then .inl (3, t.at_) else if fkw f t 0 3 0 = 2 ∧ S.hl = true then .inl (3, t.at_) else if fkw f t 0 3 0 = 1 ∧ 4 ≤ S.n then .inl (4, t.at_) else rmW f n (fkw f t 0 3 0).toNat S (nx f n 900 t)
def rmA (f : Nat → Nat) (n : Nat) : Nat → Nat → RS → Tk → (Nat × Nat) ⊕ (Nat × RS)
  | 0, _, _, _ => .inl (0, 0)
  | k + 1, c, S, t => if t.k = 0 then .inr (c, S) else match rmLn f n c S t with
    | .inl e => .inl e
    | .inr (S', t') => if isSg f t' 59 = false then .inl (1, t'.at_) else rmA f n k (c + 1) S' (nx f n 900 t')
section
variable {b : Nat → Nat} {f : Nat → Nat} {n ro z' : Nat} {x10 : Int32} {t : Tk} {h h1 h' : PH} {Z : Rt → PH → Prop} {x8 x9 : Value}
theorem seg_drop {a p j : Nat} (hj : j < p - a) : (seg f a p).drop j = f (a + j) :: (seg f a p).drop (j + 1) := by
  have hl : j < (seg f a p).length := by rw [seg_len]; exact hj
  have e : (seg f a p)[j] = f (a + j) := by simp [seg]
  rw [List.drop_eq_getElem_cons hl, e]
theorem p_isOf_l {lo hi ex : Nat} (J : RJ b f n 5 (b 5) 900 x8 x9 x10 t h) (h1 : t.k = 1) (hlo : lo ≤ 1000 ∧ hi ≤ 1000 ∧ ex ≤ 1000) : ∀ (m fu j : Nat), m < fu → j + m = t.p - t.at_ → itr (c_DR_isOf_l3) (fun _ _ _ _ _ _ => none) fu h (b 5) (ii lo) (ii hi) (ii ex) (ii j) = rI (ii (bn (((seg f t.at_ t.p).drop j).all fun c => decide (lo ≤ c ∧ c ≤ hi) || decide (c = ex)))) h := by
  obtain ⟨⟨v, mn, nmv, e, tv⟩, T, _, _, tk, _⟩ := J
  have emn := (tv.1 h1).1
  obtain ⟨⟨fs, a1, a2, a3⟩, ⟨g, a4, a5⟩, a6, a7⟩ := T
  have okl := (tk.2.1 h1).1
  have hat := (tk.2.1 h1).2
  have hp := tk.1.1
  intro m
  induction m with
  | zero =>
    intro fu j hf hj
    obtain ⟨fu, rfl⟩ : ∃ x, fu = x + 1 := ⟨fu - 1, by omega⟩
    refine eqI ?_
    rw [itr_succ]
    unfold c_DR_isOf_l3
    refine q_gI e (by decide) rfl ?_
    rw [emn]
    refine q_pos _ (ii_leT (by omega)) ?_
    rw [List.drop_of_length_le (by rw [seg_len]; omega)]
    exact q_rZ1 ⟨rfl, rfl⟩
  | succ m ih =>
    intro fu j hf hj
    obtain ⟨fu, rfl⟩ : ∃ x, fu = x + 1 := ⟨fu - 1, by omega⟩
    have hc := a7 (t.at_ + j)
    have hr : 97 ≤ f (t.at_ + j) ∧ f (t.at_ + j) ≤ 122 := okl.2.2 _ (by
      have := seg_drop (f := f) (a := t.at_) (p := t.p) (j := j) (by omega)
      exact List.mem_of_mem_drop (by rw [this]; exact List.mem_cons_self))
    have sb : sbv (f (t.at_ + j)) = (f (t.at_ + j) : Int) := by unfold sbv; rw [if_pos (by omega)]
    have go := ih fu (j + 1) (by omega) (by omega)
    refine eqI ?_
    rw [itr_succ]
    unfold c_DR_isOf_l3
    refine q_gI e (by decide) rfl ?_
    rw [emn]
    refine q_neg _ (ii_leF (by omega)) ?_
    refine q_gQr e (by decide) rfl ?_
    refine q_nn ?_
    refine q_gQr a1 (by decide) a2 ?_
    refine q_gI e (by decide) rfl ?_
    refine q_nn ?_
    rw [ii_add]
    refine q_ldI a4 (by omega) ?_
    rw [show ((t.at_ : Int) + (j : Int)).toNat = t.at_ + j by omega, a5 _ (by omega), sb]
    rw [seg_drop (by omega), List.all_cons]
    refine q_in (a := lo) (b := hi) rfl rfl (by omega) (fun q => ?_) fun q => ?_
    · refine q_gQr e (by decide) rfl ?_
      refine q_nn ?_
      refine q_gQr a1 (by decide) a2 ?_
      refine q_gI e (by decide) rfl ?_
      refine q_nn ?_
      rw [ii_add]
      refine q_ldI a4 (by omega) ?_
      rw [show ((t.at_ : Int) + (j : Int)).toNat = t.at_ + j by omega, a5 _ (by omega), sb]
      by_cases c : f (t.at_ + j) = ex
      · refine q_pos _ (by rw [c]) ?_
        rw [decide_eq_true c, Bool.or_true, Bool.true_and, add1]
        exact ⟨_, _, go, rfl, rfl⟩
      · refine q_neg _ (ii_eqF (by omega)) ?_
        rw [decide_eq_false c, decide_eq_false (by omega : ¬ (lo ≤ f (t.at_ + j) ∧ f (t.at_ + j) ≤ hi))]
        exact q_rZ0 ⟨rfl, rfl⟩
    · rw [decide_eq_true (by omega : lo ≤ f (t.at_ + j) ∧ f (t.at_ + j) ≤ hi), Bool.true_or, Bool.true_and, add1]
      exact ⟨_, _, go, rfl, rfl⟩
theorem p_isOf {lo hi ex : Nat} (J : RJ b f n 5 (b 5) 900 x8 x9 x10 t h) (h1 : t.k = 1) (hlo : lo ≤ 1000 ∧ hi ≤ 1000 ∧ ex ≤ 1000) : c_DR_isOf h (b 5) (ii lo) (ii hi) (ii ex) = rI (ii (bn (wAll f t lo hi ex))) h := by
  unfold c_DR_isOf
  rw [J.grd (by decide)]
  have hp := J.ok.1.1
  have hn := J.hn
  have := p_isOf_l J h1 hlo (t.p - t.at_) FU 0 (by unfold FU; omega) (by omega)
  rw [List.drop_zero] at this
  exact this
theorem bldL_app {low : Nat} {l : List Bool} {c : Bool} : bldL low (l ++ [c]) = insL low (bldL low l).flatten.length c (bldL low l) := by
  unfold bldL
  rw [List.foldl_append]
  rfl
theorem bld_acc {low : Nat} : ∀ (l : List Bool) (ls : LL), LsB low ls → ls.flatten.length + l.length ≤ 600 → LsB low (l.foldl (fun ls c => insL low ls.flatten.length c ls) ls) ∧ (l.foldl (fun ls c => insL low ls.flatten.length c ls) ls).flatten = ls.flatten ++ l := by
  intro l
  induction l with
  | nil => intro ls B _; exact ⟨B, (List.append_nil _).symm⟩
  | cons c l ih =>
    intro ls B hn
    rw [List.length_cons] at hn
    have fl : (insL low ls.flatten.length c ls).flatten = ls.flatten ++ [c] := by
      rw [insL_fl (Nat.le_refl _) (fun x hx => (B.2.2 x hx).1)]
      unfold insB
      rw [List.take_length, List.drop_length]
    obtain ⟨i1, i2⟩ := ih (insL low ls.flatten.length c ls) (insL_ok B (Nat.le_refl _) (by omega)) (by rw [fl, List.length_append, List.length_singleton]; omega)
    rw [List.foldl_cons]
    refine ⟨i1, ?_⟩
    rw [i2, fl, List.append_assoc]
    rfl
theorem bldL_ok {low : Nat} (hl : 4 ≤ low ∧ low ≤ 32) {l : List Bool} (h : l.length ≤ 600) : LsB low (bldL low l) ∧ (bldL low l).flatten = l := by
  obtain ⟨a, c⟩ := bld_acc (low := low) l [] (LsB.nil hl) (by rw [List.flatten_nil, List.length_nil]; omega)
  exact ⟨a, c⟩
end
