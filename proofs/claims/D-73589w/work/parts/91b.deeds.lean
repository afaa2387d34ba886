/-! PURE SIDE: deeds on rows -/
set_option maxRecDepth 100000
def remN (low i : Nat) : Nat → LL → LL
  | 0, ls => ls
  | n + 1, ls => remN low i n (remL low i ls)
def appL (low : Nat) : List Bool → LL → LL
  | [], ls => ls
  | b :: bs, ls => appL low bs (insL low ls.flatten.length b ls)
theorem insB_end {b : Bool} {l : List Bool} : insB l.length b l = l ++ [b] := by unfold insB; rw [List.take_length, List.drop_length]
theorem remN_ok {low i : Nat} : ∀ {n : Nat} {ls : LL}, LsB low ls → i + n ≤ ls.flatten.length → LsB low (remN low i n ls) ∧ (remN low i n ls).flatten = ls.flatten.take i ++ ls.flatten.drop (i + n) := by
  intro n
  induction n with
  | zero => intro ls B h; exact ⟨B, (List.take_append_drop i _).symm⟩
  | succ n ih =>
    intro ls B h
    have hp : ∀ l, l ∈ ls → 1 ≤ l.length := fun l hl => (B.leaf hl).1
    have hi : i < ls.flatten.length := by omega
    have e1 := remL_fl (low := low) hi hp
    have e2 := remB_len hi
    obtain ⟨q1, q2⟩ := ih (ls := remL low i ls) (remL_ok B hi) (by rw [e1]; omega)
    refine ⟨q1, ?_⟩
    show (remN low i n (remL low i ls)).flatten = _
    rw [q2, e1]
    unfold remB
    have l1 : (ls.flatten.take i).length = i := by rw [List.length_take]; omega
    rw [List.take_append_of_le_length (by omega), List.take_of_length_le (by omega), List.drop_append, List.drop_of_length_le (by omega), l1, List.nil_append, List.drop_drop]
    congr 2
    omega
theorem appL_ok {low : Nat} : ∀ {bs : List Bool} {ls : LL}, LsB low ls → ls.flatten.length + bs.length ≤ 600 → LsB low (appL low bs ls) ∧ (appL low bs ls).flatten = ls.flatten ++ bs := by
  intro bs
  induction bs with
  | nil => intro ls B h; exact ⟨B, (List.append_nil _).symm⟩
  | cons b bs ih =>
    intro ls B h
    rw [List.length_cons] at h
    have hp : ∀ l, l ∈ ls → 1 ≤ l.length := fun l hl => (B.leaf hl).1
    have e1 := insL_fl (low := low) (b := b) (Nat.le_refl ls.flatten.length) hp
    rw [insB_end] at e1
    obtain ⟨q1, q2⟩ := ih (ls := insL low ls.flatten.length b ls) (insL_ok B (Nat.le_refl _) (by omega)) (by rw [e1, List.length_append, List.length_singleton]; omega)
    refine ⟨q1, ?_⟩
    show (appL low bs (insL low ls.flatten.length b ls)).flatten = _
    rw [q2, e1, List.append_assoc]
    rfl
theorem up_up {α : Type} {f : Nat → α} {k : Nat} {v u : α} : va_up (va_up f k v) k u = va_up f k u := by
  funext x
  unfold va_up
  by_cases c : x = k
  · rw [if_pos c, if_pos c]
  · rw [if_neg c, if_neg c, if_neg c]
section
variable {B z low : Nat} {R : Nat → Nat} {rows seed : Int32}
theorem z_cuts_l3 {r i n : Nat} (hr : r < 4) (hi : i ≤ 999) (hn : n ≤ 600) : ∀ (m fu k : Nat) (h : PH) (own : Nat → Nat) (N : Nat → Nat) (T : Nat → Bool) (A : Nat → LL), m < fu → k + m = n → SR own B h z low A R N T rows seed → Wf h → i + m ≤ (A r).flatten.length → EV (itr (c_S_cuts_l3) (fun _ _ _ _ _ _ => none) fu h z (ii r) (ii i) (ii n) (ii k)) (fun h' => SO own B z low R N h (va_up A r (remN low i m (A r))) rows seed 0 0 h') := by
  intro m
  induction m with
  | zero =>
    intro fu k h own N T A hf hk S wf hl
    obtain ⟨fu, rfl⟩ : ∃ x, fu = x + 1 := ⟨fu - 1, by omega⟩
    refine EV.of ?_
    rw [itr_succ]
    unfold c_S_cuts_l3
    refine q_pos _ (ii_leT (by omega)) ?_
    refine q_rV ⟨rfl, ?_⟩
    show SO own B z low R N h (va_up A r (A r)) rows seed 0 0 h
    rw [va_up_same]
    exact SO.rf S wf
  | succ m ih =>
    intro fu k h own N T A hf hk S wf hl
    obtain ⟨fu, rfl⟩ : ∃ x, fu = x + 1 := ⟨fu - 1, by omega⟩
    refine EV.of ?_
    rw [itr_succ]
    unfold c_S_cuts_l3
    refine q_neg _ (ii_leF (by omega)) ?_
    refine q_rp S hr ?_
    have P := S.2.1 r (by omega)
    refine q_hV (p_remove P wf (by omega)) fun h7 ⟨g1, g2, g3⟩ => ?_
    rw [il_1, ii_add]
    obtain ⟨own1, N1, T1, S1, G1, y1, y2⟩ := SO.one (c := 0) (s := 0) S wf (by omega) (fun _ _ => rfl) g1 g2 (by rw [g3]; exact Nat.le_refl _) (by rw [g3]; exact Nat.le_refl _)
    have hp : ∀ l, l ∈ A r → 1 ≤ l.length := fun l hl => (P.2.1.leaf hl).1
    have e1 := remL_fl (low := low) (i := i) (ls := A r) (by omega) hp
    have e2 := remB_len (i := i) (l := (A r).flatten) (by omega)
    refine Ends.ofEV (ih fu (k + 1) h7 own1 N1 T1 _ (by omega) (by omega) S1 G1.wf (by rw [up_at, e1]; omega)) fun h' q => ⟨rfl, ?_⟩
    have := SO.trans wf S1 G1 y1 y2 q
    rw [up_at, up_up] at this
    exact this
theorem z_cuts {r i n : Nat} {own N : Nat → Nat} {T : Nat → Bool} {A : Nat → LL} {h : PH} (S : SR own B h z low A R N T rows seed) (wf : Wf h) (hr : r < 4) (hn : n ≤ 600) (hi : i ≤ 999) (hl : i + n ≤ (A r).flatten.length) : EV (c_S_cuts h z (ii r) (ii i) (ii n)) (fun h' => SO own B z low R N h (va_up A r (remN low i n (A r))) rows seed 0 0 h') := by
  refine EV.of ?_
  unfold c_S_cuts
  refine S.grd ?_
  exact Ends.ofEV (z_cuts_l3 hr hi hn n FU 0 h own N T A (by unfold FU; omega) (by omega) S wf hl) fun h' q => ⟨rfl, q⟩
theorem PK.gf {own own' : Nat → Nat} {h h' : PH} {a : Nat} {ls : LL} {fs : List Value} (P : PK own B h a ls) (o : GF own own' R z h h') (wf : Wf h) (ez : h.1 z = some (.inr (3, fs))) (hB : ∀ k, k < 11 → R k ≠ B) : PK own' B h' a ls := by
  obtain ⟨ba, sa, f, g, p1, p2, p3, p4, p5, p6⟩ := P
  have n1 : a ≠ z := kd_ne p1 ez rfl
  have n2 : ba ≠ z := kd_ne p3 ez rfl
  have n3 : sa ≠ z := kd_ne p4 ez rfl
  exact ⟨ba, sa, f, g, o.kd p1 n1 rfl, ⟨(o.2.2.2.2.1 _ (wf.lt p3)).trans p2.1, (o.2.2.2.2.1 _ (wf.lt p4)).trans p2.2⟩, o.2.2.2.2.2 _ _ p3 n2 (Or.inl fun k hk q => hB k hk (by rw [← q, p2.1])), o.kd p4 n3 rfl, p5, p6⟩
theorem z_moves_l25 {s p : Nat} {ls : LL} (hs : s < 4) (hT : ls.flatten.length ≤ 600) : ∀ (m fu k : Nat) (h : PH) (own : Nat → Nat) (N : Nat → Nat) (T : Nat → Bool) (A : Nat → LL), m < fu → k + m = ls.flatten.length → SR own B h z low A R N T rows seed → Wf h → PK own B h p ls → (A s).flatten.length + m ≤ 600 → EV (itr (c_S_moves_l25) (fun _ _ _ _ _ _ => none) fu h z (ii s) (some p) (ii ls.flatten.length) (ii k)) (fun h' => SO own B z low R N h (va_up A s (appL low (ls.flatten.drop k) (A s))) rows seed 0 0 h') := by
  intro m
  induction m with
  | zero =>
    intro fu k h own N T A hf hk S wf P hl
    obtain ⟨fu, rfl⟩ : ∃ x, fu = x + 1 := ⟨fu - 1, by omega⟩
    refine EV.of ?_
    rw [itr_succ]
    unfold c_S_moves_l25
    refine q_pos _ (ii_leT (by omega)) ?_
    refine q_rV ⟨rfl, ?_⟩
    rw [List.drop_of_length_le (by omega)]
    show SO own B z low R N h (va_up A s (A s)) rows seed 0 0 h
    rw [va_up_same]
    exact SO.rf S wf
  | succ m ih =>
    intro fu k h own N T A hf hk S wf P hl
    obtain ⟨fu, rfl⟩ : ∃ x, fu = x + 1 := ⟨fu - 1, by omega⟩
    obtain ⟨ra, na, rf, nf, e1, e2, e3, e4, e5⟩ := S.cell
    have P' := P
    obtain ⟨ba, sa, f, g, p1, p2, p3, p4, p5, p6⟩ := P'
    have Ps := S.2.1 s (by omega)
    refine EV.of ?_
    rw [itr_succ]
    unfold c_S_moves_l25
    refine q_neg _ (ii_leF (by omega)) ?_
    refine q_gQr e1 (by decide) rfl ?_
    refine q_nn ?_
    refine q_ldQn e2 (by decide) (by omega) (e4 s hs) ?_
    refine q_gQr e1 (by decide) rfl ?_
    refine q_nn ?_
    refine q_ldQn e2 (by decide) (by omega) (e4 s hs) ?_
    refine q_nn ?_
    refine q_hIe (p_wide Ps) ?_
    refine q_nn ?_
    refine q_gQr p1 (by decide) rfl ?_
    rw [il_64]
    refine q_nz (by decide) ?_
    refine q_nn ?_
    rw [div64 (by omega), mod64 (by omega)]
    refine q_ldL p3 (by omega) ?_
    refine q_nz (by decide) ?_
    refine q_nn ?_
    rw [shr_bit (by omega), Int.toNat_natCast, p6 _ (by omega)]
    refine q_hV (p_insert Ps wf (Nat.le_refl _) (by omega)) fun h21 ⟨nu', g1, g2, g3, g4⟩ => ?_
    rw [il_1, ii_add]
    obtain ⟨own1, N1, T1, S1, G1, y1, y2⟩ := SO.one (c := 0) (s := 0) S wf (by omega) (fun x hx => ow_lt hx) g1 g2 (Nat.le_of_eq g3) (Nat.le_of_eq g4)
    have hp : ∀ l, l ∈ A s → 1 ≤ l.length := fun l hl => (Ps.2.1.leaf hl).1
    have f1 := insL_fl (low := low) (b := gb ls.flatten k) (Nat.le_refl (A s).flatten.length) hp
    have f2 := insB_len (i := (A s).flatten.length) (b := gb ls.flatten k) (l := (A s).flatten)
    refine Ends.ofEV (ih fu (k + 1) h21 own1 N1 T1 _ (by omega) (by omega) S1 G1.wf (P.gf G1 wf e1 S.2.2.2) (by rw [up_at, f1]; omega)) fun h' q => ⟨rfl, ?_⟩
    have := SO.trans wf S1 G1 y1 y2 q
    rw [up_at, up_up] at this
    rw [drop_gb (by omega)]
    exact this
theorem z_moves {r i s : Nat} {own N : Nat → Nat} {T : Nat → Bool} {A : Nat → LL} {h : PH} (S : SR own B h z low A R N T rows seed) (wf : Wf h) (hr : r < 4) (hs : s < 4) (hi : i ≤ (A r).flatten.length) (hl : (A s).flatten.length + (A r).flatten.length - i ≤ 600) : EV (c_S_moves h z (ii r) (ii i) (ii s)) (fun h' => SO own B z low R N h (va_up A s (appL low ((A r).flatten.drop i) (A s))) rows seed 3 170 h') := by
  have bb := (S.2.1 r (by omega)).bnd
  refine EV.of ?_
  unfold c_S_moves
  refine S.grd ?_
  refine q_rp S hr ?_
  refine q_hQ (p_pack (S.2.1 r (by omega)) wf (Ne.symm (S.2.2.2 r (by omega)))) fun v h7 ⟨p, g1, g2, g3, g4, g5, g6⟩ => ?_
  subst g1
  obtain ⟨S1, G1⟩ := S.lift wf (by omega) (fun x hx => ow_lt hx) g3 g4
  rw [va_up_same, va_up_same] at S1
  refine q_rp S1 hr ?_
  refine q_hIe (p_wide (S1.2.1 r (by omega))) ?_
  refine Ends.ofEV (z_moves_l25 (ls := A r) hs (by omega) ((A r).flatten.length - i) FU i h7 _ N _ A (by unfold FU; omega) (by omega) S1 G1.wf g2 (by omega)) fun h' q => ⟨rfl, ?_⟩
  exact SO.trans (c1 := 3) (s1 := 170) wf S1 G1 (by omega) (by omega) q
/-- rows behind a deed -/
def doA (low : Nat) (A : Nat → LL) (what r i x : Nat) : Nat → LL := match what with
  | 0 => va_up A r (insL low i (x == 1) (A r))
  | 1 => va_up A r (setL (A r) i (x == 1))
  | 2 => va_up A r (remN low i x (A r))
  | 3 => va_up A r (flL (A r) i (i + x))
  | 4 => va_up (va_up A r (appL low (A x).flatten (A r))) x []
  | _ => va_up (va_up A x (appL low ((A r).flatten.drop i) (A x))) r (remN low i ((A r).flatten.length - i) (A r))
theorem bit_x {x : Nat} (h : x ≤ 1) : ii (x : Int) = ii (bn (x == 1)) := by
  have : x = 0 ∨ x = 1 := by omega
  rcases this with q | q <;> (subst q; rfl)
theorem z_does {what r i x : Nat} {own N : Nat → Nat} {T : Nat → Bool} {A : Nat → LL} {h : PH} (S : SR own B h z low A R N T rows seed) (wf : Wf h) (hw : what ≤ 5) (hr : r < 4) (hi : i ≤ 1000) (hx : x ≤ 600) (hy : why A what r i x = 0) (hb : what ≤ 1 → x ≤ 1) (hx4 : 4 ≤ what → x < 4 ∧ x ≠ r) (hc : what = 2 ∨ what = 3 → 1 ≤ x) : EV (c_S_does h z (ii what) (ii r) (ii i) (ii x)) (fun h' => SO own B z low R N h (doA low A what r i x) rows seed 3 170 h') := by
  have br := (S.2.1 r (by omega)).bnd
  refine EV.of ?_
  unfold c_S_does
  refine S.grd ?_
  match what, hw with
  | 0, _ =>
    have hb := hb (by decide)
    simp only [why] at hy
    have c1 : ¬ (A r).flatten.length < i := fun q => by rw [if_pos q] at hy; cases hy
    have c2 : ¬ (A r).flatten.length = 600 := fun q => by rw [if_neg c1, if_pos q] at hy; cases hy
    refine q_pos _ rfl ?_
    refine q_rp S hr ?_
    rw [bit_x hb]
    refine q_hV (p_insert (S.2.1 r (by omega)) wf (by omega) (by omega)) fun h7 ⟨nu', g1, g2, g3, g4⟩ => ?_
    exact q_rV ⟨rfl, (SO.one (c := 0) (s := 0) S wf (by omega) (fun x hx => ow_lt hx) g1 g2 (Nat.le_of_eq g3) (Nat.le_of_eq g4)).wk (by decide) (by decide)⟩
  | 1, _ =>
    have hb := hb (by decide)
    simp only [why] at hy
    have c1 : ¬ (A r).flatten.length ≤ i := fun q => by rw [if_pos q] at hy; cases hy
    refine q_neg _ (by decide) ?_
    refine q_pos _ rfl ?_
    refine q_rp S hr ?_
    rw [bit_x hb]
    refine q_hV (p_write (S.2.1 r (by omega)) wf (by omega)) fun h7 ⟨g1, g2, g3⟩ => ?_
    exact q_rV ⟨rfl, (SO.one (c := 0) (s := 0) S wf (by omega) (fun _ _ => rfl) g1 g2 (by rw [g3]; exact Nat.le_refl _) (by rw [g3]; exact Nat.le_refl _)).wk (by decide) (by decide)⟩
  | 2, _ =>
    simp only [why] at hy
    have c1 : ¬ (A r).flatten.length < i + x := fun q => by rw [if_pos q] at hy; cases hy
    refine q_neg _ (by decide) ?_
    refine q_neg _ (by decide) ?_
    refine q_pos _ rfl ?_
    refine q_hV (z_cuts S wf hr hx (by omega) (by omega)) fun h7 q => ?_
    exact q_rV ⟨rfl, q.wk (by decide) (by decide)⟩
  | 3, _ =>
    have hc := hc (Or.inr rfl)
    simp only [why] at hy
    have c1 : ¬ (A r).flatten.length < i + x := fun q => by rw [if_pos q] at hy; cases hy
    refine q_neg _ (by decide) ?_
    refine q_neg _ (by decide) ?_
    refine q_neg _ (by decide) ?_
    refine q_pos _ rfl ?_
    refine q_rp S hr ?_
    rw [ii_add]
    have x1 : ((i : Int) + x) = ((i + x : Nat) : Int) := by omega
    rw [x1]
    refine q_hV (p_flip (S.2.1 r (by omega)) wf (by omega) (by omega)) fun h7 ⟨g1, g2, g3⟩ => ?_
    exact q_rV ⟨rfl, (SO.one (c := 0) (s := 0) S wf (by omega) (fun _ _ => rfl) g1 g2 (by rw [g3]; exact Nat.le_refl _) (by rw [g3]; exact Nat.le_refl _)).wk (by decide) (by decide)⟩
  | 4, _ =>
    obtain ⟨hx4, hxr⟩ := hx4 (by decide)
    simp only [why] at hy
    have c1 : ¬ (A x).flatten.length = 0 := fun q => by rw [if_pos q] at hy; cases hy
    have c2 : ¬ 600 < (A r).flatten.length + (A x).flatten.length := fun q => by rw [if_neg c1, if_pos q] at hy; cases hy
    refine q_neg _ (by decide) ?_
    refine q_neg _ (by decide) ?_
    refine q_neg _ (by decide) ?_
    refine q_neg _ (by decide) ?_
    refine q_pos _ rfl ?_
    rw [il_0]
    refine q_hV (z_moves (i := 0) S wf hx4 hr (Nat.zero_le _) (by omega)) fun h23 q => ?_
    obtain ⟨own1, N1, T1, S1, G1, y1, y2⟩ := q
    rw [List.drop_zero] at S1
    refine q_rp S1 hx4 ?_
    refine q_hV (p_clear (S1.2.1 x (by omega)) G1.wf) fun h30 ⟨g1, g2, g3⟩ => ?_
    have so := SO.one (c := 0) (s := 0) S1 G1.wf (by omega) (fun _ _ => rfl) g1 g2 (by rw [g3]; exact Nat.le_refl _) (by rw [g3]; exact Nat.le_refl _)
    exact q_rV ⟨rfl, SO.trans wf S1 G1 y1 y2 so⟩
  | 5, _ =>
    obtain ⟨hx4, hxr⟩ := hx4 (by decide)
    have bx := (S.2.1 x (by omega)).bnd
    simp only [why] at hy
    have c1 : ¬ (A r).flatten.length ≤ i := fun q => by rw [if_pos q] at hy; cases hy
    have c2 : ¬ 600 < (A x).flatten.length + (A r).flatten.length - i := fun q => by rw [if_neg c1, if_pos q] at hy; cases hy
    refine q_neg _ (by decide) ?_
    refine q_neg _ (by decide) ?_
    refine q_neg _ (by decide) ?_
    refine q_neg _ (by decide) ?_
    refine q_neg _ (by decide) ?_
    refine q_pos _ rfl ?_
    refine q_rp S hr ?_
    refine q_hIe (p_wide (S.2.1 r (by omega))) ?_
    have x1 : ii ((A r).flatten.length : Int) - ii (i : Int) = ii (((A r).flatten.length - i : Nat) : Int) := by rw [ii_sub]; congr 1; omega
    rw [x1]
    refine q_nm ?_
    refine q_hV (z_moves S wf hr hx4 (by omega) (by omega)) fun h40 q => ?_
    obtain ⟨own1, N1, T1, S1, G1, y1, y2⟩ := q
    have eA : va_up A x (appL low ((A r).flatten.drop i) (A x)) r = A r := va_up_ne _ _ (Ne.symm hxr)
    refine q_hV (z_cuts (i := i) (n := (A r).flatten.length - i) S1 G1.wf hr (by omega) (by omega) (by rw [eA]; omega)) fun h41 q => ?_
    have so := SO.trans wf S1 G1 y1 y2 q
    rw [eA] at so
    exact q_rV ⟨rfl, so⟩
end
