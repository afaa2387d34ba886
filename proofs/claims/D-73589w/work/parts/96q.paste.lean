/-! PURE SIDE: both sides: bits on the tape; paste -/
set_option maxRecDepth 100000
theorem i32_10 : ¬ (1 : Int32) = 0 := by decide
def BOk (f : Nat → Nat) (n m : Nat) : Prop := (1 ≤ n ∧ n ≤ m) ∧ ∀ i, i < n → f i ≤ 1
section
variable {b : Nat → Nat} {f : Nat → Nat} {n m : Nat} {h : PH} {Z : Rt → PH → Prop}
theorem b_one {i : Nat} (T : TB b h f n) (hi : i < 940) : c_B_one h (b 0) (ii i) = rI (ii (f i)) h := by
  obtain ⟨⟨fs, e0, e1, e2⟩, ⟨g, eg, hg⟩, _, hf⟩ := T
  refine eqI ?_
  unfold c_B_one
  refine q_grd e0 (by decide) ?_
  refine q_gQr e0 (by decide) e1 ?_
  refine q_nn ?_
  refine q_ldI eg (by omega) ?_
  rw [Int.toNat_natCast, hg i hi, sb255 ⟨f i, hf i⟩]
  exact q_rI ⟨rfl, rfl⟩
theorem b_areBits_l (T : TB b h f n) : ∀ (k fu p : Nat), k < fu → p + k = n → (∀ i, i < p → f i ≤ 1) → Ends (itr (c_B_areBits_l16) (fun _ _ _ => none) fu h (b 0) (ii p)) (fun r hh => hh = h ∧ ((r = .inl (some (.int 1)) ∧ ∀ i, i < n → f i ≤ 1) ∨ (r = .inl (some (.int 0)) ∧ ¬ ∀ i, i < n → f i ≤ 1))) := by
  have hn := T.2.2.1
  have hf := T.2.2.2
  intro k
  induction k with
  | zero =>
    intro fu p hk hp ha
    obtain ⟨fu, rfl⟩ : ∃ x, fu = x + 1 := ⟨fu - 1, by omega⟩
    obtain ⟨⟨fs, e0, e1, e2⟩, _⟩ := T
    rw [itr_succ]
    unfold c_B_areBits_l16
    refine q_gI e0 (by decide) e2 ?_
    refine q_pos _ (ii_leT (by omega)) ?_
    exact q_rZ1 ⟨rfl, Or.inl ⟨rfl, fun i hi => ha i (by omega)⟩⟩
  | succ k ih =>
    intro fu p hk hp ha
    obtain ⟨fu, rfl⟩ : ∃ x, fu = x + 1 := ⟨fu - 1, by omega⟩
    obtain ⟨⟨fs, e0, e1, e2⟩, _⟩ := id T
    have := hf p
    rw [itr_succ]
    unfold c_B_areBits_l16
    refine q_gI e0 (by decide) e2 ?_
    refine q_neg _ (ii_leF (by omega)) ?_
    refine q_hIe (b_one T (by omega)) ?_
    by_cases c : f p ≤ 1
    · refine q_pos _ (ii_leT (b := 1) (by omega)) ?_
      rw [add1]
      exact ih fu (p + 1) (by omega) (by omega) fun i hi => by
        by_cases w : i = p
        · rw [w]; exact c
        · exact ha i (by omega)
    · refine q_neg _ (ii_leF (b := 1) (by omega)) ?_
      exact q_rZ0 ⟨rfl, Or.inr ⟨rfl, fun w => c (w p (by omega))⟩⟩
theorem q_areBits {M : Int32} {P1 P2 : PH → Option RH} {I : ∀ v : Int32, Decidable (v = 0)} (T : TB b h f n) (eM : M = ii m) (hm : m ≤ 900) (k0 : ¬ BOk f n m → Ends (P1 h) Z) (k1 : BOk f n m → Ends (P2 h) Z) : Ends (hI (c_B_areBits h (b 0) M) noX fun v h1 => @ite _ (v = 0) (I v) (P1 h1) (P2 h1)) Z := by
  have hn := T.2.2.1
  have T' := T
  obtain ⟨⟨fs, e0, e1, e2⟩, _⟩ := T
  have key : Ends (c_B_areBits h (b 0) M) (fun r hh => hh = h ∧ ((r = .inl (some (.int 1)) ∧ BOk f n m) ∨ (r = .inl (some (.int 0)) ∧ ¬ BOk f n m))) := by
    unfold c_B_areBits
    refine q_grd e0 (by decide) ?_
    refine q_gI e0 (by decide) e2 ?_
    refine q_in (a := 1) (b := m) rfl eM (by omega) (fun q => ?_) fun q => ?_
    · exact q_rZ0 ⟨rfl, Or.inr ⟨rfl, fun w => q ⟨by have := w.1; omega, by have := w.1; omega⟩⟩⟩
    · obtain ⟨r, hh, y1, y2, y3⟩ := b_areBits_l T' n FU 0 (by unfold FU; omega) (by omega) (fun i hi => by omega)
      refine ⟨r, hh, y1, y2, ?_⟩
      rcases y3 with y3 | y3
      · exact Or.inl ⟨y3.1, ⟨by omega, by omega⟩, y3.2⟩
      · exact Or.inr ⟨y3.1, fun w => y3.2 w.2⟩
  obtain ⟨r, hh, y1, y2, y3⟩ := key
  subst y2
  rcases y3 with ⟨y3, y4⟩ | ⟨y3, y4⟩
  · subst y3
    refine q_hIe (v := 1) y1 ?_
    exact q_neg _ i32_10 (k1 y4)
  · subst y3
    refine q_hIe (v := 0) y1 ?_
    exact q_pos _ rfl (k0 y4)
end
section
variable {f : Nat → Nat} {n m : Nat} {ms : MS} {Z : Option Value → MS → Prop}
theorem m_areBits_l (hn : n ≤ 940) (hm : m ≤ 900) (hf : ∀ i, i < 940 → ms.1 1 i = ii (f i)) (hb : ∀ i, f i < 256) : ∀ (k fu p : Nat), k < fu → p + k = n → (∀ i, i < p → f i ≤ 1) → DE (itr (d_M_areTapeBits_l2) (fun _ _ _ _ => none) fu ms (ii n) (ii m) (ii p)) (fun r mm => mm = ms ∧ ((r = some (.int 1) ∧ BOk f n m) ∨ (r = some (.int 0) ∧ ¬ BOk f n m))) := by
  intro k
  induction k with
  | zero =>
    intro fu p hk hp ha
    obtain ⟨fu, rfl⟩ : ∃ x, fu = x + 1 := ⟨fu - 1, by omega⟩
    rw [itr_succ]
    unfold d_M_areTapeBits_l2
    refine d_pos _ (ii_leT (by omega)) ?_
    refine d_bIe (m_isIn (b := 1) (by omega)) ?_
    by_cases c : (1 : Int) ≤ n ∧ (n : Int) ≤ m
    · rw [decide_eq_true c]
      exact d_dZ1 ⟨rfl, Or.inl ⟨rfl, by omega, fun i hi => ha i (by omega)⟩⟩
    · rw [decide_eq_false c]
      exact d_dZ0 ⟨rfl, Or.inr ⟨rfl, fun w => c (by have := w.1; omega)⟩⟩
  | succ k ih =>
    intro fu p hk hp ha
    obtain ⟨fu, rfl⟩ : ∃ x, fu = x + 1 := ⟨fu - 1, by omega⟩
    have := hb p
    rw [itr_succ]
    unfold d_M_areTapeBits_l2
    refine d_neg _ (ii_leF (by omega)) ?_
    refine d_eA (N := 940) rfl (n := p) (by omega) (hf p (by omega)) ?_
    by_cases c : f p ≤ 1
    · refine d_pos _ (ii_leT (b := 1) (by omega)) ?_
      rw [add1]
      exact ih fu (p + 1) (by omega) (by omega) fun i hi => by
        by_cases w : i = p
        · rw [w]; exact c
        · exact ha i (by omega)
    · refine d_neg _ (ii_leF (b := 1) (by omega)) ?_
      exact d_dZ0 ⟨rfl, Or.inr ⟨rfl, fun w => c (w.2 p (by omega))⟩⟩
theorem d_areBits {M : Int32} {P1 P2 : MS → Option DR} {I : ∀ v : Int32, Decidable (v = 0)} (hn : n ≤ 940) (hf : ∀ i, i < 940 → ms.1 1 i = ii (f i)) (hb : ∀ i, f i < 256) (eM : M = ii m) (hm : m ≤ 900) (k0 : ¬ BOk f n m → DE (P1 ms) Z) (k1 : BOk f n m → DE (P2 ms) Z) : DE (bI (d_M_areTapeBits ms (ii n) M) fun v m1 => @ite _ (v = 0) (I v) (P1 m1) (P2 m1)) Z := by
  subst eM
  obtain ⟨r, mm, y1, y2, y3⟩ := m_areBits_l (n := n) (m := m) hn hm hf hb n FU 0 (by unfold FU; omega) (by omega) (fun i hi => by omega)
  subst y2
  rcases y3 with ⟨y3, y4⟩ | ⟨y3, y4⟩
  · subst y3
    refine d_bIe (v := 1) y1 ?_
    exact d_neg _ i32_10 (k1 y4)
  · subst y3
    refine d_bIe (v := 0) y1 ?_
    exact d_pos _ rfl (k0 y4)
end
/-- a row behind a paste -/
def pst (low i : Nat) (f : Nat → Nat) : Nat → Nat → LL → LL
  | 0, _, ls => ls
  | k + 1, p, ls => pst low i f k (p + 1) (insL low (i + p) (decide (f p = 1)) ls)
theorem bn_bit {k : Nat} (h : k ≤ 1) : ii (k : Int) = ii (bn (decide (k = 1))) := by
  match k, h with
  | 0, _ => rfl
  | 1, _ => rfl
section
variable {b own own' : Nat → Nat} {X : XS} {h h1 h' : PH} {held : Int} {rm z z' : Nat} {skm : Int} {sn : Option Nat} {R R' N N' : Nat → Nat} {Tb : Nat → Bool} {seed rows' seed' : Int32} {c s : Nat} {ms : MS} {n r i : Nat} {Z : Rt → PH → Prop}
theorem CBo.tb' (O : CBo b own X held rm z z' skm sn R R' N N' Tb seed rows' seed' h) (ht : ∀ i, X.tp i < 256) {n : Nat} (hn : n ≤ 940) (eh : held = n) : TB b h X.tp n := by
  subst eh
  obtain ⟨f, t1, t2⟩ := O.2.2.1.1.1
  exact ⟨⟨_, O.1, rfl, rfl⟩, ⟨f, t1, t2⟩, hn, ht⟩
theorem b_paste_l (hn : n ≤ 940) (hr : r < 4) (ht : ∀ i, X.tp i < 256) (hb : ∀ i, i < n → X.tp i ≤ 1) : ∀ (k fu p : Nat) (own N : Nat → Nat) (Tb : Nat → Bool) (h : PH) (A : Nat → LL) (T : List Nat), k < fu → p + k = n → CBo b own (xA X A T) n rm z z' skm sn R R' N N' Tb seed rows' seed' h → i + p ≤ (A r).flatten.length → (A r).flatten.length + k ≤ 600 → Ends (itr (c_B_paste_l78) (fun _ _ _ _ _ => none) fu h (b 0) (ii i) (some (R r)) (ii p)) (fun rr hh => rr = .inl (some (.int (ii 0))) ∧ ∃ own' N2 T2, CBo b own' (xA X (va_up A r (pst X.w.low i X.tp k p (A r))) T) n rm z z' skm sn R R' N2 N' T2 seed rows' seed' hh ∧ FX own own' (b 0) (b 16) h hh ∧ hh.2.1.1 + 2 * s11 N2 ≤ h.2.1.1 + 2 * s11 N ∧ hh.2.1.2 + 7 * s11 N2 ≤ h.2.1.2 + 7 * s11 N) := by
  intro k
  induction k with
  | zero =>
    intro fu p own N Tb h A T hk hp O hi hl
    obtain ⟨fu, rfl⟩ : ∃ x, fu = x + 1 := ⟨fu - 1, by omega⟩
    rw [itr_succ]
    unfold c_B_paste_l78
    refine q_gI O.1 (by decide) rfl ?_
    refine q_pos _ (ii_leT (by omega)) ?_
    refine q_rI ⟨rfl, own, N, Tb, ?_, FX.rf O.2.2.2.2.2.2, Nat.le_refl _, Nat.le_refl _⟩
    have e : va_up A r (pst X.w.low i X.tp 0 p (A r)) = A := by unfold pst; rw [up_self]
    rw [e]
    exact O
  | succ k ih =>
    intro fu p own N Tb h A T hk hp O hi hl
    obtain ⟨fu, rfl⟩ : ∃ x, fu = x + 1 := ⟨fu - 1, by omega⟩
    have wf := O.2.2.2.2.2.2
    have S := O.2.2.2.1
    rw [itr_succ]
    unfold c_B_paste_l78
    refine q_gI O.1 (by decide) rfl ?_
    refine q_neg _ (ii_leF (by omega)) ?_
    refine q_hIe (b_one (O.tb' ht hn rfl) (by omega)) ?_
    refine q_nn ?_
    have P : RP own (R r) h X.w.low (A r) (N r) (Tb r) := S.2.1 r (by omega)
    have hb' := hb p (by omega)
    have e1 : ii (X.tp p : Int) = ii (bn (decide (X.tp p = 1))) := bn_bit hb'
    have e2 : ii (i : Int) + ii (p : Int) = ii ((i + p : Nat) : Int) := by rw [ii_add]; rfl
    have ins := p_insert (b := decide (X.tp p = 1)) P wf hi (by omega)
    rw [← e1, ← e2] at ins
    refine q_hV ins fun h2 q2 => ?_
    obtain ⟨nu', P2, o2, y1, y2⟩ := q2
    have so := SO.one (c := 0) (s := 0) S wf (by omega) (fun x hx => ow_lt hx) P2 o2 (by omega) (by omega)
    obtain ⟨own2, N2, T2, O2, F2, K2, u1, u2⟩ := O.so (T := T) so
    have fl := insL_fl (low := X.w.low) (b := decide (X.tp p = 1)) hi (fun l hl => (P.2.1.2.2 l hl).1)
    have ln : (va_up A r (insL X.w.low (i + p) (decide (X.tp p = 1)) (A r)) r).flatten.length = (A r).flatten.length + 1 := by rw [up_at, fl, insB_len]
    rw [add1]
    obtain ⟨rr, hh, w1, w2, own3, N3, T3, O3, F3, v1, v2⟩ := ih fu (p + 1) own2 N2 T2 h2 (va_up A r (insL X.w.low (i + p) (decide (X.tp p = 1)) (A r))) T (by omega) (by omega) O2 (by omega) (by omega)
    refine ⟨rr, hh, w1, w2, own3, N3, T3, ?_, F2.trans F3 wf, by omega, by omega⟩
    rw [up_at, up_up] at O3
    exact O3
end
section
variable {ms : MS} {f : Nat → Nat} {low n4 n r i : Nat} {T : List Nat}
theorem m_paste_l (hn : n ≤ 940) (hr : r < 4) (hb : ∀ i, i < n → f i ≤ 1) : ∀ (k fu p : Nat) (ms : MS) (A : Nat → LL), k < fu → p + k = n → (∀ i, i < 940 → ms.1 1 i = ii (f i)) → MO (ms.1 14) low n4 A T → IV low A → i + p ≤ (A r).flatten.length → (A r).flatten.length + k ≤ 600 → DE (itr (d_M_paste_l54) (fun _ _ _ _ _ => none) fu ms (ii r) (ii i) (ii n) (ii p)) (fun rr m' => rr = some (.int (ii 0)) ∧ MO (m'.1 14) low n4 (va_up A r (pst low i f k p (A r))) T ∧ GM ms m') := by
  intro k
  induction k with
  | zero =>
    intro fu p ms A hk hp ht M I hi hl
    obtain ⟨fu, rfl⟩ : ∃ x, fu = x + 1 := ⟨fu - 1, by omega⟩
    rw [itr_succ]
    unfold d_M_paste_l54
    refine d_pos _ (ii_leT (by omega)) ?_
    refine d_dI ⟨rfl, ?_, GM.rf⟩
    have e : va_up A r (pst low i f 0 p (A r)) = A := by unfold pst; rw [up_self]
    rw [e]
    exact M
  | succ k ih =>
    intro fu p ms A hk hp ht M I hi hl
    obtain ⟨fu, rfl⟩ : ∃ x, fu = x + 1 := ⟨fu - 1, by omega⟩
    rw [itr_succ]
    unfold d_M_paste_l54
    refine d_neg _ (ii_leF (by omega)) ?_
    refine d_eA (N := 940) rfl (n := p) (by omega) (ht p (by omega)) ?_
    rw [bn_bit (hb p (by omega)), ii_add, add1]
    refine d_bV (m_putBit (i := i + p) hr (M.2.2.1 r hr) M.2.1 (I r hr) hi (by omega)) fun m1 ⟨a1, a2⟩ => ?_
    have fl := insL_fl (low := low) (b := decide (f p = 1)) hi (fun l hl => ((I r hr).2.2 l hl).1)
    have ln : (va_up A r (insL low (i + p) (decide (f p = 1)) (A r)) r).flatten.length = (A r).flatten.length + 1 := by rw [up_at, fl, insB_len]
    obtain ⟨rr, m2, w1, w2, w3, w4⟩ := ih fu (p + 1) m1 (va_up A r (insL low (i + p) (decide (f p = 1)) (A r))) (by omega) (by omega) (fun j hj => by rw [a2.2.1 1 (by decide)]; exact ht j hj) (M.row I.len hr a2 a1) (I.up (insL_ok (I r hr) hi (by omega))) (by omega) (by omega)
    rw [up_at, up_up] at w3
    exact ⟨rr, m2, w1, w2, w3, (a2.gm hr).trans w4⟩
end
section
variable {b : Nat → Nat} {x y : Int}
theorem m_take {X : XS} {ms : MS} (M : CM X ms) : d_M_take ms = dI (ii X.len) (mset ms 2 0 (ii (0 : Nat))) := by
  refine dEqI ?_
  unfold d_M_take
  rw [M.2.1]
  refine d_nm ?_
  refine d_nm ?_
  exact d_dI ⟨rfl, rfl⟩
theorem td_paste (hx : -2147483648 ≤ x ∧ x < 2147483648) (hy : -2147483648 ≤ y ∧ y < 2147483648) : TD b (fun h => c_B_paste h (b 0) (ii x) (ii y)) (fun ms => d_M_paste ms (ii x) (ii y)) := by
  intro own X c s h ms C I M
  have n4 := I.1.1
  have hl := I.2.1
  have htp := I.2.2.1
  obtain ⟨held, rm, z0, z', skm, sn, R, R', N, N', Tb, seed, rows', seed', e0, sk, D, S, z1, z2⟩ := C
  have O : CBo b own X held rm z0 z' skm sn R R' N N' Tb seed rows' seed' h := ⟨e0, sk, D, S⟩
  obtain ⟨O1, F1⟩ := O.beg X.ft (X.len : Int)
  have I1 : XI (xB X X.ft) := I.xb X.ft
  have T1 := O1.tb I1 hl rfl
  have M1 : CM (xB X X.ft) (mset (mset ms 0 0 0) 2 0 (ii (0 : Nat))) := CM.len (M.set (by decide))
  have C1 : CB b own (xB X X.ft) (c + 10000) (s + 90000) _ := O1.cb (by show h.2.1.1 + _ ≤ _; omega) (by show h.2.1.2 + _ ≤ _; omega)
  obtain ⟨fs, gs, hBC⟩ := O1.bc I1
  have em : d_M_take (mset ms 0 0 0) = dI (ii X.len) (mset (mset ms 0 0 0) 2 0 (ii (0 : Nat))) := m_take (M.set (by decide))
  have Qm := M1.qm I1
  have no : ∀ {v : Int32}, (∀ Z : Rt → PH → Prop, Z (.inl (some (.int v))) (hset h (b 0) (bC b 0 X.len rm z0 z' X.ft skm X.L.length X.td.isSome sn)) → Ends (c_B_paste h (b 0) (ii x) (ii y)) Z) → (∀ Z : Option Value → MS → Prop, Z (some (.int v)) (mset (mset ms 0 0 0) 2 0 (ii (0 : Nat))) → DE (d_M_paste ms (ii x) (ii y)) Z) → ∃ v h' ms' own' X', c_B_paste h (b 0) (ii x) (ii y) = rI v h' ∧ d_M_paste ms (ii x) (ii y) = dI v ms' ∧ CB b own' X' (c + 10000) (s + 90000) h' ∧ XI X' ∧ CM X' ms' ∧ FX own own' (b 0) (b 16) h h' := fun {v} k1 k2 => ⟨v, _, _, own, _, eqI (k1 _ ⟨rfl, rfl⟩), dEqI (k2 _ ⟨rfl, rfl⟩), C1, I1, M1, F1⟩
  by_cases g1 : ¬ (0 ≤ x ∧ x < X.w.n)
  · refine no (v := -1) (fun Z k => ?_) (fun Z k => ?_)
    · unfold c_B_paste
      refine q_grd e0 (by decide) ?_
      refine q_hVe (b_consume e0) ?_
      refine q_hIe (b_isRow hBC hx) ?_
      rw [decide_eq_false g1]
      refine q_pos _ rfl ?_
      exact q_rI k
    · unfold d_M_paste
      refine d_nm ?_
      refine d_bIe em ?_
      refine d_row Qm hx (fun _ => d_dI k) fun r e1 e2 => absurd (by have e2 : r < X.w.n := e2; omega) g1
  have g1 := Classical.not_not.mp g1
  obtain ⟨r, rfl⟩ : ∃ k : Nat, x = k := ⟨x.toNat, by omega⟩
  have hrn : r < X.w.n := by omega
  have hr4 : r < 4 := by omega
  have pre : ∀ {Z : Rt → PH → Prop}, (¬ BOk X.tp X.len 64 → Z (.inl (some (.int (-1)))) (hset h (b 0) (bC b 0 X.len rm z0 z' X.ft skm X.L.length X.td.isSome sn))) → (BOk X.tp X.len 64 → (¬ (0 ≤ y ∧ y ≤ ((X.w.A r).flatten.length : Nat)) → Z (.inl (some (.int 1))) (hset h (b 0) (bC b 0 X.len rm z0 z' X.ft skm X.L.length X.td.isSome sn))) ∧ ((0 ≤ y ∧ y ≤ ((X.w.A r).flatten.length : Nat)) → (¬ (X.w.A r).flatten.length + X.len ≤ 600 → Z (.inl (some (.int 2))) (hset h (b 0) (bC b 0 X.len rm z0 z' X.ft skm X.L.length X.td.isSome sn))) ∧ ((X.w.A r).flatten.length + X.len ≤ 600 → Ends (hQ (c_S_pack (hset h (b 0) (bC b 0 X.len rm z0 z' X.ft skm X.L.length X.td.isSome sn)) z0) noX fun v26 h25 => nn v26 fun a27 => hV (c_B_keep h25 (b 0) a27) noX fun h29 => itr (c_B_paste_l78) (fun _ _ _ _ _ => none) FU h29 (b 0) (ii y) (some (R r)) (0 : Int32)) Z))) → Ends (c_B_paste h (b 0) (ii (r : Int)) (ii y)) Z := by
    intro Z k1 k2
    have hA := (O1.lsb (k := r) (by omega)).2.1
    have hA : (X.w.A r).flatten.length ≤ 600 := hA
    unfold c_B_paste
    refine q_grd e0 (by decide) ?_
    refine q_hVe (b_consume e0) ?_
    refine q_hIe (b_isRow hBC hx) ?_
    rw [decide_eq_true g1]
    refine q_neg _ bn1_ne ?_
    refine q_areBits (m := 64) T1 rfl (by decide) (fun w => q_rI (k1 w)) fun w => ?_
    obtain ⟨k3, k4⟩ := k2 w
    refine q_gQr O1.1 (by decide) rfl ?_
    refine q_nn ?_
    refine q_rp O1.2.2.2.1 hr4 ?_
    refine q_hIe (p_wide (O1.2.2.2.1.2.1 r (by omega))) ?_
    refine q_in (a := 0) (b := ((X.w.A r).flatten.length : Nat)) rfl rfl (by omega) (fun w2 => q_rI (k3 w2)) fun w2 => ?_
    obtain ⟨k5, k6⟩ := k4 w2
    refine q_hIe (p_wide (O1.2.2.2.1.2.1 r (by omega))) ?_
    refine q_gI O1.1 (by decide) rfl ?_
    rw [ii_add]
    by_cases w3 : (X.w.A r).flatten.length + X.len ≤ 600
    · refine q_pos _ (ii_leT (a := (((X.w.A r).flatten.length : Nat) : Int) + (X.len : Int)) (b := 600) (by omega)) ?_
      refine q_gQr O1.1 (by decide) rfl ?_
      refine q_nn ?_
      exact k6 w3
    · refine q_neg _ (ii_leF (a := (((X.w.A r).flatten.length : Nat) : Int) + (X.len : Int)) (b := 600) (by omega)) ?_
      exact q_rI (k5 w3)
  have mpre : ∀ {Z : Option Value → MS → Prop}, (¬ BOk X.tp X.len 64 → Z (some (.int (-1))) (mset (mset ms 0 0 0) 2 0 (ii (0 : Nat)))) → (BOk X.tp X.len 64 → (¬ (0 ≤ y ∧ y ≤ ((X.w.A r).flatten.length : Nat)) → Z (some (.int 1)) (mset (mset ms 0 0 0) 2 0 (ii (0 : Nat)))) ∧ ((0 ≤ y ∧ y ≤ ((X.w.A r).flatten.length : Nat)) → (¬ (X.w.A r).flatten.length + X.len ≤ 600 → Z (some (.int 2)) (mset (mset ms 0 0 0) 2 0 (ii (0 : Nat)))) ∧ ((X.w.A r).flatten.length + X.len ≤ 600 → DE (bV (d_M_snap (mset (mset ms 0 0 0) 2 0 (ii (0 : Nat)))) fun m10 => itr (d_M_paste_l54) (fun _ _ _ _ _ => none) FU m10 (ii (r : Int)) (ii y) (ii X.len) (0 : Int32)) Z))) → DE (d_M_paste ms (ii (r : Int)) (ii y)) Z := by
    intro Z k1 k2
    have hA := (O1.lsb (k := r) (by omega)).2.1
    have hA : (X.w.A r).flatten.length ≤ 600 := hA
    have Mr : MR ((mset (mset ms 0 0 0) 2 0 (ii (0 : Nat))).1 14) r (X.w.A r) := M1.2.2.1.1.2.2.1 r hr4
    unfold d_M_paste
    refine d_nm ?_
    refine d_bIe em ?_
    refine d_row Qm hx (fun q => absurd g1 q) fun r' e1 e2 _ => ?_
    refine d_areBits (m := 64) hl (fun j hj => M1.1 j hj) htp rfl (by decide) (fun w => d_dI (k1 w)) fun w => ?_
    obtain ⟨k3, k4⟩ := k2 w
    by_cases w2 : 0 ≤ y ∧ y ≤ ((X.w.A r).flatten.length : Nat)
    · obtain ⟨k5, k6⟩ := k4 w2
      by_cases w3 : (X.w.A r).flatten.length + X.len ≤ 600
      · have e : d_M_whyPut (mset (mset ms 0 0 0) 2 0 (ii (0 : Nat))) (ii (r : Int)) (ii y) (ii X.len) = dI (ii 0) (mset (mset ms 0 0 0) 2 0 (ii (0 : Nat))) := by
          refine dEqI ?_
          unfold d_M_whyPut
          refine d_bIe (m_sizeOf Mr hr4) ?_
          refine d_in (a := 0) (b := ((X.w.A r).flatten.length : Nat)) rfl rfl (by omega) (fun q => absurd w2 q) fun _ => ?_
          refine d_bIe (m_sizeOf Mr hr4) ?_
          rw [ii_add]
          refine d_pos _ (ii_leT (a := (((X.w.A r).flatten.length : Nat) : Int) + (X.len : Int)) (b := 600) (by omega)) ?_
          exact d_dI ⟨rfl, rfl⟩
        refine d_bIe e ?_
        refine d_pos _ rfl ?_
        exact k6 w3
      · have e : d_M_whyPut (mset (mset ms 0 0 0) 2 0 (ii (0 : Nat))) (ii (r : Int)) (ii y) (ii X.len) = dI (ii 2) (mset (mset ms 0 0 0) 2 0 (ii (0 : Nat))) := by
          refine dEqI ?_
          unfold d_M_whyPut
          refine d_bIe (m_sizeOf Mr hr4) ?_
          refine d_in (a := 0) (b := ((X.w.A r).flatten.length : Nat)) rfl rfl (by omega) (fun q => absurd w2 q) fun _ => ?_
          refine d_bIe (m_sizeOf Mr hr4) ?_
          rw [ii_add]
          refine d_neg _ (ii_leF (a := (((X.w.A r).flatten.length : Nat) : Int) + (X.len : Int)) (b := 600) (by omega)) ?_
          exact d_dI ⟨rfl, rfl⟩
        refine d_bIe e ?_
        refine d_neg _ (by decide) ?_
        exact d_dI (k5 w3)
    · have e : d_M_whyPut (mset (mset ms 0 0 0) 2 0 (ii (0 : Nat))) (ii (r : Int)) (ii y) (ii X.len) = dI (ii 1) (mset (mset ms 0 0 0) 2 0 (ii (0 : Nat))) := by
        refine dEqI ?_
        unfold d_M_whyPut
        refine d_bIe (m_sizeOf Mr hr4) ?_
        refine d_in (a := 0) (b := ((X.w.A r).flatten.length : Nat)) rfl rfl (by omega) (fun _ => ?_) fun q => absurd q w2
        exact d_dI ⟨rfl, rfl⟩
      refine d_bIe e ?_
      refine d_neg _ (by decide) ?_
      exact d_dI (k3 w2)
  by_cases g2 : ¬ (BOk X.tp X.len 64)
  · exact no (v := -1) (fun Z k => pre (fun _ => k) fun q => absurd q g2) (fun Z k => mpre (fun _ => k) fun q => absurd q g2)
  have g2 := Classical.not_not.mp g2
  by_cases g3 : ¬ (0 ≤ y ∧ y ≤ ((X.w.A r).flatten.length : Nat))
  · exact no (v := 1) (fun Z k => pre (fun q => absurd g2 q) fun _ => ⟨fun _ => k, fun q => absurd q g3⟩) (fun Z k => mpre (fun q => absurd g2 q) fun _ => ⟨fun _ => k, fun q => absurd q g3⟩)
  have g3 := Classical.not_not.mp g3
  by_cases g4 : ¬ ((X.w.A r).flatten.length + X.len ≤ 600)
  · exact no (v := 2) (fun Z k => pre (fun q => absurd g2 q) fun _ => ⟨fun q => absurd g3 q, fun _ => ⟨fun _ => k, fun q => absurd q g4⟩⟩) (fun Z k => mpre (fun q => absurd g2 q) fun _ => ⟨fun q => absurd g3 q, fun _ => ⟨fun _ => k, fun q => absurd q g4⟩⟩)
  have g4 := Classical.not_not.mp g4
  obtain ⟨i, rfl⟩ : ∃ k : Nat, y = k := ⟨y.toNat, by omega⟩
  have comp : Ends (c_B_paste h (b 0) (ii (r : Int)) (ii (i : Int))) (fun rr hh => rr = .inl (some (.int (ii 0))) ∧ ∃ own' N2 T2, CBo b own' (xK (xB X X.ft) (va_up X.w.A r (pst X.w.low i X.tp X.len 0 (X.w.A r))) X.w.T) X.len rm z0 z' skm sn R R' N2 N' T2 seed rows' seed' hh ∧ FX own own' (b 0) (b 16) h hh ∧ hh.2.1.1 + 2 * s11 N2 ≤ h.2.1.1 + 2 * s11 N + 34 ∧ hh.2.1.2 + 7 * s11 N2 ≤ h.2.1.2 + 7 * s11 N + 1881) := by
    refine pre (fun q => absurd g2 q) fun _ => ⟨fun q => absurd g3 q, fun _ => ⟨fun q => absurd g4 q, fun _ => ?_⟩⟩
    obtain ⟨v3, h3, p3, a, own3, N3, T3, e3, S3, G3, u1, u2, PA3⟩ := z_pack O1.2.2.2.1 O1.2.2.2.2.2.2
    subst e3
    obtain ⟨O3, F3, K3⟩ := O1.gf (T := X.w.T) S3 G3
    refine q_hQe p3 ?_
    refine q_nn ?_
    obtain ⟨h4, p4, O4, F4, z4⟩ := O3.keep (x := (X.w.A, X.w.T)) I.2.2.2.1 PA3
    refine q_hVe p4 ?_
    have u1 : h3.2.1.1 + 2 * s11 N3 ≤ h.2.1.1 + 2 * s11 N + 34 := u1
    have u2 : h3.2.1.2 + 7 * s11 N3 ≤ h.2.1.2 + 7 * s11 N + 1881 := u2
    obtain ⟨rr, hh, w1, w2, own5, N5, T5, O5, F5, v1, v2⟩ := b_paste_l (X := xL (xB X X.ft) (keepU X.L (X.w.A, X.w.T))) (n := X.len) (r := r) (i := i) hl hr4 htp g2.2 X.len FU 0 own3 N3 T3 h4 X.w.A X.w.T (by unfold FU; omega) (by omega) O4 (by omega) (by omega)
    exact ⟨rr, hh, w1, w2, own5, N5, T5, O5, ((F1.trans F3 S.2.2.2).trans F4 S.2.2.2).trans F5 S.2.2.2, by rw [z4] at v1; omega, by rw [z4] at v2; omega⟩
  have mod : DE (d_M_paste ms (ii (r : Int)) (ii (i : Int))) (fun rr m' => rr = some (.int (ii 0)) ∧ CM (xK (xB X X.ft) (va_up X.w.A r (pst X.w.low i X.tp X.len 0 (X.w.A r))) X.w.T) m') := by
    refine mpre (fun q => absurd g2 q) fun _ => ⟨fun q => absurd g3 q, fun _ => ⟨fun q => absurd g4 q, fun _ => ?_⟩⟩
    refine d_bV (m_snap (L := X.L) (A := X.w.A) (T := X.w.T) I.2.2.2.1 M1.2.2.2.2.1 M1.2.2.2.2.2.1 M1.2.2.1.1.mt I.iv.len) fun m2 ⟨s1, s2, s3, s4⟩ => ?_
    have m14 : m2.1 14 = (mset (mset ms 0 0 0) 2 0 (ii (0 : Nat))).1 14 := s4 14 (by decide) (by decide)
    obtain ⟨rr, m3, w1, w2, w3, w4⟩ := m_paste_l (f := X.tp) (low := X.w.low) (n4 := X.w.n) (n := X.len) (r := r) (i := i) (T := X.w.T) hl hr4 g2.2 X.len FU 0 m2 X.w.A (by unfold FU; omega) (by omega) (fun j hj => by rw [s4 1 (by decide) (by decide)]; exact M1.1 j hj) (by rw [m14]; exact M1.2.2.1.1) I.iv (by omega) (by omega)
    refine ⟨rr, m3, w1, w2, ?_⟩
    exact M1.gm (L' := keepU X.L (X.w.A, X.w.T)) w3 (fun j hj => by rw [w4.2.2 j (Or.inr hj), m14]) (w4.1.trans s3) (fun q h1 h2 h3 h4 => (w4.2.1 q h2).trans (s4 q h3 h4)) (by rw [w4.2.1 24 (by decide)]; exact s1) (by rw [w4.2.1 17 (by decide)]; exact s2)
  obtain ⟨rr, hh, y1, y2, own2, N2, T2, O2, F2, v1, v2⟩ := comp
  obtain ⟨rr', m', w1, w2, w3⟩ := mod
  subst y2 w2
  refine ⟨_, hh, m', own2, _, y1, w1, O2.cb (by omega) (by omega), I1.xk ⟨fun k hk => O2.lsb hk, ⟨I.lt.1, I.lt.2.1, fun j hj => ?_⟩, fun q h1 h2 => ?_⟩, w3, F2⟩
  · show (va_up X.w.A r _ (4 + j)).flatten = _
    rw [va_up_ne _ _ (by omega)]
    exact I.lt.2.2 j hj
  · show va_up X.w.A r _ q = []
    have h1 : X.w.n ≤ q := h1
    rw [va_up_ne _ _ (by omega)]
    exact I.1.2.2.1.2.2 q h1 h2
end
