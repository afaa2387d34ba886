/-! PURE SIDE: building a tree -/
set_option maxRecDepth 100000
section
variable {h : PH} {a : Nat} {P : Option RH} {Q : Rt → PH → Prop}
theorem q_stXT {t n b c : Nat} {z : Int} {fs : List Value} {f : Nat → Option Nat} {K : PH → Option RH} {E : Nat → PH → Option RH} (e : h.1 a = some (.inl (t, n, .inr (.inr (.inr (.inr f)))))) (ht : 4 ≤ t ∧ t < 13) (hz : 0 ≤ z ∧ z < n ∧ z < 2147483648) (eb : h.1 b = some (.inr (c, fs))) (hn : ¬ (t = 6 ∧ c = 9)) (hb : okS t (.inr (c, fs)) = true) (kk : Ends (K (hset h a (.inl (t, n, .inr (.inr (.inr (.inr (va_up f z.toNat (some b))))))))) Q) : Ends (stX h a (ii z) b K E) Q := by
  have : stX h a (ii z) b K E = K (hset h a (.inl (t, n, .inr (.inr (.inr (.inr (va_up f z.toNat (some b)))))))) := by
    unfold stX aQ
    rw [e]
    show (if 4 ≤ t ∧ t < 13 then inB _ _ _ else none) = _
    rw [if_pos ht, inB_in hz, ii_toNat (by omega), eb]
    show (if t = 6 ∧ c = 9 then _ else if okS t (.inr (c, fs)) = true then _ else none) = _
    rw [if_neg hn, if_pos hb]
  rw [this]; exact kk
theorem q_stXF {n b : Nat} {z : Int} {fs : List Value} {f : Nat → Option Nat} {K : PH → Option RH} {E : Nat → PH → Option RH} (e : h.1 a = some (.inl (6, n, .inr (.inr (.inr (.inr f)))))) (hz : 0 ≤ z ∧ z < n ∧ z < 2147483648) (eb : h.1 b = some (.inr (9, fs))) (kk : Ends (E (h.2.1.1 + 2) (hbump h 3 23)) Q) : Ends (stX h a (ii z) b K E) Q := by
  have : stX h a (ii z) b K E = E (h.2.1.1 + 2) (hbump h 3 23) := by
    unfold stX aQ
    rw [e]
    show (if 4 ≤ 6 ∧ 6 < 13 then inB _ _ _ else none) = _
    rw [if_pos (by decide), inB_in hz, eb]
    show (if 6 = 6 ∧ 9 = 9 then _ else _) = _
    rw [if_pos (by decide)]
  rw [this]; exact kk
end
section
variable {own : Nat → Nat} {ρ b : Nat}
/-- the inner node over two trees -/
theorem t_j106 {rg : PH → Nat → Int32 → Int32 → Option RH} {h : PH} {d ka k0 k1 lo m m' t : Nat} {x0 x1 : LX} {f : Nat → Option Nat} (w : Wf h) (ho : ∀ x, h.2.1.1 ≤ x → own x = ρ) (hka : own ka = ρ) (e : h.1 ka = some (.inl (t, 2, .inr (.inr (.inr (.inr f)))))) (f0 : f 0 = some k0) (f1 : f 1 = some k1) (ht : 4 ≤ t ∧ t < 7) (hb : b ≤ lo ∧ lo ≤ m ∧ m ≤ m' ∧ m' ≤ ka) (hl : x1.length ≤ x0.length ∧ x0.length ≤ x1.length + 1 ∧ 1 ≤ x1.length) (t0 : Tree own ρ b h d k0 x0 lo m) (t1 : Tree own ρ b h d k1 x1 m m') :
    EQ (c_R_build_j106 rg h ka) (fun v h' => v = some h.2.1.1 ∧ Tree own ρ b h' (d + 1) h.2.1.1 (x0 ++ x1) lo h'.2.1.1 ∧ h'.2 = ((h.2.1.1 + 1, h.2.1.2 + 5), h.2.2) ∧ Wf h' ∧ ∀ x c, h.1 x = some c → h'.1 x = some c) := by
  refine EQ.of ?_
  unfold c_R_build_j106
  have lka := w.lt e
  refine q_newO ?_
  have w2 : Wf (hnew h ([.int 0, .int 0, .int 0, .null, .int 0] : List Value).length (.inr (10, [.int 0, .int 0, .int 0, .null, .int 0]))) := w.new
  unfold c_I_init
  refine q_hV (Q1 := fun h' => h' = hset (hset (hnew h ([.int 0, .int 0, .int 0, .null, .int 0] : List Value).length (.inr (10, [.int 0, .int 0, .int 0, .null, .int 0]))) h.2.1.1 (nodeC 0 0 0 ka false)) h.2.1.1 (nodeC (fl (x0 ++ x1)).length (cnt (fl (x0 ++ x1))) (x0 ++ x1).length ka false)) (EV.of ?_) fun h' g => ?_
  · refine q_grd new_eq (by decide) ?_
    have en : c_N_init (hnew h ([.int 0, .int 0, .int 0, .null, .int 0] : List Value).length (.inr (10, [.int 0, .int 0, .int 0, .null, .int 0]))) h.2.1.1 = rV (hnew h ([.int 0, .int 0, .int 0, .null, .int 0] : List Value).length (.inr (10, [.int 0, .int 0, .int 0, .null, .int 0]))) := by
      unfold c_N_init
      exact grd_eq new_eq (by decide)
    refine q_hVe en ?_
    refine q_pQ new_eq (by decide) (Nat.le_of_ble_eq_true rfl) ?_
    have eh : ∀ c, (∀ x c', h.1 x = some c' → (hset (hnew h ([.int 0, .int 0, .int 0, .null, .int 0] : List Value).length (.inr (10, [.int 0, .int 0, .int 0, .null, .int 0]))) h.2.1.1 c).1 x = some c') := fun c x c' q => up_nx (Nat.ne_of_lt (w.lt q)) (new_old w q)
    have K : KT own ρ b (hset (hnew h ([.int 0, .int 0, .int 0, .null, .int 0] : List Value).length (.inr (10, [.int 0, .int 0, .int 0, .null, .int 0]))) h.2.1.1 (nodeC 0 0 0 ka false)) d h.2.1.1 ka k0 k1 lo m m' (h.2.1.1 + 1) x0 x1 := ⟨⟨ho _ (Nat.le_refl _), hka⟩, ⟨t, f, eh _ _ _ e, f0, f1, ht.1, ht.2⟩, by omega, hl, t0.frame (fun x c _ q => eh _ x c q), t1.frame (fun x c _ q => eh _ x c q)⟩
    have ec : (Sum.inr (10, List.set [Value.int 0, Value.int 0, Value.int 0, Value.null, Value.int 0] 3 (va_rf (some ka))) : PC) = nodeC 0 0 0 ka false := rfl
    rw [ec]
    refine q_hV (t_recount K up_eq) fun h' g => ?_
    exact q_rV ⟨rfl, g⟩
  · subst g
    rw [hset_hset]
    have eh : ∀ c, (∀ x c', h.1 x = some c' → (hset (hnew h ([.int 0, .int 0, .int 0, .null, .int 0] : List Value).length (.inr (10, [.int 0, .int 0, .int 0, .null, .int 0]))) h.2.1.1 c).1 x = some c') := fun c x c' q => up_nx (Nat.ne_of_lt (w.lt q)) (new_old w q)
    refine q_rQ ⟨some h.2.1.1, rfl, rfl, Or.inr ⟨ka, k0, k1, m, m', false, x0, x1, ⟨⟨ho _ (Nat.le_refl _), hka⟩, ⟨t, f, eh _ _ _ e, f0, f1, ht.1, ht.2⟩, ?_, hl, t0.frame (fun x c _ q => eh _ x c q), t1.frame (fun x c _ q => eh _ x c q)⟩, up_eq, rfl⟩, rfl, w2.setE new_eq, fun x c q => eh _ x c q⟩
    show _ ∧ _ ∧ _ ∧ _ ∧ ka < h.2.1.1 + 1 ∧ m' ≤ h.2.1.1 ∧ h.2.1.1 < h.2.1.1 + 1
    omega
/-- all but the rope's object stays -/
def BF (ρ : Nat) (h h' : PH) : Prop := h.2.1.1 ≤ h'.2.1.1 ∧ h.2.1.2 ≤ h'.2.1.2 ∧ h'.2.2 = h.2.2 ∧ Wf h' ∧ ∀ x c, x ≠ ρ → h.1 x = some c → h'.1 x = some c
theorem BF.rf {h : PH} (w : Wf h) : BF ρ h h := ⟨Nat.le_refl _, Nat.le_refl _, rfl, w, fun _ _ _ e => e⟩
theorem BF.trans {h h1 h' : PH} (o : BF ρ h h1) (k : BF ρ h1 h') : BF ρ h h' := ⟨Nat.le_trans o.1 k.1, Nat.le_trans o.2.1 k.2.1, k.2.2.1.trans o.2.2.1, k.2.2.2.1, fun x c q e => k.2.2.2.2 x c q (o.2.2.2.2 x c q e)⟩
/-- leaves in a row -/
def Lvs (own : Nat → Nat) (ρ b : Nat) (h : PH) (row : Nat → Option Nat) (k : Nat) (xs : LX) : Prop := ∀ j, (hj : j < xs.length) → row (k + j) = some xs[j].1 ∧ LeafL h xs[j].1 xs[j].2 ∧ own xs[j].1 = ρ ∧ own (xs[j].1 + 1) = ρ ∧ xs[j].1 + 1 < b
theorem Lvs.frame {h h' : PH} {row : Nat → Option Nat} {k : Nat} {xs : LX} (L : Lvs own ρ b h row k xs) (er : ∃ fs, h.1 ρ = some (.inr (4, fs))) (o : BF ρ h h') : Lvs own ρ b h' row k xs := by
  intro j hj
  obtain ⟨l1, l2, l3⟩ := L j hj
  refine ⟨l1, l2.frame fun x c hx hc => o.2.2.2.2 x c ?_ hc, l3⟩
  intro n
  obtain ⟨fs, er⟩ := er
  obtain ⟨a1, g, ⟨s, v, g1, g2, g3⟩, a3⟩ := l2
  rcases hx with hx | hx
  · rw [← hx, n, er] at g1; injection g1 with g1; injection g1 with g1; injection g1 with g1; cases g1
  · rw [← hx, n, er] at g2; cases g2
theorem Lvs.take {h : PH} {row : Nat → Option Nat} {k n : Nat} {xs : LX} (L : Lvs own ρ b h row k xs) : Lvs own ρ b h row k (xs.take n) := by
  intro j hj
  rw [List.length_take] at hj
  have := L j (by omega)
  rw [List.getElem_take]
  exact this
theorem Lvs.drop {h : PH} {row : Nat → Option Nat} {k n : Nat} {xs : LX} (L : Lvs own ρ b h row k xs) : Lvs own ρ b h row (k + n) (xs.drop n) := by
  intro j hj
  rw [List.length_drop] at hj
  have := L (n + j) (by omega)
  rw [List.getElem_drop, Nat.add_assoc]
  exact this
theorem Tree.cls {h : PH} {d a lo hi : Nat} {xs : LX} (T : Tree own ρ b h d a xs lo hi) : (xs.length = 1 ∧ ∃ fs, h.1 a = some (.inr (9, fs))) ∨ (2 ≤ xs.length ∧ ∃ fs, h.1 a = some (.inr (10, fs))) := by
  cases d with
  | zero => exact absurd T id
  | succ d =>
    rcases T with ⟨l, q, q1, -, -, -, -, -⟩ | ⟨ka, k0, k1, m, m', w, x0, x1, K, e, q⟩
    · subst q
      obtain ⟨t, e⟩ := q1.ln
      exact Or.inl ⟨rfl, _, e⟩
    · have := congrArg List.length (congrArg ad q)
      rw [ad_trn, ad_len, ad_len, List.length_append] at this
      have u4 := K.2.2.2.1
      exact Or.inr ⟨by omega, _, e⟩
theorem Tree.bf {h h' : PH} {d a lo hi : Nat} {xs : LX} {fs : List Value} (T : Tree own ρ b h d a xs lo hi) (er : h.1 ρ = some (.inr (4, fs))) (hlt : ρ < lo) (o : ∀ x c, x ≠ ρ → h.1 x = some c → h'.1 x = some c) : Tree own ρ b h' d a xs lo hi := by
  refine T.frame fun x c hx hc => o x c ?_ hc
  intro n
  rcases hx with ⟨p, hp, z⟩ | z
  · obtain ⟨⟨l, a1, g, ⟨s, v, g1, g2, g3⟩, a3⟩, -⟩ := T.leafs p hp
    rcases z with z | z
    · rw [← z, n, er] at g1; injection g1 with g1; injection g1 with g1; injection g1 with g1; cases g1
    · rw [← z, n, er] at g2; cases g2
  · omega
theorem t_build1 {rg : PH → Nat → Int32 → Int32 → Option RH} {d k : Nat} {xs : LX} {h : PH} {fs : List Value} {w0 : Nat} {row : Nat → Option Nat} (hx : xs.length = 1) (hk : k < 152) (hb : b ≤ h.2.1.1) (er : h.1 ρ = some (.inr (4, fs))) (e0 : fs[0]? = some (.ref w0)) (ew : h.1 w0 = some (.inl (4, 152, .inr (.inr (.inr (.inr row)))))) (L : Lvs own ρ b h row k xs) :
    EQ (b_R_build rg h ρ (ii k) (ii (k + 1 : Nat))) (fun v h' => ∃ a, v = some a ∧ Tree own ρ b h (d + 1) a xs h.2.1.1 h.2.1.1 ∧ h' = h) := by
  obtain ⟨l1, l2, l3, l4, l5⟩ := L 0 (by omega)
  have hxs : xs = [xs[0]] := by
    match xs, hx with
    | [p], _ => rfl
  refine EQ.of ?_
  unfold b_R_build
  refine q_grd er (by decide) ?_
  have e1 : ii ((k + 1 : Nat) : Int) - ii (k : Int) = (1 : Int32) := by rw [ii_sub, il_1]; congr 1; omega
  refine q_pos _ e1 ?_
  refine q_gQr er (by decide) e0 ?_
  refine q_nn ?_
  refine q_ldQ ew (by decide) (by omega) ?_
  have l1' : row (Int.toNat (k : Int)) = some xs[0].1 := by rw [Int.toNat_natCast]; exact l1
  rw [l1']
  exact q_rQ ⟨some xs[0].1, rfl, xs[0].1, rfl, Or.inl ⟨xs[0].2, hxs, l2, l3, l4, l5, hb, Nat.le_refl _⟩, rfl⟩
theorem set_same {fs : List Value} {k : Nat} {v : Value} (e : fs[k]? = some v) : fs.set k v = fs := by
  apply List.ext_getElem?
  intro j
  rw [List.getElem?_set]
  by_cases hj : k = j
  · subst hj
    have hl : k < fs.length := by
      refine Nat.lt_of_not_le fun q => ?_
      rw [List.getElem?_eq_none q] at e
      cases e
    rw [if_pos rfl, if_pos hl, e]
  · rw [if_neg hj]
theorem at_lt {α : Type} {fs : List α} {k : Nat} {v : α} (e : fs[k]? = some v) : k < fs.length := by
  refine Nat.lt_of_not_le fun q => ?_
  rw [List.getElem?_eq_none q] at e
  cases e
theorem va_two {f : Nat → Option Nat} {a0 a1 : Nat} : va_up (va_up f 0 (some a0)) 1 (some a1) 0 = some a0 ∧ va_up (va_up f 0 (some a0)) 1 (some a1) 1 = some a1 := by
  constructor
  · unfold va_up; simp
  · unfold va_up; simp
/-- the last step of building -/
theorem t_top {rg : PH → Nat → Int32 → Int32 → Option RH} {h h5 : PH} {d ka k0 k1 lo m t : Nat} {x0 x1 : LX} {f : Nat → Option Nat} {fs : List Value} (w : Wf h5) (ho : ∀ x, h.2.1.1 ≤ x → own x = ρ) (hs : h.2.1.1 ≤ h5.2.1.1) (e : h5.1 ka = some (.inl (t, 2, .inr (.inr (.inr (.inr f)))))) (f0 : f 0 = some k0) (f1 : f 1 = some k1) (ht : 4 ≤ t ∧ t < 7) (hb : b ≤ lo ∧ lo ≤ m ∧ m ≤ h.2.1.1 ∧ h.2.1.1 ≤ ka) (hl : x1.length ≤ x0.length ∧ x0.length ≤ x1.length + 1 ∧ 1 ≤ x1.length) (t0 : Tree own ρ b h5 d k0 x0 lo m) (t1 : Tree own ρ b h5 d k1 x1 m h.2.1.1) (er : h5.1 ρ = some (.inr (4, fs))) :
    EQ (c_R_build_j106 rg h5 ka) (fun v h' => ∃ a, v = some a ∧ Tree own ρ b h' (d + 1) a (x0 ++ x1) lo h'.2.1.1 ∧ h'.2 = ((h5.2.1.1 + 1, h5.2.1.2 + 5), h5.2.2) ∧ Wf h' ∧ (∀ x c, h5.1 x = some c → h'.1 x = some c) ∧ h'.1 ρ = some (.inr (4, fs))) :=
  (t_j106 w (fun x hx => ho x (by omega)) (ho _ (by omega)) e f0 f1 ht hb hl t0 t1).mono fun v h' ⟨g1, g2, g3, g4, g5⟩ => ⟨_, g1, g2, g3, g4, g5, g5 _ _ er⟩
theorem t_build : ∀ (f k n : Nat) (xs : LX) (h : PH) (fs : List Value) (mx w0 : Nat) (row : Nat → Option Nat), n ≤ 2 ^ f → 1 ≤ n → xs.length = n → k + n ≤ 152 → Wf h → (∀ x, h.2.1.1 ≤ x → own x = ρ) → b ≤ h.2.1.1 → h.1 ρ = some (.inr (4, fs)) → fs[0]? = some (.ref w0) → fs[4]? = some (.int (ii mx)) → h.1 w0 = some (.inl (4, 152, .inr (.inr (.inr (.inr row))))) → Lvs own ρ b h row k xs →
    EQ (c_R_build (f + 1) h ρ (ii k) (ii (k + n : Nat))) (fun v h' => ∃ a, v = some a ∧ Tree own ρ b h' (f + 1) a xs h.2.1.1 h'.2.1.1 ∧ BF ρ h h' ∧ h'.1 ρ = some (.inr (4, fs.set 4 (.int (ii (mx + mxd (f + 1) n : Nat))))) ∧ h'.2.1.1 + 6 ≤ h.2.1.1 + 6 * n ∧ h'.2.1.2 + 32 ≤ h.2.1.2 + 32 * n) := by
  intro f
  induction f with
  | zero =>
    intro k n xs h fs mx w0 row hn hn1 hx hk w ho hb er e0 e4 ew L
    have hn : n = 1 := by simp at hn; omega
    subst hn
    refine (t_build1 (rg := c_R_build 0) (d := 0) hx (by omega) hb er e0 ew L).mono fun v h' ⟨a, g1, g2, g3⟩ => ?_
    subst g3
    exact ⟨a, g1, g2, BF.rf w, by rw [set_same (show fs[4]? = some (.int (ii (mx + mxd (0 + 1) 1 : Nat))) from e4)]; exact er, by omega, by omega⟩
  | succ f ih =>
    intro k n xs h fs mx w0 row hn hn1 hx hk w ho hb er e0 e4 ew L
    by_cases hn2 : n = 1
    · subst hn2
      refine (t_build1 (rg := c_R_build (f + 1)) (d := f + 1) hx (by omega) hb er e0 ew L).mono fun v h' ⟨a, g1, g2, g3⟩ => ?_
      subst g3
      have e5 : mxd (f + 1 + 1) 1 = 0 := by unfold mxd; rfl
      exact ⟨a, g1, g2, BF.rf w, by rw [e5, set_same (show fs[4]? = some (.int (ii (mx + 0 : Nat))) from e4)]; exact er, by omega, by omega⟩
    · have hp : 2 ^ (f + 1) = 2 * 2 ^ f := by rw [Nat.pow_succ]; omega
      have l4 := at_lt e4
      refine EQ.of ?_
      show Ends (b_R_build (c_R_build (f + 1)) h ρ (ii k) (ii (k + n : Nat))) _
      unfold b_R_build
      refine q_grd er (by decide) ?_
      refine q_neg _ (by rw [ii_sub, il_1]; exact ii_eqF (by omega)) ?_
      refine q_nz (by decide) ?_
      have ey : ii (k : Int) + ((ii ((k + n : Nat) : Int) - ii (k : Int)) + (1 : Int32)) / (2 : Int32) = ii ((k + (n + 1) / 2 : Nat) : Int) := by
        rw [il_1, il_2, ii_sub, ii_add, ii_div (by omega), ii_add]
        congr 1
        omega
      rw [ey]
      refine q_nm ?_
      refine q_hQg er (by decide) (ih k ((n + 1) / 2) (xs.take ((n + 1) / 2)) h fs mx w0 row (by omega) (by omega) (by rw [List.length_take]; omega) (by omega) w ho hb er e0 e4 ew L.take) fun v3 h2 ⟨a0, g1, T0, B1, er2, s1, s2⟩ => ?_
      subst g1
      have hw : w0 ≠ ρ := fun z => by rw [z, er] at ew; cases ew
      have w2 := B1.2.2.2.1
      have ew2 := B1.2.2.2.2 _ _ hw ew
      have L2 := L.frame ⟨fs, er⟩ B1
      have e02 : (fs.set 4 (.int (ii (mx + mxd (f + 1) ((n + 1) / 2) : Nat))))[0]? = some (.ref w0) := by rw [List.getElem?_set_ne (by decide)]; exact e0
      have e42 : (fs.set 4 (.int (ii (mx + mxd (f + 1) ((n + 1) / 2) : Nat))))[4]? = some (.int (ii (mx + mxd (f + 1) ((n + 1) / 2) : Nat))) := by rw [List.getElem?_set_self l4]
      have hkn : k + (n + 1) / 2 + n / 2 = k + n := by omega
      have b1 := B1.1
      have ih2 := ih (k + (n + 1) / 2) (n / 2) (xs.drop ((n + 1) / 2)) h2 _ _ w0 row (by omega) (by omega) (by rw [List.length_drop]; omega) (by omega) w2 (fun x hx => ho x (by omega)) (by omega) er2 e02 e42 ew2 L2.drop
      rw [hkn] at ih2
      refine q_hQg er2 (by decide) ih2 fun v5 h4 ⟨a1, g1, T1, B2, er4, s3, s4⟩ => ?_
      subst g1
      rw [List.set_set] at er4
      have w4 := B2.2.2.2.1
      have b2 := B2.1
      have lr := w.lt er
      have T0 := T0.bf er2 lr B2.2.2.2.2
      have hx0 : (xs.take ((n + 1) / 2)).length = (n + 1) / 2 := by rw [List.length_take]; omega
      have hx1 : (xs.drop ((n + 1) / 2)).length = n / 2 := by rw [List.length_drop]; omega
      have hxx : xs = xs.take ((n + 1) / 2) ++ xs.drop ((n + 1) / 2) := (List.take_append_drop _ _).symm
      have la0 := T0.lt
      have la1 := T1.lt
      have ho4 : ∀ x, h4.2.1.1 ≤ x → own x = ρ := fun x hx => ho x (by omega)
      have bs := B1.2.1
      have bs2 := B2.2.1
      have bt : BF ρ h h4 := B1.trans B2
      have hle : (xs.drop ((n + 1) / 2)).length ≤ (xs.take ((n + 1) / 2)).length ∧ (xs.take ((n + 1) / 2)).length ≤ (xs.drop ((n + 1) / 2)).length + 1 ∧ 1 ≤ (xs.drop ((n + 1) / 2)).length := by omega
      have n1 : a0 ≠ h4.2.1.1 := by omega
      have n2 : a1 ≠ h4.2.1.1 := by omega
      have n3 : ρ ≠ h4.2.1.1 := by omega
      have mxe : ∀ z : Nat, mxd (f + 1 + 1) n = mxd (f + 1) ((n + 1) / 2) + mxd (f + 1) (n / 2) + (if n = 3 then 1 else 0) := by
        intro z
        show (if n < 2 then 0 else mxd (f + 1) ((n + 1) / 2) + mxd (f + 1) (n / 2) + (if n = 3 then 1 else 0)) = _
        rw [if_neg (by omega)]
      have fin : ∀ (h5 : PH) (ka t : Nat) (g : Nat → Option Nat) (cx sx : Nat), Wf h5 → h5.1 ka = some (.inl (t, 2, .inr (.inr (.inr (.inr g))))) → g 0 = some a0 → g 1 = some a1 → 4 ≤ t ∧ t < 7 → h4.2.1.1 ≤ ka → h5.2 = ((h4.2.1.1 + cx, h4.2.1.2 + sx), h4.2.2) → cx ≤ 5 → sx ≤ 27 → (∀ x c, x ≠ ρ → h4.1 x = some c → h5.1 x = some c) → h5.1 ρ = some (.inr (4, fs.set 4 (.int (ii (mx + mxd (f + 1 + 1) n : Nat))))) → Ends (c_R_build_j106 (c_R_build (f + 1)) h5 ka) (fun r h' => ∃ v, r = .inl (some (va_rf v)) ∧ ∃ a, v = some a ∧ Tree own ρ b h' (f + 1 + 1) a xs h.2.1.1 h'.2.1.1 ∧ BF ρ h h' ∧ h'.1 ρ = some (.inr (4, fs.set 4 (.int (ii (mx + mxd (f + 1 + 1) n : Nat))))) ∧ h'.2.1.1 + 6 ≤ h.2.1.1 + 6 * n ∧ h'.2.1.2 + 32 ≤ h.2.1.2 + 32 * n) := by
        intro h5 ka t g cx sx w5 f1 f2 f3 f4 f5 f6 f7 f8 f9 f10
        have hs5 : h5.2.1.1 = h4.2.1.1 + cx := by rw [f6]
        have hs6 : h5.2.1.2 = h4.2.1.2 + sx := by rw [f6]
        have hs7 : h5.2.2 = h4.2.2 := by rw [f6]
        refine Ends.ofEQ (t_top (h := h4) w5 ho4 (by omega) f1 f2 f3 f4 (by omega) hle (T0.bf er4 lr f9) (T1.bf er4 (by omega) f9) f10) fun v h' ⟨a, q1, q2, q3, q4, q5, q6⟩ => ?_
        have r1 : h'.2.1.1 = h5.2.1.1 + 1 := by rw [q3]
        have r2 : h'.2.1.2 = h5.2.1.2 + 5 := by rw [q3]
        have r3 : h'.2.2 = h5.2.2 := by rw [q3]
        rw [← hxx] at q2
        exact ⟨v, rfl, a, q1, q2, ⟨by omega, by omega, by rw [r3, hs7]; exact bt.2.2.1, q4, fun x c n e => q5 x c (f9 x c n (bt.2.2.2.2 x c n e))⟩, q6, by omega, by omega⟩
      have er4' : ∀ z : Nat, n ≠ 3 → h4.1 ρ = some (.inr (4, fs.set 4 (.int (ii (mx + mxd (f + 1 + 1) n : Nat))))) := by
        intro z hz
        rw [mxe 0, if_neg hz, Nat.add_zero, ← Nat.add_assoc]
        exact er4
      rcases T0.cls with ⟨c0, fs0, ea0⟩ | ⟨c0, fs0, ea0⟩
      · -- two leaves
        rcases T1.cls with ⟨c1, fs1, ea1⟩ | ⟨c1, -⟩
        · refine q_iofT ea0 ?_
          simp only [il_2]
          refine q_newA (by decide) ?_
          unfold c_R_build_j59
          simp only [il_0, il_1]
          refine q_stQ new_eq (by decide) (by decide) (new_old w4 ea0) rfl ?_
          refine q_nn ?_
          refine q_stXT up_eq (by decide) (by decide) (up_nx n2 (new_old w4 ea1)) (by decide) rfl ?_
          rw [hset_hset]
          refine fin _ _ 4 _ 1 2 (w4.new.setE new_eq) up_eq va_two.1 va_two.2 (by decide) (Nat.le_refl _) rfl (by decide) (by decide) (fun x c _ e => up_nx (Nat.ne_of_lt (w4.lt e)) (new_old w4 e)) (up_nx n3 (new_old w4 (er4' 0 (by omega))))
        · omega
      · refine q_iofF ea0 (by decide) ?_
        simp only [il_2]
        refine q_newA (by decide) ?_
        unfold c_R_build_j59
        simp only [il_0, il_1]
        refine q_stQ new_eq (by decide) (by decide) (new_old w4 ea0) rfl ?_
        refine q_nn ?_
        rcases T1.cls with ⟨c1, fs1, ea1⟩ | ⟨c1, fs1, ea1⟩
        · -- a leaf beside an inner one
          refine q_stXF up_eq (by decide) (up_nx n2 (new_old w4 ea1)) ?_
          have mix : ∀ H5 : PH, Wf H5 → (∀ x c, h4.1 x = some c → H5.1 x = some c) → H5.2 = ((h4.2.1.1 + 4, h4.2.1.2 + 25), h4.2.2) → Ends (gI H5 ρ [4] 4 fun v7 => pI H5 ρ [4] 4 (v7 + ii 1) fun h8 => newA h8 5 (ii 2) (.inr (.inr (.inr (.inr (fun _ => none))))) fun a9 h10 => stQ h10 a9 (ii 0) (some a0) fun h11 => stQ h11 a9 (ii 1) (some a1) fun h12 => c_R_build_j106 (c_R_build (f + 1)) h12 a9) (fun r h' => ∃ v, r = .inl (some (va_rf v)) ∧ ∃ a, v = some a ∧ Tree own ρ b h' (f + 1 + 1) a xs h.2.1.1 h'.2.1.1 ∧ BF ρ h h' ∧ h'.1 ρ = some (.inr (4, fs.set 4 (.int (ii (mx + mxd (f + 1 + 1) n : Nat))))) ∧ h'.2.1.1 + 6 ≤ h.2.1.1 + 6 * n ∧ h'.2.1.2 + 32 ≤ h.2.1.2 + 32 * n) := by
            intro H5 w5 k5 z5
            have z51 : H5.2.1.1 = h4.2.1.1 + 4 := by rw [z5]
            have er5 := k5 _ _ er4
            have n5 : a0 ≠ ρ := fun q => by rw [q, er4] at ea0; injection ea0 with ea0; injection ea0 with ea0; injection ea0 with ea0; cases ea0
            have n6 : a1 ≠ ρ := fun q => by rw [q, er4] at ea1; injection ea1 with ea1; injection ea1 with ea1; injection ea1 with ea1; cases ea1
            refine q_gI er5 (by decide) (List.getElem?_set_self l4) ?_
            refine q_pI er5 (by decide) (by rw [List.length_set]; exact l4) ?_
            refine q_newA (by decide) ?_
            rw [List.set_set, ii_add]
            have w6 : ∀ c, Wf (hset H5 ρ c) := fun c => w5.setE er5
            refine q_stQ new_eq (by decide) (by decide) (new_old (w6 _) (up_nx n5 (k5 _ _ ea0))) rfl ?_
            refine q_stQ up_eq (by decide) (by decide) (up_nx (by show a1 ≠ H5.2.1.1; omega) (new_old (w6 _) (up_nx n6 (k5 _ _ ea1)))) rfl ?_
            rw [hset_hset]
            refine fin _ _ 5 _ 5 27 ((w6 _).new.setE new_eq) up_eq va_two.1 va_two.2 (by decide) (by show h4.2.1.1 ≤ H5.2.1.1; omega) ?_ (by decide) (by decide) (fun x c nx e => up_nx (by have := w4.lt e; show x ≠ H5.2.1.1; omega) (new_old (w6 _) (up_nx nx (k5 _ _ e)))) (up_nx (by show ρ ≠ H5.2.1.1; omega) (new_old (w6 _) ?_))
            · show ((H5.2.1.1 + 1, H5.2.1.2 + 2), H5.2.2) = _
              rw [z5]
            · rw [up_eq, mxe 0]
              have hn3 : n = 3 := by omega
              rw [if_pos hn3]
              have : ((mx + mxd (f + 1) ((n + 1) / 2) + mxd (f + 1) (n / 2) : Nat) : Int) + 1 = ((mx + (mxd (f + 1) ((n + 1) / 2) + mxd (f + 1) (n / 2) + 1) : Nat) : Int) := by omega
              rw [this]
          refine mix _ ((w4.new.setE new_eq).bump) (fun x c e => bump_old (up_nx (Nat.ne_of_lt (w4.lt e)) (new_old w4 e))) rfl
        · refine q_stXT up_eq (by decide) (by decide) (up_nx n2 (new_old w4 ea1)) (by decide) rfl ?_
          rw [hset_hset]
          refine fin _ _ 6 _ 1 2 (w4.new.setE new_eq) up_eq va_two.1 va_two.2 (by decide) (Nat.le_refl _) rfl (by decide) (by decide) (fun x c _ e => up_nx (Nat.ne_of_lt (w4.lt e)) (new_old w4 e)) (up_nx n3 (new_old w4 (er4' 0 (by omega))))
end
