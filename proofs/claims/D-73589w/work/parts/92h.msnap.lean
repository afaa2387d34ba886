/-! PURE SIDE: the model: what was, and deeds drawn -/
set_option maxRecDepth 100000
abbrev SN : Type := (Nat → LL) × List Nat
def US (f : Nat → Int32) (L : List SN) : Prop := ∀ (j : Nat) (p : SN), L[j]? = some p → (∀ r, r < 4 → (p.1 r).flatten.length ≤ 600) ∧ SG f (3213 * j) p.1 p.2
theorem SG.congr {f g : Nat → Int32} {a b : Nat} {A : Nat → LL} {T : List Nat} (h : SG f a A T) (hb : ∀ r, r < 4 → (A r).flatten.length ≤ 600) (e : ∀ x, x < 3213 → g (b + x) = f (a + x)) : SG g b A T := MTx.congr h hb fun x h1 h2 => e (x - 2607) (by omega)
section
variable {ms ms' : MS} {low rows r : Nat} {A : Nat → LL} {T : List Nat} {L : List SN}
def keepU (L : List SN) (p : SN) : List SN := (if L.length = 8 then L.drop 1 else L) ++ [p]
theorem m_snap_j50 (hL : L.length < 8) (e1 : ms.1 24 0 = ii L.length) (U : US (ms.1 17) L) (M : MTx (ms.1 14) A T) (hb : ∀ r, r < 4 → (A r).flatten.length ≤ 600) : DV (d_M_snap_j50 ms) (fun m' => m'.1 24 0 = ii (L ++ [(A, T)]).length ∧ US (m'.1 17) (L ++ [(A, T)]) ∧ m'.2 = ms.2 ∧ ∀ k, k ≠ 17 → k ≠ 24 → m'.1 k = ms.1 k) := by
  refine DV.of ?_
  unfold d_M_snap_j50
  refine d_nm ?_
  rw [e1, show (3213 : Int32) = ii 3213 from ii_lit 3213, ii_mul]
  have x1 : ((3213 : Int) * (L.length : Int)) = ((3213 * L.length : Nat) : Int) := by omega
  rw [x1]
  refine d_bV (m_save (ms := ms) (k := 17) (N := 25704) (off := 3213 * L.length) (by decide) rfl (by omega) (by decide)) fun m5 ⟨q1, q2, q3, q4⟩ => ?_
  refine d_nm ?_
  rw [q2 24 (by decide), e1, il_1, ii_add]
  refine d_nm ?_
  refine d_dV ⟨rfl, ?_, fun j p hp => ?_, q1, fun k h1 h2 => ?_⟩
  · rw [ms_eq, List.length_append, List.length_singleton]; congr 1
  · rw [ms_nk (by decide)]
    by_cases c : j < L.length
    · rw [List.getElem?_append_left c] at hp
      obtain ⟨u1, u2⟩ := U j p hp
      exact ⟨u1, u2.congr u1 fun x hx => q4 _ (Or.inl (by omega))⟩
    · rw [List.getElem?_append_right (by omega)] at hp
      have hj := at_lt hp
      simp at hj
      have hj2 : j = L.length := by omega
      subst hj2
      rw [Nat.sub_self] at hp
      injection hp with hp
      subst hp
      refine ⟨hb, M.congr hb fun x h1 h2 => ?_⟩
      rw [q3 (x - 2607) (by omega)]
      have e9 : 2607 + (x - 2607) = x := by omega
      rw [e9]
  · rw [ms_nk h2, q2 k h1]
theorem m_snap_l11 (hL : L.length = 8) (M : MTx (ms.1 14) A T) (hb : ∀ r, r < 4 → (A r).flatten.length ≤ 600) : ∀ (m fu j : Nat) (m0 : MS), m < fu → j + m = 22491 → m0.1 24 0 = ii 8 → m0.2 = ms.2 → (∀ k, k ≠ 17 → k ≠ 24 → m0.1 k = ms.1 k) → (∀ x, x < j → m0.1 17 x = ms.1 17 (x + 3213)) → (∀ x, j ≤ x → m0.1 17 x = ms.1 17 x) → US (ms.1 17) L → DV (itr (d_M_snap_l11) (fun _ _ => none) fu m0 (ii j)) (fun m' => m'.1 24 0 = ii (keepU L (A, T)).length ∧ US (m'.1 17) (keepU L (A, T)) ∧ m'.2 = ms.2 ∧ ∀ k, k ≠ 17 → k ≠ 24 → m'.1 k = ms.1 k) := by
  intro m
  induction m with
  | zero =>
    intro fu j m0 hf hj e1 e2 e3 e4 e5 U
    obtain ⟨fu, rfl⟩ : ∃ x, fu = x + 1 := ⟨fu - 1, by omega⟩
    refine DV.of ?_
    rw [itr_succ]
    unfold d_M_snap_l11
    rw [show (22491 : Int32) = ii 22491 from ii_lit 22491]
    refine d_pos _ (ii_leT (by omega)) ?_
    refine d_nm ?_
    rw [e1, il_1, ii_sub]
    refine d_nm ?_
    have hk : keepU L (A, T) = L.drop 1 ++ [(A, T)] := by unfold keepU; rw [if_pos hL]
    have hdl : (L.drop 1).length = 7 := by rw [List.length_drop]; omega
    rw [hk]
    have ems : (mset m0 24 0 (ii (8 - 1))).1 14 = ms.1 14 := by rw [ms_nk (by decide), e3 14 (by decide) (by decide)]
    refine DE.ofV (m_snap_j50 (ms := mset m0 24 0 (ii (8 - 1))) (L := L.drop 1) (A := A) (T := T) (by omega) (by rw [ms_eq, hdl]; rfl) (fun i p hp => ?_) (by rw [ems]; exact M) hb) fun m' ⟨a1, a2, a3, a4⟩ => ⟨rfl, a1, a2, a3.trans e2, fun k h1 h2 => (a4 k h1 h2).trans ((ms_nk h2).trans (e3 k h1 h2))⟩
    rw [ms_nk (by decide)]
    have hi := at_lt hp
    rw [List.getElem?_drop] at hp
    obtain ⟨u1, u2⟩ := U (1 + i) p hp
    refine ⟨u1, u2.congr u1 fun x hx => ?_⟩
    rw [e4 _ (by omega)]
    have e9 : 3213 * i + x + 3213 = 3213 * (1 + i) + x := by omega
    rw [e9]
  | succ m ih =>
    intro fu j m0 hf hj e1 e2 e3 e4 e5 U
    obtain ⟨fu, rfl⟩ : ∃ x, fu = x + 1 := ⟨fu - 1, by omega⟩
    refine DV.of ?_
    rw [itr_succ]
    unfold d_M_snap_l11
    rw [show (22491 : Int32) = ii 22491 from ii_lit 22491, show (3213 : Int32) = ii 3213 from ii_lit 3213, il_1, ii_add, ii_add]
    refine d_neg _ (ii_leF (by omega)) ?_
    refine d_eA (N := 25704) rfl (n := j + 3213) (v := ms.1 17 (j + 3213)) (by omega) (e5 _ (by omega)) ?_
    refine d_sA (N := 25704) rfl (n := j) (by omega) ?_
    have x1 : ((j : Int) + 1) = ((j + 1 : Nat) : Int) := by omega
    rw [x1]
    refine DE.ofV (ih fu (j + 1) _ (by omega) (by omega) (by rw [ms_nk (by decide)]; exact e1) e2 (fun k h1 h2 => (ms_nk h1).trans (e3 k h1 h2)) (fun x hx => ?_) (fun x hx => (ms_ne (by omega)).trans (e5 x (by omega))) U) fun m' q => ⟨rfl, q⟩
    by_cases c : x = j
    · rw [c, ms_eq]
    · rw [ms_ne c]; exact e4 x (by omega)
theorem m_snap (hL : L.length ≤ 8) (e1 : ms.1 24 0 = ii L.length) (U : US (ms.1 17) L) (M : MTx (ms.1 14) A T) (hb : ∀ r, r < 4 → (A r).flatten.length ≤ 600) : DV (d_M_snap ms) (fun m' => m'.1 24 0 = ii (keepU L (A, T)).length ∧ US (m'.1 17) (keepU L (A, T)) ∧ m'.2 = ms.2 ∧ ∀ k, k ≠ 17 → k ≠ 24 → m'.1 k = ms.1 k) := by
  refine DV.of ?_
  unfold d_M_snap
  refine d_nm ?_
  rw [e1, il_8]
  by_cases c : L.length = 8
  · refine d_pos _ (ii_eqT (by omega)) ?_
    rw [il_0]
    exact DE.ofV (m_snap_l11 c M hb 22491 FU 0 ms (by unfold FU; omega) (by omega) (by rw [e1, c]; rfl) rfl (fun _ _ _ => rfl) (fun x hx => by omega) (fun _ _ => rfl) U) fun m' q => ⟨rfl, q⟩
  · refine d_neg _ (ii_eqF (by omega)) ?_
    have hk : keepU L (A, T) = L ++ [(A, T)] := by unfold keepU; rw [if_neg c]
    rw [hk]
    exact DE.ofV (m_snap_j50 (by omega) e1 U M hb) fun m' q => ⟨rfl, q⟩
theorem m_draw {n : Int32} (hn : n ≠ 0) : d_M_draw ms n = dI (rnd (sdN (ms.1 29 0)) n) (mset ms 29 0 (sdN (ms.1 29 0))) := by
  refine dEqI ?_
  unfold d_M_draw
  refine d_nm ?_
  refine d_nm ?_
  refine d_nm ?_
  refine d_nz hn ?_
  refine d_dI ⟨?_, rfl⟩
  rw [ms_eq]
  rfl
/-- frames of drawing -/
def GD (ms ms' : MS) : Prop := ms'.2 = ms.2 ∧ (∀ k, k ≠ 14 → k ≠ 29 → ms'.1 k = ms.1 k) ∧ ∀ x, x < 2607 ∨ 5820 ≤ x → ms'.1 14 x = ms.1 14 x
theorem GD.rf : GD ms ms := ⟨rfl, fun _ _ _ => rfl, fun _ _ => rfl⟩
theorem GD.trans {a b c : MS} (o : GD a b) (k : GD b c) : GD a c := ⟨k.1.trans o.1, fun j h1 h2 => (k.2.1 j h1 h2).trans (o.2.1 j h1 h2), fun x hx => (k.2.2 x hx).trans (o.2.2 x hx)⟩
theorem GM.gd (o : GM ms ms') : GD ms ms' := ⟨o.1, fun k h1 _ => o.2.1 k h1, o.2.2⟩
theorem GD.sd {v : Int32} : GD ms (mset ms 29 0 v) := ⟨rfl, fun k _ h2 => ms_nk h2, fun x _ => by rw [ms_nk (by decide)]⟩
theorem MO.nx {k i : Nat} {v : Int32} (M : MO (ms.1 14) low rows A T) (hk : k ≠ 14) : MO ((mset ms k i v).1 14) low rows A T := by rw [ms_nk (Ne.symm hk)]; exact M
theorem m_doIf {what i x : Nat} (M : MO (ms.1 14) low rows A T) (I : IV low A) (h4 : (A 4).flatten.length = T.length) (hT : T.length ≤ 200) (hw : what ≤ 5) (hr : r < 4) (hi : i ≤ 1000) (hx : x ≤ 600) (hb : what ≤ 1 → x ≤ 1) (hx4 : 4 ≤ what → x < 4 ∧ x ≠ r) : DI (d_M_doIf ms (ii what) (ii r) (ii i) (ii x)) (fun v m' => v = ii (bn (decide (why A what r i x = 0))) ∧ MO (m'.1 14) low rows (if why A what r i x = 0 then doA low A what r i x else A) T ∧ IV low (if why A what r i x = 0 then doA low A what r i x else A) ∧ GM ms m') := by
  refine DI.of ?_
  unfold d_M_doIf
  have rf := m_refusal (what := what) (r := r) (x := x) (z := (i : Int)) M I.len h4 hT (by omega) hr (by omega) hx (by omega) (by omega)
  rw [if_neg (show ¬ (i : Int) < 0 by omega), Int.toNat_natCast] at rf
  refine d_bIe rf ?_
  have wl : why A what r i x ≤ 2 := by
    unfold why
    split <;> (try split) <;> (try split) <;> omega
  by_cases c : why A what r i x = 0
  · refine d_pos _ (by rw [c]; rfl) ?_
    refine d_bV (m_live M I hw hr hi hx c hb hx4) fun m3 ⟨q1, q2, q3⟩ => ?_
    rw [decide_eq_true c, if_pos c]
    exact d_dZ1 ⟨_, rfl, rfl, q1, q2, q3⟩
  · refine d_neg _ (ii_eq0F (by omega)) ?_
    rw [decide_eq_false c, if_neg c]
    exact d_dZ0 ⟨_, rfl, rfl, M, I, GM.rf⟩
theorem m_drawsDeed (hr : 1 ≤ rows ∧ rows ≤ 4) (M : MO (ms.1 14) low rows A T) (I : IV low A) (h4 : (A 4).flatten.length = T.length) (hT : T.length ≤ 200) : DI (d_M_drawsDeed ms) (fun v m' => v = ii (bn (dw low rows A (ms.1 29 0)).1) ∧ MO (m'.1 14) low rows (dw low rows A (ms.1 29 0)).2.1 T ∧ IV low (dw low rows A (ms.1 29 0)).2.1 ∧ m'.1 29 0 = (dw low rows A (ms.1 29 0)).2.2 ∧ GD ms m') := by
  generalize hs : ms.1 29 0 = s
  refine DI.of ?_
  unfold d_M_drawsDeed
  have q8 := rnd_eq (s := sdN s) (n := 8) (by decide)
  have qr := rnd_eq (s := sdN (sdN s)) (n := rows) (by omega)
  generalize hwhat : rN (sdN s) 8 = what at q8
  generalize hrr : rN (sdN (sdN s)) rows = r at qr
  have hr4 : r < 4 := by omega
  have br := I.len r hr4
  have d1 : d_M_draw ms (ii ((8 : Nat) : Int)) = dI (ii what) (mset ms 29 0 (sdN s)) := by rw [m_draw (by decide), hs, q8.1]
  rw [il_8, il_0]
  refine d_bIe d1 ?_
  refine d_eA (N := 6062) rfl (n := 0) (v := ii rows) (by omega) (by rw [ms_nk (by decide)]; exact M.1) ?_
  have d2 : d_M_draw (mset ms 29 0 (sdN s)) (ii (rows : Int)) = dI (ii r) (mset (mset ms 29 0 (sdN s)) 29 0 (sdN (sdN s))) := by rw [m_draw (ii_eq0F (by omega)), ms_eq, qr.1]
  refine d_bIe d2 ?_
  have M2 : MO ((mset (mset ms 29 0 (sdN s)) 29 0 (sdN (sdN s))).1 14) low rows A T := (M.nx (by decide)).nx (by decide)
  have g2 : GD ms (mset (mset ms 29 0 (sdN s)) 29 0 (sdN (sdN s))) := GD.sd.trans GD.sd
  have s2 : (mset (mset ms 29 0 (sdN s)) 29 0 (sdN (sdN s))).1 29 0 = sdN (sdN s) := ms_eq
  generalize mset (mset ms 29 0 (sdN s)) 29 0 (sdN (sdN s)) = m2 at *
  refine d_bIe (m_sizeOf (M2.2.2.1 r hr4) hr4) ?_
  rw [il_1, ii_add]
  have x1 : (((A r).flatten.length : Int) + 1) = (((A r).flatten.length + 1 : Nat) : Int) := by omega
  rw [x1]
  have qi := rnd_eq (s := sdN (sdN (sdN s))) (n := (A r).flatten.length + 1) (by omega)
  generalize hii : rN (sdN (sdN (sdN s))) ((A r).flatten.length + 1) = i at qi
  have d3 : d_M_draw m2 (ii (((A r).flatten.length + 1 : Nat) : Int)) = dI (ii i) (mset m2 29 0 (sdN (sdN (sdN s)))) := by rw [m_draw (ii_eq0F (by omega)), s2, qi.1]
  refine d_bIe d3 ?_
  have edw : dw low rows A s = if dwB A what r i (dwX what rows (sdN (sdN (sdN (sdN s))))) = true then (true, doA low A (dwK what) r i (dwX what rows (sdN (sdN (sdN (sdN s))))), sdN (sdN (sdN (sdN s)))) else (false, A, sdN (sdN (sdN (sdN s)))) := by
    unfold dw
    rw [hwhat, hrr]
    dsimp only
    rw [hii]
  rw [edw]
  have M3 : MO ((mset m2 29 0 (sdN (sdN (sdN s)))).1 14) low rows A T := M2.nx (by decide)
  have g3 : GD ms (mset m2 29 0 (sdN (sdN (sdN s)))) := g2.trans GD.sd
  have s3 : (mset m2 29 0 (sdN (sdN (sdN s)))).1 29 0 = sdN (sdN (sdN s)) := ms_eq
  generalize mset m2 29 0 (sdN (sdN (sdN s))) = m3 at *
  have dn : ∀ n : Nat, 1 ≤ n ∧ n ≤ 1000 → d_M_draw m3 (ii n) = dI (ii (rN (sdN (sdN (sdN (sdN s)))) n : Int)) (mset m3 29 0 (sdN (sdN (sdN (sdN s))))) := fun n hn => by
    rw [m_draw (ii_eq0F (by omega)), s3, (rnd_eq hn).1]
  have M4 : MO ((mset m3 29 0 (sdN (sdN (sdN (sdN s))))).1 14) low rows A T := M3.nx (by decide)
  have g4 : GD ms (mset m3 29 0 (sdN (sdN (sdN (sdN s))))) := g3.trans GD.sd
  have s4 : (mset m3 29 0 (sdN (sdN (sdN (sdN s))))).1 29 0 = sdN (sdN (sdN (sdN s))) := ms_eq
  generalize mset m3 29 0 (sdN (sdN (sdN (sdN s)))) = m4 at *
  generalize sdN (sdN (sdN (sdN s))) = s' at *
  have fin : ∀ x : Nat, x = dwX what rows s' → x ≤ 40 → (dwK what ≤ 1 → x ≤ 1) → (4 ≤ dwK what → x < 4) → ¬ (5 < what ∧ x = r) → (4 ≤ dwK what → 5 < what) → DI (d_M_doIf m4 (ii (dwK what)) (ii r) (ii i) (ii x)) (fun v m' => v = ii (bn (if dwB A what r i (dwX what rows s') = true then (true, doA low A (dwK what) r i (dwX what rows s'), s') else (false, A, s')).1) ∧ MO (m'.1 14) low rows (if dwB A what r i (dwX what rows s') = true then (true, doA low A (dwK what) r i (dwX what rows s'), s') else (false, A, s')).2.1 T ∧ IV low (if dwB A what r i (dwX what rows s') = true then (true, doA low A (dwK what) r i (dwX what rows s'), s') else (false, A, s')).2.1 ∧ m'.1 29 0 = (if dwB A what r i (dwX what rows s') = true then (true, doA low A (dwK what) r i (dwX what rows s'), s') else (false, A, s')).2.2 ∧ GD ms m') := by
    intro x hx hx40 hb1 hb2 hno h5
    rw [← hx]
    have kw : dwK what ≤ 5 := by unfold dwK; split <;> (try split) <;> (try split) <;> (try split) <;> omega
    obtain ⟨v, m', e1, e2, e3, e4, e5⟩ := m_doIf (what := dwK what) (i := i) (x := x) M4 I h4 hT kw hr4 (by omega) (by omega) hb1 (fun q => ⟨hb2 q, fun e => hno ⟨h5 q, e⟩⟩)
    have hB : dwB A what r i x = decide (why A (dwK what) r i x = 0) := by
      unfold dwB
      have e1 : (decide (5 < what) && decide (x = r)) = false := by
        cases hq : (decide (5 < what) && decide (x = r)) with
        | false => rfl
        | true => exact absurd (by simpa using hq) hno
      rw [e1]
      by_cases c : why A (dwK what) r i x = 0
      · simp [c]
      · simp [c]
    rw [hB]
    have e29 : m'.1 29 0 = s' := by rw [e5.2.1 29 (by decide)]; exact s4
    refine ⟨v, m', e1, ?_⟩
    by_cases c : why A (dwK what) r i x = 0
    · rw [decide_eq_true c] at e2 ⊢
      rw [if_pos c] at e3 e4
      exact ⟨e2, e3, e4, e29, g4.trans e5.gd⟩
    · rw [decide_eq_false c] at e2 ⊢
      rw [if_neg c] at e3 e4
      exact ⟨e2, e3, e4, e29, g4.trans e5.gd⟩
  have z01 : ∀ (b : Bool) (m' : MS) (Q : Option Value → MS → Prop), Q (some (.int (ii (bn b)))) m' → DE (dZ (ii (bn b)) m') Q := fun b m' Q k => by
    cases b
    · exact d_dZ0 k
    · exact d_dZ1 k
  by_cases w3 : what < 3
  · refine d_neg _ (ii_leF (a := 3) (by omega)) ?_
    have eK : dwK what = 0 := by unfold dwK; rw [if_pos w3]
    have eX : dwX what rows s' = rN s' 2 := by unfold dwX; rw [if_pos w3]
    have q2 := rnd_eq (s := s') (n := 2) (by decide)
    refine d_bIe (dn 2 (by decide)) ?_
    have F := fin (rN s' 2) eX.symm (by omega) (by omega) (by omega) (by omega) (by omega)
    rw [eK] at F ⊢
    refine d_bI F fun v m' ⟨a1, a2⟩ => ?_
    subst a1
    exact z01 _ _ _ ⟨_, rfl, rfl, a2⟩
  · refine d_pos _ (ii_leT (a := 3) (by omega)) ?_
    by_cases e3 : what = 3
    · refine d_pos _ (ii_eqT (b := 3) (by omega)) ?_
      have eK : dwK what = 2 := by unfold dwK; rw [if_neg w3, if_pos e3]
      have eX : dwX what rows s' = rN s' 8 + 1 := by unfold dwX; rw [if_neg w3, if_pos e3]
      have q2 := rnd_eq (s := s') (n := 8) (by decide)
      refine d_bIe (dn 8 (by decide)) ?_
      rw [ii_add]
      have F := fin (rN s' 8 + 1) eX.symm (by omega) (by omega) (by omega) (by omega) (by omega)
      rw [eK] at F ⊢
      refine d_bI F fun v m' ⟨a1, a2⟩ => ?_
      subst a1
      exact z01 _ _ _ ⟨_, rfl, rfl, a2⟩
    · refine d_neg _ (ii_eqF (b := 3) (by omega)) ?_
      by_cases w6 : what < 6
      · refine d_neg _ (ii_leF (a := 6) (by omega)) ?_
        have eK : dwK what = 3 := by unfold dwK; rw [if_neg w3, if_neg e3, if_pos w6]
        have eX : dwX what rows s' = rN s' 40 + 1 := by unfold dwX; rw [if_neg w3, if_neg e3, if_pos w6]
        have q2 := rnd_eq (s := s') (n := 40) (by decide)
        refine d_bIe (dn 40 (by decide)) ?_
        rw [ii_add]
        have F := fin (rN s' 40 + 1) eX.symm (by omega) (by omega) (by omega) (by omega) (by omega)
        rw [eK] at F ⊢
        refine d_bI F fun v m' ⟨a1, a2⟩ => ?_
        subst a1
        exact z01 _ _ _ ⟨_, rfl, rfl, a2⟩
      · refine d_pos _ (ii_leT (a := 6) (by omega)) ?_
        have eX : dwX what rows s' = rN s' rows := by unfold dwX; rw [if_neg w3, if_neg e3, if_neg w6]
        have q2 := rnd_eq (s := s') (n := rows) (by omega)
        refine d_eA (N := 6062) rfl (n := 0) (by omega) M3.1 ?_
        refine d_bIe (dn rows (by omega)) ?_
        by_cases hxr : rN s' rows = r
        · refine d_pos _ (by rw [hxr]) ?_
          have hB : dwB A what r i (dwX what rows s') = false := by
            rw [eX]
            unfold dwB
            have : 5 < what := by omega
            simp [this, hxr]
          rw [hB]
          exact d_dZ0 ⟨_, rfl, rfl, M4, I, s4, g4⟩
        · refine d_neg _ (ii_eqF (by omega)) ?_
          have j121 : ∀ kk : Nat, dwK what = kk → DE (d_M_drawsDeed_j121 m4 (ii r) (ii i) (ii (rN s' rows)) (ii kk)) (fun rr m' => ∃ v, rr = some (.int v) ∧ v = ii (bn (if dwB A what r i (dwX what rows s') = true then (true, doA low A (dwK what) r i (dwX what rows s'), s') else (false, A, s')).1) ∧ MO (m'.1 14) low rows (if dwB A what r i (dwX what rows s') = true then (true, doA low A (dwK what) r i (dwX what rows s'), s') else (false, A, s')).2.1 T ∧ IV low (if dwB A what r i (dwX what rows s') = true then (true, doA low A (dwK what) r i (dwX what rows s'), s') else (false, A, s')).2.1 ∧ m'.1 29 0 = (if dwB A what r i (dwX what rows s') = true then (true, doA low A (dwK what) r i (dwX what rows s'), s') else (false, A, s')).2.2 ∧ GD ms m') := by
            intro kk hkk
            unfold d_M_drawsDeed_j121
            have kw : 4 ≤ dwK what := by
              unfold dwK
              rw [if_neg w3, if_neg e3, if_neg w6]
              split <;> omega
            have F := fin (rN s' rows) eX.symm (by omega) (by omega) (by omega) (fun q => hxr q.2) (by omega)
            rw [← hkk]
            refine d_bI F fun v m' ⟨a1, a2⟩ => ?_
            generalize (if dwB A what r i (dwX what rows s') = true then (true, doA low A (dwK what) r i (dwX what rows s'), s') else (false, A, s')) = R at *
            subst a1
            cases hR : R.1 with
            | false =>
              refine d_pos _ (by first | trivial | rfl | decide) ?_
              exact d_dZ0 ⟨_, rfl, rfl, a2⟩
            | true =>
              refine d_neg _ (by first | decide | (intro z; exact absurd z (by decide))) ?_
              exact d_dZ1 ⟨_, rfl, rfl, a2⟩
          by_cases e6 : what = 6
          · refine d_pos _ (ii_eqT (b := 6) (by omega)) ?_
            exact j121 4 (by unfold dwK; rw [if_neg w3, if_neg e3, if_neg w6, if_pos e6])
          · refine d_neg _ (ii_eqF (b := 6) (by omega)) ?_
            exact j121 5 (by unfold dwK; rw [if_neg w3, if_neg e3, if_neg w6, if_neg e6])
end
