/-! PURE SIDE: the law's loop -/
set_option maxRecDepth 100000
def sv (ad : Nat → Nat) (j : Nat) : Int := (Int32.ofNat (ad (400 + j))).toInt
theorem sv_b {ad : Nat → Nat} {j : Nat} : -2147483648 ≤ sv ad j ∧ sv ad j < 2147483648 := ⟨Int32.le_toInt _, Int32.toInt_lt _⟩
theorem q_ldS {h : PH} {a : Nat} {ad : Nat → Nat} {j : Nat} {x : Int32} {K : Int32 → Option RH} {Z : Rt → PH → Prop} (eh : h.2.2 = ad) (ea : a = ad 300) (ex : x = ii (j : Int)) (hj : j < ad 301) (hl : ad 301 ≤ 384) (kk : Ends (K (ii (sv ad j))) Z) : Ends (ldS h a x K) Z := by
  unfold ldS
  rw [eh, if_pos ea]
  unfold inB
  subst ex
  have e1 : (ii (j : Int)).toNatClampNeg = j := by rw [ii_toNat (by omega)]; omega
  rw [e1]
  have e2 : ii (sv ad j) = Int32.ofNat (ad (400 + j)) := ii_int _
  rw [e2] at kk
  rw [if_neg (fun q => q.elim (ii_ltF (b := 0) (by omega)) (by omega))]
  exact kk
theorem q_lenS {h : PH} {a : Nat} {ad : Nat → Nat} {K : Int32 → Option RH} {Z : Rt → PH → Prop} (eh : h.2.2 = ad) (ea : a = ad 300) (kk : Ends (K (ii (ad 301 : Int))) Z) : Ends (lenS h a K) Z := by
  unfold lenS
  rw [eh, if_pos ea]
  rw [ii_nat]
  exact kk
section
variable {b g : Nat → Nat} {x2 x3 : Nat} {ad : Nat → Nat}
theorem law_feed {own : Nat → Nat} {X : XS} {ms : MS} {c s i x0 : Nat} {h : PH} {K : PH → Option RH} {Z : Rt → PH → Prop} (hl : ad 301 ≤ 384) (ea : x0 = ad 300) (hi : i + 6 ≤ ad 301) (L : LW b g x2 x3 own X ms c s h) (eh : h.2.2 = ad) (kk : ∀ own' X' ms' h', LW b g x2 x3 own' X' ms' (c + 10000) (s + 90000) h' → h'.2.2 = ad → Ends (K h') Z) : Ends (ldS h x0 (ii (i : Int) + (1 : Int32)) fun v1 => ldS h x0 (ii (i : Int) + (2 : Int32)) fun v2 => ldS h x0 (ii (i : Int) + (3 : Int32)) fun v3 => ldS h x0 (ii (i : Int) + (4 : Int32)) fun v4 => ldS h x0 (ii (i : Int) + (5 : Int32)) fun v5 => hI (c_B_feed h (b 0) v1 v2 v3 v4 v5) noX fun r1 h1 => ldS h1 x0 (ii (i : Int) + (1 : Int32)) fun w1 => ldS h1 x0 (ii (i : Int) + (2 : Int32)) fun w2 => ldS h1 x0 (ii (i : Int) + (3 : Int32)) fun w3 => ldS h1 x0 (ii (i : Int) + (4 : Int32)) fun w4 => ldS h1 x0 (ii (i : Int) + (5 : Int32)) fun w5 => hI (c_M_feed h1 x2 w1 w2 w3 w4 w5) noX fun r2 h2 => if r1 = r2 then K h2 else rZ (0 : Int32) h2) Z := by
  refine q_ldS (j := i + 1) eh ea (by rw [show (1 : Int32) = ii 1 from rfl, ii_add]; rfl) (by omega) hl ?_
  refine q_ldS (j := i + 2) eh ea (by rw [show (2 : Int32) = ii 2 from rfl, ii_add]; rfl) (by omega) hl ?_
  refine q_ldS (j := i + 3) eh ea (by rw [show (3 : Int32) = ii 3 from rfl, ii_add]; rfl) (by omega) hl ?_
  refine q_ldS (j := i + 4) eh ea (by rw [show (4 : Int32) = ii 4 from rfl, ii_add]; rfl) (by omega) hl ?_
  refine q_ldS (j := i + 5) eh ea (by rw [show (5 : Int32) = ii 5 from rfl, ii_add]; rfl) (by omega) hl ?_
  obtain ⟨v, h1, h2, own', X', ms', p1, p2, L', e1, e2⟩ := lw_td (td_feed (v1 := ii (sv ad (i + 1))) (v2 := ii (sv ad (i + 2))) (v3 := ii (sv ad (i + 3))) (v4 := ii (sv ad (i + 4))) (v5 := ii (sv ad (i + 5)))) (fun h ms m => r_M_feed m _ _ _ _ _) L
  refine q_hIe p1 ?_
  refine q_ldS (j := i + 1) (e1.trans eh) ea (by rw [show (1 : Int32) = ii 1 from rfl, ii_add]; rfl) (by omega) hl ?_
  refine q_ldS (j := i + 2) (e1.trans eh) ea (by rw [show (2 : Int32) = ii 2 from rfl, ii_add]; rfl) (by omega) hl ?_
  refine q_ldS (j := i + 3) (e1.trans eh) ea (by rw [show (3 : Int32) = ii 3 from rfl, ii_add]; rfl) (by omega) hl ?_
  refine q_ldS (j := i + 4) (e1.trans eh) ea (by rw [show (4 : Int32) = ii 4 from rfl, ii_add]; rfl) (by omega) hl ?_
  refine q_ldS (j := i + 5) (e1.trans eh) ea (by rw [show (5 : Int32) = ii 5 from rfl, ii_add]; rfl) (by omega) hl ?_
  refine q_hIe p2 ?_
  refine q_pos _ rfl ?_
  exact kk own' X' ms' h2 L' (e2.trans eh)
theorem law_end {own : Nat → Nat} {X : XS} {ms : MS} {c s i x0 : Nat} {h : PH} {K : PH → Option RH} {Z : Rt → PH → Prop} (hl : ad 301 ≤ 384) (ea : x0 = ad 300) (hi : i + 6 ≤ ad 301) (L : LW b g x2 x3 own X ms c s h) (eh : h.2.2 = ad) (kk : ∀ own' X' ms' h', LW b g x2 x3 own' X' ms' (c + 10000) (s + 90000) h' → h'.2.2 = ad → Ends (K h') Z) : Ends (ldS h x0 (ii (i : Int) + (1 : Int32)) fun v1 => hI (c_B_end h (b 0) v1) noX fun r1 h1 => ldS h1 x0 (ii (i : Int) + (1 : Int32)) fun w1 => hI (c_M_end h1 x2 w1) noX fun r2 h2 => if r1 = r2 then K h2 else rZ (0 : Int32) h2) Z := by
  refine q_ldS (j := i + 1) eh ea (by rw [show (1 : Int32) = ii 1 from rfl, ii_add]; rfl) (by omega) hl ?_
  obtain ⟨v, h1, h2, own', X', ms', p1, p2, L', e1, e2⟩ := lw_td (td_end (x := sv ad (i + 1)) sv_b) (fun h ms m => r_M_end m _) L
  refine q_hIe p1 ?_
  refine q_ldS (j := i + 1) (e1.trans eh) ea (by rw [show (1 : Int32) = ii 1 from rfl, ii_add]; rfl) (by omega) hl ?_
  refine q_hIe p2 ?_
  refine q_pos _ rfl ?_
  exact kk own' X' ms' h2 L' (e2.trans eh)
theorem law_room {own : Nat → Nat} {X : XS} {ms : MS} {c s i x0 : Nat} {h : PH} {K : PH → Option RH} {Z : Rt → PH → Prop} (hl : ad 301 ≤ 384) (ea : x0 = ad 300) (hi : i + 6 ≤ ad 301) (L : LW b g x2 x3 own X ms c s h) (eh : h.2.2 = ad) (kk : ∀ own' X' ms' h', LW b g x2 x3 own' X' ms' (c + 10000) (s + 90000) h' → h'.2.2 = ad → Ends (K h') Z) : Ends (hI (c_B_room h (b 0)) noX fun r1 h1 => hI (c_M_room h1 x2) noX fun r2 h2 => if r1 = r2 then K h2 else rZ (0 : Int32) h2) Z := by
  obtain ⟨v, h1, h2, own', X', ms', p1, p2, L', e1, e2⟩ := lw_td (td_room) (fun h ms m => r_M_room m) L
  refine q_hIe p1 ?_
  refine q_hIe p2 ?_
  refine q_pos _ rfl ?_
  exact kk own' X' ms' h2 L' (e2.trans eh)
theorem law_fault {own : Nat → Nat} {X : XS} {ms : MS} {c s i x0 : Nat} {h : PH} {K : PH → Option RH} {Z : Rt → PH → Prop} (hl : ad 301 ≤ 384) (ea : x0 = ad 300) (hi : i + 6 ≤ ad 301) (L : LW b g x2 x3 own X ms c s h) (eh : h.2.2 = ad) (kk : ∀ own' X' ms' h', LW b g x2 x3 own' X' ms' (c + 10000) (s + 90000) h' → h'.2.2 = ad → Ends (K h') Z) : Ends (hI (c_B_fault h (b 0)) noX fun r1 h1 => hI (c_M_fault h1 x2) noX fun r2 h2 => if r1 = r2 then K h2 else rZ (0 : Int32) h2) Z := by
  obtain ⟨v, h1, h2, own', X', ms', p1, p2, L', e1, e2⟩ := lw_td (td_fault) (fun h ms m => r_M_fault m) L
  refine q_hIe p1 ?_
  refine q_hIe p2 ?_
  refine q_pos _ rfl ?_
  exact kk own' X' ms' h2 L' (e2.trans eh)
theorem law_size {own : Nat → Nat} {X : XS} {ms : MS} {c s i x0 : Nat} {h : PH} {K : PH → Option RH} {Z : Rt → PH → Prop} (hl : ad 301 ≤ 384) (ea : x0 = ad 300) (hi : i + 6 ≤ ad 301) (L : LW b g x2 x3 own X ms c s h) (eh : h.2.2 = ad) (kk : ∀ own' X' ms' h', LW b g x2 x3 own' X' ms' (c + 10000) (s + 90000) h' → h'.2.2 = ad → Ends (K h') Z) : Ends (ldS h x0 (ii (i : Int) + (1 : Int32)) fun v1 => hI (c_B_size h (b 0) v1) noX fun r1 h1 => ldS h1 x0 (ii (i : Int) + (1 : Int32)) fun w1 => hI (c_M_size h1 x2 w1) noX fun r2 h2 => if r1 = r2 then K h2 else rZ (0 : Int32) h2) Z := by
  refine q_ldS (j := i + 1) eh ea (by rw [show (1 : Int32) = ii 1 from rfl, ii_add]; rfl) (by omega) hl ?_
  obtain ⟨v, h1, h2, own', X', ms', p1, p2, L', e1, e2⟩ := lw_td (td_size (x := sv ad (i + 1)) sv_b) (fun h ms m => r_M_size m _) L
  refine q_hIe p1 ?_
  refine q_ldS (j := i + 1) (e1.trans eh) ea (by rw [show (1 : Int32) = ii 1 from rfl, ii_add]; rfl) (by omega) hl ?_
  refine q_hIe p2 ?_
  refine q_pos _ rfl ?_
  exact kk own' X' ms' h2 L' (e2.trans eh)
theorem law_bit {own : Nat → Nat} {X : XS} {ms : MS} {c s i x0 : Nat} {h : PH} {K : PH → Option RH} {Z : Rt → PH → Prop} (hl : ad 301 ≤ 384) (ea : x0 = ad 300) (hi : i + 6 ≤ ad 301) (L : LW b g x2 x3 own X ms c s h) (eh : h.2.2 = ad) (kk : ∀ own' X' ms' h', LW b g x2 x3 own' X' ms' (c + 10000) (s + 90000) h' → h'.2.2 = ad → Ends (K h') Z) : Ends (ldS h x0 (ii (i : Int) + (1 : Int32)) fun v1 => ldS h x0 (ii (i : Int) + (2 : Int32)) fun v2 => hI (c_B_bit h (b 0) v1 v2) noX fun r1 h1 => ldS h1 x0 (ii (i : Int) + (1 : Int32)) fun w1 => ldS h1 x0 (ii (i : Int) + (2 : Int32)) fun w2 => hI (c_M_bit h1 x2 w1 w2) noX fun r2 h2 => if r1 = r2 then K h2 else rZ (0 : Int32) h2) Z := by
  refine q_ldS (j := i + 1) eh ea (by rw [show (1 : Int32) = ii 1 from rfl, ii_add]; rfl) (by omega) hl ?_
  refine q_ldS (j := i + 2) eh ea (by rw [show (2 : Int32) = ii 2 from rfl, ii_add]; rfl) (by omega) hl ?_
  obtain ⟨v, h1, h2, own', X', ms', p1, p2, L', e1, e2⟩ := lw_td (td_bit (x := sv ad (i + 1)) (y := sv ad (i + 2)) sv_b sv_b) (fun h ms m => r_M_bit m _ _) L
  refine q_hIe p1 ?_
  refine q_ldS (j := i + 1) (e1.trans eh) ea (by rw [show (1 : Int32) = ii 1 from rfl, ii_add]; rfl) (by omega) hl ?_
  refine q_ldS (j := i + 2) (e1.trans eh) ea (by rw [show (2 : Int32) = ii 2 from rfl, ii_add]; rfl) (by omega) hl ?_
  refine q_hIe p2 ?_
  refine q_pos _ rfl ?_
  exact kk own' X' ms' h2 L' (e2.trans eh)
theorem law_rank {own : Nat → Nat} {X : XS} {ms : MS} {c s i x0 : Nat} {h : PH} {K : PH → Option RH} {Z : Rt → PH → Prop} (hl : ad 301 ≤ 384) (ea : x0 = ad 300) (hi : i + 6 ≤ ad 301) (L : LW b g x2 x3 own X ms c s h) (eh : h.2.2 = ad) (kk : ∀ own' X' ms' h', LW b g x2 x3 own' X' ms' (c + 10000) (s + 90000) h' → h'.2.2 = ad → Ends (K h') Z) : Ends (ldS h x0 (ii (i : Int) + (1 : Int32)) fun v1 => ldS h x0 (ii (i : Int) + (2 : Int32)) fun v2 => ldS h x0 (ii (i : Int) + (3 : Int32)) fun v3 => hI (c_B_rank h (b 0) v1 v2 v3) noX fun r1 h1 => ldS h1 x0 (ii (i : Int) + (1 : Int32)) fun w1 => ldS h1 x0 (ii (i : Int) + (2 : Int32)) fun w2 => ldS h1 x0 (ii (i : Int) + (3 : Int32)) fun w3 => hI (c_M_rank h1 x2 w1 w2 w3) noX fun r2 h2 => if r1 = r2 then K h2 else rZ (0 : Int32) h2) Z := by
  refine q_ldS (j := i + 1) eh ea (by rw [show (1 : Int32) = ii 1 from rfl, ii_add]; rfl) (by omega) hl ?_
  refine q_ldS (j := i + 2) eh ea (by rw [show (2 : Int32) = ii 2 from rfl, ii_add]; rfl) (by omega) hl ?_
  refine q_ldS (j := i + 3) eh ea (by rw [show (3 : Int32) = ii 3 from rfl, ii_add]; rfl) (by omega) hl ?_
  obtain ⟨v, h1, h2, own', X', ms', p1, p2, L', e1, e2⟩ := lw_td (td_rank (x := sv ad (i + 1)) (y := sv ad (i + 2)) (z := sv ad (i + 3)) sv_b sv_b sv_b) (fun h ms m => r_M_rank m _ _ _) L
  refine q_hIe p1 ?_
  refine q_ldS (j := i + 1) (e1.trans eh) ea (by rw [show (1 : Int32) = ii 1 from rfl, ii_add]; rfl) (by omega) hl ?_
  refine q_ldS (j := i + 2) (e1.trans eh) ea (by rw [show (2 : Int32) = ii 2 from rfl, ii_add]; rfl) (by omega) hl ?_
  refine q_ldS (j := i + 3) (e1.trans eh) ea (by rw [show (3 : Int32) = ii 3 from rfl, ii_add]; rfl) (by omega) hl ?_
  refine q_hIe p2 ?_
  refine q_pos _ rfl ?_
  exact kk own' X' ms' h2 L' (e2.trans eh)
theorem law_select {own : Nat → Nat} {X : XS} {ms : MS} {c s i x0 : Nat} {h : PH} {K : PH → Option RH} {Z : Rt → PH → Prop} (hl : ad 301 ≤ 384) (ea : x0 = ad 300) (hi : i + 6 ≤ ad 301) (L : LW b g x2 x3 own X ms c s h) (eh : h.2.2 = ad) (kk : ∀ own' X' ms' h', LW b g x2 x3 own' X' ms' (c + 10000) (s + 90000) h' → h'.2.2 = ad → Ends (K h') Z) : Ends (ldS h x0 (ii (i : Int) + (1 : Int32)) fun v1 => ldS h x0 (ii (i : Int) + (2 : Int32)) fun v2 => ldS h x0 (ii (i : Int) + (3 : Int32)) fun v3 => hI (c_B_select h (b 0) v1 v2 v3) noX fun r1 h1 => ldS h1 x0 (ii (i : Int) + (1 : Int32)) fun w1 => ldS h1 x0 (ii (i : Int) + (2 : Int32)) fun w2 => ldS h1 x0 (ii (i : Int) + (3 : Int32)) fun w3 => hI (c_M_select h1 x2 w1 w2 w3) noX fun r2 h2 => if r1 = r2 then K h2 else rZ (0 : Int32) h2) Z := by
  refine q_ldS (j := i + 1) eh ea (by rw [show (1 : Int32) = ii 1 from rfl, ii_add]; rfl) (by omega) hl ?_
  refine q_ldS (j := i + 2) eh ea (by rw [show (2 : Int32) = ii 2 from rfl, ii_add]; rfl) (by omega) hl ?_
  refine q_ldS (j := i + 3) eh ea (by rw [show (3 : Int32) = ii 3 from rfl, ii_add]; rfl) (by omega) hl ?_
  obtain ⟨v, h1, h2, own', X', ms', p1, p2, L', e1, e2⟩ := lw_td (td_select (x := sv ad (i + 1)) (y := sv ad (i + 2)) (z := sv ad (i + 3)) sv_b sv_b sv_b) (fun h ms m => r_M_select m _ _ _) L
  refine q_hIe p1 ?_
  refine q_ldS (j := i + 1) (e1.trans eh) ea (by rw [show (1 : Int32) = ii 1 from rfl, ii_add]; rfl) (by omega) hl ?_
  refine q_ldS (j := i + 2) (e1.trans eh) ea (by rw [show (2 : Int32) = ii 2 from rfl, ii_add]; rfl) (by omega) hl ?_
  refine q_ldS (j := i + 3) (e1.trans eh) ea (by rw [show (3 : Int32) = ii 3 from rfl, ii_add]; rfl) (by omega) hl ?_
  refine q_hIe p2 ?_
  refine q_pos _ rfl ?_
  exact kk own' X' ms' h2 L' (e2.trans eh)
theorem law_find {own : Nat → Nat} {X : XS} {ms : MS} {c s i x0 : Nat} {h : PH} {K : PH → Option RH} {Z : Rt → PH → Prop} (hl : ad 301 ≤ 384) (ea : x0 = ad 300) (hi : i + 6 ≤ ad 301) (L : LW b g x2 x3 own X ms c s h) (eh : h.2.2 = ad) (kk : ∀ own' X' ms' h', LW b g x2 x3 own' X' ms' (c + 10000) (s + 90000) h' → h'.2.2 = ad → Ends (K h') Z) : Ends (ldS h x0 (ii (i : Int) + (1 : Int32)) fun v1 => ldS h x0 (ii (i : Int) + (2 : Int32)) fun v2 => ldS h x0 (ii (i : Int) + (3 : Int32)) fun v3 => hI (c_B_find h (b 0) v1 v2 v3) noX fun r1 h1 => ldS h1 x0 (ii (i : Int) + (1 : Int32)) fun w1 => ldS h1 x0 (ii (i : Int) + (2 : Int32)) fun w2 => ldS h1 x0 (ii (i : Int) + (3 : Int32)) fun w3 => hI (c_M_find h1 x2 w1 w2 w3) noX fun r2 h2 => if r1 = r2 then K h2 else rZ (0 : Int32) h2) Z := by
  refine q_ldS (j := i + 1) eh ea (by rw [show (1 : Int32) = ii 1 from rfl, ii_add]; rfl) (by omega) hl ?_
  refine q_ldS (j := i + 2) eh ea (by rw [show (2 : Int32) = ii 2 from rfl, ii_add]; rfl) (by omega) hl ?_
  refine q_ldS (j := i + 3) eh ea (by rw [show (3 : Int32) = ii 3 from rfl, ii_add]; rfl) (by omega) hl ?_
  obtain ⟨v, h1, h2, own', X', ms', p1, p2, L', e1, e2⟩ := lw_td (td_find (x := sv ad (i + 1)) (y := sv ad (i + 2)) (z := sv ad (i + 3)) sv_b sv_b sv_b) (fun h ms m => r_M_find m _ _ _) L
  refine q_hIe p1 ?_
  refine q_ldS (j := i + 1) (e1.trans eh) ea (by rw [show (1 : Int32) = ii 1 from rfl, ii_add]; rfl) (by omega) hl ?_
  refine q_ldS (j := i + 2) (e1.trans eh) ea (by rw [show (2 : Int32) = ii 2 from rfl, ii_add]; rfl) (by omega) hl ?_
  refine q_ldS (j := i + 3) (e1.trans eh) ea (by rw [show (3 : Int32) = ii 3 from rfl, ii_add]; rfl) (by omega) hl ?_
  refine q_hIe p2 ?_
  refine q_pos _ rfl ?_
  exact kk own' X' ms' h2 L' (e2.trans eh)
theorem law_runs {own : Nat → Nat} {X : XS} {ms : MS} {c s i x0 : Nat} {h : PH} {K : PH → Option RH} {Z : Rt → PH → Prop} (hl : ad 301 ≤ 384) (ea : x0 = ad 300) (hi : i + 6 ≤ ad 301) (L : LW b g x2 x3 own X ms c s h) (eh : h.2.2 = ad) (kk : ∀ own' X' ms' h', LW b g x2 x3 own' X' ms' (c + 10000) (s + 90000) h' → h'.2.2 = ad → Ends (K h') Z) : Ends (ldS h x0 (ii (i : Int) + (1 : Int32)) fun v1 => hI (c_B_runs h (b 0) v1) noX fun r1 h1 => ldS h1 x0 (ii (i : Int) + (1 : Int32)) fun w1 => hI (c_M_runs h1 x2 w1) noX fun r2 h2 => if r1 = r2 then K h2 else rZ (0 : Int32) h2) Z := by
  refine q_ldS (j := i + 1) eh ea (by rw [show (1 : Int32) = ii 1 from rfl, ii_add]; rfl) (by omega) hl ?_
  obtain ⟨v, h1, h2, own', X', ms', p1, p2, L', e1, e2⟩ := lw_td (td_runs (x := sv ad (i + 1)) sv_b) (fun h ms m => r_M_runs m _) L
  refine q_hIe p1 ?_
  refine q_ldS (j := i + 1) (e1.trans eh) ea (by rw [show (1 : Int32) = ii 1 from rfl, ii_add]; rfl) (by omega) hl ?_
  refine q_hIe p2 ?_
  refine q_pos _ rfl ?_
  exact kk own' X' ms' h2 L' (e2.trans eh)
theorem law_longest {own : Nat → Nat} {X : XS} {ms : MS} {c s i x0 : Nat} {h : PH} {K : PH → Option RH} {Z : Rt → PH → Prop} (hl : ad 301 ≤ 384) (ea : x0 = ad 300) (hi : i + 6 ≤ ad 301) (L : LW b g x2 x3 own X ms c s h) (eh : h.2.2 = ad) (kk : ∀ own' X' ms' h', LW b g x2 x3 own' X' ms' (c + 10000) (s + 90000) h' → h'.2.2 = ad → Ends (K h') Z) : Ends (ldS h x0 (ii (i : Int) + (1 : Int32)) fun v1 => ldS h x0 (ii (i : Int) + (2 : Int32)) fun v2 => hI (c_B_longest h (b 0) v1 v2) noX fun r1 h1 => ldS h1 x0 (ii (i : Int) + (1 : Int32)) fun w1 => ldS h1 x0 (ii (i : Int) + (2 : Int32)) fun w2 => hI (c_M_longest h1 x2 w1 w2) noX fun r2 h2 => if r1 = r2 then K h2 else rZ (0 : Int32) h2) Z := by
  refine q_ldS (j := i + 1) eh ea (by rw [show (1 : Int32) = ii 1 from rfl, ii_add]; rfl) (by omega) hl ?_
  refine q_ldS (j := i + 2) eh ea (by rw [show (2 : Int32) = ii 2 from rfl, ii_add]; rfl) (by omega) hl ?_
  obtain ⟨v, h1, h2, own', X', ms', p1, p2, L', e1, e2⟩ := lw_td (td_longest (x := sv ad (i + 1)) (y := sv ad (i + 2)) sv_b sv_b) (fun h ms m => r_M_longest m _ _) L
  refine q_hIe p1 ?_
  refine q_ldS (j := i + 1) (e1.trans eh) ea (by rw [show (1 : Int32) = ii 1 from rfl, ii_add]; rfl) (by omega) hl ?_
  refine q_ldS (j := i + 2) (e1.trans eh) ea (by rw [show (2 : Int32) = ii 2 from rfl, ii_add]; rfl) (by omega) hl ?_
  refine q_hIe p2 ?_
  refine q_pos _ rfl ?_
  exact kk own' X' ms' h2 L' (e2.trans eh)
theorem law_word {own : Nat → Nat} {X : XS} {ms : MS} {c s i x0 : Nat} {h : PH} {K : PH → Option RH} {Z : Rt → PH → Prop} (hl : ad 301 ≤ 384) (ea : x0 = ad 300) (hi : i + 6 ≤ ad 301) (L : LW b g x2 x3 own X ms c s h) (eh : h.2.2 = ad) (kk : ∀ own' X' ms' h', LW b g x2 x3 own' X' ms' (c + 10000) (s + 90000) h' → h'.2.2 = ad → Ends (K h') Z) : Ends (ldS h x0 (ii (i : Int) + (1 : Int32)) fun v1 => ldS h x0 (ii (i : Int) + (2 : Int32)) fun v2 => hI (c_W_word h (b 0) v1 v2 x3) noX fun r1 h1 => ldS h1 x0 (ii (i : Int) + (1 : Int32)) fun w1 => ldS h1 x0 (ii (i : Int) + (2 : Int32)) fun w2 => hI (c_M_word h1 x2 w1 w2) noX fun r2 h2 => hI (c_M_thrown h2 x2) noX fun r3 h3 => if r3 = r1 then if r1 = 0 then ldL h3 x3 (0 : Int32) fun r4 => if (lg_cmp r4 r2.toInt64) = 0 then K h3 else rZ (0 : Int32) h3 else K h3 else rZ (0 : Int32) h3) Z := by
  refine q_ldS (j := i + 1) eh ea (by rw [show (1 : Int32) = ii 1 from rfl, ii_add]; rfl) (by omega) hl ?_
  refine q_ldS (j := i + 2) eh ea (by rw [show (2 : Int32) = ii 2 from rfl, ii_add]; rfl) (by omega) hl ?_
  obtain ⟨k, v, h1, h2, h3, own', ms', f, p1, p2, p3, L', e1, e2, e3, ex, hv⟩ := lw_wd (P := fun h B => c_B_word h B (ii (sv ad (i + 1))) (ii (sv ad (i + 2)))) (PM := fun h => c_M_word h x2 (ii (sv ad (i + 1))) (ii (sv ad (i + 2)))) (D := fun ms => d_M_word ms (ii (sv ad (i + 1))) (ii (sv ad (i + 2)))) (a := fun n A => wordA n A (sv ad (i + 1)) (sv ad (i + 2))) (fun q h Q => b_word Q sv_b sv_b) (fun ms n low A M I => m_word M sv_b sv_b) (fun h ms m => r_M_word m _ _) L
  refine q_hIe (v := k) (h1 := h1) p1 ?_
  refine q_ldS (j := i + 1) (e1.trans eh) ea (by rw [show (1 : Int32) = ii 1 from rfl, ii_add]; rfl) (by omega) hl ?_
  refine q_ldS (j := i + 2) (e1.trans eh) ea (by rw [show (2 : Int32) = ii 2 from rfl, ii_add]; rfl) (by omega) hl ?_
  refine q_hIe p2 ?_
  refine q_hIe p3 ?_
  refine q_pos _ rfl ?_
  rcases hv with ⟨q1, q2⟩ | q1
  · subst q1
    refine q_pos _ rfl ?_
    refine q_ldL (z := 0) ex (by decide) ?_
    refine q_pos _ (by show lg_cmp (f 0) v.toInt64 = 0; rw [lg_cmp_eq, q2]) ?_
    exact kk own' X ms' h3 L' (e3.trans eh)
  · subst q1
    refine q_neg _ (by decide) ?_
    exact kk own' X ms' h3 L' (e3.trans eh)
theorem law_leaves {own : Nat → Nat} {X : XS} {ms : MS} {c s i x0 : Nat} {h : PH} {K : PH → Option RH} {Z : Rt → PH → Prop} (hl : ad 301 ≤ 384) (ea : x0 = ad 300) (hi : i + 6 ≤ ad 301) (L : LW b g x2 x3 own X ms c s h) (eh : h.2.2 = ad) (kk : ∀ own' X' ms' h', LW b g x2 x3 own' X' ms' (c + 10000) (s + 90000) h' → h'.2.2 = ad → Ends (K h') Z) : Ends (ldS h x0 (ii (i : Int) + (1 : Int32)) fun v1 => hI (c_B_leaves h (b 0) v1) noX fun r1 h1 => ldS h1 x0 (ii (i : Int) + (1 : Int32)) fun w1 => hI (c_M_leaves h1 x2 w1) noX fun r2 h2 => if r1 = r2 then K h2 else rZ (0 : Int32) h2) Z := by
  refine q_ldS (j := i + 1) eh ea (by rw [show (1 : Int32) = ii 1 from rfl, ii_add]; rfl) (by omega) hl ?_
  obtain ⟨v, h1, h2, own', X', ms', p1, p2, L', e1, e2⟩ := lw_td (td_leaves (x := sv ad (i + 1)) sv_b) (fun h ms m => r_M_leaves m _) L
  refine q_hIe p1 ?_
  refine q_ldS (j := i + 1) (e1.trans eh) ea (by rw [show (1 : Int32) = ii 1 from rfl, ii_add]; rfl) (by omega) hl ?_
  refine q_hIe p2 ?_
  refine q_pos _ rfl ?_
  exact kk own' X' ms' h2 L' (e2.trans eh)
theorem law_leaf {own : Nat → Nat} {X : XS} {ms : MS} {c s i x0 : Nat} {h : PH} {K : PH → Option RH} {Z : Rt → PH → Prop} (hl : ad 301 ≤ 384) (ea : x0 = ad 300) (hi : i + 6 ≤ ad 301) (L : LW b g x2 x3 own X ms c s h) (eh : h.2.2 = ad) (kk : ∀ own' X' ms' h', LW b g x2 x3 own' X' ms' (c + 10000) (s + 90000) h' → h'.2.2 = ad → Ends (K h') Z) : Ends (ldS h x0 (ii (i : Int) + (1 : Int32)) fun v1 => ldS h x0 (ii (i : Int) + (2 : Int32)) fun v2 => ldS h x0 (ii (i : Int) + (3 : Int32)) fun v3 => hI (c_B_leaf h (b 0) v1 v2 v3) noX fun r1 h1 => ldS h1 x0 (ii (i : Int) + (1 : Int32)) fun w1 => ldS h1 x0 (ii (i : Int) + (2 : Int32)) fun w2 => ldS h1 x0 (ii (i : Int) + (3 : Int32)) fun w3 => hI (c_M_leaf h1 x2 w1 w2 w3) noX fun r2 h2 => if r1 = r2 then K h2 else rZ (0 : Int32) h2) Z := by
  refine q_ldS (j := i + 1) eh ea (by rw [show (1 : Int32) = ii 1 from rfl, ii_add]; rfl) (by omega) hl ?_
  refine q_ldS (j := i + 2) eh ea (by rw [show (2 : Int32) = ii 2 from rfl, ii_add]; rfl) (by omega) hl ?_
  refine q_ldS (j := i + 3) eh ea (by rw [show (3 : Int32) = ii 3 from rfl, ii_add]; rfl) (by omega) hl ?_
  obtain ⟨v, h1, h2, own', X', ms', p1, p2, L', e1, e2⟩ := lw_td (td_leaf (x := sv ad (i + 1)) (y := sv ad (i + 2)) (z := sv ad (i + 3)) sv_b sv_b sv_b) (fun h ms m => r_M_leaf m _ _ _) L
  refine q_hIe p1 ?_
  refine q_ldS (j := i + 1) (e1.trans eh) ea (by rw [show (1 : Int32) = ii 1 from rfl, ii_add]; rfl) (by omega) hl ?_
  refine q_ldS (j := i + 2) (e1.trans eh) ea (by rw [show (2 : Int32) = ii 2 from rfl, ii_add]; rfl) (by omega) hl ?_
  refine q_ldS (j := i + 3) (e1.trans eh) ea (by rw [show (3 : Int32) = ii 3 from rfl, ii_add]; rfl) (by omega) hl ?_
  refine q_hIe p2 ?_
  refine q_pos _ rfl ?_
  exact kk own' X' ms' h2 L' (e2.trans eh)
theorem law_tree {own : Nat → Nat} {X : XS} {ms : MS} {c s i x0 : Nat} {h : PH} {K : PH → Option RH} {Z : Rt → PH → Prop} (hl : ad 301 ≤ 384) (ea : x0 = ad 300) (hi : i + 6 ≤ ad 301) (L : LW b g x2 x3 own X ms c s h) (eh : h.2.2 = ad) (kk : ∀ own' X' ms' h', LW b g x2 x3 own' X' ms' (c + 10000) (s + 90000) h' → h'.2.2 = ad → Ends (K h') Z) : Ends (ldS h x0 (ii (i : Int) + (1 : Int32)) fun v1 => ldS h x0 (ii (i : Int) + (2 : Int32)) fun v2 => hI (c_B_tree h (b 0) v1 v2) noX fun r1 h1 => ldS h1 x0 (ii (i : Int) + (1 : Int32)) fun w1 => ldS h1 x0 (ii (i : Int) + (2 : Int32)) fun w2 => hI (c_M_tree h1 x2 w1 w2) noX fun r2 h2 => if r1 = r2 then K h2 else rZ (0 : Int32) h2) Z := by
  refine q_ldS (j := i + 1) eh ea (by rw [show (1 : Int32) = ii 1 from rfl, ii_add]; rfl) (by omega) hl ?_
  refine q_ldS (j := i + 2) eh ea (by rw [show (2 : Int32) = ii 2 from rfl, ii_add]; rfl) (by omega) hl ?_
  obtain ⟨v, h1, h2, own', X', ms', p1, p2, L', e1, e2⟩ := lw_td (td_tree (x := sv ad (i + 1)) (y := sv ad (i + 2)) sv_b sv_b) (fun h ms m => r_M_tree m _ _) L
  refine q_hIe p1 ?_
  refine q_ldS (j := i + 1) (e1.trans eh) ea (by rw [show (1 : Int32) = ii 1 from rfl, ii_add]; rfl) (by omega) hl ?_
  refine q_ldS (j := i + 2) (e1.trans eh) ea (by rw [show (2 : Int32) = ii 2 from rfl, ii_add]; rfl) (by omega) hl ?_
  refine q_hIe p2 ?_
  refine q_pos _ rfl ?_
  exact kk own' X' ms' h2 L' (e2.trans eh)
theorem law_dense {own : Nat → Nat} {X : XS} {ms : MS} {c s i x0 : Nat} {h : PH} {K : PH → Option RH} {Z : Rt → PH → Prop} (hl : ad 301 ≤ 384) (ea : x0 = ad 300) (hi : i + 6 ≤ ad 301) (L : LW b g x2 x3 own X ms c s h) (eh : h.2.2 = ad) (kk : ∀ own' X' ms' h', LW b g x2 x3 own' X' ms' (c + 10000) (s + 90000) h' → h'.2.2 = ad → Ends (K h') Z) : Ends (ldS h x0 (ii (i : Int) + (1 : Int32)) fun v1 => ldS h x0 (ii (i : Int) + (2 : Int32)) fun v2 => ldS h x0 (ii (i : Int) + (3 : Int32)) fun v3 => hI (c_W_dense h (b 0) v1 v2 v3 x3) noX fun r1 h1 => ldS h1 x0 (ii (i : Int) + (1 : Int32)) fun w1 => ldS h1 x0 (ii (i : Int) + (2 : Int32)) fun w2 => ldS h1 x0 (ii (i : Int) + (3 : Int32)) fun w3 => hI (c_M_dense h1 x2 w1 w2 w3) noX fun r2 h2 => hI (c_M_thrown h2 x2) noX fun r3 h3 => if r3 = r1 then if r1 = 0 then ldL h3 x3 (0 : Int32) fun r4 => if (lg_cmp r4 r2.toInt64) = 0 then K h3 else rZ (0 : Int32) h3 else K h3 else rZ (0 : Int32) h3) Z := by
  refine q_ldS (j := i + 1) eh ea (by rw [show (1 : Int32) = ii 1 from rfl, ii_add]; rfl) (by omega) hl ?_
  refine q_ldS (j := i + 2) eh ea (by rw [show (2 : Int32) = ii 2 from rfl, ii_add]; rfl) (by omega) hl ?_
  refine q_ldS (j := i + 3) eh ea (by rw [show (3 : Int32) = ii 3 from rfl, ii_add]; rfl) (by omega) hl ?_
  obtain ⟨k, v, h1, h2, h3, own', ms', f, p1, p2, p3, L', e1, e2, e3, ex, hv⟩ := lw_wd (P := fun h B => c_B_dense h B (ii (sv ad (i + 1))) (ii (sv ad (i + 2))) (ii (sv ad (i + 3)))) (PM := fun h => c_M_dense h x2 (ii (sv ad (i + 1))) (ii (sv ad (i + 2))) (ii (sv ad (i + 3)))) (D := fun ms => d_M_dense ms (ii (sv ad (i + 1))) (ii (sv ad (i + 2))) (ii (sv ad (i + 3)))) (a := fun n A => denseA n A (sv ad (i + 1)) (sv ad (i + 2)) (sv ad (i + 3))) (fun q h Q => b_dense Q sv_b sv_b sv_b) (fun ms n low A M I => m_dense M sv_b sv_b sv_b) (fun h ms m => r_M_dense m _ _ _) L
  refine q_hIe (v := k) (h1 := h1) p1 ?_
  refine q_ldS (j := i + 1) (e1.trans eh) ea (by rw [show (1 : Int32) = ii 1 from rfl, ii_add]; rfl) (by omega) hl ?_
  refine q_ldS (j := i + 2) (e1.trans eh) ea (by rw [show (2 : Int32) = ii 2 from rfl, ii_add]; rfl) (by omega) hl ?_
  refine q_ldS (j := i + 3) (e1.trans eh) ea (by rw [show (3 : Int32) = ii 3 from rfl, ii_add]; rfl) (by omega) hl ?_
  refine q_hIe p2 ?_
  refine q_hIe p3 ?_
  refine q_pos _ rfl ?_
  rcases hv with ⟨q1, q2⟩ | q1
  · subst q1
    refine q_pos _ rfl ?_
    refine q_ldL (z := 0) ex (by decide) ?_
    refine q_pos _ (by show lg_cmp (f 0) v.toInt64 = 0; rw [lg_cmp_eq, q2]) ?_
    exact kk own' X ms' h3 L' (e3.trans eh)
  · subst q1
    refine q_neg _ (by decide) ?_
    exact kk own' X ms' h3 L' (e3.trans eh)
theorem law_load {own : Nat → Nat} {X : XS} {ms : MS} {c s i x0 : Nat} {h : PH} {K : PH → Option RH} {Z : Rt → PH → Prop} (hl : ad 301 ≤ 384) (ea : x0 = ad 300) (hi : i + 6 ≤ ad 301) (L : LW b g x2 x3 own X ms c s h) (eh : h.2.2 = ad) (kk : ∀ own' X' ms' h', LW b g x2 x3 own' X' ms' (c + 10000) (s + 90000) h' → h'.2.2 = ad → Ends (K h') Z) : Ends (ldS h x0 (ii (i : Int) + (1 : Int32)) fun v1 => hI (c_W_load h (b 0) v1 x3) noX fun r1 h1 => ldS h1 x0 (ii (i : Int) + (1 : Int32)) fun w1 => hI (c_M_load h1 x2 w1) noX fun r2 h2 => hI (c_M_thrown h2 x2) noX fun r3 h3 => if r3 = r1 then if r1 = 0 then ldL h3 x3 (0 : Int32) fun r4 => if (lg_cmp r4 r2.toInt64) = 0 then K h3 else rZ (0 : Int32) h3 else K h3 else rZ (0 : Int32) h3) Z := by
  refine q_ldS (j := i + 1) eh ea (by rw [show (1 : Int32) = ii 1 from rfl, ii_add]; rfl) (by omega) hl ?_
  obtain ⟨k, v, h1, h2, h3, own', ms', f, p1, p2, p3, L', e1, e2, e3, ex, hv⟩ := lw_wd (P := fun h B => c_B_load h B (ii (sv ad (i + 1)))) (PM := fun h => c_M_load h x2 (ii (sv ad (i + 1)))) (D := fun ms => d_M_load ms (ii (sv ad (i + 1)))) (a := fun n A => loadA n A (sv ad (i + 1))) (fun q h Q => b_load Q sv_b) (fun ms n low A M I => m_load M I sv_b) (fun h ms m => r_M_load m _) L
  refine q_hIe (v := k) (h1 := h1) p1 ?_
  refine q_ldS (j := i + 1) (e1.trans eh) ea (by rw [show (1 : Int32) = ii 1 from rfl, ii_add]; rfl) (by omega) hl ?_
  refine q_hIe p2 ?_
  refine q_hIe p3 ?_
  refine q_pos _ rfl ?_
  rcases hv with ⟨q1, q2⟩ | q1
  · subst q1
    refine q_pos _ rfl ?_
    refine q_ldL (z := 0) ex (by decide) ?_
    refine q_pos _ (by show lg_cmp (f 0) v.toInt64 = 0; rw [lg_cmp_eq, q2]) ?_
    exact kk own' X ms' h3 L' (e3.trans eh)
  · subst q1
    refine q_neg _ (by decide) ?_
    exact kk own' X ms' h3 L' (e3.trans eh)
theorem law_centre {own : Nat → Nat} {X : XS} {ms : MS} {c s i x0 : Nat} {h : PH} {K : PH → Option RH} {Z : Rt → PH → Prop} (hl : ad 301 ≤ 384) (ea : x0 = ad 300) (hi : i + 6 ≤ ad 301) (L : LW b g x2 x3 own X ms c s h) (eh : h.2.2 = ad) (kk : ∀ own' X' ms' h', LW b g x2 x3 own' X' ms' (c + 10000) (s + 90000) h' → h'.2.2 = ad → Ends (K h') Z) : Ends (ldS h x0 (ii (i : Int) + (1 : Int32)) fun v1 => ldS h x0 (ii (i : Int) + (2 : Int32)) fun v2 => hI (c_W_centre h (b 0) v1 v2 x3) noX fun r1 h1 => ldS h1 x0 (ii (i : Int) + (1 : Int32)) fun w1 => ldS h1 x0 (ii (i : Int) + (2 : Int32)) fun w2 => hI (c_M_centre h1 x2 w1 w2) noX fun r2 h2 => hI (c_M_thrown h2 x2) noX fun r3 h3 => if r3 = r1 then if r1 = 0 then ldL h3 x3 (0 : Int32) fun r4 => if (lg_cmp r4 r2.toInt64) = 0 then K h3 else rZ (0 : Int32) h3 else K h3 else rZ (0 : Int32) h3) Z := by
  refine q_ldS (j := i + 1) eh ea (by rw [show (1 : Int32) = ii 1 from rfl, ii_add]; rfl) (by omega) hl ?_
  refine q_ldS (j := i + 2) eh ea (by rw [show (2 : Int32) = ii 2 from rfl, ii_add]; rfl) (by omega) hl ?_
  obtain ⟨k, v, h1, h2, h3, own', ms', f, p1, p2, p3, L', e1, e2, e3, ex, hv⟩ := lw_wd (P := fun h B => c_B_centre h B (ii (sv ad (i + 1))) (ii (sv ad (i + 2)))) (PM := fun h => c_M_centre h x2 (ii (sv ad (i + 1))) (ii (sv ad (i + 2)))) (D := fun ms => d_M_centre ms (ii (sv ad (i + 1))) (ii (sv ad (i + 2)))) (a := fun n A => centreA n A (sv ad (i + 1)) (sv ad (i + 2))) (fun q h Q => b_centre Q sv_b sv_b) (fun ms n low A M I => m_centre M sv_b sv_b) (fun h ms m => r_M_centre m _ _) L
  refine q_hIe (v := k) (h1 := h1) p1 ?_
  refine q_ldS (j := i + 1) (e1.trans eh) ea (by rw [show (1 : Int32) = ii 1 from rfl, ii_add]; rfl) (by omega) hl ?_
  refine q_ldS (j := i + 2) (e1.trans eh) ea (by rw [show (2 : Int32) = ii 2 from rfl, ii_add]; rfl) (by omega) hl ?_
  refine q_hIe p2 ?_
  refine q_hIe p3 ?_
  refine q_pos _ rfl ?_
  rcases hv with ⟨q1, q2⟩ | q1
  · subst q1
    refine q_pos _ rfl ?_
    refine q_ldL (z := 0) ex (by decide) ?_
    refine q_pos _ (by show lg_cmp (f 0) v.toInt64 = 0; rw [lg_cmp_eq, q2]) ?_
    exact kk own' X ms' h3 L' (e3.trans eh)
  · subst q1
    refine q_neg _ (by decide) ?_
    exact kk own' X ms' h3 L' (e3.trans eh)
theorem law_apart {own : Nat → Nat} {X : XS} {ms : MS} {c s i x0 : Nat} {h : PH} {K : PH → Option RH} {Z : Rt → PH → Prop} (hl : ad 301 ≤ 384) (ea : x0 = ad 300) (hi : i + 6 ≤ ad 301) (L : LW b g x2 x3 own X ms c s h) (eh : h.2.2 = ad) (kk : ∀ own' X' ms' h', LW b g x2 x3 own' X' ms' (c + 10000) (s + 90000) h' → h'.2.2 = ad → Ends (K h') Z) : Ends (ldS h x0 (ii (i : Int) + (1 : Int32)) fun v1 => ldS h x0 (ii (i : Int) + (2 : Int32)) fun v2 => hI (c_B_apart h (b 0) v1 v2) noX fun r1 h1 => ldS h1 x0 (ii (i : Int) + (1 : Int32)) fun w1 => ldS h1 x0 (ii (i : Int) + (2 : Int32)) fun w2 => hI (c_M_apart h1 x2 w1 w2) noX fun r2 h2 => if r1 = r2 then K h2 else rZ (0 : Int32) h2) Z := by
  refine q_ldS (j := i + 1) eh ea (by rw [show (1 : Int32) = ii 1 from rfl, ii_add]; rfl) (by omega) hl ?_
  refine q_ldS (j := i + 2) eh ea (by rw [show (2 : Int32) = ii 2 from rfl, ii_add]; rfl) (by omega) hl ?_
  obtain ⟨v, h1, h2, own', X', ms', p1, p2, L', e1, e2⟩ := lw_td (td_apart (x := sv ad (i + 1)) (y := sv ad (i + 2)) sv_b sv_b) (fun h ms m => r_M_apart m _ _) L
  refine q_hIe p1 ?_
  refine q_ldS (j := i + 1) (e1.trans eh) ea (by rw [show (1 : Int32) = ii 1 from rfl, ii_add]; rfl) (by omega) hl ?_
  refine q_ldS (j := i + 2) (e1.trans eh) ea (by rw [show (2 : Int32) = ii 2 from rfl, ii_add]; rfl) (by omega) hl ?_
  refine q_hIe p2 ?_
  refine q_pos _ rfl ?_
  exact kk own' X' ms' h2 L' (e2.trans eh)
theorem law_differ {own : Nat → Nat} {X : XS} {ms : MS} {c s i x0 : Nat} {h : PH} {K : PH → Option RH} {Z : Rt → PH → Prop} (hl : ad 301 ≤ 384) (ea : x0 = ad 300) (hi : i + 6 ≤ ad 301) (L : LW b g x2 x3 own X ms c s h) (eh : h.2.2 = ad) (kk : ∀ own' X' ms' h', LW b g x2 x3 own' X' ms' (c + 10000) (s + 90000) h' → h'.2.2 = ad → Ends (K h') Z) : Ends (ldS h x0 (ii (i : Int) + (1 : Int32)) fun v1 => ldS h x0 (ii (i : Int) + (2 : Int32)) fun v2 => hI (c_B_differ h (b 0) v1 v2) noX fun r1 h1 => ldS h1 x0 (ii (i : Int) + (1 : Int32)) fun w1 => ldS h1 x0 (ii (i : Int) + (2 : Int32)) fun w2 => hI (c_M_differ h1 x2 w1 w2) noX fun r2 h2 => if r1 = r2 then K h2 else rZ (0 : Int32) h2) Z := by
  refine q_ldS (j := i + 1) eh ea (by rw [show (1 : Int32) = ii 1 from rfl, ii_add]; rfl) (by omega) hl ?_
  refine q_ldS (j := i + 2) eh ea (by rw [show (2 : Int32) = ii 2 from rfl, ii_add]; rfl) (by omega) hl ?_
  obtain ⟨v, h1, h2, own', X', ms', p1, p2, L', e1, e2⟩ := lw_td (td_differ (x := sv ad (i + 1)) (y := sv ad (i + 2)) sv_b sv_b) (fun h ms m => r_M_differ m _ _) L
  refine q_hIe p1 ?_
  refine q_ldS (j := i + 1) (e1.trans eh) ea (by rw [show (1 : Int32) = ii 1 from rfl, ii_add]; rfl) (by omega) hl ?_
  refine q_ldS (j := i + 2) (e1.trans eh) ea (by rw [show (2 : Int32) = ii 2 from rfl, ii_add]; rfl) (by omega) hl ?_
  refine q_hIe p2 ?_
  refine q_pos _ rfl ?_
  exact kk own' X' ms' h2 L' (e2.trans eh)
theorem law_seek {own : Nat → Nat} {X : XS} {ms : MS} {c s i x0 : Nat} {h : PH} {K : PH → Option RH} {Z : Rt → PH → Prop} (hl : ad 301 ≤ 384) (ea : x0 = ad 300) (hi : i + 6 ≤ ad 301) (L : LW b g x2 x3 own X ms c s h) (eh : h.2.2 = ad) (kk : ∀ own' X' ms' h', LW b g x2 x3 own' X' ms' (c + 10000) (s + 90000) h' → h'.2.2 = ad → Ends (K h') Z) : Ends (ldS h x0 (ii (i : Int) + (1 : Int32)) fun v1 => hI (c_B_seek h (b 0) v1) noX fun r1 h1 => ldS h1 x0 (ii (i : Int) + (1 : Int32)) fun w1 => hI (c_M_seek h1 x2 w1) noX fun r2 h2 => if r1 = r2 then K h2 else rZ (0 : Int32) h2) Z := by
  refine q_ldS (j := i + 1) eh ea (by rw [show (1 : Int32) = ii 1 from rfl, ii_add]; rfl) (by omega) hl ?_
  obtain ⟨v, h1, h2, own', X', ms', p1, p2, L', e1, e2⟩ := lw_td (td_seek (x := sv ad (i + 1)) sv_b) (fun h ms m => r_M_seek m _) L
  refine q_hIe p1 ?_
  refine q_ldS (j := i + 1) (e1.trans eh) ea (by rw [show (1 : Int32) = ii 1 from rfl, ii_add]; rfl) (by omega) hl ?_
  refine q_hIe p2 ?_
  refine q_pos _ rfl ?_
  exact kk own' X' ms' h2 L' (e2.trans eh)
theorem law_seekAt {own : Nat → Nat} {X : XS} {ms : MS} {c s i x0 : Nat} {h : PH} {K : PH → Option RH} {Z : Rt → PH → Prop} (hl : ad 301 ≤ 384) (ea : x0 = ad 300) (hi : i + 6 ≤ ad 301) (L : LW b g x2 x3 own X ms c s h) (eh : h.2.2 = ad) (kk : ∀ own' X' ms' h', LW b g x2 x3 own' X' ms' (c + 10000) (s + 90000) h' → h'.2.2 = ad → Ends (K h') Z) : Ends (ldS h x0 (ii (i : Int) + (1 : Int32)) fun v1 => hI (c_B_seekAt h (b 0) v1) noX fun r1 h1 => ldS h1 x0 (ii (i : Int) + (1 : Int32)) fun w1 => hI (c_M_seekAt h1 x2 w1) noX fun r2 h2 => if r1 = r2 then K h2 else rZ (0 : Int32) h2) Z := by
  refine q_ldS (j := i + 1) eh ea (by rw [show (1 : Int32) = ii 1 from rfl, ii_add]; rfl) (by omega) hl ?_
  obtain ⟨v, h1, h2, own', X', ms', p1, p2, L', e1, e2⟩ := lw_td (td_seekAt (x := sv ad (i + 1)) sv_b) (fun h ms m => r_M_seekAt m _) L
  refine q_hIe p1 ?_
  refine q_ldS (j := i + 1) (e1.trans eh) ea (by rw [show (1 : Int32) = ii 1 from rfl, ii_add]; rfl) (by omega) hl ?_
  refine q_hIe p2 ?_
  refine q_pos _ rfl ?_
  exact kk own' X' ms' h2 L' (e2.trans eh)
theorem law_put {own : Nat → Nat} {X : XS} {ms : MS} {c s i x0 : Nat} {h : PH} {K : PH → Option RH} {Z : Rt → PH → Prop} (hl : ad 301 ≤ 384) (ea : x0 = ad 300) (hi : i + 6 ≤ ad 301) (L : LW b g x2 x3 own X ms c s h) (eh : h.2.2 = ad) (kk : ∀ own' X' ms' h', LW b g x2 x3 own' X' ms' (c + 10000) (s + 90000) h' → h'.2.2 = ad → Ends (K h') Z) : Ends (ldS h x0 (ii (i : Int) + (1 : Int32)) fun v1 => ldS h x0 (ii (i : Int) + (2 : Int32)) fun v2 => ldS h x0 (ii (i : Int) + (3 : Int32)) fun v3 => hI (c_B_put h (b 0) v1 v2 v3) noX fun r1 h1 => ldS h1 x0 (ii (i : Int) + (1 : Int32)) fun w1 => ldS h1 x0 (ii (i : Int) + (2 : Int32)) fun w2 => ldS h1 x0 (ii (i : Int) + (3 : Int32)) fun w3 => hI (c_M_put h1 x2 w1 w2 w3) noX fun r2 h2 => if r1 = r2 then K h2 else rZ (0 : Int32) h2) Z := by
  refine q_ldS (j := i + 1) eh ea (by rw [show (1 : Int32) = ii 1 from rfl, ii_add]; rfl) (by omega) hl ?_
  refine q_ldS (j := i + 2) eh ea (by rw [show (2 : Int32) = ii 2 from rfl, ii_add]; rfl) (by omega) hl ?_
  refine q_ldS (j := i + 3) eh ea (by rw [show (3 : Int32) = ii 3 from rfl, ii_add]; rfl) (by omega) hl ?_
  obtain ⟨v, h1, h2, own', X', ms', p1, p2, L', e1, e2⟩ := lw_td (td_put (x := sv ad (i + 1)) (y := sv ad (i + 2)) (z := sv ad (i + 3)) sv_b sv_b sv_b) (fun h ms m => r_M_put m _ _ _) L
  refine q_hIe p1 ?_
  refine q_ldS (j := i + 1) (e1.trans eh) ea (by rw [show (1 : Int32) = ii 1 from rfl, ii_add]; rfl) (by omega) hl ?_
  refine q_ldS (j := i + 2) (e1.trans eh) ea (by rw [show (2 : Int32) = ii 2 from rfl, ii_add]; rfl) (by omega) hl ?_
  refine q_ldS (j := i + 3) (e1.trans eh) ea (by rw [show (3 : Int32) = ii 3 from rfl, ii_add]; rfl) (by omega) hl ?_
  refine q_hIe p2 ?_
  refine q_pos _ rfl ?_
  exact kk own' X' ms' h2 L' (e2.trans eh)
theorem law_set {own : Nat → Nat} {X : XS} {ms : MS} {c s i x0 : Nat} {h : PH} {K : PH → Option RH} {Z : Rt → PH → Prop} (hl : ad 301 ≤ 384) (ea : x0 = ad 300) (hi : i + 6 ≤ ad 301) (L : LW b g x2 x3 own X ms c s h) (eh : h.2.2 = ad) (kk : ∀ own' X' ms' h', LW b g x2 x3 own' X' ms' (c + 10000) (s + 90000) h' → h'.2.2 = ad → Ends (K h') Z) : Ends (ldS h x0 (ii (i : Int) + (1 : Int32)) fun v1 => ldS h x0 (ii (i : Int) + (2 : Int32)) fun v2 => ldS h x0 (ii (i : Int) + (3 : Int32)) fun v3 => hI (c_B_set h (b 0) v1 v2 v3) noX fun r1 h1 => ldS h1 x0 (ii (i : Int) + (1 : Int32)) fun w1 => ldS h1 x0 (ii (i : Int) + (2 : Int32)) fun w2 => ldS h1 x0 (ii (i : Int) + (3 : Int32)) fun w3 => hI (c_M_set h1 x2 w1 w2 w3) noX fun r2 h2 => if r1 = r2 then K h2 else rZ (0 : Int32) h2) Z := by
  refine q_ldS (j := i + 1) eh ea (by rw [show (1 : Int32) = ii 1 from rfl, ii_add]; rfl) (by omega) hl ?_
  refine q_ldS (j := i + 2) eh ea (by rw [show (2 : Int32) = ii 2 from rfl, ii_add]; rfl) (by omega) hl ?_
  refine q_ldS (j := i + 3) eh ea (by rw [show (3 : Int32) = ii 3 from rfl, ii_add]; rfl) (by omega) hl ?_
  obtain ⟨v, h1, h2, own', X', ms', p1, p2, L', e1, e2⟩ := lw_td (td_set (x := sv ad (i + 1)) (y := sv ad (i + 2)) (z := sv ad (i + 3)) sv_b sv_b sv_b) (fun h ms m => r_M_set m _ _ _) L
  refine q_hIe p1 ?_
  refine q_ldS (j := i + 1) (e1.trans eh) ea (by rw [show (1 : Int32) = ii 1 from rfl, ii_add]; rfl) (by omega) hl ?_
  refine q_ldS (j := i + 2) (e1.trans eh) ea (by rw [show (2 : Int32) = ii 2 from rfl, ii_add]; rfl) (by omega) hl ?_
  refine q_ldS (j := i + 3) (e1.trans eh) ea (by rw [show (3 : Int32) = ii 3 from rfl, ii_add]; rfl) (by omega) hl ?_
  refine q_hIe p2 ?_
  refine q_pos _ rfl ?_
  exact kk own' X' ms' h2 L' (e2.trans eh)
theorem law_cut {own : Nat → Nat} {X : XS} {ms : MS} {c s i x0 : Nat} {h : PH} {K : PH → Option RH} {Z : Rt → PH → Prop} (hl : ad 301 ≤ 384) (ea : x0 = ad 300) (hi : i + 6 ≤ ad 301) (L : LW b g x2 x3 own X ms c s h) (eh : h.2.2 = ad) (kk : ∀ own' X' ms' h', LW b g x2 x3 own' X' ms' (c + 10000) (s + 90000) h' → h'.2.2 = ad → Ends (K h') Z) : Ends (ldS h x0 (ii (i : Int) + (1 : Int32)) fun v1 => ldS h x0 (ii (i : Int) + (2 : Int32)) fun v2 => ldS h x0 (ii (i : Int) + (3 : Int32)) fun v3 => hI (c_B_cut h (b 0) v1 v2 v3) noX fun r1 h1 => ldS h1 x0 (ii (i : Int) + (1 : Int32)) fun w1 => ldS h1 x0 (ii (i : Int) + (2 : Int32)) fun w2 => ldS h1 x0 (ii (i : Int) + (3 : Int32)) fun w3 => hI (c_M_cut h1 x2 w1 w2 w3) noX fun r2 h2 => if r1 = r2 then K h2 else rZ (0 : Int32) h2) Z := by
  refine q_ldS (j := i + 1) eh ea (by rw [show (1 : Int32) = ii 1 from rfl, ii_add]; rfl) (by omega) hl ?_
  refine q_ldS (j := i + 2) eh ea (by rw [show (2 : Int32) = ii 2 from rfl, ii_add]; rfl) (by omega) hl ?_
  refine q_ldS (j := i + 3) eh ea (by rw [show (3 : Int32) = ii 3 from rfl, ii_add]; rfl) (by omega) hl ?_
  obtain ⟨v, h1, h2, own', X', ms', p1, p2, L', e1, e2⟩ := lw_td (td_cut (x := sv ad (i + 1)) (y := sv ad (i + 2)) (z := sv ad (i + 3)) sv_b sv_b sv_b) (fun h ms m => r_M_cut m _ _ _) L
  refine q_hIe p1 ?_
  refine q_ldS (j := i + 1) (e1.trans eh) ea (by rw [show (1 : Int32) = ii 1 from rfl, ii_add]; rfl) (by omega) hl ?_
  refine q_ldS (j := i + 2) (e1.trans eh) ea (by rw [show (2 : Int32) = ii 2 from rfl, ii_add]; rfl) (by omega) hl ?_
  refine q_ldS (j := i + 3) (e1.trans eh) ea (by rw [show (3 : Int32) = ii 3 from rfl, ii_add]; rfl) (by omega) hl ?_
  refine q_hIe p2 ?_
  refine q_pos _ rfl ?_
  exact kk own' X' ms' h2 L' (e2.trans eh)
theorem law_turn {own : Nat → Nat} {X : XS} {ms : MS} {c s i x0 : Nat} {h : PH} {K : PH → Option RH} {Z : Rt → PH → Prop} (hl : ad 301 ≤ 384) (ea : x0 = ad 300) (hi : i + 6 ≤ ad 301) (L : LW b g x2 x3 own X ms c s h) (eh : h.2.2 = ad) (kk : ∀ own' X' ms' h', LW b g x2 x3 own' X' ms' (c + 10000) (s + 90000) h' → h'.2.2 = ad → Ends (K h') Z) : Ends (ldS h x0 (ii (i : Int) + (1 : Int32)) fun v1 => ldS h x0 (ii (i : Int) + (2 : Int32)) fun v2 => ldS h x0 (ii (i : Int) + (3 : Int32)) fun v3 => hI (c_B_turn h (b 0) v1 v2 v3) noX fun r1 h1 => ldS h1 x0 (ii (i : Int) + (1 : Int32)) fun w1 => ldS h1 x0 (ii (i : Int) + (2 : Int32)) fun w2 => ldS h1 x0 (ii (i : Int) + (3 : Int32)) fun w3 => hI (c_M_turn h1 x2 w1 w2 w3) noX fun r2 h2 => if r1 = r2 then K h2 else rZ (0 : Int32) h2) Z := by
  refine q_ldS (j := i + 1) eh ea (by rw [show (1 : Int32) = ii 1 from rfl, ii_add]; rfl) (by omega) hl ?_
  refine q_ldS (j := i + 2) eh ea (by rw [show (2 : Int32) = ii 2 from rfl, ii_add]; rfl) (by omega) hl ?_
  refine q_ldS (j := i + 3) eh ea (by rw [show (3 : Int32) = ii 3 from rfl, ii_add]; rfl) (by omega) hl ?_
  obtain ⟨v, h1, h2, own', X', ms', p1, p2, L', e1, e2⟩ := lw_td (td_turn (x := sv ad (i + 1)) (y := sv ad (i + 2)) (z := sv ad (i + 3)) sv_b sv_b sv_b) (fun h ms m => r_M_turn m _ _ _) L
  refine q_hIe p1 ?_
  refine q_ldS (j := i + 1) (e1.trans eh) ea (by rw [show (1 : Int32) = ii 1 from rfl, ii_add]; rfl) (by omega) hl ?_
  refine q_ldS (j := i + 2) (e1.trans eh) ea (by rw [show (2 : Int32) = ii 2 from rfl, ii_add]; rfl) (by omega) hl ?_
  refine q_ldS (j := i + 3) (e1.trans eh) ea (by rw [show (3 : Int32) = ii 3 from rfl, ii_add]; rfl) (by omega) hl ?_
  refine q_hIe p2 ?_
  refine q_pos _ rfl ?_
  exact kk own' X' ms' h2 L' (e2.trans eh)
theorem law_paste {own : Nat → Nat} {X : XS} {ms : MS} {c s i x0 : Nat} {h : PH} {K : PH → Option RH} {Z : Rt → PH → Prop} (hl : ad 301 ≤ 384) (ea : x0 = ad 300) (hi : i + 6 ≤ ad 301) (L : LW b g x2 x3 own X ms c s h) (eh : h.2.2 = ad) (kk : ∀ own' X' ms' h', LW b g x2 x3 own' X' ms' (c + 10000) (s + 90000) h' → h'.2.2 = ad → Ends (K h') Z) : Ends (ldS h x0 (ii (i : Int) + (1 : Int32)) fun v1 => ldS h x0 (ii (i : Int) + (2 : Int32)) fun v2 => hI (c_B_paste h (b 0) v1 v2) noX fun r1 h1 => ldS h1 x0 (ii (i : Int) + (1 : Int32)) fun w1 => ldS h1 x0 (ii (i : Int) + (2 : Int32)) fun w2 => hI (c_M_paste h1 x2 w1 w2) noX fun r2 h2 => if r1 = r2 then K h2 else rZ (0 : Int32) h2) Z := by
  refine q_ldS (j := i + 1) eh ea (by rw [show (1 : Int32) = ii 1 from rfl, ii_add]; rfl) (by omega) hl ?_
  refine q_ldS (j := i + 2) eh ea (by rw [show (2 : Int32) = ii 2 from rfl, ii_add]; rfl) (by omega) hl ?_
  obtain ⟨v, h1, h2, own', X', ms', p1, p2, L', e1, e2⟩ := lw_td (td_paste (x := sv ad (i + 1)) (y := sv ad (i + 2)) sv_b sv_b) (fun h ms m => r_M_paste m _ _) L
  refine q_hIe p1 ?_
  refine q_ldS (j := i + 1) (e1.trans eh) ea (by rw [show (1 : Int32) = ii 1 from rfl, ii_add]; rfl) (by omega) hl ?_
  refine q_ldS (j := i + 2) (e1.trans eh) ea (by rw [show (2 : Int32) = ii 2 from rfl, ii_add]; rfl) (by omega) hl ?_
  refine q_hIe p2 ?_
  refine q_pos _ rfl ?_
  exact kk own' X' ms' h2 L' (e2.trans eh)
theorem law_join {own : Nat → Nat} {X : XS} {ms : MS} {c s i x0 : Nat} {h : PH} {K : PH → Option RH} {Z : Rt → PH → Prop} (hl : ad 301 ≤ 384) (ea : x0 = ad 300) (hi : i + 6 ≤ ad 301) (L : LW b g x2 x3 own X ms c s h) (eh : h.2.2 = ad) (kk : ∀ own' X' ms' h', LW b g x2 x3 own' X' ms' (c + 10000) (s + 90000) h' → h'.2.2 = ad → Ends (K h') Z) : Ends (ldS h x0 (ii (i : Int) + (1 : Int32)) fun v1 => ldS h x0 (ii (i : Int) + (2 : Int32)) fun v2 => hI (c_B_join h (b 0) v1 v2) noX fun r1 h1 => ldS h1 x0 (ii (i : Int) + (1 : Int32)) fun w1 => ldS h1 x0 (ii (i : Int) + (2 : Int32)) fun w2 => hI (c_M_join h1 x2 w1 w2) noX fun r2 h2 => if r1 = r2 then K h2 else rZ (0 : Int32) h2) Z := by
  refine q_ldS (j := i + 1) eh ea (by rw [show (1 : Int32) = ii 1 from rfl, ii_add]; rfl) (by omega) hl ?_
  refine q_ldS (j := i + 2) eh ea (by rw [show (2 : Int32) = ii 2 from rfl, ii_add]; rfl) (by omega) hl ?_
  obtain ⟨v, h1, h2, own', X', ms', p1, p2, L', e1, e2⟩ := lw_td (td_join (x := sv ad (i + 1)) (y := sv ad (i + 2)) sv_b sv_b) (fun h ms m => r_M_join m _ _) L
  refine q_hIe p1 ?_
  refine q_ldS (j := i + 1) (e1.trans eh) ea (by rw [show (1 : Int32) = ii 1 from rfl, ii_add]; rfl) (by omega) hl ?_
  refine q_ldS (j := i + 2) (e1.trans eh) ea (by rw [show (2 : Int32) = ii 2 from rfl, ii_add]; rfl) (by omega) hl ?_
  refine q_hIe p2 ?_
  refine q_pos _ rfl ?_
  exact kk own' X' ms' h2 L' (e2.trans eh)
theorem law_split {own : Nat → Nat} {X : XS} {ms : MS} {c s i x0 : Nat} {h : PH} {K : PH → Option RH} {Z : Rt → PH → Prop} (hl : ad 301 ≤ 384) (ea : x0 = ad 300) (hi : i + 6 ≤ ad 301) (L : LW b g x2 x3 own X ms c s h) (eh : h.2.2 = ad) (kk : ∀ own' X' ms' h', LW b g x2 x3 own' X' ms' (c + 10000) (s + 90000) h' → h'.2.2 = ad → Ends (K h') Z) : Ends (ldS h x0 (ii (i : Int) + (1 : Int32)) fun v1 => ldS h x0 (ii (i : Int) + (2 : Int32)) fun v2 => ldS h x0 (ii (i : Int) + (3 : Int32)) fun v3 => hI (c_B_split h (b 0) v1 v2 v3) noX fun r1 h1 => ldS h1 x0 (ii (i : Int) + (1 : Int32)) fun w1 => ldS h1 x0 (ii (i : Int) + (2 : Int32)) fun w2 => ldS h1 x0 (ii (i : Int) + (3 : Int32)) fun w3 => hI (c_M_split h1 x2 w1 w2 w3) noX fun r2 h2 => if r1 = r2 then K h2 else rZ (0 : Int32) h2) Z := by
  refine q_ldS (j := i + 1) eh ea (by rw [show (1 : Int32) = ii 1 from rfl, ii_add]; rfl) (by omega) hl ?_
  refine q_ldS (j := i + 2) eh ea (by rw [show (2 : Int32) = ii 2 from rfl, ii_add]; rfl) (by omega) hl ?_
  refine q_ldS (j := i + 3) eh ea (by rw [show (3 : Int32) = ii 3 from rfl, ii_add]; rfl) (by omega) hl ?_
  obtain ⟨v, h1, h2, own', X', ms', p1, p2, L', e1, e2⟩ := lw_td (td_split (x := sv ad (i + 1)) (y := sv ad (i + 2)) (z := sv ad (i + 3)) sv_b sv_b sv_b) (fun h ms m => r_M_split m _ _ _) L
  refine q_hIe p1 ?_
  refine q_ldS (j := i + 1) (e1.trans eh) ea (by rw [show (1 : Int32) = ii 1 from rfl, ii_add]; rfl) (by omega) hl ?_
  refine q_ldS (j := i + 2) (e1.trans eh) ea (by rw [show (2 : Int32) = ii 2 from rfl, ii_add]; rfl) (by omega) hl ?_
  refine q_ldS (j := i + 3) (e1.trans eh) ea (by rw [show (3 : Int32) = ii 3 from rfl, ii_add]; rfl) (by omega) hl ?_
  refine q_hIe p2 ?_
  refine q_pos _ rfl ?_
  exact kk own' X' ms' h2 L' (e2.trans eh)
theorem law_letters {own : Nat → Nat} {X : XS} {ms : MS} {c s i x0 : Nat} {h : PH} {K : PH → Option RH} {Z : Rt → PH → Prop} (hl : ad 301 ≤ 384) (ea : x0 = ad 300) (hi : i + 6 ≤ ad 301) (L : LW b g x2 x3 own X ms c s h) (eh : h.2.2 = ad) (kk : ∀ own' X' ms' h', LW b g x2 x3 own' X' ms' (c + 10000) (s + 90000) h' → h'.2.2 = ad → Ends (K h') Z) : Ends (hI (c_B_letters h (b 0)) noX fun r1 h1 => hI (c_M_letters h1 x2) noX fun r2 h2 => if r1 = r2 then K h2 else rZ (0 : Int32) h2) Z := by
  obtain ⟨v, h1, h2, own', X', ms', p1, p2, L', e1, e2⟩ := lw_td (td_letters) (fun h ms m => r_M_letters m) L
  refine q_hIe p1 ?_
  refine q_hIe p2 ?_
  refine q_pos _ rfl ?_
  exact kk own' X' ms' h2 L' (e2.trans eh)
theorem law_letter {own : Nat → Nat} {X : XS} {ms : MS} {c s i x0 : Nat} {h : PH} {K : PH → Option RH} {Z : Rt → PH → Prop} (hl : ad 301 ≤ 384) (ea : x0 = ad 300) (hi : i + 6 ≤ ad 301) (L : LW b g x2 x3 own X ms c s h) (eh : h.2.2 = ad) (kk : ∀ own' X' ms' h', LW b g x2 x3 own' X' ms' (c + 10000) (s + 90000) h' → h'.2.2 = ad → Ends (K h') Z) : Ends (ldS h x0 (ii (i : Int) + (1 : Int32)) fun v1 => hI (c_B_letter h (b 0) v1) noX fun r1 h1 => ldS h1 x0 (ii (i : Int) + (1 : Int32)) fun w1 => hI (c_M_letter h1 x2 w1) noX fun r2 h2 => if r1 = r2 then K h2 else rZ (0 : Int32) h2) Z := by
  refine q_ldS (j := i + 1) eh ea (by rw [show (1 : Int32) = ii 1 from rfl, ii_add]; rfl) (by omega) hl ?_
  obtain ⟨v, h1, h2, own', X', ms', p1, p2, L', e1, e2⟩ := lw_td (td_letter (x := sv ad (i + 1)) sv_b) (fun h ms m => r_M_letter m _) L
  refine q_hIe p1 ?_
  refine q_ldS (j := i + 1) (e1.trans eh) ea (by rw [show (1 : Int32) = ii 1 from rfl, ii_add]; rfl) (by omega) hl ?_
  refine q_hIe p2 ?_
  refine q_pos _ rfl ?_
  exact kk own' X' ms' h2 L' (e2.trans eh)
theorem law_count {own : Nat → Nat} {X : XS} {ms : MS} {c s i x0 : Nat} {h : PH} {K : PH → Option RH} {Z : Rt → PH → Prop} (hl : ad 301 ≤ 384) (ea : x0 = ad 300) (hi : i + 6 ≤ ad 301) (L : LW b g x2 x3 own X ms c s h) (eh : h.2.2 = ad) (kk : ∀ own' X' ms' h', LW b g x2 x3 own' X' ms' (c + 10000) (s + 90000) h' → h'.2.2 = ad → Ends (K h') Z) : Ends (ldS h x0 (ii (i : Int) + (1 : Int32)) fun v1 => ldS h x0 (ii (i : Int) + (2 : Int32)) fun v2 => hI (c_B_count h (b 0) v1 v2) noX fun r1 h1 => ldS h1 x0 (ii (i : Int) + (1 : Int32)) fun w1 => ldS h1 x0 (ii (i : Int) + (2 : Int32)) fun w2 => hI (c_M_count h1 x2 w1 w2) noX fun r2 h2 => if r1 = r2 then K h2 else rZ (0 : Int32) h2) Z := by
  refine q_ldS (j := i + 1) eh ea (by rw [show (1 : Int32) = ii 1 from rfl, ii_add]; rfl) (by omega) hl ?_
  refine q_ldS (j := i + 2) eh ea (by rw [show (2 : Int32) = ii 2 from rfl, ii_add]; rfl) (by omega) hl ?_
  obtain ⟨v, h1, h2, own', X', ms', p1, p2, L', e1, e2⟩ := lw_td (td_count (x := sv ad (i + 1)) (y := sv ad (i + 2)) sv_b sv_b) (fun h ms m => r_M_count m _ _) L
  refine q_hIe p1 ?_
  refine q_ldS (j := i + 1) (e1.trans eh) ea (by rw [show (1 : Int32) = ii 1 from rfl, ii_add]; rfl) (by omega) hl ?_
  refine q_ldS (j := i + 2) (e1.trans eh) ea (by rw [show (2 : Int32) = ii 2 from rfl, ii_add]; rfl) (by omega) hl ?_
  refine q_hIe p2 ?_
  refine q_pos _ rfl ?_
  exact kk own' X' ms' h2 L' (e2.trans eh)
theorem law_place {own : Nat → Nat} {X : XS} {ms : MS} {c s i x0 : Nat} {h : PH} {K : PH → Option RH} {Z : Rt → PH → Prop} (hl : ad 301 ≤ 384) (ea : x0 = ad 300) (hi : i + 6 ≤ ad 301) (L : LW b g x2 x3 own X ms c s h) (eh : h.2.2 = ad) (kk : ∀ own' X' ms' h', LW b g x2 x3 own' X' ms' (c + 10000) (s + 90000) h' → h'.2.2 = ad → Ends (K h') Z) : Ends (ldS h x0 (ii (i : Int) + (1 : Int32)) fun v1 => ldS h x0 (ii (i : Int) + (2 : Int32)) fun v2 => hI (c_B_place h (b 0) v1 v2) noX fun r1 h1 => ldS h1 x0 (ii (i : Int) + (1 : Int32)) fun w1 => ldS h1 x0 (ii (i : Int) + (2 : Int32)) fun w2 => hI (c_M_place h1 x2 w1 w2) noX fun r2 h2 => if r1 = r2 then K h2 else rZ (0 : Int32) h2) Z := by
  refine q_ldS (j := i + 1) eh ea (by rw [show (1 : Int32) = ii 1 from rfl, ii_add]; rfl) (by omega) hl ?_
  refine q_ldS (j := i + 2) eh ea (by rw [show (2 : Int32) = ii 2 from rfl, ii_add]; rfl) (by omega) hl ?_
  obtain ⟨v, h1, h2, own', X', ms', p1, p2, L', e1, e2⟩ := lw_td (td_place (x := sv ad (i + 1)) (y := sv ad (i + 2)) sv_b sv_b) (fun h ms m => r_M_place m _ _) L
  refine q_hIe p1 ?_
  refine q_ldS (j := i + 1) (e1.trans eh) ea (by rw [show (1 : Int32) = ii 1 from rfl, ii_add]; rfl) (by omega) hl ?_
  refine q_ldS (j := i + 2) (e1.trans eh) ea (by rw [show (2 : Int32) = ii 2 from rfl, ii_add]; rfl) (by omega) hl ?_
  refine q_hIe p2 ?_
  refine q_pos _ rfl ?_
  exact kk own' X' ms' h2 L' (e2.trans eh)
theorem law_least {own : Nat → Nat} {X : XS} {ms : MS} {c s i x0 : Nat} {h : PH} {K : PH → Option RH} {Z : Rt → PH → Prop} (hl : ad 301 ≤ 384) (ea : x0 = ad 300) (hi : i + 6 ≤ ad 301) (L : LW b g x2 x3 own X ms c s h) (eh : h.2.2 = ad) (kk : ∀ own' X' ms' h', LW b g x2 x3 own' X' ms' (c + 10000) (s + 90000) h' → h'.2.2 = ad → Ends (K h') Z) : Ends (ldS h x0 (ii (i : Int) + (1 : Int32)) fun v1 => ldS h x0 (ii (i : Int) + (2 : Int32)) fun v2 => ldS h x0 (ii (i : Int) + (3 : Int32)) fun v3 => hI (c_B_least h (b 0) v1 v2 v3) noX fun r1 h1 => ldS h1 x0 (ii (i : Int) + (1 : Int32)) fun w1 => ldS h1 x0 (ii (i : Int) + (2 : Int32)) fun w2 => ldS h1 x0 (ii (i : Int) + (3 : Int32)) fun w3 => hI (c_M_least h1 x2 w1 w2 w3) noX fun r2 h2 => if r1 = r2 then K h2 else rZ (0 : Int32) h2) Z := by
  refine q_ldS (j := i + 1) eh ea (by rw [show (1 : Int32) = ii 1 from rfl, ii_add]; rfl) (by omega) hl ?_
  refine q_ldS (j := i + 2) eh ea (by rw [show (2 : Int32) = ii 2 from rfl, ii_add]; rfl) (by omega) hl ?_
  refine q_ldS (j := i + 3) eh ea (by rw [show (3 : Int32) = ii 3 from rfl, ii_add]; rfl) (by omega) hl ?_
  obtain ⟨v, h1, h2, own', X', ms', p1, p2, L', e1, e2⟩ := lw_td (td_least (x := sv ad (i + 1)) (y := sv ad (i + 2)) (z := sv ad (i + 3)) sv_b sv_b sv_b) (fun h ms m => r_M_least m _ _ _) L
  refine q_hIe p1 ?_
  refine q_ldS (j := i + 1) (e1.trans eh) ea (by rw [show (1 : Int32) = ii 1 from rfl, ii_add]; rfl) (by omega) hl ?_
  refine q_ldS (j := i + 2) (e1.trans eh) ea (by rw [show (2 : Int32) = ii 2 from rfl, ii_add]; rfl) (by omega) hl ?_
  refine q_ldS (j := i + 3) (e1.trans eh) ea (by rw [show (3 : Int32) = ii 3 from rfl, ii_add]; rfl) (by omega) hl ?_
  refine q_hIe p2 ?_
  refine q_pos _ rfl ?_
  exact kk own' X' ms' h2 L' (e2.trans eh)
theorem law_node {own : Nat → Nat} {X : XS} {ms : MS} {c s i x0 : Nat} {h : PH} {K : PH → Option RH} {Z : Rt → PH → Prop} (hl : ad 301 ≤ 384) (ea : x0 = ad 300) (hi : i + 6 ≤ ad 301) (L : LW b g x2 x3 own X ms c s h) (eh : h.2.2 = ad) (kk : ∀ own' X' ms' h', LW b g x2 x3 own' X' ms' (c + 10000) (s + 90000) h' → h'.2.2 = ad → Ends (K h') Z) : Ends (ldS h x0 (ii (i : Int) + (1 : Int32)) fun v1 => ldS h x0 (ii (i : Int) + (2 : Int32)) fun v2 => hI (c_B_node h (b 0) v1 v2) noX fun r1 h1 => ldS h1 x0 (ii (i : Int) + (1 : Int32)) fun w1 => ldS h1 x0 (ii (i : Int) + (2 : Int32)) fun w2 => hI (c_M_node h1 x2 w1 w2) noX fun r2 h2 => if r1 = r2 then K h2 else rZ (0 : Int32) h2) Z := by
  refine q_ldS (j := i + 1) eh ea (by rw [show (1 : Int32) = ii 1 from rfl, ii_add]; rfl) (by omega) hl ?_
  refine q_ldS (j := i + 2) eh ea (by rw [show (2 : Int32) = ii 2 from rfl, ii_add]; rfl) (by omega) hl ?_
  obtain ⟨v, h1, h2, own', X', ms', p1, p2, L', e1, e2⟩ := lw_td (td_node (x := sv ad (i + 1)) (y := sv ad (i + 2)) sv_b sv_b) (fun h ms m => r_M_node m _ _) L
  refine q_hIe p1 ?_
  refine q_ldS (j := i + 1) (e1.trans eh) ea (by rw [show (1 : Int32) = ii 1 from rfl, ii_add]; rfl) (by omega) hl ?_
  refine q_ldS (j := i + 2) (e1.trans eh) ea (by rw [show (2 : Int32) = ii 2 from rfl, ii_add]; rfl) (by omega) hl ?_
  refine q_hIe p2 ?_
  refine q_pos _ rfl ?_
  exact kk own' X' ms' h2 L' (e2.trans eh)
theorem law_type {own : Nat → Nat} {X : XS} {ms : MS} {c s i x0 : Nat} {h : PH} {K : PH → Option RH} {Z : Rt → PH → Prop} (hl : ad 301 ≤ 384) (ea : x0 = ad 300) (hi : i + 6 ≤ ad 301) (L : LW b g x2 x3 own X ms c s h) (eh : h.2.2 = ad) (kk : ∀ own' X' ms' h', LW b g x2 x3 own' X' ms' (c + 10000) (s + 90000) h' → h'.2.2 = ad → Ends (K h') Z) : Ends (ldS h x0 (ii (i : Int) + (1 : Int32)) fun v1 => ldS h x0 (ii (i : Int) + (2 : Int32)) fun v2 => hI (c_B_type h (b 0) v1 v2) noX fun r1 h1 => ldS h1 x0 (ii (i : Int) + (1 : Int32)) fun w1 => ldS h1 x0 (ii (i : Int) + (2 : Int32)) fun w2 => hI (c_M_type h1 x2 w1 w2) noX fun r2 h2 => if r1 = r2 then K h2 else rZ (0 : Int32) h2) Z := by
  refine q_ldS (j := i + 1) eh ea (by rw [show (1 : Int32) = ii 1 from rfl, ii_add]; rfl) (by omega) hl ?_
  refine q_ldS (j := i + 2) eh ea (by rw [show (2 : Int32) = ii 2 from rfl, ii_add]; rfl) (by omega) hl ?_
  obtain ⟨v, h1, h2, own', X', ms', p1, p2, L', e1, e2⟩ := lw_td (td_type (x := sv ad (i + 1)) (y := sv ad (i + 2)) sv_b sv_b) (fun h ms m => r_M_type m _ _) L
  refine q_hIe p1 ?_
  refine q_ldS (j := i + 1) (e1.trans eh) ea (by rw [show (1 : Int32) = ii 1 from rfl, ii_add]; rfl) (by omega) hl ?_
  refine q_ldS (j := i + 2) (e1.trans eh) ea (by rw [show (2 : Int32) = ii 2 from rfl, ii_add]; rfl) (by omega) hl ?_
  refine q_hIe p2 ?_
  refine q_pos _ rfl ?_
  exact kk own' X' ms' h2 L' (e2.trans eh)
theorem law_erase {own : Nat → Nat} {X : XS} {ms : MS} {c s i x0 : Nat} {h : PH} {K : PH → Option RH} {Z : Rt → PH → Prop} (hl : ad 301 ≤ 384) (ea : x0 = ad 300) (hi : i + 6 ≤ ad 301) (L : LW b g x2 x3 own X ms c s h) (eh : h.2.2 = ad) (kk : ∀ own' X' ms' h', LW b g x2 x3 own' X' ms' (c + 10000) (s + 90000) h' → h'.2.2 = ad → Ends (K h') Z) : Ends (ldS h x0 (ii (i : Int) + (1 : Int32)) fun v1 => ldS h x0 (ii (i : Int) + (2 : Int32)) fun v2 => hI (c_B_erase h (b 0) v1 v2) noX fun r1 h1 => ldS h1 x0 (ii (i : Int) + (1 : Int32)) fun w1 => ldS h1 x0 (ii (i : Int) + (2 : Int32)) fun w2 => hI (c_M_erase h1 x2 w1 w2) noX fun r2 h2 => if r1 = r2 then K h2 else rZ (0 : Int32) h2) Z := by
  refine q_ldS (j := i + 1) eh ea (by rw [show (1 : Int32) = ii 1 from rfl, ii_add]; rfl) (by omega) hl ?_
  refine q_ldS (j := i + 2) eh ea (by rw [show (2 : Int32) = ii 2 from rfl, ii_add]; rfl) (by omega) hl ?_
  obtain ⟨v, h1, h2, own', X', ms', p1, p2, L', e1, e2⟩ := lw_td (td_erase (x := sv ad (i + 1)) (y := sv ad (i + 2)) sv_b sv_b) (fun h ms m => r_M_erase m _ _) L
  refine q_hIe p1 ?_
  refine q_ldS (j := i + 1) (e1.trans eh) ea (by rw [show (1 : Int32) = ii 1 from rfl, ii_add]; rfl) (by omega) hl ?_
  refine q_ldS (j := i + 2) (e1.trans eh) ea (by rw [show (2 : Int32) = ii 2 from rfl, ii_add]; rfl) (by omega) hl ?_
  refine q_hIe p2 ?_
  refine q_pos _ rfl ?_
  exact kk own' X' ms' h2 L' (e2.trans eh)
theorem law_undo {own : Nat → Nat} {X : XS} {ms : MS} {c s i x0 : Nat} {h : PH} {K : PH → Option RH} {Z : Rt → PH → Prop} (hl : ad 301 ≤ 384) (ea : x0 = ad 300) (hi : i + 6 ≤ ad 301) (L : LW b g x2 x3 own X ms c s h) (eh : h.2.2 = ad) (kk : ∀ own' X' ms' h', LW b g x2 x3 own' X' ms' (c + 10000) (s + 90000) h' → h'.2.2 = ad → Ends (K h') Z) : Ends (hI (c_B_undo h (b 0)) noX fun r1 h1 => hI (c_M_undo h1 x2) noX fun r2 h2 => if r1 = r2 then K h2 else rZ (0 : Int32) h2) Z := by
  obtain ⟨v, h1, h2, own', X', ms', p1, p2, L', e1, e2⟩ := lw_td (td_undo) (fun h ms m => r_M_undo m) L
  refine q_hIe p1 ?_
  refine q_hIe p2 ?_
  refine q_pos _ rfl ?_
  exact kk own' X' ms' h2 L' (e2.trans eh)
theorem law_drawn {own : Nat → Nat} {X : XS} {ms : MS} {c s i x0 : Nat} {h : PH} {K : PH → Option RH} {Z : Rt → PH → Prop} (hl : ad 301 ≤ 384) (ea : x0 = ad 300) (hi : i + 6 ≤ ad 301) (L : LW b g x2 x3 own X ms c s h) (eh : h.2.2 = ad) (kk : ∀ own' X' ms' h', LW b g x2 x3 own' X' ms' (c + 10000) (s + 90000) h' → h'.2.2 = ad → Ends (K h') Z) : Ends (ldS h x0 (ii (i : Int) + (1 : Int32)) fun v1 => ldS h x0 (ii (i : Int) + (2 : Int32)) fun v2 => hI (c_B_drawn h (b 0) v1 v2) noX fun r1 h1 => ldS h1 x0 (ii (i : Int) + (1 : Int32)) fun w1 => ldS h1 x0 (ii (i : Int) + (2 : Int32)) fun w2 => hI (c_M_drawn h1 x2 w1 w2) noX fun r2 h2 => if r1 = r2 then K h2 else rZ (0 : Int32) h2) Z := by
  refine q_ldS (j := i + 1) eh ea (by rw [show (1 : Int32) = ii 1 from rfl, ii_add]; rfl) (by omega) hl ?_
  refine q_ldS (j := i + 2) eh ea (by rw [show (2 : Int32) = ii 2 from rfl, ii_add]; rfl) (by omega) hl ?_
  obtain ⟨v, h1, h2, own', X', ms', p1, p2, L', e1, e2⟩ := lw_td (td_drawn (x := sv ad (i + 1)) sv_b) (fun h ms m => r_M_drawn m _ _) L
  refine q_hIe p1 ?_
  refine q_ldS (j := i + 1) (e1.trans eh) ea (by rw [show (1 : Int32) = ii 1 from rfl, ii_add]; rfl) (by omega) hl ?_
  refine q_ldS (j := i + 2) (e1.trans eh) ea (by rw [show (2 : Int32) = ii 2 from rfl, ii_add]; rfl) (by omega) hl ?_
  refine q_hIe p2 ?_
  refine q_pos _ rfl ?_
  exact kk own' X' ms' h2 L' (e2.trans eh)
theorem law_book {own : Nat → Nat} {X : XS} {ms : MS} {c s i x0 : Nat} {h : PH} {K : PH → Option RH} {Z : Rt → PH → Prop} (hl : ad 301 ≤ 384) (ea : x0 = ad 300) (hi : i + 6 ≤ ad 301) (L : LW b g x2 x3 own X ms c s h) (eh : h.2.2 = ad) (kk : ∀ own' X' ms' h', LW b g x2 x3 own' X' ms' (c + 10000) (s + 90000) h' → h'.2.2 = ad → Ends (K h') Z) : Ends (ldS h x0 (ii (i : Int) + (1 : Int32)) fun v1 => hI (c_B_book h (b 0) v1) noX fun r1 h1 => ldS h1 x0 (ii (i : Int) + (1 : Int32)) fun w1 => hI (c_M_book h1 x2 w1) noX fun r2 h2 => if r1 = r2 then K h2 else rZ (0 : Int32) h2) Z := by
  refine q_ldS (j := i + 1) eh ea (by rw [show (1 : Int32) = ii 1 from rfl, ii_add]; rfl) (by omega) hl ?_
  obtain ⟨v, h1, h2, own', X', ms', p1, p2, L', e1, e2⟩ := lw_td (td_book (x := sv ad (i + 1)) sv_b) (fun h ms m => r_M_book m _) L
  refine q_hIe p1 ?_
  refine q_ldS (j := i + 1) (e1.trans eh) ea (by rw [show (1 : Int32) = ii 1 from rfl, ii_add]; rfl) (by omega) hl ?_
  refine q_hIe p2 ?_
  refine q_pos _ rfl ?_
  exact kk own' X' ms' h2 L' (e2.trans eh)
theorem law_told {own : Nat → Nat} {X : XS} {ms : MS} {c s i x0 : Nat} {h : PH} {K : PH → Option RH} {Z : Rt → PH → Prop} (hl : ad 301 ≤ 384) (ea : x0 = ad 300) (hi : i + 6 ≤ ad 301) (L : LW b g x2 x3 own X ms c s h) (eh : h.2.2 = ad) (kk : ∀ own' X' ms' h', LW b g x2 x3 own' X' ms' (c + 10000) (s + 90000) h' → h'.2.2 = ad → Ends (K h') Z) : Ends (ldS h x0 (ii (i : Int) + (1 : Int32)) fun v1 => hI (c_B_told h (b 0) v1) noX fun r1 h1 => ldS h1 x0 (ii (i : Int) + (1 : Int32)) fun w1 => hI (c_M_told h1 x2 w1) noX fun r2 h2 => if r1 = r2 then K h2 else rZ (0 : Int32) h2) Z := by
  refine q_ldS (j := i + 1) eh ea (by rw [show (1 : Int32) = ii 1 from rfl, ii_add]; rfl) (by omega) hl ?_
  obtain ⟨v, h1, h2, own', X', ms', p1, p2, L', e1, e2⟩ := lw_td (td_told (x := sv ad (i + 1)) sv_b) (fun h ms m => r_M_told m _) L
  refine q_hIe p1 ?_
  refine q_ldS (j := i + 1) (e1.trans eh) ea (by rw [show (1 : Int32) = ii 1 from rfl, ii_add]; rfl) (by omega) hl ?_
  refine q_hIe p2 ?_
  refine q_pos _ rfl ?_
  exact kk own' X' ms' h2 L' (e2.trans eh)
theorem law_sentence {own : Nat → Nat} {X : XS} {ms : MS} {c s i x0 : Nat} {h : PH} {K : PH → Option RH} {Z : Rt → PH → Prop} (hl : ad 301 ≤ 384) (ea : x0 = ad 300) (hi : i + 6 ≤ ad 301) (L : LW b g x2 x3 own X ms c s h) (eh : h.2.2 = ad) (kk : ∀ own' X' ms' h', LW b g x2 x3 own' X' ms' (c + 10000) (s + 90000) h' → h'.2.2 = ad → Ends (K h') Z) : Ends (hI (c_B_sentence h (b 0)) noX fun r1 h1 => hI (c_M_sentence h1 x2) noX fun r2 h2 => if r1 = r2 then K h2 else rZ (0 : Int32) h2) Z := by
  obtain ⟨v, h1, h2, own', X', ms', p1, p2, L', e1, e2⟩ := lw_td (td_sentence) (fun h ms m => r_M_sentence m) L
  refine q_hIe p1 ?_
  refine q_hIe p2 ?_
  refine q_pos _ rfl ?_
  exact kk own' X' ms' h2 L' (e2.trans eh)
theorem law_said {own : Nat → Nat} {X : XS} {ms : MS} {c s i x0 : Nat} {h : PH} {K : PH → Option RH} {Z : Rt → PH → Prop} (hl : ad 301 ≤ 384) (ea : x0 = ad 300) (hi : i + 6 ≤ ad 301) (L : LW b g x2 x3 own X ms c s h) (eh : h.2.2 = ad) (kk : ∀ own' X' ms' h', LW b g x2 x3 own' X' ms' (c + 10000) (s + 90000) h' → h'.2.2 = ad → Ends (K h') Z) : Ends (ldS h x0 (ii (i : Int) + (1 : Int32)) fun v1 => hI (c_B_said h (b 0) v1) noX fun r1 h1 => ldS h1 x0 (ii (i : Int) + (1 : Int32)) fun w1 => hI (c_M_said h1 x2 w1) noX fun r2 h2 => if r1 = r2 then K h2 else rZ (0 : Int32) h2) Z := by
  refine q_ldS (j := i + 1) eh ea (by rw [show (1 : Int32) = ii 1 from rfl, ii_add]; rfl) (by omega) hl ?_
  obtain ⟨v, h1, h2, own', X', ms', p1, p2, L', e1, e2⟩ := lw_td (td_said (x := sv ad (i + 1)) sv_b) (fun h ms m => r_M_said m _) L
  refine q_hIe p1 ?_
  refine q_ldS (j := i + 1) (e1.trans eh) ea (by rw [show (1 : Int32) = ii 1 from rfl, ii_add]; rfl) (by omega) hl ?_
  refine q_hIe p2 ?_
  refine q_pos _ rfl ?_
  exact kk own' X' ms' h2 L' (e2.trans eh)
theorem law_image {own : Nat → Nat} {X : XS} {ms : MS} {c s i x0 : Nat} {h : PH} {K : PH → Option RH} {Z : Rt → PH → Prop} (hl : ad 301 ≤ 384) (ea : x0 = ad 300) (hi : i + 6 ≤ ad 301) (L : LW b g x2 x3 own X ms c s h) (eh : h.2.2 = ad) (kk : ∀ own' X' ms' h', LW b g x2 x3 own' X' ms' (c + 10000) (s + 90000) h' → h'.2.2 = ad → Ends (K h') Z) : Ends (ldS h x0 (ii (i : Int) + (1 : Int32)) fun v1 => hI (c_B_image h (b 0) v1) noX fun r1 h1 => ldS h1 x0 (ii (i : Int) + (1 : Int32)) fun w1 => hI (c_M_image h1 x2 w1) noX fun r2 h2 => if r1 = r2 then K h2 else rZ (0 : Int32) h2) Z := by
  refine q_ldS (j := i + 1) eh ea (by rw [show (1 : Int32) = ii 1 from rfl, ii_add]; rfl) (by omega) hl ?_
  obtain ⟨v, h1, h2, own', X', ms', p1, p2, L', e1, e2⟩ := lw_td (td_image (x := sv ad (i + 1)) sv_b) (fun h ms m => r_M_image m _) L
  refine q_hIe p1 ?_
  refine q_ldS (j := i + 1) (e1.trans eh) ea (by rw [show (1 : Int32) = ii 1 from rfl, ii_add]; rfl) (by omega) hl ?_
  refine q_hIe p2 ?_
  refine q_pos _ rfl ?_
  exact kk own' X' ms' h2 L' (e2.trans eh)
theorem law_restore {own : Nat → Nat} {X : XS} {ms : MS} {c s i x0 : Nat} {h : PH} {K : PH → Option RH} {Z : Rt → PH → Prop} (hl : ad 301 ≤ 384) (ea : x0 = ad 300) (hi : i + 6 ≤ ad 301) (L : LW b g x2 x3 own X ms c s h) (eh : h.2.2 = ad) (kk : ∀ own' X' ms' h', LW b g x2 x3 own' X' ms' (c + 10000) (s + 90000) h' → h'.2.2 = ad → Ends (K h') Z) : Ends (ldS h x0 (ii (i : Int) + (1 : Int32)) fun v1 => hI (c_B_restore h (b 0) v1) noX fun r1 h1 => ldS h1 x0 (ii (i : Int) + (1 : Int32)) fun w1 => hI (c_M_restore h1 x2 w1) noX fun r2 h2 => if r1 = r2 then K h2 else rZ (0 : Int32) h2) Z := by
  refine q_ldS (j := i + 1) eh ea (by rw [show (1 : Int32) = ii 1 from rfl, ii_add]; rfl) (by omega) hl ?_
  obtain ⟨v, h1, h2, own', X', ms', p1, p2, L', e1, e2⟩ := lw_td (td_restore (x := sv ad (i + 1)) sv_b) (fun h ms m => r_M_restore m _) L
  refine q_hIe p1 ?_
  refine q_ldS (j := i + 1) (e1.trans eh) ea (by rw [show (1 : Int32) = ii 1 from rfl, ii_add]; rfl) (by omega) hl ?_
  refine q_hIe p2 ?_
  refine q_pos _ rfl ?_
  exact kk own' X' ms' h2 L' (e2.trans eh)
theorem law_total {own : Nat → Nat} {X : XS} {ms : MS} {c s i x0 : Nat} {h : PH} {K : PH → Option RH} {Z : Rt → PH → Prop} (hl : ad 301 ≤ 384) (ea : x0 = ad 300) (hi : i + 6 ≤ ad 301) (L : LW b g x2 x3 own X ms c s h) (eh : h.2.2 = ad) (kk : ∀ own' X' ms' h', LW b g x2 x3 own' X' ms' (c + 10000) (s + 90000) h' → h'.2.2 = ad → Ends (K h') Z) : Ends (ldS h x0 (ii (i : Int) + (1 : Int32)) fun v1 => hI (c_B_total h (b 0) v1) noX fun r1 h1 => ldS h1 x0 (ii (i : Int) + (1 : Int32)) fun w1 => hI (c_M_total h1 x2 w1) noX fun r2 h2 => if r1 = r2 then K h2 else rZ (0 : Int32) h2) Z := by
  refine q_ldS (j := i + 1) eh ea (by rw [show (1 : Int32) = ii 1 from rfl, ii_add]; rfl) (by omega) hl ?_
  obtain ⟨v, h1, h2, own', X', ms', p1, p2, L', e1, e2⟩ := lw_td (td_total (x := sv ad (i + 1)) sv_b) (fun h ms m => r_M_total m _) L
  refine q_hIe p1 ?_
  refine q_ldS (j := i + 1) (e1.trans eh) ea (by rw [show (1 : Int32) = ii 1 from rfl, ii_add]; rfl) (by omega) hl ?_
  refine q_hIe p2 ?_
  refine q_pos _ rfl ?_
  exact kk own' X' ms' h2 L' (e2.trans eh)
end
section
variable {b g : Nat → Nat} {x2 x3 : Nat} {ad : Nat → Nat}
theorem law_loop (hl : ad 301 ≤ 384) : ∀ (m fu i c s : Nat) (own : Nat → Nat) (X : XS) (ms : MS) (h : PH), m < fu → ad 301 < i + 6 * (m + 1) → i ≤ 1000 → LW b g x2 x3 own X ms c s h → h.2.2 = ad → Ends (itr (c_W_law_l23) (fun _ _ _ _ _ _ => none) fu h (ad 300) (b 0) x2 x3 (ii i)) (fun r h' => r = .inl (some (.int 1)) ∧ h'.2.1.1 ≤ c + 10000 * m ∧ h'.2.1.2 ≤ s + 90000 * m) := by
  intro m
  induction m with
  | zero =>
    intro fu i c s own X ms h hf hm hi L eh
    obtain ⟨fu, rfl⟩ : ∃ x, fu = x + 1 := ⟨fu - 1, by omega⟩
    rw [itr_succ]
    unfold c_W_law_l23
    refine q_lenS eh rfl ?_
    rw [il_6, ii_sub]
    refine q_pos _ (ii_ltT (by omega)) ?_
    obtain ⟨held, rm, z, z', skm, sn, R, R', N, N', Tb, seed, rows', seed', e0, sk, D, S, z1, z2⟩ := L.1
    exact q_rZ1 ⟨rfl, by omega, by omega⟩
  | succ m ih =>
    intro fu i c s own X ms h hf hm hi L eh
    obtain ⟨fu, rfl⟩ : ∃ x, fu = x + 1 := ⟨fu - 1, by omega⟩
    rw [itr_succ]
    unfold c_W_law_l23
    refine q_lenS eh rfl ?_
    have e6 : ii (ad 301 : Int) - (6 : Int32) = ii ((ad 301 : Int) - 6) := by rw [il_6, ii_sub]
    rw [e6]
    by_cases hd : (ad 301 : Int) - 6 < i
    · refine q_pos _ (ii_ltT (by omega)) ?_
      obtain ⟨held, rm, z, z', skm, sn, R, R', N, N', Tb, seed, rows', seed', e0, sk, D, S, z1, z2⟩ := L.1
      exact q_rZ1 ⟨rfl, by omega, by omega⟩
    refine q_neg _ (ii_ltF (by omega)) ?_
    have h6 : i + 6 ≤ ad 301 := by omega
    have e6' : ii (i : Int) + (6 : Int32) = ii ((i + 6 : Nat) : Int) := by rw [il_6, ii_add]; rfl
    rw [e6']
    have kk : ∀ (own' : Nat → Nat) (X' : XS) (ms' : MS) (h' : PH), LW b g x2 x3 own' X' ms' (c + 10000) (s + 90000) h' → h'.2.2 = ad → Ends (itr (c_W_law_l23) (fun _ _ _ _ _ _ => none) fu h' (ad 300) (b 0) x2 x3 (ii ((i + 6 : Nat) : Int))) (fun r h' => r = .inl (some (.int 1)) ∧ h'.2.1.1 ≤ c + 10000 * (m + 1) ∧ h'.2.1.2 ≤ s + 90000 * (m + 1)) := fun own' X' ms' h' L' e' => by
      refine (ih fu (i + 6) (c + 10000) (s + 90000) own' X' ms' h' (by omega) (by omega) (by omega) L' e').mono fun r hh q => ⟨q.1, ?_, ?_⟩
      · have := q.2.1; omega
      · have := q.2.2; omega
    refine q_ldS (j := i) eh rfl rfl (by omega) hl ?_
    generalize ii (sv ad i) &&& (63 : Int32) = w
    by_cases c0 : w = 0
    · refine q_pos _ c0 ?_
      exact law_feed (K := fun h' => itr (c_W_law_l23) (fun _ _ _ _ _ _ => none) fu h' (ad 300) (b 0) x2 x3 (ii ((i + 6 : Nat) : Int))) hl rfl h6 L eh kk
    refine q_neg _ c0 ?_
    by_cases c1 : w = 1
    · refine q_pos _ c1 ?_
      exact law_end (K := fun h' => itr (c_W_law_l23) (fun _ _ _ _ _ _ => none) fu h' (ad 300) (b 0) x2 x3 (ii ((i + 6 : Nat) : Int))) hl rfl h6 L eh kk
    refine q_neg _ c1 ?_
    by_cases c2 : w = 2
    · refine q_pos _ c2 ?_
      exact law_room (K := fun h' => itr (c_W_law_l23) (fun _ _ _ _ _ _ => none) fu h' (ad 300) (b 0) x2 x3 (ii ((i + 6 : Nat) : Int))) hl rfl h6 L eh kk
    refine q_neg _ c2 ?_
    by_cases c3 : w = 3
    · refine q_pos _ c3 ?_
      exact law_fault (K := fun h' => itr (c_W_law_l23) (fun _ _ _ _ _ _ => none) fu h' (ad 300) (b 0) x2 x3 (ii ((i + 6 : Nat) : Int))) hl rfl h6 L eh kk
    refine q_neg _ c3 ?_
    by_cases c4 : w = 4
    · refine q_pos _ c4 ?_
      exact law_size (K := fun h' => itr (c_W_law_l23) (fun _ _ _ _ _ _ => none) fu h' (ad 300) (b 0) x2 x3 (ii ((i + 6 : Nat) : Int))) hl rfl h6 L eh kk
    refine q_neg _ c4 ?_
    by_cases c5 : w = 5
    · refine q_pos _ c5 ?_
      exact law_bit (K := fun h' => itr (c_W_law_l23) (fun _ _ _ _ _ _ => none) fu h' (ad 300) (b 0) x2 x3 (ii ((i + 6 : Nat) : Int))) hl rfl h6 L eh kk
    refine q_neg _ c5 ?_
    by_cases c6 : w = 6
    · refine q_pos _ c6 ?_
      exact law_rank (K := fun h' => itr (c_W_law_l23) (fun _ _ _ _ _ _ => none) fu h' (ad 300) (b 0) x2 x3 (ii ((i + 6 : Nat) : Int))) hl rfl h6 L eh kk
    refine q_neg _ c6 ?_
    by_cases c7 : w = 7
    · refine q_pos _ c7 ?_
      exact law_select (K := fun h' => itr (c_W_law_l23) (fun _ _ _ _ _ _ => none) fu h' (ad 300) (b 0) x2 x3 (ii ((i + 6 : Nat) : Int))) hl rfl h6 L eh kk
    refine q_neg _ c7 ?_
    by_cases c8 : w = 8
    · refine q_pos _ c8 ?_
      exact law_find (K := fun h' => itr (c_W_law_l23) (fun _ _ _ _ _ _ => none) fu h' (ad 300) (b 0) x2 x3 (ii ((i + 6 : Nat) : Int))) hl rfl h6 L eh kk
    refine q_neg _ c8 ?_
    by_cases c9 : w = 9
    · refine q_pos _ c9 ?_
      exact law_runs (K := fun h' => itr (c_W_law_l23) (fun _ _ _ _ _ _ => none) fu h' (ad 300) (b 0) x2 x3 (ii ((i + 6 : Nat) : Int))) hl rfl h6 L eh kk
    refine q_neg _ c9 ?_
    by_cases c10 : w = 10
    · refine q_pos _ c10 ?_
      exact law_longest (K := fun h' => itr (c_W_law_l23) (fun _ _ _ _ _ _ => none) fu h' (ad 300) (b 0) x2 x3 (ii ((i + 6 : Nat) : Int))) hl rfl h6 L eh kk
    refine q_neg _ c10 ?_
    by_cases c11 : w = 11
    · refine q_pos _ c11 ?_
      exact law_word (K := fun h' => itr (c_W_law_l23) (fun _ _ _ _ _ _ => none) fu h' (ad 300) (b 0) x2 x3 (ii ((i + 6 : Nat) : Int))) hl rfl h6 L eh kk
    refine q_neg _ c11 ?_
    by_cases c12 : w = 12
    · refine q_pos _ c12 ?_
      exact law_leaves (K := fun h' => itr (c_W_law_l23) (fun _ _ _ _ _ _ => none) fu h' (ad 300) (b 0) x2 x3 (ii ((i + 6 : Nat) : Int))) hl rfl h6 L eh kk
    refine q_neg _ c12 ?_
    by_cases c13 : w = 13
    · refine q_pos _ c13 ?_
      exact law_leaf (K := fun h' => itr (c_W_law_l23) (fun _ _ _ _ _ _ => none) fu h' (ad 300) (b 0) x2 x3 (ii ((i + 6 : Nat) : Int))) hl rfl h6 L eh kk
    refine q_neg _ c13 ?_
    by_cases c14 : w = 14
    · refine q_pos _ c14 ?_
      exact law_tree (K := fun h' => itr (c_W_law_l23) (fun _ _ _ _ _ _ => none) fu h' (ad 300) (b 0) x2 x3 (ii ((i + 6 : Nat) : Int))) hl rfl h6 L eh kk
    refine q_neg _ c14 ?_
    by_cases c15 : w = 15
    · refine q_pos _ c15 ?_
      exact law_dense (K := fun h' => itr (c_W_law_l23) (fun _ _ _ _ _ _ => none) fu h' (ad 300) (b 0) x2 x3 (ii ((i + 6 : Nat) : Int))) hl rfl h6 L eh kk
    refine q_neg _ c15 ?_
    by_cases c16 : w = 16
    · refine q_pos _ c16 ?_
      exact law_load (K := fun h' => itr (c_W_law_l23) (fun _ _ _ _ _ _ => none) fu h' (ad 300) (b 0) x2 x3 (ii ((i + 6 : Nat) : Int))) hl rfl h6 L eh kk
    refine q_neg _ c16 ?_
    by_cases c17 : w = 17
    · refine q_pos _ c17 ?_
      exact law_centre (K := fun h' => itr (c_W_law_l23) (fun _ _ _ _ _ _ => none) fu h' (ad 300) (b 0) x2 x3 (ii ((i + 6 : Nat) : Int))) hl rfl h6 L eh kk
    refine q_neg _ c17 ?_
    by_cases c18 : w = 18
    · refine q_pos _ c18 ?_
      exact law_apart (K := fun h' => itr (c_W_law_l23) (fun _ _ _ _ _ _ => none) fu h' (ad 300) (b 0) x2 x3 (ii ((i + 6 : Nat) : Int))) hl rfl h6 L eh kk
    refine q_neg _ c18 ?_
    by_cases c19 : w = 19
    · refine q_pos _ c19 ?_
      exact law_differ (K := fun h' => itr (c_W_law_l23) (fun _ _ _ _ _ _ => none) fu h' (ad 300) (b 0) x2 x3 (ii ((i + 6 : Nat) : Int))) hl rfl h6 L eh kk
    refine q_neg _ c19 ?_
    by_cases c20 : w = 20
    · refine q_pos _ c20 ?_
      exact law_seek (K := fun h' => itr (c_W_law_l23) (fun _ _ _ _ _ _ => none) fu h' (ad 300) (b 0) x2 x3 (ii ((i + 6 : Nat) : Int))) hl rfl h6 L eh kk
    refine q_neg _ c20 ?_
    by_cases c21 : w = 21
    · refine q_pos _ c21 ?_
      exact law_seekAt (K := fun h' => itr (c_W_law_l23) (fun _ _ _ _ _ _ => none) fu h' (ad 300) (b 0) x2 x3 (ii ((i + 6 : Nat) : Int))) hl rfl h6 L eh kk
    refine q_neg _ c21 ?_
    by_cases c22 : w = 22
    · refine q_pos _ c22 ?_
      exact law_put (K := fun h' => itr (c_W_law_l23) (fun _ _ _ _ _ _ => none) fu h' (ad 300) (b 0) x2 x3 (ii ((i + 6 : Nat) : Int))) hl rfl h6 L eh kk
    refine q_neg _ c22 ?_
    by_cases c23 : w = 23
    · refine q_pos _ c23 ?_
      exact law_set (K := fun h' => itr (c_W_law_l23) (fun _ _ _ _ _ _ => none) fu h' (ad 300) (b 0) x2 x3 (ii ((i + 6 : Nat) : Int))) hl rfl h6 L eh kk
    refine q_neg _ c23 ?_
    by_cases c24 : w = 24
    · refine q_pos _ c24 ?_
      exact law_cut (K := fun h' => itr (c_W_law_l23) (fun _ _ _ _ _ _ => none) fu h' (ad 300) (b 0) x2 x3 (ii ((i + 6 : Nat) : Int))) hl rfl h6 L eh kk
    refine q_neg _ c24 ?_
    by_cases c25 : w = 25
    · refine q_pos _ c25 ?_
      exact law_turn (K := fun h' => itr (c_W_law_l23) (fun _ _ _ _ _ _ => none) fu h' (ad 300) (b 0) x2 x3 (ii ((i + 6 : Nat) : Int))) hl rfl h6 L eh kk
    refine q_neg _ c25 ?_
    by_cases c26 : w = 26
    · refine q_pos _ c26 ?_
      exact law_paste (K := fun h' => itr (c_W_law_l23) (fun _ _ _ _ _ _ => none) fu h' (ad 300) (b 0) x2 x3 (ii ((i + 6 : Nat) : Int))) hl rfl h6 L eh kk
    refine q_neg _ c26 ?_
    by_cases c27 : w = 27
    · refine q_pos _ c27 ?_
      exact law_join (K := fun h' => itr (c_W_law_l23) (fun _ _ _ _ _ _ => none) fu h' (ad 300) (b 0) x2 x3 (ii ((i + 6 : Nat) : Int))) hl rfl h6 L eh kk
    refine q_neg _ c27 ?_
    by_cases c28 : w = 28
    · refine q_pos _ c28 ?_
      exact law_split (K := fun h' => itr (c_W_law_l23) (fun _ _ _ _ _ _ => none) fu h' (ad 300) (b 0) x2 x3 (ii ((i + 6 : Nat) : Int))) hl rfl h6 L eh kk
    refine q_neg _ c28 ?_
    by_cases c29 : w = 29
    · refine q_pos _ c29 ?_
      exact law_letters (K := fun h' => itr (c_W_law_l23) (fun _ _ _ _ _ _ => none) fu h' (ad 300) (b 0) x2 x3 (ii ((i + 6 : Nat) : Int))) hl rfl h6 L eh kk
    refine q_neg _ c29 ?_
    by_cases c30 : w = 30
    · refine q_pos _ c30 ?_
      exact law_letter (K := fun h' => itr (c_W_law_l23) (fun _ _ _ _ _ _ => none) fu h' (ad 300) (b 0) x2 x3 (ii ((i + 6 : Nat) : Int))) hl rfl h6 L eh kk
    refine q_neg _ c30 ?_
    by_cases c31 : w = 31
    · refine q_pos _ c31 ?_
      exact law_count (K := fun h' => itr (c_W_law_l23) (fun _ _ _ _ _ _ => none) fu h' (ad 300) (b 0) x2 x3 (ii ((i + 6 : Nat) : Int))) hl rfl h6 L eh kk
    refine q_neg _ c31 ?_
    by_cases c32 : w = 32
    · refine q_pos _ c32 ?_
      exact law_place (K := fun h' => itr (c_W_law_l23) (fun _ _ _ _ _ _ => none) fu h' (ad 300) (b 0) x2 x3 (ii ((i + 6 : Nat) : Int))) hl rfl h6 L eh kk
    refine q_neg _ c32 ?_
    by_cases c33 : w = 33
    · refine q_pos _ c33 ?_
      exact law_least (K := fun h' => itr (c_W_law_l23) (fun _ _ _ _ _ _ => none) fu h' (ad 300) (b 0) x2 x3 (ii ((i + 6 : Nat) : Int))) hl rfl h6 L eh kk
    refine q_neg _ c33 ?_
    by_cases c34 : w = 34
    · refine q_pos _ c34 ?_
      exact law_node (K := fun h' => itr (c_W_law_l23) (fun _ _ _ _ _ _ => none) fu h' (ad 300) (b 0) x2 x3 (ii ((i + 6 : Nat) : Int))) hl rfl h6 L eh kk
    refine q_neg _ c34 ?_
    by_cases c35 : w = 35
    · refine q_pos _ c35 ?_
      exact law_type (K := fun h' => itr (c_W_law_l23) (fun _ _ _ _ _ _ => none) fu h' (ad 300) (b 0) x2 x3 (ii ((i + 6 : Nat) : Int))) hl rfl h6 L eh kk
    refine q_neg _ c35 ?_
    by_cases c36 : w = 36
    · refine q_pos _ c36 ?_
      exact law_erase (K := fun h' => itr (c_W_law_l23) (fun _ _ _ _ _ _ => none) fu h' (ad 300) (b 0) x2 x3 (ii ((i + 6 : Nat) : Int))) hl rfl h6 L eh kk
    refine q_neg _ c36 ?_
    by_cases c37 : w = 37
    · refine q_pos _ c37 ?_
      exact law_undo (K := fun h' => itr (c_W_law_l23) (fun _ _ _ _ _ _ => none) fu h' (ad 300) (b 0) x2 x3 (ii ((i + 6 : Nat) : Int))) hl rfl h6 L eh kk
    refine q_neg _ c37 ?_
    by_cases c38 : w = 38
    · refine q_pos _ c38 ?_
      exact law_drawn (K := fun h' => itr (c_W_law_l23) (fun _ _ _ _ _ _ => none) fu h' (ad 300) (b 0) x2 x3 (ii ((i + 6 : Nat) : Int))) hl rfl h6 L eh kk
    refine q_neg _ c38 ?_
    by_cases c39 : w = 39
    · refine q_pos _ c39 ?_
      exact law_book (K := fun h' => itr (c_W_law_l23) (fun _ _ _ _ _ _ => none) fu h' (ad 300) (b 0) x2 x3 (ii ((i + 6 : Nat) : Int))) hl rfl h6 L eh kk
    refine q_neg _ c39 ?_
    by_cases c40 : w = 40
    · refine q_pos _ c40 ?_
      exact law_told (K := fun h' => itr (c_W_law_l23) (fun _ _ _ _ _ _ => none) fu h' (ad 300) (b 0) x2 x3 (ii ((i + 6 : Nat) : Int))) hl rfl h6 L eh kk
    refine q_neg _ c40 ?_
    by_cases c41 : w = 41
    · refine q_pos _ c41 ?_
      exact law_sentence (K := fun h' => itr (c_W_law_l23) (fun _ _ _ _ _ _ => none) fu h' (ad 300) (b 0) x2 x3 (ii ((i + 6 : Nat) : Int))) hl rfl h6 L eh kk
    refine q_neg _ c41 ?_
    by_cases c42 : w = 42
    · refine q_pos _ c42 ?_
      exact law_said (K := fun h' => itr (c_W_law_l23) (fun _ _ _ _ _ _ => none) fu h' (ad 300) (b 0) x2 x3 (ii ((i + 6 : Nat) : Int))) hl rfl h6 L eh kk
    refine q_neg _ c42 ?_
    by_cases c43 : w = 43
    · refine q_pos _ c43 ?_
      exact law_image (K := fun h' => itr (c_W_law_l23) (fun _ _ _ _ _ _ => none) fu h' (ad 300) (b 0) x2 x3 (ii ((i + 6 : Nat) : Int))) hl rfl h6 L eh kk
    refine q_neg _ c43 ?_
    by_cases c44 : w = 44
    · refine q_pos _ c44 ?_
      exact law_restore (K := fun h' => itr (c_W_law_l23) (fun _ _ _ _ _ _ => none) fu h' (ad 300) (b 0) x2 x3 (ii ((i + 6 : Nat) : Int))) hl rfl h6 L eh kk
    refine q_neg _ c44 ?_
    by_cases c45 : w = 45
    · refine q_pos _ c45 ?_
      exact law_total (K := fun h' => itr (c_W_law_l23) (fun _ _ _ _ _ _ => none) fu h' (ad 300) (b 0) x2 x3 (ii ((i + 6 : Nat) : Int))) hl rfl h6 L eh kk
    refine q_neg _ c45 ?_
    exact kk own X ms h ⟨L.1.wk (by omega) (by omega), L.2⟩ eh
end
