/-! PURE SIDE: rooms: words into ropes, by the component -/
set_option maxRecDepth 100000
abbrev rsB (S : RS) (r : Nat) (l : List Bool) : RS := (S.1, S.2.1, S.2.2.1, va_up S.2.2.2.1 r (S.2.2.2.1 r ++ l), S.2.2.2.2)
/-- what stands while a room is read -/
def TS (b own0 R' : Nat → Nat) (z' ro na : Nat) (h0 : PH) (C0 S0 : Nat) (rows seed : Int32) (S : RS) (m : Nat) (own N : Nat → Nat) (T : Nat → Bool) (A : Nat → LL) (h : PH) : Prop := SR own (b 0) h z' S.lo A R' N T rows seed ∧ ((4 ≤ S.lo ∧ S.lo ≤ 32) ∧ (∀ r, r < 4 → A r = bldL S.lo (S.bs r) ∧ (S.bs r).length ≤ 600) ∧ Lt A S.T) ∧ (own ro = b 0 ∧ own na = b 0) ∧ (h.1 ro = some (.inr (2, [.ref na, .int (ii S.n), .int (ii S.lo)])) ∧ ∃ g, h.1 na = some (.inl (1, 4, .inr (.inl g))) ∧ ∀ r, r < m → g r = ll (n256 (S.nm r))) ∧ GX own0 own R' z' h0 h ∧ (h0.2.1.1 ≤ ro ∧ h0.2.1.1 ≤ na ∧ Wf h0) ∧ h.2.1.1 + 2 * s11 N ≤ C0 ∧ h.2.1.2 + 7 * s11 N ≤ S0
abbrev JR (b : Nat → Nat) (f : Nat → Nat) (n ro z' : Nat) (hl : Bool) (t : Tk) (h : PH) : Prop := RJ b f n 5 (b 5) 900 (.ref ro) (.ref z') (ii (bn hl)) t h
section
variable {b own0 own N R' : Nat → Nat} {T : Nat → Bool} {A : Nat → LL} {f : Nat → Nat} {n ro na z' m C0 S0 : Nat} {hl : Bool} {rows seed : Int32} {t t' : Tk} {h h0 h1 h' : PH} {Z : Rt → PH → Prop} {S : RS}
theorem JR.c10 (J : JR b f n ro z' hl t h) : ∃ d, h.1 (b 5) = some d ∧ kd d = 10 := by
  obtain ⟨⟨v, mn, nm, e, _⟩, _⟩ := J
  exact ⟨_, e, rfl⟩
theorem JR.ne (J : JR b f n ro z' hl t h) {x : Nat} {c : PC} (e : h.1 x = some c) (k : kd c ≠ 10) : x ≠ b 5 := fun q => by
  obtain ⟨d, e5, k5⟩ := JR.c10 J
  rw [q, e5] at e
  injection e with e
  rw [← e] at k
  exact k k5
theorem TS.onl (I : TS b own0 R' z' ro na h0 C0 S0 rows seed S m own N T A h) (J : JR b f n ro z' hl t h) (o : Onl (b 5) h h1) (w : Wf h1) : TS b own0 R' z' ro na h0 C0 S0 rows seed S m own N T A h1 := by
  obtain ⟨i1, i2, i3, ⟨i4, g, i5, i6⟩, i7, i8, i9⟩ := I
  have k : ∀ {x : Nat} {c : PC}, h.1 x = some c → kd c ≠ 10 → h1.1 x = some c := fun {x c} e q => by
    rw [o.2.1 x (JR.ne J e q)]; exact e
  obtain ⟨d, d1, d2⟩ := JR.c10 J
  refine ⟨i1.kp (fun _ _ _ => rfl) (fun x c e q => k e fun w => ?_), i2, i3, ⟨k i4 (by show 2 * 2 ≠ 10; decide), g, k i5 (by show 2 * 1 + 1 ≠ 10; decide), i6⟩, i7.trans (GX.onl o w ⟨d, d1, d2⟩) i8.2.2, i8, ?_⟩
  · rcases q with q | q | q
    · unfold rK tK at q; rw [w] at q; exact absurd q (by decide)
    · omega
    · omega
  · rw [o.1]; exact i9
theorem JR.gf {own' : Nat → Nat} (J : JR b f n ro z' hl t h) (G : GF own own' R' z' h h') (ez : ∃ fs, h.1 z' = some (.inr (3, fs))) : JR b f n ro z' hl t h' := by
  obtain ⟨d, d1, d2⟩ := JR.c10 J
  obtain ⟨fs, ez⟩ := ez
  have kz : ∀ {x : Nat} {c : PC}, h.1 x = some c → kd c ≠ 6 → x ≠ z' := fun {x c} e q w => by
    rw [w, ez] at e
    injection e with e
    rw [← e] at q
    exact q rfl
  refine RJ.other J G.2.2.1 G.wf fun x c e q => ?_
  have kk : kd c = 25 ∨ 200 ≤ kd c ∨ kd c = 0 ∨ kd c = 5 ∨ kd c = 2 ∨ kd c = 10 := by
    rcases q with q | q | q | q | q | q
    · exact Or.inl q
    · exact Or.inr (Or.inl q)
    · exact Or.inr (Or.inr (Or.inl q))
    · exact Or.inr (Or.inr (Or.inr (Or.inl q)))
    · exact Or.inr (Or.inr (Or.inr (Or.inr (Or.inl q))))
    · rw [q, d1] at e
      injection e with e
      rw [← e]
      exact Or.inr (Or.inr (Or.inr (Or.inr (Or.inr d2))))
  refine G.kd e (kz e (by omega)) ?_
  cases hr : rK c with
  | false => rfl
  | true =>
    unfold rK tK at hr
    simp only [Bool.or_eq_true, beq_iff_eq] at hr
    omega
theorem TS.zc (I : TS b own0 R' z' ro na h0 C0 S0 rows seed S m own N T A h) : ∃ fs, h.1 z' = some (.inr (3, fs)) := by
  obtain ⟨ra, na, rf, nf, e, _⟩ := I.1.1
  exact ⟨_, e⟩
/-- an act within the tried state -/
theorem TS.so {S' : RS} {A' : Nat → LL} (I : TS b own0 R' z' ro na h0 C0 S0 rows seed S m own N T A h) (wf : Wf h) (so : SO own (b 0) z' S.lo R' N h A' rows seed 0 0 h') (e1 : S'.lo = S.lo ∧ S'.n = S.n ∧ S'.nm = S.nm) (hA : (∀ r, r < 4 → A' r = bldL S'.lo (S'.bs r) ∧ (S'.bs r).length ≤ 600) ∧ Lt A' S'.T) : ∃ own' N' T', TS b own0 R' z' ro na h0 C0 S0 rows seed S' m own' N' T' A' h' ∧ GF own own' R' z' h h' := by
  obtain ⟨own2, N2, T2, S2, G, y1, y2⟩ := so
  obtain ⟨fz, ez⟩ := I.zc
  obtain ⟨i1, i2, i3, ⟨i4, g, i5, i6⟩, i7, i8, i9, i10⟩ := I
  obtain ⟨lo', n', nm', bs', T', hl'⟩ := S'
  obtain ⟨q1, q2, q3⟩ := e1
  have q1 : lo' = S.lo := q1
  have q2 : n' = S.n := q2
  have q3 : nm' = S.nm := q3
  subst q1 q2 q3
  refine ⟨own2, N2, T2, ⟨S2, ⟨i2.1, hA⟩, ⟨?_, ?_⟩, ⟨?_, g, ?_, i6⟩, i7.trans (GX.gf G) i8.2.2, i8, by omega, by omega⟩, G⟩
  · exact (G.2.2.2.2.1 _ (wf.lt i4)).trans i3.1
  · exact (G.2.2.2.2.1 _ (wf.lt i5)).trans i3.2
  · exact G.2.2.2.2.2 _ _ i4 (kd_ne i4 ez rfl) (Or.inr rfl)
  · exact G.2.2.2.2.2 _ _ i5 (kd_ne i5 ez rfl) (Or.inl fun k hk w => i1.2.2.2 k hk (w.symm.trans i3.2))
theorem wBits_drop {j : Nat} (hj : j < t.p - t.at_) : (wBits f t).drop j = decide (f (t.at_ + j) = 105) :: (wBits f t).drop (j + 1) := by
  unfold wBits
  rw [← List.map_drop, ← List.map_drop, seg_drop hj, List.map_cons]
theorem r_word {r66 : PH → Nat → Int32 → Option RH} {r : Nat} (hr : r < 4) (h1 : t.k = 1) : ∀ (k fu j : Nat) (S : RS) (own N : Nat → Nat) (T : Nat → Bool) (A : Nat → LL) (h : PH), k < fu → j + k = t.p - t.at_ → JR b f n ro z' hl t h → TS b own0 R' z' ro na h0 C0 S0 rows seed S m own N T A h → (S.bs r).length + k ≤ 600 → (∀ own' N' T' A' h', JR b f n ro z' hl t h' → TS b own0 R' z' ro na h0 C0 S0 rows seed (rsB S r ((wBits f t).drop j)) m own' N' T' A' h' → Ends (hV (grd h' (b 5) [5] (c_D_next h' (b 5))) noX fun h2 => r66 h2 (b 5) (ii r)) Z) → Ends (itr (c_DR_readRow_l124 r66) (fun _ _ _ _ => none) fu h (b 5) (ii r) (ii j)) Z := by
  intro k
  induction k with
  | zero =>
    intro fu j S own N T A h hf hj J I hlen kk
    obtain ⟨fu, rfl⟩ : ∃ x, fu = x + 1 := ⟨fu - 1, by omega⟩
    have J' := J
    obtain ⟨⟨v, mn, nmv, e, tv⟩, _⟩ := J
    have tp := J'.ok.1.1
    have hn := RJ.hn J'
    rw [itr_succ]
    unfold c_DR_readRow_l124
    refine q_gI e (by decide) rfl ?_
    rw [(tv.1 h1).1]
    refine q_pos _ (ii_leT (by omega)) ?_
    refine kk own N T A h J' ?_
    rw [List.drop_of_length_le (by unfold wBits; rw [List.length_map, seg_len]; omega)]
    have : rsB S r [] = S := by
      show (S.1, S.2.1, S.2.2.1, va_up S.2.2.2.1 r (S.2.2.2.1 r ++ []), S.2.2.2.2) = S
      rw [List.append_nil, up_self]
    rw [this]
    exact I
  | succ k ih =>
    intro fu j S own N T A h hf hj J I hlen kk
    obtain ⟨fu, rfl⟩ : ∃ x, fu = x + 1 := ⟨fu - 1, by omega⟩
    have J' := J
    obtain ⟨⟨v, mn, nmv, e, tv⟩, TBx, _⟩ := J
    obtain ⟨⟨fs, a1, a2, a3⟩, ⟨g, a4, a5⟩, a6, a7⟩ := TBx
    have tp := J'.ok.1.1
    have okl := (J'.ok.2.1 h1).1
    have hat := (J'.ok.2.1 h1).2
    have hn := RJ.hn J'
    have wf := RJ.wf J'
    have Sr := I.1
    obtain ⟨ra, na', rf, nf, s1, s2, s3, s4, s5⟩ := I.1.1
    have hAr := I.2.1.2.1 r hr
    have P := Sr.2.1 r (by omega)
    have bo := bldL_ok I.2.1.1 hAr.2
    have fl : (A r).flatten.length = (S.bs r).length := by rw [hAr.1, bo.2]
    have hrc : 97 ≤ f (t.at_ + j) ∧ f (t.at_ + j) ≤ 122 := okl.2.2 _ (by
      have := seg_drop (f := f) (a := t.at_) (p := t.p) (j := j) (by omega)
      exact List.mem_of_mem_drop (by rw [this]; exact List.mem_cons_self))
    have sb : sbv (f (t.at_ + j)) = (f (t.at_ + j) : Int) := by unfold sbv; rw [if_pos (by omega)]
    have step : ∀ (c : Bool), c = decide (f (t.at_ + j) = 105) → Ends (hV (c_R_insert h (R' r) (ii (A r).flatten.length) (ii (bn c))) noX fun h34 => itr (c_DR_readRow_l124 r66) (fun _ _ _ _ => none) fu h34 (b 5) (ii r) (ii j + (1 : Int32))) Z := fun c ec => by
      refine q_hV (p_insert (b := c) P wf (Nat.le_refl _) (by omega)) fun h2 ⟨nu', P2, o2, y1, y2⟩ => ?_
      have so := SO.one (c := 0) (s := 0) Sr wf (by omega) (fun x hx => ow_lt hx) P2 o2 (by omega) (by omega)
      have hlt : Lt (va_up A r (insL S.lo (A r).flatten.length c (A r))) S.T := ⟨I.2.1.2.2.1, I.2.1.2.2.2.1, fun q hq => by rw [va_up_ne _ _ (by omega)]; exact I.2.1.2.2.2.2 q hq⟩
      obtain ⟨own2, N2, T2, I2, G2⟩ := I.so (S' := rsB S r [c]) wf so ⟨rfl, rfl, rfl⟩ ⟨fun q hq => by
        show va_up A r _ q = bldL S.lo (va_up S.bs r (S.bs r ++ [c]) q) ∧ (va_up S.bs r (S.bs r ++ [c]) q).length ≤ 600
        by_cases cq : q = r
        · rw [cq, up_at, up_at, bldL_app, ← hAr.1, List.length_append, List.length_singleton]
          exact ⟨rfl, by omega⟩
        · rw [va_up_ne _ _ cq, va_up_ne _ _ cq]
          exact I.2.1.2.1 q hq, hlt⟩
      have J2 := JR.gf J' G2 I.zc
      rw [add1]
      refine ih fu (j + 1) (rsB S r [c]) own2 N2 T2 _ h2 (by omega) (by omega) J2 I2 ?_ fun own3 N3 T3 A3 h3 J3 I3 => ?_
      · show (va_up S.bs r (S.bs r ++ [c]) r).length + k ≤ 600
        rw [up_at, List.length_append, List.length_singleton]; omega
      · refine kk own3 N3 T3 A3 h3 J3 ?_
        have : rsB (rsB S r [c]) r ((wBits f t).drop (j + 1)) = rsB S r ((wBits f t).drop j) := by
          show (S.1, S.2.1, S.2.2.1, va_up (va_up S.2.2.2.1 r (S.2.2.2.1 r ++ [c])) r (va_up S.2.2.2.1 r (S.2.2.2.1 r ++ [c]) r ++ (wBits f t).drop (j + 1)), S.2.2.2.2) = (S.1, S.2.1, S.2.2.1, va_up S.2.2.2.1 r (S.2.2.2.1 r ++ (wBits f t).drop j), S.2.2.2.2)
          rw [up_at, up_up, wBits_drop (j := j) (by omega), ec, List.append_assoc]
          rfl
        rw [this] at I3
        exact I3
    rw [itr_succ]
    unfold c_DR_readRow_l124
    refine q_gI e (by decide) rfl ?_
    rw [(tv.1 h1).1]
    refine q_neg _ (ii_leF (by omega)) ?_
    refine q_gQr e (by decide) rfl ?_
    refine q_nn ?_
    refine q_gQr s1 (by decide) rfl ?_
    refine q_nn ?_
    refine q_ldQn s2 (by decide) (by omega) (s4 r hr) ?_
    refine q_gQr e (by decide) rfl ?_
    refine q_nn ?_
    refine q_gQr s1 (by decide) rfl ?_
    refine q_nn ?_
    refine q_ldQn s2 (by decide) (by omega) (s4 r hr) ?_
    refine q_nn ?_
    refine q_hIe (p_wide P) ?_
    refine q_gQr e (by decide) rfl ?_
    refine q_nn ?_
    refine q_gQr a1 (by decide) a2 ?_
    refine q_gI e (by decide) rfl ?_
    refine q_nn ?_
    rw [ii_add]
    refine q_ldI a4 (by omega) ?_
    rw [show ((t.at_ : Int) + (j : Int)).toNat = t.at_ + j by omega, a5 _ (by omega), sb]
    by_cases c : f (t.at_ + j) = 105
    · refine q_pos _ (by rw [c]; rfl) ?_
      refine q_nn ?_
      exact step true (decide_eq_true c).symm
    · refine q_neg _ (ii_eqF (b := 105) (by omega)) ?_
      refine q_nn ?_
      exact step false (decide_eq_false c).symm
/-- a reader goes on: never back -/
theorem tok_mu {most p : Nat} (hp : p ≤ n) (h1 : (tok f n most p).k = 1) : p < (tok f n most p).p := by
  have sk := skp_le (f := f) (n := n) (n - p) p hp
  unfold tok at h1 ⊢
  unfold tkQ at h1 ⊢
  by_cases c1 : most < n ∧ most ≤ skp f n (n - p) p
  · rw [if_pos c1] at h1
    exact absurd h1 (by show ¬ (4 = 1); decide)
  rw [if_neg c1] at h1 ⊢
  by_cases c2 : n ≤ skp f n (n - p) p
  · rw [if_pos c2] at h1
    exact absurd h1 (by show ¬ (0 = 1); decide)
  rw [if_neg c2] at h1 ⊢
  by_cases c3 : alN (f (skp f n (n - p) p))
  · rw [if_pos c3] at h1 ⊢
    show p < runE f n (n - skp f n (n - p) p) (skp f n (n - p) p)
    obtain ⟨k, ek⟩ : ∃ k, n - skp f n (n - p) p = k + 1 := ⟨n - skp f n (n - p) p - 1, by omega⟩
    rw [ek, runE, if_pos ⟨by omega, c3⟩]
    have := (runE_le (f := f) (n := n) k (skp f n (n - p) p + 1) (by omega)).1
    omega
  · rw [if_neg c3] at h1 ⊢
    show p < skp f n (n - p) p + 1
    omega
theorem r_rmR {r : Nat} (hr : r < 4) : ∀ (k fu : Nat) (t : Tk) (S : RS) (own N : Nat → Nat) (T : Nat → Bool) (A : Nat → LL) (h : PH), k < fu → 1 ≤ k → (t.k = 1 → n + 1 < k + t.p) → JR b f n ro z' hl t h → TS b own0 R' z' ro na h0 C0 S0 rows seed S m own N T A h → (∀ kd pl, rmR f n k (S.bs r) t = .inl (kd, pl) → ∀ t' S' own' N' T' A' h1 h', JR b f n ro z' hl t' h1 → TS b own0 R' z' ro na h0 C0 S0 rows seed S' m own' N' T' A' h1 → TH b h1 kd pl h' → Z (.inr (b 2, 0)) h') → (∀ l t', rmR f n k (S.bs r) t = .inr (l, t') → ∀ own' N' T' A' h', JR b f n ro z' hl t' h' → TS b own0 R' z' ro na h0 C0 S0 rows seed (S.1, S.2.1, S.2.2.1, va_up S.2.2.2.1 r l, S.2.2.2.2) m own' N' T' A' h' → Ends (gQ h' (b 5) [5] 8 fun v2 => nn v2 fun a3 => gI h' a3 [2] 1 fun v5 => pI h' a3 [2] 1 (v5 + (1 : Int32)) fun h6 => rV h6) Z) → Ends (itr (c_DR_readRow_l66) (fun _ _ _ => none) fu h (b 5) (ii r)) Z := by
  intro k
  induction k with
  | zero => intro fu t S own N T A h hf h1; omega
  | succ k ih =>
    intro fu t S own N T A h hf _ had J I kf kk
    obtain ⟨fu, rfl⟩ : ∃ x, fu = x + 1 := ⟨fu - 1, by omega⟩
    have J' := J
    obtain ⟨⟨v, mn, nmv, e, tv⟩, _⟩ := J
    have tp := J'.ok.1.1
    have tb := J'.ok.1.2.2
    have hn := RJ.hn J'
    have Sr := I.1
    have hAr := I.2.1.2.1 r hr
    have bo := bldL_ok I.2.1.1 hAr.2
    have P := Sr.2.1 r (by omega)
    have fl : (A r).flatten.length = (S.bs r).length := by rw [hAr.1, bo.2]
    rw [itr_succ]
    unfold c_DR_readRow_l66
    refine q_gI e (by decide) rfl ?_
    by_cases c1 : t.k = 1
    · refine q_pos _ (by rw [c1]; rfl) ?_
      have hat := (J'.ok.2.1 c1).2
      refine q_hIe (p_isOf (lo := 105) (hi := 105) (ex := 111) J' c1 (by decide)) ?_
      refine r_must (c := wAll f t 105 105 111 = true) (k := 2) J' (J'.grd (by decide)) (bn_dec _) rfl (fun w h' th => kf 2 t.at_ (by rw [rmR, if_neg (fun q => q c1), if_pos (by cases hw : wAll f t 105 105 111 with | false => rfl | true => exact absurd hw w)]) t S own N T A h h' J' I th) fun w => ?_
      refine q_gQr e (by decide) rfl ?_
      refine q_nn ?_
      refine q_rp Sr hr ?_
      refine q_hIe (p_wide P) ?_
      refine q_gI e (by decide) rfl ?_
      rw [(tv.1 c1).1, ii_add]
      have er : rmR f n (k + 1) (S.bs r) t = if 600 < (S.bs r).length + (t.p - t.at_) then .inl (4, t.at_) else rmR f n k (S.bs r ++ wBits f t) (nx f n 900 t) := by
        rw [rmR, if_neg (fun q => q c1), if_neg (by rw [w]; decide)]
      have word : ¬ 600 < (S.bs r).length + (t.p - t.at_) → Ends (itr (c_DR_readRow_l124 (itr (c_DR_readRow_l66) (fun _ _ _ => none) fu)) (fun _ _ _ _ => none) FU h (b 5) (ii r) (0 : Int32)) Z := fun cw => by
        rw [if_neg cw] at er
        refine r_word hr c1 (t.p - t.at_) FU 0 S own N T A h (by unfold FU; omega) (by omega) J' I (by omega) fun own2 N2 T2 A2 h2 J2 I2 => ?_
        rw [List.drop_zero] at I2
        refine r_next J2 (J2.grd (by decide)) fun h3 J3 o3 => ?_
        have I3 := I2.onl J2 o3 (RJ.wf J3)
        have eb : (rsB S r (wBits f t)).bs r = S.bs r ++ wBits f t := by
          show va_up S.bs r (S.bs r ++ wBits f t) r = _
          rw [up_at]
        refine ih fu (nx f n 900 t) (rsB S r (wBits f t)) own2 N2 T2 A2 h3 (by omega) (by have := had c1; omega) (fun q => by have w3 : t.p < (nx f n 900 t).p := tok_mu (f := f) tp q; have := had c1; omega) J3 I3 (fun kd pl ee => kf kd pl (by rw [er, ← eb]; exact ee)) (fun l t' ee own4 N4 T4 A4 h4 J4 I4 => kk l t' (by rw [er, ← eb]; exact ee) own4 N4 T4 A4 h4 J4 ?_)
        have : va_up (va_up S.2.2.2.1 r (S.2.2.2.1 r ++ wBits f t)) r l = va_up S.2.2.2.1 r l := up_up
        rw [← this]
        exact I4
      by_cases cw : 600 < (S.bs r).length + (t.p - t.at_)
      · refine q_pos _ (ii_ltT (a := 600) (by omega)) ?_
        refine r_must (c := False) (k := 4) J' (J'.grd (by decide)) rfl rfl (fun _ h' th => kf 4 t.at_ (by rw [er, if_pos cw]) t S own N T A h h' J' I th) fun q => q.elim
      · refine q_neg _ (ii_ltF (a := 600) (by omega)) ?_
        refine r_must (c := True) (k := 4) J' (J'.grd (by decide)) rfl rfl (fun q => absurd True.intro q) fun _ => word cw
    · refine q_neg _ (ii_eqF (b := 1) (by omega)) ?_
      refine kk (S.bs r) t (by rw [rmR, if_pos c1]) own N T A h J' ?_
      have : va_up S.2.2.2.1 r (S.bs r) = S.2.2.2.1 := up_self
      rw [this]
      exact I
end
