/-! PURE SIDE: sentences: both sides -/
set_option maxRecDepth 100000
section
variable {m0 ms : MS} {X : XS} {S : SyT} {t : Tk} {k pl : Nat} {Z : Option Value → MS → Prop}
theorem s_l79 {v : Int32} (h36 : m0.1 36 0 = v) (kk : ∀ m', Cp m0 m' 14 5822 34 0 240 240 → Z (some (.int v)) m') : ∀ (m fu j : Nat) (ms : MS), m < fu → j + m = 240 → Cp m0 ms 14 5822 34 0 240 j → DE (itr (d_M_sentence_l79) (fun _ _ => none) fu ms (ii j)) Z := by
  intro m
  induction m with
  | zero =>
    intro fu j ms hf hj C
    obtain ⟨fu, rfl⟩ : ∃ x, fu = x + 1 := ⟨fu - 1, by omega⟩
    have e : j = 240 := by omega
    subst e
    rw [itr_succ]
    unfold d_M_sentence_l79
    refine d_pos _ (by decide) ?_
    rw [C.2.1 36 (by decide), h36]
    refine d_nm ?_
    exact d_dI (kk ms C)
  | succ m ih =>
    intro fu j ms hf hj C
    obtain ⟨fu, rfl⟩ : ∃ x, fu = x + 1 := ⟨fu - 1, by omega⟩
    have e22 : (5822 : Int32) + ii (j : Int) = ii ((5822 + j : Nat) : Int) := by rw [il_5822, ii_add]; rfl
    rw [itr_succ]
    unfold d_M_sentence_l79
    refine d_neg _ (ii_leF (a := 240) (by omega)) ?_
    refine d_eA (N := 240) rfl (n := 0 + j) (by omega) rfl ?_
    rw [e22]
    refine d_sA (N := 6062) rfl (n := 5822 + j) (by omega) ?_
    rw [add1]
    exact ih fu (j + 1) _ (by omega) (by omega) (C.up (by decide) (by omega))
/-- up to the end of the reading -/
theorem m_sent0 (M : CM X ms) (I : XI X) (kf : ∀ k pl, syG X.tp X.len X.w.nm X.w.n 27 0 1 sy0 (tok X.tp X.len 200 0) = .inl (k, pl) → ∀ m0 m', CM (xB X 0) m0 → YF m0 k pl m' → DE (nm (m'.1 11 0) fun v20 => dI ((-1 : Int32) - v20) m') Z) (kk : ∀ s t, syG X.tp X.len X.w.nm X.w.n 27 0 1 sy0 (tok X.tp X.len 200 0) = .inr (s, t) → ∀ m0 m', CM (xB X 0) m0 → YI m0 X.tp X.len s 0 t m' → m'.1 38 0 = ii ((s.c - 1 : Nat) : Int) → DE (nm (m'.1 7 0) fun v7 => if v7 = 0 then sA m' 14 (5820 : Int32) (1 : Int32) fun m11 => nm (m11.1 38 0) fun v13 => sA m11 14 (5821 : Int32) v13 fun m16 => itr (d_M_sentence_l79) (fun _ _ => none) FU m16 (0 : Int32) else bI (d_M_bad m' (1 : Int32)) fun v18 m17 => nm (m17.1 11 0) fun v19 => dI ((-1 : Int32) - v19) m17) Z) : DE (d_M_sentence ms) Z := by
  have hl := I.2.1
  have n4 := I.1.1
  unfold d_M_sentence
  refine d_bV (m_begin (most := 200) M I rfl (by decide)) fun m1 ⟨m0, q1, q2, q3, q4, q5⟩ => ?_
  refine d_nm ?_
  refine d_nm ?_
  refine d_nm ?_
  have L4 : YI m0 X.tp X.len sy0 0 (tok X.tp X.len 200 0) (mset (mset (mset m1 35 0 0) 36 0 0) 37 0 0) := by
    have G1 : GS m0 m1 := ⟨fun j hj => q2.1 j (fun w => hj ((by decide : ∀ k, k ∈ gpF → k ∈ gsF) j w)), fun j hj => q2.2 j hj⟩
    refine ⟨((G1.set (by decide)).set (by decide)).set (by decide), ((q3.set (by decide)).set (by decide)).set (by decide), ((q4.set (by decide)).set (by decide)).set (by decide), q5, (fun k hk => absurd hk (Nat.not_lt_zero k)), ?_, ?_, ms_eq⟩
    · rw [ms_nk (by decide), ms_nk (by decide), ms_eq]; rfl
    · rw [ms_nk (by decide), ms_eq]; rfl
  refine d_in1 ?_
  show DE (d_g_rd 64 0 _) _
  refine s_sy (m := X.w.n) (nm := X.w.nm) (m0 := m0) hl I.2.2.1 n4 q1.2.2.1.1.1 (fun r hr => ⟨q1.2.2.2.1 r hr, I.1.2.2.2.1 r hr⟩) 27 64 0 1 0 (by decide) (by decide) rfl (by decide) (by decide) sy0 (tok X.tp X.len 200 0) _ _ (by decide) (by decide) L4 (fun k pl ee m' F => Or.inl ⟨rfl, kf k pl ee m0 m' q1 F⟩) (fun s t ee m' L e38 => Or.inr ⟨rfl, kk s t ee m0 m' q1 L e38⟩)
theorem m_sentE (M : CM X ms) (I : XI X) (hA : sySen X.tp X.len X.w.nm X.w.n = .inl (k, pl)) : DE (d_M_sentence ms) (fun r m' => r = some (.int (ii (-1 - (pl : Int)))) ∧ CM (xB X (k : Int)) m') := by
  have ft : ∀ {m0 m' : MS}, CM (xB X 0) m0 → YF m0 k pl m' → CM (xB X (k : Int)) m' := fun {m0 m'} q1 F => q1.ft (fun j hj h1 => F.1 j ((by decide : ∀ j, j ∈ cmF → j ≠ 10 → j ∉ gtF) j hj h1)) (by rw [F.2.1 20 (by decide)]) (by rw [F.2.1 22 (by decide)]) F.2.2.1
  unfold sySen at hA
  refine m_sent0 M I (fun k' pl' ee m0 m' q1 F => ?_) (fun s t ee m0 m' q1 L e38 => ?_)
  · rw [ee] at hA
    injection hA with hA
    injection hA with e1 e2
    subst e1 e2
    rw [F.2.2.2, mi1]
    refine d_nm ?_
    rw [ii_sub]
    exact d_dI ⟨rfl, ft q1 F⟩
  · rw [ee] at hA
    dsimp only at hA
    by_cases k0 : t.k ≠ 0
    · rw [if_pos k0] at hA
      injection hA with hA
      injection hA with e1 e2
      subst e1 e2
      have V := L.2.1
      have T := L.2.2.2.1
      have mk : mkd t.k ≠ 0 ∧ mkd t.k ≤ 5 := by
        have tb := T.1
        unfold mkd
        rw [if_neg k0]
        split <;> omega
      rw [V.2.2.1]
      refine d_nm ?_
      refine d_neg _ (ii_eq0F (by omega)) ?_
      refine d_bIe (m_bad (k := 1) V T rfl) ?_
      have F := L.bad (q := 1) (Or.inl rfl)
      rw [F.2.2.2, mi1]
      refine d_nm ?_
      rw [ii_sub]
      exact d_dI ⟨rfl, ft q1 F⟩
    · rw [if_neg k0] at hA
      cases hA
theorem m_sentS (M : CM X ms) (I : XI X) (hA : sySen X.tp X.len X.w.nm X.w.n = .inr (S, t)) (h1 : 1 ≤ S.c) (h40 : S.c ≤ 40) : DE (d_M_sentence ms) (fun r m' => r = some (.int (ii S.q)) ∧ CM (xSn (xB X 0) (S.1, S.c - 1)) m') := by
  unfold sySen at hA
  refine m_sent0 M I (fun k' pl' ee m0 m' q1 F => ?_) (fun s t ee m0 m' q1 L e38 => ?_)
  · rw [ee] at hA
    cases hA
  · rw [ee] at hA
    dsimp only at hA
    by_cases k0 : t.k ≠ 0
    · rw [if_pos k0] at hA
      cases hA
    · rw [if_neg k0] at hA
      injection hA with hA
      injection hA with e1 e2
      subst e1 e2
      have V := L.2.1
      rw [V.2.2.1, Classical.not_not.mp k0]
      refine d_nm ?_
      refine d_pos _ rfl ?_
      refine d_sA (z := 5820) (N := 6062) rfl (n := 5820) (by omega) ?_
      rw [ms_nk (by decide), e38]
      refine d_nm ?_
      refine d_sA (z := 5821) (N := 6062) rfl (n := 5821) (by omega) ?_
      refine s_l79 (m0 := mset (mset m' 14 5820 1) 14 5821 (ii ((s.c - 1 : Nat) : Int))) (v := ii (s.q : Int)) (by rw [ms_nk (by decide), ms_nk (by decide)]; exact L.2.2.2.2.2.2.1) (fun m2 C => ?_) 240 FU 0 _ (by unfold FU; omega) (by omega) Cp.rf
      obtain ⟨p1, p2, p3, p4⟩ := C
      obtain ⟨c1, c2, ⟨⟨w1, w2, w3⟩, w4, w5⟩, c4, c5, c6, c7, c8, c9, c10, c11, c12⟩ := q1
      have fr : ∀ q, q ∈ cmF → q ≠ 14 → m2.1 q = m0.1 q := fun q h1 h2 => by
        rw [p2 q h2, ms_nk h2, ms_nk h2]
        exact L.1.1 q ((by decide : ∀ j, j ∈ cmF → j ∉ gsF) q h1)
      have f2 : ∀ q, q ≠ 12 → m2.2 q = m0.2 q := fun q hq => by
        rw [p1]
        exact L.1.2 q hq
      have f14 : ∀ x, x < 5820 → m2.1 14 x = m0.1 14 x := fun x hx => by
        rw [p4 x (by omega), ms_ne (by omega), ms_ne (by omega)]
        exact congrFun (L.1.1 14 (by decide)) x
      refine ⟨rfl, ?_, ?_, ?_, ?_, ?_, ?_, fun k hk => ?_, ?_, ?_, ?_, ?_, ?_⟩
      · rw [fr 1 (by decide) (by decide)]; exact c1
      · rw [fr 2 (by decide) (by decide)]; exact c2
      · refine ⟨⟨(f14 0 (by decide)).trans w1, (f14 1 (by decide)).trans w2, MTx.congr w3 (fun r hr => (I.1.2.2.1.1 r (by omega)).2.1) (fun x _ hx => f14 x hx)⟩, (fun z => by cases z), fun s' es => ?_⟩
        injection es with es
        subst es
        refine ⟨?_, ?_, fun k hk => ?_⟩
        · rw [p4 _ (by omega), ms_ne (by decide), ms_eq]; rfl
        · rw [p4 _ (by omega), ms_eq]
        · have hk : k ≤ s.c - 1 := hk
          obtain ⟨u1, u2, u3, u4⟩ := L.2.2.2.2.1 k (by omega)
          have g : ∀ x, x < 240 → m2.1 14 (5822 + x) = m'.1 34 x := fun x hx => by
            rw [p3 x hx, Nat.zero_add, ms_nk (by decide), ms_nk (by decide)]
          refine ⟨(g _ (by omega)).trans u1, ?_, ?_, ?_⟩
          · rw [Nat.add_assoc]; exact (g _ (by omega)).trans u2
          · rw [Nat.add_assoc]; exact (g _ (by omega)).trans u3
          · rw [Nat.add_assoc]; exact (g _ (by omega)).trans u4
      · rw [f2 20 (by decide)]; exact c4
      · rw [fr 24 (by decide) (by decide)]; exact c5
      · rw [fr 17 (by decide) (by decide)]; exact c6
      · exact (c7 k hk).congr (fr 23 (by decide) (by decide)) (fr 16 (by decide) (by decide)) (f2 22 (by decide))
      · rw [fr 10 (by decide) (by decide)]; exact c8
      · rw [fr 28 (by decide) (by decide)]; exact c9
      · rw [fr 27 (by decide) (by decide)]; exact c10
      · rw [fr 33 (by decide) (by decide)]; exact c11
      · rw [fr 33 (by decide) (by decide), fr 31 (by decide) (by decide)]; exact c12
end
theorem td_sentence {b : Nat → Nat} : TD b (fun h => c_B_sentence h (b 0)) (fun ms => d_M_sentence ms) := by
  intro own X c s h ms C I M
  obtain ⟨held, rm, z0, z', skm, sn, R, R', N, N', Tb, seed, rows', seed', e0, sk, D, S, z1, z2⟩ := C
  have O : CBo b own X held rm z0 z' skm sn R R' N N' Tb seed rows' seed' h := ⟨e0, sk, D, S⟩
  obtain ⟨r, hh, y1, y2⟩ := b_sentence (c := c) (s := s) O I z1 z2
  rcases y2 with ⟨k, pl, hA, e1, own', C', F⟩ | ⟨S', t, hA, e1, hT, g1, g2, own', C', F⟩
  · obtain ⟨r', m', w1, w2, w3⟩ := m_sentE M I hA
    subst e1 w2
    exact ⟨_, hh, m', own', _, y1, w1, C', I.xb k, w3, F⟩
  · obtain ⟨r', m', w1, w2, w3⟩ := m_sentS M I hA g1 g2
    subst e1 w2
    have I1 : XI (xB X 0) := I.xb 0
    refine ⟨_, hh, m', own', _, y1, w1, C', ⟨⟨I1.1.1, I1.1.2.1, I1.1.2.2.1, I1.1.2.2.2.1, fun s es => ?_⟩, I1.2⟩, w3, F⟩
    injection es with es
    subst es
    exact (sw_of (by omega) hT (S'.c - 1) (by omega)).up (by omega)
