/-! PURE SIDE: sentences: the model: one part; all -/
set_option maxRecDepth 100000
theorem fk10 : ∀ a0 a1 a2 a3 a4 a5 a6 a7 a8 a9 : Bool, (if a0 = true then (0 : Int) else if a1 = true then 1 else if a2 = true then 2 else if a3 = true then 3 else if a4 = true then 4 else if a5 = true then 5 else if a6 = true then 6 else if a7 = true then 7 else if a8 = true then 8 else if a9 = true then 9 else -1) = if a0 = true then 0 else if (if a1 = true then (0 : Int) else if a2 = true then 1 else if a3 = true then 2 else if a4 = true then 3 else -1) ≠ -1 then 1 + (if a1 = true then (0 : Int) else if a2 = true then 1 else if a3 = true then 2 else if a4 = true then 3 else -1) else if (if a5 = true then (0 : Int) else if a6 = true then 1 else if a7 = true then 2 else if a8 = true then 3 else if a9 = true then 4 else -1) ≠ -1 then 5 + (if a5 = true then (0 : Int) else if a6 = true then 1 else if a7 = true then 2 else if a8 = true then 3 else if a9 = true then 4 else -1) else -1 := by decide +kernel
section
variable {m0 ms ms' : MS} {f : Nat → Nat} {n m wi : Nat} {nm : Nat → List Nat} {t t' : Tk} {s s' : SyT} {Z : Option Value → MS → Prop}
theorem fkw_split : fkw f t 13 10 0 = if isKw f t 13 = true then 0 else if fkw f t 14 4 0 ≠ -1 then 1 + fkw f t 14 4 0 else if fkw f t 18 5 0 ≠ -1 then 5 + fkw f t 18 5 0 else -1 := fk10 (isKw f t 13) (isKw f t 14) (isKw f t 15) (isKw f t 16) (isKw f t 17) (isKw f t 18) (isKw f t 19) (isKw f t 20) (isKw f t 21) (isKw f t 22)
theorem d_in2 {P : Option DR} {K : Int32 → MS → Option DR} (e : DE P (fun r m => (r = some (.int 0) ∧ DE (K 0 m) Z) ∨ (r = some (.int 1) ∧ DE (K 1 m) Z))) : DE (bI P K) Z := by
  obtain ⟨r, m', e1, e2⟩ := e
  rw [e1]
  rcases e2 with ⟨q1, q2⟩ | ⟨q1, q2⟩
  · subst q1
    exact q2
  · subst q1
    exact q2
theorem s_l10 {rg : Nat → MS → Option DR} {x1 : Int32} (V : MkV f t ms) (T : TkOk f n t) : ∀ (l fu j : Nat), l < fu → j + l = 10 → DE (d_M_readSaid_j30 rg ms x1 (ii (if fkw f t 13 l j = -1 then 23 else 13 + fkw f t 13 l j))) Z → DE (itr (d_M_readSaid_l10 rg) (fun _ _ _ => none) fu ms x1 (ii ((13 + j : Nat) : Int))) Z := by
  intro l
  induction l with
  | zero =>
    intro fu j hf hj kk
    obtain ⟨fu, rfl⟩ : ∃ x, fu = x + 1 := ⟨fu - 1, by omega⟩
    have e : j = 10 := by omega
    subst e
    rw [itr_succ]
    unfold d_M_readSaid_l10
    refine d_pos _ (ii_ltT (a := 22) (by omega)) ?_
    rw [fkw, if_pos rfl] at kk
    exact kk
  | succ l ih =>
    intro fu j hf hj kk
    obtain ⟨fu, rfl⟩ : ∃ x, fu = x + 1 := ⟨fu - 1, by omega⟩
    rw [itr_succ]
    unfold d_M_readSaid_l10
    refine d_neg _ (ii_ltF (a := 22) (by omega)) ?_
    refine d_bIe (m_isWord (k := 13 + j) V T (by omega) rfl) ?_
    cases hk : isKw f t (13 + j) with
    | false =>
      have ef : fkw f t 13 (l + 1) j = fkw f t 13 l (j + 1) := by rw [fkw, if_neg (by rw [hk]; decide)]
      rw [ef] at kk
      refine d_pos _ rfl ?_
      have e : ii ((13 + j : Nat) : Int) + (1 : Int32) = ii ((13 + (j + 1) : Nat) : Int) := by rw [add1]; rfl
      rw [e]
      exact ih fu (j + 1) (by omega) (by omega) kk
    | true =>
      have ef : fkw f t 13 (l + 1) j = (j : Int) := by rw [fkw, if_pos hk]
      rw [ef, if_neg (by omega)] at kk
      refine d_neg _ bn1_ne ?_
      exact kk
theorem s_not {rg : Nat → MS → Option DR} {one : SyT → Tk → SyR} (hone : YP m0 f n one wi (fun ms => rg 2 ms)) (hF : SyF f n m one) : YP m0 f n (fun s t => syN (one s t)) wi (fun ms => e_M_readNot rg ms) := by
  intro s t ms Z hq hcq L kf kk
  dsimp only at kf kk
  show DE (e_M_readNot rg ms) Z
  unfold e_M_readNot
  refine d_in1 ?_
  refine hone s t ms _ hq hcq L (fun kd pl ee m' F => Or.inl ⟨rfl, d_dZ0 (kf kd pl (by rw [ee]; rfl) m' F)⟩) (fun s1 t1 ee m1 L1 e38 => Or.inr ⟨rfl, ?_⟩)
  have o1 := (hF s t s1 t1 hq L.2.2.2.1 ee).1
  have oc := o1.2.2.1
  have oz := o1.2.2.2
  have o20 := o1.1.2.1
  rw [e38]
  refine d_nm ?_
  refine m_says (x1 := 1) (x2 := s1.c - 1) (x3 := 0) (x4 := 0) L1 (by omega) rfl rfl rfl rfl fun m4 L4 => ?_
  refine d_nm ?_
  refine d_dZ1 (kk (syPut s1 (1, s1.c - 1, 0, 0)) t1 (by rw [ee]; rfl) _ (L4.set (Or.inr rfl)) ?_)
  rw [ms_eq]
  show ii (s1.c : Int) = ii ((s1.c + 1 - 1 : Nat) : Int)
  rw [Nat.add_sub_cancel]
theorem s_brk {rg : Nat → MS → Option DR} {one : SyT → Tk → SyR} (hone : YP m0 f n one wi (fun ms => rg 0 ms)) : YP m0 f n (fun s t => syK f n (one s t)) wi (fun ms => e_M_readBracket rg ms) := by
  intro s t ms Z hq hcq L kf kk
  dsimp only at kf kk
  show DE (e_M_readBracket rg ms) Z
  unfold e_M_readBracket
  refine d_in1 ?_
  refine hone s t ms _ hq hcq L (fun kd pl ee m' F => Or.inl ⟨rfl, d_dZ0 (kf kd pl (by rw [ee]; rfl) m' F)⟩) (fun s1 t1 ee m1 L1 e38 => Or.inr ⟨rfl, ?_⟩)
  have V := L1.2.1
  have B := L1.2.2.1
  have T := L1.2.2.2.1
  refine d_bIe (m_isSign (c := 41) V T B.2.2.2.2.1 rfl (by decide)) ?_
  have ek : syK f n (one s t) = if isSg f t1 41 = false then .inl (1, t1.at_) else .inr (s1, nx f n 200 t1) := by rw [ee]; rfl
  cases hs : isSg f t1 41 with
  | false =>
    refine d_pos _ rfl ?_
    refine d_bIe (m_bad (k := 1) V T rfl) ?_
    exact d_dZ0 (kf 1 t1.at_ (by rw [ek, if_pos hs]) _ (L1.bad (Or.inl rfl)))
  | true =>
    refine d_neg _ bn1_ne ?_
    refine s_go V B T fun m2 v2 b2 g2 t2 => ?_
    exact d_dZ1 (kk s1 _ (by rw [ek, if_neg (by rw [hs]; decide)]) m2 (L1.go v2 b2 g2 t2) (by rw [g2.1 38 (by decide)]; exact e38))
theorem s_single {rg : Nat → MS → Option DR} {sy : Nat → Nat → SyT → Tk → SyR} {deep : Nat} (hw : deep = wi + 1) (hd : deep ≤ 9) (hm : m ≤ 4) (h0 : m0.1 14 0 = ii m) (A : ∀ r, r < m → m0.2 20 r = ll (n27 (nm r)) ∧ okN (nm r)) (hN : deep ≤ 8 → YP m0 f n (fun s t => syN (sy 2 (deep + 1) s t)) (wi + 1) (fun ms => rg 3 ms)) (hK : deep ≤ 8 → YP m0 f n (fun s t => syK f n (sy 0 (deep + 1) s t)) (wi + 1) (fun ms => rg 4 ms)) : YP m0 f n (syS f n nm m sy deep) wi (fun ms => e_M_readSaid rg ms) := by
  intro s t ms Z hq hcq L kf kk
  have V := L.2.1
  have B := L.2.2.1
  have T := L.2.2.2.1
  have fm := fkw_le (f := f) (t := t) (k0 := 14) 4 0
  have fc := fkw_le (f := f) (t := t) (k0 := 18) 5 0
  have j46 : ∀ {x2 : Int}, ¬ (isKw f t 13 = false ∧ isSg f t 40 = false ∧ fkw f t 14 4 0 = -1 ∧ fkw f t 18 5 0 = -1) → t.k ≠ 4 → (isSg f t 40 = true → isKw f t 13 = false) → (isSg f t 40 = false → x2 = if isKw f t 13 = true then 13 else if fkw f t 14 4 0 ≠ -1 then 14 + fkw f t 14 4 0 else 18 + fkw f t 18 5 0) → DE (d_M_readSaid_j46 rg ms (ii (bn (isSg f t 40))) (ii x2)) Z := by
    intro x2 n1 k4 n13 hx
    unfold d_M_readSaid_j46
    rw [L.2.2.2.2.2.2.1]
    refine d_nm ?_
    by_cases c20 : s.q = 20
    · refine d_pos _ (by rw [c20]; rfl) ?_
      refine d_bIe (m_bad (k := 4) V T rfl) ?_
      exact d_dZ0 (kf 4 t.at_ (by unfold syS; rw [if_neg n1, if_pos (Or.inl (by omega))]) _ (L.bad (Or.inr k4)))
    refine d_neg _ (ii_eqF (b := 20) (by omega)) ?_
    rw [L.2.2.2.2.2.2.2]
    refine d_nm ?_
    by_cases c8 : wi = 8
    · refine d_pos _ (by rw [c8]; rfl) ?_
      refine d_bIe (m_bad (k := 4) V T rfl) ?_
      exact d_dZ0 (kf 4 t.at_ (by unfold syS; rw [if_neg n1, if_pos (Or.inr (by omega))]) _ (L.bad (Or.inr k4)))
    refine d_neg _ (ii_eqF (b := 8) (by omega)) ?_
    have hd8 : deep ≤ 8 := by omega
    have es : syS f n nm m sy deep s t = syB f n nm m sy deep (s.1, s.2.1, s.2.2 + 1) t := by
      unfold syS
      rw [if_neg n1, if_neg (by omega)]
    refine d_nm ?_
    refine d_nm ?_
    rw [ms_nk (by decide), L.2.2.2.2.2.2.2]
    refine d_nm ?_
    refine d_nm ?_
    rw [add1, add1]
    have L8 : YI m0 f n (s.1, s.2.1, s.2.2 + 1) (wi + 1) t (mset (mset ms 36 0 (ii ((s.q : Int) + 1))) 37 0 (ii ((wi : Int) + 1))) := by
      obtain ⟨l1, l2, l3, l4, l5, l6, l7, l8⟩ := L
      exact ⟨(l1.set (by decide)).set (by decide), (l2.set (by decide)).set (by decide), (l3.set (by decide)).set (by decide), l4, by rw [ms_nk (by decide), ms_nk (by decide)]; exact l5, by rw [ms_nk (by decide), ms_nk (by decide)]; exact l6, by rw [ms_nk (by decide), ms_eq]; rfl, by rw [ms_eq]; rfl⟩
    refine s_go L8.2.1 L8.2.2.1 T fun m9 v9 b9 g9 t9 => ?_
    have L9 := L8.go v9 b9 g9 t9
    have q9 : SyT.q (s.1, s.2.1, s.2.2 + 1) ≤ 20 := by show s.q + 1 ≤ 20; omega
    have c9 : SyT.c (s.1, s.2.1, s.2.2 + 1) ≤ 2 * SyT.q (s.1, s.2.1, s.2.2 + 1) := by show s.c ≤ 2 * (s.q + 1); omega
    have jf : ∀ kd pl m', syS f n nm m sy deep s t = .inl (kd, pl) → YF m0 kd pl m' → DE (d_M_readSaid_j166 rg m' (0 : Int32)) Z := fun kd pl m' ee F => by
      unfold d_M_readSaid_j166
      refine d_nm ?_
      refine d_nm ?_
      exact d_dZ0 (kf kd pl ee _ F.set)
    have jk : ∀ s' t' m', syS f n nm m sy deep s t = .inr (s', t') → YI m0 f n s' (wi + 1) t' m' → m'.1 38 0 = ii ((s'.c - 1 : Nat) : Int) → DE (d_M_readSaid_j166 rg m' (1 : Int32)) Z := fun s' t' m' ee Lx e38 => by
      unfold d_M_readSaid_j166
      rw [Lx.2.2.2.2.2.2.2]
      refine d_nm ?_
      have ew : ii ((wi + 1 : Nat) : Int) - (1 : Int32) = ii (wi : Int) := by rw [il_1, ii_sub]; congr 1; omega
      rw [ew]
      refine d_nm ?_
      exact d_dZ1 (kk s' t' ee _ Lx.win (by rw [ms_nk (by decide)]; exact e38))
    cases k40 : isSg f t 40 with
    | true =>
      have k13 := n13 k40
      have eb : syB f n nm m sy deep (s.1, s.2.1, s.2.2 + 1) t = syK f n (sy 0 (deep + 1) (s.1, s.2.1, s.2.2 + 1) (nx f n 200 t)) := by unfold syB; rw [if_neg (by rw [k13]; decide), if_pos k40]
      refine d_neg _ bn1_ne ?_
      refine d_in2 ?_
      exact hK hd8 _ _ m9 _ q9 c9 L9 (fun kd pl ee m' F => Or.inl ⟨rfl, jf kd pl m' (by rw [es, eb]; exact ee) F⟩) (fun s1 t1 ee m1 L1 e38 => Or.inr ⟨rfl, jk s1 t1 m1 (by rw [es, eb]; exact ee) L1 e38⟩)
    | false =>
      have n40 : ¬ (isSg f t 40 = true) := by rw [k40]; decide
      have hx := hx k40
      refine d_pos _ rfl ?_
      cases k13 : isKw f t 13 with
      | true =>
        rw [if_pos k13] at hx
        subst hx
        have eb : syB f n nm m sy deep (s.1, s.2.1, s.2.2 + 1) t = syN (sy 2 (deep + 1) (s.1, s.2.1, s.2.2 + 1) (nx f n 200 t)) := by unfold syB; rw [if_pos k13]
        refine d_pos _ rfl ?_
        refine d_in2 ?_
        exact hN hd8 _ _ m9 _ q9 c9 L9 (fun kd pl ee m' F => Or.inl ⟨rfl, jf kd pl m' (by rw [es, eb]; exact ee) F⟩) (fun s1 t1 ee m1 L1 e38 => Or.inr ⟨rfl, jk s1 t1 m1 (by rw [es, eb]; exact ee) L1 e38⟩)
      | false =>
        have n13' : ¬ (isKw f t 13 = true) := by rw [k13]; decide
        rw [if_neg n13'] at hx
        by_cases km : fkw f t 14 4 0 ≠ -1
        · rw [if_pos km] at hx
          obtain ⟨w, ew⟩ : ∃ k : Nat, fkw f t 14 4 0 = k := ⟨(fkw f t 14 4 0).toNat, by omega⟩
          have eb : syB f n nm m sy deep (s.1, s.2.1, s.2.2 + 1) t = syM f n nm m w (s.1, s.2.1, s.2.2 + 1) (nx f n 200 t) := by
            unfold syB
            rw [if_neg n13', if_neg n40, if_pos km, ew, Int.toNat_natCast]
          rw [ew] at hx
          subst hx
          have w4 : w < 4 := by omega
          refine d_neg _ (ii_eqF (b := 13) (by omega)) ?_
          have e50 : (50 : Int32) + ii (14 + (w : Int)) = ii ((64 + w : Nat) : Int) := by
            rw [il_50, ii_add]
            congr 1
            omega
          by_cases w2 : w < 2
          · refine d_neg _ (ii_leF (a := 16) (by omega)) ?_
            refine m_says (x1 := 64 + w) (x2 := 0) (x3 := 0) (x4 := 0) L9 (by show s.c < 60; omega) e50 rfl rfl rfl fun m4 L4 => ?_
            refine d_nm ?_
            refine jk (syPut (s.1, s.2.1, s.2.2 + 1) (64 + w, 0, 0, 0)) _ _ (by rw [es, eb]; unfold syM; rw [if_pos w2]) (L4.set (Or.inr rfl)) ?_
            rw [ms_eq]
            show ii (s.c : Int) = ii ((s.c + 1 - 1 : Nat) : Int)
            rw [Nat.add_sub_cancel]
          · refine d_pos _ (ii_leT (a := 16) (by omega)) ?_
            refine d_neg _ (ii_leF (a := 18) (by omega)) ?_
            have em : syS f n nm m sy deep s t = if nmOk f (nx f n 200 t) = false then .inl (1, (nx f n 200 t).at_) else if ofN nm (seg f (nx f n 200 t).at_ (nx f n 200 t).p) m 0 = -1 then .inl (3, (nx f n 200 t).at_) else .inr (syPut (s.1, s.2.1, s.2.2 + 1) (64 + w, (ofN nm (seg f (nx f n 200 t).at_ (nx f n 200 t).p) m 0).toNat, 0, 0), nx f n 200 (nx f n 200 t)) := by
              rw [es, eb]
              unfold syM
              rw [if_neg w2]
            refine d_in2 ?_
            unfold d_M_readOf d_M_readSaid_j165
            refine s_rowName (m := m) (nm := nm) v9 b9 t9 hm (by rw [L9.1.1 14 (by decide)]; exact h0) (fun r hr => by rw [L9.1.2 20 (by decide)]; exact A r hr) (fun g1 => ?_) (fun g1 g2 => ?_) (fun g1 r g2 g3 m1 v1 b1 gp1 t1 => ?_)
            · refine d_pos _ rfl ?_
              exact d_dZ0 (Or.inl ⟨rfl, jf 1 _ _ (by rw [em, if_pos g1]) (L9.bad (Or.inl rfl))⟩)
            · refine d_pos _ rfl ?_
              have k1 := nmOk_k g1
              exact d_dZ0 (Or.inl ⟨rfl, jf 3 _ _ (by rw [em, if_neg (by rw [g1]; decide), if_pos g2]) ((L9.set (Or.inl rfl)).bad (Or.inr (by rw [k1]; decide)))⟩)
            · refine d_neg _ (by decide) ?_
              have L1 : YI m0 f n (s.1, s.2.1, s.2.2 + 1) (wi + 1) _ m1 := (L9.set (v := ii (r : Int)) (Or.inl rfl)).go v1 b1 gp1 t1
              have e13 : m1.1 13 0 = ii (r : Int) := by rw [gp1.1 13 (by decide)]; exact ms_eq
              rw [e13]
              refine d_nm ?_
              refine m_says (x1 := 64 + w) (x2 := r) (x3 := 0) (x4 := 0) L1 (by show s.c < 60; omega) e50 rfl rfl rfl fun m4 L4 => ?_
              refine d_nm ?_
              refine d_dZ1 (Or.inr ⟨rfl, jk (syPut (s.1, s.2.1, s.2.2 + 1) (64 + w, r, 0, 0)) _ _ (by rw [em, if_neg (by rw [g1]; decide), if_neg (by omega), g2, Int.toNat_natCast]) (L4.set (Or.inr rfl)) ?_⟩)
              rw [ms_eq]
              show ii (s.c : Int) = ii ((s.c + 1 - 1 : Nat) : Int)
              rw [Nat.add_sub_cancel]
        · rw [if_neg km] at hx
          have km' := Classical.not_not.mp km
          have kc : fkw f t 18 5 0 ≠ -1 := fun q => n1 ⟨k13, k40, km', q⟩
          obtain ⟨w, ew⟩ : ∃ k : Nat, fkw f t 18 5 0 = k := ⟨(fkw f t 18 5 0).toNat, by omega⟩
          have eb : syB f n nm m sy deep (s.1, s.2.1, s.2.2 + 1) t = syC f n w (s.1, s.2.1, s.2.2 + 1) (nx f n 200 t) := by
            unfold syB
            rw [if_neg n13', if_neg n40, if_neg km, ew, Int.toNat_natCast]
          rw [ew] at hx
          subst hx
          have w5 : w < 5 := by omega
          refine d_neg _ (ii_eqF (b := 13) (by omega)) ?_
          refine d_pos _ (ii_leT (a := 16) (by omega)) ?_
          refine d_pos _ (ii_leT (a := 18) (by omega)) ?_
          have e50 : (50 : Int32) + ii (18 + (w : Int)) = ii ((68 + w : Nat) : Int) := by
            rw [il_50, ii_add]
            congr 1
            omega
          refine d_in2 ?_
          unfold d_M_readSaid_j165
          have j33 : ¬ (isSg f (nx f n 200 t) 60 = false ∧ isSg f (nx f n 200 t) 61 = false ∧ isSg f (nx f n 200 t) 62 = false) → DE (d_M_readCompare_j33 m9 (ii (18 + (w : Int)))) (fun r m => (r = some (.int 0) ∧ DE (d_M_readSaid_j166 rg m 0) Z) ∨ (r = some (.int 1) ∧ DE (d_M_readSaid_j166 rg m 1) Z)) := fun g3 => by
            have k3 : (nx f n 200 t).k = 3 := by
              have g : ∀ c, isSg f (nx f n 200 t) c = true → (nx f n 200 t).k = 3 := fun c q => (isSg_at q).1
              cases h60 : isSg f (nx f n 200 t) 60 with
              | true => exact g _ h60
              | false =>
                cases h61 : isSg f (nx f n 200 t) 61 with
                | true => exact g _ h61
                | false =>
                  cases h62 : isSg f (nx f n 200 t) 62 with
                  | true => exact g _ h62
                  | false => exact absurd ⟨h60, h61, h62⟩ g3
            unfold d_M_readCompare_j33
            rw [v9.2.2.2.2.2 k3]
            refine d_nm ?_
            refine s_go v9 b9 t9 fun m2 v2 b2 g2 t2 => ?_
            have L2 := L9.go v2 b2 g2 t2
            have ec : (nx f n 200 (nx f n 200 t)).k = 2 → syS f n nm m sy deep s t = .inr (syPut (s.1, s.2.1, s.2.2 + 1) (68 + w, 0, nv (seg f (nx f n 200 (nx f n 200 t)).at_ (nx f n 200 (nx f n 200 t)).p), f (nx f n 200 t).at_), nx f n 200 (nx f n 200 (nx f n 200 t))) := fun k2 => by
              rw [es, eb]
              unfold syC
              rw [if_neg g3, if_neg (fun q => q k2)]
            refine s_number (lo := 0) (hi := 999) v2 b2 t2 rfl rfl (by decide) (fun c => ?_) (fun c1 c2 => ?_) (fun c1 c2 m3 v3 b3 g3' t3 => ?_)
            · refine d_pos _ rfl ?_
              exact d_dZ0 (Or.inl ⟨rfl, jf 1 _ _ (by rw [es, eb]; unfold syC; rw [if_neg g3, if_pos c]) (L2.bad (Or.inl rfl))⟩)
            · exact absurd ⟨Nat.zero_le _, t2.2.2 c1⟩ c2
            · refine d_neg _ (by decide) ?_
              have L3 : YI m0 f n (s.1, s.2.1, s.2.2 + 1) (wi + 1) _ m3 := (L2.set (v := ii (nv (seg f (nx f n 200 (nx f n 200 t)).at_ (nx f n 200 (nx f n 200 t)).p) : Int)) (Or.inl rfl)).go v3 b3 g3' t3
              have e13 : m3.1 13 0 = ii (nv (seg f (nx f n 200 (nx f n 200 t)).at_ (nx f n 200 (nx f n 200 t)).p) : Int) := by rw [g3'.1 13 (by decide)]; exact ms_eq
              rw [e13]
              refine d_nm ?_
              refine m_says (x1 := 68 + w) (x2 := 0) (x3 := nv (seg f (nx f n 200 (nx f n 200 t)).at_ (nx f n 200 (nx f n 200 t)).p)) (x4 := f (nx f n 200 t).at_) L3 (by show s.c < 60; omega) e50 rfl rfl rfl fun m4 L4 => ?_
              refine d_nm ?_
              refine d_dZ1 (Or.inr ⟨rfl, jk _ _ _ (ec c1) (L4.set (Or.inr rfl)) ?_⟩)
              rw [ms_eq]
              show ii (s.c : Int) = ii ((s.c + 1 - 1 : Nat) : Int)
              rw [Nat.add_sub_cancel]
          unfold d_M_readCompare
          have hb := b9.2.2.2.2.1
          refine d_bIe (m_isSign (c := 60) v9 t9 hb rfl (by decide)) ?_
          cases h60 : isSg f (nx f n 200 t) 60 with
          | true =>
            refine d_neg _ bn1_ne ?_
            exact j33 fun z => by rw [h60] at z; exact absurd z.1 (by decide)
          | false =>
            refine d_pos _ rfl ?_
            refine d_bIe (m_isSign (c := 61) v9 t9 hb rfl (by decide)) ?_
            cases h61 : isSg f (nx f n 200 t) 61 with
            | true =>
              refine d_neg _ bn1_ne ?_
              exact j33 fun z => by rw [h61] at z; exact absurd z.2.1 (by decide)
            | false =>
              refine d_pos _ rfl ?_
              refine d_bIe (m_isSign (c := 62) v9 t9 hb rfl (by decide)) ?_
              cases h62 : isSg f (nx f n 200 t) 62 with
              | true =>
                refine d_neg _ bn1_ne ?_
                exact j33 fun z => by rw [h62] at z; exact absurd z.2.2 (by decide)
              | false =>
                refine d_pos _ rfl ?_
                refine d_bIe (m_bad (k := 1) v9 t9 rfl) ?_
                exact d_dZ0 (Or.inl ⟨rfl, jf 1 _ _ (by rw [es, eb]; unfold syC; rw [if_pos ⟨h60, h61, h62⟩]) (L9.bad (Or.inl rfl))⟩)
  show DE (e_M_readSaid rg ms) Z
  unfold e_M_readSaid
  refine d_bIe (m_isSign (c := 40) V T B.2.2.2.2.1 rfl (by decide)) ?_
  rw [show (13 : Int32) = ii ((13 + 0 : Nat) : Int) from rfl]
  refine s_l10 V T 10 FU 0 (by unfold FU; omega) rfl ?_
  rw [fkw_split]
  unfold d_M_readSaid_j30
  by_cases k40 : isSg f t 40 = true
  · have k3 : t.k = 3 := (isSg_at k40).1
    have k13 : isKw f t 13 = false := by
      rw [← Bool.not_eq_true]
      intro q
      have := isKw_k q
      omega
    refine d_neg _ (by rw [k40]; exact bn1_ne) ?_
    exact j46 (fun z => by rw [k40] at z; exact absurd z.2.1 (by decide)) (by omega) (fun _ => k13) (fun q => by rw [k40] at q; cases q)
  rw [Bool.not_eq_true] at k40
  refine d_pos _ (by rw [k40]; rfl) ?_
  have kne : ∀ {j : Nat}, isKw f t j = true → t.k ≠ 4 := fun {j} q => by have := isKw_k q; omega
  have fne : ∀ {k0 m0 : Nat}, fkw f t k0 m0 0 ≠ -1 → t.k ≠ 4 := fun {k0 m0} q w => q ((fkw_no m0 0).2 fun i _ _ => by
    rw [← Bool.not_eq_true]
    intro z
    exact kne z w)
  by_cases k13 : isKw f t 13 = true
  · rw [if_pos k13, if_neg (show ¬ ((0 : Int) = -1) by decide)]
    refine d_pos _ (by decide) ?_
    exact j46 (fun z => by rw [k13] at z; exact absurd z.1 (by decide)) (kne k13) (fun q => by rw [k40] at q; cases q) (fun _ => by rw [if_pos k13]; rfl)
  rw [if_neg k13]
  by_cases km : fkw f t 14 4 0 ≠ -1
  · rw [if_pos km, if_neg (show ¬ (1 + fkw f t 14 4 0 = -1) by omega)]
    refine d_pos _ (ii_leT (b := 22) (by omega)) ?_
    refine j46 (fun z => km z.2.2.1) (fne km) (fun q => by rw [k40] at q; cases q) (fun _ => ?_)
    rw [if_neg k13, if_pos km]
    omega
  rw [if_neg km]
  by_cases kc : fkw f t 18 5 0 ≠ -1
  · rw [if_pos kc, if_neg (show ¬ (5 + fkw f t 18 5 0 = -1) by omega)]
    refine d_pos _ (ii_leT (b := 22) (by omega)) ?_
    refine j46 (fun z => kc z.2.2.2) (fne kc) (fun q => by rw [k40] at q; cases q) (fun _ => ?_)
    rw [if_neg k13, if_neg km]
    omega
  · rw [if_neg kc, if_pos rfl]
    refine d_neg _ (by decide) ?_
    refine d_bIe (m_bad (k := 1) V T rfl) ?_
    rw [Bool.not_eq_true] at k13
    exact d_dZ0 (kf 1 t.at_ (by unfold syS; rw [if_pos ⟨k13, k40, Classical.not_not.mp km, Classical.not_not.mp kc⟩]) _ (L.bad (Or.inl rfl)))
theorem s_sy (hn : n ≤ 940) (hf : ∀ i, f i < 256) (hm : m ≤ 4) (h0 : m0.1 14 0 = ii m) (A : ∀ r, r < m → m0.2 20 r = ll (n27 (nm r)) ∧ okN (nm r)) : ∀ (d e sel deep wi : Nat), 2 * d ≤ e → sel ≤ 2 → deep = wi + 1 → deep ≤ 9 → 3 * (9 - deep) + (3 - sel) ≤ d → YP m0 f n (syG f n nm m d sel deep) wi (fun ms => d_g_rd e sel ms) := by
  intro d
  induction d with
  | zero => intro e sel deep wi h1 h2 h3 h4 h5; omega
  | succ d ih =>
    intro e sel deep wi he hs hw hd hm'
    obtain ⟨e, rfl⟩ : ∃ x, e = x + 2 := ⟨e - 2, by omega⟩
    match sel, hs with
    | 0, _ =>
      have q : syG f n nm m (d + 1) 0 deep = syA f n (syG f n nm m d 1 deep) 11 3 := by
        funext s t
        rw [syG, if_pos rfl]
      rw [q]
      show YP m0 f n _ wi (fun ms => e_M_readOr (d_g_rd (e + 1)) ms)
      exact s_readOr (m := m) (ih (e + 1) 1 deep wi (by omega) (by omega) hw hd (by omega)) (syG_ok hn hf d 1 deep)
    | 1, _ =>
      have q : syG f n nm m (d + 1) 1 deep = syA f n (syG f n nm m d 2 deep) 12 2 := by
        funext s t
        rw [syG, if_neg (by decide), if_pos rfl]
      rw [q]
      show YP m0 f n _ wi (fun ms => e_M_readAnd (d_g_rd (e + 1)) ms)
      exact s_readAnd (m := m) (ih (e + 1) 2 deep wi (by omega) (by omega) hw hd (by omega)) (syG_ok hn hf d 2 deep)
    | 2, _ =>
      have q : syG f n nm m (d + 1) 2 deep = syS f n nm m (syG f n nm m d) deep := by
        funext s t
        rw [syG, if_neg (by decide), if_neg (by decide)]
      rw [q]
      show YP m0 f n _ wi (fun ms => e_M_readSaid (d_g_rd (e + 1)) ms)
      refine s_single hw hd hm h0 A (fun w => ?_) (fun w => ?_)
      · show YP m0 f n _ (wi + 1) (fun ms => e_M_readNot (d_g_rd e) ms)
        exact s_not (m := m) (ih e 2 (deep + 1) (wi + 1) (by omega) (by omega) (by omega) (by omega) (by omega)) (syG_ok hn hf d 2 (deep + 1))
      · show YP m0 f n _ (wi + 1) (fun ms => e_M_readBracket (d_g_rd e) ms)
        exact s_brk (ih e 0 (deep + 1) (wi + 1) (by omega) (by omega) (by omega) (by omega) (by omega))
end
