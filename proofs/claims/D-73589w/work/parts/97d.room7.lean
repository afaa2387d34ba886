/-! PURE SIDE: rooms: the loop over lines, by the component -/
set_option maxRecDepth 100000
section
variable {b own0 own N R' : Nat → Nat} {T : Nat → Bool} {A : Nat → LL} {f : Nat → Nat} {n ro na z' m C0 S0 : Nat} {hl : Bool} {seed : Int32} {t t' : Tk} {h h0 h1 h' : PH} {Z : Rt → PH → Prop} {S : RS}
theorem r_rmA : ∀ (l fu c : Nat) (t : Tk) (S : RS) (own N : Nat → Nat) (T : Nat → Bool) (A : Nat → LL) (h : PH), l < fu → 1 ≤ l → (t.k ≠ 0 → n + 1 < l + t.p) → c + l ≤ 2000 → JR b f n ro z' S.hl t h → TS b own0 R' z' ro na h0 C0 S0 (ii (0 : Nat)) seed S S.n own N T A h → RSo S → (c = 0 → S.n = 0 ∧ S.T = []) → (∀ kd pl, rmA f n l c S t = .inl (kd, pl) → ∀ t' S' m' hl' own' N' T' A' h1 h', JR b f n ro z' hl' t' h1 → TS b own0 R' z' ro na h0 C0 S0 (ii (0 : Nat)) seed S' m' own' N' T' A' h1 → TH b h1 kd pl h' → Z (.inr (b 2, 0)) h') → (∀ c' S', rmA f n l c S t = .inr (c', S') → ∀ t' own' N' T' A' h', JR b f n ro z' S'.hl t' h' → TS b own0 R' z' ro na h0 C0 S0 (ii (0 : Nat)) seed S' S'.n own' N' T' A' h' → RSo S' → Z (.inl (some (.int (ii c')))) h') → Ends (itr (c_DR_read_l21) (fun _ _ _ => none) fu h (b 5) (ii c)) Z := by
  intro l
  induction l with
  | zero => intro fu c t S own N T A h hf h1; omega
  | succ l ih =>
    intro fu c t S own N T A h hf _ had hc J I hS hc0 kf kk
    obtain ⟨fu, rfl⟩ : ∃ x, fu = x + 1 := ⟨fu - 1, by omega⟩
    have J' := J
    obtain ⟨⟨v, mn, nmv, e, tv⟩, _, St, _, _, _, ⟨fs, b1, b2, b3, b4⟩, _⟩ := J
    have tp := J'.ok.1.1
    have tb := J'.ok.1.2.2
    have hn := RJ.hn J'
    have fk := fkw_le (f := f) (t := t) (k0 := 0) 3 0
    have n4 := hS.1
    rw [itr_succ]
    unfold c_DR_read_l21
    refine q_gI e (by decide) rfl ?_
    by_cases k0 : t.k = 0
    · refine q_pos _ (by rw [k0]; rfl) ?_
      exact q_rI (kk c S (by rw [rmA, if_pos k0]) t own N T A h J' I hS)
    refine q_neg _ (ii_eq0F (by omega)) ?_
    refine q_gQr e (by decide) rfl ?_
    refine q_nn ?_
    refine q_gQr b1 (by decide) b3 ?_
    refine q_nn ?_
    refine q_hIe (by rw [J'.grd (by decide)]; exact p_find J' St.1 (by decide)) ?_
    rw [mi1]
    have bad : ∀ {k pl : Nat}, rmLn f n c S t = .inl (k, pl) → rmA f n (l + 1) c S t = .inl (k, pl) := fun {k pl} q => by rw [rmA, if_neg k0, q]
    by_cases c1 : fkw f t 0 3 0 = -1
    · refine q_pos _ (by rw [c1]) ?_
      unfold c_DR_read_j53
      exact r_must (c := False) (k := 1) J' (J'.grd (by decide)) rfl rfl (fun _ h' th => kf 1 t.at_ (bad (by unfold rmLn; rw [if_pos c1])) t S S.n S.hl own N T A h h' J' I th) fun q => q.elim
    · refine q_neg _ (ii_eqF (by omega)) ?_
      obtain ⟨w, ew⟩ : ∃ k : Nat, fkw f t 0 3 0 = k := ⟨(fkw f t 0 3 0).toNat, by omega⟩
      have hw : w < 3 := by omega
      rw [ew]
      have e1 : rmLn f n c S t = if (w : Int) = 0 ∧ c ≠ 0 then .inl (3, t.at_) else if (w : Int) = 2 ∧ S.hl = true then .inl (3, t.at_) else if (w : Int) = 1 ∧ 4 ≤ S.n then .inl (4, t.at_) else rmW f n w S (nx f n 900 t) := by
        unfold rmLn
        rw [if_neg c1, ew]
        rfl
      -- the line itself
      have go : (w = 0 → c = 0) → (w = 1 → S.n < 4) → rmLn f n c S t = rmW f n w S (nx f n 900 t) → Ends (hV (grd h (b 5) [5] (c_D_next h (b 5))) noX fun h2 => hV (c_DR_readLine h2 (b 5) (ii (w : Int))) rX fun h3 => hV (grd h3 (b 5) [5] (c_D_sign h3 (b 5) (59 : Int32))) rX fun h4 => itr (c_DR_read_l21) (fun _ _ _ => none) fu h4 (b 5) (ii (c : Int) + (1 : Int32))) Z := fun g0 g1 eL => by
        refine r_next J' (J'.grd (by decide)) fun h2 J2 o2 => ?_
        have I2 := I.onl J' o2 (RJ.wf J2)
        have a2 : Aft f n t.p (nx f n 900 t) := ⟨t.p, Nat.le_refl _, tp, rfl⟩
        refine hV_hV ?_
        refine r_rmW J2 I2 hS hw rfl (fun q => hc0 (g0 q)) g1 (fun kd pl ee t' S' m' hl' own' N' T' A' h1 h' Jx Ix th => Or.inr ⟨_, rfl, kf kd pl (bad (eL.trans ee)) t' S' m' hl' own' N' T' A' h1 h' Jx Ix th⟩) (fun S' t' ee own' N' T' A' h3 J3 I3 => Or.inl ⟨rfl, ?_⟩)
        obtain ⟨a3, hS3⟩ := rmW_ok hn a2 J2.ok hS g1 ee
        have eA : rmA f n (l + 1) c S t = if isSg f t' 59 = false then .inl (1, t'.at_) else rmA f n l (c + 1) S' (nx f n 900 t') := by
          rw [rmA, if_neg k0, eL.trans ee]
        refine r_sign (c := 59) J3 (J3.grd (by decide)) rfl (by decide) (fun q h' th => kf 1 t'.at_ (by rw [eA, if_pos q]) t' S' S'.n S'.hl own' N' T' A' h3 h' J3 I3 th) fun q h4 J4 o4 => ?_
        have I4 := I3.onl J3 o4 (RJ.wf J4)
        have t3 : t'.k = 3 := by
          unfold isSg at q
          exact (of_decide_eq_true q).1
        obtain ⟨q0, y1, y2, y3⟩ := a3
        subst y3
        have y4 : q0 < (tok f n 900 q0).p := tok_mu3 y2 t3
        have y5 : (tok f n 900 q0).p ≤ (nx f n 900 (tok f n 900 q0)).p := tok_ge J3.ok.1.1
        have hd := had k0
        rw [add1]
        exact ih fu (c + 1) (nx f n 900 (tok f n 900 q0)) S' own' N' T' A' h4 (by omega) (by omega) (fun _ => by omega) (by omega) J4 I4 hS3 (fun z => by omega) (fun kd pl e2 => kf kd pl (by rw [eA, if_neg (by rw [q]; decide)]; exact e2)) (fun c' Sx e2 => kk c' Sx (by rw [eA, if_neg (by rw [q]; decide)]; exact e2))
      have j122 : ∀ {cc : Prop} [Decidable cc] {x : Int32}, x = ii (bn (decide cc)) → (cc ↔ ¬ (w = 1 ∧ 4 ≤ S.n)) → (w = 0 → c = 0) → ¬ (w = 2 ∧ S.hl = true) → Ends (c_DR_read_j122 (itr (c_DR_read_l21) (fun _ _ _ => none) fu) h (b 5) (ii c) (ii w) x (b 5)) Z := by
        intro cc _ x hx hcc g0 g2
        unfold c_DR_read_j122
        refine r_must (c := cc) (k := 4) J' (J'.grd (by decide)) hx rfl (fun q h' th => kf 4 t.at_ (bad (by
          rw [e1, if_neg (by omega), if_neg (fun y => g2 ⟨by omega, y.2⟩), if_pos]
          have : w = 1 ∧ 4 ≤ S.n := Classical.not_not.mp fun y => q (hcc.2 y)
          omega)) t S S.n S.hl own N T A h h' J' I th) fun yc => ?_
        have y := hcc.1 yc
        exact go g0 (fun z => by omega) (by rw [e1, if_neg (by omega), if_neg (fun y => g2 ⟨by omega, y.2⟩), if_neg (by omega)])
      have j95 : ∀ {cc : Prop} [Decidable cc] {x : Int32}, x = ii (bn (decide cc)) → (cc ↔ ¬ (w = 2 ∧ S.hl = true)) → (w = 0 → c = 0) → Ends (c_DR_read_j95 (itr (c_DR_read_l21) (fun _ _ _ => none) fu) h (b 5) (ii c) (ii w) x (b 5)) Z := by
        intro cc _ x hx hcc g0
        unfold c_DR_read_j95
        refine r_must (c := cc) (k := 3) J' (J'.grd (by decide)) hx rfl (fun q h' th => kf 3 t.at_ (bad (by
          have y : w = 2 ∧ S.hl = true := Classical.not_not.mp fun y => q (hcc.2 y)
          rw [e1, if_neg (by omega), if_pos ⟨by omega, y.2⟩])) t S S.n S.hl own N T A h h' J' I th) fun yc => ?_
        have g2 := hcc.1 yc
        unfold c_DR_read_j117
        by_cases w1 : w = 1
        · refine q_pos _ (by rw [w1]; rfl) ?_
          refine q_gQr e (by decide) rfl ?_
          refine q_nn ?_
          refine q_gI I.2.2.2.1.1 (by decide) rfl ?_
          by_cases d4 : 4 ≤ S.n
          · refine q_pos _ (ii_leT (a := 4) (by omega)) ?_
            exact j122 (cc := False) rfl ⟨fun z => z.elim, fun z => z ⟨w1, d4⟩⟩ g0 g2
          · refine q_neg _ (ii_leF (a := 4) (by omega)) ?_
            exact j122 (cc := True) rfl ⟨fun _ z => d4 z.2, fun _ => True.intro⟩ g0 g2
        · refine q_neg _ (ii_eqF (b := 1) (by omega)) ?_
          exact j122 (cc := True) rfl ⟨fun _ z => w1 z.1, fun _ => True.intro⟩ g0 g2
      have j72 : ∀ {cc : Prop} [Decidable cc] {x : Int32}, x = ii (bn (decide cc)) → (cc ↔ ¬ (w = 0 ∧ c ≠ 0)) → Ends (c_DR_read_j72 (itr (c_DR_read_l21) (fun _ _ _ => none) fu) h (b 5) (ii c) (ii w) x (b 5)) Z := by
        intro cc _ x hx hcc
        unfold c_DR_read_j72
        refine r_must (c := cc) (k := 3) J' (J'.grd (by decide)) hx rfl (fun q h' th => kf 3 t.at_ (bad (by
          have y : w = 0 ∧ c ≠ 0 := Classical.not_not.mp fun y => q (hcc.2 y)
          rw [e1, if_pos (by omega)])) t S S.n S.hl own N T A h h' J' I th) fun yc => ?_
        have g := hcc.1 yc
        have g0 : w = 0 → c = 0 := fun z => by omega
        unfold c_DR_read_j90
        by_cases w2 : w = 2
        · refine q_pos _ (by rw [w2]; rfl) ?_
          refine q_gI e (by decide) rfl ?_
          cases hh : S.hl with
          | false =>
            refine q_pos _ rfl ?_
            exact j95 (cc := True) rfl ⟨fun _ z => by rw [hh] at z; exact absurd z.2 (by decide), fun _ => True.intro⟩ g0
          | true =>
            refine q_neg _ bn1_ne ?_
            exact j95 (cc := False) rfl ⟨fun z => z.elim, fun z => z ⟨w2, hh⟩⟩ g0
        · refine q_neg _ (ii_eqF (b := 2) (by omega)) ?_
          exact j95 (cc := True) rfl ⟨fun _ z => w2 z.1, fun _ => True.intro⟩ g0
      unfold c_DR_read_j53
      refine r_must (c := True) (k := 1) J' (J'.grd (by decide)) rfl rfl (fun q => absurd True.intro q) fun _ => ?_
      unfold c_DR_read_j67
      by_cases w0 : w = 0
      · refine q_pos _ (by rw [w0]; rfl) ?_
        by_cases d0 : c = 0
        · refine q_pos _ (by rw [d0]; rfl) ?_
          exact j72 (cc := True) rfl ⟨fun _ z => z.2 d0, fun _ => True.intro⟩
        · refine q_neg _ (ii_eq0F (by omega)) ?_
          exact j72 (cc := False) rfl ⟨fun z => z.elim, fun z => z ⟨w0, d0⟩⟩
      · refine q_neg _ (ii_eq0F (by omega)) ?_
        exact j72 (cc := True) rfl ⟨fun _ z => w0 z.1, fun _ => True.intro⟩
end
