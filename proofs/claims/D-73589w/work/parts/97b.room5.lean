/-! PURE SIDE: rooms: lines, by the component -/
set_option maxRecDepth 100000
section
variable {b own0 own N R' : Nat → Nat} {T : Nat → Bool} {A : Nat → LL} {f : Nat → Nat} {n ro na z' m C0 S0 : Nat} {hl : Bool} {rows seed : Int32} {t t' : Tk} {h h0 h1 h' : PH} {Z : Rt → PH → Prop} {S : RS}
theorem Lt.nil : Lt (fun _ => []) [] := ⟨by decide, (fun x hx => by cases hx), fun k hk => by
  match k, hk with
  | 0, _ => rfl
  | 1, _ => rfl
  | 2, _ => rfl
  | 3, _ => rfl
  | 4, _ => rfl
  | 5, _ => rfl
  | 6, _ => rfl⟩
/-- low is written, the tried state begun anew -/
theorem TS.begin {lo : Nat} (I : TS b own0 R' z' ro na h0 C0 S0 (ii S.n) seed S m own N T A h) (wf : Wf h) (hb : ∀ r, S.bs r = []) (hT : S.T = []) (hlo : 4 ≤ lo ∧ lo ≤ 32) : EV (c_S_begin (hset h ro (.inr (2, [.ref na, .int (ii S.n), .int (ii lo)]))) z' ro) (fun h' => ∃ T', TS b own0 R' z' ro na h0 C0 S0 (ii S.n) seed (lo, S.2) m own N T' (fun _ => []) h' ∧ GF own own R' z' (hset h ro (.inr (2, [.ref na, .int (ii S.n), .int (ii lo)]))) h') := by
  obtain ⟨i1, i2, i3, ⟨i4, g, i5, i6⟩, i7, i8, i9⟩ := I
  have S1 : SR own (b 0) (hset h ro (.inr (2, [.ref na, .int (ii S.n), .int (ii lo)]))) z' S.lo A R' N T (ii S.n) seed := i1.kp (fun _ _ _ => rfl) (fun x c e q => up_nx (fun w => by
    subst w
    rw [i4] at e
    injection e with e
    rw [← e] at q
    rcases q with q | q | q
    · exact ff q rfl
    · exact absurd q (by show ¬ (2 * 2 = 6); decide)
    · exact absurd q (by show ¬ (2 * 2 = 15); decide)) e)
  have w1 : Wf (hset h ro (.inr (2, [.ref na, .int (ii S.n), .int (ii lo)]))) := wf.setE i4
  obtain ⟨h2, e2, S2, G2, z2⟩ := z_begin (low' := lo) S1.any w1 up_eq hlo
  obtain ⟨ra, na', rf, nf, ez, _⟩ := S1.1
  have n1 : na ≠ ro := kd_ne i5 i4 rfl
  refine ⟨h2, e2, fun _ => false, ⟨S2, ⟨hlo, ⟨fun r hr => ?_, ?_⟩⟩, i3, ⟨G2.kd up_eq (kd_ne up_eq ez rfl) rfl, g, G2.2.2.2.2.2 _ _ (up_nx n1 i5) (kd_ne (up_nx n1 i5) ez rfl) (Or.inl fun k hk w => i1.2.2.2 k hk (w.symm.trans i3.2)), i6⟩, (i7.set i4 i8.1 i8.2.2).trans (GX.gf G2) i8.2.2, i8, ?_⟩, G2⟩
  · show [] = bldL lo (S.bs r) ∧ (S.bs r).length ≤ 600
    rw [hb r]
    exact ⟨rfl, Nat.zero_le _⟩
  · show Lt (fun _ => []) S.T
    rw [hT]
    exact Lt.nil
  · rw [z2]
    exact i9
/-- a line behind its word -/
theorem r_rmW {w : Nat} {W : Int32} (J : JR b f n ro z' S.hl t h) (I : TS b own0 R' z' ro na h0 C0 S0 (ii (0 : Nat)) seed S S.n own N T A h) (hS : RSo S) (hw : w < 3) (eW : W = ii w) (c0 : w = 0 → S.n = 0 ∧ S.T = []) (c1 : w = 1 → S.n < 4) (kf : ∀ kd pl, rmW f n w S t = .inl (kd, pl) → ∀ t' S' m' hl' own' N' T' A' h1 h', JR b f n ro z' hl' t' h1 → TS b own0 R' z' ro na h0 C0 S0 (ii (0 : Nat)) seed S' m' own' N' T' A' h1 → TH b h1 kd pl h' → Z (.inr (b 2, 0)) h') (kk : ∀ S' t', rmW f n w S t = .inr (S', t') → ∀ own' N' T' A' h', JR b f n ro z' S'.hl t' h' → TS b own0 R' z' ro na h0 C0 S0 (ii (0 : Nat)) seed S' S'.n own' N' T' A' h' → Z (.inl none) h') : Ends (c_DR_readLine h (b 5) W) Z := by
  subst eW
  have J' := J
  obtain ⟨⟨v, mn, nmv, e, tv⟩, _⟩ := J
  have tp := J'.ok.1.1
  have hn := RJ.hn J'
  have wf := RJ.wf J'
  unfold c_DR_readLine
  refine q_grd e (by decide) ?_
  match w, hw with
  | 0, _ =>
    obtain ⟨n0, t0⟩ := c0 rfl
    have i4 := I.2.2.2.1.1
    have en : ii ((S.n : Nat) : Int) = ii ((0 : Nat) : Int) := by rw [n0]
    refine q_pos _ rfl ?_
    refine q_gQr e (by decide) rfl ?_
    have er : rmW f n 0 S t = rmV f n S t := rfl
    refine r_number (lo := 4) (hi := 32) J' (J'.grd (by decide)) rfl rfl (by decide) (fun q h' th => kf 1 t.at_ (by rw [er]; unfold rmV; rw [if_pos q]) t S S.n S.hl own N T A h h' J' I th) (fun q1 q2 h' th => kf 2 t.at_ (by rw [er]; unfold rmV; rw [if_neg (fun q => q q1), if_pos q2]) t S S.n S.hl own N T A h h' J' I th) fun q1 q2 h1 J1 o1 => ?_
    refine q_nn ?_
    have I1 := I.onl J' o1 (RJ.wf J1)
    have i14 := I1.2.2.2.1.1
    refine q_pI i14 (by decide) (Nat.le_of_ble_eq_true rfl) ?_
    have J2 := JR.set (c := .inr (2, [.ref na, .int (ii S.n), .int (ii (nv (seg f t.at_ t.p)))])) J1 i14 (Or.inr rfl)
    obtain ⟨⟨v2, mn2, nm2, e2, tv2⟩, _⟩ := id J2
    refine q_gQr e2 (by decide) rfl ?_
    refine q_gQr e2 (by decide) rfl ?_
    refine q_nn ?_
    refine q_nn ?_
    have I1' : TS b own0 R' z' ro na h0 C0 S0 (ii S.n) seed S S.n own N T A h1 := by rw [en]; exact I1
    have zc := I1.zc
    refine q_hV (I1'.begin (lo := nv (seg f t.at_ t.p)) (RJ.wf J1) (fun r => hS.2.2 r (by omega)) t0 q2) fun h3 ⟨T3, I3, G3⟩ => ?_
    obtain ⟨fz, ez⟩ := zc
    have J3 := JR.gf J2 G3 ⟨fz, up_nx (kd_ne ez i14 rfl) ez⟩
    refine q_rV (kk (nv (seg f t.at_ t.p), S.2) (nx f n 900 t) (by rw [er]; unfold rmV; rw [if_neg (fun q => q q1), if_neg (fun q => q q2)]) own N T3 (fun _ => []) h3 J3 ?_)
    rw [en] at I3
    exact I3
  | 1, _ =>
    refine q_neg _ (by decide) ?_
    refine q_pos _ rfl ?_
    refine hV_hV ?_
    have er : rmW f n 1 S t = rmN f n S t := rfl
    exact r_rmN J' I hS (c1 rfl) (fun kd pl ee t' S' m' own' N' T' A' h1 h' Jx Ix th => Or.inr ⟨_, rfl, kf kd pl (er.trans ee) t' S' m' S.hl own' N' T' A' h1 h' Jx Ix th⟩) (fun S' t' ee own' N' T' A' h' Jx Ix => Or.inl ⟨rfl, q_rV (kk S' t' (er.trans ee) own' N' T' A' h' (by
      have : S'.hl = S.hl := by
        unfold rmN at ee
        by_cases d1 : nmOk f t = false
        · rw [if_pos d1] at ee; cases ee
        rw [if_neg d1] at ee
        by_cases d2 : ofN S.nm (seg f t.at_ t.p) S.n 0 ≠ -1
        · rw [if_pos d2] at ee; cases ee
        rw [if_neg d2] at ee
        cases hr : rmR f n 942 [] (nx f n 900 t) with
        | inl x => rw [hr] at ee; cases ee
        | inr x =>
          rw [hr] at ee
          injection ee with ee
          injection ee with ee _
          rw [← ee]
      rw [this]; exact Jx) Ix)⟩)
  | 2, _ =>
    refine q_neg _ (by decide) ?_
    refine q_neg _ (by decide) ?_
    refine q_pZ e (by decide) (Nat.le_of_ble_eq_true rfl) (Or.inr rfl) ?_
    obtain ⟨u1, u2⟩ := RJ.upd (y8 := .ref ro) (y9 := .ref z') (y10 := ii (bn true)) J' tv J'.ok
    have I1 := I.onl J' u2 (RJ.wf u1)
    have I2 : TS b own0 R' z' ro na h0 C0 S0 (ii (0 : Nat)) seed (S.1, S.2.1, S.2.2.1, S.2.2.2.1, S.2.2.2.2.1, true) S.n own N T A _ := I1
    have er : rmW f n 2 S t = rmT f n S t := rfl
    refine r_rmLt 942 FU t (S.1, S.2.1, S.2.2.1, S.2.2.2.1, S.2.2.2.2.1, true) own N T A _ (by unfold FU; omega) (by decide) (fun q => by have := (J'.ok.2.1 q).2; omega) u1 I2 (fun kd pl ee t' S' own' N' T' A' h1 h' Jx Ix th => ?_) (fun l t' ee own' N' T' A' h' Jx Ix => ?_)
    · have ee : rmLt f n 942 S.T t = .inl (kd, pl) := ee
      exact kf kd pl (by rw [er]; unfold rmT; rw [ee]) t' S' S.n true own' N' T' A' h1 h' Jx Ix th
    · have ee : rmLt f n 942 S.T t = .inr (l, t') := ee
      exact kk (S.lo, S.n, S.nm, S.bs, l, true) t' (by rw [er]; unfold rmT; rw [ee]) own' N' T' A' h' Jx Ix
end
