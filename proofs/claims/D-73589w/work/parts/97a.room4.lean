/-! PURE SIDE: rooms: a row's line, by the component -/
set_option maxRecDepth 100000
/-- what is so of what was read -/
def RSo (S : RS) : Prop := S.n ≤ 4 ∧ (∀ r, r < S.n → okN (S.nm r)) ∧ ∀ r, S.n ≤ r → S.bs r = []
section
variable {b own0 own N R' : Nat → Nat} {T : Nat → Bool} {A : Nat → LL} {f : Nat → Nat} {n ro na z' m C0 S0 : Nat} {hl : Bool} {rows seed : Int32} {t t' : Tk} {h h0 h1 h' : PH} {Z : Rt → PH → Prop} {S : RS}
/-- a write to the new room's cells does not touch the reader -/
theorem JR.set {a : Nat} {c d : PC} (J : JR b f n ro z' hl t h) (e : h.1 a = some d) (k : kd d = 3 ∨ kd d = 4) : JR b f n ro z' hl t (hset h a c) := by
  obtain ⟨d5, d1, d2⟩ := JR.c10 J
  refine RJ.other J rfl ((RJ.wf J).setE e) fun x c' e' q => up_nx (fun w => ?_) e'
  subst w
  rw [e] at e'
  injection e' with e'
  subst e'
  rcases q with q | q | q | q | q | q
  · omega
  · omega
  · omega
  · omega
  · omega
  · rw [q, d1] at e
    injection e with e
    rw [← e] at k
    omega
/-- a name is written -/
theorem TS.name {g : Nat → Int64} {l : List Nat} (I : TS b own0 R' z' ro na h0 C0 S0 rows seed S S.n own N T A h) (wf : Wf h) (eg : h.1 na = some (.inl (1, 4, .inr (.inl g)))) (hg : ∀ r, r < S.n → g r = ll (n256 (S.nm r))) : TS b own0 R' z' ro na h0 C0 S0 rows seed (S.1, S.2.1, va_up S.2.2.1 S.2.1 l, S.2.2.2) (S.n + 1) own N T A (hset h na (.inl (1, 4, .inr (.inl (vp_updL g S.n (ll (n256 l))))))) := by
  obtain ⟨i1, i2, i3, ⟨i4, g', i5, i6⟩, i7, i8, i9⟩ := I
  refine ⟨i1.mk (M := b 0) i1.2.2.2 (fun x c e q => up_nx (fun w => ?_) e), i2, i3, ⟨up_nx (kd_ne i4 eg rfl) i4, _, up_eq, fun r hr => ?_⟩, i7.set eg i8.2.1 i8.2.2, i8, i9⟩
  · subst w
    rw [eg] at e
    injection e with e
    rcases q with q | q
    · exact q i3.2
    · rw [← e] at q; exact ff rfl q
  · show vp_updL g S.n (ll (n256 l)) r = ll (n256 (va_up S.nm S.n l r))
    unfold vp_updL
    by_cases c : r = S.n
    · rw [if_pos c, c, up_at]
    · rw [if_neg c, va_up_ne _ _ c]
      exact hg r (by omega)
/-- the count is written -/
theorem TS.count {k : Nat} (I : TS b own0 R' z' ro na h0 C0 S0 rows seed S m own N T A h) : TS b own0 R' z' ro na h0 C0 S0 rows seed (S.1, k, S.2.2) m own N T A (hset h ro (.inr (2, [.ref na, .int (ii k), .int (ii S.lo)]))) := by
  obtain ⟨i1, i2, i3, ⟨i4, g, i5, i6⟩, i7, i8, i9⟩ := I
  refine ⟨i1.kp (fun _ _ _ => rfl) (fun x c e q => up_nx (fun w => ?_) e), i2, i3, ⟨up_eq, g, up_nx (kd_ne i5 i4 rfl) i5, i6⟩, i7.set i4 i8.1 i8.2.2, i8, i9⟩
  subst w
  rw [i4] at e
  injection e with e
  rw [← e] at q
  rcases q with q | q | q
  · exact ff q rfl
  · exact absurd q (by show ¬ (2 * 2 = 6); decide)
  · exact absurd q (by show ¬ (2 * 2 = 15); decide)
theorem r_rmN (J : JR b f n ro z' hl t h) (I : TS b own0 R' z' ro na h0 C0 S0 rows seed S S.n own N T A h) (hS : RSo S) (h4 : S.n < 4) (kf : ∀ kd pl, rmN f n S t = .inl (kd, pl) → ∀ t' S' m' own' N' T' A' h1 h', JR b f n ro z' hl t' h1 → TS b own0 R' z' ro na h0 C0 S0 rows seed S' m' own' N' T' A' h1 → TH b h1 kd pl h' → Z (.inr (b 2, 0)) h') (kk : ∀ S' t', rmN f n S t = .inr (S', t') → ∀ own' N' T' A' h', JR b f n ro z' hl t' h' → TS b own0 R' z' ro na h0 C0 S0 rows seed S' S'.n own' N' T' A' h' → Z (.inl none) h') : Ends (c_DR_readRow h (b 5)) Z := by
  have J' := J
  obtain ⟨⟨v, mn, nmv, e, tv⟩, _⟩ := J
  have tp := J'.ok.1.1
  have hn := RJ.hn J'
  have wf := RJ.wf J'
  have I' := I
  obtain ⟨i1, i2, i3, ⟨i4, g, i5, i6⟩, i7, i8, i9⟩ := I
  have na5 : NmA h na S.nm S.n := ⟨g, i5, by omega, fun r hr => ⟨i6 r hr, hS.2.1 r hr⟩⟩
  unfold c_DR_readRow
  refine q_grd e (by decide) ?_
  refine q_hIe (by rw [J'.grd (by decide)]; exact p_isName J') ?_
  refine r_must (c := nmOk f t = true) (k := 1) J' (J'.grd (by decide)) (bn_dec _) rfl (fun w h' th => kf 1 t.at_ (by unfold rmN; rw [if_pos (by cases hw : nmOk f t with | false => rfl | true => exact absurd hw w)]) t S S.n own N T A h h' J' I' th) fun w => ?_
  have h1 := nmOk_k w
  refine q_gQr e (by decide) rfl ?_
  refine q_nn ?_
  refine q_gQr i4 (by decide) rfl ?_
  refine q_gQr e (by decide) rfl ?_
  refine q_nn ?_
  refine q_gI i4 (by decide) rfl ?_
  refine q_nn ?_
  refine q_hIe (by rw [J'.grd (by decide)]; exact p_of J' na5 h1) ?_
  rw [mi1]
  have j37 : ∀ {cc : Prop} [Decidable cc] {x : Int32}, x = ii (bn (decide cc)) → (cc ↔ ofN S.nm (seg f t.at_ t.p) S.n 0 = -1) → Ends (c_DR_readRow_j37 h (b 5) x (b 5)) Z := by
    intro cc _ x hx hcc
    unfold c_DR_readRow_j37
    refine r_must (c := cc) (k := 3) J' (J'.grd (by decide)) hx rfl (fun q h' th => kf 3 t.at_ (by unfold rmN; rw [if_neg (by rw [w]; decide), if_pos (fun y => q (hcc.2 y))]) t S S.n own N T A h h' J' I' th) fun yc => ?_
    have e1 := hcc.1 yc
    have er : rmN f n S t = match rmR f n 942 [] (nx f n 900 t) with
      | .inl e => .inl e
      | .inr (l, t') => .inr ((S.lo, S.n + 1, va_up S.nm S.n (seg f t.at_ t.p), va_up S.bs S.n l, S.T, S.hl), t') := by
      unfold rmN
      rw [if_neg (by rw [w]; decide), if_neg (fun q => q e1)]
      rfl
    refine q_gQr e (by decide) rfl ?_
    refine q_nn ?_
    refine q_gI i4 (by decide) rfl ?_
    refine q_gQr e (by decide) rfl ?_
    refine q_nn ?_
    refine q_gQr i4 (by decide) rfl ?_
    refine q_gL e (by decide) rfl ?_
    refine q_nn ?_
    rw [(tv.1 h1).2]
    refine q_stL i5 (by omega) ?_
    rw [Int.toNat_natCast]
    have J2 := JR.set (c := .inl (1, 4, .inr (.inl (vp_updL g S.n (ll (n256 (seg f t.at_ t.p))))))) J' i5 (Or.inl rfl)
    have I2 := I'.name (l := seg f t.at_ t.p) wf i5 i6
    refine r_next J2 (J2.grd (by decide)) fun h3 J3 o3 => ?_
    have I3 := I2.onl J2 o3 (RJ.wf J3)
    have eb : S.bs S.n = [] := hS.2.2 S.n (Nat.le_refl _)
    refine r_rmR (r := S.n) h4 942 FU (nx f n 900 t) _ own N T A h3 (by unfold FU; omega) (by decide) (fun q => by have w3 : t.p < (nx f n 900 t).p := tok_mu (f := f) tp q; omega) J3 I3 (fun kd pl ee t' S' own' N' T' A' h1 h' Jx Ix th => ?_) (fun l t' ee own' N' T' A' h' Jx Ix => ?_)
    · have ee : rmR f n 942 (S.bs S.n) (nx f n 900 t) = .inl (kd, pl) := ee
      rw [eb] at ee
      exact kf kd pl (by rw [er, ee]) t' S' (S.n + 1) own' N' T' A' h1 h' Jx Ix th
    · have ee : rmR f n 942 (S.bs S.n) (nx f n 900 t) = .inr (l, t') := ee
      rw [eb] at ee
      obtain ⟨⟨vx, mx, nx', ex, tx⟩, _⟩ := id Jx
      have ix4 := Ix.2.2.2.1.1
      refine q_gQr ex (by decide) rfl ?_
      refine q_nn ?_
      refine q_gI ix4 (by decide) rfl ?_
      refine q_pI ix4 (by decide) (Nat.le_of_ble_eq_true rfl) ?_
      rw [add1]
      exact q_rV (kk (S.lo, S.n + 1, va_up S.nm S.n (seg f t.at_ t.p), va_up S.bs S.n l, S.T, S.hl) t' (by rw [er, ee]) own' N' T' A' _ (JR.set Jx ix4 (Or.inr rfl)) (Ix.count (k := S.n + 1)))
  by_cases c : ofN S.nm (seg f t.at_ t.p) S.n 0 = -1
  · refine q_pos _ (by rw [c]) ?_
    exact j37 (cc := True) rfl ⟨fun _ => c, fun _ => True.intro⟩
  · rcases ofN_le (nm := S.nm) (l := seg f t.at_ t.p) S.n 0 with q | ⟨r, q1, q2⟩
    · exact absurd q c
    · refine q_neg _ (by rw [q1]; exact ii_eqF (by omega)) ?_
      exact j37 (cc := False) rfl ⟨fun q => q.elim, fun q => absurd q c⟩
end
