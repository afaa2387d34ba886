/-! PURE SIDE: both sides: images are brought back -/
set_option maxRecDepth 100000
/-- old cells stand -/
def OL (h h' : PH) : Prop := (∀ x c, h.1 x = some c → h'.1 x = some c) ∧ h'.2.2 = h.2.2 ∧ Wf h' ∧ h.2.1.1 ≤ h'.2.1.1 ∧ h.2.1.2 ≤ h'.2.1.2
section
variable {own own' : Nat → Nat} {B a : Nat} {h h1 h2 h' : PH} {ls : LL} {Q : Rt → PH → Prop} {b : Nat → Nat} {A : Nat → LL}
theorem OL.trans (o : OL h h1) (k : OL h1 h2) : OL h h2 := ⟨fun x c e => k.1 x c (o.1 x c e), k.2.1.trans o.2.1, k.2.2.1, Nat.le_trans o.2.2.2.1 k.2.2.2.1, Nat.le_trans o.2.2.2.2 k.2.2.2.2⟩
theorem OL.new {n : Nat} {c : PC} (w : Wf h) : OL h (hnew h n c) := ⟨fun _ _ e => new_old w e, rfl, w.new, Nat.le_succ _, Nat.le_add_right _ _⟩
theorem OL.rf (w : Wf h) : OL h h := ⟨fun _ _ e => e, rfl, w, Nat.le_refl _, Nat.le_refl _⟩
theorem q_clL {n : Nat} {f : Nat → Int64} {K : Nat → PH → Option RH} (e : h.1 a = some (.inl (1, n, .inr (.inl f)))) (kk : Ends (K h.2.1.1 (hnew h n (.inl (1, n, .inr (.inl f))))) Q) : Ends (clL h a K) Q := by
  unfold clL aL
  rw [e]
  exact kk
theorem q_clI {n : Nat} {f : Nat → Int32} {K : Nat → PH → Option RH} (e : h.1 a = some (.inl (0, n, .inl f))) (kk : Ends (K h.2.1.1 (hnew h n (.inl (0, n, .inl f)))) Q) : Ends (clI h a K) Q := by
  unfold clI aI
  rw [e]
  exact kk
theorem q_grdA {t : Nat} {P : Option RH} {y : Nat × vp_A} (e : h.1 a = some (.inl y)) (ht : y.1 = t) (kk : Ends P Q) : Ends (grdA h a t P) Q := by
  unfold grdA
  rw [e]
  show Ends (if y.1 = t then P else none) Q
  rw [if_pos ht]
  exact kk
theorem p_copy (P : PK own B h a ls) (wf : Wf h) : EQ (c_P_copy h a) (fun v h' => ∃ a', v = some a' ∧ PK (ow own h.2.1.1 B) B h' a' ls ∧ OL h h' ∧ h'.2.1.1 = h.2.1.1 + 3 ∧ h'.2.1.2 = h.2.1.2 + 2 + (ls.flatten.length + 63) / 64 + ls.length) := by
  obtain ⟨ba, sa, f, g, p1, p2, p3, p4, p5, p6⟩ := P
  refine EQ.of ?_
  unfold c_P_copy
  refine q_grd p1 (by decide) ?_
  refine q_newO ?_
  have w2 : Wf (hnew h 2 (.inr (11, [.null, .null]))) := wf.new
  have o2 : OL h (hnew h 2 (.inr (11, [.null, .null]))) := OL.new wf
  have e2 : (hnew h 2 (.inr (11, [.null, .null]))).1 h.2.1.1 = some (.inr (11, [.null, .null])) := new_eq
  have s2 : (hnew h 2 (.inr (11, [.null, .null]))).2.1 = (h.2.1.1 + 1, h.2.1.2 + 2) := rfl
  show Ends (gQ (hnew h 2 (.inr (11, [.null, .null]))) a [11] 0 _) _
  generalize hnew h 2 (.inr (11, [.null, .null])) = h2 at *
  refine q_gQr (o2.1 _ _ p1) (by decide) rfl ?_
  refine q_nn ?_
  refine q_clL (o2.1 _ _ p3) ?_
  have w3 : Wf (hnew h2 ((ls.flatten.length + 63) / 64) (.inl (1, (ls.flatten.length + 63) / 64, .inr (.inl f)))) := w2.new
  have o3 : OL h2 (hnew h2 ((ls.flatten.length + 63) / 64) (.inl (1, (ls.flatten.length + 63) / 64, .inr (.inl f)))) := OL.new w2
  have e3 : (hnew h2 ((ls.flatten.length + 63) / 64) (.inl (1, (ls.flatten.length + 63) / 64, .inr (.inl f)))).1 h2.2.1.1 = some (.inl (1, (ls.flatten.length + 63) / 64, .inr (.inl f))) := new_eq
  have s3 : (hnew h2 ((ls.flatten.length + 63) / 64) (.inl (1, (ls.flatten.length + 63) / 64, .inr (.inl f)))).2.1 = (h2.2.1.1 + 1, h2.2.1.2 + (ls.flatten.length + 63) / 64) := rfl
  generalize hnew h2 ((ls.flatten.length + 63) / 64) (.inl (1, (ls.flatten.length + 63) / 64, .inr (.inl f))) = h3 at *
  refine q_grdA e3 rfl ?_
  refine q_gQr (o3.1 _ _ (o2.1 _ _ p1)) (by decide) rfl ?_
  refine q_nn ?_
  refine q_clI (o3.1 _ _ (o2.1 _ _ p4)) ?_
  have w4 : Wf (hnew h3 ls.length (.inl (0, ls.length, .inl g))) := w3.new
  have o4 : OL h3 (hnew h3 ls.length (.inl (0, ls.length, .inl g))) := OL.new w3
  have e4 : (hnew h3 ls.length (.inl (0, ls.length, .inl g))).1 h3.2.1.1 = some (.inl (0, ls.length, .inl g)) := new_eq
  have s4 : (hnew h3 ls.length (.inl (0, ls.length, .inl g))).2.1 = (h3.2.1.1 + 1, h3.2.1.2 + ls.length) := rfl
  generalize hnew h3 ls.length (.inl (0, ls.length, .inl g)) = h4 at *
  refine q_grdA e4 rfl ?_
  have e4' := o4.1 _ _ (o3.1 _ _ e2)
  have ki : c_P_init h4 h.2.1.1 h2.2.1.1 h3.2.1.1 = rV (hset h4 h.2.1.1 (.inr (11, [.ref h2.2.1.1, .ref h3.2.1.1]))) := by
    have : Ends (c_P_init h4 h.2.1.1 h2.2.1.1 h3.2.1.1) (fun r h' => r = .inl none ∧ h' = hset h4 h.2.1.1 (.inr (11, [.ref h2.2.1.1, .ref h3.2.1.1]))) := by
      unfold c_P_init
      refine q_grd e4' (by decide) ?_
      refine q_pQ e4' (by decide) (Nat.le_of_ble_eq_true rfl) ?_
      refine q_pQ up_eq (by decide) (Nat.le_of_ble_eq_true rfl) ?_
      rw [hset_hset]
      exact q_rV ⟨rfl, rfl⟩
    obtain ⟨r, h', z1, z2, z3⟩ := this
    rw [z1, z2, z3]; rfl
  refine q_hVe ki ?_
  have lt : ∀ {x c}, h.1 x = some c → x ≠ h.2.1.1 := fun {x c} e => Nat.ne_of_lt (wf.lt e)
  have l2 : h2.2.1.1 = h.2.1.1 + 1 := by rw [s2]
  have l3 : h3.2.1.1 = h2.2.1.1 + 1 := by rw [s3]
  have l4 : h4.2.1.1 = h3.2.1.1 + 1 := by rw [s4]
  refine q_rQ ⟨some h.2.1.1, rfl, h.2.1.1, rfl, ⟨h2.2.1.1, h3.2.1.1, f, g, up_eq, ⟨ow_ge (by omega), ow_ge (by omega)⟩, up_nx (by omega) (o4.1 _ _ e3), up_nx (by omega) e4, p5, p6⟩, ⟨fun x c e => up_nx (lt e) (o4.1 _ _ (o3.1 _ _ (o2.1 _ _ e))), ?_, w4.setE e4', ?_, ?_⟩, ?_, ?_⟩
  · exact o4.2.1.trans (o3.2.1.trans o2.2.1)
  · show h.2.1.1 ≤ h4.2.1.1; omega
  · show h.2.1.2 ≤ h4.2.1.2; rw [s4]; show _ ≤ h3.2.1.2 + _; rw [s3]; show _ ≤ h2.2.1.2 + _ + _; rw [s2]; show _ ≤ h.2.1.2 + 2 + _ + _; omega
  · show h4.2.1.1 = _; omega
  · show h4.2.1.2 = _; rw [s4]; show h3.2.1.2 + _ = _; rw [s3]; show h2.2.1.2 + _ + _ = _; rw [s2]
theorem PK.set17 {c d : PC} {p : Nat} (P : PK own B h p ls) (e : h.1 a = some d) (k : kd d = 17) : PK own B (hset h a c) p ls := by
  obtain ⟨ba, sa, f, g, p1, p2, p3, p4, p5, p6⟩ := P
  have ne : ∀ {x c'}, h.1 x = some c' → kd c' ≠ 17 → x ≠ a := fun {x c'} ex q w => by
    rw [w, e] at ex
    injection ex with ex
    rw [← ex] at q
    exact q k
  exact ⟨ba, sa, f, g, up_nx (ne p1 (by show 2 * 11 ≠ 17; decide)) p1, p2, up_nx (ne p3 (by show 2 * 1 + 1 ≠ 17; decide)) p3, up_nx (ne p4 (by show 2 * 0 + 1 ≠ 17; decide)) p4, p5, p6⟩
theorem PK.ol {p : Nat} (P : PK own B h p ls) (o : OL h h') (ho : ∀ x c, h.1 x = some c → own' x = own x) : PK own' B h' p ls := P.im ho fun x c e _ => o.1 x c e
/-- the loop over the packs -/
theorem b_copies {h0 : PH} {k0 ar p0 : Nat} {v0 v2 : Value} {own0 : Nat → Nat} {Z : Rt → PH → Prop} (w0 : Wf h0) (ek : h0.1 k0 = some (.inr (18, [v0, .ref p0, v2]))) (P0 : PA own0 (b 0) h0 p0 A) (hA : ∀ k, k < 11 → (A k).flatten.length ≤ 600 ∧ (A k).length ≤ 150) (har : h0.2.1.1 ≤ ar) (kk : ∀ own' h', OL h0 h' → (∀ x, x < h0.2.1.1 → own' x = own0 x) → PA own' (b 0) h' ar A → h'.2.1.1 ≤ h0.2.1.1 + 34 → h'.2.1.2 ≤ h0.2.1.2 + 1793 → Ends (gQ h' (b 0) [0] 7 fun v2 => nn v2 fun a3 => hV (c_S_unpack h' a3 ar) noX fun h5 => nn (some k0) fun a6 => gQ h5 a6 [18] 2 fun v8 => pQ h5 (b 0) [0] 19 v8 fun h9 => pI h9 (b 0) [0] 15 (0 : Int32) fun h10 => rZ (1 : Int32) h10) Z) : ∀ (m fu i : Nat) (own : Nat → Nat) (h : PH) (f : Nat → Option Nat), m < fu → i + m = 11 → OL h0 h → (∀ x, x < h0.2.1.1 → own x = own0 x) → h.1 ar = some (qA 8 11 f) → (∀ j, j < i → ∃ p, f j = some p ∧ PK own (b 0) h p (A j)) → h.2.1.1 ≤ h0.2.1.1 + 1 + 3 * i → h.2.1.2 ≤ h0.2.1.2 + 11 + 162 * i → Ends (itr (c_B_restore_l58) (fun _ _ _ _ _ => none) fu h (b 0) (some k0) ar (ii i)) Z := by
  intro m
  induction m with
  | zero =>
    intro fu i own h f hf hi o ho ea hp y1 y2
    obtain ⟨fu, rfl⟩ : ∃ x, fu = x + 1 := ⟨fu - 1, by omega⟩
    have e : i = 11 := by omega
    subst e
    rw [itr_succ]
    unfold c_B_restore_l58
    refine q_alen2 ea (by decide) ?_
    refine q_pos _ (by decide) ?_
    exact kk own h o ho ⟨f, ea, hp⟩ (by omega) (by omega)
  | succ m ih =>
    intro fu i own h f hf hi o ho ea hp y1 y2
    obtain ⟨fu, rfl⟩ : ∃ x, fu = x + 1 := ⟨fu - 1, by omega⟩
    obtain ⟨f0, q1, q2⟩ := P0
    obtain ⟨p, q3, q4⟩ := q2 i (by omega)
    have hoc : ∀ x c, h0.1 x = some c → own x = own0 x := fun x c e => ho x (w0.lt e)
    have wf := o.2.2.1
    have hAi := hA i (by omega)
    rw [itr_succ]
    unfold c_B_restore_l58
    refine q_alen2 ea (by decide) ?_
    refine q_neg _ (ii_leF (by omega)) ?_
    refine q_nn ?_
    refine q_gQr (o.1 _ _ ek) (by decide) rfl ?_
    refine q_nn ?_
    refine q_ldQn (o.1 _ _ q1) (by decide) (by omega) q3 ?_
    refine q_nn ?_
    obtain ⟨v, h1, c1, a', c2, c3, c4, c5, c6⟩ := p_copy (q4.ol o hoc) wf
    subst c2
    refine q_hQe c1 ?_
    have ea1 := c4.1 _ _ ea
    have c3' := c3
    obtain ⟨ba, sa, f', g', r1, _⟩ := c3'
    refine q_stQ ea1 (by decide) (by omega) r1 rfl ?_
    rw [Int.toNat_natCast, add1]
    have oc : ∀ x c, h.1 x = some c → ow own h.2.1.1 (b 0) x = own x := fun x c e => ow_lt (wf.lt e)
    have o' : OL h0 (hset h1 ar (qA 8 11 (va_up f i (some a')))) := by
      refine ⟨fun x c e => up_nx (fun w => ?_) (c4.1 _ _ (o.1 x c e)), (c4.2.1.trans o.2.1), c4.2.2.1.setE ea1, Nat.le_trans o.2.2.2.1 c4.2.2.2.1, Nat.le_trans o.2.2.2.2 c4.2.2.2.2⟩
      have := w0.lt e
      omega
    refine ih fu (i + 1) (ow own h.2.1.1 (b 0)) (hset h1 ar (qA 8 11 (va_up f i (some a')))) (va_up f i (some a')) (by omega) (by omega) o' (fun x hx => ?_) up_eq (fun j hj => ?_) ?_ ?_
    · rw [ow_lt (by have := o.2.2.2.1; omega)]; exact ho x hx
    · by_cases c : j = i
      · subst c
        exact ⟨a', up_at, c3.set17 ea1 rfl⟩
      · obtain ⟨p', w1, w2⟩ := hp j (by omega)
        exact ⟨p', by rw [va_up_ne _ _ c]; exact w1, (w2.ol c4 oc).set17 ea1 rfl⟩
    · show h1.2.1.1 ≤ _; omega
    · show h1.2.1.2 ≤ _; omega
end
abbrev xR (X : XS) (w : KP) : XS := (X.1, X.2.1, w, [], X.2.2.2.2)
section
variable {b own own' : Nat → Nat} {X : XS} {h h1 h' : PH} {held : Int} {rm z z' : Nat} {skm : Int} {sn : Option Nat} {R R' N N' N2 : Nat → Nat} {Tb T2 : Nat → Bool} {seed rows' seed' seed2 : Int32} {k : Nat} {w w' : KP}
theorem ST.gf2 (S : ST b own w z z' R R' N N' Tb seed rows' seed' h) (S2 : SR own' (b 0) h' z w'.low w'.A R N2 T2 (ii w'.n) seed2) (G : GF own own' R z h h') : ST b own' w' z z' R R' N2 N' T2 seed2 rows' seed' h' := by
  obtain ⟨fs, ez⟩ := S.zc
  obtain ⟨s1, s2, P, wf⟩ := S
  obtain ⟨ra, na, rf, nf, e', _⟩ := s2.1
  refine ⟨S2, s2.gf G wf ez P.2.2.2.2.1 (fun k hk => by rw [P.1.1]; exact Ne.symm (s2.2.2.2 k hk)) P.2.2.2.1, ⟨⟨(G.2.2.2.2.1 _ (wf.lt ez)).trans P.1.1, (G.2.2.2.2.1 _ (wf.lt e')).trans P.1.2⟩, P.2⟩, G.wf⟩
theorem OL.kx {ek : Nat} (o : OL h h') (ho : ∀ x c, h.1 x = some c → own' x = own x) : KX b own own' ek h h' := ⟨o.2.1, ho, fun x c e _ => o.1 x c e, fun x c e _ _ => o.1 x c e, fun x c e _ => o.1 x c e⟩
theorem OL.fx {B M : Nat} (o : OL h h') (ho : ∀ x, x < h.2.1.1 → own' x = own x) : FX own own' B M h h' := ⟨o.2.2.2.1, o.2.2.2.2, o.2.1, o.2.2.1, ho, fun x c e _ => o.1 x c e⟩
theorem b_restore (O : CBo b own X held rm z z' skm sn R R' N N' Tb seed rows' seed' h) (hk : k < 2) (hw : X.im k = some w) (Iw : WI w) : Ends (c_B_restore h (b 0) (ii k)) (fun r h' => r = .inl (some (.int 1)) ∧ ∃ own' rm2 sn2 N2 T2, CBo b own' (xR X w) held rm2 z z' skm sn2 R R' N2 N' T2 seed rows' seed' h' ∧ FX own own' (b 0) (b 16) h h' ∧ h'.2.1.1 + 2 * s11 N2 ≤ h.2.1.1 + 2 * s11 N + 34 ∧ h'.2.1.2 + 7 * s11 N2 ≤ h.2.1.2 + 7 * s11 N + 1793) := by
  obtain ⟨e0, sk, D, S⟩ := O
  have D' := D
  obtain ⟨_, _, _, _, ⟨f, e11, dis, kp⟩, _⟩ := D
  have wf := S.2.2.2
  have q := kp k hk
  rw [hw] at q
  obtain ⟨a, rm', p, s, q0, q1, q2, q3, q4⟩ := q
  have n0a : a ≠ b 0 := kd_ne q1 e0 rfl
  obtain ⟨n8, n10⟩ := D'.ne8 e0 (by show 2 * 0 ≠ 1; decide)
  unfold c_B_restore
  refine q_grd e0 (by decide) ?_
  refine q_in (a := 0) (b := 1) rfl rfl (by omega) (fun q => absurd (by omega) q) fun _ => ?_
  refine q_gQr e0 (by decide) rfl ?_
  refine q_nn ?_
  refine q_ldQn e11 (by decide) (by omega) q0 ?_
  refine q_neg _ (by intro w; cases w) ?_
  refine q_gQr e0 (by decide) rfl ?_
  refine q_nn ?_
  refine q_ldQn e11 (by decide) (by omega) q0 ?_
  refine q_nn ?_
  refine q_gQr q1 (by decide) rfl ?_
  refine q_pQ e0 (by decide) (Nat.le_of_ble_eq_true rfl) ?_
  have K1 : KX b own own 0 h (hset h (b 0) (bC b X.len held rm' z z' X.ft skm X.L.length X.td.isSome sn)) := KX.set e0 (fun q => (ff q rfl).elim) rfl (Or.inr rfl) (fun q => absurd q n8) (fun q => absurd q n10)
  have F1 : FX own own (b 0) (b 16) h (hset h (b 0) (bC b X.len held rm' z z' X.ft skm X.L.length X.td.isSome sn)) := FX.set wf e0 (nP rfl rfl rfl)
  have S1 := S.set (c := bC b X.len held rm' z z' X.ft skm X.L.length X.td.isSome sn) e0 rfl
  have e1 : (hset h (b 0) (bC b X.len held rm' z z' X.ft skm X.L.length X.td.isSome sn)).1 (b 0) = some (bC b X.len held rm' z z' X.ft skm X.L.length X.td.isSome sn) := up_eq
  have a1 : (hset h (b 0) (bC b X.len held rm' z z' X.ft skm X.L.length X.td.isSome sn)).1 a = _ := up_nx n0a q1
  have z1 : (hset h (b 0) (bC b X.len held rm' z z' X.ft skm X.L.length X.td.isSome sn)).2 = h.2 := rfl
  show Ends (gQ (hset h (b 0) (bC b X.len held rm' z z' X.ft skm X.L.length X.td.isSome sn)) (b 0) [0] 7 fun v15 => gQ (hset h (b 0) (bC b X.len held rm' z z' X.ft skm X.L.length X.td.isSome sn)) (b 0) [0] 6 fun v16 => nn v16 fun a17 => nn v15 fun a19 => hV (c_S_begin (hset h (b 0) (bC b X.len held rm' z z' X.ft skm X.L.length X.td.isSome sn)) a19 a17) noX fun h21 => _) _
  generalize hset h (b 0) (bC b X.len held rm' z z' X.ft skm X.L.length X.td.isSome sn) = h14 at *
  refine q_gQr e1 (by decide) rfl ?_
  refine q_gQr e1 (by decide) rfl ?_
  refine q_nn ?_
  refine q_nn ?_
  have D1 : RD b own h14 X rm sn := D'.kx K1
  have R1 := q2.im K1.2.1 K1.2.2.1
  have R1' := R1
  obtain ⟨na, fr, r1, _⟩ := R1'
  obtain ⟨h21, b1, S21, G21, z21⟩ := z_begin (low' := w.low) S1.1.any S1.2.2.2 r1 Iw.2.1
  refine q_hVe b1 ?_
  obtain ⟨fz, ez⟩ := S1.zc
  have S2 : ST b own (w.n, w.low, w.nm, (fun _ => []), w.T, w.sn) z z' R R' N N' (fun _ => false) seed rows' seed' h21 := S1.gf2 (w' := (w.n, w.low, w.nm, (fun _ => []), w.T, w.sn)) S21 G21
  have K2 : KX b own own 0 h14 h21 := S1.kx G21 D1
  have F2 := S1.fx G21
  have D2 : RD b own h21 X rm sn := D1.kx K2
  have R2 := R1.im K2.2.1 K2.2.2.1
  have P2 := (q3.im K1.2.1 K1.2.2.1).im K2.2.1 K2.2.2.1
  have N2' := (q4.im K1.2.1 K1.2.2.1).im K2.2.1 K2.2.2.1
  have a2 := G21.kd a1 (kd_ne a1 ez rfl) rfl
  have e2 := G21.kd e1 (kd_ne e1 ez rfl) rfl
  have w2 := S2.2.2.2
  refine q_gQr a2 (by decide) rfl ?_
  refine q_nn ?_
  have P2' := P2
  obtain ⟨fp, p1, p2⟩ := P2'
  refine q_alen2 p1 (by decide) ?_
  refine q_newA (by omega) ?_
  refine b_copies (h0 := h21) (own0 := own) (A := w.A) w2 a2 P2 (fun k hk => ⟨(Iw.2.2.1.1 k hk).2.1, (Iw.2.2.1.1 k hk).len⟩) (Nat.le_refl _) ?_ 11 FU 0 own _ (fun _ => none) (by unfold FU; omega) (by omega) (OL.new w2) (fun _ _ => rfl) new_eq (fun j hj => by omega) (Nat.le_refl _) (Nat.le_refl _)
  intro own3 h3 o3 ho3 PA3 y1 y2
  have hoc : ∀ x c, h21.1 x = some c → own3 x = own x := fun x c e => ho3 x (w2.lt e)
  have S3 := S2.old hoc o3.1 o3.2.2.1
  have K3 : KX b own own3 0 h21 h3 := o3.kx hoc
  have D3 : RD b own3 h3 X rm sn := D2.kx K3
  refine q_gQr (o3.1 _ _ e2) (by decide) rfl ?_
  refine q_nn ?_
  obtain ⟨h5, u0, own5, N5, T5, S5, G5, u1, u2⟩ := z_unpack S3.1 S3.2.2.2 PA3 Iw.2.2.1.1
  refine q_hVe u0 ?_
  refine q_nn ?_
  obtain ⟨fz3, ez3⟩ := S3.zc
  have a3 := o3.1 _ _ a2
  have e3 := o3.1 _ _ e2
  have a5 := G5.kd a3 (kd_ne a3 ez3 rfl) rfl
  have e5 := G5.kd e3 (kd_ne e3 ez3 rfl) rfl
  have ST5 : ST b own5 w z z' R R' N5 N' T5 seed rows' seed' h5 := S3.gf2 (w' := w) S5 G5
  have K5 : KX b own3 own5 0 h3 h5 := S3.kx G5 D3
  have D5 : RD b own5 h5 X rm sn := D3.kx K5
  refine q_gQ (v := s) a5 (by decide) rfl ?_
  refine q_pQ e5 (by decide) (Nat.le_of_ble_eq_true rfl) ?_
  refine q_pI up_eq (by decide) (Nat.le_of_ble_eq_true rfl) ?_
  rw [hset_hset]
  have R5 := (R2.im K3.2.1 K3.2.2.1).im K5.2.1 K5.2.2.1
  have N5' := (N2'.im K3.2.1 K3.2.2.1).im K5.2.1 K5.2.2.1
  obtain ⟨m8, m10⟩ := D5.ne8 e5 (by show 2 * 0 ≠ 1; decide)
  have D6 : RD b own5 h5 (xR X w) rm' s := by
    obtain ⟨d1, d2, d3, ⟨fu, d4, _⟩, d5, _, _⟩ := D5
    exact ⟨d1, d2, d3, ⟨fu, d4, fun j p hj => by cases hj⟩, d5, R5, N5'⟩
  refine q_rZ1 ⟨rfl, own5, rm', s, N5, T5, ⟨up_eq, sk, D6.kx (KX.set e5 (fun q => (ff q rfl).elim) rfl (Or.inr rfl) (fun q => absurd q m8) (fun q => absurd q m10)), ST5.set e5 rfl⟩, (((F1.trans F2 wf).trans (o3.fx ho3) wf).trans (S3.fx G5) wf).trans (FX.set ST5.2.2.2 e5 (nP rfl rfl rfl)) wf, ?_, ?_⟩
  · show h5.2.1.1 + _ ≤ _
    rw [z21, z1] at y1
    omega
  · show h5.2.1.2 + _ ≤ _
    rw [z21, z1] at y2
    omega
end
