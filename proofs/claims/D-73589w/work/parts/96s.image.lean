/-! PURE SIDE: both sides: images are taken -/
set_option maxRecDepth 100000
abbrev xI (X : XS) (k : Nat) : XS := (X.1, X.2.1, X.2.2.1, X.2.2.2.1, (fun j => if j = k then some X.w else X.im j), X.2.2.2.2.2)
/-- all but the image k, of which only the object a stands -/
def RDk (b own : Nat → Nat) (h : PH) (X : XS) (rm : Nat) (sn : Option Nat) (k a : Nat) : Prop := ((TpR b h X.tp ∧ RdR b h ∧ StR b h) ∧ SkR b own h X.sk ∧ TdR b own h X.td ∧ UdR b own h X.L ∧ RmR own (b 0) h rm X.w ∧ SnR own (b 0) h sn X.w.sn) ∧ ∃ f, h.1 (b 11) = some (qA 11 2 f) ∧ f k = some a ∧ (∀ a, f 0 = some a → f 1 = some a → False) ∧ ∀ j, j < 2 → j ≠ k → KpR b own h (f j) (X.im j) ∧ f j ≠ some a
section
variable {b own own' : Nat → Nat} {X : XS} {h h1 h' : PH} {held : Int} {rm z z' : Nat} {skm : Int} {sn : Option Nat} {R R' N N' : Nat → Nat} {Tb : Nat → Bool} {seed rows' seed' : Int32} {k a : Nat}
theorem RDk.k36 (D : RDk b own h X rm sn k a) (K : KX b own own' 36 h h') (o : ∀ x c, h.1 x = some c → kd c = 36 → x ≠ a → h'.1 x = some c) : RDk b own' h' X rm sn k a := by
  obtain ⟨⟨⟨p1, p2, p3⟩, p4, p5, p6, p8, p9⟩, f, e1, e2, e3, e4⟩ := D
  refine ⟨⟨⟨p1.kx K, p2.kx K, p3.kx K⟩, p4.kx K, p5.kx K, p6.kx K, p8.im K.2.1 K.2.2.1, p9.im K.2.1 K.2.2.1⟩, f, K.2.2.2.1 _ _ e1 rfl (by show 2 * 11 + 1 ≠ 36; decide), e2, e3, fun j hj hjk => ⟨?_, (e4 j hj hjk).2⟩⟩
  obtain ⟨q, ne⟩ := e4 j hj hjk
  cases hw : X.im j with
  | none => rw [hw] at q; exact q
  | some w =>
    rw [hw] at q
    obtain ⟨a', rm', p, s, q0, q1, q2, q3, q4⟩ := q
    exact ⟨a', rm', p, s, q0, o _ _ q1 rfl (fun w => ne (by rw [q0, w])), q2.im K.2.1 K.2.2.1, q3.im K.2.1 K.2.2.1, q4.im K.2.1 K.2.2.1⟩
theorem RDk.ne8 {c : PC} (D : RDk b own h X rm sn k a) (e : h.1 a = some c) (hc : kd c ≠ 1) : a ≠ b 8 ∧ a ≠ b 10 := by
  obtain ⟨⟨_, ⟨_, f, e1, _⟩, ⟨_, g, g1, _⟩, _⟩, _⟩ := D
  refine ⟨fun w => ?_, fun w => ?_⟩
  · rw [w, e1] at e
    injection e with e
    rw [← e] at hc
    exact hc rfl
  · rw [w, g1] at e
    injection e with e
    rw [← e] at hc
    exact hc rfl
theorem RDk.set {fs gs : List Value} (D : RDk b own h X rm sn k a) (e : h.1 a = some (.inr (18, fs))) : RDk b own (hset h a (.inr (18, gs))) X rm sn k a := by
  obtain ⟨n8, n10⟩ := D.ne8 e (by show 2 * 18 ≠ 1; decide)
  exact D.k36 (KX.set e (fun _ => rfl) rfl (Or.inr rfl) (fun q => absurd q n8) (fun q => absurd q n10)) fun x c ex _ nx => up_nx nx ex
theorem b_image_j (e0 : h.1 (b 0) = some (bC b X.len held rm z z' X.ft skm X.L.length X.td.isSome sn)) (sk : skOk skm X.sk) (S : ST b own X.w z z' R R' N N' Tb seed rows' seed' h) (D : RDk b own h X rm sn k a) (ea : ∃ v0 v1 v2, h.1 a = some (.inr (18, [v0, v1, v2]))) (hk : k < 2) : Ends (c_B_image_j33 h (b 0) (ii k)) (fun r h' => r = .inl (some (.int 1)) ∧ ∃ own' N2 T2, CBo b own' (xI X k) held rm z z' skm sn R R' N2 N' T2 seed rows' seed' h' ∧ FX own own' (b 0) (b 16) h h' ∧ h'.2.1.1 + 2 * s11 N2 ≤ h.2.1.1 + 2 * s11 N + 34 ∧ h'.2.1.2 + 7 * s11 N2 ≤ h.2.1.2 + 7 * s11 N + 1881) := by
  obtain ⟨v0, v1, v2, ea⟩ := ea
  have D' := D
  obtain ⟨_, f, e11, fk, _⟩ := D
  have wf := S.2.2.2
  have n0 : b 0 ≠ a := kd_ne e0 ea rfl
  obtain ⟨fz, ez⟩ := S.zc
  have nz : a ≠ z := kd_ne ea ez rfl
  unfold c_B_image_j33
  refine q_gQr e0 (by decide) rfl ?_
  refine q_nn ?_
  refine q_ldQn e11 (by decide) (by omega) fk ?_
  refine q_gQr e0 (by decide) rfl ?_
  refine q_nn ?_
  refine q_pQ ea (by decide) (Nat.le_of_ble_eq_true rfl) ?_
  have S8 := S.set (c := .inr (18, [.ref rm, v1, v2])) ea rfl
  have D8 : RDk b own _ X rm sn k a := D'.set (gs := [.ref rm, v1, v2]) ea
  have F8 : FX own own (b 0) (b 16) h (hset h a (.inr (18, [.ref rm, v1, v2]))) := FX.set wf ea (nP rfl rfl rfl)
  have e80 : (hset h a (.inr (18, [.ref rm, v1, v2]))).1 (b 0) = _ := up_nx n0 e0
  have e8a : (hset h a (.inr (18, [.ref rm, v1, v2]))).1 a = some (.inr (18, [.ref rm, v1, v2])) := up_eq
  have z8 : (hset h a (.inr (18, [.ref rm, v1, v2]))).2 = h.2 := rfl
  rw [show ([v0, v1, v2] : List Value).set 0 (va_rf (some rm)) = [.ref rm, v1, v2] from rfl]
  generalize hset h a (.inr (18, [.ref rm, v1, v2])) = h8 at *
  refine q_gQr e80 (by decide) rfl ?_
  refine q_nn ?_
  obtain ⟨v3, h3, p3, p, own3, N3, T3, e3, S3, G3, u1, u2, PA3⟩ := z_pack S8.1 S8.2.2.2
  subst e3
  refine q_hQe p3 ?_
  obtain ⟨fz8, ez8⟩ := S8.zc
  have nz8 : a ≠ z := nz
  have e3a := G3.kd e8a nz8 rfl
  have e30 := G3.kd e80 (kd_ne e80 ez8 rfl) rfl
  have S3' := S8.gf (T := X.w.T) S3 G3
  have k8 : own (b 8) = b 8 ∧ own (b 10) = b 10 ∧ (∃ c, h8.1 (b 8) = some c ∧ kd c = 1) ∧ ∃ c, h8.1 (b 10) = some c ∧ kd c = 1 := by
    obtain ⟨⟨_, ⟨q0, f, q1, _⟩, ⟨g0, g, g1, _⟩, _⟩, _⟩ := D8
    exact ⟨q0, g0, ⟨_, q1, rfl⟩, ⟨_, g1, rfl⟩⟩
  have K3 : KX b own own3 36 h8 h3 := KX.gf G3 S8.2.2.2 ez8 (fun k hk => ⟨S8.1.2.2.2 k hk, (S8.2.2.1.2.1 k hk).2.1, (S8.2.2.1.2.1 k hk).2.2⟩) k8.1 k8.2.1 k8.2.2.1 k8.2.2.2
  have D3 : RDk b own3 h3 X rm sn k a := D8.k36 K3 fun x c ex kx _ => G3.kd ex (fun w => by
    rw [w, ez8] at ex
    injection ex with ex
    rw [← ex] at kx
    exact absurd kx (by show ¬ (2 * 3 = 36); decide)) (by unfold rK tK; rw [kx]; rfl)
  refine q_pQ e3a (by decide) (Nat.le_of_ble_eq_true rfl) ?_
  refine q_gQ (v := sn) (up_nx n0 e30) (by decide) rfl ?_
  refine q_pQ up_eq (by decide) (Nat.le_of_ble_eq_true rfl) ?_
  rw [hset_hset]
  have D4 : RDk b own3 _ X rm sn k a := D3.set (gs := [.ref rm, .ref p, va_rf sn]) e3a
  have S4 := S3'.set (c := .inr (18, [.ref rm, .ref p, va_rf sn])) e3a rfl
  have F4 : FX own3 own3 (b 0) (b 16) h3 (hset h3 a (.inr (18, [.ref rm, .ref p, va_rf sn]))) := FX.set G3.wf e3a (nP rfl rfl rfl)
  have PA4 : PA own3 (b 0) (hset h3 a (.inr (18, [.ref rm, .ref p, va_rf sn]))) p X.w.A := PA3.im (fun _ _ _ => rfl) fun x c ex q => F4.2.2.2.2.2 x c ex (Or.inr q)
  refine q_rZ1 ⟨rfl, own3, N3, T3, ⟨up_nx n0 e30, sk, ?_, S4⟩, (F8.trans (S8.fx G3) wf).trans F4 wf, by show h3.2.1.1 + _ ≤ _; rw [z8] at u1; exact u1, by show h3.2.1.2 + _ ≤ _; rw [z8] at u2; exact u2⟩
  obtain ⟨⟨p1, p4, p5, p6, p8, p9⟩, f', q1, q2, q3, q4⟩ := D4
  refine ⟨p1, p4, p5, p6, ⟨f', q1, q3, fun j hj => ?_⟩, p8, p9⟩
  show KpR b own3 _ (f' j) (if j = k then some X.w else X.im j)
  by_cases c : j = k
  · rw [if_pos c, c, q2]
    exact ⟨a, rm, p, sn, rfl, up_eq, p8, PA4, p9⟩
  · rw [if_neg c]
    exact (q4 j hj c).1
theorem b_image (O : CBo b own X held rm z z' skm sn R R' N N' Tb seed rows' seed' h) (hk : k < 2) : Ends (c_B_image h (b 0) (ii k)) (fun r h' => r = .inl (some (.int 1)) ∧ ∃ own' N2 T2, CBo b own' (xI X k) held rm z z' skm sn R R' N2 N' T2 seed rows' seed' h' ∧ FX own own' (b 0) (b 16) h h' ∧ h'.2.1.1 + 2 * s11 N2 ≤ h.2.1.1 + 2 * s11 N + 35 ∧ h'.2.1.2 + 7 * s11 N2 ≤ h.2.1.2 + 7 * s11 N + 1884) := by
  obtain ⟨e0, sk, D, S⟩ := O
  have D' := D
  obtain ⟨⟨p1, p2, p3⟩, p4, p5, p6, ⟨f, e11, dis, kp⟩, p8, p9⟩ := D
  have wf := S.2.2.2
  unfold c_B_image
  refine q_grd e0 (by decide) ?_
  refine q_in (a := 0) (b := 1) rfl rfl (by omega) (fun q => absurd (by omega) q) fun _ => ?_
  refine q_gQr e0 (by decide) rfl ?_
  refine q_nn ?_
  cases hw : X.im k with
  | some w =>
    have q := kp k hk
    rw [hw] at q
    obtain ⟨a, rm', p, s, q0, q1, q2, q3, q4⟩ := q
    refine q_ldQn e11 (by decide) (by omega) q0 ?_
    refine q_neg _ (by intro w; cases w) ?_
    obtain ⟨r, hh, y1, y2, own2, N2, T2, O2, F2, u1, u2⟩ := b_image_j e0 sk S (k := k) (a := a) ⟨⟨⟨p1, p2, p3⟩, p4, p5, p6, p8, p9⟩, f, e11, q0, dis, fun j hj hjk => ⟨kp j hj, fun w => by
      have kk : (j = 0 ∧ k = 1) ∨ (j = 1 ∧ k = 0) := by omega
      rcases kk with ⟨c1, c2⟩ | ⟨c1, c2⟩
      · subst c1 c2; exact dis a w q0
      · subst c1 c2; exact dis a q0 w⟩⟩ ⟨_, _, _, q1⟩ hk
    exact ⟨r, hh, y1, y2, own2, N2, T2, O2, F2, by omega, by omega⟩
  | none =>
    have q := kp k hk
    rw [hw] at q
    have q : f k = none := q
    refine q_ldQ e11 (by decide) (by omega) ?_
    rw [Int.toNat_natCast, q]
    refine q_pos _ rfl ?_
    refine q_gQr e0 (by decide) rfl ?_
    refine q_newO ?_
    have lt11 := wf.lt e11
    have e9 : (hnew h 3 (.inr (18, [.null, .null, .null]))).1 (b 11) = some (qA 11 2 f) := new_old wf e11
    have ki : c_K_init (hnew h 3 (.inr (18, [.null, .null, .null]))) h.2.1.1 = rV (hnew h 3 (.inr (18, [.null, .null, .null]))) := by
      unfold c_K_init
      rw [grd_eq new_eq (by decide)]
    refine q_hVe ki ?_
    refine q_nn ?_
    refine q_stQ e9 (by decide) (by omega) new_eq rfl ?_
    rw [Int.toNat_natCast]
    have w9 : Wf (hnew h 3 (.inr (18, [.null, .null, .null]))) := wf.new
    have n11 : h.2.1.1 ≠ b 11 := Nat.ne_of_gt lt11
    obtain ⟨n8, n10⟩ := D'.ne8 e11 (by show 2 * 11 + 1 ≠ 1; decide)
    have K : KX b own own 23 h (hset (hnew h 3 (.inr (18, [.null, .null, .null]))) (b 11) (qA 11 2 (va_up f k (some h.2.1.1)))) := (KX.new wf).trans (KX.set e9 (fun _ => rfl) rfl (Or.inr rfl) (fun q => absurd q n8) (fun q => absurd q n10)) fun x c ex => ⟨c, new_old wf ex⟩
    have F : FX own own (b 0) (b 16) h (hset (hnew h 3 (.inr (18, [.null, .null, .null]))) (b 11) (qA 11 2 (va_up f k (some h.2.1.1)))) := (FX.new wf).trans (FX.set w9 e9 (nP rfl rfl rfl)) wf
    have S2 : ST b own X.w z z' R R' N N' Tb seed rows' seed' (hset (hnew h 3 (.inr (18, [.null, .null, .null]))) (b 11) (qA 11 2 (va_up f k (some h.2.1.1)))) := (S.old (fun _ _ _ => rfl) (fun x c ex => new_old wf ex) w9).set e9 rfl
    have n011 : b 0 ≠ b 11 := kd_ne e0 e11 rfl
    have fj : ∀ j, j < 2 → f j ≠ some h.2.1.1 := fun j hj w => by
      have q := kp j hj
      cases hw : X.im j with
      | none =>
        rw [hw] at q
        have q : f j = none := q
        rw [q] at w
        cases w
      | some w' =>
        rw [hw] at q
        obtain ⟨a, rm', p, s, q0, q1, _⟩ := q
        rw [q0] at w
        injection w with w
        have := wf.lt q1
        omega
    have dis2 : ∀ a, va_up f k (some h.2.1.1) 0 = some a → va_up f k (some h.2.1.1) 1 = some a → False := fun a w1 w2 => by
      have kk : k = 0 ∨ k = 1 := by omega
      rcases kk with c | c
      · subst c
        rw [up_at] at w1
        injection w1 with w1
        rw [va_up_ne _ _ (by decide)] at w2
        exact fj 1 (by decide) (by rw [w2, w1])
      · subst c
        rw [up_at] at w2
        injection w2 with w2
        rw [va_up_ne _ _ (by decide)] at w1
        exact fj 0 (by decide) (by rw [w1, w2])
    obtain ⟨r, hh, y1, y2, own2, N2, T2, O2, F2, u1, u2⟩ := b_image_j (up_nx n011 (new_old wf e0)) sk S2 (k := k) (a := h.2.1.1) (rm := rm) (sn := sn) (held := held) ⟨⟨⟨p1.kx K, p2.kx K, p3.kx K⟩, p4.kx K, p5.kx K, p6.kx K, p8.im K.2.1 K.2.2.1, p9.im K.2.1 K.2.2.1⟩, va_up f k (some h.2.1.1), up_eq, up_at, dis2, fun j hj hjk => ⟨by rw [va_up_ne _ _ hjk]; exact (kp j hj).kx K, by rw [va_up_ne _ _ hjk]; exact fj j hj⟩⟩ ⟨_, _, _, up_nx n11 new_eq⟩ hk
    refine ⟨r, hh, y1, y2, own2, N2, T2, O2, F.trans F2 wf, ?_, ?_⟩
    · have u1 : hh.2.1.1 + 2 * s11 N2 ≤ h.2.1.1 + 1 + 2 * s11 N + 34 := u1
      omega
    · have u2 : hh.2.1.2 + 7 * s11 N2 ≤ h.2.1.2 + 3 + 7 * s11 N + 1881 := u2
      omega
end
