/-! PURE SIDE: sentences: the component: one part -/
set_option maxRecDepth 100000
section
variable {b : Nat → Nat} {f : Nat → Nat} {n m C S lo a rm na : Nat} {nm : Nat → List Nat} {h h0 h1 h2 h' : PH} {ad ad1 ad' : Nat → Nat} {s s1 s' s2 : SyT} {t t' : Tk} {Z : Rt → PH → Prop} {x : Nat × Nat × Nat × Nat}
theorem i_CN {a y : Nat} (e : h.1 a = some (.inr (13, [.null]))) : c_CN_init h a y = rV (hset h a (.inr (13, [.ref y]))) := by
  have : Ends (c_CN_init h a y) (fun r h' => r = .inl none ∧ h' = hset h a (.inr (13, [.ref y]))) := by
    unfold c_CN_init
    refine q_grd e (by decide) ?_
    refine q_pQ e (by decide) (Nat.le_of_ble_eq_true rfl) ?_
    exact q_rV ⟨rfl, rfl⟩
  obtain ⟨r, h', w1, w2, w3⟩ := this
  rw [w1, w2, w3]; rfl
theorem i_CM {a : Nat} {x y : Int32} (e : h.1 a = some (.inr (14, [.int 0, .int 0]))) : c_CM_init h a x y = rV (hset h a (.inr (14, [.int x, .int y]))) := by
  have : Ends (c_CM_init h a x y) (fun r h' => r = .inl none ∧ h' = hset h a (.inr (14, [.int x, .int y]))) := by
    unfold c_CM_init
    refine q_grd e (by decide) ?_
    refine q_pI e (by decide) (Nat.le_of_ble_eq_true rfl) ?_
    refine q_pI up_eq (by decide) (Nat.le_of_ble_eq_true rfl) ?_
    rw [hset_hset]
    exact q_rV ⟨rfl, rfl⟩
  obtain ⟨r, h', w1, w2, w3⟩ := this
  rw [w1, w2, w3]; rfl
theorem i_CC {a : Nat} {x y z : Int32} (e : h.1 a = some (.inr (15, [.int 0, .int 0, .int 0]))) : c_CC_init h a x y z = rV (hset h a (.inr (15, [.int x, .int y, .int z]))) := by
  have : Ends (c_CC_init h a x y z) (fun r h' => r = .inl none ∧ h' = hset h a (.inr (15, [.int x, .int y, .int z]))) := by
    unfold c_CC_init
    refine q_grd e (by decide) ?_
    refine q_pI e (by decide) (Nat.le_of_ble_eq_true rfl) ?_
    refine q_pI up_eq (by decide) (Nat.le_of_ble_eq_true rfl) ?_
    rw [hset_hset]
    refine q_pI up_eq (by decide) (Nat.le_of_ble_eq_true rfl) ?_
    rw [hset_hset]
    exact q_rV ⟨rfl, rfl⟩
  obtain ⟨r, h', w1, w2, w3⟩ := this
  rw [w1, w2, w3]; rfl
/-- a new one at the end -/
theorem SyQ.put (hq : s.q ≤ 20) (I : SyI b f n m h0 ad1 s1 t' h1) (K : KF b h h1) (A1 : ∀ k, k < s.c → ad1 k = ad k) (A2 : ∀ k, s.c ≤ k → k < s1.c → h.2.1.1 ≤ ad1 k) (M : SyM m s s1) (lo : h0.2.1.1 ≤ h.2.1.1) (ha : h.2.1.1 ≤ a) (hx : (x.1 = 1 ∧ x.2.1 < s1.c) ∨ ((x.1 = 2 ∨ x.1 = 3) ∧ x.2.1 < s1.c ∧ x.2.2.1 < s1.c) ∨ (x.1 = 64 ∨ x.1 = 65) ∨ ((x.1 = 66 ∨ x.1 = 67) ∧ x.2.1 < m) ∨ (68 ≤ x.1 ∧ x.1 < 73 ∧ x.2.2.1 ≤ 999 ∧ 60 ≤ x.2.2.2 ∧ x.2.2.2 ≤ 62)) (N : NC h1 ad1 x a) (z : h1.2.1.1 + 1 ≤ C + 2 * s1.q ∧ h1.2.1.2 + 3 ≤ S + 6 * s1.q) (c1 : s1.c + 1 + 2 * s.q ≤ s.c + 2 * s1.q) : SyQ b f n m h0 C S h s ad (syPut s1 x) t' (va_up ad1 s1.c a) h1 := by
  have mc := M.2.2.1
  refine ⟨⟨I.1, I.2.1.put I.2.2.2 (by omega) N (fun q => ?_) (fun q => ?_), I.2.2.1, I.2.2.2.put hx⟩, K, fun k hk => (va_up_ne _ _ (by omega)).trans (A1 k hk), fun k h1 h2 => ?_, z, SyM.put hq M c1 hx⟩
  · rcases hx with ⟨_, y⟩ | ⟨y, _⟩ | y | ⟨y, _⟩ | ⟨y, _⟩ <;> omega
  · rcases hx with ⟨y, _⟩ | ⟨_, y1, y2⟩ | y | ⟨y, _⟩ | ⟨y, _⟩ <;> omega
  · have h2 : k < s1.c + 1 := h2
    by_cases c : k = s1.c
    · rw [c, up_at]; exact ha
    · rw [va_up_ne _ _ c]; exact A2 k h1 (by omega)
theorem RmB.kf (R : RmB b h0 rm na nm m) (K : KF b h0 h) (e7 : ∃ d, h0.1 (b 7) = some d ∧ kd d = 14) : RmB b h rm na nm m := by
  obtain ⟨⟨fs, r1, r2⟩, ⟨lo, r3⟩, g, r4, r5⟩ := R
  obtain ⟨d, d1, d2⟩ := e7
  have ne : ∀ {x : Nat} {c : PC}, h0.1 x = some c → kd c ≠ 14 → x ≠ b 7 := fun {x c} e k q => by
    rw [q, d1] at e
    injection e with e
    rw [← e] at k
    exact k d2
  exact ⟨⟨fs, K.2.2.2 _ _ r1 (ne r1 (by show 2 * 0 ≠ 14; decide)), r2⟩, ⟨lo, K.2.2.2 _ _ r3 (ne r3 (by show 2 * 2 ≠ 14; decide))⟩, g, K.2.2.2 _ _ r4 (ne r4 (by show 2 * 1 + 1 ≠ 14; decide)), r5⟩
theorem r_single {rg : Nat → PH → Nat → Int32 → Option RH} {sy : Nat → Nat → SyT → Tk → SyR} {deep : Nat} (e7 : ∃ d, h0.1 (b 7) = some d ∧ kd d = 14) (w0 : Wf h0) (R : RmB b h0 rm na nm m) (hd : deep ≤ 9) (ho0 : deep ≤ 8 → SyP b f n m h0 C S (sy 0 (deep + 1)) (fun h => rg 0 h (b 7) (ii ((deep + 1 : Nat) : Int)))) (ho2 : deep ≤ 8 → SyP b f n m h0 C S (sy 2 (deep + 1)) (fun h => rg 2 h (b 7) (ii ((deep + 1 : Nat) : Int)))) (hF : ∀ sel, SyF f n m (sy sel (deep + 1))) : SyP b f n m h0 C S (syS f n nm m sy deep) (fun h => b_DS_single rg h (b 7) (ii deep)) := by
  intro s t h ad Z hq I z1 z2 kf kk
  have hb : b 7 < h0.2.1.1 := by
    obtain ⟨d, d1, _⟩ := e7
    exact w0.lt d1
  have J := I.1
  have wf := RJ.wf J
  have tb := (RJ.ok J).1
  have lo : h0.2.1.1 ≤ h.2.1.1 := I.2.2.1.2.1
  obtain ⟨⟨v, mn, nmv, e, tv⟩, _, St, _⟩ := id J
  have fm := fkw_le (f := f) (t := t) (k0 := 14) 4 0
  have fc := fkw_le (f := f) (t := t) (k0 := 18) 5 0
  show Ends (b_DS_single rg h (b 7) (ii deep)) Z
  unfold b_DS_single
  refine q_grd e (by decide) ?_
  refine q_hIe (by rw [RJ.grd J (by decide)]; exact p_is J (k := 13) (by decide)) ?_
  refine q_hIe (by rw [RJ.grd J (by decide)]; exact p_isSg J (c := 40) (by decide)) ?_
  refine q_gQr e (by decide) rfl ?_
  refine q_nn ?_
  refine q_hIe (by rw [RJ.grd J (by decide)]; exact p_find J St.2.2.2.1 (by decide)) ?_
  refine q_gQr e (by decide) rfl ?_
  refine q_nn ?_
  refine q_hIe (by rw [RJ.grd J (by decide)]; exact p_find J St.2.2.2.2.1 (by decide)) ?_
  -- behind the two musts
  have j85 : ∀ {cc : Prop} [Decidable cc] {x : Int32}, x = ii (bn (decide cc)) → (cc ↔ ¬ (20 ≤ s.q ∨ 8 < deep)) → ¬ (isKw f t 13 = false ∧ isSg f t 40 = false ∧ fkw f t 14 4 0 = -1 ∧ fkw f t 18 5 0 = -1) → Ends (c_DS_single_j85 rg h (b 7) (ii deep) (ii (bn (isKw f t 13))) (ii (bn (isSg f t 40))) (ii (fkw f t 14 4 0)) (ii (fkw f t 18 5 0)) x (b 7)) Z := by
    intro cc _ x hx hcc n1
    unfold c_DS_single_j85
    refine r_must (c := cc) (k := 4) J (RJ.grd J (by decide)) hx rfl (fun q h' th => kf 4 t.at_ (by
      have y : 20 ≤ s.q ∨ 8 < deep := Classical.not_not.mp fun y => q (hcc.2 y)
      unfold syS
      rw [if_neg n1, if_pos y]) h' ⟨s.q, t, h, hq, J, KF.rf, z1, z2, th⟩) fun yc => ?_
    have n2 := hcc.1 yc
    have es : syS f n nm m sy deep s t = syB f n nm m sy deep (s.1, s.2.1, s.2.2 + 1) t := by
      unfold syS
      rw [if_neg n1, if_neg n2]
    have hd8 : deep ≤ 8 := by omega
    refine q_gI e (by decide) rfl ?_
    refine q_pI e (by decide) (Nat.le_of_ble_eq_true rfl) ?_
    rw [add1]
    obtain ⟨J1, o1⟩ := RJ.upd (y8 := .ref (b 14)) (y9 := .ref (b 15)) (y10 := ii ((s.q + 1 : Nat) : Int)) J tv (RJ.ok J)
    have I1 : SyI b f n m h0 ad (s.1, s.2.1, s.2.2 + 1) t (WR b h (b 7) 7 200 (.ref (b 14)) (.ref (b 15)) (ii ((s.q + 1 : Nat) : Int)) (ii t.p) (ii t.at_) (ii t.k) v mn nmv) := ⟨J1, I.2.1.hp fun x c lx e _ => by rw [o1.2.1 x (by omega)]; exact e, I.2.2.1.trans (KF.onl o1), I.2.2.2⟩
    show Ends (hV (grd (WR b h (b 7) 7 200 (.ref (b 14)) (.ref (b 15)) (ii ((s.q + 1 : Nat) : Int)) (ii t.p) (ii t.at_) (ii t.k) v mn nmv) (b 7) [7] (c_D_next (WR b h (b 7) 7 200 (.ref (b 14)) (.ref (b 15)) (ii ((s.q + 1 : Nat) : Int)) (ii t.p) (ii t.at_) (ii t.k) v mn nmv) (b 7))) noX _) Z
    generalize WR b h (b 7) 7 200 (.ref (b 14)) (.ref (b 15)) (ii ((s.q + 1 : Nat) : Int)) (ii t.p) (ii t.at_) (ii t.k) v mn nmv = h3 at *
    refine r_next J1 (RJ.grd J1 (by decide)) fun h4 J4 o4 => ?_
    have I4 : SyI b f n m h0 ad (s.1, s.2.1, s.2.2 + 1) (nx f n 200 t) h4 := I1.onl hb J4 o4
    have K4 : KF b h h4 := (KF.onl o1).trans (KF.onl o4)
    have w4 := RJ.wf J4
    have s4 : h4.2 = h.2 := o4.1.trans o1.1
    have c4 : h4.2.1.1 = h.2.1.1 ∧ h4.2.1.2 = h.2.1.2 := by rw [s4]; exact ⟨rfl, rfl⟩
    have lo4 : h0.2.1.1 ≤ h4.2.1.1 := I4.2.2.1.2.1
    have q1 : SyT.q (s.1, s.2.1, s.2.2 + 1) ≤ 20 := by show s.q + 1 ≤ 20; omega
    have M1 : SyM m s (s.1, s.2.1, s.2.2 + 1) := ⟨Nat.le_succ _, q1, Nat.le_refl _, by show s.c + 2 * s.q ≤ s.c + 2 * (s.q + 1); omega, fun _ _ => rfl, fun q => q⟩
    have na4 : ∀ j, j < s.c → ad j ≠ h4.2.1.1 := fun j hj => Nat.ne_of_lt (I4.lt hj)
    have ne7 : h4.2.1.1 ≠ b 7 := by omega
    have d1 : ii (deep : Int) + (1 : Int32) = ii ((deep + 1 : Nat) : Int) := by rw [add1]; rfl
    have zc : h.2.1.1 + 1 + 1 ≤ C + 2 * (s.q + 1) := by omega
    have zs : h.2.1.2 + 3 + 3 ≤ S + 6 * (s.q + 1) := by omega
    cases k13 : isKw f t 13 with
    | true =>
      have eb : syB f n nm m sy deep (s.1, s.2.1, s.2.2 + 1) t = syN (sy 2 (deep + 1) (s.1, s.2.1, s.2.2 + 1) (nx f n 200 t)) := by unfold syB; rw [if_pos k13]
      refine q_neg _ bn1_ne ?_
      refine q_newO ?_
      rw [d1]
      have I5 : SyI b f n m h0 ad (s.1, s.2.1, s.2.2 + 1) (nx f n 200 t) (hnew h4 1 (.inr (13, [.null]))) := I4.new
      have K5 : KF b h (hnew h4 1 (.inr (13, [.null]))) := K4.trans (KF.new w4)
      have e5 : (hnew h4 1 (.inr (13, [.null]))).1 h4.2.1.1 = some (.inr (13, [.null])) := new_eq
      have s5 : (hnew h4 1 (.inr (13, [.null]))).2.1.1 = h4.2.1.1 + 1 ∧ (hnew h4 1 (.inr (13, [.null]))).2.1.2 = h4.2.1.2 + 1 := ⟨rfl, rfl⟩
      show Ends (hQ (grd (hnew h4 1 (.inr (13, [.null]))) (b 7) [7] (rg 2 (hnew h4 1 (.inr (13, [.null]))) (b 7) (ii ((deep + 1 : Nat) : Int)))) rX _) Z
      generalize hnew h4 1 (.inr (13, [.null])) = h5 at *
      rw [RJ.grd I5.1 (by decide)]
      refine hQ_hQ ?_
      refine ho2 hd8 _ _ h5 ad _ q1 I5 (by show h5.2.1.1 ≤ C + 2 * (s.q + 1); omega) (by show h5.2.1.2 ≤ S + 6 * (s.q + 1); omega) (fun kd pl ee h' E => Or.inr ⟨_, rfl, kf kd pl (by rw [es, eb, ee]; rfl) h' (E.pre K5)⟩) (fun s2 t2 ee ad2 h6 Q => Or.inl ⟨_, rfl, ?_⟩)
      have o2 := (hF 2 _ _ s2 t2 q1 (RJ.ok J4) ee).1
      obtain ⟨I6, K6, A1, A2, ⟨y1, y2⟩, M2⟩ := Q
      have e6 := K6.2.2.2 _ _ e5 ne7
      refine q_nn ?_
      refine q_hVe (i_CN e6) ?_
      have p8 : s.c < s2.c := o2.2.2.1
      have p9 : s2.c + 1 + 2 * (s.q + 1) ≤ s.c + 2 * s2.q := o2.2.2.2
      have na2 : ∀ j, j < s2.c → ad2 j ≠ h4.2.1.1 := fun j hj => by
        by_cases c : j < s.c
        · rw [A1 j c]; exact na4 j c
        · have : h5.2.1.1 ≤ ad2 j := A2 j (by show s.c ≤ j; omega) hj
          omega
      have I7 := I6.set (c := .inr (13, [.ref (ad2 (s2.c - 1))])) hb w0 e6 (by decide) lo4 na2
      refine q_rQ ?_
      have Q7 : SyQ b f n m h0 C S h s ad (syPut s2 (1, s2.c - 1, 0, 0)) t2 (va_up ad2 s2.c h4.2.1.1) (hset h6 h4.2.1.1 (.inr (13, [.ref (ad2 (s2.c - 1))]))) := SyQ.put hq I7 ((K5.trans K6).set wf (by omega)) (fun j hj => A1 j hj) (fun j g1 g2 => by
        have : h5.2.1.1 ≤ ad2 j := A2 j g1 g2
        omega) (M1.trans M2) lo (by omega) (Or.inl ⟨rfl, by show s2.c - 1 < s2.c; omega⟩) (Or.inl ⟨rfl, up_eq⟩) ⟨y1, y2⟩ (by omega)
      have := kk _ _ (by rw [es, eb, ee]; rfl) _ _ Q7
      have ez : (va_up ad2 s2.c h4.2.1.1) ((syPut s2 (1, s2.c - 1, 0, 0)).c - 1) = h4.2.1.1 := by
        show va_up ad2 s2.c h4.2.1.1 (s2.c + 1 - 1) = _
        rw [Nat.add_sub_cancel, up_at]
      rw [ez] at this
      exact this
    | false =>
      have n13 : ¬ (isKw f t 13 = true) := by rw [k13]; decide
      refine q_pos _ rfl ?_
      cases k40 : isSg f t 40 with
      | true =>
        have eb : syB f n nm m sy deep (s.1, s.2.1, s.2.2 + 1) t = syK f n (sy 0 (deep + 1) (s.1, s.2.1, s.2.2 + 1) (nx f n 200 t)) := by unfold syB; rw [if_neg n13, if_pos k40]
        refine q_neg _ bn1_ne ?_
        rw [d1, RJ.grd J4 (by decide)]
        refine hQ_hQ ?_
        refine ho0 hd8 _ _ h4 ad _ q1 I4 (by show h4.2.1.1 ≤ C + 2 * (s.q + 1); omega) (by show h4.2.1.2 ≤ S + 6 * (s.q + 1); omega) (fun kd pl ee h' E => Or.inr ⟨_, rfl, kf kd pl (by rw [es, eb, ee]; rfl) h' (E.pre K4)⟩) (fun s2 t2 ee ad2 h6 Q => Or.inl ⟨_, rfl, ?_⟩)
        have Q0 := Q.pre K4 (fun _ _ => rfl) (fun j g1 g2 => by have g1 : s.c ≤ j := g1; have g2 : j < s.c := g2; omega) M1
        obtain ⟨I6, K6, A1, A2, ⟨y1, y2⟩, M2⟩ := Q0
        have ek : syS f n nm m sy deep s t = if isSg f t2 41 = false then .inl (1, t2.at_) else .inr (s2, nx f n 200 t2) := by rw [es, eb, ee]; rfl
        refine r_sign (c := 41) I6.1 (RJ.grd I6.1 (by decide)) rfl (by decide) (fun q h' th => kf 1 t2.at_ (by rw [ek, if_pos q]) h' ⟨s2.q, t2, h6, M2.2.1, I6.1, K6, by omega, by omega, th⟩) fun q h7 J7 o7 => ?_
        have s7 : h7.2 = h6.2 := o7.1
        exact q_rQ (kk s2 _ (by rw [ek, if_neg (by rw [q]; decide)]) ad2 h7 ⟨I6.onl hb J7 o7, K6.trans (KF.onl o7), A1, A2, by rw [s7]; exact ⟨y1, y2⟩, M2⟩)
      | false =>
        have n40 : ¬ (isSg f t 40 = true) := by rw [k40]; decide
        refine q_pos _ rfl ?_
        rw [mi1]
        by_cases km : fkw f t 14 4 0 = -1
        · have eb : syB f n nm m sy deep (s.1, s.2.1, s.2.2 + 1) t = syC f n (fkw f t 18 5 0).toNat (s.1, s.2.1, s.2.2 + 1) (nx f n 200 t) := by unfold syB; rw [if_neg n13, if_neg n40, if_neg (fun q => q km)]
          have kc : fkw f t 18 5 0 ≠ -1 := fun q => n1 ⟨k13, k40, km, q⟩
          obtain ⟨w, ew⟩ : ∃ k : Nat, fkw f t 18 5 0 = k := ⟨(fkw f t 18 5 0).toNat, by omega⟩
          have w5 : w < 5 := by omega
          rw [ew, Int.toNat_natCast] at eb
          rw [ew]
          refine q_pos _ (by rw [km]) ?_
          obtain ⟨⟨v4, mn4, nm4, e4, tv4⟩, _⟩ := id J4
          have j227 : ∀ {cc : Prop} [Decidable cc] {x : Int32}, x = ii (bn (decide cc)) → (cc ↔ ¬ (isSg f (nx f n 200 t) 60 = false ∧ isSg f (nx f n 200 t) 61 = false ∧ isSg f (nx f n 200 t) 62 = false)) → Ends (c_DS_single_j227 rg h4 (b 7) (ii w) x (b 7)) Z := by
            intro cc _ x hx hcc
            unfold c_DS_single_j227
            refine r_must (c := cc) (k := 1) J4 (RJ.grd J4 (by decide)) hx rfl (fun q h' th => kf 1 _ (by
              rw [es, eb]
              unfold syC
              rw [if_pos (Classical.not_not.mp fun y => q (hcc.2 y))]) h' ⟨s.q + 1, _, h4, q1, J4, K4, by omega, by omega, th⟩) fun yc => ?_
            have g3 := hcc.1 yc
            have k3 : (nx f n 200 t).k = 3 := by
              have g : ∀ c, isSg f (nx f n 200 t) c = true → (nx f n 200 t).k = 3 := fun c q => (isSg_at q).1
              cases h60 : isSg f (nx f n 200 t) 60 with
              | true => exact g _ h60
              | false =>
                cases h61 : isSg f (nx f n 200 t) 61 with
                | true => exact g _ h61
                | false =>
                  cases h62 : isSg f (nx f n 200 t) 62 with
                  | true => exact g _ h62
                  | false => exact absurd ⟨h60, h61, h62⟩ g3
            refine q_gI e4 (by decide) rfl ?_
            rw [tv4.2.2 k3]
            refine r_next J4 (RJ.grd J4 (by decide)) fun h5 J5 o5 => ?_
            have I5 := I4.onl hb J5 o5
            have K5 := K4.trans (KF.onl o5)
            have s5 : h5.2 = h4.2 := o5.1
            have c5 : h5.2.1.1 = h.2.1.1 ∧ h5.2.1.2 = h.2.1.2 := by rw [s5]; exact c4
            have tk5 := (RJ.ok J5).1
            obtain ⟨⟨v5, mn5, nm5, e5, tv5⟩, _⟩ := id J5
            refine q_gI e5 (by decide) rfl ?_
            by_cases k2 : (nx f n 200 (nx f n 200 t)).k = 2
            · refine q_pos _ (by rw [k2]; rfl) ?_
              unfold c_DS_single_j255
              refine r_must (c := True) (k := 1) J5 (RJ.grd J5 (by decide)) rfl rfl (fun q => absurd True.intro q) fun _ => ?_
              refine q_gI e5 (by decide) rfl ?_
              rw [tv5.2.1 k2]
              refine r_next J5 (RJ.grd J5 (by decide)) fun h6 J6 o6 => ?_
              have I6 := I5.onl hb J6 o6
              have K6 := K5.trans (KF.onl o6)
              have s6 : h6.2 = h5.2 := o6.1
              have c6 : h6.2.1.1 = h.2.1.1 ∧ h6.2.1.2 = h.2.1.2 := by rw [s6]; exact c5
              have w6 := RJ.wf J6
              refine q_newO ?_
              have I7 : SyI b f n m h0 ad (s.1, s.2.1, s.2.2 + 1) _ (hnew h6 3 (.inr (15, [.int 0, .int 0, .int 0]))) := I6.new
              have K7 : KF b h (hnew h6 3 (.inr (15, [.int 0, .int 0, .int 0]))) := K6.trans (KF.new w6)
              have e7 : (hnew h6 3 (.inr (15, [.int 0, .int 0, .int 0]))).1 h6.2.1.1 = some (.inr (15, [.int 0, .int 0, .int 0])) := new_eq
              have s7 : (hnew h6 3 (.inr (15, [.int 0, .int 0, .int 0]))).2.1.1 = h6.2.1.1 + 1 ∧ (hnew h6 3 (.inr (15, [.int 0, .int 0, .int 0]))).2.1.2 = h6.2.1.2 + 3 := ⟨rfl, rfl⟩
              show Ends (hV (c_CC_init (hnew h6 3 (.inr (15, [.int 0, .int 0, .int 0]))) h6.2.1.1 _ _ _) noX _) Z
              generalize hnew h6 3 (.inr (15, [.int 0, .int 0, .int 0])) = h7 at *
              refine q_hVe (i_CC e7) ?_
              have na6 : ∀ j, j < s.c → ad j ≠ h6.2.1.1 := fun j hj => Nat.ne_of_lt (I6.lt hj)
              have lo6 : h0.2.1.1 ≤ h6.2.1.1 := I6.2.2.1.2.1
              have I8 := I7.set (c := .inr (15, [.int (ii w), .int (ii (f (nx f n 200 t).at_ : Int)), .int (ii (nv (seg f (nx f n 200 (nx f n 200 t)).at_ (nx f n 200 (nx f n 200 t)).p) : Int))])) hb w0 e7 (by decide) lo6 na6
              have ec : syS f n nm m sy deep s t = .inr (syPut (s.1, s.2.1, s.2.2 + 1) (68 + w, 0, nv (seg f (nx f n 200 (nx f n 200 t)).at_ (nx f n 200 (nx f n 200 t)).p), f (nx f n 200 t).at_), nx f n 200 (nx f n 200 (nx f n 200 t))) := by
                rw [es, eb]
                unfold syC
                rw [if_neg g3, if_neg (fun q => q k2)]
              have so := (syS_ok (nm := nm) (RJ.hn J) J.2.1.2.2.2 hF s t _ _ hq (RJ.ok J) ec).1.1.2.2.2.2.2 I.2.2.2 s.c (Nat.lt_succ_self _)
              have hx : 68 ≤ 68 + w ∧ 68 + w < 73 ∧ nv (seg f (nx f n 200 (nx f n 200 t)).at_ (nx f n 200 (nx f n 200 t)).p) ≤ 999 ∧ 60 ≤ f (nx f n 200 t).at_ ∧ f (nx f n 200 t).at_ ≤ 62 := by
                unfold NOk at so
                have eu : (syPut (s.1, s.2.1, s.2.2 + 1) (68 + w, 0, nv (seg f (nx f n 200 (nx f n 200 t)).at_ (nx f n 200 (nx f n 200 t)).p), f (nx f n 200 t).at_)).1 s.c = (68 + w, 0, nv (seg f (nx f n 200 (nx f n 200 t)).at_ (nx f n 200 (nx f n 200 t)).p), f (nx f n 200 t).at_) := up_at
                rw [eu] at so
                dsimp only at so
                rcases so with ⟨y, _⟩ | ⟨y, _⟩ | y | ⟨y, _⟩ | y
                · omega
                · omega
                · omega
                · omega
                · exact y
              refine q_rQ ?_
              have Q8 := SyQ.put (a := h6.2.1.1) (x := (68 + w, 0, nv (seg f (nx f n 200 (nx f n 200 t)).at_ (nx f n 200 (nx f n 200 t)).p), f (nx f n 200 t).at_)) (C := C) (S := S) hq I8 (K7.set (h := h) wf (by omega)) (fun j hj => rfl) (fun j g1 g2 => by have g1 : s.c ≤ j := g1; have g2 : j < s.c := g2; omega) M1 lo (by omega) (Or.inr (Or.inr (Or.inr (Or.inr hx)))) (Or.inr (Or.inr (Or.inr (Or.inr ⟨w, w5, rfl, up_eq⟩)))) ⟨by show h7.2.1.1 + 1 ≤ C + 2 * (s.q + 1); omega, by show h7.2.1.2 + 3 ≤ S + 6 * (s.q + 1); omega⟩ (by show s.c + 1 + 2 * s.q ≤ s.c + 2 * (s.q + 1); omega)
              have := kk _ _ ec _ _ Q8
              have ez : (va_up ad s.c h6.2.1.1) (s.c + 1 - 1) = h6.2.1.1 := by rw [Nat.add_sub_cancel, up_at]
              have this : Z (.inl (some (va_rf (some ((va_up ad s.c h6.2.1.1) (s.c + 1 - 1)))))) _ := this
              rw [ez] at this
              exact this
            · refine q_neg _ (ii_eqF (b := 2) (by omega)) ?_
              unfold c_DS_single_j255
              refine r_must (c := False) (k := 1) J5 (RJ.grd J5 (by decide)) rfl rfl (fun _ h' th => kf 1 _ (by
                rw [es, eb]
                unfold syC
                rw [if_neg g3, if_pos k2]) h' ⟨s.q + 1, _, h5, q1, J5, K5, by omega, by omega, th⟩) fun q => q.elim
          refine q_hIe (by rw [RJ.grd J4 (by decide)]; exact p_isSg J4 (c := 60) (by decide)) ?_
          cases h60 : isSg f (nx f n 200 t) 60 with
          | true =>
            refine q_neg _ bn1_ne ?_
            unfold c_DS_single_j222
            exact j227 (cc := True) rfl ⟨fun _ z => by rw [h60] at z; exact absurd z.1 (by decide), fun _ => True.intro⟩
          | false =>
            refine q_pos _ rfl ?_
            refine q_hIe (by rw [RJ.grd J4 (by decide)]; exact p_isSg J4 (c := 61) (by decide)) ?_
            cases h61 : isSg f (nx f n 200 t) 61 with
            | true =>
              refine q_neg _ bn1_ne ?_
              unfold c_DS_single_j222
              exact j227 (cc := True) rfl ⟨fun _ z => by rw [h61] at z; exact absurd z.2.1 (by decide), fun _ => True.intro⟩
            | false =>
              refine q_pos _ rfl ?_
              refine q_hIe (by rw [RJ.grd J4 (by decide)]; exact p_isSg J4 (c := 62) (by decide)) ?_
              cases h62 : isSg f (nx f n 200 t) 62 with
              | true =>
                refine q_neg _ bn1_ne ?_
                unfold c_DS_single_j222
                exact j227 (cc := True) rfl ⟨fun _ z => by rw [h62] at z; exact absurd z.2.2 (by decide), fun _ => True.intro⟩
              | false =>
                refine q_pos _ rfl ?_
                exact j227 (cc := False) rfl ⟨fun z => z.elim, fun z => z ⟨h60, h61, h62⟩⟩
        · obtain ⟨w, ew⟩ : ∃ k : Nat, fkw f t 14 4 0 = k := ⟨(fkw f t 14 4 0).toNat, by omega⟩
          have w4' : w < 4 := by omega
          have eb : syB f n nm m sy deep (s.1, s.2.1, s.2.2 + 1) t = syM f n nm m w (s.1, s.2.1, s.2.2 + 1) (nx f n 200 t) := by
            unfold syB
            rw [if_neg n13, if_neg n40, if_pos km, ew, Int.toNat_natCast]
          rw [ew]
          refine q_neg _ (ii_eqF (by omega)) ?_
          refine q_newO ?_
          have I5 : SyI b f n m h0 ad (s.1, s.2.1, s.2.2 + 1) (nx f n 200 t) (hnew h4 2 (.inr (14, [.int 0, .int 0]))) := I4.new
          have K5 : KF b h (hnew h4 2 (.inr (14, [.int 0, .int 0]))) := K4.trans (KF.new w4)
          have e5 : (hnew h4 2 (.inr (14, [.int 0, .int 0]))).1 h4.2.1.1 = some (.inr (14, [.int 0, .int 0])) := new_eq
          have s5 : (hnew h4 2 (.inr (14, [.int 0, .int 0]))).2.1.1 = h4.2.1.1 + 1 ∧ (hnew h4 2 (.inr (14, [.int 0, .int 0]))).2.1.2 = h4.2.1.2 + 2 := ⟨rfl, rfl⟩
          have fin : ∀ {r : Nat} {y : Int} {t2 : Tk} {h6 : PH}, SyI b f n m h0 ad (s.1, s.2.1, s.2.2 + 1) t2 h6 → KF b h h6 → h6.1 h4.2.1.1 = some (.inr (14, [.int 0, .int 0])) → h6.2.1.1 = h4.2.1.1 + 1 ∧ h6.2.1.2 = h4.2.1.2 + 2 → (2 ≤ w → y = r ∧ r < m) → syM f n nm m w (s.1, s.2.1, s.2.2 + 1) (nx f n 200 t) = .inr (syPut (s.1, s.2.1, s.2.2 + 1) (64 + w, r, 0, 0), t2) → Z (.inl (some (va_rf (some h4.2.1.1)))) (hset h6 h4.2.1.1 (.inr (14, [.int (ii w), .int (ii y)]))) := fun {r y t2 h6} I6 K6 e6 s6 hr em => by
            have I7 := I6.set (c := .inr (14, [.int (ii w), .int (ii y)])) hb w0 e6 (by decide) lo4 na4
            have Q8 := SyQ.put (a := h4.2.1.1) (x := (64 + w, r, 0, 0)) (C := C) (S := S) hq I7 (K6.set (h := h) wf (by omega)) (fun j hj => rfl) (fun j g1 g2 => by have g1 : s.c ≤ j := g1; have g2 : j < s.c := g2; omega) M1 lo (by omega) (by
              by_cases c2 : w < 2
              · exact Or.inr (Or.inr (Or.inl (by show 64 + w = 64 ∨ 64 + w = 65; omega)))
              · exact Or.inr (Or.inr (Or.inr (Or.inl ⟨by show 64 + w = 66 ∨ 64 + w = 67; omega, (hr (by omega)).2⟩)))) (Or.inr (Or.inr (Or.inr (Or.inl ⟨w, y, w4', rfl, up_eq, fun q => (hr q).1⟩)))) ⟨by show h6.2.1.1 + 1 ≤ C + 2 * (s.q + 1); omega, by show h6.2.1.2 + 3 ≤ S + 6 * (s.q + 1); omega⟩ (by show s.c + 1 + 2 * s.q ≤ s.c + 2 * (s.q + 1); omega)
            have := kk _ _ (by rw [es, eb, em]) _ _ Q8
            have ez : (va_up ad s.c h4.2.1.1) (s.c + 1 - 1) = h4.2.1.1 := by rw [Nat.add_sub_cancel, up_at]
            have this : Z (.inl (some (va_rf (some ((va_up ad s.c h4.2.1.1) (s.c + 1 - 1)))))) _ := this
            rw [ez] at this
            exact this
          show Ends (if (2 : Int32) ≤ ii (w : Int) then gQ (hnew h4 2 (.inr (14, [.int 0, .int 0]))) (b 7) [7] 11 _ else hV (c_CM_init (hnew h4 2 (.inr (14, [.int 0, .int 0]))) h4.2.1.1 _ _) noX _) Z
          generalize hnew h4 2 (.inr (14, [.int 0, .int 0])) = h5 at *
          by_cases w2 : 2 ≤ w
          · refine q_pos _ (ii_leT (a := 2) (by omega)) ?_
            obtain ⟨⟨v5, mn5, nm5, c5, tv5⟩, _⟩ := id I5.1
            obtain ⟨⟨fs, r1, r2⟩, ⟨lo', r3⟩, r4⟩ := R.kf I5.2.2.1 e7
            refine q_gQr c5 (by decide) rfl ?_
            refine q_nn ?_
            refine q_gQr r1 (by decide) r2 ?_
            refine q_nn ?_
            refine q_gQr r3 (by decide) rfl ?_
            refine q_gQr c5 (by decide) rfl ?_
            refine q_nn ?_
            refine q_gQr r1 (by decide) r2 ?_
            refine q_nn ?_
            refine q_gI r3 (by decide) rfl ?_
            refine q_nn ?_
            have em : ∀ q : ¬ w < 2, syS f n nm m sy deep s t = if nmOk f (nx f n 200 t) = false then .inl (1, (nx f n 200 t).at_) else if ofN nm (seg f (nx f n 200 t).at_ (nx f n 200 t).p) m 0 = -1 then .inl (3, (nx f n 200 t).at_) else .inr (syPut (s.1, s.2.1, s.2.2 + 1) (64 + w, (ofN nm (seg f (nx f n 200 t).at_ (nx f n 200 t).p) m 0).toNat, 0, 0), nx f n 200 (nx f n 200 t)) := fun q => by
              rw [es, eb]
              unfold syM
              rw [if_neg q]
            have nw2 : ¬ w < 2 := by omega
            refine r_known I5.1 r4 (RJ.grd I5.1 (by decide)) rfl (fun g1 h' th => kf 1 _ (by rw [em nw2, if_pos g1]) h' ⟨s.q + 1, _, h5, q1, I5.1, K5, by omega, by omega, th⟩) (fun g1 g2 h' th => kf 3 _ (by rw [em nw2, if_neg (by rw [g1]; decide), if_pos g2]) h' ⟨s.q + 1, _, h5, q1, I5.1, K5, by omega, by omega, th⟩) fun g1 r g2 g3 h6 J6 o6 => ?_
            have I6 := I5.onl hb J6 o6
            have e6 : h6.1 h4.2.1.1 = some (.inr (14, [.int 0, .int 0])) := by rw [o6.2.1 _ ne7]; exact e5
            refine q_hVe (i_CM e6) ?_
            refine q_rQ ?_
            refine fin (r := r) I6 (K5.trans (KF.onl o6)) e6 (by rw [o6.1]; exact s5) (fun _ => ⟨rfl, g3⟩) ?_
            unfold syM
            rw [if_neg nw2, if_neg (by rw [g1]; decide), if_neg (by omega), g2, Int.toNat_natCast]
          · refine q_neg _ (ii_leF (a := 2) (by omega)) ?_
            refine q_hVe (i_CM e5) ?_
            refine q_rQ ?_
            refine fin (r := 0) I5 K5 e5 s5 (fun q => absurd q w2) ?_
            unfold syM
            rw [if_pos (by omega)]
  have j60 : ∀ {cc : Prop} [Decidable cc] {x : Int32}, x = ii (bn (decide cc)) → (cc ↔ ¬ (isKw f t 13 = false ∧ isSg f t 40 = false ∧ fkw f t 14 4 0 = -1 ∧ fkw f t 18 5 0 = -1)) → Ends (c_DS_single_j60 rg h (b 7) (ii deep) (ii (bn (isKw f t 13))) (ii (bn (isSg f t 40))) (ii (fkw f t 14 4 0)) (ii (fkw f t 18 5 0)) x (b 7)) Z := by
    intro cc _ x hx hcc
    unfold c_DS_single_j60
    refine r_must (c := cc) (k := 1) J (RJ.grd J (by decide)) hx rfl (fun q h' th => kf 1 t.at_ (by
      unfold syS
      rw [if_pos (Classical.not_not.mp fun y => q (hcc.2 y))]) h' ⟨s.q, t, h, hq, J, KF.rf, z1, z2, th⟩) fun yc => ?_
    have n1 := hcc.1 yc
    refine q_gI e (by decide) rfl ?_
    by_cases c20 : 20 ≤ s.q
    · refine q_pos _ (ii_leT (a := 20) (by omega)) ?_
      unfold c_DS_single_j84
      exact j85 (cc := False) rfl ⟨fun z => z.elim, fun z => z (Or.inl c20)⟩ n1
    · refine q_neg _ (ii_leF (a := 20) (by omega)) ?_
      by_cases c8 : 8 < deep
      · refine q_pos _ (ii_ltT (a := 8) (by omega)) ?_
        unfold c_DS_single_j84
        exact j85 (cc := False) rfl ⟨fun z => z.elim, fun z => z (Or.inr c8)⟩ n1
      · refine q_neg _ (ii_ltF (a := 8) (by omega)) ?_
        exact j85 (cc := True) rfl ⟨fun _ z => by omega, fun _ => True.intro⟩ n1
  have j55 : ¬ (isKw f t 13 = false ∧ isSg f t 40 = false ∧ fkw f t 14 4 0 = -1 ∧ fkw f t 18 5 0 = -1) → Ends (c_DS_single_j55 rg h (b 7) (ii deep) (ii (bn (isKw f t 13))) (ii (bn (isSg f t 40))) (ii (fkw f t 14 4 0)) (ii (fkw f t 18 5 0)) (b 7)) Z := fun g => by
    unfold c_DS_single_j55
    exact j60 (cc := True) rfl ⟨fun _ => g, fun _ => True.intro⟩
  by_cases k13 : isKw f t 13 = true
  · refine q_neg _ (by rw [k13]; exact bn1_ne) ?_
    exact j55 fun z => by rw [k13] at z; exact absurd z.1 (by decide)
  refine q_pos _ (by rw [Bool.not_eq_true] at k13; rw [k13]; rfl) ?_
  by_cases k40 : isSg f t 40 = true
  · refine q_neg _ (by rw [k40]; exact bn1_ne) ?_
    exact j55 fun z => by rw [k40] at z; exact absurd z.2.1 (by decide)
  refine q_pos _ (by rw [Bool.not_eq_true] at k40; rw [k40]; rfl) ?_
  by_cases km : fkw f t 14 4 0 = -1
  · refine q_pos _ (by rw [km]; rfl) ?_
    by_cases kc : fkw f t 18 5 0 = -1
    · refine q_pos _ (by rw [kc]; rfl) ?_
      rw [Bool.not_eq_true] at k13 k40
      exact j60 (cc := False) rfl ⟨fun z => z.elim, fun z => z ⟨k13, k40, km, kc⟩⟩
    · refine q_neg _ (by rw [mi1]; exact ii_eqF (by omega)) ?_
      exact j55 fun z => kc z.2.2.2
  · refine q_neg _ (by rw [mi1]; exact ii_eqF (by omega)) ?_
    exact j55 fun z => km z.2.2.1
end
