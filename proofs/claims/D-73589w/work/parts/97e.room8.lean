/-! PURE SIDE: rooms: read from the start, by the component -/
set_option maxRecDepth 100000
def rs0 : RS := (8, 0, (fun _ => []), (fun _ => []), [], false)
theorem rs0_ok : RSo rs0 := ⟨by decide, fun r hr => absurd hr (Nat.not_lt_zero r), fun _ _ => rfl⟩
section
variable {b own0 own N R' : Nat → Nat} {T : Nat → Bool} {A : Nat → LL} {f : Nat → Nat} {n ro na z' m C0 S0 : Nat} {hl : Bool} {rows seed : Int32} {t t' : Tk} {h h0 h1 h' : PH} {Z : Rt → PH → Prop} {S : RS}
theorem TS.on5 (I : TS b own0 R' z' ro na h0 C0 S0 rows seed S m own N T A h) (e5 : ∃ d, h.1 (b 5) = some d ∧ kd d = 10) (o : Onl (b 5) h h1) (w : Wf h1) : TS b own0 R' z' ro na h0 C0 S0 rows seed S m own N T A h1 := by
  obtain ⟨i1, i2, i3, ⟨i4, g, i5, i6⟩, i7, i8, i9⟩ := I
  obtain ⟨d, d1, d2⟩ := e5
  have k : ∀ {x : Nat} {c : PC}, h.1 x = some c → kd c ≠ 10 → h1.1 x = some c := fun {x c} e q => by
    rw [o.2.1 x (fun y => by
      rw [y, d1] at e
      injection e with e
      rw [← e] at q
      exact q d2)]
    exact e
  refine ⟨i1.kp (fun _ _ _ => rfl) (fun x c e q => k e fun w => ?_), i2, i3, ⟨k i4 (by show 2 * 2 ≠ 10; decide), g, k i5 (by show 2 * 1 + 1 ≠ 10; decide), i6⟩, i7.trans (GX.onl o w ⟨d, d1, d2⟩) i8.2.2, i8, ?_⟩
  · rcases q with q | q | q
    · unfold rK tK at q; rw [w] at q; exact absurd q (by decide)
    · omega
    · omega
  · rw [o.1]; exact i9
theorem r_room (K0 : ∃ p at_ tk v mn nm x8 x9 x10, h.1 (b 5) = some (rdC 5 (b 0) 900 p at_ tk v mn nm x8 x9 x10)) (TBx : TB b h f n) (St : StR b h) (Ff : ∃ fs, h.1 (b 2) = some (.inr (1, fs)) ∧ fs.length = 8) (B0 : ∃ fs, h.1 (b 0) = some (.inr (0, fs)) ∧ fs[3]? = some (.ref (b 2)) ∧ fs[4]? = some (.ref (b 3)) ∧ fs[5]? = some (.ref (b 4))) (w : Wf h) (I : TS b own0 R' z' ro na h0 C0 S0 (ii (0 : Nat)) seed rs0 0 own N T A h) (kf : ∀ kd pl, rmA f n 943 0 rs0 (tok f n 900 0) = .inl (kd, pl) → ∀ t' S' m' hl' own' N' T' A' h1 h', JR b f n ro z' hl' t' h1 → TS b own0 R' z' ro na h0 C0 S0 (ii (0 : Nat)) seed S' m' own' N' T' A' h1 → TH b h1 kd pl h' → Z (.inr (b 2, 0)) h') (kk : ∀ c' S', rmA f n 943 0 rs0 (tok f n 900 0) = .inr (c', S') → ∀ t' own' N' T' A' h', JR b f n ro z' S'.hl t' h' → TS b own0 R' z' ro na h0 C0 S0 (ii (0 : Nat)) seed S' S'.n own' N' T' A' h' → RSo S' → Z (.inl (some (.int (ii c')))) h') : Ends (c_DR_read h (b 5) ro z') Z := by
  obtain ⟨p, at_, tk, v, mn, nmv, x8, x9, x10, e⟩ := K0
  have hn := TBx.2.2.1
  have ne : ∀ {x : Nat} {c : PC}, h.1 x = some c → kd c ≠ 10 → x ≠ b 5 := fun {x c} hx hk q => by
    rw [q, e] at hx
    injection hx with hx
    rw [← hx] at hk
    exact hk rfl
  have J0 : JR b f n ro z' false (0, 0, 0) (WR b h (b 5) 5 900 (.ref ro) (.ref z') (ii (bn false)) (ii (0 : Nat)) (ii (0 : Nat)) (ii (0 : Nat)) v mn nmv) := by
    obtain ⟨fs, f1, f2⟩ := Ff
    obtain ⟨gs, g1, g2⟩ := B0
    refine ⟨⟨v, mn, nmv, up_eq, tkv_no (Or.inl rfl)⟩, TBx.set e ⟨by show 2 * 5 ≠ 0; decide, by show 2 * 5 ≠ 5; decide⟩, St.ne rfl (fun x c hx hk => up_nx (ne hx (by omega)) hx), ⟨fs, up_nx (ne f1 (by show 2 * 1 ≠ 10; decide)) f1, f2⟩, ⟨⟨Nat.zero_le _, Nat.zero_le _, Nat.zero_le _⟩, fun z => absurd (show 0 = 1 from z) (by decide), fun z => absurd (show 0 = 2 from z) (by decide)⟩, w.setE e, ⟨gs, up_nx (ne g1 (by show 2 * 0 ≠ 10; decide)) g1, g2⟩, by decide, by decide⟩
  unfold c_DR_read
  refine q_grd e (by decide) ?_
  refine q_pQ e (by decide) (Nat.le_of_ble_eq_true rfl) ?_
  refine q_pQ up_eq (by decide) (Nat.le_of_ble_eq_true rfl) ?_
  rw [hset_hset]
  refine q_pZ up_eq (by decide) (Nat.le_of_ble_eq_true rfl) (Or.inl rfl) ?_
  rw [hset_hset]
  rw [grd_eq up_eq (by decide)]
  have bg : EV (c_D_begin (hset h (b 5) (rdC 5 (b 0) 900 p at_ tk v mn nmv (.ref ro) (.ref z') 0)) (b 5)) (fun h' => JR b f n ro z' false (tok f n 900 0) h' ∧ Onl (b 5) h h') := by
    refine EV.of ?_
    unfold c_D_begin
    refine q_grd up_eq (by decide) ?_
    refine q_pI up_eq (by decide) (Nat.le_of_ble_eq_true rfl) ?_
    rw [hset_hset]
    have T1 : TB b (hset h (b 5) (RDC b 5 (900 : Nat) (.ref ro) (.ref z') (ii (bn false)) (ii (0 : Nat)) at_ tk v mn nmv)) f n := TBx.set e ⟨by show 2 * 5 ≠ 0; decide, by show 2 * 5 ≠ 5; decide⟩
    refine q_hV (p_next (cls := 5) (most := 900) (x8 := .ref ro) (x9 := .ref z') (x10 := ii (bn false)) (p := 0) (at_ := at_) (tk := tk) (v := v) (mn := mn) (nm := nmv) (Or.inl rfl) (by decide) T1 up_eq (Nat.zero_le _)) fun h1 ⟨v', mn', nm', e1, tv'⟩ => ?_
    unfold WR at e1
    rw [hset_hset] at e1
    subst e1
    have tk' := tok_ok (f := f) (n := n) (most := 900) (p := 0) (Nat.zero_le _) (by decide) hn
    obtain ⟨u1, u2⟩ := RJ.upd (y8 := .ref ro) (y9 := .ref z') (y10 := ii (bn false)) J0 tv' tk'
    unfold WR at u1 u2
    rw [hset_hset] at u1 u2
    refine q_rV ⟨rfl, u1, u2.1, fun x hx => ?_, _, _, e, up_eq, rfl⟩
    exact up_ne hx
  refine q_hV bg fun h2 ⟨J2, o2⟩ => ?_
  have I2 := I.on5 ⟨_, e, rfl⟩ o2 (RJ.wf J2)
  exact r_rmA 943 FU 0 (tok f n 900 0) rs0 own N T A h2 (by unfold FU; omega) (by decide) (fun _ => by omega) (by decide) J2 I2 rs0_ok (fun _ => ⟨rfl, rfl⟩) kf kk
end
