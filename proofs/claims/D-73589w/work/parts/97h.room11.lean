/-! PURE SIDE: rooms: all of it, by the component -/
set_option maxRecDepth 100000
section
variable {b own own' : Nat → Nat} {X : XS} {h h1 h' : PH} {held : Int} {rm z z' : Nat} {skm : Int} {sn : Option Nat} {R R' N N' : Nat → Nat} {Tb : Nat → Bool} {seed rows' seed' : Int32}
theorem PF.rf (w : Wf h) : PF h h := ⟨rfl, w, Nat.le_refl _, Nat.le_refl _, fun _ _ e _ => e⟩
/-- what is so behind a room -/
def RoP (b own : Nat → Nat) (X : XS) (held : Int) (c s : Nat) (h : PH) (r : Rt) (h' : PH) : Prop := (∃ k pl : Nat, rmA X.tp X.len 943 0 rs0 (tok X.tp X.len 900 0) = .inl (k, pl) ∧ r = .inl (some (.int (ii (-1 - (pl : Int))))) ∧ ∃ own', CB b own' (xB X (k : Int)) (c + 10000) (s + 90000) h' ∧ FX own own' (b 0) (b 16) h h') ∨ (∃ (l : Nat) (S : RS) (A : Nat → LL), rmA X.tp X.len 943 0 rs0 (tok X.tp X.len 900 0) = .inr (l, S) ∧ r = .inl (some (.int (ii l))) ∧ RSo S ∧ ((4 ≤ S.lo ∧ S.lo ≤ 32) ∧ (∀ r, r < 4 → A r = bldL S.lo (S.bs r) ∧ (S.bs r).length ≤ 600) ∧ Lt A S.T) ∧ (∀ k, k < 11 → LsB S.lo (A k)) ∧ ∃ own', CB b own' (xN (xB X 0) S A) (c + 10000) (s + 90000) h' ∧ FX own own' (b 0) (b 16) h h')
theorem b_room {c s : Nat} (O : CBo b own X held rm z z' skm sn R R' N N' Tb seed rows' seed' h) (I : XI X) (z1 : h.2.1.1 + 2 * (s11 N + s11 N') ≤ c) (z2 : h.2.1.2 + 7 * (s11 N + s11 N') ≤ s) : Ends (c_B_room h (b 0)) (RoP b own X held c s h) := by
  obtain ⟨O1, F1⟩ := O.beg 0 (X.len : Int)
  have e0 := O.1
  have hl := I.2.1
  have wf := O.2.2.2.2.2.2
  unfold c_B_room
  refine q_grd e0 (by decide) ?_
  refine q_hVe (b_consume e0) ?_
  refine q_pI up_eq (by decide) (Nat.le_of_ble_eq_true rfl) ?_
  rw [hset_hset]
  have sz : (hset h (b 0) (bC b 0 (X.len : Int) rm z z' 0 skm X.L.length X.td.isSome sn)).2 = h.2 := rfl
  show Ends (newO (hset h (b 0) (bC b 0 (X.len : Int) rm z z' 0 skm X.L.length X.td.isSome sn)) 2 [.null, .int 0, .int 0] _) _
  generalize hset h (b 0) (bC b 0 (X.len : Int) rm z z' 0 skm X.L.length X.td.isSome sn) = h1 at *
  refine b_room0 (K := fun a3 h9 => gQ h9 (b 0) [0] 9 fun v10 => gQ h9 (b 0) [0] 8 fun v11 => nn v11 fun a12 => nn v10 fun a14 => hI (c_DR_read h9 a14 a3 a12) (fun q9 h19 => if q9.2 = 0 then nm q9.1 fun q18 => gI h19 q18 [1] 6 fun v20 => pI h19 (b 0) [0] 11 v20 fun h21 => gI h21 q18 [1] 7 fun v22 => rI ((-1 : Int32) - v22) h21 else none) fun v17 h16 => gQ h16 (b 0) [0] 8 fun v23 => gQ h16 (b 0) [0] 7 fun v24 => pQ h16 (b 0) [0] 8 v24 fun h25 => pQ h25 (b 0) [0] 7 v23 fun h26 => pQ h26 (b 0) [0] 6 (some a3) fun h27 => gQ h27 (b 0) [0] 7 fun v28 => gI h27 a3 [2] 1 fun v29 => nn v28 fun a30 => pI h27 a30 [3] 2 v29 fun h32 => pI h32 (b 0) [0] 15 (0 : Int32) fun h33 => pQ h33 (b 0) [0] 19 none fun h34 => rI v17 h34) O1 fun h9 I9 k10 => ?_
  have w1 := O1.2.2.2.2.2.2
  obtain ⟨fz, ez⟩ : ∃ fs, h1.1 z' = some (.inr (3, fs)) := by
    obtain ⟨ra', na', rf', nf', ez', _⟩ := O1.2.2.2.2.1.1
    exact ⟨_, ez'⟩
  have G9 := I9.2.2.2.2.1
  have k := G9.2.2.2.2.2
  have K9 : RdR b h9 := O1.2.2.1.1.2.1.gx G9 ez (by
    obtain ⟨⟨p, at_, tk, v, mn, nm, x8, x9, x10, e⟩, _⟩ := O1.2.2.1.1.2.1
    exact ⟨p, at_, tk, v, mn, nm, x8, x9, x10, k10 _ _ e rfl⟩)
  have O9 := O1.gx G9 K9 I9.1.any
  refine q_gQr O9.1 (by decide) rfl ?_
  refine q_gQr O9.1 (by decide) rfl ?_
  refine q_nn ?_
  refine q_nn ?_
  refine hI_E ?_
  have T9 : TB b h9 X.tp X.len := O9.tb' I.2.2.1 hl rfl
  refine r_room K9.1 T9 O9.2.2.1.1.2.2 K9.2.2.2.1 ⟨_, O9.1, rfl, rfl, rfl⟩ O9.2.2.2.2.2.2 I9 (fun kd pl ee t' S' m' hl' own2 N2 T2 A2 h2 h3 J2 I2 th => Or.inr ⟨_, rfl, ?_⟩) (fun l S ee t' own2 N2 T2 A2 h2 J2 I2 hS => Or.inl ⟨_, rfl, ?_⟩)
  · have G2 := I2.2.2.2.2.1
    have K2 : RdR b h2 := O1.2.2.1.1.2.1.gx G2 ez (by
      obtain ⟨⟨v, mn, nm, e, _⟩, _⟩ := J2
      exact ⟨_, _, _, _, _, _, _, _, _, e⟩)
    have O2 := O1.gx G2 K2 I2.1.any
    have F2 := FX.gx O1 G2
    obtain ⟨h4, q1, q2, q3, q4⟩ := O2.fault (base := -1) (bb := -1) rfl th (PF.rf O2.2.2.2.2.2.2) K2
    obtain ⟨r, hh, y1, y2, y3⟩ := q1
    subst y3
    have u1 := I2.2.2.2.2.2.2.1
    have u2 := I2.2.2.2.2.2.2.2
    rw [sz] at u1 u2
    exact ⟨r, hh, y1, Or.inl ⟨kd, pl, ee, y2, own2, q2.cb (by rw [q4]; omega) (by rw [q4]; omega), (F1.trans F2 wf).trans q3 wf⟩⟩
  · obtain ⟨r, hh, y1, y2, O3, F3, z3⟩ := b_room1 (v := ii (l : Int)) O1 I2 J2
    have u1 := I2.2.2.2.2.2.2.1
    have u2 := I2.2.2.2.2.2.2.2
    rw [sz] at u1 u2
    exact ⟨r, hh, y1, Or.inr ⟨l, S, A2, ee, y2, hS, I2.2.1, fun k hk => (I2.1.2.1 k hk).2.1, own2, O3.cb (by rw [z3]; omega) (by rw [z3]; omega), F1.trans F3 wf⟩⟩
end
