set_option maxRecDepth 100000
theorem si_X1_269 : SiV RX1 269 4 yX5_lit cX5_lit 1 (some .int) 0 := ⟨_, _, _, ci_4.1, by decide, lw_V q1653 q988 q989 q116 q990, ⟨rfl, by decide, by decide, by decide +kernel⟩, by decide⟩
theorem si_X1_272 : SiS RX1 272 yJ11_doubleToLongBits cJ11_doubleToLongBits 2 (some .long) 1 := ⟨lw_S q1654 q1655 q136 q1656, ⟨by decide, by decide, by decide +kernel⟩, by decide⟩
abbrev Y_B_centre : Yx := (RX1, cX1_centre, 7, 115, (some .int), [], false)
def c_B_centre_l41 (r41 : PH → Nat → Int32 → Int32 → UInt64 → Int32 → Option RH) (h : PH) (this : Nat) (x1 : Int32) (x2 : Int32) (x3 : UInt64) (x5 : Int32) : Option RH :=
  hQ (c_B_rope h this x1) noX fun v2 h1 =>
  nn v2 fun a3 =>
  hI (c_R_lit h1 a3) noX fun v6 h5 =>
  if v6 ≤ x5 then
    hQ (c_B_rope h5 this x1) noX fun v8 h7 =>
    nn v8 fun a9 =>
    hI (c_R_lit h7 a9) noX fun v12 h11 =>
    nnD (FP.ddiv x3 (FP.i2d v12)) <|
    hL (c_J11_doubleToLongBits h11 (FP.ddiv x3 (FP.i2d v12))) noX fun v14 h13 =>
    if x2 = 0 then
      rI (((v14.toUInt64 >>> ((32 : Int32).toInt64.toUInt64 &&& Int64.toUInt64 63)).toInt64).toInt32) h13
    else
      rI v14.toInt32 h13
  else
    hQ (c_B_rope h5 this x1) noX fun v16 h15 =>
    nn v16 fun a17 =>
    hI (c_R_where h15 a17 x5 (1 : Int32)) noX fun v20 h19 =>
    nnD (FP.dadd x3 (FP.i2d v20)) <|
    nm (FP.dadd x3 (FP.i2d v20)) fun y21 =>
    r41 h19 this x1 x2 y21 (x5 + (1 : Int32))
def c_B_centre_j33 (h : PH) (this : Nat) (x1 : Int32) (x2 : Int32) (s0 : Int32) : Option RH :=
  hV (c_B_must h s0) rX fun h1 =>
  nm FP.dconst0 fun y2 =>
  itr (c_B_centre_l41) (fun _ _ _ _ _ _ => none) FU h1 this x1 x2 y2 (0 : Int32)
def c_B_centre_j32 (h : PH) (this : Nat) (x1 : Int32) (x2 : Int32) : Option RH :=
  c_B_centre_j33 h this x1 x2 (0 : Int32)
def c_B_centre (h : PH) (this : Nat) (x1 : Int32) (x2 : Int32) : Option RH :=
  grd h this [0] (
  hI (c_B_isRow h this x1) noX fun v2 h1 =>
  if v2 = 0 then
    c_B_centre_j32 h1 this x1 x2
  else
    hI (c_B_isIn h1 x2 (0 : Int32) (1 : Int32)) noX fun v4 h3 =>
    if v4 = 0 then
      c_B_centre_j32 h3 this x1 x2
    else
      hQ (c_B_rope h3 this x1) noX fun v6 h5 =>
      nn v6 fun a7 =>
      hI (c_R_lit h5 a7) noX fun v10 h9 =>
      if v10 ≤ 0 then
        c_B_centre_j32 h9 this x1 x2
      else
        c_B_centre_j33 h9 this x1 x2 (1 : Int32))
set_option maxHeartbeats 4000000 in
theorem w_B_centre_l41 (r41 : PH → Nat → Int32 → Int32 → UInt64 → Int32 → Option RH) (hr41 : ∀ (h : PH) (this : Nat) (x1 : Int32) (x2 : Int32) (x3 : UInt64) (x5 : Int32), Sim Y_B_centre h 41 [(0, .ref this), (1, .int x1), (2, .int x2), (3, .double x3), (5, .int x5)] [] (r41 h this x1 x2 x3 x5)) (h : PH) (this : Nat) (x1 : Int32) (x2 : Int32) (x3 : UInt64) (x5 : Int32) : Sim Y_B_centre h 41 [(0, .ref this), (1, .int x1), (2, .int x2), (3, .double x3), (5, .int x5)] [] (c_B_centre_l41 r41 h this x1 x2 x3 x5) := by
  unfold c_B_centre_l41
  refine x_iload (pc := 41) 4 rfl dX1_centre_41 ?_
  refine x_aload_nR (pc := 43) (a := this) 0 rfl rfl dX1_centre_43 ?_
  refine x_iload_n (pc := 44) 1 rfl rfl dX1_centre_44 ?_
  refine x_callV (pc := 45) (As := [.int x1]) (rest := [.int x5]) (lev' := 114) si_X1_204 (m_B_rope h this x1) (fun z e => grd1 e) rfl rfl (by decide) (cat4 (Nat.le_of_ble_eq_true rfl)) dX1_centre_45 (kQ (fun v2 h1 => ?_)) xNo
  refine x_nn (fun a3 e4 => ?_)
  subst e4
  refine x_callV (pc := 48) (As := []) (rest := [.int x5]) (lev' := 1) si_X1_269 (m_R_lit h1 a3) (fun z e => grd1 e) rfl rfl (by decide) (cat4 (Nat.le_of_ble_eq_true rfl)) dX1_centre_48 (kI (fun v6 h5 => ?_)) xNo
  refine x_icmp_ge (pc := 51) 75 (by decide) dX1_centre_51 ?_ ?_
  · refine x_dload_n (pc := 75) 3 rfl rfl dX1_centre_75 ?_
    refine x_aload_nR (pc := 76) (a := this) 0 rfl rfl dX1_centre_76 ?_
    refine x_iload_n (pc := 77) 1 rfl rfl dX1_centre_77 ?_
    refine x_callV (pc := 78) (As := [.int x1]) (rest := [.double x3]) (lev' := 114) si_X1_204 (m_B_rope h5 this x1) (fun z e => grd1 e) rfl rfl (by decide) (cat4 (Nat.le_of_ble_eq_true rfl)) dX1_centre_78 (kQ (fun v8 h7 => ?_)) xNo
    refine x_nn (fun a9 e10 => ?_)
    subst e10
    refine x_callV (pc := 81) (As := []) (rest := [.double x3]) (lev' := 1) si_X1_269 (m_R_lit h7 a9) (fun z e => grd1 e) rfl rfl (by decide) (cat4 (Nat.le_of_ble_eq_true rfl)) dX1_centre_81 (kI (fun v12 h11 => ?_)) xNo
    refine x_i2d (pc := 84) dX1_centre_84 ?_
    refine x_ddiv (pc := 85) dX1_centre_85 ?_
    refine x_callS (pc := 86) (As := [.double (FP.ddiv x3 (FP.i2d v12))]) (rest := []) (lev' := 9) si_X1_272 (m_J11_doubleToLongBits h11 (FP.ddiv x3 (FP.i2d v12))) rfl rfl (by decide) (cat4 (Nat.le_of_ble_eq_true rfl)) dX1_centre_86 (kL (fun v14 h13 => ?_)) xNo
    refine x_lstore (pc := 89) (lv' := [(5, .long v14), (0, .ref this), (1, .int x1), (2, .int x2), (3, .double x3)]) (by decide) rfl dX1_centre_89 ?_
    refine x_iload_n (pc := 91) 3 rfl rfl dX1_centre_91 ?_
    refine x_if_ne (pc := 92) 103 (by decide) dX1_centre_92 ?_ ?_
    · refine x_lload (pc := 103) 0 rfl dX1_centre_103 ?_
      refine x_l2i (pc := 105) dX1_centre_105 ?_
      exact x_iret (pc := 106) dX1_centre_106
    · refine x_lload (pc := 95) 0 rfl dX1_centre_95 ?_
      refine x_bipush (pc := 97) (v := 32) (by decide) dX1_centre_97 ?_
      refine x_lushr (pc := 99) dX1_centre_99 ?_
      refine x_goto (pc := 100) 105 (by decide) dX1_centre_100 ?_
      refine x_l2i (pc := 105) dX1_centre_105 ?_
      exact x_iret (pc := 106) dX1_centre_106
  · refine x_dload_n (pc := 54) 3 rfl rfl dX1_centre_54 ?_
    refine x_aload_nR (pc := 55) (a := this) 0 rfl rfl dX1_centre_55 ?_
    refine x_iload_n (pc := 56) 1 rfl rfl dX1_centre_56 ?_
    refine x_callV (pc := 57) (As := [.int x1]) (rest := [.double x3]) (lev' := 114) si_X1_204 (m_B_rope h5 this x1) (fun z e => grd1 e) rfl rfl (by decide) (cat4 (Nat.le_of_ble_eq_true rfl)) dX1_centre_57 (kQ (fun v16 h15 => ?_)) xNo
    refine x_iload (pc := 60) 4 rfl dX1_centre_60 ?_
    refine x_iconst (pc := 62) (v := 1) (by decide) dX1_centre_62 ?_
    refine x_nn (fun a17 e18 => ?_)
    subst e18
    refine x_callV (pc := 63) (As := [.int x5, .int (1 : Int32)]) (rest := [.double x3]) (lev' := 3) si_X1_218 (m_R_where h15 a17 x5 (1 : Int32)) (fun z e => grd1 e) rfl rfl (by decide) (cat4 (Nat.le_of_ble_eq_true rfl)) dX1_centre_63 (kI (fun v20 h19 => ?_)) xNo
    refine x_i2d (pc := 66) dX1_centre_66 ?_
    refine x_dadd (pc := 67) dX1_centre_67 ?_
    refine x_nmD (fun y21 => ?_)
    refine x_dstore_n (pc := 68) (lv' := [(3, .double y21), (0, .ref this), (1, .int x1), (2, .int x2), (5, .int x5)]) rfl (by decide) rfl dX1_centre_68 ?_
    refine x_iinc (pc := 69) (v := (1 : Int32)) (lv' := [(5, .int (x5 + (1 : Int32))), (3, .double y21), (0, .ref this), (1, .int x1), (2, .int x2)]) 4 rfl (by decide) (by decide) rfl dX1_centre_69 ?_
    refine x_goto (pc := 72) 41 (by decide) dX1_centre_72 ?_
    refine Sim.lv [2, 3, 4, 1, 0] rfl ?_
    exact hr41 h19 this x1 x2 y21 (x5 + (1 : Int32))
set_option maxHeartbeats 4000000 in
theorem v_B_centre_l41 : ∀ (n : Nat) (h : PH) (this : Nat) (x1 : Int32) (x2 : Int32) (x3 : UInt64) (x5 : Int32), Sim Y_B_centre h 41 [(0, .ref this), (1, .int x1), (2, .int x2), (3, .double x3), (5, .int x5)] [] (itr (c_B_centre_l41) (fun _ _ _ _ _ _ => none) n h this x1 x2 x3 x5)
  | 0, h, this, x1, x2, x3, x5 => Sim.none
  | n + 1, h, this, x1, x2, x3, x5 => w_B_centre_l41 _ (v_B_centre_l41 n) h this x1 x2 x3 x5
set_option maxHeartbeats 4000000 in
theorem w_B_centre_j33 (h : PH) (this : Nat) (x1 : Int32) (x2 : Int32) (s0 : Int32) : Sim Y_B_centre h 33 [(0, .ref this), (1, .int x1), (2, .int x2)] [.int s0] (c_B_centre_j33 h this x1 x2 s0) := by
  unfold c_B_centre_j33
  refine x_callS (pc := 33) (As := [.int s0]) (rest := []) (lev' := 12) si_X1_229 (m_B_must h s0) rfl rfl (by decide) (cat4 (Nat.le_of_ble_eq_true rfl)) dX1_centre_33 (kV (fun h1 => ?_)) (xOut (by decide))
  refine x_dconst0 (pc := 36) dX1_centre_36 ?_
  refine x_nmD (fun y2 => ?_)
  refine x_dstore_n (pc := 37) (lv' := [(3, .double y2), (0, .ref this), (1, .int x1), (2, .int x2)]) rfl (by decide) rfl dX1_centre_37 ?_
  refine x_iconst (pc := 38) (v := 0) (by decide) dX1_centre_38 ?_
  refine x_istore (pc := 39) (lv' := [(5, .int (0 : Int32)), (3, .double y2), (0, .ref this), (1, .int x1), (2, .int x2)]) (by decide) rfl dX1_centre_39 ?_
  refine Sim.lv [2, 3, 4, 1, 0] rfl ?_
  exact v_B_centre_l41 FU h1 this x1 x2 y2 (0 : Int32)
set_option maxHeartbeats 4000000 in
theorem w_B_centre_j32 (h : PH) (this : Nat) (x1 : Int32) (x2 : Int32) : Sim Y_B_centre h 32 [(0, .ref this), (1, .int x1), (2, .int x2)] [] (c_B_centre_j32 h this x1 x2) := by
  unfold c_B_centre_j32
  refine x_iconst (pc := 32) (v := 0) (by decide) dX1_centre_32 ?_
  exact w_B_centre_j33 h this x1 x2 (0 : Int32)
set_option maxHeartbeats 4000000 in
theorem m_B_centre (h : PH) (this : Nat) (x1 : Int32) (x2 : Int32) : MM yX1_centre (ws_ yX1_centre cX1_centre 7 (some .int)) 115 [.ref this, .int x1, .int x2] h (c_B_centre h this x1 x2) := by
  refine MM.of (by decide) rfl (by decide) (Nat.le_of_ble_eq_true rfl) (own := RX1) (cc := cX1_centre) (maxL := 7) (lev := 115) (rt := (some .int)) (ini := false) ?_
  show Sim Y_B_centre h 0 [(0, .ref this), (1, .int x1), (2, .int x2)] [] _
  unfold c_B_centre
  refine x_grd ?_
  refine x_aload_nR (pc := 0) (a := this) 0 rfl rfl dX1_centre_0 ?_
  refine x_iload_n (pc := 1) 1 rfl rfl dX1_centre_1 ?_
  refine x_callV (pc := 2) (As := [.int x1]) (rest := []) (lev' := 2) si_X1_186 (m_B_isRow h this x1) (fun z e => grd1 e) rfl rfl (by decide) (cat4 (Nat.le_of_ble_eq_true rfl)) dX1_centre_2 (kI (fun v2 h1 => ?_)) xNo
  refine x_if_eq (pc := 5) 32 (by decide) dX1_centre_5 ?_ ?_
  · exact w_B_centre_j32 h1 this x1 x2
  · refine x_iload_n (pc := 8) 2 rfl rfl dX1_centre_8 ?_
    refine x_iconst (pc := 9) (v := 0) (by decide) dX1_centre_9 ?_
    refine x_iconst (pc := 10) (v := 1) (by decide) dX1_centre_10 ?_
    refine x_callS (pc := 11) (As := [.int x2, .int (0 : Int32), .int (1 : Int32)]) (rest := []) (lev' := 1) si_X1_182 (m_B_isIn h1 x2 (0 : Int32) (1 : Int32)) rfl rfl (by decide) (cat4 (Nat.le_of_ble_eq_true rfl)) dX1_centre_11 (kI (fun v4 h3 => ?_)) xNo
    refine x_if_eq (pc := 14) 32 (by decide) dX1_centre_14 ?_ ?_
    · exact w_B_centre_j32 h3 this x1 x2
    · refine x_aload_nR (pc := 17) (a := this) 0 rfl rfl dX1_centre_17 ?_
      refine x_iload_n (pc := 18) 1 rfl rfl dX1_centre_18 ?_
      refine x_callV (pc := 19) (As := [.int x1]) (rest := []) (lev' := 114) si_X1_204 (m_B_rope h3 this x1) (fun z e => grd1 e) rfl rfl (by decide) (cat4 (Nat.le_of_ble_eq_true rfl)) dX1_centre_19 (kQ (fun v6 h5 => ?_)) xNo
      refine x_nn (fun a7 e8 => ?_)
      subst e8
      refine x_callV (pc := 22) (As := []) (rest := []) (lev' := 1) si_X1_269 (m_R_lit h5 a7) (fun z e => grd1 e) rfl rfl (by decide) (cat4 (Nat.le_of_ble_eq_true rfl)) dX1_centre_22 (kI (fun v10 h9 => ?_)) xNo
      refine x_if_le (pc := 25) 32 (by decide) dX1_centre_25 ?_ ?_
      · exact w_B_centre_j32 h9 this x1 x2
      · refine x_iconst (pc := 28) (v := 1) (by decide) dX1_centre_28 ?_
        refine x_goto (pc := 29) 33 (by decide) dX1_centre_29 ?_
        exact w_B_centre_j33 h9 this x1 x2 (1 : Int32)
theorem si_X0_7 : SiV RX0 7 0 yX1_word cX1_word 5 (some .int) 2 := ⟨_, _, _, ci_0.1, by decide, lw_V q1593 q1594 q1595 q110 q1596, ⟨rfl, by decide, by decide, by decide +kernel⟩, by decide⟩
abbrev Y_W_word : Yx := (RX0, cX0_word, 5, 116, (some .int), [(0, 10, 13, 13)], false)
def c_W_word (h : PH) (x0 : Nat) (x1 : Int32) (x2 : Int32) (x3 : Nat) : Option RH :=
  hI (c_B_word h x0 x1 x2) (fun q9 h4 => if q9.2 = 1 then nm q9.1 fun q3 =>
      rI (1 : Int32) h4
    else none) fun v2 h1 =>
    stL h1 x3 (0 : Int32) v2.toInt64 fun h5 =>
    rI (0 : Int32) h5
set_option maxHeartbeats 4000000 in
theorem m_W_word (h : PH) (x0 : Nat) (x1 : Int32) (x2 : Int32) (x3 : Nat) : MM yX0_word (wsW_ yX0_word cX0_word 5 (some .int) [(0, 10, 13, 13)]) 116 [.ref x0, .int x1, .int x2, .ref x3] h (c_W_word h x0 x1 x2 x3) := by
  refine MM.ofH (by decide) rfl (Nat.le_of_ble_eq_true rfl) (own := RX0) (cc := cX0_word) (maxL := 5) (lev := 116) (rt := (some .int)) (hh := [(0, 10, 13, 13)]) ?_
  show Sim Y_W_word h 0 [(0, .ref x0), (1, .int x1), (2, .int x2), (3, .ref x3)] [] _
  unfold c_W_word
  refine x_aload_nR (pc := 0) (a := x3) 3 rfl rfl dX0_word_0 ?_
  refine x_iconst (pc := 1) (v := 0) (by decide) dX0_word_1 ?_
  refine x_aload_nR (pc := 2) (a := x0) 0 rfl rfl dX0_word_2 ?_
  refine x_iload_n (pc := 3) 1 rfl rfl dX0_word_3 ?_
  refine x_iload_n (pc := 4) 2 rfl rfl dX0_word_4 ?_
  refine x_callV (pc := 5) (As := [.int x1, .int x2]) (rest := [.int (0 : Int32), .ref x3]) (lev' := 115) si_X0_7 (m_B_word h x0 x1 x2) (fun z e => grd1 e) rfl rfl (by decide) (cat4 (Nat.le_of_ble_eq_true rfl)) dX0_word_5 (kI (fun v2 h1 => ?_)) (xCatch (pc := 5) (hh := [(0, 10, 13, 13)]) (k0 := 1) (E := fun q9 h4 => if q9.2 = 1 then nm q9.1 fun q3 =>
      rI (1 : Int32) h4
    else none) rfl (by decide) (by decide) rfl q1592 q1602 (fun q k h9 e => if_neg e) (fun q3 h4 => ?_))
  · refine x_i2l (pc := 8) dX0_word_8 ?_
    refine x_last (pc := 9) dX0_word_9 ?_
    intro h5
    refine x_goto (pc := 10) 17 (by decide) dX0_word_10 ?_
    refine x_iconst (pc := 17) (v := 0) (by decide) dX0_word_17 ?_
    exact x_iret (pc := 18) dX0_word_18
  · show Sim _ _ _ _ _ (if _ then nm _ _ else none)
    rw [if_pos rfl]
    show Sim _ _ _ _ _ _
    refine x_astoreR (pc := 13) (a := q3) (lv' := [(4, .ref q3), (0, .ref x0), (1, .int x1), (2, .int x2), (3, .ref x3)]) (by decide) rfl dX0_word_13 ?_
    refine x_iconst (pc := 15) (v := 1) (by decide) dX0_word_15 ?_
    exact x_iret (pc := 16) dX0_word_16
theorem si_X0_15 : SiV RX0 15 0 yX1_dense cX1_dense 5 (some .int) 3 := ⟨_, _, _, ci_0.1, by decide, lw_V q1624 q1625 q1626 q110 q1627, ⟨rfl, by decide, by decide, by decide +kernel⟩, by decide⟩
abbrev Y_W_dense : Yx := (RX0, cX0_dense, 6, 116, (some .int), [(0, 12, 15, 13)], false)
def c_W_dense (h : PH) (x0 : Nat) (x1 : Int32) (x2 : Int32) (x3 : Int32) (x4 : Nat) : Option RH :=
  hI (c_B_dense h x0 x1 x2 x3) (fun q9 h4 => if q9.2 = 1 then nm q9.1 fun q3 =>
      rI (1 : Int32) h4
    else none) fun v2 h1 =>
    stL h1 x4 (0 : Int32) v2.toInt64 fun h5 =>
    rI (0 : Int32) h5
set_option maxHeartbeats 4000000 in
theorem m_W_dense (h : PH) (x0 : Nat) (x1 : Int32) (x2 : Int32) (x3 : Int32) (x4 : Nat) : MM yX0_dense (wsW_ yX0_dense cX0_dense 6 (some .int) [(0, 12, 15, 13)]) 116 [.ref x0, .int x1, .int x2, .int x3, .ref x4] h (c_W_dense h x0 x1 x2 x3 x4) := by
  refine MM.ofH (by decide) rfl (Nat.le_of_ble_eq_true rfl) (own := RX0) (cc := cX0_dense) (maxL := 6) (lev := 116) (rt := (some .int)) (hh := [(0, 12, 15, 13)]) ?_
  show Sim Y_W_dense h 0 [(0, .ref x0), (1, .int x1), (2, .int x2), (3, .int x3), (4, .ref x4)] [] _
  unfold c_W_dense
  refine x_aloadR (pc := 0) (a := x4) 4 rfl dX0_dense_0 ?_
  refine x_iconst (pc := 2) (v := 0) (by decide) dX0_dense_2 ?_
  refine x_aload_nR (pc := 3) (a := x0) 0 rfl rfl dX0_dense_3 ?_
  refine x_iload_n (pc := 4) 1 rfl rfl dX0_dense_4 ?_
  refine x_iload_n (pc := 5) 2 rfl rfl dX0_dense_5 ?_
  refine x_iload_n (pc := 6) 3 rfl rfl dX0_dense_6 ?_
  refine x_callV (pc := 7) (As := [.int x1, .int x2, .int x3]) (rest := [.int (0 : Int32), .ref x4]) (lev' := 115) si_X0_15 (m_B_dense h x0 x1 x2 x3) (fun z e => grd1 e) rfl rfl (by decide) (cat4 (Nat.le_of_ble_eq_true rfl)) dX0_dense_7 (kI (fun v2 h1 => ?_)) (xCatch (pc := 7) (hh := [(0, 12, 15, 13)]) (k0 := 1) (E := fun q9 h4 => if q9.2 = 1 then nm q9.1 fun q3 =>
      rI (1 : Int32) h4
    else none) rfl (by decide) (by decide) rfl q1592 q1602 (fun q k h9 e => if_neg e) (fun q3 h4 => ?_))
  · refine x_i2l (pc := 10) dX0_dense_10 ?_
    refine x_last (pc := 11) dX0_dense_11 ?_
    intro h5
    refine x_goto (pc := 12) 19 (by decide) dX0_dense_12 ?_
    refine x_iconst (pc := 19) (v := 0) (by decide) dX0_dense_19 ?_
    exact x_iret (pc := 20) dX0_dense_20
  · show Sim _ _ _ _ _ (if _ then nm _ _ else none)
    rw [if_pos rfl]
    show Sim _ _ _ _ _ _
    refine x_astoreR (pc := 15) (a := q3) (lv' := [(5, .ref q3), (0, .ref x0), (1, .int x1), (2, .int x2), (3, .int x3), (4, .ref x4)]) (by decide) rfl dX0_dense_15 ?_
    refine x_iconst (pc := 17) (v := 1) (by decide) dX0_dense_17 ?_
    exact x_iret (pc := 18) dX0_dense_18
theorem si_X0_19 : SiV RX0 19 0 yX1_load cX1_load 3 (some .int) 1 := ⟨_, _, _, ci_0.1, by decide, lw_V q1642 q1643 q1644 q110 q1645, ⟨rfl, by decide, by decide, by decide +kernel⟩, by decide⟩
abbrev Y_W_load : Yx := (RX0, cX0_load, 4, 116, (some .int), [(0, 9, 12, 13)], false)
def c_W_load (h : PH) (x0 : Nat) (x1 : Int32) (x2 : Nat) : Option RH :=
  hI (c_B_load h x0 x1) (fun q9 h4 => if q9.2 = 1 then nm q9.1 fun q3 =>
      rI (1 : Int32) h4
    else none) fun v2 h1 =>
    stL h1 x2 (0 : Int32) v2.toInt64 fun h5 =>
    rI (0 : Int32) h5
set_option maxHeartbeats 4000000 in
theorem m_W_load (h : PH) (x0 : Nat) (x1 : Int32) (x2 : Nat) : MM yX0_load (wsW_ yX0_load cX0_load 4 (some .int) [(0, 9, 12, 13)]) 116 [.ref x0, .int x1, .ref x2] h (c_W_load h x0 x1 x2) := by
  refine MM.ofH (by decide) rfl (Nat.le_of_ble_eq_true rfl) (own := RX0) (cc := cX0_load) (maxL := 4) (lev := 116) (rt := (some .int)) (hh := [(0, 9, 12, 13)]) ?_
  show Sim Y_W_load h 0 [(0, .ref x0), (1, .int x1), (2, .ref x2)] [] _
  unfold c_W_load
  refine x_aload_nR (pc := 0) (a := x2) 2 rfl rfl dX0_load_0 ?_
  refine x_iconst (pc := 1) (v := 0) (by decide) dX0_load_1 ?_
  refine x_aload_nR (pc := 2) (a := x0) 0 rfl rfl dX0_load_2 ?_
  refine x_iload_n (pc := 3) 1 rfl rfl dX0_load_3 ?_
  refine x_callV (pc := 4) (As := [.int x1]) (rest := [.int (0 : Int32), .ref x2]) (lev' := 115) si_X0_19 (m_B_load h x0 x1) (fun z e => grd1 e) rfl rfl (by decide) (cat4 (Nat.le_of_ble_eq_true rfl)) dX0_load_4 (kI (fun v2 h1 => ?_)) (xCatch (pc := 4) (hh := [(0, 9, 12, 13)]) (k0 := 1) (E := fun q9 h4 => if q9.2 = 1 then nm q9.1 fun q3 =>
      rI (1 : Int32) h4
    else none) rfl (by decide) (by decide) rfl q1592 q1602 (fun q k h9 e => if_neg e) (fun q3 h4 => ?_))
  · refine x_i2l (pc := 7) dX0_load_7 ?_
    refine x_last (pc := 8) dX0_load_8 ?_
    intro h5
    refine x_goto (pc := 9) 15 (by decide) dX0_load_9 ?_
    refine x_iconst (pc := 15) (v := 0) (by decide) dX0_load_15 ?_
    exact x_iret (pc := 16) dX0_load_16
  · show Sim _ _ _ _ _ (if _ then nm _ _ else none)
    rw [if_pos rfl]
    show Sim _ _ _ _ _ _
    refine x_astore_nR (pc := 12) (a := q3) (lv' := [(3, .ref q3), (0, .ref x0), (1, .int x1), (2, .ref x2)]) rfl (by decide) rfl dX0_load_12 ?_
    refine x_iconst (pc := 13) (v := 1) (by decide) dX0_load_13 ?_
    exact x_iret (pc := 14) dX0_load_14
theorem si_X0_23 : SiV RX0 23 0 yX1_centre cX1_centre 7 (some .int) 2 := ⟨_, _, _, ci_0.1, by decide, lw_V q1649 q1650 q1651 q110 q1652, ⟨rfl, by decide, by decide, by decide +kernel⟩, by decide⟩
abbrev Y_W_centre : Yx := (RX0, cX0_centre, 5, 116, (some .int), [(0, 10, 13, 13)], false)
def c_W_centre (h : PH) (x0 : Nat) (x1 : Int32) (x2 : Int32) (x3 : Nat) : Option RH :=
  hI (c_B_centre h x0 x1 x2) (fun q9 h4 => if q9.2 = 1 then nm q9.1 fun q3 =>
      rI (1 : Int32) h4
    else none) fun v2 h1 =>
    stL h1 x3 (0 : Int32) v2.toInt64 fun h5 =>
    rI (0 : Int32) h5
set_option maxHeartbeats 4000000 in
theorem m_W_centre (h : PH) (x0 : Nat) (x1 : Int32) (x2 : Int32) (x3 : Nat) : MM yX0_centre (wsW_ yX0_centre cX0_centre 5 (some .int) [(0, 10, 13, 13)]) 116 [.ref x0, .int x1, .int x2, .ref x3] h (c_W_centre h x0 x1 x2 x3) := by
  refine MM.ofH (by decide) rfl (Nat.le_of_ble_eq_true rfl) (own := RX0) (cc := cX0_centre) (maxL := 5) (lev := 116) (rt := (some .int)) (hh := [(0, 10, 13, 13)]) ?_
  show Sim Y_W_centre h 0 [(0, .ref x0), (1, .int x1), (2, .int x2), (3, .ref x3)] [] _
  unfold c_W_centre
  refine x_aload_nR (pc := 0) (a := x3) 3 rfl rfl dX0_centre_0 ?_
  refine x_iconst (pc := 1) (v := 0) (by decide) dX0_centre_1 ?_
  refine x_aload_nR (pc := 2) (a := x0) 0 rfl rfl dX0_centre_2 ?_
  refine x_iload_n (pc := 3) 1 rfl rfl dX0_centre_3 ?_
  refine x_iload_n (pc := 4) 2 rfl rfl dX0_centre_4 ?_
  refine x_callV (pc := 5) (As := [.int x1, .int x2]) (rest := [.int (0 : Int32), .ref x3]) (lev' := 115) si_X0_23 (m_B_centre h x0 x1 x2) (fun z e => grd1 e) rfl rfl (by decide) (cat4 (Nat.le_of_ble_eq_true rfl)) dX0_centre_5 (kI (fun v2 h1 => ?_)) (xCatch (pc := 5) (hh := [(0, 10, 13, 13)]) (k0 := 1) (E := fun q9 h4 => if q9.2 = 1 then nm q9.1 fun q3 =>
      rI (1 : Int32) h4
    else none) rfl (by decide) (by decide) rfl q1592 q1602 (fun q k h9 e => if_neg e) (fun q3 h4 => ?_))
  · refine x_i2l (pc := 8) dX0_centre_8 ?_
    refine x_last (pc := 9) dX0_centre_9 ?_
    intro h5
    refine x_goto (pc := 10) 17 (by decide) dX0_centre_10 ?_
    refine x_iconst (pc := 17) (v := 0) (by decide) dX0_centre_17 ?_
    exact x_iret (pc := 18) dX0_centre_18
  · show Sim _ _ _ _ _ (if _ then nm _ _ else none)
    rw [if_pos rfl]
    show Sim _ _ _ _ _ _
    refine x_astoreR (pc := 13) (a := q3) (lv' := [(4, .ref q3), (0, .ref x0), (1, .int x1), (2, .int x2), (3, .ref x3)]) (by decide) rfl dX0_centre_13 ?_
    refine x_iconst (pc := 15) (v := 1) (by decide) dX0_centre_15 ?_
    exact x_iret (pc := 16) dX0_centre_16
