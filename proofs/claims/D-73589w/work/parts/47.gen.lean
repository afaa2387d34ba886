set_option maxRecDepth 100000
abbrev Y_M_asDouble : Yx := (RX10, cX10_asDouble, 5, 2, (some .long), [], false)
def c_M_asDouble (h : PH) (this : Nat) (x1 : Int32) (x2 : Int32) : Option RH :=
  grd h this [8] (
  if x1 = 0 then
    rL (0 : Int64) h
  else
    hL (c_M_firstBits h this x1 x2 (53 : Int32)) noX fun v2 h1 =>
    gI h1 this [8] 26 fun v3 =>
    rL (((v3.toInt64 + (1023 : Int64)) <<< ((52 : Int32).toInt64 &&& 63)) ||| (v2 - (4503599627370496 : Int64))) h1)
set_option maxHeartbeats 4000000 in
theorem m_M_asDouble (h : PH) (this : Nat) (x1 : Int32) (x2 : Int32) : MM yX10_asDouble (ws_ yX10_asDouble cX10_asDouble 5 (some .long)) 2 [.ref this, .int x1, .int x2] h (c_M_asDouble h this x1 x2) := by
  refine MM.of (by decide) rfl (by decide) (Nat.le_of_ble_eq_true rfl) (own := RX10) (cc := cX10_asDouble) (maxL := 5) (lev := 2) (rt := (some .long)) (ini := false) ?_
  show Sim Y_M_asDouble h 0 [(0, .ref this), (1, .int x1), (2, .int x2)] [] _
  unfold c_M_asDouble
  refine x_grd ?_
  refine x_iload_n (pc := 0) 1 rfl rfl dX10_asDouble_0 ?_
  refine x_if_ne (pc := 1) 6 (by decide) dX10_asDouble_1 ?_ ?_
  · refine x_aload_nR (pc := 6) (a := this) 0 rfl rfl dX10_asDouble_6 ?_
    refine x_iload_n (pc := 7) 1 rfl rfl dX10_asDouble_7 ?_
    refine x_iload_n (pc := 8) 2 rfl rfl dX10_asDouble_8 ?_
    refine x_bipush (pc := 9) (v := 53) (by decide) dX10_asDouble_9 ?_
    refine x_callV (pc := 11) (As := [.int x1, .int x2, .int (53 : Int32)]) (rest := []) (lev' := 1) si_X10_251 (m_M_firstBits h this x1 x2 (53 : Int32)) (fun z e => grd1 e) rfl rfl (by decide) (cat4 (Nat.le_of_ble_eq_true rfl)) dX10_asDouble_11 (kL (fun v2 h1 => ?_)) xNo
    refine x_lstore_n (pc := 14) (lv' := [(3, .long v2), (0, .ref this), (1, .int x1), (2, .int x2)]) rfl (by decide) rfl dX10_asDouble_14 ?_
    refine x_aload_nR (pc := 15) (a := this) 1 rfl rfl dX10_asDouble_15 ?_
    refine x_getI (pc := 16) fi_X10_246 dX10_asDouble_16 ?_
    intro v3
    refine x_i2l (pc := 19) dX10_asDouble_19 ?_
    refine x_ldc2 (pc := 20) (v := 1023) q2032 dX10_asDouble_20 ?_
    refine x_ladd (pc := 23) dX10_asDouble_23 ?_
    refine x_bipush (pc := 24) (v := 52) (by decide) dX10_asDouble_24 ?_
    refine x_lshl (pc := 26) dX10_asDouble_26 ?_
    refine x_lload_n (pc := 27) 0 rfl rfl dX10_asDouble_27 ?_
    refine x_ldc2 (pc := 28) (v := 4503599627370496) q2033 dX10_asDouble_28 ?_
    refine x_lsub (pc := 31) dX10_asDouble_31 ?_
    refine x_lor (pc := 32) dX10_asDouble_32 ?_
    exact x_lret (pc := 33) dX10_asDouble_33
  · refine x_lconst (pc := 4) (v := 0) (by decide) dX10_asDouble_4 ?_
    exact x_lret (pc := 5) dX10_asDouble_5
theorem si_X10_263 : SiV RX10 263 8 yX10_asDouble cX10_asDouble 5 (some .long) 2 := ⟨_, _, _, ci_8.1, by decide, lw_V q2028 q2030 qs71 q121 q2031, ⟨rfl, by decide, by decide, by decide +kernel⟩, by decide⟩
abbrev Y_M_centre : Yx := (RX10, cX10_centre, 7, 3, (some .int), [], false)
def c_M_centre_l35 (r35 : PH → Nat → Int32 → Int32 → Int32 → Int32 → Int32 → Option RH) (h : PH) (this : Nat) (x1 : Int32) (x2 : Int32) (x3 : Int32) (x4 : Int32) (x5 : Int32) : Option RH :=
  hI (c_M_sizeOf h this x1) noX fun v2 h1 =>
  if v2 ≤ x5 then
    if x3 = 0 then
      hI (c_M_refuse h1 this) noX fun v6 h5 =>
      rI v6 h5
    else
      hL (c_M_asDouble h1 this x4 x3) noX fun v4 h3 =>
      if x2 = 0 then
        rI ((v4 >>> ((32 : Int32).toInt64 &&& 63)).toInt32) h3
      else
        rI v4.toInt32 h3
  else
    hI (c_M_bitOf h1 this x1 x5) noX fun v8 h7 =>
    if v8 = 0 then
      r35 h7 this x1 x2 x3 x4 (x5 + (1 : Int32))
    else
      nm (x4 + x5) fun y9 =>
      r35 h7 this x1 x2 (x3 + (1 : Int32)) y9 (x5 + (1 : Int32))
def c_M_centre (h : PH) (this : Nat) (x1 : Int32) (x2 : Int32) : Option RH :=
  grd h this [8] (
  pI h this [8] 0 (0 : Int32) fun h1 =>
  hI (c_M_isRow h1 this x1) noX fun v3 h2 =>
  if v3 = 0 then
    hI (c_M_refuse h2 this) noX fun v5 h4 =>
    rI v5 h4
  else
    hI (c_M_isIn h2 x2 (0 : Int32) (1 : Int32)) noX fun v7 h6 =>
    if v7 = 0 then
      hI (c_M_refuse h6 this) noX fun v9 h8 =>
      rI v9 h8
    else
      itr (c_M_centre_l35) (fun _ _ _ _ _ _ _ => none) FU h6 this x1 x2 (0 : Int32) (0 : Int32) (0 : Int32))
set_option maxHeartbeats 4000000 in
theorem w_M_centre_l35 (r35 : PH → Nat → Int32 → Int32 → Int32 → Int32 → Int32 → Option RH) (hr35 : ∀ (h : PH) (this : Nat) (x1 : Int32) (x2 : Int32) (x3 : Int32) (x4 : Int32) (x5 : Int32), Sim Y_M_centre h 35 [(0, .ref this), (1, .int x1), (2, .int x2), (3, .int x3), (4, .int x4), (5, .int x5)] [] (r35 h this x1 x2 x3 x4 x5)) (h : PH) (this : Nat) (x1 : Int32) (x2 : Int32) (x3 : Int32) (x4 : Int32) (x5 : Int32) : Sim Y_M_centre h 35 [(0, .ref this), (1, .int x1), (2, .int x2), (3, .int x3), (4, .int x4), (5, .int x5)] [] (c_M_centre_l35 r35 h this x1 x2 x3 x4 x5) := by
  unfold c_M_centre_l35
  refine x_iload (pc := 35) 5 rfl dX10_centre_35 ?_
  refine x_aload_nR (pc := 37) (a := this) 0 rfl rfl dX10_centre_37 ?_
  refine x_iload_n (pc := 38) 1 rfl rfl dX10_centre_38 ?_
  refine x_callV (pc := 39) (As := [.int x1]) (rest := [.int x5]) (lev' := 1) si_X10_199 (m_M_sizeOf h this x1) (fun z e => grd1 e) rfl rfl (by decide) (cat4 (Nat.le_of_ble_eq_true rfl)) dX10_centre_39 (kI (fun v2 h1 => ?_)) xNo
  refine x_icmp_ge (pc := 42) 74 (by decide) dX10_centre_42 ?_ ?_
  · refine x_iload_n (pc := 74) 3 rfl rfl dX10_centre_74 ?_
    refine x_if_ne (pc := 75) 83 (by decide) dX10_centre_75 ?_ ?_
    · refine x_aload_nR (pc := 83) (a := this) 0 rfl rfl dX10_centre_83 ?_
      refine x_iload (pc := 84) 4 rfl dX10_centre_84 ?_
      refine x_iload_n (pc := 86) 3 rfl rfl dX10_centre_86 ?_
      refine x_callV (pc := 87) (As := [.int x4, .int x3]) (rest := []) (lev' := 2) si_X10_263 (m_M_asDouble h1 this x4 x3) (fun z e => grd1 e) rfl rfl (by decide) (cat4 (Nat.le_of_ble_eq_true rfl)) dX10_centre_87 (kL (fun v4 h3 => ?_)) xNo
      refine x_lstore (pc := 90) (lv' := [(5, .long v4), (0, .ref this), (1, .int x1), (2, .int x2), (3, .int x3), (4, .int x4)]) (by decide) rfl dX10_centre_90 ?_
      refine x_iload_n (pc := 92) 3 rfl rfl dX10_centre_92 ?_
      refine x_if_ne (pc := 93) 104 (by decide) dX10_centre_93 ?_ ?_
      · refine x_lload (pc := 104) 0 rfl dX10_centre_104 ?_
        refine x_l2i (pc := 106) dX10_centre_106 ?_
        exact x_iret (pc := 107) dX10_centre_107
      · refine x_lload (pc := 96) 0 rfl dX10_centre_96 ?_
        refine x_bipush (pc := 98) (v := 32) (by decide) dX10_centre_98 ?_
        refine x_lshr (pc := 100) dX10_centre_100 ?_
        refine x_goto (pc := 101) 106 (by decide) dX10_centre_101 ?_
        refine x_l2i (pc := 106) dX10_centre_106 ?_
        exact x_iret (pc := 107) dX10_centre_107
    · refine x_aload_nR (pc := 78) (a := this) 0 rfl rfl dX10_centre_78 ?_
      refine x_callV (pc := 79) (As := []) (rest := []) (lev' := 1) si_X10_231 (m_M_refuse h1 this) (fun z e => grd1 e) rfl rfl (by decide) (cat4 (Nat.le_of_ble_eq_true rfl)) dX10_centre_79 (kI (fun v6 h5 => ?_)) xNo
      exact x_iret (pc := 82) dX10_centre_82
  · refine x_aload_nR (pc := 45) (a := this) 0 rfl rfl dX10_centre_45 ?_
    refine x_iload_n (pc := 46) 1 rfl rfl dX10_centre_46 ?_
    refine x_iload (pc := 47) 5 rfl dX10_centre_47 ?_
    refine x_callV (pc := 49) (As := [.int x1, .int x5]) (rest := []) (lev' := 1) si_X10_212 (m_M_bitOf h1 this x1 x5) (fun z e => grd1 e) rfl rfl (by decide) (cat4 (Nat.le_of_ble_eq_true rfl)) dX10_centre_49 (kI (fun v8 h7 => ?_)) xNo
    refine x_if_ne (pc := 52) 58 (by decide) dX10_centre_52 ?_ ?_
    · refine x_iinc (pc := 58) (v := (1 : Int32)) (lv' := [(3, .int (x3 + (1 : Int32))), (0, .ref this), (1, .int x1), (2, .int x2), (4, .int x4), (5, .int x5)]) 3 rfl (by decide) (by decide) rfl dX10_centre_58 ?_
      refine x_iload (pc := 61) 4 rfl dX10_centre_61 ?_
      refine x_iload (pc := 63) 5 rfl dX10_centre_63 ?_
      refine x_iadd (pc := 65) dX10_centre_65 ?_
      refine x_nmI (fun y9 => ?_)
      refine x_istore (pc := 66) (lv' := [(4, .int y9), (3, .int (x3 + (1 : Int32))), (0, .ref this), (1, .int x1), (2, .int x2), (5, .int x5)]) (by decide) rfl dX10_centre_66 ?_
      refine x_iinc (pc := 68) (v := (1 : Int32)) (lv' := [(5, .int (x5 + (1 : Int32))), (4, .int y9), (3, .int (x3 + (1 : Int32))), (0, .ref this), (1, .int x1), (2, .int x2)]) 5 rfl (by decide) (by decide) rfl dX10_centre_68 ?_
      refine x_goto (pc := 71) 35 (by decide) dX10_centre_71 ?_
      refine Sim.lv [3, 4, 5, 2, 1, 0] rfl ?_
      exact hr35 h7 this x1 x2 (x3 + (1 : Int32)) y9 (x5 + (1 : Int32))
    · refine x_goto (pc := 55) 68 (by decide) dX10_centre_55 ?_
      refine x_iinc (pc := 68) (v := (1 : Int32)) (lv' := [(5, .int (x5 + (1 : Int32))), (0, .ref this), (1, .int x1), (2, .int x2), (3, .int x3), (4, .int x4)]) 5 rfl (by decide) (by decide) rfl dX10_centre_68 ?_
      refine x_goto (pc := 71) 35 (by decide) dX10_centre_71 ?_
      refine Sim.lv [1, 2, 3, 4, 5, 0] rfl ?_
      exact hr35 h7 this x1 x2 x3 x4 (x5 + (1 : Int32))
set_option maxHeartbeats 4000000 in
theorem v_M_centre_l35 : ∀ (n : Nat) (h : PH) (this : Nat) (x1 : Int32) (x2 : Int32) (x3 : Int32) (x4 : Int32) (x5 : Int32), Sim Y_M_centre h 35 [(0, .ref this), (1, .int x1), (2, .int x2), (3, .int x3), (4, .int x4), (5, .int x5)] [] (itr (c_M_centre_l35) (fun _ _ _ _ _ _ _ => none) n h this x1 x2 x3 x4 x5)
  | 0, h, this, x1, x2, x3, x4, x5 => Sim.none
  | n + 1, h, this, x1, x2, x3, x4, x5 => w_M_centre_l35 _ (v_M_centre_l35 n) h this x1 x2 x3 x4 x5
set_option maxHeartbeats 4000000 in
theorem m_M_centre (h : PH) (this : Nat) (x1 : Int32) (x2 : Int32) : MM yX10_centre (ws_ yX10_centre cX10_centre 7 (some .int)) 3 [.ref this, .int x1, .int x2] h (c_M_centre h this x1 x2) := by
  refine MM.of (by decide) rfl (by decide) (Nat.le_of_ble_eq_true rfl) (own := RX10) (cc := cX10_centre) (maxL := 7) (lev := 3) (rt := (some .int)) (ini := false) ?_
  show Sim Y_M_centre h 0 [(0, .ref this), (1, .int x1), (2, .int x2)] [] _
  unfold c_M_centre
  refine x_grd ?_
  refine x_aload_nR (pc := 0) (a := this) 0 rfl rfl dX10_centre_0 ?_
  refine x_iconst (pc := 1) (v := 0) (by decide) dX10_centre_1 ?_
  refine x_pI (pc := 2) fi_X10_1 (fun z => absurd z (by decide)) dX10_centre_2 ?_
  intro h1
  refine x_aload_nR (pc := 5) (a := this) 0 rfl rfl dX10_centre_5 ?_
  refine x_iload_n (pc := 6) 1 rfl rfl dX10_centre_6 ?_
  refine x_callV (pc := 7) (As := [.int x1]) (rest := []) (lev' := 2) si_X10_215 (m_M_isRow h1 this x1) (fun z e => grd1 e) rfl rfl (by decide) (cat4 (Nat.le_of_ble_eq_true rfl)) dX10_centre_7 (kI (fun v3 h2 => ?_)) xNo
  refine x_if_eq (pc := 10) 22 (by decide) dX10_centre_10 ?_ ?_
  · refine x_aload_nR (pc := 22) (a := this) 0 rfl rfl dX10_centre_22 ?_
    refine x_callV (pc := 23) (As := []) (rest := []) (lev' := 1) si_X10_231 (m_M_refuse h2 this) (fun z e => grd1 e) rfl rfl (by decide) (cat4 (Nat.le_of_ble_eq_true rfl)) dX10_centre_23 (kI (fun v5 h4 => ?_)) xNo
    exact x_iret (pc := 26) dX10_centre_26
  · refine x_iload_n (pc := 13) 2 rfl rfl dX10_centre_13 ?_
    refine x_iconst (pc := 14) (v := 0) (by decide) dX10_centre_14 ?_
    refine x_iconst (pc := 15) (v := 1) (by decide) dX10_centre_15 ?_
    refine x_callS (pc := 16) (As := [.int x2, .int (0 : Int32), .int (1 : Int32)]) (rest := []) (lev' := 1) si_X10_75 (m_M_isIn h2 x2 (0 : Int32) (1 : Int32)) rfl rfl (by decide) (cat4 (Nat.le_of_ble_eq_true rfl)) dX10_centre_16 (kI (fun v7 h6 => ?_)) xNo
    refine x_if_ne (pc := 19) 27 (by decide) dX10_centre_19 ?_ ?_
    · refine x_iconst (pc := 27) (v := 0) (by decide) dX10_centre_27 ?_
      refine x_istore_n (pc := 28) (lv' := [(3, .int (0 : Int32)), (0, .ref this), (1, .int x1), (2, .int x2)]) rfl (by decide) rfl dX10_centre_28 ?_
      refine x_iconst (pc := 29) (v := 0) (by decide) dX10_centre_29 ?_
      refine x_istore (pc := 30) (lv' := [(4, .int (0 : Int32)), (3, .int (0 : Int32)), (0, .ref this), (1, .int x1), (2, .int x2)]) (by decide) rfl dX10_centre_30 ?_
      refine x_iconst (pc := 32) (v := 0) (by decide) dX10_centre_32 ?_
      refine x_istore (pc := 33) (lv' := [(5, .int (0 : Int32)), (4, .int (0 : Int32)), (3, .int (0 : Int32)), (0, .ref this), (1, .int x1), (2, .int x2)]) (by decide) rfl dX10_centre_33 ?_
      refine Sim.lv [3, 4, 5, 2, 1, 0] rfl ?_
      exact v_M_centre_l35 FU h6 this x1 x2 (0 : Int32) (0 : Int32) (0 : Int32)
    · refine x_aload_nR (pc := 22) (a := this) 0 rfl rfl dX10_centre_22 ?_
      refine x_callV (pc := 23) (As := []) (rest := []) (lev' := 1) si_X10_231 (m_M_refuse h6 this) (fun z e => grd1 e) rfl rfl (by decide) (cat4 (Nat.le_of_ble_eq_true rfl)) dX10_centre_23 (kI (fun v9 h8 => ?_)) xNo
      exact x_iret (pc := 26) dX10_centre_26
abbrev Y_M_apart : Yx := (RX10, cX10_apart, 5, 3, (some .int), [], false)
def c_M_apart_l65 (r65 : PH → Nat → Int32 → Int32 → Int32 → Int32 → Option RH) (h : PH) (this : Nat) (x1 : Int32) (x2 : Int32) (x3 : Int32) (x4 : Int32) : Option RH :=
  hI (c_M_isThere h this x1 x4) noX fun v2 h1 =>
  if v2 = 0 then
    rI x3 h1
  else
    hI (c_M_isThere h1 this x2 x4) noX fun v4 h3 =>
    if v4 = 0 then
      rI x3 h3
    else
      hI (c_M_bitOf h3 this x1 x4) noX fun v6 h5 =>
      hI (c_M_bitOf h5 this x2 x4) noX fun v8 h7 =>
      if v6 = v8 then
        r65 h7 this x1 x2 x3 (x4 + (1 : Int32))
      else
        r65 h7 this x1 x2 (x3 + (1 : Int32)) (x4 + (1 : Int32))
def c_M_apart (h : PH) (this : Nat) (x1 : Int32) (x2 : Int32) : Option RH :=
  grd h this [8] (
  pI h this [8] 0 (0 : Int32) fun h1 =>
  hI (c_M_isRow h1 this x1) noX fun v3 h2 =>
  if v3 = 0 then
    rI (-1 : Int32) h2
  else
    hI (c_M_isRow h2 this x2) noX fun v5 h4 =>
    if v5 = 0 then
      rI (-1 : Int32) h4
    else
      hI (c_M_sizeOf h4 this x1) noX fun v7 h6 =>
      hI (c_M_sizeOf h6 this x2) noX fun v9 h8 =>
      if v7 ≤ v9 then
        hI (c_M_sizeOf h8 this x2) noX fun v11 h10 =>
        hI (c_M_sizeOf h10 this x1) noX fun v13 h12 =>
        nm (v11 - v13) fun y14 =>
        itr (c_M_apart_l65) (fun _ _ _ _ _ _ => none) FU h12 this x1 x2 y14 (0 : Int32)
      else
        hI (c_M_sizeOf h8 this x1) noX fun v16 h15 =>
        hI (c_M_sizeOf h15 this x2) noX fun v18 h17 =>
        nm (v16 - v18) fun y19 =>
        itr (c_M_apart_l65) (fun _ _ _ _ _ _ => none) FU h17 this x1 x2 y19 (0 : Int32))
set_option maxHeartbeats 4000000 in
theorem w_M_apart_l65 (r65 : PH → Nat → Int32 → Int32 → Int32 → Int32 → Option RH) (hr65 : ∀ (h : PH) (this : Nat) (x1 : Int32) (x2 : Int32) (x3 : Int32) (x4 : Int32), Sim Y_M_apart h 65 [(0, .ref this), (1, .int x1), (2, .int x2), (3, .int x3), (4, .int x4)] [] (r65 h this x1 x2 x3 x4)) (h : PH) (this : Nat) (x1 : Int32) (x2 : Int32) (x3 : Int32) (x4 : Int32) : Sim Y_M_apart h 65 [(0, .ref this), (1, .int x1), (2, .int x2), (3, .int x3), (4, .int x4)] [] (c_M_apart_l65 r65 h this x1 x2 x3 x4) := by
  unfold c_M_apart_l65
  refine x_aload_nR (pc := 65) (a := this) 0 rfl rfl dX10_apart_65 ?_
  refine x_iload_n (pc := 66) 1 rfl rfl dX10_apart_66 ?_
  refine x_iload (pc := 67) 4 rfl dX10_apart_67 ?_
  refine x_callV (pc := 69) (As := [.int x1, .int x4]) (rest := []) (lev' := 2) si_X10_218 (m_M_isThere h this x1 x4) (fun z e => grd1 e) rfl rfl (by decide) (cat4 (Nat.le_of_ble_eq_true rfl)) dX10_apart_69 (kI (fun v2 h1 => ?_)) xNo
  refine x_if_eq (pc := 72) 111 (by decide) dX10_apart_72 ?_ ?_
  · refine x_iload_n (pc := 111) 3 rfl rfl dX10_apart_111 ?_
    exact x_iret (pc := 112) dX10_apart_112
  · refine x_aload_nR (pc := 75) (a := this) 0 rfl rfl dX10_apart_75 ?_
    refine x_iload_n (pc := 76) 2 rfl rfl dX10_apart_76 ?_
    refine x_iload (pc := 77) 4 rfl dX10_apart_77 ?_
    refine x_callV (pc := 79) (As := [.int x2, .int x4]) (rest := []) (lev' := 2) si_X10_218 (m_M_isThere h1 this x2 x4) (fun z e => grd1 e) rfl rfl (by decide) (cat4 (Nat.le_of_ble_eq_true rfl)) dX10_apart_79 (kI (fun v4 h3 => ?_)) xNo
    refine x_if_eq (pc := 82) 111 (by decide) dX10_apart_82 ?_ ?_
    · refine x_iload_n (pc := 111) 3 rfl rfl dX10_apart_111 ?_
      exact x_iret (pc := 112) dX10_apart_112
    · refine x_aload_nR (pc := 85) (a := this) 0 rfl rfl dX10_apart_85 ?_
      refine x_iload_n (pc := 86) 1 rfl rfl dX10_apart_86 ?_
      refine x_iload (pc := 87) 4 rfl dX10_apart_87 ?_
      refine x_callV (pc := 89) (As := [.int x1, .int x4]) (rest := []) (lev' := 1) si_X10_212 (m_M_bitOf h3 this x1 x4) (fun z e => grd1 e) rfl rfl (by decide) (cat4 (Nat.le_of_ble_eq_true rfl)) dX10_apart_89 (kI (fun v6 h5 => ?_)) xNo
      refine x_aload_nR (pc := 92) (a := this) 0 rfl rfl dX10_apart_92 ?_
      refine x_iload_n (pc := 93) 2 rfl rfl dX10_apart_93 ?_
      refine x_iload (pc := 94) 4 rfl dX10_apart_94 ?_
      refine x_callV (pc := 96) (As := [.int x2, .int x4]) (rest := [.int v6]) (lev' := 1) si_X10_212 (m_M_bitOf h5 this x2 x4) (fun z e => grd1 e) rfl rfl (by decide) (cat4 (Nat.le_of_ble_eq_true rfl)) dX10_apart_96 (kI (fun v8 h7 => ?_)) xNo
      refine x_icmp_eq (pc := 99) 105 (by decide) dX10_apart_99 ?_ ?_
      · refine x_iinc (pc := 105) (v := (1 : Int32)) (lv' := [(4, .int (x4 + (1 : Int32))), (0, .ref this), (1, .int x1), (2, .int x2), (3, .int x3)]) 4 rfl (by decide) (by decide) rfl dX10_apart_105 ?_
        refine x_goto (pc := 108) 65 (by decide) dX10_apart_108 ?_
        refine Sim.lv [1, 2, 3, 4, 0] rfl ?_
        exact hr65 h7 this x1 x2 x3 (x4 + (1 : Int32))
      · refine x_iinc (pc := 102) (v := (1 : Int32)) (lv' := [(3, .int (x3 + (1 : Int32))), (0, .ref this), (1, .int x1), (2, .int x2), (4, .int x4)]) 3 rfl (by decide) (by decide) rfl dX10_apart_102 ?_
        refine x_iinc (pc := 105) (v := (1 : Int32)) (lv' := [(4, .int (x4 + (1 : Int32))), (3, .int (x3 + (1 : Int32))), (0, .ref this), (1, .int x1), (2, .int x2)]) 4 rfl (by decide) (by decide) rfl dX10_apart_105 ?_
        refine x_goto (pc := 108) 65 (by decide) dX10_apart_108 ?_
        refine Sim.lv [2, 3, 4, 1, 0] rfl ?_
        exact hr65 h7 this x1 x2 (x3 + (1 : Int32)) (x4 + (1 : Int32))
set_option maxHeartbeats 4000000 in
theorem v_M_apart_l65 : ∀ (n : Nat) (h : PH) (this : Nat) (x1 : Int32) (x2 : Int32) (x3 : Int32) (x4 : Int32), Sim Y_M_apart h 65 [(0, .ref this), (1, .int x1), (2, .int x2), (3, .int x3), (4, .int x4)] [] (itr (c_M_apart_l65) (fun _ _ _ _ _ _ => none) n h this x1 x2 x3 x4)
  | 0, h, this, x1, x2, x3, x4 => Sim.none
  | n + 1, h, this, x1, x2, x3, x4 => w_M_apart_l65 _ (v_M_apart_l65 n) h this x1 x2 x3 x4
set_option maxHeartbeats 4000000 in
theorem m_M_apart (h : PH) (this : Nat) (x1 : Int32) (x2 : Int32) : MM yX10_apart (ws_ yX10_apart cX10_apart 5 (some .int)) 3 [.ref this, .int x1, .int x2] h (c_M_apart h this x1 x2) := by
  refine MM.of (by decide) rfl (by decide) (Nat.le_of_ble_eq_true rfl) (own := RX10) (cc := cX10_apart) (maxL := 5) (lev := 3) (rt := (some .int)) (ini := false) ?_
  show Sim Y_M_apart h 0 [(0, .ref this), (1, .int x1), (2, .int x2)] [] _
  unfold c_M_apart
  refine x_grd ?_
  refine x_aload_nR (pc := 0) (a := this) 0 rfl rfl dX10_apart_0 ?_
  refine x_iconst (pc := 1) (v := 0) (by decide) dX10_apart_1 ?_
  refine x_pI (pc := 2) fi_X10_1 (fun z => absurd z (by decide)) dX10_apart_2 ?_
  intro h1
  refine x_aload_nR (pc := 5) (a := this) 0 rfl rfl dX10_apart_5 ?_
  refine x_iload_n (pc := 6) 1 rfl rfl dX10_apart_6 ?_
  refine x_callV (pc := 7) (As := [.int x1]) (rest := []) (lev' := 2) si_X10_215 (m_M_isRow h1 this x1) (fun z e => grd1 e) rfl rfl (by decide) (cat4 (Nat.le_of_ble_eq_true rfl)) dX10_apart_7 (kI (fun v3 h2 => ?_)) xNo
  refine x_if_eq (pc := 10) 21 (by decide) dX10_apart_10 ?_ ?_
  · refine x_iconst (pc := 21) (v := (-1)) (by decide) dX10_apart_21 ?_
    exact x_iret (pc := 22) dX10_apart_22
  · refine x_aload_nR (pc := 13) (a := this) 0 rfl rfl dX10_apart_13 ?_
    refine x_iload_n (pc := 14) 2 rfl rfl dX10_apart_14 ?_
    refine x_callV (pc := 15) (As := [.int x2]) (rest := []) (lev' := 2) si_X10_215 (m_M_isRow h2 this x2) (fun z e => grd1 e) rfl rfl (by decide) (cat4 (Nat.le_of_ble_eq_true rfl)) dX10_apart_15 (kI (fun v5 h4 => ?_)) xNo
    refine x_if_ne (pc := 18) 23 (by decide) dX10_apart_18 ?_ ?_
    · refine x_aload_nR (pc := 23) (a := this) 0 rfl rfl dX10_apart_23 ?_
      refine x_iload_n (pc := 24) 1 rfl rfl dX10_apart_24 ?_
      refine x_callV (pc := 25) (As := [.int x1]) (rest := []) (lev' := 1) si_X10_199 (m_M_sizeOf h4 this x1) (fun z e => grd1 e) rfl rfl (by decide) (cat4 (Nat.le_of_ble_eq_true rfl)) dX10_apart_25 (kI (fun v7 h6 => ?_)) xNo
      refine x_aload_nR (pc := 28) (a := this) 0 rfl rfl dX10_apart_28 ?_
      refine x_iload_n (pc := 29) 2 rfl rfl dX10_apart_29 ?_
      refine x_callV (pc := 30) (As := [.int x2]) (rest := [.int v7]) (lev' := 1) si_X10_199 (m_M_sizeOf h6 this x2) (fun z e => grd1 e) rfl rfl (by decide) (cat4 (Nat.le_of_ble_eq_true rfl)) dX10_apart_30 (kI (fun v9 h8 => ?_)) xNo
      refine x_icmp_le (pc := 33) 50 (by decide) dX10_apart_33 ?_ ?_
      · refine x_aload_nR (pc := 50) (a := this) 0 rfl rfl dX10_apart_50 ?_
        refine x_iload_n (pc := 51) 2 rfl rfl dX10_apart_51 ?_
        refine x_callV (pc := 52) (As := [.int x2]) (rest := []) (lev' := 1) si_X10_199 (m_M_sizeOf h8 this x2) (fun z e => grd1 e) rfl rfl (by decide) (cat4 (Nat.le_of_ble_eq_true rfl)) dX10_apart_52 (kI (fun v11 h10 => ?_)) xNo
        refine x_aload_nR (pc := 55) (a := this) 0 rfl rfl dX10_apart_55 ?_
        refine x_iload_n (pc := 56) 1 rfl rfl dX10_apart_56 ?_
        refine x_callV (pc := 57) (As := [.int x1]) (rest := [.int v11]) (lev' := 1) si_X10_199 (m_M_sizeOf h10 this x1) (fun z e => grd1 e) rfl rfl (by decide) (cat4 (Nat.le_of_ble_eq_true rfl)) dX10_apart_57 (kI (fun v13 h12 => ?_)) xNo
        refine x_isub (pc := 60) dX10_apart_60 ?_
        refine x_nmI (fun y14 => ?_)
        refine x_istore_n (pc := 61) (lv' := [(3, .int y14), (0, .ref this), (1, .int x1), (2, .int x2)]) rfl (by decide) rfl dX10_apart_61 ?_
        refine x_iconst (pc := 62) (v := 0) (by decide) dX10_apart_62 ?_
        refine x_istore (pc := 63) (lv' := [(4, .int (0 : Int32)), (3, .int y14), (0, .ref this), (1, .int x1), (2, .int x2)]) (by decide) rfl dX10_apart_63 ?_
        refine Sim.lv [2, 3, 4, 1, 0] rfl ?_
        exact v_M_apart_l65 FU h12 this x1 x2 y14 (0 : Int32)
      · refine x_aload_nR (pc := 36) (a := this) 0 rfl rfl dX10_apart_36 ?_
        refine x_iload_n (pc := 37) 1 rfl rfl dX10_apart_37 ?_
        refine x_callV (pc := 38) (As := [.int x1]) (rest := []) (lev' := 1) si_X10_199 (m_M_sizeOf h8 this x1) (fun z e => grd1 e) rfl rfl (by decide) (cat4 (Nat.le_of_ble_eq_true rfl)) dX10_apart_38 (kI (fun v16 h15 => ?_)) xNo
        refine x_aload_nR (pc := 41) (a := this) 0 rfl rfl dX10_apart_41 ?_
        refine x_iload_n (pc := 42) 2 rfl rfl dX10_apart_42 ?_
        refine x_callV (pc := 43) (As := [.int x2]) (rest := [.int v16]) (lev' := 1) si_X10_199 (m_M_sizeOf h15 this x2) (fun z e => grd1 e) rfl rfl (by decide) (cat4 (Nat.le_of_ble_eq_true rfl)) dX10_apart_43 (kI (fun v18 h17 => ?_)) xNo
        refine x_isub (pc := 46) dX10_apart_46 ?_
        refine x_goto (pc := 47) 61 (by decide) dX10_apart_47 ?_
        refine x_nmI (fun y19 => ?_)
        refine x_istore_n (pc := 61) (lv' := [(3, .int y19), (0, .ref this), (1, .int x1), (2, .int x2)]) rfl (by decide) rfl dX10_apart_61 ?_
        refine x_iconst (pc := 62) (v := 0) (by decide) dX10_apart_62 ?_
        refine x_istore (pc := 63) (lv' := [(4, .int (0 : Int32)), (3, .int y19), (0, .ref this), (1, .int x1), (2, .int x2)]) (by decide) rfl dX10_apart_63 ?_
        refine Sim.lv [2, 3, 4, 1, 0] rfl ?_
        exact v_M_apart_l65 FU h17 this x1 x2 y19 (0 : Int32)
    · refine x_iconst (pc := 21) (v := (-1)) (by decide) dX10_apart_21 ?_
      exact x_iret (pc := 22) dX10_apart_22
abbrev Y_M_firstApart : Yx := (RX10, cX10_firstApart, 4, 3, (some .int), [], false)
def c_M_firstApart_l2 (r2 : PH → Nat → Int32 → Int32 → Int32 → Option RH) (h : PH) (this : Nat) (x1 : Int32) (x2 : Int32) (x3 : Int32) : Option RH :=
  hI (c_M_isThere h this x1 x3) noX fun v2 h1 =>
  if v2 = 0 then
    rI x3 h1
  else
    hI (c_M_isThere h1 this x2 x3) noX fun v4 h3 =>
    if v4 = 0 then
      rI x3 h3
    else
      hI (c_M_bitOf h3 this x1 x3) noX fun v6 h5 =>
      hI (c_M_bitOf h5 this x2 x3) noX fun v8 h7 =>
      if v6 = v8 then
        r2 h7 this x1 x2 (x3 + (1 : Int32))
      else
        rI x3 h7
def c_M_firstApart (h : PH) (this : Nat) (x1 : Int32) (x2 : Int32) : Option RH :=
  grd h this [8] (
  itr (c_M_firstApart_l2) (fun _ _ _ _ _ => none) FU h this x1 x2 (0 : Int32))
set_option maxHeartbeats 4000000 in
theorem w_M_firstApart_l2 (r2 : PH → Nat → Int32 → Int32 → Int32 → Option RH) (hr2 : ∀ (h : PH) (this : Nat) (x1 : Int32) (x2 : Int32) (x3 : Int32), Sim Y_M_firstApart h 2 [(0, .ref this), (1, .int x1), (2, .int x2), (3, .int x3)] [] (r2 h this x1 x2 x3)) (h : PH) (this : Nat) (x1 : Int32) (x2 : Int32) (x3 : Int32) : Sim Y_M_firstApart h 2 [(0, .ref this), (1, .int x1), (2, .int x2), (3, .int x3)] [] (c_M_firstApart_l2 r2 h this x1 x2 x3) := by
  unfold c_M_firstApart_l2
  refine x_aload_nR (pc := 2) (a := this) 0 rfl rfl dX10_firstApart_2 ?_
  refine x_iload_n (pc := 3) 1 rfl rfl dX10_firstApart_3 ?_
  refine x_iload_n (pc := 4) 3 rfl rfl dX10_firstApart_4 ?_
  refine x_callV (pc := 5) (As := [.int x1, .int x3]) (rest := []) (lev' := 2) si_X10_218 (m_M_isThere h this x1 x3) (fun z e => grd1 e) rfl rfl (by decide) (cat4 (Nat.le_of_ble_eq_true rfl)) dX10_firstApart_5 (kI (fun v2 h1 => ?_)) xNo
  refine x_if_eq (pc := 8) 41 (by decide) dX10_firstApart_8 ?_ ?_
  · refine x_iload_n (pc := 41) 3 rfl rfl dX10_firstApart_41 ?_
    exact x_iret (pc := 42) dX10_firstApart_42
  · refine x_aload_nR (pc := 11) (a := this) 0 rfl rfl dX10_firstApart_11 ?_
    refine x_iload_n (pc := 12) 2 rfl rfl dX10_firstApart_12 ?_
    refine x_iload_n (pc := 13) 3 rfl rfl dX10_firstApart_13 ?_
    refine x_callV (pc := 14) (As := [.int x2, .int x3]) (rest := []) (lev' := 2) si_X10_218 (m_M_isThere h1 this x2 x3) (fun z e => grd1 e) rfl rfl (by decide) (cat4 (Nat.le_of_ble_eq_true rfl)) dX10_firstApart_14 (kI (fun v4 h3 => ?_)) xNo
    refine x_if_eq (pc := 17) 41 (by decide) dX10_firstApart_17 ?_ ?_
    · refine x_iload_n (pc := 41) 3 rfl rfl dX10_firstApart_41 ?_
      exact x_iret (pc := 42) dX10_firstApart_42
    · refine x_aload_nR (pc := 20) (a := this) 0 rfl rfl dX10_firstApart_20 ?_
      refine x_iload_n (pc := 21) 1 rfl rfl dX10_firstApart_21 ?_
      refine x_iload_n (pc := 22) 3 rfl rfl dX10_firstApart_22 ?_
      refine x_callV (pc := 23) (As := [.int x1, .int x3]) (rest := []) (lev' := 1) si_X10_212 (m_M_bitOf h3 this x1 x3) (fun z e => grd1 e) rfl rfl (by decide) (cat4 (Nat.le_of_ble_eq_true rfl)) dX10_firstApart_23 (kI (fun v6 h5 => ?_)) xNo
      refine x_aload_nR (pc := 26) (a := this) 0 rfl rfl dX10_firstApart_26 ?_
      refine x_iload_n (pc := 27) 2 rfl rfl dX10_firstApart_27 ?_
      refine x_iload_n (pc := 28) 3 rfl rfl dX10_firstApart_28 ?_
      refine x_callV (pc := 29) (As := [.int x2, .int x3]) (rest := [.int v6]) (lev' := 1) si_X10_212 (m_M_bitOf h5 this x2 x3) (fun z e => grd1 e) rfl rfl (by decide) (cat4 (Nat.le_of_ble_eq_true rfl)) dX10_firstApart_29 (kI (fun v8 h7 => ?_)) xNo
      refine x_icmp_ne (pc := 32) 41 (by decide) dX10_firstApart_32 ?_ ?_
      · refine x_iload_n (pc := 41) 3 rfl rfl dX10_firstApart_41 ?_
        exact x_iret (pc := 42) dX10_firstApart_42
      · refine x_iinc (pc := 35) (v := (1 : Int32)) (lv' := [(3, .int (x3 + (1 : Int32))), (0, .ref this), (1, .int x1), (2, .int x2)]) 3 rfl (by decide) (by decide) rfl dX10_firstApart_35 ?_
        refine x_goto (pc := 38) 2 (by decide) dX10_firstApart_38 ?_
        refine Sim.lv [1, 2, 3, 0] rfl ?_
        exact hr2 h7 this x1 x2 (x3 + (1 : Int32))
set_option maxHeartbeats 4000000 in
theorem v_M_firstApart_l2 : ∀ (n : Nat) (h : PH) (this : Nat) (x1 : Int32) (x2 : Int32) (x3 : Int32), Sim Y_M_firstApart h 2 [(0, .ref this), (1, .int x1), (2, .int x2), (3, .int x3)] [] (itr (c_M_firstApart_l2) (fun _ _ _ _ _ => none) n h this x1 x2 x3)
  | 0, h, this, x1, x2, x3 => Sim.none
  | n + 1, h, this, x1, x2, x3 => w_M_firstApart_l2 _ (v_M_firstApart_l2 n) h this x1 x2 x3
set_option maxHeartbeats 4000000 in
theorem m_M_firstApart (h : PH) (this : Nat) (x1 : Int32) (x2 : Int32) : MM yX10_firstApart (ws_ yX10_firstApart cX10_firstApart 4 (some .int)) 3 [.ref this, .int x1, .int x2] h (c_M_firstApart h this x1 x2) := by
  refine MM.of (by decide) rfl (by decide) (Nat.le_of_ble_eq_true rfl) (own := RX10) (cc := cX10_firstApart) (maxL := 4) (lev := 3) (rt := (some .int)) (ini := false) ?_
  show Sim Y_M_firstApart h 0 [(0, .ref this), (1, .int x1), (2, .int x2)] [] _
  unfold c_M_firstApart
  refine x_grd ?_
  refine x_iconst (pc := 0) (v := 0) (by decide) dX10_firstApart_0 ?_
  refine x_istore_n (pc := 1) (lv' := [(3, .int (0 : Int32)), (0, .ref this), (1, .int x1), (2, .int x2)]) rfl (by decide) rfl dX10_firstApart_1 ?_
  refine Sim.lv [1, 2, 3, 0] rfl ?_
  exact v_M_firstApart_l2 FU h this x1 x2 (0 : Int32)
theorem si_X10_267 : SiV RX10 267 8 yX10_firstApart cX10_firstApart 4 (some .int) 2 := ⟨_, _, _, ci_8.1, by decide, lw_V q2046 q2048 qs73 q121 q2049, ⟨rfl, by decide, by decide, by decide +kernel⟩, by decide⟩
abbrev Y_M_areLike : Yx := (RX10, cX10_areLike, 3, 4, (some .boolean), [], false)
def c_M_areLike (h : PH) (this : Nat) (x1 : Int32) (x2 : Int32) : Option RH :=
  grd h this [8] (
  hI (c_M_sizeOf h this x1) noX fun v2 h1 =>
  hI (c_M_sizeOf h1 this x2) noX fun v4 h3 =>
  if v2 = v4 then
    hI (c_M_firstApart h3 this x1 x2) noX fun v6 h5 =>
    hI (c_M_sizeOf h5 this x1) noX fun v8 h7 =>
    if v6 = v8 then
      rZ (1 : Int32) h7
    else
      rZ (0 : Int32) h7
  else
    rZ (0 : Int32) h3)
set_option maxHeartbeats 4000000 in
theorem m_M_areLike (h : PH) (this : Nat) (x1 : Int32) (x2 : Int32) : MM yX10_areLike (ws_ yX10_areLike cX10_areLike 3 (some .boolean)) 4 [.ref this, .int x1, .int x2] h (c_M_areLike h this x1 x2) := by
  refine MM.of (by decide) rfl (by decide) (Nat.le_of_ble_eq_true rfl) (own := RX10) (cc := cX10_areLike) (maxL := 3) (lev := 4) (rt := (some .boolean)) (ini := false) ?_
  show Sim Y_M_areLike h 0 [(0, .ref this), (1, .int x1), (2, .int x2)] [] _
  unfold c_M_areLike
  refine x_grd ?_
  refine x_aload_nR (pc := 0) (a := this) 0 rfl rfl dX10_areLike_0 ?_
  refine x_iload_n (pc := 1) 1 rfl rfl dX10_areLike_1 ?_
  refine x_callV (pc := 2) (As := [.int x1]) (rest := []) (lev' := 1) si_X10_199 (m_M_sizeOf h this x1) (fun z e => grd1 e) rfl rfl (by decide) (cat4 (Nat.le_of_ble_eq_true rfl)) dX10_areLike_2 (kI (fun v2 h1 => ?_)) xNo
  refine x_aload_nR (pc := 5) (a := this) 0 rfl rfl dX10_areLike_5 ?_
  refine x_iload_n (pc := 6) 2 rfl rfl dX10_areLike_6 ?_
  refine x_callV (pc := 7) (As := [.int x2]) (rest := [.int v2]) (lev' := 1) si_X10_199 (m_M_sizeOf h1 this x2) (fun z e => grd1 e) rfl rfl (by decide) (cat4 (Nat.le_of_ble_eq_true rfl)) dX10_areLike_7 (kI (fun v4 h3 => ?_)) xNo
  refine x_icmp_ne (pc := 10) 31 (by decide) dX10_areLike_10 ?_ ?_
  · refine x_iconst (pc := 31) (v := 0) (by decide) dX10_areLike_31 ?_
    exact x_zret (pc := 32) dX10_areLike_32
  · refine x_aload_nR (pc := 13) (a := this) 0 rfl rfl dX10_areLike_13 ?_
    refine x_iload_n (pc := 14) 1 rfl rfl dX10_areLike_14 ?_
    refine x_iload_n (pc := 15) 2 rfl rfl dX10_areLike_15 ?_
    refine x_callV (pc := 16) (As := [.int x1, .int x2]) (rest := []) (lev' := 3) si_X10_267 (m_M_firstApart h3 this x1 x2) (fun z e => grd1 e) rfl rfl (by decide) (cat4 (Nat.le_of_ble_eq_true rfl)) dX10_areLike_16 (kI (fun v6 h5 => ?_)) xNo
    refine x_aload_nR (pc := 19) (a := this) 0 rfl rfl dX10_areLike_19 ?_
    refine x_iload_n (pc := 20) 1 rfl rfl dX10_areLike_20 ?_
    refine x_callV (pc := 21) (As := [.int x1]) (rest := [.int v6]) (lev' := 1) si_X10_199 (m_M_sizeOf h5 this x1) (fun z e => grd1 e) rfl rfl (by decide) (cat4 (Nat.le_of_ble_eq_true rfl)) dX10_areLike_21 (kI (fun v8 h7 => ?_)) xNo
    refine x_icmp_ne (pc := 24) 31 (by decide) dX10_areLike_24 ?_ ?_
    · refine x_iconst (pc := 31) (v := 0) (by decide) dX10_areLike_31 ?_
      exact x_zret (pc := 32) dX10_areLike_32
    · refine x_iconst (pc := 27) (v := 1) (by decide) dX10_areLike_27 ?_
      refine x_goto (pc := 28) 32 (by decide) dX10_areLike_28 ?_
      exact x_zret (pc := 32) dX10_areLike_32
theorem si_X10_270 : SiV RX10 270 8 yX10_areLike cX10_areLike 3 (some .boolean) 2 := ⟨_, _, _, ci_8.1, by decide, lw_V q2042 q2044 qs72 q121 q2045, ⟨rfl, by decide, by decide, by decide +kernel⟩, by decide⟩
abbrev Y_M_differ : Yx := (RX10, cX10_differ, 3, 5, (some .int), [], false)
def c_M_differ (h : PH) (this : Nat) (x1 : Int32) (x2 : Int32) : Option RH :=
  grd h this [8] (
  pI h this [8] 0 (0 : Int32) fun h1 =>
  hI (c_M_isRow h1 this x1) noX fun v3 h2 =>
  if v3 = 0 then
    rI (-1 : Int32) h2
  else
    hI (c_M_isRow h2 this x2) noX fun v5 h4 =>
    if v5 = 0 then
      rI (-1 : Int32) h4
    else
      hI (c_M_areLike h4 this x1 x2) noX fun v7 h6 =>
      if v7 = 0 then
        hI (c_M_firstApart h6 this x1 x2) noX fun v9 h8 =>
        rI v9 h8
      else
        rI (-1 : Int32) h6)
set_option maxHeartbeats 4000000 in
theorem m_M_differ (h : PH) (this : Nat) (x1 : Int32) (x2 : Int32) : MM yX10_differ (ws_ yX10_differ cX10_differ 3 (some .int)) 5 [.ref this, .int x1, .int x2] h (c_M_differ h this x1 x2) := by
  refine MM.of (by decide) rfl (by decide) (Nat.le_of_ble_eq_true rfl) (own := RX10) (cc := cX10_differ) (maxL := 3) (lev := 5) (rt := (some .int)) (ini := false) ?_
  show Sim Y_M_differ h 0 [(0, .ref this), (1, .int x1), (2, .int x2)] [] _
  unfold c_M_differ
  refine x_grd ?_
  refine x_aload_nR (pc := 0) (a := this) 0 rfl rfl dX10_differ_0 ?_
  refine x_iconst (pc := 1) (v := 0) (by decide) dX10_differ_1 ?_
  refine x_pI (pc := 2) fi_X10_1 (fun z => absurd z (by decide)) dX10_differ_2 ?_
  intro h1
  refine x_aload_nR (pc := 5) (a := this) 0 rfl rfl dX10_differ_5 ?_
  refine x_iload_n (pc := 6) 1 rfl rfl dX10_differ_6 ?_
  refine x_callV (pc := 7) (As := [.int x1]) (rest := []) (lev' := 2) si_X10_215 (m_M_isRow h1 this x1) (fun z e => grd1 e) rfl rfl (by decide) (cat4 (Nat.le_of_ble_eq_true rfl)) dX10_differ_7 (kI (fun v3 h2 => ?_)) xNo
  refine x_if_eq (pc := 10) 39 (by decide) dX10_differ_10 ?_ ?_
  · refine x_iconst (pc := 39) (v := (-1)) (by decide) dX10_differ_39 ?_
    exact x_iret (pc := 40) dX10_differ_40
  · refine x_aload_nR (pc := 13) (a := this) 0 rfl rfl dX10_differ_13 ?_
    refine x_iload_n (pc := 14) 2 rfl rfl dX10_differ_14 ?_
    refine x_callV (pc := 15) (As := [.int x2]) (rest := []) (lev' := 2) si_X10_215 (m_M_isRow h2 this x2) (fun z e => grd1 e) rfl rfl (by decide) (cat4 (Nat.le_of_ble_eq_true rfl)) dX10_differ_15 (kI (fun v5 h4 => ?_)) xNo
    refine x_if_eq (pc := 18) 39 (by decide) dX10_differ_18 ?_ ?_
    · refine x_iconst (pc := 39) (v := (-1)) (by decide) dX10_differ_39 ?_
      exact x_iret (pc := 40) dX10_differ_40
    · refine x_aload_nR (pc := 21) (a := this) 0 rfl rfl dX10_differ_21 ?_
      refine x_iload_n (pc := 22) 1 rfl rfl dX10_differ_22 ?_
      refine x_iload_n (pc := 23) 2 rfl rfl dX10_differ_23 ?_
      refine x_callV (pc := 24) (As := [.int x1, .int x2]) (rest := []) (lev' := 4) si_X10_270 (m_M_areLike h4 this x1 x2) (fun z e => grd1 e) rfl rfl (by decide) (cat4 (Nat.le_of_ble_eq_true rfl)) dX10_differ_24 (kI (fun v7 h6 => ?_)) xNo
      refine x_if_ne (pc := 27) 39 (by decide) dX10_differ_27 ?_ ?_
      · refine x_iconst (pc := 39) (v := (-1)) (by decide) dX10_differ_39 ?_
        exact x_iret (pc := 40) dX10_differ_40
      · refine x_aload_nR (pc := 30) (a := this) 0 rfl rfl dX10_differ_30 ?_
        refine x_iload_n (pc := 31) 1 rfl rfl dX10_differ_31 ?_
        refine x_iload_n (pc := 32) 2 rfl rfl dX10_differ_32 ?_
        refine x_callV (pc := 33) (As := [.int x1, .int x2]) (rest := []) (lev' := 3) si_X10_267 (m_M_firstApart h6 this x1 x2) (fun z e => grd1 e) rfl rfl (by decide) (cat4 (Nat.le_of_ble_eq_true rfl)) dX10_differ_33 (kI (fun v9 h8 => ?_)) xNo
        refine x_goto (pc := 36) 40 (by decide) dX10_differ_36 ?_
        exact x_iret (pc := 40) dX10_differ_40
abbrev Y_M_areTapeBits : Yx := (RX10, cX10_areTapeBits, 4, 2, (some .boolean), [], false)
def c_M_areTapeBits_l2 (r2 : PH → Nat → Int32 → Int32 → Int32 → Option RH) (h : PH) (this : Nat) (x1 : Int32) (x2 : Int32) (x3 : Int32) : Option RH :=
  if x1 ≤ x3 then
    hI (c_M_isIn h x1 (1 : Int32) x2) noX fun v2 h1 =>
    rZ v2 h1
  else
    gQ h this [8] 1 fun v3 =>
    nn v3 fun a4 =>
    ldI h a4 0 x3 fun v6 =>
    if v6 ≤ (1 : Int32) then
      r2 h this x1 x2 (x3 + (1 : Int32))
    else
      rZ (0 : Int32) h
def c_M_areTapeBits (h : PH) (this : Nat) (x1 : Int32) (x2 : Int32) : Option RH :=
  grd h this [8] (
  itr (c_M_areTapeBits_l2) (fun _ _ _ _ _ => none) FU h this x1 x2 (0 : Int32))
set_option maxHeartbeats 4000000 in
theorem w_M_areTapeBits_l2 (r2 : PH → Nat → Int32 → Int32 → Int32 → Option RH) (hr2 : ∀ (h : PH) (this : Nat) (x1 : Int32) (x2 : Int32) (x3 : Int32), Sim Y_M_areTapeBits h 2 [(0, .ref this), (1, .int x1), (2, .int x2), (3, .int x3)] [] (r2 h this x1 x2 x3)) (h : PH) (this : Nat) (x1 : Int32) (x2 : Int32) (x3 : Int32) : Sim Y_M_areTapeBits h 2 [(0, .ref this), (1, .int x1), (2, .int x2), (3, .int x3)] [] (c_M_areTapeBits_l2 r2 h this x1 x2 x3) := by
  unfold c_M_areTapeBits_l2
  refine x_iload_n (pc := 2) 3 rfl rfl dX10_areTapeBits_2 ?_
  refine x_iload_n (pc := 3) 1 rfl rfl dX10_areTapeBits_3 ?_
  refine x_icmp_ge (pc := 4) 25 (by decide) dX10_areTapeBits_4 ?_ ?_
  · refine x_iload_n (pc := 25) 1 rfl rfl dX10_areTapeBits_25 ?_
    refine x_iconst (pc := 26) (v := 1) (by decide) dX10_areTapeBits_26 ?_
    refine x_iload_n (pc := 27) 2 rfl rfl dX10_areTapeBits_27 ?_
    refine x_callS (pc := 28) (As := [.int x1, .int (1 : Int32), .int x2]) (rest := []) (lev' := 1) si_X10_75 (m_M_isIn h x1 (1 : Int32) x2) rfl rfl (by decide) (cat4 (Nat.le_of_ble_eq_true rfl)) dX10_areTapeBits_28 (kI (fun v2 h1 => ?_)) xNo
    exact x_zret (pc := 31) dX10_areTapeBits_31
  · refine x_aload_nR (pc := 7) (a := this) 0 rfl rfl dX10_areTapeBits_7 ?_
    refine x_getQ (pc := 8) fi_X10_7 dX10_areTapeBits_8 ?_
    intro v3
    refine x_iload_n (pc := 11) 3 rfl rfl dX10_areTapeBits_11 ?_
    refine x_nn (fun a4 e5 => ?_)
    subst e5
    refine x_iald (pc := 12) dX10_areTapeBits_12 ?_
    intro v6
    refine x_iconst (pc := 13) (v := 1) (by decide) dX10_areTapeBits_13 ?_
    refine x_icmp_le (pc := 14) 19 (by decide) dX10_areTapeBits_14 ?_ ?_
    · refine x_iinc (pc := 19) (v := (1 : Int32)) (lv' := [(3, .int (x3 + (1 : Int32))), (0, .ref this), (1, .int x1), (2, .int x2)]) 3 rfl (by decide) (by decide) rfl dX10_areTapeBits_19 ?_
      refine x_goto (pc := 22) 2 (by decide) dX10_areTapeBits_22 ?_
      refine Sim.lv [1, 2, 3, 0] rfl ?_
      exact hr2 h this x1 x2 (x3 + (1 : Int32))
    · refine x_iconst (pc := 17) (v := 0) (by decide) dX10_areTapeBits_17 ?_
      exact x_zret (pc := 18) dX10_areTapeBits_18
set_option maxHeartbeats 4000000 in
theorem v_M_areTapeBits_l2 : ∀ (n : Nat) (h : PH) (this : Nat) (x1 : Int32) (x2 : Int32) (x3 : Int32), Sim Y_M_areTapeBits h 2 [(0, .ref this), (1, .int x1), (2, .int x2), (3, .int x3)] [] (itr (c_M_areTapeBits_l2) (fun _ _ _ _ _ => none) n h this x1 x2 x3)
  | 0, h, this, x1, x2, x3 => Sim.none
  | n + 1, h, this, x1, x2, x3 => w_M_areTapeBits_l2 _ (v_M_areTapeBits_l2 n) h this x1 x2 x3
set_option maxHeartbeats 4000000 in
theorem m_M_areTapeBits (h : PH) (this : Nat) (x1 : Int32) (x2 : Int32) : MM yX10_areTapeBits (ws_ yX10_areTapeBits cX10_areTapeBits 4 (some .boolean)) 2 [.ref this, .int x1, .int x2] h (c_M_areTapeBits h this x1 x2) := by
  refine MM.of (by decide) rfl (by decide) (Nat.le_of_ble_eq_true rfl) (own := RX10) (cc := cX10_areTapeBits) (maxL := 4) (lev := 2) (rt := (some .boolean)) (ini := false) ?_
  show Sim Y_M_areTapeBits h 0 [(0, .ref this), (1, .int x1), (2, .int x2)] [] _
  unfold c_M_areTapeBits
  refine x_grd ?_
  refine x_iconst (pc := 0) (v := 0) (by decide) dX10_areTapeBits_0 ?_
  refine x_istore_n (pc := 1) (lv' := [(3, .int (0 : Int32)), (0, .ref this), (1, .int x1), (2, .int x2)]) rfl (by decide) rfl dX10_areTapeBits_1 ?_
  refine Sim.lv [1, 2, 3, 0] rfl ?_
  exact v_M_areTapeBits_l2 FU h this x1 x2 (0 : Int32)
abbrev Y_M_isOnTape : Yx := (RX10, cX10_isOnTape, 5, 2, (some .boolean), [], false)
def c_M_isOnTape_l3 (r3 : PH → Nat → Int32 → Int32 → Int32 → Int32 → Option RH) (h : PH) (this : Nat) (x1 : Int32) (x2 : Int32) (x3 : Int32) (x4 : Int32) : Option RH :=
  if x3 ≤ x4 then
    rZ (1 : Int32) h
  else
    hI (c_M_bitOf h this x1 (x2 + x4)) noX fun v2 h1 =>
    gQ h1 this [8] 1 fun v3 =>
    nn v3 fun a4 =>
    ldI h1 a4 0 x4 fun v6 =>
    if v2 = v6 then
      r3 h1 this x1 x2 x3 (x4 + (1 : Int32))
    else
      rZ (0 : Int32) h1
def c_M_isOnTape (h : PH) (this : Nat) (x1 : Int32) (x2 : Int32) (x3 : Int32) : Option RH :=
  grd h this [8] (
  itr (c_M_isOnTape_l3) (fun _ _ _ _ _ _ => none) FU h this x1 x2 x3 (0 : Int32))
set_option maxHeartbeats 4000000 in
theorem w_M_isOnTape_l3 (r3 : PH → Nat → Int32 → Int32 → Int32 → Int32 → Option RH) (hr3 : ∀ (h : PH) (this : Nat) (x1 : Int32) (x2 : Int32) (x3 : Int32) (x4 : Int32), Sim Y_M_isOnTape h 3 [(0, .ref this), (1, .int x1), (2, .int x2), (3, .int x3), (4, .int x4)] [] (r3 h this x1 x2 x3 x4)) (h : PH) (this : Nat) (x1 : Int32) (x2 : Int32) (x3 : Int32) (x4 : Int32) : Sim Y_M_isOnTape h 3 [(0, .ref this), (1, .int x1), (2, .int x2), (3, .int x3), (4, .int x4)] [] (c_M_isOnTape_l3 r3 h this x1 x2 x3 x4) := by
  unfold c_M_isOnTape_l3
  refine x_iload (pc := 3) 4 rfl dX10_isOnTape_3 ?_
  refine x_iload_n (pc := 5) 3 rfl rfl dX10_isOnTape_5 ?_
  refine x_icmp_ge (pc := 6) 36 (by decide) dX10_isOnTape_6 ?_ ?_
  · refine x_iconst (pc := 36) (v := 1) (by decide) dX10_isOnTape_36 ?_
    exact x_zret (pc := 37) dX10_isOnTape_37
  · refine x_aload_nR (pc := 9) (a := this) 0 rfl rfl dX10_isOnTape_9 ?_
    refine x_iload_n (pc := 10) 1 rfl rfl dX10_isOnTape_10 ?_
    refine x_iload_n (pc := 11) 2 rfl rfl dX10_isOnTape_11 ?_
    refine x_iload (pc := 12) 4 rfl dX10_isOnTape_12 ?_
    refine x_iadd (pc := 14) dX10_isOnTape_14 ?_
    refine x_callV (pc := 15) (As := [.int x1, .int (x2 + x4)]) (rest := []) (lev' := 1) si_X10_212 (m_M_bitOf h this x1 (x2 + x4)) (fun z e => grd1 e) rfl rfl (by decide) (cat4 (Nat.le_of_ble_eq_true rfl)) dX10_isOnTape_15 (kI (fun v2 h1 => ?_)) xNo
    refine x_aload_nR (pc := 18) (a := this) 0 rfl rfl dX10_isOnTape_18 ?_
    refine x_getQ (pc := 19) fi_X10_7 dX10_isOnTape_19 ?_
    intro v3
    refine x_iload (pc := 22) 4 rfl dX10_isOnTape_22 ?_
    refine x_nn (fun a4 e5 => ?_)
    subst e5
    refine x_iald (pc := 24) dX10_isOnTape_24 ?_
    intro v6
    refine x_icmp_eq (pc := 25) 30 (by decide) dX10_isOnTape_25 ?_ ?_
    · refine x_iinc (pc := 30) (v := (1 : Int32)) (lv' := [(4, .int (x4 + (1 : Int32))), (0, .ref this), (1, .int x1), (2, .int x2), (3, .int x3)]) 4 rfl (by decide) (by decide) rfl dX10_isOnTape_30 ?_
      refine x_goto (pc := 33) 3 (by decide) dX10_isOnTape_33 ?_
      refine Sim.lv [1, 2, 3, 4, 0] rfl ?_
      exact hr3 h1 this x1 x2 x3 (x4 + (1 : Int32))
    · refine x_iconst (pc := 28) (v := 0) (by decide) dX10_isOnTape_28 ?_
      exact x_zret (pc := 29) dX10_isOnTape_29
set_option maxHeartbeats 4000000 in
theorem v_M_isOnTape_l3 : ∀ (n : Nat) (h : PH) (this : Nat) (x1 : Int32) (x2 : Int32) (x3 : Int32) (x4 : Int32), Sim Y_M_isOnTape h 3 [(0, .ref this), (1, .int x1), (2, .int x2), (3, .int x3), (4, .int x4)] [] (itr (c_M_isOnTape_l3) (fun _ _ _ _ _ _ => none) n h this x1 x2 x3 x4)
  | 0, h, this, x1, x2, x3, x4 => Sim.none
  | n + 1, h, this, x1, x2, x3, x4 => w_M_isOnTape_l3 _ (v_M_isOnTape_l3 n) h this x1 x2 x3 x4
set_option maxHeartbeats 4000000 in
theorem m_M_isOnTape (h : PH) (this : Nat) (x1 : Int32) (x2 : Int32) (x3 : Int32) : MM yX10_isOnTape (ws_ yX10_isOnTape cX10_isOnTape 5 (some .boolean)) 2 [.ref this, .int x1, .int x2, .int x3] h (c_M_isOnTape h this x1 x2 x3) := by
  refine MM.of (by decide) rfl (by decide) (Nat.le_of_ble_eq_true rfl) (own := RX10) (cc := cX10_isOnTape) (maxL := 5) (lev := 2) (rt := (some .boolean)) (ini := false) ?_
  show Sim Y_M_isOnTape h 0 [(0, .ref this), (1, .int x1), (2, .int x2), (3, .int x3)] [] _
  unfold c_M_isOnTape
  refine x_grd ?_
  refine x_iconst (pc := 0) (v := 0) (by decide) dX10_isOnTape_0 ?_
  refine x_istore (pc := 1) (lv' := [(4, .int (0 : Int32)), (0, .ref this), (1, .int x1), (2, .int x2), (3, .int x3)]) (by decide) rfl dX10_isOnTape_1 ?_
  refine Sim.lv [1, 2, 3, 4, 0] rfl ?_
  exact v_M_isOnTape_l3 FU h this x1 x2 x3 (0 : Int32)
theorem fi_X10_276 : FI RX10 276 [8] 28 .int false true := (fi_c ci_8 (by decide) rfl rfl (Or.inl q1714) (Or.inl rfl) (fun h => absurd h (by decide)) fi_n)
theorem si_X10_279 : SiV RX10 279 8 yX10_isOnTape cX10_isOnTape 5 (some .boolean) 3 := ⟨_, _, _, ci_8.1, by decide, lw_V q2058 q2060 qs75 q121 q2061, ⟨rfl, by decide, by decide, by decide +kernel⟩, by decide⟩
theorem si_X10_273 : SiV RX10 273 8 yX10_areTapeBits cX10_areTapeBits 4 (some .boolean) 2 := ⟨_, _, _, ci_8.1, by decide, lw_V q2054 q2056 qs74 q121 q2057, ⟨rfl, by decide, by decide, by decide +kernel⟩, by decide⟩
abbrev Y_M_seek : Yx := (RX10, cX10_seek, 4, 3, (some .int), [], false)
def c_M_seek_l37 (r37 : PH → Nat → Int32 → Int32 → Int32 → Option RH) (h : PH) (this : Nat) (x1 : Int32) (x2 : Int32) (x3 : Int32) : Option RH :=
  hI (c_M_sizeOf h this x1) noX fun v2 h1 =>
  if v2 < (x3 + x2) then
    gI h1 this [8] 28 fun v3 =>
    rI v3 h1
  else
    hI (c_M_isOnTape h1 this x1 x3 x2) noX fun v5 h4 =>
    if v5 = 0 then
      r37 h4 this x1 x2 (x3 + (1 : Int32))
    else
      gQ h4 this [8] 27 fun v6 =>
      gI h4 this [8] 28 fun v7 =>
      nn v6 fun a8 =>
      stI h4 a8 v7 x3 fun h10 =>
      gI h10 this [8] 28 fun v11 =>
      pI h10 this [8] 28 (v11 + (1 : Int32)) fun h12 =>
      r37 h12 this x1 x2 (x3 + (1 : Int32))
def c_M_seek (h : PH) (this : Nat) (x1 : Int32) : Option RH :=
  grd h this [8] (
  pI h this [8] 0 (0 : Int32) fun h1 =>
  hI (c_M_take h1 this) noX fun v3 h2 =>
  hI (c_M_isRow h2 this x1) noX fun v5 h4 =>
  if v5 = 0 then
    rI (-1 : Int32) h4
  else
    hI (c_M_areTapeBits h4 this v3 (32 : Int32)) noX fun v7 h6 =>
    if v7 = 0 then
      rI (-1 : Int32) h6
    else
      pI h6 this [8] 28 (0 : Int32) fun h8 =>
      itr (c_M_seek_l37) (fun _ _ _ _ _ => none) FU h8 this x1 v3 (0 : Int32))
set_option maxHeartbeats 4000000 in
theorem w_M_seek_l37 (r37 : PH → Nat → Int32 → Int32 → Int32 → Option RH) (hr37 : ∀ (h : PH) (this : Nat) (x1 : Int32) (x2 : Int32) (x3 : Int32), Sim Y_M_seek h 37 [(0, .ref this), (1, .int x1), (2, .int x2), (3, .int x3)] [] (r37 h this x1 x2 x3)) (h : PH) (this : Nat) (x1 : Int32) (x2 : Int32) (x3 : Int32) : Sim Y_M_seek h 37 [(0, .ref this), (1, .int x1), (2, .int x2), (3, .int x3)] [] (c_M_seek_l37 r37 h this x1 x2 x3) := by
  unfold c_M_seek_l37
  refine x_iload_n (pc := 37) 3 rfl rfl dX10_seek_37 ?_
  refine x_iload_n (pc := 38) 2 rfl rfl dX10_seek_38 ?_
  refine x_iadd (pc := 39) dX10_seek_39 ?_
  refine x_aload_nR (pc := 40) (a := this) 0 rfl rfl dX10_seek_40 ?_
  refine x_iload_n (pc := 41) 1 rfl rfl dX10_seek_41 ?_
  refine x_callV (pc := 42) (As := [.int x1]) (rest := [.int (x3 + x2)]) (lev' := 1) si_X10_199 (m_M_sizeOf h this x1) (fun z e => grd1 e) rfl rfl (by decide) (cat4 (Nat.le_of_ble_eq_true rfl)) dX10_seek_42 (kI (fun v2 h1 => ?_)) xNo
  refine x_icmp_gt (pc := 45) 87 (by decide) dX10_seek_45 ?_ ?_
  · refine x_aload_nR (pc := 87) (a := this) 0 rfl rfl dX10_seek_87 ?_
    refine x_getI (pc := 88) fi_X10_276 dX10_seek_88 ?_
    intro v3
    exact x_iret (pc := 91) dX10_seek_91
  · refine x_aload_nR (pc := 48) (a := this) 0 rfl rfl dX10_seek_48 ?_
    refine x_iload_n (pc := 49) 1 rfl rfl dX10_seek_49 ?_
    refine x_iload_n (pc := 50) 3 rfl rfl dX10_seek_50 ?_
    refine x_iload_n (pc := 51) 2 rfl rfl dX10_seek_51 ?_
    refine x_callV (pc := 52) (As := [.int x1, .int x3, .int x2]) (rest := []) (lev' := 2) si_X10_279 (m_M_isOnTape h1 this x1 x3 x2) (fun z e => grd1 e) rfl rfl (by decide) (cat4 (Nat.le_of_ble_eq_true rfl)) dX10_seek_52 (kI (fun v5 h4 => ?_)) xNo
    refine x_if_ne (pc := 55) 61 (by decide) dX10_seek_55 ?_ ?_
    · refine x_aload_nR (pc := 61) (a := this) 0 rfl rfl dX10_seek_61 ?_
      refine x_getQ (pc := 62) fi_X10_130 dX10_seek_62 ?_
      intro v6
      refine x_aload_nR (pc := 65) (a := this) 0 rfl rfl dX10_seek_65 ?_
      refine x_getI (pc := 66) fi_X10_276 dX10_seek_66 ?_
      intro v7
      refine x_iload_n (pc := 69) 3 rfl rfl dX10_seek_69 ?_
      refine x_nn (fun a8 e9 => ?_)
      subst e9
      refine x_iast (pc := 70) dX10_seek_70 ?_
      intro h10
      refine x_aload_nR (pc := 71) (a := this) 0 rfl rfl dX10_seek_71 ?_
      refine x_dup (pc := 72) rfl dX10_seek_72 ?_
      refine x_getI (pc := 73) fi_X10_276 dX10_seek_73 ?_
      intro v11
      refine x_iconst (pc := 76) (v := 1) (by decide) dX10_seek_76 ?_
      refine x_iadd (pc := 77) dX10_seek_77 ?_
      refine x_pI (pc := 78) fi_X10_276 (fun z => absurd z (by decide)) dX10_seek_78 ?_
      intro h12
      refine x_iinc (pc := 81) (v := (1 : Int32)) (lv' := [(3, .int (x3 + (1 : Int32))), (0, .ref this), (1, .int x1), (2, .int x2)]) 3 rfl (by decide) (by decide) rfl dX10_seek_81 ?_
      refine x_goto (pc := 84) 37 (by decide) dX10_seek_84 ?_
      refine Sim.lv [1, 2, 3, 0] rfl ?_
      exact hr37 h12 this x1 x2 (x3 + (1 : Int32))
    · refine x_goto (pc := 58) 81 (by decide) dX10_seek_58 ?_
      refine x_iinc (pc := 81) (v := (1 : Int32)) (lv' := [(3, .int (x3 + (1 : Int32))), (0, .ref this), (1, .int x1), (2, .int x2)]) 3 rfl (by decide) (by decide) rfl dX10_seek_81 ?_
      refine x_goto (pc := 84) 37 (by decide) dX10_seek_84 ?_
      refine Sim.lv [1, 2, 3, 0] rfl ?_
      exact hr37 h4 this x1 x2 (x3 + (1 : Int32))
set_option maxHeartbeats 4000000 in
theorem v_M_seek_l37 : ∀ (n : Nat) (h : PH) (this : Nat) (x1 : Int32) (x2 : Int32) (x3 : Int32), Sim Y_M_seek h 37 [(0, .ref this), (1, .int x1), (2, .int x2), (3, .int x3)] [] (itr (c_M_seek_l37) (fun _ _ _ _ _ => none) n h this x1 x2 x3)
  | 0, h, this, x1, x2, x3 => Sim.none
  | n + 1, h, this, x1, x2, x3 => w_M_seek_l37 _ (v_M_seek_l37 n) h this x1 x2 x3
set_option maxHeartbeats 4000000 in
theorem m_M_seek (h : PH) (this : Nat) (x1 : Int32) : MM yX10_seek (ws_ yX10_seek cX10_seek 4 (some .int)) 3 [.ref this, .int x1] h (c_M_seek h this x1) := by
  refine MM.of (by decide) rfl (by decide) (Nat.le_of_ble_eq_true rfl) (own := RX10) (cc := cX10_seek) (maxL := 4) (lev := 3) (rt := (some .int)) (ini := false) ?_
  show Sim Y_M_seek h 0 [(0, .ref this), (1, .int x1)] [] _
  unfold c_M_seek
  refine x_grd ?_
  refine x_aload_nR (pc := 0) (a := this) 0 rfl rfl dX10_seek_0 ?_
  refine x_iconst (pc := 1) (v := 0) (by decide) dX10_seek_1 ?_
  refine x_pI (pc := 2) fi_X10_1 (fun z => absurd z (by decide)) dX10_seek_2 ?_
  intro h1
  refine x_aload_nR (pc := 5) (a := this) 0 rfl rfl dX10_seek_5 ?_
  refine x_callV (pc := 6) (As := []) (rest := []) (lev' := 1) si_X10_89 (m_M_take h1 this) (fun z e => grd1 e) rfl rfl (by decide) (cat4 (Nat.le_of_ble_eq_true rfl)) dX10_seek_6 (kI (fun v3 h2 => ?_)) xNo
  refine x_istore_n (pc := 9) (lv' := [(2, .int v3), (0, .ref this), (1, .int x1)]) rfl (by decide) rfl dX10_seek_9 ?_
  refine x_aload_nR (pc := 10) (a := this) 1 rfl rfl dX10_seek_10 ?_
  refine x_iload_n (pc := 11) 2 rfl rfl dX10_seek_11 ?_
  refine x_callV (pc := 12) (As := [.int x1]) (rest := []) (lev' := 2) si_X10_215 (m_M_isRow h2 this x1) (fun z e => grd1 e) rfl rfl (by decide) (cat4 (Nat.le_of_ble_eq_true rfl)) dX10_seek_12 (kI (fun v5 h4 => ?_)) xNo
  refine x_if_eq (pc := 15) 28 (by decide) dX10_seek_15 ?_ ?_
  · refine x_iconst (pc := 28) (v := (-1)) (by decide) dX10_seek_28 ?_
    exact x_iret (pc := 29) dX10_seek_29
  · refine x_aload_nR (pc := 18) (a := this) 1 rfl rfl dX10_seek_18 ?_
    refine x_iload_n (pc := 19) 0 rfl rfl dX10_seek_19 ?_
    refine x_bipush (pc := 20) (v := 32) (by decide) dX10_seek_20 ?_
    refine x_callV (pc := 22) (As := [.int v3, .int (32 : Int32)]) (rest := []) (lev' := 2) si_X10_273 (m_M_areTapeBits h4 this v3 (32 : Int32)) (fun z e => grd1 e) rfl rfl (by decide) (cat4 (Nat.le_of_ble_eq_true rfl)) dX10_seek_22 (kI (fun v7 h6 => ?_)) xNo
    refine x_if_ne (pc := 25) 30 (by decide) dX10_seek_25 ?_ ?_
    · refine x_aload_nR (pc := 30) (a := this) 1 rfl rfl dX10_seek_30 ?_
      refine x_iconst (pc := 31) (v := 0) (by decide) dX10_seek_31 ?_
      refine x_pI (pc := 32) fi_X10_276 (fun z => absurd z (by decide)) dX10_seek_32 ?_
      intro h8
      refine x_iconst (pc := 35) (v := 0) (by decide) dX10_seek_35 ?_
      refine x_istore_n (pc := 36) (lv' := [(3, .int (0 : Int32)), (2, .int v3), (0, .ref this), (1, .int x1)]) rfl (by decide) rfl dX10_seek_36 ?_
      refine Sim.lv [2, 3, 1, 0] rfl ?_
      exact v_M_seek_l37 FU h8 this x1 v3 (0 : Int32)
    · refine x_iconst (pc := 28) (v := (-1)) (by decide) dX10_seek_28 ?_
      exact x_iret (pc := 29) dX10_seek_29
abbrev Y_M_seekAt : Yx := (RX10, cX10_seekAt, 2, 2, (some .int), [], false)
def c_M_seekAt (h : PH) (this : Nat) (x1 : Int32) : Option RH :=
  grd h this [8] (
  pI h this [8] 0 (0 : Int32) fun h1 =>
  gI h1 this [8] 28 fun v2 =>
  hI (c_M_isIn h1 x1 (0 : Int32) (v2 - (1 : Int32))) noX fun v4 h3 =>
  if v4 = 0 then
    rI (-1 : Int32) h3
  else
    gQ h3 this [8] 27 fun v5 =>
    nn v5 fun a6 =>
    ldI h3 a6 0 x1 fun v8 =>
    rI v8 h3)
set_option maxHeartbeats 4000000 in
theorem m_M_seekAt (h : PH) (this : Nat) (x1 : Int32) : MM yX10_seekAt (ws_ yX10_seekAt cX10_seekAt 2 (some .int)) 2 [.ref this, .int x1] h (c_M_seekAt h this x1) := by
  refine MM.of (by decide) rfl (by decide) (Nat.le_of_ble_eq_true rfl) (own := RX10) (cc := cX10_seekAt) (maxL := 2) (lev := 2) (rt := (some .int)) (ini := false) ?_
  show Sim Y_M_seekAt h 0 [(0, .ref this), (1, .int x1)] [] _
  unfold c_M_seekAt
  refine x_grd ?_
  refine x_aload_nR (pc := 0) (a := this) 0 rfl rfl dX10_seekAt_0 ?_
  refine x_iconst (pc := 1) (v := 0) (by decide) dX10_seekAt_1 ?_
  refine x_pI (pc := 2) fi_X10_1 (fun z => absurd z (by decide)) dX10_seekAt_2 ?_
  intro h1
  refine x_iload_n (pc := 5) 1 rfl rfl dX10_seekAt_5 ?_
  refine x_iconst (pc := 6) (v := 0) (by decide) dX10_seekAt_6 ?_
  refine x_aload_nR (pc := 7) (a := this) 0 rfl rfl dX10_seekAt_7 ?_
  refine x_getI (pc := 8) fi_X10_276 dX10_seekAt_8 ?_
  intro v2
  refine x_iconst (pc := 11) (v := 1) (by decide) dX10_seekAt_11 ?_
  refine x_isub (pc := 12) dX10_seekAt_12 ?_
  refine x_callS (pc := 13) (As := [.int x1, .int (0 : Int32), .int (v2 - (1 : Int32))]) (rest := []) (lev' := 1) si_X10_75 (m_M_isIn h1 x1 (0 : Int32) (v2 - (1 : Int32))) rfl rfl (by decide) (cat4 (Nat.le_of_ble_eq_true rfl)) dX10_seekAt_13 (kI (fun v4 h3 => ?_)) xNo
  refine x_if_eq (pc := 16) 28 (by decide) dX10_seekAt_16 ?_ ?_
  · refine x_iconst (pc := 28) (v := (-1)) (by decide) dX10_seekAt_28 ?_
    exact x_iret (pc := 29) dX10_seekAt_29
  · refine x_aload_nR (pc := 19) (a := this) 0 rfl rfl dX10_seekAt_19 ?_
    refine x_getQ (pc := 20) fi_X10_130 dX10_seekAt_20 ?_
    intro v5
    refine x_iload_n (pc := 23) 1 rfl rfl dX10_seekAt_23 ?_
    refine x_nn (fun a6 e7 => ?_)
    subst e7
    refine x_iald (pc := 24) dX10_seekAt_24 ?_
    intro v8
    refine x_goto (pc := 25) 29 (by decide) dX10_seekAt_25 ?_
    exact x_iret (pc := 29) dX10_seekAt_29
abbrev Y_M_letters : Yx := (RX10, cX10_letters, 1, 1, (some .int), [], false)
def c_M_letters (h : PH) (this : Nat) : Option RH :=
  grd h this [8] (
  pI h this [8] 0 (0 : Int32) fun h1 =>
  gQ h1 this [8] 14 fun v2 =>
  nn v2 fun a3 =>
  ldI h1 a3 0 (2615 : Int32) fun v5 =>
  rI v5 h1)
set_option maxHeartbeats 4000000 in
theorem m_M_letters (h : PH) (this : Nat) : MM yX10_letters (ws_ yX10_letters cX10_letters 1 (some .int)) 1 [.ref this] h (c_M_letters h this) := by
  refine MM.of (by decide) rfl (by decide) (Nat.le_of_ble_eq_true rfl) (own := RX10) (cc := cX10_letters) (maxL := 1) (lev := 1) (rt := (some .int)) (ini := false) ?_
  show Sim Y_M_letters h 0 [(0, .ref this)] [] _
  unfold c_M_letters
  refine x_grd ?_
  refine x_aload_nR (pc := 0) (a := this) 0 rfl rfl dX10_letters_0 ?_
  refine x_iconst (pc := 1) (v := 0) (by decide) dX10_letters_1 ?_
  refine x_pI (pc := 2) fi_X10_1 (fun z => absurd z (by decide)) dX10_letters_2 ?_
  intro h1
  refine x_aload_nR (pc := 5) (a := this) 0 rfl rfl dX10_letters_5 ?_
  refine x_getQ (pc := 6) fi_X10_98 dX10_letters_6 ?_
  intro v2
  refine x_sipush (pc := 9) (v := 2615) (by decide) dX10_letters_9 ?_
  refine x_nn (fun a3 e4 => ?_)
  subst e4
  refine x_iald (pc := 12) dX10_letters_12 ?_
  intro v5
  exact x_iret (pc := 13) dX10_letters_13
abbrev Y_M_isLetterAt : Yx := (RX10, cX10_isLetterAt, 2, 2, (some .boolean), [], false)
def c_M_isLetterAt (h : PH) (this : Nat) (x1 : Int32) : Option RH :=
  grd h this [8] (
  gQ h this [8] 14 fun v1 =>
  nn v1 fun a2 =>
  ldI h a2 0 (2615 : Int32) fun v4 =>
  hI (c_M_isIn h x1 (0 : Int32) (v4 - (1 : Int32))) noX fun v6 h5 =>
  rZ v6 h5)
set_option maxHeartbeats 4000000 in
theorem m_M_isLetterAt (h : PH) (this : Nat) (x1 : Int32) : MM yX10_isLetterAt (ws_ yX10_isLetterAt cX10_isLetterAt 2 (some .boolean)) 2 [.ref this, .int x1] h (c_M_isLetterAt h this x1) := by
  refine MM.of (by decide) rfl (by decide) (Nat.le_of_ble_eq_true rfl) (own := RX10) (cc := cX10_isLetterAt) (maxL := 2) (lev := 2) (rt := (some .boolean)) (ini := false) ?_
  show Sim Y_M_isLetterAt h 0 [(0, .ref this), (1, .int x1)] [] _
  unfold c_M_isLetterAt
  refine x_grd ?_
  refine x_iload_n (pc := 0) 1 rfl rfl dX10_isLetterAt_0 ?_
  refine x_iconst (pc := 1) (v := 0) (by decide) dX10_isLetterAt_1 ?_
  refine x_aload_nR (pc := 2) (a := this) 0 rfl rfl dX10_isLetterAt_2 ?_
  refine x_getQ (pc := 3) fi_X10_98 dX10_isLetterAt_3 ?_
  intro v1
  refine x_sipush (pc := 6) (v := 2615) (by decide) dX10_isLetterAt_6 ?_
  refine x_nn (fun a2 e3 => ?_)
  subst e3
  refine x_iald (pc := 9) dX10_isLetterAt_9 ?_
  intro v4
  refine x_iconst (pc := 10) (v := 1) (by decide) dX10_isLetterAt_10 ?_
  refine x_isub (pc := 11) dX10_isLetterAt_11 ?_
  refine x_callS (pc := 12) (As := [.int x1, .int (0 : Int32), .int (v4 - (1 : Int32))]) (rest := []) (lev' := 1) si_X10_75 (m_M_isIn h x1 (0 : Int32) (v4 - (1 : Int32))) rfl rfl (by decide) (cat4 (Nat.le_of_ble_eq_true rfl)) dX10_isLetterAt_12 (kI (fun v6 h5 => ?_)) xNo
  exact x_zret (pc := 15) dX10_isLetterAt_15
theorem si_X10_282 : SiV RX10 282 8 yX10_isLetterAt cX10_isLetterAt 2 (some .boolean) 1 := ⟨_, _, _, ci_8.1, by decide, lw_V q2074 q2076 qs76 q121 q2077, ⟨rfl, by decide, by decide, by decide +kernel⟩, by decide⟩
abbrev Y_M_letter : Yx := (RX10, cX10_letter, 2, 3, (some .int), [], false)
def c_M_letter (h : PH) (this : Nat) (x1 : Int32) : Option RH :=
  grd h this [8] (
  pI h this [8] 0 (0 : Int32) fun h1 =>
  hI (c_M_isLetterAt h1 this x1) noX fun v3 h2 =>
  if v3 = 0 then
    rI (-1 : Int32) h2
  else
    gQ h2 this [8] 14 fun v4 =>
    nn v4 fun a5 =>
    ldI h2 a5 0 ((2616 : Int32) + x1) fun v7 =>
    rI v7 h2)
set_option maxHeartbeats 4000000 in
theorem m_M_letter (h : PH) (this : Nat) (x1 : Int32) : MM yX10_letter (ws_ yX10_letter cX10_letter 2 (some .int)) 3 [.ref this, .int x1] h (c_M_letter h this x1) := by
  refine MM.of (by decide) rfl (by decide) (Nat.le_of_ble_eq_true rfl) (own := RX10) (cc := cX10_letter) (maxL := 2) (lev := 3) (rt := (some .int)) (ini := false) ?_
  show Sim Y_M_letter h 0 [(0, .ref this), (1, .int x1)] [] _
  unfold c_M_letter
  refine x_grd ?_
  refine x_aload_nR (pc := 0) (a := this) 0 rfl rfl dX10_letter_0 ?_
  refine x_iconst (pc := 1) (v := 0) (by decide) dX10_letter_1 ?_
  refine x_pI (pc := 2) fi_X10_1 (fun z => absurd z (by decide)) dX10_letter_2 ?_
  intro h1
  refine x_aload_nR (pc := 5) (a := this) 0 rfl rfl dX10_letter_5 ?_
  refine x_iload_n (pc := 6) 1 rfl rfl dX10_letter_6 ?_
  refine x_callV (pc := 7) (As := [.int x1]) (rest := []) (lev' := 2) si_X10_282 (m_M_isLetterAt h1 this x1) (fun z e => grd1 e) rfl rfl (by decide) (cat4 (Nat.le_of_ble_eq_true rfl)) dX10_letter_7 (kI (fun v3 h2 => ?_)) xNo
  refine x_if_eq (pc := 10) 26 (by decide) dX10_letter_10 ?_ ?_
  · refine x_iconst (pc := 26) (v := (-1)) (by decide) dX10_letter_26 ?_
    exact x_iret (pc := 27) dX10_letter_27
  · refine x_aload_nR (pc := 13) (a := this) 0 rfl rfl dX10_letter_13 ?_
    refine x_getQ (pc := 14) fi_X10_98 dX10_letter_14 ?_
    intro v4
    refine x_sipush (pc := 17) (v := 2616) (by decide) dX10_letter_17 ?_
    refine x_iload_n (pc := 20) 1 rfl rfl dX10_letter_20 ?_
    refine x_iadd (pc := 21) dX10_letter_21 ?_
    refine x_nn (fun a5 e6 => ?_)
    subst e6
    refine x_iald (pc := 22) dX10_letter_22 ?_
    intro v7
    refine x_goto (pc := 23) 27 (by decide) dX10_letter_23 ?_
    exact x_iret (pc := 27) dX10_letter_27
abbrev Y_M_count : Yx := (RX10, cX10_count, 5, 2, (some .int), [], false)
def c_M_count_l38 (r38 : PH → Nat → Int32 → Int32 → Int32 → Int32 → Option RH) (h : PH) (this : Nat) (x1 : Int32) (x2 : Int32) (x3 : Int32) (x4 : Int32) : Option RH :=
  if x2 ≤ x4 then
    rI x3 h
  else
    gQ h this [8] 14 fun v1 =>
    nn v1 fun a2 =>
    ldI h a2 0 ((2616 : Int32) + x4) fun v4 =>
    if v4 = x1 then
      r38 h this x1 x2 (x3 + (1 : Int32)) (x4 + (1 : Int32))
    else
      r38 h this x1 x2 x3 (x4 + (1 : Int32))
def c_M_count (h : PH) (this : Nat) (x1 : Int32) (x2 : Int32) : Option RH :=
  grd h this [8] (
  pI h this [8] 0 (0 : Int32) fun h1 =>
  hI (c_M_isIn h1 x1 (0 : Int32) (7 : Int32)) noX fun v3 h2 =>
  if v3 = 0 then
    rI (-1 : Int32) h2
  else
    gQ h2 this [8] 14 fun v4 =>
    nn v4 fun a5 =>
    ldI h2 a5 0 (2615 : Int32) fun v7 =>
    hI (c_M_isIn h2 x2 (0 : Int32) v7) noX fun v9 h8 =>
    if v9 = 0 then
      rI (-1 : Int32) h8
    else
      itr (c_M_count_l38) (fun _ _ _ _ _ _ => none) FU h8 this x1 x2 (0 : Int32) (0 : Int32))
set_option maxHeartbeats 4000000 in
theorem w_M_count_l38 (r38 : PH → Nat → Int32 → Int32 → Int32 → Int32 → Option RH) (hr38 : ∀ (h : PH) (this : Nat) (x1 : Int32) (x2 : Int32) (x3 : Int32) (x4 : Int32), Sim Y_M_count h 38 [(0, .ref this), (1, .int x1), (2, .int x2), (3, .int x3), (4, .int x4)] [] (r38 h this x1 x2 x3 x4)) (h : PH) (this : Nat) (x1 : Int32) (x2 : Int32) (x3 : Int32) (x4 : Int32) : Sim Y_M_count h 38 [(0, .ref this), (1, .int x1), (2, .int x2), (3, .int x3), (4, .int x4)] [] (c_M_count_l38 r38 h this x1 x2 x3 x4) := by
  unfold c_M_count_l38
  refine x_iload (pc := 38) 4 rfl dX10_count_38 ?_
  refine x_iload_n (pc := 40) 2 rfl rfl dX10_count_40 ?_
  refine x_icmp_ge (pc := 41) 68 (by decide) dX10_count_41 ?_ ?_
  · refine x_iload_n (pc := 68) 3 rfl rfl dX10_count_68 ?_
    exact x_iret (pc := 69) dX10_count_69
  · refine x_aload_nR (pc := 44) (a := this) 0 rfl rfl dX10_count_44 ?_
    refine x_getQ (pc := 45) fi_X10_98 dX10_count_45 ?_
    intro v1
    refine x_sipush (pc := 48) (v := 2616) (by decide) dX10_count_48 ?_
    refine x_iload (pc := 51) 4 rfl dX10_count_51 ?_
    refine x_iadd (pc := 53) dX10_count_53 ?_
    refine x_nn (fun a2 e3 => ?_)
    subst e3
    refine x_iald (pc := 54) dX10_count_54 ?_
    intro v4
    refine x_iload_n (pc := 55) 1 rfl rfl dX10_count_55 ?_
    refine x_icmp_ne (pc := 56) 62 (by decide) dX10_count_56 ?_ ?_
    · refine x_iinc (pc := 62) (v := (1 : Int32)) (lv' := [(4, .int (x4 + (1 : Int32))), (0, .ref this), (1, .int x1), (2, .int x2), (3, .int x3)]) 4 rfl (by decide) (by decide) rfl dX10_count_62 ?_
      refine x_goto (pc := 65) 38 (by decide) dX10_count_65 ?_
      refine Sim.lv [1, 2, 3, 4, 0] rfl ?_
      exact hr38 h this x1 x2 x3 (x4 + (1 : Int32))
    · refine x_iinc (pc := 59) (v := (1 : Int32)) (lv' := [(3, .int (x3 + (1 : Int32))), (0, .ref this), (1, .int x1), (2, .int x2), (4, .int x4)]) 3 rfl (by decide) (by decide) rfl dX10_count_59 ?_
      refine x_iinc (pc := 62) (v := (1 : Int32)) (lv' := [(4, .int (x4 + (1 : Int32))), (3, .int (x3 + (1 : Int32))), (0, .ref this), (1, .int x1), (2, .int x2)]) 4 rfl (by decide) (by decide) rfl dX10_count_62 ?_
      refine x_goto (pc := 65) 38 (by decide) dX10_count_65 ?_
      refine Sim.lv [2, 3, 4, 1, 0] rfl ?_
      exact hr38 h this x1 x2 (x3 + (1 : Int32)) (x4 + (1 : Int32))
set_option maxHeartbeats 4000000 in
theorem v_M_count_l38 : ∀ (n : Nat) (h : PH) (this : Nat) (x1 : Int32) (x2 : Int32) (x3 : Int32) (x4 : Int32), Sim Y_M_count h 38 [(0, .ref this), (1, .int x1), (2, .int x2), (3, .int x3), (4, .int x4)] [] (itr (c_M_count_l38) (fun _ _ _ _ _ _ => none) n h this x1 x2 x3 x4)
  | 0, h, this, x1, x2, x3, x4 => Sim.none
  | n + 1, h, this, x1, x2, x3, x4 => w_M_count_l38 _ (v_M_count_l38 n) h this x1 x2 x3 x4
set_option maxHeartbeats 4000000 in
theorem m_M_count (h : PH) (this : Nat) (x1 : Int32) (x2 : Int32) : MM yX10_count (ws_ yX10_count cX10_count 5 (some .int)) 2 [.ref this, .int x1, .int x2] h (c_M_count h this x1 x2) := by
  refine MM.of (by decide) rfl (by decide) (Nat.le_of_ble_eq_true rfl) (own := RX10) (cc := cX10_count) (maxL := 5) (lev := 2) (rt := (some .int)) (ini := false) ?_
  show Sim Y_M_count h 0 [(0, .ref this), (1, .int x1), (2, .int x2)] [] _
  unfold c_M_count
  refine x_grd ?_
  refine x_aload_nR (pc := 0) (a := this) 0 rfl rfl dX10_count_0 ?_
  refine x_iconst (pc := 1) (v := 0) (by decide) dX10_count_1 ?_
  refine x_pI (pc := 2) fi_X10_1 (fun z => absurd z (by decide)) dX10_count_2 ?_
  intro h1
  refine x_iload_n (pc := 5) 1 rfl rfl dX10_count_5 ?_
  refine x_iconst (pc := 6) (v := 0) (by decide) dX10_count_6 ?_
  refine x_bipush (pc := 7) (v := 7) (by decide) dX10_count_7 ?_
  refine x_callS (pc := 9) (As := [.int x1, .int (0 : Int32), .int (7 : Int32)]) (rest := []) (lev' := 1) si_X10_75 (m_M_isIn h1 x1 (0 : Int32) (7 : Int32)) rfl rfl (by decide) (cat4 (Nat.le_of_ble_eq_true rfl)) dX10_count_9 (kI (fun v3 h2 => ?_)) xNo
  refine x_if_eq (pc := 12) 31 (by decide) dX10_count_12 ?_ ?_
  · refine x_iconst (pc := 31) (v := (-1)) (by decide) dX10_count_31 ?_
    exact x_iret (pc := 32) dX10_count_32
  · refine x_iload_n (pc := 15) 2 rfl rfl dX10_count_15 ?_
    refine x_iconst (pc := 16) (v := 0) (by decide) dX10_count_16 ?_
    refine x_aload_nR (pc := 17) (a := this) 0 rfl rfl dX10_count_17 ?_
    refine x_getQ (pc := 18) fi_X10_98 dX10_count_18 ?_
    intro v4
    refine x_sipush (pc := 21) (v := 2615) (by decide) dX10_count_21 ?_
    refine x_nn (fun a5 e6 => ?_)
    subst e6
    refine x_iald (pc := 24) dX10_count_24 ?_
    intro v7
    refine x_callS (pc := 25) (As := [.int x2, .int (0 : Int32), .int v7]) (rest := []) (lev' := 1) si_X10_75 (m_M_isIn h2 x2 (0 : Int32) v7) rfl rfl (by decide) (cat4 (Nat.le_of_ble_eq_true rfl)) dX10_count_25 (kI (fun v9 h8 => ?_)) xNo
    refine x_if_ne (pc := 28) 33 (by decide) dX10_count_28 ?_ ?_
    · refine x_iconst (pc := 33) (v := 0) (by decide) dX10_count_33 ?_
      refine x_istore_n (pc := 34) (lv' := [(3, .int (0 : Int32)), (0, .ref this), (1, .int x1), (2, .int x2)]) rfl (by decide) rfl dX10_count_34 ?_
      refine x_iconst (pc := 35) (v := 0) (by decide) dX10_count_35 ?_
      refine x_istore (pc := 36) (lv' := [(4, .int (0 : Int32)), (3, .int (0 : Int32)), (0, .ref this), (1, .int x1), (2, .int x2)]) (by decide) rfl dX10_count_36 ?_
      refine Sim.lv [2, 3, 4, 1, 0] rfl ?_
      exact v_M_count_l38 FU h8 this x1 x2 (0 : Int32) (0 : Int32)
    · refine x_iconst (pc := 31) (v := (-1)) (by decide) dX10_count_31 ?_
      exact x_iret (pc := 32) dX10_count_32
abbrev Y_M_place : Yx := (RX10, cX10_place, 5, 2, (some .int), [], false)
def c_M_place_l26 (r26 : PH → Nat → Int32 → Int32 → Int32 → Int32 → Option RH) (h : PH) (this : Nat) (x1 : Int32) (x2 : Int32) (x3 : Int32) (x4 : Int32) : Option RH :=
  gQ h this [8] 14 fun v1 =>
  nn v1 fun a2 =>
  ldI h a2 0 (2615 : Int32) fun v4 =>
  if v4 ≤ x4 then
    rI (-1 : Int32) h
  else
    gQ h this [8] 14 fun v5 =>
    nn v5 fun a6 =>
    ldI h a6 0 ((2616 : Int32) + x4) fun v8 =>
    if v8 = x1 then
      if x3 = x2 then
        rI x4 h
      else
        r26 h this x1 x2 (x3 + (1 : Int32)) (x4 + (1 : Int32))
    else
      r26 h this x1 x2 x3 (x4 + (1 : Int32))
def c_M_place (h : PH) (this : Nat) (x1 : Int32) (x2 : Int32) : Option RH :=
  grd h this [8] (
  pI h this [8] 0 (0 : Int32) fun h1 =>
  hI (c_M_isIn h1 x1 (0 : Int32) (7 : Int32)) noX fun v3 h2 =>
  if v3 = 0 then
    rI (-1 : Int32) h2
  else
    if 0 ≤ x2 then
      itr (c_M_place_l26) (fun _ _ _ _ _ _ => none) FU h2 this x1 x2 (0 : Int32) (0 : Int32)
    else
      rI (-1 : Int32) h2)
set_option maxHeartbeats 4000000 in
theorem w_M_place_l26 (r26 : PH → Nat → Int32 → Int32 → Int32 → Int32 → Option RH) (hr26 : ∀ (h : PH) (this : Nat) (x1 : Int32) (x2 : Int32) (x3 : Int32) (x4 : Int32), Sim Y_M_place h 26 [(0, .ref this), (1, .int x1), (2, .int x2), (3, .int x3), (4, .int x4)] [] (r26 h this x1 x2 x3 x4)) (h : PH) (this : Nat) (x1 : Int32) (x2 : Int32) (x3 : Int32) (x4 : Int32) : Sim Y_M_place h 26 [(0, .ref this), (1, .int x1), (2, .int x2), (3, .int x3), (4, .int x4)] [] (c_M_place_l26 r26 h this x1 x2 x3 x4) := by
  unfold c_M_place_l26
  refine x_iload (pc := 26) 4 rfl dX10_place_26 ?_
  refine x_aload_nR (pc := 28) (a := this) 0 rfl rfl dX10_place_28 ?_
  refine x_getQ (pc := 29) fi_X10_98 dX10_place_29 ?_
  intro v1
  refine x_sipush (pc := 32) (v := 2615) (by decide) dX10_place_32 ?_
  refine x_nn (fun a2 e3 => ?_)
  subst e3
  refine x_iald (pc := 35) dX10_place_35 ?_
  intro v4
  refine x_icmp_ge (pc := 36) 74 (by decide) dX10_place_36 ?_ ?_
  · refine x_iconst (pc := 74) (v := (-1)) (by decide) dX10_place_74 ?_
    exact x_iret (pc := 75) dX10_place_75
  · refine x_aload_nR (pc := 39) (a := this) 0 rfl rfl dX10_place_39 ?_
    refine x_getQ (pc := 40) fi_X10_98 dX10_place_40 ?_
    intro v5
    refine x_sipush (pc := 43) (v := 2616) (by decide) dX10_place_43 ?_
    refine x_iload (pc := 46) 4 rfl dX10_place_46 ?_
    refine x_iadd (pc := 48) dX10_place_48 ?_
    refine x_nn (fun a6 e7 => ?_)
    subst e7
    refine x_iald (pc := 49) dX10_place_49 ?_
    intro v8
    refine x_iload_n (pc := 50) 1 rfl rfl dX10_place_50 ?_
    refine x_icmp_eq (pc := 51) 57 (by decide) dX10_place_51 ?_ ?_
    · refine x_iload_n (pc := 57) 3 rfl rfl dX10_place_57 ?_
      refine x_iload_n (pc := 58) 2 rfl rfl dX10_place_58 ?_
      refine x_icmp_ne (pc := 59) 65 (by decide) dX10_place_59 ?_ ?_
      · refine x_iinc (pc := 65) (v := (1 : Int32)) (lv' := [(3, .int (x3 + (1 : Int32))), (0, .ref this), (1, .int x1), (2, .int x2), (4, .int x4)]) 3 rfl (by decide) (by decide) rfl dX10_place_65 ?_
        refine x_iinc (pc := 68) (v := (1 : Int32)) (lv' := [(4, .int (x4 + (1 : Int32))), (3, .int (x3 + (1 : Int32))), (0, .ref this), (1, .int x1), (2, .int x2)]) 4 rfl (by decide) (by decide) rfl dX10_place_68 ?_
        refine x_goto (pc := 71) 26 (by decide) dX10_place_71 ?_
        refine Sim.lv [2, 3, 4, 1, 0] rfl ?_
        exact hr26 h this x1 x2 (x3 + (1 : Int32)) (x4 + (1 : Int32))
      · refine x_iload (pc := 62) 4 rfl dX10_place_62 ?_
        exact x_iret (pc := 64) dX10_place_64
    · refine x_goto (pc := 54) 68 (by decide) dX10_place_54 ?_
      refine x_iinc (pc := 68) (v := (1 : Int32)) (lv' := [(4, .int (x4 + (1 : Int32))), (0, .ref this), (1, .int x1), (2, .int x2), (3, .int x3)]) 4 rfl (by decide) (by decide) rfl dX10_place_68 ?_
      refine x_goto (pc := 71) 26 (by decide) dX10_place_71 ?_
      refine Sim.lv [1, 2, 3, 4, 0] rfl ?_
      exact hr26 h this x1 x2 x3 (x4 + (1 : Int32))
set_option maxHeartbeats 4000000 in
theorem v_M_place_l26 : ∀ (n : Nat) (h : PH) (this : Nat) (x1 : Int32) (x2 : Int32) (x3 : Int32) (x4 : Int32), Sim Y_M_place h 26 [(0, .ref this), (1, .int x1), (2, .int x2), (3, .int x3), (4, .int x4)] [] (itr (c_M_place_l26) (fun _ _ _ _ _ _ => none) n h this x1 x2 x3 x4)
  | 0, h, this, x1, x2, x3, x4 => Sim.none
  | n + 1, h, this, x1, x2, x3, x4 => w_M_place_l26 _ (v_M_place_l26 n) h this x1 x2 x3 x4
set_option maxHeartbeats 4000000 in
theorem m_M_place (h : PH) (this : Nat) (x1 : Int32) (x2 : Int32) : MM yX10_place (ws_ yX10_place cX10_place 5 (some .int)) 2 [.ref this, .int x1, .int x2] h (c_M_place h this x1 x2) := by
  refine MM.of (by decide) rfl (by decide) (Nat.le_of_ble_eq_true rfl) (own := RX10) (cc := cX10_place) (maxL := 5) (lev := 2) (rt := (some .int)) (ini := false) ?_
  show Sim Y_M_place h 0 [(0, .ref this), (1, .int x1), (2, .int x2)] [] _
  unfold c_M_place
  refine x_grd ?_
  refine x_aload_nR (pc := 0) (a := this) 0 rfl rfl dX10_place_0 ?_
  refine x_iconst (pc := 1) (v := 0) (by decide) dX10_place_1 ?_
  refine x_pI (pc := 2) fi_X10_1 (fun z => absurd z (by decide)) dX10_place_2 ?_
  intro h1
  refine x_iload_n (pc := 5) 1 rfl rfl dX10_place_5 ?_
  refine x_iconst (pc := 6) (v := 0) (by decide) dX10_place_6 ?_
  refine x_bipush (pc := 7) (v := 7) (by decide) dX10_place_7 ?_
  refine x_callS (pc := 9) (As := [.int x1, .int (0 : Int32), .int (7 : Int32)]) (rest := []) (lev' := 1) si_X10_75 (m_M_isIn h1 x1 (0 : Int32) (7 : Int32)) rfl rfl (by decide) (cat4 (Nat.le_of_ble_eq_true rfl)) dX10_place_9 (kI (fun v3 h2 => ?_)) xNo
  refine x_if_eq (pc := 12) 19 (by decide) dX10_place_12 ?_ ?_
  · refine x_iconst (pc := 19) (v := (-1)) (by decide) dX10_place_19 ?_
    exact x_iret (pc := 20) dX10_place_20
  · refine x_iload_n (pc := 15) 2 rfl rfl dX10_place_15 ?_
    refine x_if_ge (pc := 16) 21 (by decide) dX10_place_16 ?_ ?_
    · refine x_iconst (pc := 21) (v := 0) (by decide) dX10_place_21 ?_
      refine x_istore_n (pc := 22) (lv' := [(3, .int (0 : Int32)), (0, .ref this), (1, .int x1), (2, .int x2)]) rfl (by decide) rfl dX10_place_22 ?_
      refine x_iconst (pc := 23) (v := 0) (by decide) dX10_place_23 ?_
      refine x_istore (pc := 24) (lv' := [(4, .int (0 : Int32)), (3, .int (0 : Int32)), (0, .ref this), (1, .int x1), (2, .int x2)]) (by decide) rfl dX10_place_24 ?_
      refine Sim.lv [2, 3, 4, 1, 0] rfl ?_
      exact v_M_place_l26 FU h2 this x1 x2 (0 : Int32) (0 : Int32)
    · refine x_iconst (pc := 19) (v := (-1)) (by decide) dX10_place_19 ?_
      exact x_iret (pc := 20) dX10_place_20
abbrev Y_M_least : Yx := (RX10, cX10_least, 7, 1, (some .int), [], false)
def c_M_least_l43 (r33 : PH → Nat → Int32 → Int32 → Int32 → Int32 → Int32 → Option RH) (r43 : PH → Nat → Int32 → Int32 → Int32 → Int32 → Int32 → Int32 → Option RH) (h : PH) (this : Nat) (x1 : Int32) (x2 : Int32) (x3 : Int32) (x4 : Int32) (x5 : Int32) (x6 : Int32) : Option RH :=
  if x2 ≤ x6 then
    if x4 ≤ x3 then
      r33 h this x1 x2 x3 x4 (x5 + (1 : Int32))
    else
      rI x5 h
  else
    gQ h this [8] 14 fun v1 =>
    nn v1 fun a2 =>
    ldI h a2 0 ((2616 : Int32) + x6) fun v4 =>
    if v4 = x5 then
      r43 h this x1 x2 x3 (x4 + (1 : Int32)) x5 (x6 + (1 : Int32))
    else
      r43 h this x1 x2 x3 x4 x5 (x6 + (1 : Int32))
def c_M_least_l33 (r33 : PH → Nat → Int32 → Int32 → Int32 → Int32 → Int32 → Option RH) (h : PH) (this : Nat) (x1 : Int32) (x2 : Int32) (x3 : Int32) (x4 : Int32) (x5 : Int32) : Option RH :=
  if (8 : Int32) ≤ x5 then
    rI (-1 : Int32) h
  else
    itr (c_M_least_l43 r33) (fun _ _ _ _ _ _ _ _ => none) FU h this x1 x2 x3 x4 x5 x1
def c_M_least (h : PH) (this : Nat) (x1 : Int32) (x2 : Int32) (x3 : Int32) : Option RH :=
  grd h this [8] (
  pI h this [8] 0 (0 : Int32) fun h1 =>
  if x1 < 0 then
    rI (-1 : Int32) h1
  else
    gQ h1 this [8] 14 fun v2 =>
    nn v2 fun a3 =>
    ldI h1 a3 0 (2615 : Int32) fun v5 =>
    if v5 < x2 then
      rI (-1 : Int32) h1
    else
      if 0 ≤ x3 then
        itr (c_M_least_l33) (fun _ _ _ _ _ _ _ => none) FU h1 this x1 x2 x3 (0 : Int32) (0 : Int32)
      else
        rI (-1 : Int32) h1)
set_option maxHeartbeats 4000000 in
theorem w_M_least_l43 (r33 : PH → Nat → Int32 → Int32 → Int32 → Int32 → Int32 → Option RH) (r43 : PH → Nat → Int32 → Int32 → Int32 → Int32 → Int32 → Int32 → Option RH) (hr33 : ∀ (h : PH) (this : Nat) (x1 : Int32) (x2 : Int32) (x3 : Int32) (x4 : Int32) (x5 : Int32), Sim Y_M_least h 33 [(0, .ref this), (1, .int x1), (2, .int x2), (3, .int x3), (4, .int x4), (5, .int x5)] [] (r33 h this x1 x2 x3 x4 x5)) (hr43 : ∀ (h : PH) (this : Nat) (x1 : Int32) (x2 : Int32) (x3 : Int32) (x4 : Int32) (x5 : Int32) (x6 : Int32), Sim Y_M_least h 43 [(0, .ref this), (1, .int x1), (2, .int x2), (3, .int x3), (4, .int x4), (5, .int x5), (6, .int x6)] [] (r43 h this x1 x2 x3 x4 x5 x6)) (h : PH) (this : Nat) (x1 : Int32) (x2 : Int32) (x3 : Int32) (x4 : Int32) (x5 : Int32) (x6 : Int32) : Sim Y_M_least h 43 [(0, .ref this), (1, .int x1), (2, .int x2), (3, .int x3), (4, .int x4), (5, .int x5), (6, .int x6)] [] (c_M_least_l43 r33 r43 h this x1 x2 x3 x4 x5 x6) := by
  unfold c_M_least_l43
  refine x_iload (pc := 43) 6 rfl dX10_least_43 ?_
  refine x_iload_n (pc := 45) 2 rfl rfl dX10_least_45 ?_
  refine x_icmp_ge (pc := 46) 74 (by decide) dX10_least_46 ?_ ?_
  · refine x_iload (pc := 74) 4 rfl dX10_least_74 ?_
    refine x_iload_n (pc := 76) 3 rfl rfl dX10_least_76 ?_
    refine x_icmp_le (pc := 77) 83 (by decide) dX10_least_77 ?_ ?_
    · refine x_iinc (pc := 83) (v := (1 : Int32)) (lv' := [(5, .int (x5 + (1 : Int32))), (0, .ref this), (1, .int x1), (2, .int x2), (3, .int x3), (4, .int x4), (6, .int x6)]) 5 rfl (by decide) (by decide) rfl dX10_least_83 ?_
      refine x_goto (pc := 86) 33 (by decide) dX10_least_86 ?_
      refine Sim.lv [1, 2, 3, 4, 5, 0] rfl ?_
      exact hr33 h this x1 x2 x3 x4 (x5 + (1 : Int32))
    · refine x_iload (pc := 80) 5 rfl dX10_least_80 ?_
      exact x_iret (pc := 82) dX10_least_82
  · refine x_aload_nR (pc := 49) (a := this) 0 rfl rfl dX10_least_49 ?_
    refine x_getQ (pc := 50) fi_X10_98 dX10_least_50 ?_
    intro v1
    refine x_sipush (pc := 53) (v := 2616) (by decide) dX10_least_53 ?_
    refine x_iload (pc := 56) 6 rfl dX10_least_56 ?_
    refine x_iadd (pc := 58) dX10_least_58 ?_
    refine x_nn (fun a2 e3 => ?_)
    subst e3
    refine x_iald (pc := 59) dX10_least_59 ?_
    intro v4
    refine x_iload (pc := 60) 5 rfl dX10_least_60 ?_
    refine x_icmp_ne (pc := 62) 68 (by decide) dX10_least_62 ?_ ?_
    · refine x_iinc (pc := 68) (v := (1 : Int32)) (lv' := [(6, .int (x6 + (1 : Int32))), (0, .ref this), (1, .int x1), (2, .int x2), (3, .int x3), (4, .int x4), (5, .int x5)]) 6 rfl (by decide) (by decide) rfl dX10_least_68 ?_
      refine x_goto (pc := 71) 43 (by decide) dX10_least_71 ?_
      refine Sim.lv [1, 2, 3, 4, 5, 6, 0] rfl ?_
      exact hr43 h this x1 x2 x3 x4 x5 (x6 + (1 : Int32))
    · refine x_iinc (pc := 65) (v := (1 : Int32)) (lv' := [(4, .int (x4 + (1 : Int32))), (0, .ref this), (1, .int x1), (2, .int x2), (3, .int x3), (5, .int x5), (6, .int x6)]) 4 rfl (by decide) (by decide) rfl dX10_least_65 ?_
      refine x_iinc (pc := 68) (v := (1 : Int32)) (lv' := [(6, .int (x6 + (1 : Int32))), (4, .int (x4 + (1 : Int32))), (0, .ref this), (1, .int x1), (2, .int x2), (3, .int x3), (5, .int x5)]) 6 rfl (by decide) (by decide) rfl dX10_least_68 ?_
      refine x_goto (pc := 71) 43 (by decide) dX10_least_71 ?_
      refine Sim.lv [2, 3, 4, 5, 1, 6, 0] rfl ?_
      exact hr43 h this x1 x2 x3 (x4 + (1 : Int32)) x5 (x6 + (1 : Int32))
set_option maxHeartbeats 4000000 in
theorem v_M_least_l43 (r33 : PH → Nat → Int32 → Int32 → Int32 → Int32 → Int32 → Option RH) (hr33 : ∀ (h : PH) (this : Nat) (x1 : Int32) (x2 : Int32) (x3 : Int32) (x4 : Int32) (x5 : Int32), Sim Y_M_least h 33 [(0, .ref this), (1, .int x1), (2, .int x2), (3, .int x3), (4, .int x4), (5, .int x5)] [] (r33 h this x1 x2 x3 x4 x5)) : ∀ (n : Nat) (h : PH) (this : Nat) (x1 : Int32) (x2 : Int32) (x3 : Int32) (x4 : Int32) (x5 : Int32) (x6 : Int32), Sim Y_M_least h 43 [(0, .ref this), (1, .int x1), (2, .int x2), (3, .int x3), (4, .int x4), (5, .int x5), (6, .int x6)] [] (itr (c_M_least_l43 r33) (fun _ _ _ _ _ _ _ _ => none) n h this x1 x2 x3 x4 x5 x6)
  | 0, h, this, x1, x2, x3, x4, x5, x6 => Sim.none
  | n + 1, h, this, x1, x2, x3, x4, x5, x6 => w_M_least_l43 r33 _ hr33 (v_M_least_l43 r33 hr33 n) h this x1 x2 x3 x4 x5 x6
set_option maxHeartbeats 4000000 in
theorem w_M_least_l33 (r33 : PH → Nat → Int32 → Int32 → Int32 → Int32 → Int32 → Option RH) (hr33 : ∀ (h : PH) (this : Nat) (x1 : Int32) (x2 : Int32) (x3 : Int32) (x4 : Int32) (x5 : Int32), Sim Y_M_least h 33 [(0, .ref this), (1, .int x1), (2, .int x2), (3, .int x3), (4, .int x4), (5, .int x5)] [] (r33 h this x1 x2 x3 x4 x5)) (h : PH) (this : Nat) (x1 : Int32) (x2 : Int32) (x3 : Int32) (x4 : Int32) (x5 : Int32) : Sim Y_M_least h 33 [(0, .ref this), (1, .int x1), (2, .int x2), (3, .int x3), (4, .int x4), (5, .int x5)] [] (c_M_least_l33 r33 h this x1 x2 x3 x4 x5) := by
  unfold c_M_least_l33
  refine x_iload (pc := 33) 5 rfl dX10_least_33 ?_
  refine x_bipush (pc := 35) (v := 8) (by decide) dX10_least_35 ?_
  refine x_icmp_ge (pc := 37) 89 (by decide) dX10_least_37 ?_ ?_
  · refine x_iconst (pc := 89) (v := (-1)) (by decide) dX10_least_89 ?_
    exact x_iret (pc := 90) dX10_least_90
  · refine x_iload_n (pc := 40) 1 rfl rfl dX10_least_40 ?_
    refine x_istore (pc := 41) (lv' := [(6, .int x1), (0, .ref this), (1, .int x1), (2, .int x2), (3, .int x3), (4, .int x4), (5, .int x5)]) (by decide) rfl dX10_least_41 ?_
    refine Sim.lv [1, 2, 3, 4, 5, 6, 0] rfl ?_
    exact v_M_least_l43 r33 hr33 FU h this x1 x2 x3 x4 x5 x1
set_option maxHeartbeats 4000000 in
theorem v_M_least_l33 : ∀ (n : Nat) (h : PH) (this : Nat) (x1 : Int32) (x2 : Int32) (x3 : Int32) (x4 : Int32) (x5 : Int32), Sim Y_M_least h 33 [(0, .ref this), (1, .int x1), (2, .int x2), (3, .int x3), (4, .int x4), (5, .int x5)] [] (itr (c_M_least_l33) (fun _ _ _ _ _ _ _ => none) n h this x1 x2 x3 x4 x5)
  | 0, h, this, x1, x2, x3, x4, x5 => Sim.none
  | n + 1, h, this, x1, x2, x3, x4, x5 => w_M_least_l33 _ (v_M_least_l33 n) h this x1 x2 x3 x4 x5
set_option maxHeartbeats 4000000 in
theorem m_M_least (h : PH) (this : Nat) (x1 : Int32) (x2 : Int32) (x3 : Int32) : MM yX10_least (ws_ yX10_least cX10_least 7 (some .int)) 1 [.ref this, .int x1, .int x2, .int x3] h (c_M_least h this x1 x2 x3) := by
  refine MM.of (by decide) rfl (by decide) (Nat.le_of_ble_eq_true rfl) (own := RX10) (cc := cX10_least) (maxL := 7) (lev := 1) (rt := (some .int)) (ini := false) ?_
  show Sim Y_M_least h 0 [(0, .ref this), (1, .int x1), (2, .int x2), (3, .int x3)] [] _
  unfold c_M_least
  refine x_grd ?_
  refine x_aload_nR (pc := 0) (a := this) 0 rfl rfl dX10_least_0 ?_
  refine x_iconst (pc := 1) (v := 0) (by decide) dX10_least_1 ?_
  refine x_pI (pc := 2) fi_X10_1 (fun z => absurd z (by decide)) dX10_least_2 ?_
  intro h1
  refine x_iload_n (pc := 5) 1 rfl rfl dX10_least_5 ?_
  refine x_if_lt (pc := 6) 25 (by decide) dX10_least_6 ?_ ?_
  · refine x_iconst (pc := 25) (v := (-1)) (by decide) dX10_least_25 ?_
    exact x_iret (pc := 26) dX10_least_26
  · refine x_iload_n (pc := 9) 2 rfl rfl dX10_least_9 ?_
    refine x_aload_nR (pc := 10) (a := this) 0 rfl rfl dX10_least_10 ?_
    refine x_getQ (pc := 11) fi_X10_98 dX10_least_11 ?_
    intro v2
    refine x_sipush (pc := 14) (v := 2615) (by decide) dX10_least_14 ?_
    refine x_nn (fun a3 e4 => ?_)
    subst e4
    refine x_iald (pc := 17) dX10_least_17 ?_
    intro v5
    refine x_icmp_gt (pc := 18) 25 (by decide) dX10_least_18 ?_ ?_
    · refine x_iconst (pc := 25) (v := (-1)) (by decide) dX10_least_25 ?_
      exact x_iret (pc := 26) dX10_least_26
    · refine x_iload_n (pc := 21) 3 rfl rfl dX10_least_21 ?_
      refine x_if_ge (pc := 22) 27 (by decide) dX10_least_22 ?_ ?_
      · refine x_iconst (pc := 27) (v := 0) (by decide) dX10_least_27 ?_
        refine x_istore (pc := 28) (lv' := [(4, .int (0 : Int32)), (0, .ref this), (1, .int x1), (2, .int x2), (3, .int x3)]) (by decide) rfl dX10_least_28 ?_
        refine x_iconst (pc := 30) (v := 0) (by decide) dX10_least_30 ?_
        refine x_istore (pc := 31) (lv' := [(5, .int (0 : Int32)), (4, .int (0 : Int32)), (0, .ref this), (1, .int x1), (2, .int x2), (3, .int x3)]) (by decide) rfl dX10_least_31 ?_
        refine Sim.lv [2, 3, 4, 5, 1, 0] rfl ?_
        exact v_M_least_l33 FU h1 this x1 x2 x3 (0 : Int32) (0 : Int32)
      · refine x_iconst (pc := 25) (v := (-1)) (by decide) dX10_least_25 ?_
        exact x_iret (pc := 26) dX10_least_26
abbrev Y_M_isInNode : Yx := (RX10, cX10_isInNode, 2, 1, (some .boolean), [], false)
def c_M_isInNode_j18 (h : PH) (x0 : Int32) (x1 : Int32) : Option RH :=
  if x0 ≤ (2 : Int32) then
    rZ (0 : Int32) h
  else
    nz (2 : Int32) <|
    if (x1 / (2 : Int32)) = (x0 - (3 : Int32)) then
      rZ (1 : Int32) h
    else
      rZ (0 : Int32) h
def c_M_isInNode (h : PH) (x0 : Int32) (x1 : Int32) : Option RH :=
  if x0 = 0 then
    rZ (1 : Int32) h
  else
    if (3 : Int32) ≤ x0 then
      c_M_isInNode_j18 h x0 x1
    else
      nz (4 : Int32) <|
      if (x1 / (4 : Int32)) = (x0 - (1 : Int32)) then
        rZ (1 : Int32) h
      else
        c_M_isInNode_j18 h x0 x1
set_option maxHeartbeats 4000000 in
theorem w_M_isInNode_j18 (h : PH) (x0 : Int32) (x1 : Int32) : Sim Y_M_isInNode h 18 [(0, .int x0), (1, .int x1)] [] (c_M_isInNode_j18 h x0 x1) := by
  unfold c_M_isInNode_j18
  refine x_iload_n (pc := 18) 0 rfl rfl dX10_isInNode_18 ?_
  refine x_iconst (pc := 19) (v := 2) (by decide) dX10_isInNode_19 ?_
  refine x_icmp_le (pc := 20) 36 (by decide) dX10_isInNode_20 ?_ ?_
  · refine x_iconst (pc := 36) (v := 0) (by decide) dX10_isInNode_36 ?_
    exact x_zret (pc := 37) dX10_isInNode_37
  · refine x_iload_n (pc := 23) 1 rfl rfl dX10_isInNode_23 ?_
    refine x_iconst (pc := 24) (v := 2) (by decide) dX10_isInNode_24 ?_
    refine x_idiv (pc := 25) dX10_isInNode_25 ?_
    refine x_iload_n (pc := 26) 0 rfl rfl dX10_isInNode_26 ?_
    refine x_iconst (pc := 27) (v := 3) (by decide) dX10_isInNode_27 ?_
    refine x_isub (pc := 28) dX10_isInNode_28 ?_
    refine x_icmp_ne (pc := 29) 36 (by decide) dX10_isInNode_29 ?_ ?_
    · refine x_iconst (pc := 36) (v := 0) (by decide) dX10_isInNode_36 ?_
      exact x_zret (pc := 37) dX10_isInNode_37
    · refine x_iconst (pc := 32) (v := 1) (by decide) dX10_isInNode_32 ?_
      refine x_goto (pc := 33) 37 (by decide) dX10_isInNode_33 ?_
      exact x_zret (pc := 37) dX10_isInNode_37
set_option maxHeartbeats 4000000 in
theorem m_M_isInNode (h : PH) (x0 : Int32) (x1 : Int32) : MM yX10_isInNode (ws_ yX10_isInNode cX10_isInNode 2 (some .boolean)) 1 [.int x0, .int x1] h (c_M_isInNode h x0 x1) := by
  refine MM.of (by decide) rfl (by decide) (Nat.le_of_ble_eq_true rfl) (own := RX10) (cc := cX10_isInNode) (maxL := 2) (lev := 1) (rt := (some .boolean)) (ini := false) ?_
  show Sim Y_M_isInNode h 0 [(0, .int x0), (1, .int x1)] [] _
  unfold c_M_isInNode
  refine x_iload_n (pc := 0) 0 rfl rfl dX10_isInNode_0 ?_
  refine x_if_eq (pc := 1) 32 (by decide) dX10_isInNode_1 ?_ ?_
  · refine x_iconst (pc := 32) (v := 1) (by decide) dX10_isInNode_32 ?_
    refine x_goto (pc := 33) 37 (by decide) dX10_isInNode_33 ?_
    exact x_zret (pc := 37) dX10_isInNode_37
  · refine x_iload_n (pc := 4) 0 rfl rfl dX10_isInNode_4 ?_
    refine x_iconst (pc := 5) (v := 3) (by decide) dX10_isInNode_5 ?_
    refine x_icmp_ge (pc := 6) 18 (by decide) dX10_isInNode_6 ?_ ?_
    · exact w_M_isInNode_j18 h x0 x1
    · refine x_iload_n (pc := 9) 1 rfl rfl dX10_isInNode_9 ?_
      refine x_iconst (pc := 10) (v := 4) (by decide) dX10_isInNode_10 ?_
      refine x_idiv (pc := 11) dX10_isInNode_11 ?_
      refine x_iload_n (pc := 12) 0 rfl rfl dX10_isInNode_12 ?_
      refine x_iconst (pc := 13) (v := 1) (by decide) dX10_isInNode_13 ?_
      refine x_isub (pc := 14) dX10_isInNode_14 ?_
      refine x_icmp_eq (pc := 15) 32 (by decide) dX10_isInNode_15 ?_ ?_
      · refine x_iconst (pc := 32) (v := 1) (by decide) dX10_isInNode_32 ?_
        refine x_goto (pc := 33) 37 (by decide) dX10_isInNode_33 ?_
        exact x_zret (pc := 37) dX10_isInNode_37
      · exact w_M_isInNode_j18 h x0 x1
theorem si_X10_285 : SiS RX10 285 yX10_isInNode cX10_isInNode 2 (some .boolean) 2 := ⟨lw_S q2094 q2095 q121 q2096, ⟨by decide, by decide, by decide +kernel⟩, by decide⟩
abbrev Y_M_node : Yx := (RX10, cX10_node, 6, 2, (some .int), [], false)
def c_M_node_l26 (r26 : PH → Nat → Int32 → Int32 → Int32 → Int32 → Option RH) (h : PH) (this : Nat) (x1 : Int32) (x2 : Int32) (x3 : Int32) (x4 : Int32) : Option RH :=
  gQ h this [8] 14 fun v1 =>
  nn v1 fun a2 =>
  ldI h a2 0 (2615 : Int32) fun v4 =>
  if v4 ≤ x4 then
    rI (-1 : Int32) h
  else
    gQ h this [8] 14 fun v5 =>
    nn v5 fun a6 =>
    ldI h a6 0 ((2616 : Int32) + x4) fun v8 =>
    hI (c_M_isInNode h x1 v8) noX fun v10 h9 =>
    if v10 = 0 then
      r26 h9 this x1 x2 x3 (x4 + (1 : Int32))
    else
      if x3 = x2 then
        if x1 = 0 then
          rI ((v8 >>> ((2 : Int32) &&& 31)) &&& (1 : Int32)) h9
        else
          if (3 : Int32) ≤ x1 then
            rI ((v8 >>> ((0 : Int32) &&& 31)) &&& (1 : Int32)) h9
          else
            rI ((v8 >>> ((1 : Int32) &&& 31)) &&& (1 : Int32)) h9
      else
        r26 h9 this x1 x2 (x3 + (1 : Int32)) (x4 + (1 : Int32))
def c_M_node (h : PH) (this : Nat) (x1 : Int32) (x2 : Int32) : Option RH :=
  grd h this [8] (
  pI h this [8] 0 (0 : Int32) fun h1 =>
  hI (c_M_isIn h1 x1 (0 : Int32) (6 : Int32)) noX fun v3 h2 =>
  if v3 = 0 then
    rI (-1 : Int32) h2
  else
    if 0 ≤ x2 then
      itr (c_M_node_l26) (fun _ _ _ _ _ _ => none) FU h2 this x1 x2 (0 : Int32) (0 : Int32)
    else
      rI (-1 : Int32) h2)
set_option maxHeartbeats 4000000 in
theorem w_M_node_l26 (r26 : PH → Nat → Int32 → Int32 → Int32 → Int32 → Option RH) (hr26 : ∀ (h : PH) (this : Nat) (x1 : Int32) (x2 : Int32) (x3 : Int32) (x4 : Int32), Sim Y_M_node h 26 [(0, .ref this), (1, .int x1), (2, .int x2), (3, .int x3), (4, .int x4)] [] (r26 h this x1 x2 x3 x4)) (h : PH) (this : Nat) (x1 : Int32) (x2 : Int32) (x3 : Int32) (x4 : Int32) : Sim Y_M_node h 26 [(0, .ref this), (1, .int x1), (2, .int x2), (3, .int x3), (4, .int x4)] [] (c_M_node_l26 r26 h this x1 x2 x3 x4) := by
  unfold c_M_node_l26
  refine x_iload (pc := 26) 4 rfl dX10_node_26 ?_
  refine x_aload_nR (pc := 28) (a := this) 0 rfl rfl dX10_node_28 ?_
  refine x_getQ (pc := 29) fi_X10_98 dX10_node_29 ?_
  intro v1
  refine x_sipush (pc := 32) (v := 2615) (by decide) dX10_node_32 ?_
  refine x_nn (fun a2 e3 => ?_)
  subst e3
  refine x_iald (pc := 35) dX10_node_35 ?_
  intro v4
  refine x_icmp_ge (pc := 36) 102 (by decide) dX10_node_36 ?_ ?_
  · refine x_iconst (pc := 102) (v := (-1)) (by decide) dX10_node_102 ?_
    exact x_iret (pc := 103) dX10_node_103
  · refine x_aload_nR (pc := 39) (a := this) 0 rfl rfl dX10_node_39 ?_
    refine x_getQ (pc := 40) fi_X10_98 dX10_node_40 ?_
    intro v5
    refine x_sipush (pc := 43) (v := 2616) (by decide) dX10_node_43 ?_
    refine x_iload (pc := 46) 4 rfl dX10_node_46 ?_
    refine x_iadd (pc := 48) dX10_node_48 ?_
    refine x_nn (fun a6 e7 => ?_)
    subst e7
    refine x_iald (pc := 49) dX10_node_49 ?_
    intro v8
    refine x_istore (pc := 50) (lv' := [(5, .int v8), (0, .ref this), (1, .int x1), (2, .int x2), (3, .int x3), (4, .int x4)]) (by decide) rfl dX10_node_50 ?_
    refine x_iload_n (pc := 52) 2 rfl rfl dX10_node_52 ?_
    refine x_iload (pc := 53) 0 rfl dX10_node_53 ?_
    refine x_callS (pc := 55) (As := [.int x1, .int v8]) (rest := []) (lev' := 1) si_X10_285 (m_M_isInNode h x1 v8) rfl rfl (by decide) (cat4 (Nat.le_of_ble_eq_true rfl)) dX10_node_55 (kI (fun v10 h9 => ?_)) xNo
    refine x_if_ne (pc := 58) 64 (by decide) dX10_node_58 ?_ ?_
    · refine x_iload_n (pc := 64) 4 rfl rfl dX10_node_64 ?_
      refine x_iload_n (pc := 65) 3 rfl rfl dX10_node_65 ?_
      refine x_icmp_ne (pc := 66) 93 (by decide) dX10_node_66 ?_ ?_
      · refine x_iinc (pc := 93) (v := (1 : Int32)) (lv' := [(3, .int (x3 + (1 : Int32))), (5, .int v8), (0, .ref this), (1, .int x1), (2, .int x2), (4, .int x4)]) 4 rfl (by decide) (by decide) rfl dX10_node_93 ?_
        refine x_iinc (pc := 96) (v := (1 : Int32)) (lv' := [(4, .int (x4 + (1 : Int32))), (3, .int (x3 + (1 : Int32))), (5, .int v8), (0, .ref this), (1, .int x1), (2, .int x2)]) 5 rfl (by decide) (by decide) rfl dX10_node_96 ?_
        refine x_goto (pc := 99) 26 (by decide) dX10_node_99 ?_
        refine Sim.lv [3, 4, 5, 1, 0] rfl ?_
        exact hr26 h9 this x1 x2 (x3 + (1 : Int32)) (x4 + (1 : Int32))
      · refine x_iload (pc := 69) 0 rfl dX10_node_69 ?_
        refine x_iload_n (pc := 71) 2 rfl rfl dX10_node_71 ?_
        refine x_if_ne (pc := 72) 79 (by decide) dX10_node_72 ?_ ?_
        · refine x_iload_n (pc := 79) 2 rfl rfl dX10_node_79 ?_
          refine x_iconst (pc := 80) (v := 3) (by decide) dX10_node_80 ?_
          refine x_icmp_ge (pc := 81) 88 (by decide) dX10_node_81 ?_ ?_
          · refine x_iconst (pc := 88) (v := 0) (by decide) dX10_node_88 ?_
            refine x_ishr (pc := 89) dX10_node_89 ?_
            refine x_iconst (pc := 90) (v := 1) (by decide) dX10_node_90 ?_
            refine x_iand (pc := 91) dX10_node_91 ?_
            exact x_iret (pc := 92) dX10_node_92
          · refine x_iconst (pc := 84) (v := 1) (by decide) dX10_node_84 ?_
            refine x_goto (pc := 85) 89 (by decide) dX10_node_85 ?_
            refine x_ishr (pc := 89) dX10_node_89 ?_
            refine x_iconst (pc := 90) (v := 1) (by decide) dX10_node_90 ?_
            refine x_iand (pc := 91) dX10_node_91 ?_
            exact x_iret (pc := 92) dX10_node_92
        · refine x_iconst (pc := 75) (v := 2) (by decide) dX10_node_75 ?_
          refine x_goto (pc := 76) 89 (by decide) dX10_node_76 ?_
          refine x_ishr (pc := 89) dX10_node_89 ?_
          refine x_iconst (pc := 90) (v := 1) (by decide) dX10_node_90 ?_
          refine x_iand (pc := 91) dX10_node_91 ?_
          exact x_iret (pc := 92) dX10_node_92
    · refine x_goto (pc := 61) 96 (by decide) dX10_node_61 ?_
      refine x_iinc (pc := 96) (v := (1 : Int32)) (lv' := [(4, .int (x4 + (1 : Int32))), (5, .int v8), (0, .ref this), (1, .int x1), (2, .int x2), (3, .int x3)]) 5 rfl (by decide) (by decide) rfl dX10_node_96 ?_
      refine x_goto (pc := 99) 26 (by decide) dX10_node_99 ?_
      refine Sim.lv [2, 3, 4, 5, 0] rfl ?_
      exact hr26 h9 this x1 x2 x3 (x4 + (1 : Int32))
set_option maxHeartbeats 4000000 in
theorem v_M_node_l26 : ∀ (n : Nat) (h : PH) (this : Nat) (x1 : Int32) (x2 : Int32) (x3 : Int32) (x4 : Int32), Sim Y_M_node h 26 [(0, .ref this), (1, .int x1), (2, .int x2), (3, .int x3), (4, .int x4)] [] (itr (c_M_node_l26) (fun _ _ _ _ _ _ => none) n h this x1 x2 x3 x4)
  | 0, h, this, x1, x2, x3, x4 => Sim.none
  | n + 1, h, this, x1, x2, x3, x4 => w_M_node_l26 _ (v_M_node_l26 n) h this x1 x2 x3 x4
set_option maxHeartbeats 4000000 in
theorem m_M_node (h : PH) (this : Nat) (x1 : Int32) (x2 : Int32) : MM yX10_node (ws_ yX10_node cX10_node 6 (some .int)) 2 [.ref this, .int x1, .int x2] h (c_M_node h this x1 x2) := by
  refine MM.of (by decide) rfl (by decide) (Nat.le_of_ble_eq_true rfl) (own := RX10) (cc := cX10_node) (maxL := 6) (lev := 2) (rt := (some .int)) (ini := false) ?_
  show Sim Y_M_node h 0 [(0, .ref this), (1, .int x1), (2, .int x2)] [] _
  unfold c_M_node
  refine x_grd ?_
  refine x_aload_nR (pc := 0) (a := this) 0 rfl rfl dX10_node_0 ?_
  refine x_iconst (pc := 1) (v := 0) (by decide) dX10_node_1 ?_
  refine x_pI (pc := 2) fi_X10_1 (fun z => absurd z (by decide)) dX10_node_2 ?_
  intro h1
  refine x_iload_n (pc := 5) 1 rfl rfl dX10_node_5 ?_
  refine x_iconst (pc := 6) (v := 0) (by decide) dX10_node_6 ?_
  refine x_bipush (pc := 7) (v := 6) (by decide) dX10_node_7 ?_
  refine x_callS (pc := 9) (As := [.int x1, .int (0 : Int32), .int (6 : Int32)]) (rest := []) (lev' := 1) si_X10_75 (m_M_isIn h1 x1 (0 : Int32) (6 : Int32)) rfl rfl (by decide) (cat4 (Nat.le_of_ble_eq_true rfl)) dX10_node_9 (kI (fun v3 h2 => ?_)) xNo
  refine x_if_eq (pc := 12) 19 (by decide) dX10_node_12 ?_ ?_
  · refine x_iconst (pc := 19) (v := (-1)) (by decide) dX10_node_19 ?_
    exact x_iret (pc := 20) dX10_node_20
  · refine x_iload_n (pc := 15) 2 rfl rfl dX10_node_15 ?_
    refine x_if_ge (pc := 16) 21 (by decide) dX10_node_16 ?_ ?_
    · refine x_iconst (pc := 21) (v := 0) (by decide) dX10_node_21 ?_
      refine x_istore_n (pc := 22) (lv' := [(3, .int (0 : Int32)), (0, .ref this), (1, .int x1), (2, .int x2)]) rfl (by decide) rfl dX10_node_22 ?_
      refine x_iconst (pc := 23) (v := 0) (by decide) dX10_node_23 ?_
      refine x_istore (pc := 24) (lv' := [(4, .int (0 : Int32)), (3, .int (0 : Int32)), (0, .ref this), (1, .int x1), (2, .int x2)]) (by decide) rfl dX10_node_24 ?_
      refine Sim.lv [2, 3, 4, 1, 0] rfl ?_
      exact v_M_node_l26 FU h2 this x1 x2 (0 : Int32) (0 : Int32)
    · refine x_iconst (pc := 19) (v := (-1)) (by decide) dX10_node_19 ?_
      exact x_iret (pc := 20) dX10_node_20
abbrev Y_M_whyPut : Yx := (RX10, cX10_whyPut, 4, 2, (some .int), [], false)
def c_M_whyPut (h : PH) (this : Nat) (x1 : Int32) (x2 : Int32) (x3 : Int32) : Option RH :=
  grd h this [8] (
  hI (c_M_sizeOf h this x1) noX fun v2 h1 =>
  hI (c_M_isIn h1 x2 (0 : Int32) v2) noX fun v4 h3 =>
  if v4 = 0 then
    rI (1 : Int32) h3
  else
    hI (c_M_sizeOf h3 this x1) noX fun v6 h5 =>
    if (v6 + x3) ≤ (600 : Int32) then
      rI (0 : Int32) h5
    else
      rI (2 : Int32) h5)
set_option maxHeartbeats 4000000 in
theorem m_M_whyPut (h : PH) (this : Nat) (x1 : Int32) (x2 : Int32) (x3 : Int32) : MM yX10_whyPut (ws_ yX10_whyPut cX10_whyPut 4 (some .int)) 2 [.ref this, .int x1, .int x2, .int x3] h (c_M_whyPut h this x1 x2 x3) := by
  refine MM.of (by decide) rfl (by decide) (Nat.le_of_ble_eq_true rfl) (own := RX10) (cc := cX10_whyPut) (maxL := 4) (lev := 2) (rt := (some .int)) (ini := false) ?_
  show Sim Y_M_whyPut h 0 [(0, .ref this), (1, .int x1), (2, .int x2), (3, .int x3)] [] _
  unfold c_M_whyPut
  refine x_grd ?_
  refine x_iload_n (pc := 0) 2 rfl rfl dX10_whyPut_0 ?_
  refine x_iconst (pc := 1) (v := 0) (by decide) dX10_whyPut_1 ?_
  refine x_aload_nR (pc := 2) (a := this) 0 rfl rfl dX10_whyPut_2 ?_
  refine x_iload_n (pc := 3) 1 rfl rfl dX10_whyPut_3 ?_
  refine x_callV (pc := 4) (As := [.int x1]) (rest := [.int (0 : Int32), .int x2]) (lev' := 1) si_X10_199 (m_M_sizeOf h this x1) (fun z e => grd1 e) rfl rfl (by decide) (cat4 (Nat.le_of_ble_eq_true rfl)) dX10_whyPut_4 (kI (fun v2 h1 => ?_)) xNo
  refine x_callS (pc := 7) (As := [.int x2, .int (0 : Int32), .int v2]) (rest := []) (lev' := 1) si_X10_75 (m_M_isIn h1 x2 (0 : Int32) v2) rfl rfl (by decide) (cat4 (Nat.le_of_ble_eq_true rfl)) dX10_whyPut_7 (kI (fun v4 h3 => ?_)) xNo
  refine x_if_ne (pc := 10) 17 (by decide) dX10_whyPut_10 ?_ ?_
  · refine x_aload_nR (pc := 17) (a := this) 0 rfl rfl dX10_whyPut_17 ?_
    refine x_iload_n (pc := 18) 1 rfl rfl dX10_whyPut_18 ?_
    refine x_callV (pc := 19) (As := [.int x1]) (rest := []) (lev' := 1) si_X10_199 (m_M_sizeOf h3 this x1) (fun z e => grd1 e) rfl rfl (by decide) (cat4 (Nat.le_of_ble_eq_true rfl)) dX10_whyPut_19 (kI (fun v6 h5 => ?_)) xNo
    refine x_iload_n (pc := 22) 3 rfl rfl dX10_whyPut_22 ?_
    refine x_iadd (pc := 23) dX10_whyPut_23 ?_
    refine x_sipush (pc := 24) (v := 600) (by decide) dX10_whyPut_24 ?_
    refine x_icmp_le (pc := 27) 34 (by decide) dX10_whyPut_27 ?_ ?_
    · refine x_iconst (pc := 34) (v := 0) (by decide) dX10_whyPut_34 ?_
      exact x_iret (pc := 35) dX10_whyPut_35
    · refine x_iconst (pc := 30) (v := 2) (by decide) dX10_whyPut_30 ?_
      refine x_goto (pc := 31) 35 (by decide) dX10_whyPut_31 ?_
      exact x_iret (pc := 35) dX10_whyPut_35
  · refine x_iconst (pc := 13) (v := 1) (by decide) dX10_whyPut_13 ?_
    refine x_goto (pc := 14) 35 (by decide) dX10_whyPut_14 ?_
    exact x_iret (pc := 35) dX10_whyPut_35
abbrev Y_M_areThere : Yx := (RX10, cX10_areThere, 3, 1, (some .boolean), [], false)
def c_M_areThere (h : PH) (x0 : Int32) (x1 : Int32) (x2 : Int32) : Option RH :=
  if x0 < 0 then
    rZ (0 : Int32) h
  else
    if x2 < x1 then
      rZ (0 : Int32) h
    else
      if (x2 - x1) < x0 then
        rZ (0 : Int32) h
      else
        rZ (1 : Int32) h
set_option maxHeartbeats 4000000 in
theorem m_M_areThere (h : PH) (x0 : Int32) (x1 : Int32) (x2 : Int32) : MM yX10_areThere (ws_ yX10_areThere cX10_areThere 3 (some .boolean)) 1 [.int x0, .int x1, .int x2] h (c_M_areThere h x0 x1 x2) := by
  refine MM.of (by decide) rfl (by decide) (Nat.le_of_ble_eq_true rfl) (own := RX10) (cc := cX10_areThere) (maxL := 3) (lev := 1) (rt := (some .boolean)) (ini := false) ?_
  show Sim Y_M_areThere h 0 [(0, .int x0), (1, .int x1), (2, .int x2)] [] _
  unfold c_M_areThere
  refine x_iload_n (pc := 0) 0 rfl rfl dX10_areThere_0 ?_
  refine x_if_lt (pc := 1) 20 (by decide) dX10_areThere_1 ?_ ?_
  · refine x_iconst (pc := 20) (v := 0) (by decide) dX10_areThere_20 ?_
    exact x_zret (pc := 21) dX10_areThere_21
  · refine x_iload_n (pc := 4) 1 rfl rfl dX10_areThere_4 ?_
    refine x_iload_n (pc := 5) 2 rfl rfl dX10_areThere_5 ?_
    refine x_icmp_gt (pc := 6) 20 (by decide) dX10_areThere_6 ?_ ?_
    · refine x_iconst (pc := 20) (v := 0) (by decide) dX10_areThere_20 ?_
      exact x_zret (pc := 21) dX10_areThere_21
    · refine x_iload_n (pc := 9) 0 rfl rfl dX10_areThere_9 ?_
      refine x_iload_n (pc := 10) 2 rfl rfl dX10_areThere_10 ?_
      refine x_iload_n (pc := 11) 1 rfl rfl dX10_areThere_11 ?_
      refine x_isub (pc := 12) dX10_areThere_12 ?_
      refine x_icmp_gt (pc := 13) 20 (by decide) dX10_areThere_13 ?_ ?_
      · refine x_iconst (pc := 20) (v := 0) (by decide) dX10_areThere_20 ?_
        exact x_zret (pc := 21) dX10_areThere_21
      · refine x_iconst (pc := 16) (v := 1) (by decide) dX10_areThere_16 ?_
        refine x_goto (pc := 17) 21 (by decide) dX10_areThere_17 ?_
        exact x_zret (pc := 21) dX10_areThere_21
