set_option maxRecDepth 100000
abbrev Y_M_said : Yx := (RX10, cX10_said, 4, 70, (some .int), [], false)
def c_M_said_l22 (r22 : PH → Nat → Int32 → Int32 → Int32 → Option RH) (h : PH) (this : Nat) (x1 : Int32) (x2 : Int32) (x3 : Int32) : Option RH :=
  gQ h this [8] 14 fun v1 =>
  nn v1 fun a2 =>
  ldI h a2 0 (0 : Int32) fun v4 =>
  if v4 ≤ x3 then
    if x1 = (-1 : Int32) then
      rI x2 h
    else
      rI (-1 : Int32) h
  else
    gQ h this [8] 14 fun v5 =>
    nn v5 fun a6 =>
    ldI h a6 0 (5821 : Int32) fun v8 =>
    hI (grd h this [8] (c_M_holds 64 h this v8 x3)) noX fun v10 h9 =>
    if v10 = 0 then
      r22 h9 this x1 x2 (x3 + (1 : Int32))
    else
      if x2 = x1 then
        rI x3 h9
      else
        r22 h9 this x1 (x2 + (1 : Int32)) (x3 + (1 : Int32))
def c_M_said (h : PH) (this : Nat) (x1 : Int32) : Option RH :=
  grd h this [8] (
  pI h this [8] 0 (0 : Int32) fun h1 =>
  gQ h1 this [8] 14 fun v2 =>
  nn v2 fun a3 =>
  ldI h1 a3 0 (5820 : Int32) fun v5 =>
  if v5 = 0 then
    rI (-1 : Int32) h1
  else
    itr (c_M_said_l22) (fun _ _ _ _ _ => none) FU h1 this x1 (0 : Int32) (0 : Int32))
set_option maxHeartbeats 4000000 in
theorem w_M_said_l22 (r22 : PH → Nat → Int32 → Int32 → Int32 → Option RH) (hr22 : ∀ (h : PH) (this : Nat) (x1 : Int32) (x2 : Int32) (x3 : Int32), Sim Y_M_said h 22 [(0, .ref this), (1, .int x1), (2, .int x2), (3, .int x3)] [] (r22 h this x1 x2 x3)) (h : PH) (this : Nat) (x1 : Int32) (x2 : Int32) (x3 : Int32) : Sim Y_M_said h 22 [(0, .ref this), (1, .int x1), (2, .int x2), (3, .int x3)] [] (c_M_said_l22 r22 h this x1 x2 x3) := by
  unfold c_M_said_l22
  refine x_iload_n (pc := 22) 3 rfl rfl dX10_said_22 ?_
  refine x_aload_nR (pc := 23) (a := this) 0 rfl rfl dX10_said_23 ?_
  refine x_getQ (pc := 24) fi_X10_98 dX10_said_24 ?_
  intro v1
  refine x_iconst (pc := 27) (v := 0) (by decide) dX10_said_27 ?_
  refine x_nn (fun a2 e3 => ?_)
  subst e3
  refine x_iald (pc := 28) dX10_said_28 ?_
  intro v4
  refine x_icmp_ge (pc := 29) 67 (by decide) dX10_said_29 ?_ ?_
  · refine x_iload_n (pc := 67) 1 rfl rfl dX10_said_67 ?_
    refine x_iconst (pc := 68) (v := (-1)) (by decide) dX10_said_68 ?_
    refine x_icmp_ne (pc := 69) 76 (by decide) dX10_said_69 ?_ ?_
    · refine x_iconst (pc := 76) (v := (-1)) (by decide) dX10_said_76 ?_
      exact x_iret (pc := 77) dX10_said_77
    · refine x_iload_n (pc := 72) 2 rfl rfl dX10_said_72 ?_
      refine x_goto (pc := 73) 77 (by decide) dX10_said_73 ?_
      exact x_iret (pc := 77) dX10_said_77
  · refine x_aload_nR (pc := 32) (a := this) 0 rfl rfl dX10_said_32 ?_
    refine x_aload_nR (pc := 33) (a := this) 0 rfl rfl dX10_said_33 ?_
    refine x_getQ (pc := 34) fi_X10_98 dX10_said_34 ?_
    intro v5
    refine x_sipush (pc := 37) (v := 5821) (by decide) dX10_said_37 ?_
    refine x_nn (fun a6 e7 => ?_)
    subst e7
    refine x_iald (pc := 40) dX10_said_40 ?_
    intro v8
    refine x_iload_n (pc := 41) 3 rfl rfl dX10_said_41 ?_
    refine x_callV (pc := 42) (As := [.int v8, .int x3]) (rest := []) (lev' := (5 + 64)) si_X10_404 (MM.grd (m_M_holds 64 h this v8 x3)) (fun z e => grd1 e) rfl rfl (by omega) (cat4 (Nat.le_of_ble_eq_true rfl)) dX10_said_42 (kI (fun v10 h9 => ?_)) xNo
    refine x_if_ne (pc := 45) 51 (by decide) dX10_said_45 ?_ ?_
    · refine x_iload_n (pc := 51) 2 rfl rfl dX10_said_51 ?_
      refine x_iload_n (pc := 52) 1 rfl rfl dX10_said_52 ?_
      refine x_icmp_ne (pc := 53) 58 (by decide) dX10_said_53 ?_ ?_
      · refine x_iinc (pc := 58) (v := (1 : Int32)) (lv' := [(2, .int (x2 + (1 : Int32))), (0, .ref this), (1, .int x1), (3, .int x3)]) 2 rfl (by decide) (by decide) rfl dX10_said_58 ?_
        refine x_iinc (pc := 61) (v := (1 : Int32)) (lv' := [(3, .int (x3 + (1 : Int32))), (2, .int (x2 + (1 : Int32))), (0, .ref this), (1, .int x1)]) 3 rfl (by decide) (by decide) rfl dX10_said_61 ?_
        refine x_goto (pc := 64) 22 (by decide) dX10_said_64 ?_
        refine Sim.lv [2, 3, 1, 0] rfl ?_
        exact hr22 h9 this x1 (x2 + (1 : Int32)) (x3 + (1 : Int32))
      · refine x_iload_n (pc := 56) 3 rfl rfl dX10_said_56 ?_
        exact x_iret (pc := 57) dX10_said_57
    · refine x_goto (pc := 48) 61 (by decide) dX10_said_48 ?_
      refine x_iinc (pc := 61) (v := (1 : Int32)) (lv' := [(3, .int (x3 + (1 : Int32))), (0, .ref this), (1, .int x1), (2, .int x2)]) 3 rfl (by decide) (by decide) rfl dX10_said_61 ?_
      refine x_goto (pc := 64) 22 (by decide) dX10_said_64 ?_
      refine Sim.lv [1, 2, 3, 0] rfl ?_
      exact hr22 h9 this x1 x2 (x3 + (1 : Int32))
set_option maxHeartbeats 4000000 in
theorem v_M_said_l22 : ∀ (n : Nat) (h : PH) (this : Nat) (x1 : Int32) (x2 : Int32) (x3 : Int32), Sim Y_M_said h 22 [(0, .ref this), (1, .int x1), (2, .int x2), (3, .int x3)] [] (itr (c_M_said_l22) (fun _ _ _ _ _ => none) n h this x1 x2 x3)
  | 0, h, this, x1, x2, x3 => Sim.none
  | n + 1, h, this, x1, x2, x3 => w_M_said_l22 _ (v_M_said_l22 n) h this x1 x2 x3
set_option maxHeartbeats 4000000 in
theorem m_M_said (h : PH) (this : Nat) (x1 : Int32) : MM yX10_said (ws_ yX10_said cX10_said 4 (some .int)) 70 [.ref this, .int x1] h (c_M_said h this x1) := by
  refine MM.of (by decide) rfl (by decide) (Nat.le_of_ble_eq_true rfl) (own := RX10) (cc := cX10_said) (maxL := 4) (lev := 70) (rt := (some .int)) (ini := false) ?_
  show Sim Y_M_said h 0 [(0, .ref this), (1, .int x1)] [] _
  unfold c_M_said
  refine x_grd ?_
  refine x_aload_nR (pc := 0) (a := this) 0 rfl rfl dX10_said_0 ?_
  refine x_iconst (pc := 1) (v := 0) (by decide) dX10_said_1 ?_
  refine x_pI (pc := 2) fi_X10_1 (fun z => absurd z (by decide)) dX10_said_2 ?_
  intro h1
  refine x_aload_nR (pc := 5) (a := this) 0 rfl rfl dX10_said_5 ?_
  refine x_getQ (pc := 6) fi_X10_98 dX10_said_6 ?_
  intro v2
  refine x_sipush (pc := 9) (v := 5820) (by decide) dX10_said_9 ?_
  refine x_nn (fun a3 e4 => ?_)
  subst e4
  refine x_iald (pc := 12) dX10_said_12 ?_
  intro v5
  refine x_if_ne (pc := 13) 18 (by decide) dX10_said_13 ?_ ?_
  · refine x_iconst (pc := 18) (v := 0) (by decide) dX10_said_18 ?_
    refine x_istore_n (pc := 19) (lv' := [(2, .int (0 : Int32)), (0, .ref this), (1, .int x1)]) rfl (by decide) rfl dX10_said_19 ?_
    refine x_iconst (pc := 20) (v := 0) (by decide) dX10_said_20 ?_
    refine x_istore_n (pc := 21) (lv' := [(3, .int (0 : Int32)), (2, .int (0 : Int32)), (0, .ref this), (1, .int x1)]) rfl (by decide) rfl dX10_said_21 ?_
    refine Sim.lv [2, 3, 1, 0] rfl ?_
    exact v_M_said_l22 FU h1 this x1 (0 : Int32) (0 : Int32)
  · refine x_iconst (pc := 16) (v := (-1)) (by decide) dX10_said_16 ?_
    exact x_iret (pc := 17) dX10_said_17
abbrev Y_M_image : Yx := (RX10, cX10_image, 3, 2, (some .boolean), [], false)
def c_M_image_l51 (r51 : PH → Nat → Int32 → Int32 → Option RH) (h : PH) (this : Nat) (x1 : Int32) (x2 : Int32) : Option RH :=
  if (4 : Int32) ≤ x2 then
    gQ h this [8] 23 fun v1 =>
    nn v1 fun a2 =>
    stZ h a2 x1 (1 : Int32) fun h4 =>
    rZ (1 : Int32) h4
  else
    gQ h this [8] 22 fun v5 =>
    gQ h this [8] 20 fun v6 =>
    nn v6 fun a7 =>
    ldL h a7 x2 fun v9 =>
    nn v5 fun a10 =>
    stL h a10 (((4 : Int32) * x1) + x2) v9 fun h12 =>
    r51 h12 this x1 (x2 + (1 : Int32))
def c_M_image_l18 (r18 : PH → Nat → Int32 → Int32 → Option RH) (h : PH) (this : Nat) (x1 : Int32) (x2 : Int32) : Option RH :=
  if (6062 : Int32) ≤ x2 then
    itr (c_M_image_l51) (fun _ _ _ _ => none) FU h this x1 (0 : Int32)
  else
    gQ h this [8] 16 fun v1 =>
    gQ h this [8] 14 fun v2 =>
    nn v2 fun a3 =>
    ldI h a3 0 x2 fun v5 =>
    nn v1 fun a6 =>
    stI h a6 (((6062 : Int32) * x1) + x2) v5 fun h8 =>
    r18 h8 this x1 (x2 + (1 : Int32))
def c_M_image (h : PH) (this : Nat) (x1 : Int32) : Option RH :=
  grd h this [8] (
  pI h this [8] 0 (0 : Int32) fun h1 =>
  hI (c_M_isIn h1 x1 (0 : Int32) (1 : Int32)) noX fun v3 h2 =>
  if v3 = 0 then
    rZ (0 : Int32) h2
  else
    itr (c_M_image_l18) (fun _ _ _ _ => none) FU h2 this x1 (0 : Int32))
set_option maxHeartbeats 4000000 in
theorem w_M_image_l51 (r51 : PH → Nat → Int32 → Int32 → Option RH) (hr51 : ∀ (h : PH) (this : Nat) (x1 : Int32) (x2 : Int32), Sim Y_M_image h 51 [(0, .ref this), (1, .int x1), (2, .int x2)] [] (r51 h this x1 x2)) (h : PH) (this : Nat) (x1 : Int32) (x2 : Int32) : Sim Y_M_image h 51 [(0, .ref this), (1, .int x1), (2, .int x2)] [] (c_M_image_l51 r51 h this x1 x2) := by
  unfold c_M_image_l51
  refine x_iload_n (pc := 51) 2 rfl rfl dX10_image_51 ?_
  refine x_iconst (pc := 52) (v := 4) (by decide) dX10_image_52 ?_
  refine x_icmp_ge (pc := 53) 78 (by decide) dX10_image_53 ?_ ?_
  · refine x_aload_nR (pc := 78) (a := this) 0 rfl rfl dX10_image_78 ?_
    refine x_getQ (pc := 79) fi_X10_126 dX10_image_79 ?_
    intro v1
    refine x_iload_n (pc := 82) 1 rfl rfl dX10_image_82 ?_
    refine x_iconst (pc := 83) (v := 1) (by decide) dX10_image_83 ?_
    refine x_nn (fun a2 e3 => ?_)
    subst e3
    refine x_zast (pc := 84) dX10_image_84 ?_
    intro h4
    refine x_iconst (pc := 85) (v := 1) (by decide) dX10_image_85 ?_
    exact x_zret (pc := 86) dX10_image_86
  · refine x_aload_nR (pc := 56) (a := this) 0 rfl rfl dX10_image_56 ?_
    refine x_getQ (pc := 57) fi_X10_123 dX10_image_57 ?_
    intro v5
    refine x_iconst (pc := 60) (v := 4) (by decide) dX10_image_60 ?_
    refine x_iload_n (pc := 61) 1 rfl rfl dX10_image_61 ?_
    refine x_imul (pc := 62) dX10_image_62 ?_
    refine x_iload_n (pc := 63) 2 rfl rfl dX10_image_63 ?_
    refine x_iadd (pc := 64) dX10_image_64 ?_
    refine x_aload_nR (pc := 65) (a := this) 0 rfl rfl dX10_image_65 ?_
    refine x_getQ (pc := 66) fi_X10_116 dX10_image_66 ?_
    intro v6
    refine x_iload_n (pc := 69) 2 rfl rfl dX10_image_69 ?_
    refine x_nn (fun a7 e8 => ?_)
    subst e8
    refine x_lald (pc := 70) dX10_image_70 ?_
    intro v9
    refine x_nn (fun a10 e11 => ?_)
    subst e11
    refine x_last (pc := 71) dX10_image_71 ?_
    intro h12
    refine x_iinc (pc := 72) (v := (1 : Int32)) (lv' := [(2, .int (x2 + (1 : Int32))), (0, .ref this), (1, .int x1)]) 2 rfl (by decide) (by decide) rfl dX10_image_72 ?_
    refine x_goto (pc := 75) 51 (by decide) dX10_image_75 ?_
    refine Sim.lv [1, 2, 0] rfl ?_
    exact hr51 h12 this x1 (x2 + (1 : Int32))
set_option maxHeartbeats 4000000 in
theorem v_M_image_l51 : ∀ (n : Nat) (h : PH) (this : Nat) (x1 : Int32) (x2 : Int32), Sim Y_M_image h 51 [(0, .ref this), (1, .int x1), (2, .int x2)] [] (itr (c_M_image_l51) (fun _ _ _ _ => none) n h this x1 x2)
  | 0, h, this, x1, x2 => Sim.none
  | n + 1, h, this, x1, x2 => w_M_image_l51 _ (v_M_image_l51 n) h this x1 x2
set_option maxHeartbeats 4000000 in
theorem w_M_image_l18 (r18 : PH → Nat → Int32 → Int32 → Option RH) (hr18 : ∀ (h : PH) (this : Nat) (x1 : Int32) (x2 : Int32), Sim Y_M_image h 18 [(0, .ref this), (1, .int x1), (2, .int x2)] [] (r18 h this x1 x2)) (h : PH) (this : Nat) (x1 : Int32) (x2 : Int32) : Sim Y_M_image h 18 [(0, .ref this), (1, .int x1), (2, .int x2)] [] (c_M_image_l18 r18 h this x1 x2) := by
  unfold c_M_image_l18
  refine x_iload_n (pc := 18) 2 rfl rfl dX10_image_18 ?_
  refine x_sipush (pc := 19) (v := 6062) (by decide) dX10_image_19 ?_
  refine x_icmp_ge (pc := 22) 49 (by decide) dX10_image_22 ?_ ?_
  · refine x_iconst (pc := 49) (v := 0) (by decide) dX10_image_49 ?_
    refine x_istore_n (pc := 50) (lv' := [(2, .int (0 : Int32)), (0, .ref this), (1, .int x1)]) rfl (by decide) rfl dX10_image_50 ?_
    refine Sim.lv [1, 2, 0] rfl ?_
    exact v_M_image_l51 FU h this x1 (0 : Int32)
  · refine x_aload_nR (pc := 25) (a := this) 0 rfl rfl dX10_image_25 ?_
    refine x_getQ (pc := 26) fi_X10_104 dX10_image_26 ?_
    intro v1
    refine x_sipush (pc := 29) (v := 6062) (by decide) dX10_image_29 ?_
    refine x_iload_n (pc := 32) 1 rfl rfl dX10_image_32 ?_
    refine x_imul (pc := 33) dX10_image_33 ?_
    refine x_iload_n (pc := 34) 2 rfl rfl dX10_image_34 ?_
    refine x_iadd (pc := 35) dX10_image_35 ?_
    refine x_aload_nR (pc := 36) (a := this) 0 rfl rfl dX10_image_36 ?_
    refine x_getQ (pc := 37) fi_X10_98 dX10_image_37 ?_
    intro v2
    refine x_iload_n (pc := 40) 2 rfl rfl dX10_image_40 ?_
    refine x_nn (fun a3 e4 => ?_)
    subst e4
    refine x_iald (pc := 41) dX10_image_41 ?_
    intro v5
    refine x_nn (fun a6 e7 => ?_)
    subst e7
    refine x_iast (pc := 42) dX10_image_42 ?_
    intro h8
    refine x_iinc (pc := 43) (v := (1 : Int32)) (lv' := [(2, .int (x2 + (1 : Int32))), (0, .ref this), (1, .int x1)]) 2 rfl (by decide) (by decide) rfl dX10_image_43 ?_
    refine x_goto (pc := 46) 18 (by decide) dX10_image_46 ?_
    refine Sim.lv [1, 2, 0] rfl ?_
    exact hr18 h8 this x1 (x2 + (1 : Int32))
set_option maxHeartbeats 4000000 in
theorem v_M_image_l18 : ∀ (n : Nat) (h : PH) (this : Nat) (x1 : Int32) (x2 : Int32), Sim Y_M_image h 18 [(0, .ref this), (1, .int x1), (2, .int x2)] [] (itr (c_M_image_l18) (fun _ _ _ _ => none) n h this x1 x2)
  | 0, h, this, x1, x2 => Sim.none
  | n + 1, h, this, x1, x2 => w_M_image_l18 _ (v_M_image_l18 n) h this x1 x2
set_option maxHeartbeats 4000000 in
theorem m_M_image (h : PH) (this : Nat) (x1 : Int32) : MM yX10_image (ws_ yX10_image cX10_image 3 (some .boolean)) 2 [.ref this, .int x1] h (c_M_image h this x1) := by
  refine MM.of (by decide) rfl (by decide) (Nat.le_of_ble_eq_true rfl) (own := RX10) (cc := cX10_image) (maxL := 3) (lev := 2) (rt := (some .boolean)) (ini := false) ?_
  show Sim Y_M_image h 0 [(0, .ref this), (1, .int x1)] [] _
  unfold c_M_image
  refine x_grd ?_
  refine x_aload_nR (pc := 0) (a := this) 0 rfl rfl dX10_image_0 ?_
  refine x_iconst (pc := 1) (v := 0) (by decide) dX10_image_1 ?_
  refine x_pI (pc := 2) fi_X10_1 (fun z => absurd z (by decide)) dX10_image_2 ?_
  intro h1
  refine x_iload_n (pc := 5) 1 rfl rfl dX10_image_5 ?_
  refine x_iconst (pc := 6) (v := 0) (by decide) dX10_image_6 ?_
  refine x_iconst (pc := 7) (v := 1) (by decide) dX10_image_7 ?_
  refine x_callS (pc := 8) (As := [.int x1, .int (0 : Int32), .int (1 : Int32)]) (rest := []) (lev' := 1) si_X10_75 (m_M_isIn h1 x1 (0 : Int32) (1 : Int32)) rfl rfl (by decide) (cat4 (Nat.le_of_ble_eq_true rfl)) dX10_image_8 (kI (fun v3 h2 => ?_)) xNo
  refine x_if_ne (pc := 11) 16 (by decide) dX10_image_11 ?_ ?_
  · refine x_iconst (pc := 16) (v := 0) (by decide) dX10_image_16 ?_
    refine x_istore_n (pc := 17) (lv' := [(2, .int (0 : Int32)), (0, .ref this), (1, .int x1)]) rfl (by decide) rfl dX10_image_17 ?_
    refine Sim.lv [1, 2, 0] rfl ?_
    exact v_M_image_l18 FU h2 this x1 (0 : Int32)
  · refine x_iconst (pc := 14) (v := 0) (by decide) dX10_image_14 ?_
    exact x_zret (pc := 15) dX10_image_15
abbrev Y_M_restore : Yx := (RX10, cX10_restore, 3, 2, (some .boolean), [], false)
def c_M_restore_l60 (r60 : PH → Nat → Int32 → Int32 → Option RH) (h : PH) (this : Nat) (x1 : Int32) (x2 : Int32) : Option RH :=
  if (4 : Int32) ≤ x2 then
    pI h this [8] 24 (0 : Int32) fun h1 =>
    rZ (1 : Int32) h1
  else
    gQ h this [8] 20 fun v2 =>
    gQ h this [8] 22 fun v3 =>
    nn v3 fun a4 =>
    ldL h a4 (((4 : Int32) * x1) + x2) fun v6 =>
    nn v2 fun a7 =>
    stL h a7 x2 v6 fun h9 =>
    r60 h9 this x1 (x2 + (1 : Int32))
def c_M_restore_l27 (r27 : PH → Nat → Int32 → Int32 → Option RH) (h : PH) (this : Nat) (x1 : Int32) (x2 : Int32) : Option RH :=
  if (6062 : Int32) ≤ x2 then
    itr (c_M_restore_l60) (fun _ _ _ _ => none) FU h this x1 (0 : Int32)
  else
    gQ h this [8] 14 fun v1 =>
    gQ h this [8] 16 fun v2 =>
    nn v2 fun a3 =>
    ldI h a3 0 (((6062 : Int32) * x1) + x2) fun v5 =>
    nn v1 fun a6 =>
    stI h a6 x2 v5 fun h8 =>
    r27 h8 this x1 (x2 + (1 : Int32))
def c_M_restore (h : PH) (this : Nat) (x1 : Int32) : Option RH :=
  grd h this [8] (
  pI h this [8] 0 (0 : Int32) fun h1 =>
  hI (c_M_isIn h1 x1 (0 : Int32) (1 : Int32)) noX fun v3 h2 =>
  if v3 = 0 then
    rZ (0 : Int32) h2
  else
    gQ h2 this [8] 23 fun v4 =>
    nn v4 fun a5 =>
    ldI h2 a5 3 x1 fun v7 =>
    if v7 = 0 then
      rZ (0 : Int32) h2
    else
      itr (c_M_restore_l27) (fun _ _ _ _ => none) FU h2 this x1 (0 : Int32))
set_option maxHeartbeats 4000000 in
theorem w_M_restore_l60 (r60 : PH → Nat → Int32 → Int32 → Option RH) (hr60 : ∀ (h : PH) (this : Nat) (x1 : Int32) (x2 : Int32), Sim Y_M_restore h 60 [(0, .ref this), (1, .int x1), (2, .int x2)] [] (r60 h this x1 x2)) (h : PH) (this : Nat) (x1 : Int32) (x2 : Int32) : Sim Y_M_restore h 60 [(0, .ref this), (1, .int x1), (2, .int x2)] [] (c_M_restore_l60 r60 h this x1 x2) := by
  unfold c_M_restore_l60
  refine x_iload_n (pc := 60) 2 rfl rfl dX10_restore_60 ?_
  refine x_iconst (pc := 61) (v := 4) (by decide) dX10_restore_61 ?_
  refine x_icmp_ge (pc := 62) 87 (by decide) dX10_restore_62 ?_ ?_
  · refine x_aload_nR (pc := 87) (a := this) 0 rfl rfl dX10_restore_87 ?_
    refine x_iconst (pc := 88) (v := 0) (by decide) dX10_restore_88 ?_
    refine x_pI (pc := 89) fi_X10_192 (fun z => absurd z (by decide)) dX10_restore_89 ?_
    intro h1
    refine x_iconst (pc := 92) (v := 1) (by decide) dX10_restore_92 ?_
    exact x_zret (pc := 93) dX10_restore_93
  · refine x_aload_nR (pc := 65) (a := this) 0 rfl rfl dX10_restore_65 ?_
    refine x_getQ (pc := 66) fi_X10_116 dX10_restore_66 ?_
    intro v2
    refine x_iload_n (pc := 69) 2 rfl rfl dX10_restore_69 ?_
    refine x_aload_nR (pc := 70) (a := this) 0 rfl rfl dX10_restore_70 ?_
    refine x_getQ (pc := 71) fi_X10_123 dX10_restore_71 ?_
    intro v3
    refine x_iconst (pc := 74) (v := 4) (by decide) dX10_restore_74 ?_
    refine x_iload_n (pc := 75) 1 rfl rfl dX10_restore_75 ?_
    refine x_imul (pc := 76) dX10_restore_76 ?_
    refine x_iload_n (pc := 77) 2 rfl rfl dX10_restore_77 ?_
    refine x_iadd (pc := 78) dX10_restore_78 ?_
    refine x_nn (fun a4 e5 => ?_)
    subst e5
    refine x_lald (pc := 79) dX10_restore_79 ?_
    intro v6
    refine x_nn (fun a7 e8 => ?_)
    subst e8
    refine x_last (pc := 80) dX10_restore_80 ?_
    intro h9
    refine x_iinc (pc := 81) (v := (1 : Int32)) (lv' := [(2, .int (x2 + (1 : Int32))), (0, .ref this), (1, .int x1)]) 2 rfl (by decide) (by decide) rfl dX10_restore_81 ?_
    refine x_goto (pc := 84) 60 (by decide) dX10_restore_84 ?_
    refine Sim.lv [1, 2, 0] rfl ?_
    exact hr60 h9 this x1 (x2 + (1 : Int32))
set_option maxHeartbeats 4000000 in
theorem v_M_restore_l60 : ∀ (n : Nat) (h : PH) (this : Nat) (x1 : Int32) (x2 : Int32), Sim Y_M_restore h 60 [(0, .ref this), (1, .int x1), (2, .int x2)] [] (itr (c_M_restore_l60) (fun _ _ _ _ => none) n h this x1 x2)
  | 0, h, this, x1, x2 => Sim.none
  | n + 1, h, this, x1, x2 => w_M_restore_l60 _ (v_M_restore_l60 n) h this x1 x2
set_option maxHeartbeats 4000000 in
theorem w_M_restore_l27 (r27 : PH → Nat → Int32 → Int32 → Option RH) (hr27 : ∀ (h : PH) (this : Nat) (x1 : Int32) (x2 : Int32), Sim Y_M_restore h 27 [(0, .ref this), (1, .int x1), (2, .int x2)] [] (r27 h this x1 x2)) (h : PH) (this : Nat) (x1 : Int32) (x2 : Int32) : Sim Y_M_restore h 27 [(0, .ref this), (1, .int x1), (2, .int x2)] [] (c_M_restore_l27 r27 h this x1 x2) := by
  unfold c_M_restore_l27
  refine x_iload_n (pc := 27) 2 rfl rfl dX10_restore_27 ?_
  refine x_sipush (pc := 28) (v := 6062) (by decide) dX10_restore_28 ?_
  refine x_icmp_ge (pc := 31) 58 (by decide) dX10_restore_31 ?_ ?_
  · refine x_iconst (pc := 58) (v := 0) (by decide) dX10_restore_58 ?_
    refine x_istore_n (pc := 59) (lv' := [(2, .int (0 : Int32)), (0, .ref this), (1, .int x1)]) rfl (by decide) rfl dX10_restore_59 ?_
    refine Sim.lv [1, 2, 0] rfl ?_
    exact v_M_restore_l60 FU h this x1 (0 : Int32)
  · refine x_aload_nR (pc := 34) (a := this) 0 rfl rfl dX10_restore_34 ?_
    refine x_getQ (pc := 35) fi_X10_98 dX10_restore_35 ?_
    intro v1
    refine x_iload_n (pc := 38) 2 rfl rfl dX10_restore_38 ?_
    refine x_aload_nR (pc := 39) (a := this) 0 rfl rfl dX10_restore_39 ?_
    refine x_getQ (pc := 40) fi_X10_104 dX10_restore_40 ?_
    intro v2
    refine x_sipush (pc := 43) (v := 6062) (by decide) dX10_restore_43 ?_
    refine x_iload_n (pc := 46) 1 rfl rfl dX10_restore_46 ?_
    refine x_imul (pc := 47) dX10_restore_47 ?_
    refine x_iload_n (pc := 48) 2 rfl rfl dX10_restore_48 ?_
    refine x_iadd (pc := 49) dX10_restore_49 ?_
    refine x_nn (fun a3 e4 => ?_)
    subst e4
    refine x_iald (pc := 50) dX10_restore_50 ?_
    intro v5
    refine x_nn (fun a6 e7 => ?_)
    subst e7
    refine x_iast (pc := 51) dX10_restore_51 ?_
    intro h8
    refine x_iinc (pc := 52) (v := (1 : Int32)) (lv' := [(2, .int (x2 + (1 : Int32))), (0, .ref this), (1, .int x1)]) 2 rfl (by decide) (by decide) rfl dX10_restore_52 ?_
    refine x_goto (pc := 55) 27 (by decide) dX10_restore_55 ?_
    refine Sim.lv [1, 2, 0] rfl ?_
    exact hr27 h8 this x1 (x2 + (1 : Int32))
set_option maxHeartbeats 4000000 in
theorem v_M_restore_l27 : ∀ (n : Nat) (h : PH) (this : Nat) (x1 : Int32) (x2 : Int32), Sim Y_M_restore h 27 [(0, .ref this), (1, .int x1), (2, .int x2)] [] (itr (c_M_restore_l27) (fun _ _ _ _ => none) n h this x1 x2)
  | 0, h, this, x1, x2 => Sim.none
  | n + 1, h, this, x1, x2 => w_M_restore_l27 _ (v_M_restore_l27 n) h this x1 x2
set_option maxHeartbeats 4000000 in
theorem m_M_restore (h : PH) (this : Nat) (x1 : Int32) : MM yX10_restore (ws_ yX10_restore cX10_restore 3 (some .boolean)) 2 [.ref this, .int x1] h (c_M_restore h this x1) := by
  refine MM.of (by decide) rfl (by decide) (Nat.le_of_ble_eq_true rfl) (own := RX10) (cc := cX10_restore) (maxL := 3) (lev := 2) (rt := (some .boolean)) (ini := false) ?_
  show Sim Y_M_restore h 0 [(0, .ref this), (1, .int x1)] [] _
  unfold c_M_restore
  refine x_grd ?_
  refine x_aload_nR (pc := 0) (a := this) 0 rfl rfl dX10_restore_0 ?_
  refine x_iconst (pc := 1) (v := 0) (by decide) dX10_restore_1 ?_
  refine x_pI (pc := 2) fi_X10_1 (fun z => absurd z (by decide)) dX10_restore_2 ?_
  intro h1
  refine x_iload_n (pc := 5) 1 rfl rfl dX10_restore_5 ?_
  refine x_iconst (pc := 6) (v := 0) (by decide) dX10_restore_6 ?_
  refine x_iconst (pc := 7) (v := 1) (by decide) dX10_restore_7 ?_
  refine x_callS (pc := 8) (As := [.int x1, .int (0 : Int32), .int (1 : Int32)]) (rest := []) (lev' := 1) si_X10_75 (m_M_isIn h1 x1 (0 : Int32) (1 : Int32)) rfl rfl (by decide) (cat4 (Nat.le_of_ble_eq_true rfl)) dX10_restore_8 (kI (fun v3 h2 => ?_)) xNo
  refine x_if_eq (pc := 11) 23 (by decide) dX10_restore_11 ?_ ?_
  · refine x_iconst (pc := 23) (v := 0) (by decide) dX10_restore_23 ?_
    exact x_zret (pc := 24) dX10_restore_24
  · refine x_aload_nR (pc := 14) (a := this) 0 rfl rfl dX10_restore_14 ?_
    refine x_getQ (pc := 15) fi_X10_126 dX10_restore_15 ?_
    intro v4
    refine x_iload_n (pc := 18) 1 rfl rfl dX10_restore_18 ?_
    refine x_nn (fun a5 e6 => ?_)
    subst e6
    refine x_zald (pc := 19) dX10_restore_19 ?_
    intro v7
    refine x_if_ne (pc := 20) 25 (by decide) dX10_restore_20 ?_ ?_
    · refine x_iconst (pc := 25) (v := 0) (by decide) dX10_restore_25 ?_
      refine x_istore_n (pc := 26) (lv' := [(2, .int (0 : Int32)), (0, .ref this), (1, .int x1)]) rfl (by decide) rfl dX10_restore_26 ?_
      refine Sim.lv [1, 2, 0] rfl ?_
      exact v_M_restore_l27 FU h2 this x1 (0 : Int32)
    · refine x_iconst (pc := 23) (v := 0) (by decide) dX10_restore_23 ?_
      exact x_zret (pc := 24) dX10_restore_24
abbrev Y_M_total : Yx := (RX10, cX10_total, 2, 3, (some .int), [], false)
def c_M_total (h : PH) (this : Nat) (x1 : Int32) : Option RH :=
  grd h this [8] (
  pI h this [8] 0 (0 : Int32) fun h1 =>
  if x1 = 0 then
    gQ h1 this [8] 14 fun v2 =>
    nn v2 fun a3 =>
    ldI h1 a3 0 (0 : Int32) fun v5 =>
    rI v5 h1
  else
  if x1 = 1 then
    gQ h1 this [8] 14 fun v6 =>
    nn v6 fun a7 =>
    ldI h1 a7 0 (1 : Int32) fun v9 =>
    rI v9 h1
  else
  if x1 = 2 then
    hI (c_M_allBits h1 this) noX fun v11 h10 =>
    rI v11 h10
  else
  if x1 = 3 then
    gI h1 this [8] 2 fun v12 =>
    rI v12 h1
  else
  rI (-1 : Int32) h1)
set_option maxHeartbeats 4000000 in
theorem m_M_total (h : PH) (this : Nat) (x1 : Int32) : MM yX10_total (ws_ yX10_total cX10_total 2 (some .int)) 3 [.ref this, .int x1] h (c_M_total h this x1) := by
  refine MM.of (by decide) rfl (by decide) (Nat.le_of_ble_eq_true rfl) (own := RX10) (cc := cX10_total) (maxL := 2) (lev := 3) (rt := (some .int)) (ini := false) ?_
  show Sim Y_M_total h 0 [(0, .ref this), (1, .int x1)] [] _
  unfold c_M_total
  refine x_grd ?_
  refine x_aload_nR (pc := 0) (a := this) 0 rfl rfl dX10_total_0 ?_
  refine x_iconst (pc := 1) (v := 0) (by decide) dX10_total_1 ?_
  refine x_pI (pc := 2) fi_X10_1 (fun z => absurd z (by decide)) dX10_total_2 ?_
  intro h1
  refine x_iload_n (pc := 5) 1 rfl rfl dX10_total_5 ?_
  refine x_sw0 (pc := 6) (lo := 0) ?_
  refine x_sw (pc := 6) (v := 0) 36 dX10_total_6 rfl (by decide) (by decide) rfl (by decide) ?_ ?_
  · refine x_aload_nR (pc := 36) (a := this) 0 rfl rfl dX10_total_36 ?_
    refine x_getQ (pc := 37) fi_X10_98 dX10_total_37 ?_
    intro v2
    refine x_iconst (pc := 40) (v := 0) (by decide) dX10_total_40 ?_
    refine x_nn (fun a3 e4 => ?_)
    subst e4
    refine x_iald (pc := 41) dX10_total_41 ?_
    intro v5
    exact x_iret (pc := 42) dX10_total_42
  refine x_sw (pc := 6) (v := 1) 43 dX10_total_6 rfl (by decide) (by decide) rfl (by decide) ?_ ?_
  · refine x_aload_nR (pc := 43) (a := this) 0 rfl rfl dX10_total_43 ?_
    refine x_getQ (pc := 44) fi_X10_98 dX10_total_44 ?_
    intro v6
    refine x_iconst (pc := 47) (v := 1) (by decide) dX10_total_47 ?_
    refine x_nn (fun a7 e8 => ?_)
    subst e8
    refine x_iald (pc := 48) dX10_total_48 ?_
    intro v9
    exact x_iret (pc := 49) dX10_total_49
  refine x_sw (pc := 6) (v := 2) 50 dX10_total_6 rfl (by decide) (by decide) rfl (by decide) ?_ ?_
  · refine x_aload_nR (pc := 50) (a := this) 0 rfl rfl dX10_total_50 ?_
    refine x_callV (pc := 51) (As := []) (rest := []) (lev' := 2) si_X10_362 (m_M_allBits h1 this) (fun z e => grd1 e) rfl rfl (by decide) (cat4 (Nat.le_of_ble_eq_true rfl)) dX10_total_51 (kI (fun v11 h10 => ?_)) xNo
    exact x_iret (pc := 54) dX10_total_54
  refine x_sw (pc := 6) (v := 3) 55 dX10_total_6 rfl (by decide) (by decide) rfl (by decide) ?_ ?_
  · refine x_aload_nR (pc := 55) (a := this) 0 rfl rfl dX10_total_55 ?_
    refine x_getI (pc := 56) fi_X10_11 dX10_total_56 ?_
    intro v12
    exact x_iret (pc := 59) dX10_total_59
  refine x_swD (pc := 6) 60 dX10_total_6 (by decide) (by decide) ?_
  refine x_iconst (pc := 60) (v := (-1)) (by decide) dX10_total_60 ?_
  exact x_iret (pc := 61) dX10_total_61
theorem fi_X6_3 : FI RX6 3 [5, 6, 7] 7 (.object "BitRopes") true true := (fi_c ci_5 (by decide) rfl rfl (Or.inl q372) (Or.inl rfl) (fun _ _ => rfl) (fi_c ci_6 (by decide) rfl rfl (Or.inl q372) (Or.inl rfl) (fun _ _ => rfl) (fi_c ci_7 (by decide) rfl rfl (Or.inl q372) (Or.inl rfl) (fun _ _ => rfl) fi_n)))
theorem fi_X6_15 : FI RX6 15 [5, 6, 7] 0 .int true true := (fi_c ci_5 (by decide) rfl rfl (Or.inl q351) (Or.inl rfl) (fun _ _ => rfl) (fi_c ci_6 (by decide) rfl rfl (Or.inl q351) (Or.inl rfl) (fun _ _ => rfl) (fi_c ci_7 (by decide) rfl rfl (Or.inl q351) (Or.inl rfl) (fun _ _ => rfl) fi_n)))
abbrev Y_D_init : Yx := (RX6, cX6_init, 3, 1, none, [], true)
def c_D_init (h : PH) (this : Nat) (x1 : Nat) (x2 : Int32) : Option RH :=
  grd h this [5, 6, 7] (
  pQ h this [5, 6, 7] 7 (some x1) fun h1 =>
  pI h1 this [5, 6, 7] 0 x2 fun h2 =>
  rV h2)
set_option maxHeartbeats 4000000 in
theorem m_D_init (h : PH) (this : Nat) (x1 : Nat) (x2 : Int32) : MM yX6_init (ws_ yX6_init cX6_init 3 none) 1 [.ref this, .ref x1, .int x2] h (c_D_init h this x1 x2) := by
  refine MM.of (by decide) rfl (by decide) (Nat.le_of_ble_eq_true rfl) (own := RX6) (cc := cX6_init) (maxL := 3) (lev := 1) (rt := none) (ini := true) ?_
  show Sim Y_D_init h 0 [(0, .ref this), (1, .ref x1), (2, .int x2)] [] _
  unfold c_D_init
  refine x_grd ?_
  refine x_aload_nR (pc := 0) (a := this) 0 rfl rfl dX6_init_0 ?_
  refine x_aload_nR (pc := 1) (a := x1) 1 rfl rfl dX6_init_1 ?_
  refine x_pQ (pc := 2) (v := (some x1)) fi_X6_3 (fun _ => rfl) dX6_init_2 ?_
  intro h1
  refine x_aload_nR (pc := 5) (a := this) 0 rfl rfl dX6_init_5 ?_
  refine x_objInit (pc := 6) q346 (by omega) (by decide) dX6_init_6 ?_
  refine x_aload_nR (pc := 9) (a := this) 0 rfl rfl dX6_init_9 ?_
  refine x_iload_n (pc := 10) 2 rfl rfl dX6_init_10 ?_
  refine x_pI (pc := 11) fi_X6_15 (fun _ => rfl) dX6_init_11 ?_
  intro h2
  exact x_vret (pc := 14) dX6_init_14
theorem fi_X6_19 : FI RX6 19 [5, 6, 7] 1 .int false true := (fi_c ci_5 (by decide) rfl rfl (Or.inl q352) (Or.inl rfl) (fun h => absurd h (by decide)) (fi_c ci_6 (by decide) rfl rfl (Or.inl q352) (Or.inl rfl) (fun h => absurd h (by decide)) (fi_c ci_7 (by decide) rfl rfl (Or.inl q352) (Or.inl rfl) (fun h => absurd h (by decide)) fi_n)))
theorem fi_X6_25 : FI RX6 25 [0] 2 .int false true := (fi_c ci_0 (by decide) rfl rfl (Or.inr ⟨_, q498⟩) (Or.inl rfl) (fun h => absurd h (by decide)) fi_n)
theorem fi_X6_28 : FI RX6 28 [0] 0 (.array .byte) true false := (fi_c ci_0 (by decide) rfl rfl (Or.inr ⟨_, q495⟩) (Or.inl rfl) (fun _ h => absurd h (by decide)) fi_n)
abbrev Y_D_peek : Yx := (RX6, cX6_peek, 1, 1, (some .int), [], false)
def c_D_peek (h : PH) (this : Nat) : Option RH :=
  grd h this [5, 6, 7] (
  gI h this [5, 6, 7] 1 fun v1 =>
  gQ h this [5, 6, 7] 7 fun v2 =>
  nn v2 fun a3 =>
  gI h a3 [0] 2 fun v5 =>
  if v5 ≤ v1 then
    rI (-1 : Int32) h
  else
    gQ h this [5, 6, 7] 7 fun v6 =>
    nn v6 fun a7 =>
    gQ h a7 [0] 0 fun v9 =>
    gI h this [5, 6, 7] 1 fun v10 =>
    nn v9 fun a11 =>
    ldI h a11 2 v10 fun v13 =>
    rI (v13 &&& (255 : Int32)) h)
set_option maxHeartbeats 4000000 in
theorem m_D_peek (h : PH) (this : Nat) : MM yX6_peek (ws_ yX6_peek cX6_peek 1 (some .int)) 1 [.ref this] h (c_D_peek h this) := by
  refine MM.of (by decide) rfl (by decide) (Nat.le_of_ble_eq_true rfl) (own := RX6) (cc := cX6_peek) (maxL := 1) (lev := 1) (rt := (some .int)) (ini := false) ?_
  show Sim Y_D_peek h 0 [(0, .ref this)] [] _
  unfold c_D_peek
  refine x_grd ?_
  refine x_aload_nR (pc := 0) (a := this) 0 rfl rfl dX6_peek_0 ?_
  refine x_getI (pc := 1) fi_X6_19 dX6_peek_1 ?_
  intro v1
  refine x_aload_nR (pc := 4) (a := this) 0 rfl rfl dX6_peek_4 ?_
  refine x_getQ (pc := 5) fi_X6_3 dX6_peek_5 ?_
  intro v2
  refine x_nn (fun a3 e4 => ?_)
  subst e4
  refine x_getI (pc := 8) fi_X6_25 dX6_peek_8 ?_
  intro v5
  refine x_icmp_ge (pc := 11) 33 (by decide) dX6_peek_11 ?_ ?_
  · refine x_iconst (pc := 33) (v := (-1)) (by decide) dX6_peek_33 ?_
    exact x_iret (pc := 34) dX6_peek_34
  · refine x_aload_nR (pc := 14) (a := this) 0 rfl rfl dX6_peek_14 ?_
    refine x_getQ (pc := 15) fi_X6_3 dX6_peek_15 ?_
    intro v6
    refine x_nn (fun a7 e8 => ?_)
    subst e8
    refine x_getQ (pc := 18) fi_X6_28 dX6_peek_18 ?_
    intro v9
    refine x_aload_nR (pc := 21) (a := this) 0 rfl rfl dX6_peek_21 ?_
    refine x_getI (pc := 22) fi_X6_19 dX6_peek_22 ?_
    intro v10
    refine x_nn (fun a11 e12 => ?_)
    subst e12
    refine x_bald (pc := 25) dX6_peek_25 ?_
    intro v13
    refine x_sipush (pc := 26) (v := 255) (by decide) dX6_peek_26 ?_
    refine x_iand (pc := 29) dX6_peek_29 ?_
    refine x_goto (pc := 30) 34 (by decide) dX6_peek_30 ?_
    exact x_iret (pc := 34) dX6_peek_34
abbrev Y_B_isIn : Yx := (RX1, cX1_isIn, 3, 1, (some .boolean), [], false)
def c_B_isIn (h : PH) (x0 : Int32) (x1 : Int32) (x2 : Int32) : Option RH :=
  if x0 < x1 then
    rZ (0 : Int32) h
  else
    if x2 < x0 then
      rZ (0 : Int32) h
    else
      rZ (1 : Int32) h
set_option maxHeartbeats 4000000 in
theorem m_B_isIn (h : PH) (x0 : Int32) (x1 : Int32) (x2 : Int32) : MM yX1_isIn (ws_ yX1_isIn cX1_isIn 3 (some .boolean)) 1 [.int x0, .int x1, .int x2] h (c_B_isIn h x0 x1 x2) := by
  refine MM.of (by decide) rfl (by decide) (Nat.le_of_ble_eq_true rfl) (own := RX1) (cc := cX1_isIn) (maxL := 3) (lev := 1) (rt := (some .boolean)) (ini := false) ?_
  show Sim Y_B_isIn h 0 [(0, .int x0), (1, .int x1), (2, .int x2)] [] _
  unfold c_B_isIn
  refine x_iload_n (pc := 0) 0 rfl rfl dX1_isIn_0 ?_
  refine x_iload_n (pc := 1) 1 rfl rfl dX1_isIn_1 ?_
  refine x_icmp_lt (pc := 2) 14 (by decide) dX1_isIn_2 ?_ ?_
  · refine x_iconst (pc := 14) (v := 0) (by decide) dX1_isIn_14 ?_
    exact x_zret (pc := 15) dX1_isIn_15
  · refine x_iload_n (pc := 5) 0 rfl rfl dX1_isIn_5 ?_
    refine x_iload_n (pc := 6) 2 rfl rfl dX1_isIn_6 ?_
    refine x_icmp_gt (pc := 7) 14 (by decide) dX1_isIn_7 ?_ ?_
    · refine x_iconst (pc := 14) (v := 0) (by decide) dX1_isIn_14 ?_
      exact x_zret (pc := 15) dX1_isIn_15
    · refine x_iconst (pc := 10) (v := 1) (by decide) dX1_isIn_10 ?_
      refine x_goto (pc := 11) 15 (by decide) dX1_isIn_11 ?_
      exact x_zret (pc := 15) dX1_isIn_15
theorem si_X6_32 : SiSN RX6 32 "BitRopes" yX1_isIn cX1_isIn 3 (some .boolean) 3 := ⟨q614, q110, q612, q613, ⟨by decide, by decide, by decide +kernel⟩, by decide⟩
abbrev Y_D_isLetter : Yx := (RX6, cX6_isLetter, 2, 2, (some .boolean), [], false)
def c_D_isLetter (h : PH) (this : Nat) (x1 : Int32) : Option RH :=
  grd h this [5, 6, 7] (
  hI (c_B_isIn h x1 (97 : Int32) (122 : Int32)) noX fun v2 h1 =>
  rZ v2 h1)
set_option maxHeartbeats 4000000 in
theorem m_D_isLetter (h : PH) (this : Nat) (x1 : Int32) : MM yX6_isLetter (ws_ yX6_isLetter cX6_isLetter 2 (some .boolean)) 2 [.ref this, .int x1] h (c_D_isLetter h this x1) := by
  refine MM.of (by decide) rfl (by decide) (Nat.le_of_ble_eq_true rfl) (own := RX6) (cc := cX6_isLetter) (maxL := 2) (lev := 2) (rt := (some .boolean)) (ini := false) ?_
  show Sim Y_D_isLetter h 0 [(0, .ref this), (1, .int x1)] [] _
  unfold c_D_isLetter
  refine x_grd ?_
  refine x_iload_n (pc := 0) 1 rfl rfl dX6_isLetter_0 ?_
  refine x_bipush (pc := 1) (v := 97) (by decide) dX6_isLetter_1 ?_
  refine x_bipush (pc := 3) (v := 122) (by decide) dX6_isLetter_3 ?_
  refine x_callSN (pc := 5) (As := [.int x1, .int (97 : Int32), .int (122 : Int32)]) (rest := []) (lev' := 1) si_X6_32 (m_B_isIn h x1 (97 : Int32) (122 : Int32)) rfl rfl (by decide) (cat4 (Nat.le_of_ble_eq_true rfl)) dX6_isLetter_5 (kI (fun v2 h1 => ?_)) xNo
  exact x_zret (pc := 8) dX6_isLetter_8
abbrev Y_D_isDigit : Yx := (RX6, cX6_isDigit, 2, 2, (some .boolean), [], false)
def c_D_isDigit (h : PH) (this : Nat) (x1 : Int32) : Option RH :=
  grd h this [5, 6, 7] (
  hI (c_B_isIn h x1 (48 : Int32) (57 : Int32)) noX fun v2 h1 =>
  rZ v2 h1)
set_option maxHeartbeats 4000000 in
theorem m_D_isDigit (h : PH) (this : Nat) (x1 : Int32) : MM yX6_isDigit (ws_ yX6_isDigit cX6_isDigit 2 (some .boolean)) 2 [.ref this, .int x1] h (c_D_isDigit h this x1) := by
  refine MM.of (by decide) rfl (by decide) (Nat.le_of_ble_eq_true rfl) (own := RX6) (cc := cX6_isDigit) (maxL := 2) (lev := 2) (rt := (some .boolean)) (ini := false) ?_
  show Sim Y_D_isDigit h 0 [(0, .ref this), (1, .int x1)] [] _
  unfold c_D_isDigit
  refine x_grd ?_
  refine x_iload_n (pc := 0) 1 rfl rfl dX6_isDigit_0 ?_
  refine x_bipush (pc := 1) (v := 48) (by decide) dX6_isDigit_1 ?_
  refine x_bipush (pc := 3) (v := 57) (by decide) dX6_isDigit_3 ?_
  refine x_callSN (pc := 5) (As := [.int x1, .int (48 : Int32), .int (57 : Int32)]) (rest := []) (lev' := 1) si_X6_32 (m_B_isIn h x1 (48 : Int32) (57 : Int32)) rfl rfl (by decide) (cat4 (Nat.le_of_ble_eq_true rfl)) dX6_isDigit_5 (kI (fun v2 h1 => ?_)) xNo
  exact x_zret (pc := 8) dX6_isDigit_8
theorem fi_X6_40 : FI RX6 40 [5, 6, 7] 2 .int false true := (fi_c ci_5 (by decide) rfl rfl (Or.inl q355) (Or.inl rfl) (fun h => absurd h (by decide)) (fi_c ci_6 (by decide) rfl rfl (Or.inl q355) (Or.inl rfl) (fun h => absurd h (by decide)) (fi_c ci_7 (by decide) rfl rfl (Or.inl q355) (Or.inl rfl) (fun h => absurd h (by decide)) fi_n)))
theorem fi_X6_57 : FI RX6 57 [5, 6, 7] 4 .int false true := (fi_c ci_5 (by decide) rfl rfl (Or.inl q365) (Or.inl rfl) (fun h => absurd h (by decide)) (fi_c ci_6 (by decide) rfl rfl (Or.inl q365) (Or.inl rfl) (fun h => absurd h (by decide)) (fi_c ci_7 (by decide) rfl rfl (Or.inl q365) (Or.inl rfl) (fun h => absurd h (by decide)) fi_n)))
theorem si_X6_36 : SiU RX6 36 [5, 6, 7] ⟨RX6, "peek", "()I"⟩ yX6_peek cX6_peek 1 (some .int) 0 := (siU_c (c := 5) (owner := "BitRopes$Reade\x72") rfl (by decide) ⟨q604, q2302, (Or.inr (by decide +kernel)), q606, q117, q607⟩ (Or.inl rfl) ⟨by decide, by decide, by decide +kernel⟩ (siU_c (c := 6) (owner := "BitRopes$Reade\x72") rfl (by decide) ⟨q604, q2302, (Or.inr (by decide +kernel)), q606, q117, q607⟩ (Or.inl rfl) ⟨by decide, by decide, by decide +kernel⟩ (siU_c (c := 7) (owner := "BitRopes$Reade\x72") rfl (by decide) ⟨q604, q2302, (Or.inr (by decide +kernel)), q606, q117, q607⟩ (Or.inl rfl) ⟨by decide, by decide, by decide +kernel⟩ (siU_n (by decide)))))
theorem fi_X6_60 : FI RX6 60 [5, 6, 7] 6 .long false true := (fi_c ci_5 (by decide) rfl rfl (Or.inl q371) (Or.inl rfl) (fun h => absurd h (by decide)) (fi_c ci_6 (by decide) rfl rfl (Or.inl q371) (Or.inl rfl) (fun h => absurd h (by decide)) (fi_c ci_7 (by decide) rfl rfl (Or.inl q371) (Or.inl rfl) (fun h => absurd h (by decide)) fi_n)))
theorem si_X6_46 : SiU RX6 46 [5, 6, 7] ⟨RX6, "isLette\x72", "(I)Z"⟩ yX6_isLetter cX6_isLetter 2 (some .boolean) 1 := (siU_c (c := 5) (owner := "BitRopes$Reade\x72") rfl (by decide) ⟨q608, q2303, (Or.inr (by decide +kernel)), q610, q117, q611⟩ (Or.inl rfl) ⟨by decide, by decide, by decide +kernel⟩ (siU_c (c := 6) (owner := "BitRopes$Reade\x72") rfl (by decide) ⟨q608, q2303, (Or.inr (by decide +kernel)), q610, q117, q611⟩ (Or.inl rfl) ⟨by decide, by decide, by decide +kernel⟩ (siU_c (c := 7) (owner := "BitRopes$Reade\x72") rfl (by decide) ⟨q608, q2303, (Or.inr (by decide +kernel)), q610, q117, q611⟩ (Or.inl rfl) ⟨by decide, by decide, by decide +kernel⟩ (siU_n (by decide)))))
theorem fi_X6_43 : FI RX6 43 [5, 6, 7] 3 .int false true := (fi_c ci_5 (by decide) rfl rfl (Or.inl q362) (Or.inl rfl) (fun h => absurd h (by decide)) (fi_c ci_6 (by decide) rfl rfl (Or.inl q362) (Or.inl rfl) (fun h => absurd h (by decide)) (fi_c ci_7 (by decide) rfl rfl (Or.inl q362) (Or.inl rfl) (fun h => absurd h (by decide)) fi_n)))
theorem si_X6_50 : SiU RX6 50 [5, 6, 7] ⟨RX6, "isDigit", "(I)Z"⟩ yX6_isDigit cX6_isDigit 2 (some .boolean) 1 := (siU_c (c := 5) (owner := "BitRopes$Reade\x72") rfl (by decide) ⟨q615, q2304, (Or.inr (by decide +kernel)), q617, q117, q618⟩ (Or.inl rfl) ⟨by decide, by decide, by decide +kernel⟩ (siU_c (c := 6) (owner := "BitRopes$Reade\x72") rfl (by decide) ⟨q615, q2304, (Or.inr (by decide +kernel)), q617, q117, q618⟩ (Or.inl rfl) ⟨by decide, by decide, by decide +kernel⟩ (siU_c (c := 7) (owner := "BitRopes$Reade\x72") rfl (by decide) ⟨q615, q2304, (Or.inr (by decide +kernel)), q617, q117, q618⟩ (Or.inl rfl) ⟨by decide, by decide, by decide +kernel⟩ (siU_n (by decide)))))
theorem fi_X6_64 : FI RX6 64 [5, 6, 7] 5 .int false true := (fi_c ci_5 (by decide) rfl rfl (Or.inl q368) (Or.inl rfl) (fun h => absurd h (by decide)) (fi_c ci_6 (by decide) rfl rfl (Or.inl q368) (Or.inl rfl) (fun h => absurd h (by decide)) (fi_c ci_7 (by decide) rfl rfl (Or.inl q368) (Or.inl rfl) (fun h => absurd h (by decide)) fi_n)))
abbrev Y_D_reads : Yx := (RX6, cX6_reads, 3, 3, none, [], false)
def c_D_reads_j119 (r12 : PH → Nat → Int32 → Int32 → Option RH) (h : PH) (this : Nat) (x1 : Int32) (x2 : Int32) : Option RH :=
  gI h this [5, 6, 7] 1 fun v1 =>
  pI h this [5, 6, 7] 1 (v1 + (1 : Int32)) fun h2 =>
  r12 h2 this x1 x2
def c_D_reads_j87 (r12 : PH → Nat → Int32 → Int32 → Option RH) (h : PH) (this : Nat) (x1 : Int32) (x2 : Int32) : Option RH :=
  gI h this [5, 6, 7] 1 fun v1 =>
  gI h this [5, 6, 7] 2 fun v2 =>
  if (3 : Int32) ≤ (v1 - v2) then
    c_D_reads_j119 r12 h this x1 x2
  else
    gI h this [5, 6, 7] 4 fun v3 =>
    hI (c_D_peek h this) noX fun v5 h4 =>
    pI h4 this [5, 6, 7] 4 ((((10 : Int32) * v3) + v5) - (48 : Int32)) fun h6 =>
    c_D_reads_j119 r12 h6 this x1 x2
def c_D_reads_j55 (r12 : PH → Nat → Int32 → Int32 → Option RH) (h : PH) (this : Nat) (x1 : Int32) (s0 : Int32) : Option RH :=
  gI h this [5, 6, 7] 1 fun v1 =>
  gI h this [5, 6, 7] 2 fun v2 =>
  if (7 : Int32) ≤ (v1 - v2) then
    c_D_reads_j87 r12 h this x1 s0
  else
    gL h this [5, 6, 7] 6 fun v3 =>
    hI (c_D_peek h this) noX fun v5 h4 =>
    pL h4 this [5, 6, 7] 6 ((v3 <<< ((8 : Int32).toInt64 &&& 63)) ||| v5.toInt64) fun h6 =>
    c_D_reads_j87 r12 h6 this x1 s0
def c_D_reads_j54 (r12 : PH → Nat → Int32 → Int32 → Option RH) (h : PH) (this : Nat) (x1 : Int32) : Option RH :=
  c_D_reads_j55 r12 h this x1 (0 : Int32)
def c_D_reads_j34 (r12 : PH → Nat → Int32 → Int32 → Option RH) (h : PH) (this : Nat) (x1 : Int32) (x2 : Int32) : Option RH :=
  if x2 = 0 then
    c_D_reads_j54 r12 h this x1
  else
    hI (c_D_peek h this) noX fun v2 h1 =>
    hI (c_D_isLetter h1 this v2) noX fun v4 h3 =>
    if v4 = x1 then
      c_D_reads_j55 r12 h3 this x1 (1 : Int32)
    else
      c_D_reads_j54 r12 h3 this x1
def c_D_reads_j164 (h : PH) (x1 : Int32) (s0 : Int32) (s1 : Int32) (s2 : Nat) : Option RH :=
  if s1 ≤ s0 then
    if x1 = 0 then
      pI h s2 [5, 6, 7] 3 (2 : Int32) fun h1 =>
      rV h1
    else
      pI h s2 [5, 6, 7] 3 (1 : Int32) fun h2 =>
      rV h2
  else
    pI h s2 [5, 6, 7] 3 (4 : Int32) fun h3 =>
    rV h3
def c_D_reads_l12 (r12 : PH → Nat → Int32 → Int32 → Option RH) (h : PH) (this : Nat) (x1 : Int32) (x2 : Int32) : Option RH :=
  hI (c_D_peek h this) noX fun v2 h1 =>
  hI (c_D_isLetter h1 this v2) noX fun v4 h3 =>
  if v4 = 0 then
    hI (c_D_peek h3 this) noX fun v6 h5 =>
    hI (c_D_isDigit h5 this v6) noX fun v8 h7 =>
    if v8 = 0 then
      gI h7 this [5, 6, 7] 1 fun v9 =>
      gI h7 this [5, 6, 7] 2 fun v10 =>
      pI h7 this [5, 6, 7] 5 (v9 - v10) fun h11 =>
      if x2 = 0 then
        pI h11 this [5, 6, 7] 3 (4 : Int32) fun h12 =>
        rV h12
      else
        gI h11 this [5, 6, 7] 5 fun v13 =>
        if x1 = 0 then
          c_D_reads_j164 h11 x1 (3 : Int32) v13 this
        else
          c_D_reads_j164 h11 x1 (7 : Int32) v13 this
    else
      c_D_reads_j34 r12 h7 this x1 x2
  else
    c_D_reads_j34 r12 h3 this x1 x2
def c_D_reads (h : PH) (this : Nat) (x1 : Int32) : Option RH :=
  grd h this [5, 6, 7] (
  pI h this [5, 6, 7] 4 (0 : Int32) fun h1 =>
  pL h1 this [5, 6, 7] 6 (0 : Int64) fun h2 =>
  itr (c_D_reads_l12) (fun _ _ _ _ => none) FU h2 this x1 (1 : Int32))
set_option maxHeartbeats 4000000 in
theorem w_D_reads_j119 (r12 : PH → Nat → Int32 → Int32 → Option RH) (hr12 : ∀ (h : PH) (this : Nat) (x1 : Int32) (x2 : Int32), Sim Y_D_reads h 12 [(0, .ref this), (1, .int x1), (2, .int x2)] [] (r12 h this x1 x2)) (h : PH) (this : Nat) (x1 : Int32) (x2 : Int32) : Sim Y_D_reads h 119 [(0, .ref this), (1, .int x1), (2, .int x2)] [] (c_D_reads_j119 r12 h this x1 x2) := by
  unfold c_D_reads_j119
  refine x_aload_nR (pc := 119) (a := this) 0 rfl rfl dX6_reads_119 ?_
  refine x_dup (pc := 120) rfl dX6_reads_120 ?_
  refine x_getI (pc := 121) fi_X6_19 dX6_reads_121 ?_
  intro v1
  refine x_iconst (pc := 124) (v := 1) (by decide) dX6_reads_124 ?_
  refine x_iadd (pc := 125) dX6_reads_125 ?_
  refine x_pI (pc := 126) fi_X6_19 (fun z => absurd z (by decide)) dX6_reads_126 ?_
  intro h2
  refine x_goto (pc := 129) 12 (by decide) dX6_reads_129 ?_
  exact hr12 h2 this x1 x2
set_option maxHeartbeats 4000000 in
theorem w_D_reads_j87 (r12 : PH → Nat → Int32 → Int32 → Option RH) (hr12 : ∀ (h : PH) (this : Nat) (x1 : Int32) (x2 : Int32), Sim Y_D_reads h 12 [(0, .ref this), (1, .int x1), (2, .int x2)] [] (r12 h this x1 x2)) (h : PH) (this : Nat) (x1 : Int32) (x2 : Int32) : Sim Y_D_reads h 87 [(0, .ref this), (1, .int x1), (2, .int x2)] [] (c_D_reads_j87 r12 h this x1 x2) := by
  unfold c_D_reads_j87
  refine x_aload_nR (pc := 87) (a := this) 0 rfl rfl dX6_reads_87 ?_
  refine x_getI (pc := 88) fi_X6_19 dX6_reads_88 ?_
  intro v1
  refine x_aload_nR (pc := 91) (a := this) 0 rfl rfl dX6_reads_91 ?_
  refine x_getI (pc := 92) fi_X6_40 dX6_reads_92 ?_
  intro v2
  refine x_isub (pc := 95) dX6_reads_95 ?_
  refine x_iconst (pc := 96) (v := 3) (by decide) dX6_reads_96 ?_
  refine x_icmp_ge (pc := 97) 119 (by decide) dX6_reads_97 ?_ ?_
  · exact w_D_reads_j119 r12 hr12 h this x1 x2
  · refine x_aload_nR (pc := 100) (a := this) 0 rfl rfl dX6_reads_100 ?_
    refine x_bipush (pc := 101) (v := 10) (by decide) dX6_reads_101 ?_
    refine x_aload_nR (pc := 103) (a := this) 0 rfl rfl dX6_reads_103 ?_
    refine x_getI (pc := 104) fi_X6_57 dX6_reads_104 ?_
    intro v3
    refine x_imul (pc := 107) dX6_reads_107 ?_
    refine x_aload_nR (pc := 108) (a := this) 0 rfl rfl dX6_reads_108 ?_
    refine x_callU (pc := 109) (As := []) (rest := [.int ((10 : Int32) * v3), .ref this]) (lev' := 1) si_X6_36 (m_D_peek h this) (fun z e => grdN e) rfl rfl (by decide) (cat4 (Nat.le_of_ble_eq_true rfl)) dX6_reads_109 (kI (fun v5 h4 => ?_)) xNo
    refine x_iadd (pc := 112) dX6_reads_112 ?_
    refine x_bipush (pc := 113) (v := 48) (by decide) dX6_reads_113 ?_
    refine x_isub (pc := 115) dX6_reads_115 ?_
    refine x_pI (pc := 116) fi_X6_57 (fun z => absurd z (by decide)) dX6_reads_116 ?_
    intro h6
    exact w_D_reads_j119 r12 hr12 h6 this x1 x2
set_option maxHeartbeats 4000000 in
theorem w_D_reads_j55 (r12 : PH → Nat → Int32 → Int32 → Option RH) (hr12 : ∀ (h : PH) (this : Nat) (x1 : Int32) (x2 : Int32), Sim Y_D_reads h 12 [(0, .ref this), (1, .int x1), (2, .int x2)] [] (r12 h this x1 x2)) (h : PH) (this : Nat) (x1 : Int32) (s0 : Int32) : Sim Y_D_reads h 55 [(0, .ref this), (1, .int x1)] [.int s0] (c_D_reads_j55 r12 h this x1 s0) := by
  unfold c_D_reads_j55
  refine x_istore_n (pc := 55) (lv' := [(2, .int s0), (0, .ref this), (1, .int x1)]) rfl (by decide) rfl dX6_reads_55 ?_
  refine x_aload_nR (pc := 56) (a := this) 1 rfl rfl dX6_reads_56 ?_
  refine x_getI (pc := 57) fi_X6_19 dX6_reads_57 ?_
  intro v1
  refine x_aload_nR (pc := 60) (a := this) 1 rfl rfl dX6_reads_60 ?_
  refine x_getI (pc := 61) fi_X6_40 dX6_reads_61 ?_
  intro v2
  refine x_isub (pc := 64) dX6_reads_64 ?_
  refine x_bipush (pc := 65) (v := 7) (by decide) dX6_reads_65 ?_
  refine x_icmp_ge (pc := 67) 87 (by decide) dX6_reads_67 ?_ ?_
  · refine Sim.lv [1, 2, 0] rfl ?_
    exact w_D_reads_j87 r12 hr12 h this x1 s0
  · refine x_aload_nR (pc := 70) (a := this) 1 rfl rfl dX6_reads_70 ?_
    refine x_aload_nR (pc := 71) (a := this) 1 rfl rfl dX6_reads_71 ?_
    refine x_getL (pc := 72) fi_X6_60 dX6_reads_72 ?_
    intro v3
    refine x_bipush (pc := 75) (v := 8) (by decide) dX6_reads_75 ?_
    refine x_lshl (pc := 77) dX6_reads_77 ?_
    refine x_aload_nR (pc := 78) (a := this) 1 rfl rfl dX6_reads_78 ?_
    refine x_callU (pc := 79) (As := []) (rest := [.long (v3 <<< ((8 : Int32).toInt64 &&& 63)), .ref this]) (lev' := 1) si_X6_36 (m_D_peek h this) (fun z e => grdN e) rfl rfl (by decide) (cat4 (Nat.le_of_ble_eq_true rfl)) dX6_reads_79 (kI (fun v5 h4 => ?_)) xNo
    refine x_i2l (pc := 82) dX6_reads_82 ?_
    refine x_lor (pc := 83) dX6_reads_83 ?_
    refine x_pL (pc := 84) fi_X6_60 (fun z => absurd z (by decide)) dX6_reads_84 ?_
    intro h6
    refine Sim.lv [1, 2, 0] rfl ?_
    exact w_D_reads_j87 r12 hr12 h6 this x1 s0
set_option maxHeartbeats 4000000 in
theorem w_D_reads_j54 (r12 : PH → Nat → Int32 → Int32 → Option RH) (hr12 : ∀ (h : PH) (this : Nat) (x1 : Int32) (x2 : Int32), Sim Y_D_reads h 12 [(0, .ref this), (1, .int x1), (2, .int x2)] [] (r12 h this x1 x2)) (h : PH) (this : Nat) (x1 : Int32) : Sim Y_D_reads h 54 [(0, .ref this), (1, .int x1)] [] (c_D_reads_j54 r12 h this x1) := by
  unfold c_D_reads_j54
  refine x_iconst (pc := 54) (v := 0) (by decide) dX6_reads_54 ?_
  exact w_D_reads_j55 r12 hr12 h this x1 (0 : Int32)
set_option maxHeartbeats 4000000 in
theorem w_D_reads_j34 (r12 : PH → Nat → Int32 → Int32 → Option RH) (hr12 : ∀ (h : PH) (this : Nat) (x1 : Int32) (x2 : Int32), Sim Y_D_reads h 12 [(0, .ref this), (1, .int x1), (2, .int x2)] [] (r12 h this x1 x2)) (h : PH) (this : Nat) (x1 : Int32) (x2 : Int32) : Sim Y_D_reads h 34 [(0, .ref this), (1, .int x1), (2, .int x2)] [] (c_D_reads_j34 r12 h this x1 x2) := by
  unfold c_D_reads_j34
  refine x_iload_n (pc := 34) 2 rfl rfl dX6_reads_34 ?_
  refine x_if_eq (pc := 35) 54 (by decide) dX6_reads_35 ?_ ?_
  · refine Sim.lv [0, 1] rfl ?_
    exact w_D_reads_j54 r12 hr12 h this x1
  · refine x_aload_nR (pc := 38) (a := this) 0 rfl rfl dX6_reads_38 ?_
    refine x_aload_nR (pc := 39) (a := this) 0 rfl rfl dX6_reads_39 ?_
    refine x_callU (pc := 40) (As := []) (rest := [.ref this]) (lev' := 1) si_X6_36 (m_D_peek h this) (fun z e => grdN e) rfl rfl (by decide) (cat4 (Nat.le_of_ble_eq_true rfl)) dX6_reads_40 (kI (fun v2 h1 => ?_)) xNo
    refine x_callU (pc := 43) (As := [.int v2]) (rest := []) (lev' := 2) si_X6_46 (m_D_isLetter h1 this v2) (fun z e => grdN e) rfl rfl (by decide) (cat4 (Nat.le_of_ble_eq_true rfl)) dX6_reads_43 (kI (fun v4 h3 => ?_)) xNo
    refine x_iload_n (pc := 46) 1 rfl rfl dX6_reads_46 ?_
    refine x_icmp_ne (pc := 47) 54 (by decide) dX6_reads_47 ?_ ?_
    · refine Sim.lv [0, 1] rfl ?_
      exact w_D_reads_j54 r12 hr12 h3 this x1
    · refine x_iconst (pc := 50) (v := 1) (by decide) dX6_reads_50 ?_
      refine x_goto (pc := 51) 55 (by decide) dX6_reads_51 ?_
      refine Sim.lv [0, 1] rfl ?_
      exact w_D_reads_j55 r12 hr12 h3 this x1 (1 : Int32)
set_option maxHeartbeats 4000000 in
theorem w_D_reads_j164 (h : PH) (x1 : Int32) (s0 : Int32) (s1 : Int32) (s2 : Nat) : Sim Y_D_reads h 164 [(1, .int x1)] [.int s0, .int s1, .ref s2] (c_D_reads_j164 h x1 s0 s1 s2) := by
  unfold c_D_reads_j164
  refine x_icmp_le (pc := 164) 171 (by decide) dX6_reads_164 ?_ ?_
  · refine x_iload_n (pc := 171) 0 rfl rfl dX6_reads_171 ?_
    refine x_if_eq (pc := 172) 179 (by decide) dX6_reads_172 ?_ ?_
    · refine x_iconst (pc := 179) (v := 2) (by decide) dX6_reads_179 ?_
      refine x_pI (pc := 180) fi_X6_43 (fun z => absurd z (by decide)) dX6_reads_180 ?_
      intro h1
      exact x_vret (pc := 183) dX6_reads_183
    · refine x_iconst (pc := 175) (v := 1) (by decide) dX6_reads_175 ?_
      refine x_goto (pc := 176) 180 (by decide) dX6_reads_176 ?_
      refine x_pI (pc := 180) fi_X6_43 (fun z => absurd z (by decide)) dX6_reads_180 ?_
      intro h2
      exact x_vret (pc := 183) dX6_reads_183
  · refine x_iconst (pc := 167) (v := 4) (by decide) dX6_reads_167 ?_
    refine x_goto (pc := 168) 180 (by decide) dX6_reads_168 ?_
    refine x_pI (pc := 180) fi_X6_43 (fun z => absurd z (by decide)) dX6_reads_180 ?_
    intro h3
    exact x_vret (pc := 183) dX6_reads_183
set_option maxHeartbeats 4000000 in
theorem w_D_reads_l12 (r12 : PH → Nat → Int32 → Int32 → Option RH) (hr12 : ∀ (h : PH) (this : Nat) (x1 : Int32) (x2 : Int32), Sim Y_D_reads h 12 [(0, .ref this), (1, .int x1), (2, .int x2)] [] (r12 h this x1 x2)) (h : PH) (this : Nat) (x1 : Int32) (x2 : Int32) : Sim Y_D_reads h 12 [(0, .ref this), (1, .int x1), (2, .int x2)] [] (c_D_reads_l12 r12 h this x1 x2) := by
  unfold c_D_reads_l12
  refine x_aload_nR (pc := 12) (a := this) 0 rfl rfl dX6_reads_12 ?_
  refine x_aload_nR (pc := 13) (a := this) 0 rfl rfl dX6_reads_13 ?_
  refine x_callU (pc := 14) (As := []) (rest := [.ref this]) (lev' := 1) si_X6_36 (m_D_peek h this) (fun z e => grdN e) rfl rfl (by decide) (cat4 (Nat.le_of_ble_eq_true rfl)) dX6_reads_14 (kI (fun v2 h1 => ?_)) xNo
  refine x_callU (pc := 17) (As := [.int v2]) (rest := []) (lev' := 2) si_X6_46 (m_D_isLetter h1 this v2) (fun z e => grdN e) rfl rfl (by decide) (cat4 (Nat.le_of_ble_eq_true rfl)) dX6_reads_17 (kI (fun v4 h3 => ?_)) xNo
  refine x_if_ne (pc := 20) 34 (by decide) dX6_reads_20 ?_ ?_
  · exact w_D_reads_j34 r12 hr12 h3 this x1 x2
  · refine x_aload_nR (pc := 23) (a := this) 0 rfl rfl dX6_reads_23 ?_
    refine x_aload_nR (pc := 24) (a := this) 0 rfl rfl dX6_reads_24 ?_
    refine x_callU (pc := 25) (As := []) (rest := [.ref this]) (lev' := 1) si_X6_36 (m_D_peek h3 this) (fun z e => grdN e) rfl rfl (by decide) (cat4 (Nat.le_of_ble_eq_true rfl)) dX6_reads_25 (kI (fun v6 h5 => ?_)) xNo
    refine x_callU (pc := 28) (As := [.int v6]) (rest := []) (lev' := 2) si_X6_50 (m_D_isDigit h5 this v6) (fun z e => grdN e) rfl rfl (by decide) (cat4 (Nat.le_of_ble_eq_true rfl)) dX6_reads_28 (kI (fun v8 h7 => ?_)) xNo
    refine x_if_eq (pc := 31) 132 (by decide) dX6_reads_31 ?_ ?_
    · refine x_aload_nR (pc := 132) (a := this) 0 rfl rfl dX6_reads_132 ?_
      refine x_aload_nR (pc := 133) (a := this) 0 rfl rfl dX6_reads_133 ?_
      refine x_getI (pc := 134) fi_X6_19 dX6_reads_134 ?_
      intro v9
      refine x_aload_nR (pc := 137) (a := this) 0 rfl rfl dX6_reads_137 ?_
      refine x_getI (pc := 138) fi_X6_40 dX6_reads_138 ?_
      intro v10
      refine x_isub (pc := 141) dX6_reads_141 ?_
      refine x_pI (pc := 142) fi_X6_64 (fun z => absurd z (by decide)) dX6_reads_142 ?_
      intro h11
      refine x_aload_nR (pc := 145) (a := this) 0 rfl rfl dX6_reads_145 ?_
      refine x_iload_n (pc := 146) 2 rfl rfl dX6_reads_146 ?_
      refine x_if_eq (pc := 147) 167 (by decide) dX6_reads_147 ?_ ?_
      · refine x_iconst (pc := 167) (v := 4) (by decide) dX6_reads_167 ?_
        refine x_goto (pc := 168) 180 (by decide) dX6_reads_168 ?_
        refine x_pI (pc := 180) fi_X6_43 (fun z => absurd z (by decide)) dX6_reads_180 ?_
        intro h12
        exact x_vret (pc := 183) dX6_reads_183
      · refine x_aload_nR (pc := 150) (a := this) 0 rfl rfl dX6_reads_150 ?_
        refine x_getI (pc := 151) fi_X6_64 dX6_reads_151 ?_
        intro v13
        refine x_iload_n (pc := 154) 1 rfl rfl dX6_reads_154 ?_
        refine x_if_eq (pc := 155) 163 (by decide) dX6_reads_155 ?_ ?_
        · refine x_iconst (pc := 163) (v := 3) (by decide) dX6_reads_163 ?_
          refine Sim.lv [1] rfl ?_
          exact w_D_reads_j164 h11 x1 (3 : Int32) v13 this
        · refine x_bipush (pc := 158) (v := 7) (by decide) dX6_reads_158 ?_
          refine x_goto (pc := 160) 164 (by decide) dX6_reads_160 ?_
          refine Sim.lv [1] rfl ?_
          exact w_D_reads_j164 h11 x1 (7 : Int32) v13 this
    · exact w_D_reads_j34 r12 hr12 h7 this x1 x2
set_option maxHeartbeats 4000000 in
theorem v_D_reads_l12 : ∀ (n : Nat) (h : PH) (this : Nat) (x1 : Int32) (x2 : Int32), Sim Y_D_reads h 12 [(0, .ref this), (1, .int x1), (2, .int x2)] [] (itr (c_D_reads_l12) (fun _ _ _ _ => none) n h this x1 x2)
  | 0, h, this, x1, x2 => Sim.none
  | n + 1, h, this, x1, x2 => w_D_reads_l12 _ (v_D_reads_l12 n) h this x1 x2
set_option maxHeartbeats 4000000 in
theorem m_D_reads (h : PH) (this : Nat) (x1 : Int32) : MM yX6_reads (ws_ yX6_reads cX6_reads 3 none) 3 [.ref this, .int x1] h (c_D_reads h this x1) := by
  refine MM.of (by decide) rfl (by decide) (Nat.le_of_ble_eq_true rfl) (own := RX6) (cc := cX6_reads) (maxL := 3) (lev := 3) (rt := none) (ini := false) ?_
  show Sim Y_D_reads h 0 [(0, .ref this), (1, .int x1)] [] _
  unfold c_D_reads
  refine x_grd ?_
  refine x_iconst (pc := 0) (v := 1) (by decide) dX6_reads_0 ?_
  refine x_istore_n (pc := 1) (lv' := [(2, .int (1 : Int32)), (0, .ref this), (1, .int x1)]) rfl (by decide) rfl dX6_reads_1 ?_
  refine x_aload_nR (pc := 2) (a := this) 1 rfl rfl dX6_reads_2 ?_
  refine x_iconst (pc := 3) (v := 0) (by decide) dX6_reads_3 ?_
  refine x_pI (pc := 4) fi_X6_57 (fun z => absurd z (by decide)) dX6_reads_4 ?_
  intro h1
  refine x_aload_nR (pc := 7) (a := this) 1 rfl rfl dX6_reads_7 ?_
  refine x_lconst (pc := 8) (v := 0) (by decide) dX6_reads_8 ?_
  refine x_pL (pc := 9) fi_X6_60 (fun z => absurd z (by decide)) dX6_reads_9 ?_
  intro h2
  refine Sim.lv [1, 2, 0] rfl ?_
  exact v_D_reads_l12 FU h2 this x1 (1 : Int32)
theorem si_X6_53 : SiU RX6 53 [5, 6, 7] ⟨RX6, "reads", "(Z)V"⟩ yX6_reads cX6_reads 3 none 1 := (siU_c (c := 5) (owner := "BitRopes$Reade\x72") rfl (by decide) ⟨q619, q2305, (Or.inr (by decide +kernel)), q621, q117, q622⟩ (Or.inl rfl) ⟨by decide, by decide, by decide +kernel⟩ (siU_c (c := 6) (owner := "BitRopes$Reade\x72") rfl (by decide) ⟨q619, q2305, (Or.inr (by decide +kernel)), q621, q117, q622⟩ (Or.inl rfl) ⟨by decide, by decide, by decide +kernel⟩ (siU_c (c := 7) (owner := "BitRopes$Reade\x72") rfl (by decide) ⟨q619, q2305, (Or.inr (by decide +kernel)), q621, q117, q622⟩ (Or.inl rfl) ⟨by decide, by decide, by decide +kernel⟩ (siU_n (by decide)))))
abbrev Y_D_next : Yx := (RX6, cX6_next, 2, 4, none, [], false)
def c_D_next_j18 (r0 : PH → Nat → Option RH) (h : PH) (this : Nat) : Option RH :=
  gI h this [5, 6, 7] 1 fun v1 =>
  pI h this [5, 6, 7] 1 (v1 + (1 : Int32)) fun h2 =>
  r0 h2 this
def c_D_next_j111 (h : PH) (this : Nat) (x1 : Int32) : Option RH :=
  hI (c_D_isLetter h this x1) noX fun v2 h1 =>
  hV (c_D_reads h1 this v2) noX fun h3 =>
  rV h3
def c_D_next_j158 (h : PH) (this : Nat) (x1 : Int32) (s0 : Int32) (s1 : Nat) : Option RH :=
  pI h s1 [5, 6, 7] 3 s0 fun h1 =>
  pI h1 this [5, 6, 7] 4 x1 fun h2 =>
  gI h2 this [5, 6, 7] 1 fun v3 =>
  pI h2 this [5, 6, 7] 1 (v3 + (1 : Int32)) fun h4 =>
  rV h4
def c_D_next_j153 (h : PH) (this : Nat) (x1 : Int32) (s0 : Nat) : Option RH :=
  c_D_next_j158 h this x1 (3 : Int32) s0
def c_D_next_j78 (h : PH) (this : Nat) : Option RH :=
  hI (c_D_peek h this) noX fun v2 h1 =>
  if 0 ≤ v2 then
    hI (c_D_isLetter h1 this v2) noX fun v4 h3 =>
    if v4 = 0 then
      hI (c_D_isDigit h3 this v2) noX fun v6 h5 =>
      if v6 = 0 then
        if v2 = (59 : Int32) then
          c_D_next_j153 h5 this v2 this
        else
          if v2 = (40 : Int32) then
            c_D_next_j153 h5 this v2 this
          else
            if v2 = (41 : Int32) then
              c_D_next_j153 h5 this v2 this
            else
              hI (c_B_isIn h5 v2 (60 : Int32) (62 : Int32)) noX fun v8 h7 =>
              if v8 = 0 then
                c_D_next_j158 h7 this v2 (4 : Int32) this
              else
                c_D_next_j153 h7 this v2 this
      else
        c_D_next_j111 h5 this v2
    else
      c_D_next_j111 h3 this v2
  else
    pI h1 this [5, 6, 7] 3 (0 : Int32) fun h9 =>
    rV h9
def c_D_next_l0 (r0 : PH → Nat → Option RH) (h : PH) (this : Nat) : Option RH :=
  hI (c_D_peek h this) noX fun v2 h1 =>
  if v2 = (32 : Int32) then
    c_D_next_j18 r0 h1 this
  else
    hI (c_D_peek h1 this) noX fun v4 h3 =>
    if v4 = (10 : Int32) then
      c_D_next_j18 r0 h3 this
    else
      gI h3 this [5, 6, 7] 1 fun v5 =>
      pI h3 this [5, 6, 7] 2 v5 fun h6 =>
      gQ h6 this [5, 6, 7] 7 fun v7 =>
      nn v7 fun a8 =>
      gI h6 a8 [0] 2 fun v10 =>
      gI h6 this [5, 6, 7] 0 fun v11 =>
      if v10 ≤ v11 then
        c_D_next_j78 h6 this
      else
        gI h6 this [5, 6, 7] 1 fun v12 =>
        gI h6 this [5, 6, 7] 0 fun v13 =>
        if v12 < v13 then
          c_D_next_j78 h6 this
        else
          gI h6 this [5, 6, 7] 0 fun v14 =>
          pI h6 this [5, 6, 7] 2 v14 fun h15 =>
          pI h15 this [5, 6, 7] 3 (4 : Int32) fun h16 =>
          rV h16
def c_D_next (h : PH) (this : Nat) : Option RH :=
  grd h this [5, 6, 7] (
  itr (c_D_next_l0) (fun _ _ => none) FU h this)
set_option maxHeartbeats 4000000 in
theorem w_D_next_j18 (r0 : PH → Nat → Option RH) (hr0 : ∀ (h : PH) (this : Nat), Sim Y_D_next h 0 [(0, .ref this)] [] (r0 h this)) (h : PH) (this : Nat) : Sim Y_D_next h 18 [(0, .ref this)] [] (c_D_next_j18 r0 h this) := by
  unfold c_D_next_j18
  refine x_aload_nR (pc := 18) (a := this) 0 rfl rfl dX6_next_18 ?_
  refine x_dup (pc := 19) rfl dX6_next_19 ?_
  refine x_getI (pc := 20) fi_X6_19 dX6_next_20 ?_
  intro v1
  refine x_iconst (pc := 23) (v := 1) (by decide) dX6_next_23 ?_
  refine x_iadd (pc := 24) dX6_next_24 ?_
  refine x_pI (pc := 25) fi_X6_19 (fun z => absurd z (by decide)) dX6_next_25 ?_
  intro h2
  refine x_goto (pc := 28) 0 (by decide) dX6_next_28 ?_
  exact hr0 h2 this
set_option maxHeartbeats 4000000 in
theorem w_D_next_j111 (h : PH) (this : Nat) (x1 : Int32) : Sim Y_D_next h 111 [(0, .ref this), (1, .int x1)] [] (c_D_next_j111 h this x1) := by
  unfold c_D_next_j111
  refine x_aload_nR (pc := 111) (a := this) 0 rfl rfl dX6_next_111 ?_
  refine x_aload_nR (pc := 112) (a := this) 0 rfl rfl dX6_next_112 ?_
  refine x_iload_n (pc := 113) 1 rfl rfl dX6_next_113 ?_
  refine x_callU (pc := 114) (As := [.int x1]) (rest := [.ref this]) (lev' := 2) si_X6_46 (m_D_isLetter h this x1) (fun z e => grdN e) rfl rfl (by decide) (cat4 (Nat.le_of_ble_eq_true rfl)) dX6_next_114 (kI (fun v2 h1 => ?_)) xNo
  refine x_callU (pc := 117) (As := [.int v2]) (rest := []) (lev' := 3) si_X6_53 (m_D_reads h1 this v2) (fun z e => grdN e) rfl rfl (by decide) (cat4 (Nat.le_of_ble_eq_true rfl)) dX6_next_117 (kV (fun h3 => ?_)) xNo
  refine x_goto (pc := 120) 176 (by decide) dX6_next_120 ?_
  exact x_vret (pc := 176) dX6_next_176
set_option maxHeartbeats 4000000 in
theorem w_D_next_j158 (h : PH) (this : Nat) (x1 : Int32) (s0 : Int32) (s1 : Nat) : Sim Y_D_next h 158 [(0, .ref this), (1, .int x1)] [.int s0, .ref s1] (c_D_next_j158 h this x1 s0 s1) := by
  unfold c_D_next_j158
  refine x_pI (pc := 158) fi_X6_43 (fun z => absurd z (by decide)) dX6_next_158 ?_
  intro h1
  refine x_aload_nR (pc := 161) (a := this) 0 rfl rfl dX6_next_161 ?_
  refine x_iload_n (pc := 162) 1 rfl rfl dX6_next_162 ?_
  refine x_pI (pc := 163) fi_X6_57 (fun z => absurd z (by decide)) dX6_next_163 ?_
  intro h2
  refine x_aload_nR (pc := 166) (a := this) 0 rfl rfl dX6_next_166 ?_
  refine x_dup (pc := 167) rfl dX6_next_167 ?_
  refine x_getI (pc := 168) fi_X6_19 dX6_next_168 ?_
  intro v3
  refine x_iconst (pc := 171) (v := 1) (by decide) dX6_next_171 ?_
  refine x_iadd (pc := 172) dX6_next_172 ?_
  refine x_pI (pc := 173) fi_X6_19 (fun z => absurd z (by decide)) dX6_next_173 ?_
  intro h4
  exact x_vret (pc := 176) dX6_next_176
set_option maxHeartbeats 4000000 in
theorem w_D_next_j153 (h : PH) (this : Nat) (x1 : Int32) (s0 : Nat) : Sim Y_D_next h 153 [(0, .ref this), (1, .int x1)] [.ref s0] (c_D_next_j153 h this x1 s0) := by
  unfold c_D_next_j153
  refine x_iconst (pc := 153) (v := 3) (by decide) dX6_next_153 ?_
  refine x_goto (pc := 154) 158 (by decide) dX6_next_154 ?_
  exact w_D_next_j158 h this x1 (3 : Int32) s0
set_option maxHeartbeats 4000000 in
theorem w_D_next_j78 (h : PH) (this : Nat) : Sim Y_D_next h 78 [(0, .ref this)] [] (c_D_next_j78 h this) := by
  unfold c_D_next_j78
  refine x_aload_nR (pc := 78) (a := this) 0 rfl rfl dX6_next_78 ?_
  refine x_callU (pc := 79) (As := []) (rest := []) (lev' := 1) si_X6_36 (m_D_peek h this) (fun z e => grdN e) rfl rfl (by decide) (cat4 (Nat.le_of_ble_eq_true rfl)) dX6_next_79 (kI (fun v2 h1 => ?_)) xNo
  refine x_istore_n (pc := 82) (lv' := [(1, .int v2), (0, .ref this)]) rfl (by decide) rfl dX6_next_82 ?_
  refine x_iload_n (pc := 83) 0 rfl rfl dX6_next_83 ?_
  refine x_if_ge (pc := 84) 95 (by decide) dX6_next_84 ?_ ?_
  · refine x_aload_nR (pc := 95) (a := this) 1 rfl rfl dX6_next_95 ?_
    refine x_iload_n (pc := 96) 0 rfl rfl dX6_next_96 ?_
    refine x_callU (pc := 97) (As := [.int v2]) (rest := []) (lev' := 2) si_X6_46 (m_D_isLetter h1 this v2) (fun z e => grdN e) rfl rfl (by decide) (cat4 (Nat.le_of_ble_eq_true rfl)) dX6_next_97 (kI (fun v4 h3 => ?_)) xNo
    refine x_if_ne (pc := 100) 111 (by decide) dX6_next_100 ?_ ?_
    · refine Sim.lv [1, 0] rfl ?_
      exact w_D_next_j111 h3 this v2
    · refine x_aload_nR (pc := 103) (a := this) 1 rfl rfl dX6_next_103 ?_
      refine x_iload_n (pc := 104) 0 rfl rfl dX6_next_104 ?_
      refine x_callU (pc := 105) (As := [.int v2]) (rest := []) (lev' := 2) si_X6_50 (m_D_isDigit h3 this v2) (fun z e => grdN e) rfl rfl (by decide) (cat4 (Nat.le_of_ble_eq_true rfl)) dX6_next_105 (kI (fun v6 h5 => ?_)) xNo
      refine x_if_eq (pc := 108) 123 (by decide) dX6_next_108 ?_ ?_
      · refine x_aload_nR (pc := 123) (a := this) 1 rfl rfl dX6_next_123 ?_
        refine x_iload_n (pc := 124) 0 rfl rfl dX6_next_124 ?_
        refine x_bipush (pc := 125) (v := 59) (by decide) dX6_next_125 ?_
        refine x_icmp_eq (pc := 127) 153 (by decide) dX6_next_127 ?_ ?_
        · refine Sim.lv [1, 0] rfl ?_
          exact w_D_next_j153 h5 this v2 this
        · refine x_iload_n (pc := 130) 0 rfl rfl dX6_next_130 ?_
          refine x_bipush (pc := 131) (v := 40) (by decide) dX6_next_131 ?_
          refine x_icmp_eq (pc := 133) 153 (by decide) dX6_next_133 ?_ ?_
          · refine Sim.lv [1, 0] rfl ?_
            exact w_D_next_j153 h5 this v2 this
          · refine x_iload_n (pc := 136) 0 rfl rfl dX6_next_136 ?_
            refine x_bipush (pc := 137) (v := 41) (by decide) dX6_next_137 ?_
            refine x_icmp_eq (pc := 139) 153 (by decide) dX6_next_139 ?_ ?_
            · refine Sim.lv [1, 0] rfl ?_
              exact w_D_next_j153 h5 this v2 this
            · refine x_iload_n (pc := 142) 0 rfl rfl dX6_next_142 ?_
              refine x_bipush (pc := 143) (v := 60) (by decide) dX6_next_143 ?_
              refine x_bipush (pc := 145) (v := 62) (by decide) dX6_next_145 ?_
              refine x_callSN (pc := 147) (As := [.int v2, .int (60 : Int32), .int (62 : Int32)]) (rest := [.ref this]) (lev' := 1) si_X6_32 (m_B_isIn h5 v2 (60 : Int32) (62 : Int32)) rfl rfl (by decide) (cat4 (Nat.le_of_ble_eq_true rfl)) dX6_next_147 (kI (fun v8 h7 => ?_)) xNo
              refine x_if_eq (pc := 150) 157 (by decide) dX6_next_150 ?_ ?_
              · refine x_iconst (pc := 157) (v := 4) (by decide) dX6_next_157 ?_
                refine Sim.lv [1, 0] rfl ?_
                exact w_D_next_j158 h7 this v2 (4 : Int32) this
              · refine Sim.lv [1, 0] rfl ?_
                exact w_D_next_j153 h7 this v2 this
      · refine Sim.lv [1, 0] rfl ?_
        exact w_D_next_j111 h5 this v2
  · refine x_aload_nR (pc := 87) (a := this) 1 rfl rfl dX6_next_87 ?_
    refine x_iconst (pc := 88) (v := 0) (by decide) dX6_next_88 ?_
    refine x_pI (pc := 89) fi_X6_43 (fun z => absurd z (by decide)) dX6_next_89 ?_
    intro h9
    refine x_goto (pc := 92) 176 (by decide) dX6_next_92 ?_
    exact x_vret (pc := 176) dX6_next_176
set_option maxHeartbeats 4000000 in
theorem w_D_next_l0 (r0 : PH → Nat → Option RH) (hr0 : ∀ (h : PH) (this : Nat), Sim Y_D_next h 0 [(0, .ref this)] [] (r0 h this)) (h : PH) (this : Nat) : Sim Y_D_next h 0 [(0, .ref this)] [] (c_D_next_l0 r0 h this) := by
  unfold c_D_next_l0
  refine x_aload_nR (pc := 0) (a := this) 0 rfl rfl dX6_next_0 ?_
  refine x_callU (pc := 1) (As := []) (rest := []) (lev' := 1) si_X6_36 (m_D_peek h this) (fun z e => grdN e) rfl rfl (by decide) (cat4 (Nat.le_of_ble_eq_true rfl)) dX6_next_1 (kI (fun v2 h1 => ?_)) xNo
  refine x_bipush (pc := 4) (v := 32) (by decide) dX6_next_4 ?_
  refine x_icmp_eq (pc := 6) 18 (by decide) dX6_next_6 ?_ ?_
  · exact w_D_next_j18 r0 hr0 h1 this
  · refine x_aload_nR (pc := 9) (a := this) 0 rfl rfl dX6_next_9 ?_
    refine x_callU (pc := 10) (As := []) (rest := []) (lev' := 1) si_X6_36 (m_D_peek h1 this) (fun z e => grdN e) rfl rfl (by decide) (cat4 (Nat.le_of_ble_eq_true rfl)) dX6_next_10 (kI (fun v4 h3 => ?_)) xNo
    refine x_bipush (pc := 13) (v := 10) (by decide) dX6_next_13 ?_
    refine x_icmp_ne (pc := 15) 31 (by decide) dX6_next_15 ?_ ?_
    · refine x_aload_nR (pc := 31) (a := this) 0 rfl rfl dX6_next_31 ?_
      refine x_aload_nR (pc := 32) (a := this) 0 rfl rfl dX6_next_32 ?_
      refine x_getI (pc := 33) fi_X6_19 dX6_next_33 ?_
      intro v5
      refine x_pI (pc := 36) fi_X6_40 (fun z => absurd z (by decide)) dX6_next_36 ?_
      intro h6
      refine x_aload_nR (pc := 39) (a := this) 0 rfl rfl dX6_next_39 ?_
      refine x_getQ (pc := 40) fi_X6_3 dX6_next_40 ?_
      intro v7
      refine x_nn (fun a8 e9 => ?_)
      subst e9
      refine x_getI (pc := 43) fi_X6_25 dX6_next_43 ?_
      intro v10
      refine x_aload_nR (pc := 46) (a := this) 0 rfl rfl dX6_next_46 ?_
      refine x_getI (pc := 47) fi_X6_15 dX6_next_47 ?_
      intro v11
      refine x_icmp_le (pc := 50) 78 (by decide) dX6_next_50 ?_ ?_
      · exact w_D_next_j78 h6 this
      · refine x_aload_nR (pc := 53) (a := this) 0 rfl rfl dX6_next_53 ?_
        refine x_getI (pc := 54) fi_X6_19 dX6_next_54 ?_
        intro v12
        refine x_aload_nR (pc := 57) (a := this) 0 rfl rfl dX6_next_57 ?_
        refine x_getI (pc := 58) fi_X6_15 dX6_next_58 ?_
        intro v13
        refine x_icmp_lt (pc := 61) 78 (by decide) dX6_next_61 ?_ ?_
        · exact w_D_next_j78 h6 this
        · refine x_aload_nR (pc := 64) (a := this) 0 rfl rfl dX6_next_64 ?_
          refine x_aload_nR (pc := 65) (a := this) 0 rfl rfl dX6_next_65 ?_
          refine x_getI (pc := 66) fi_X6_15 dX6_next_66 ?_
          intro v14
          refine x_pI (pc := 69) fi_X6_40 (fun z => absurd z (by decide)) dX6_next_69 ?_
          intro h15
          refine x_aload_nR (pc := 72) (a := this) 0 rfl rfl dX6_next_72 ?_
          refine x_iconst (pc := 73) (v := 4) (by decide) dX6_next_73 ?_
          refine x_pI (pc := 74) fi_X6_43 (fun z => absurd z (by decide)) dX6_next_74 ?_
          intro h16
          exact x_vret (pc := 77) dX6_next_77
    · exact w_D_next_j18 r0 hr0 h3 this
set_option maxHeartbeats 4000000 in
theorem v_D_next_l0 : ∀ (n : Nat) (h : PH) (this : Nat), Sim Y_D_next h 0 [(0, .ref this)] [] (itr (c_D_next_l0) (fun _ _ => none) n h this)
  | 0, h, this => Sim.none
  | n + 1, h, this => w_D_next_l0 _ (v_D_next_l0 n) h this
set_option maxHeartbeats 4000000 in
theorem m_D_next (h : PH) (this : Nat) : MM yX6_next (ws_ yX6_next cX6_next 2 none) 4 [.ref this] h (c_D_next h this) := by
  refine MM.of (by decide) rfl (by decide) (Nat.le_of_ble_eq_true rfl) (own := RX6) (cc := cX6_next) (maxL := 2) (lev := 4) (rt := none) (ini := false) ?_
  show Sim Y_D_next h 0 [(0, .ref this)] [] _
  unfold c_D_next
  refine x_grd ?_
  exact v_D_next_l0 FU h this
theorem si_X6_22 : SiU RX6 22 [5, 6, 7] ⟨RX6, "next", "()V"⟩ yX6_next cX6_next 2 none 0 := (siU_c (c := 5) (owner := "BitRopes$Reade\x72") rfl (by decide) ⟨q597, q599, (Or.inl q601), q598, q117, q603⟩ (Or.inl rfl) ⟨by decide, by decide, by decide +kernel⟩ (siU_c (c := 6) (owner := "BitRopes$Reade\x72") rfl (by decide) ⟨q597, q599, (Or.inl q600), q598, q117, q603⟩ (Or.inl rfl) ⟨by decide, by decide, by decide +kernel⟩ (siU_c (c := 7) (owner := "BitRopes$Reade\x72") rfl (by decide) ⟨q597, q599, (Or.inl q602), q598, q117, q603⟩ (Or.inl rfl) ⟨by decide, by decide, by decide +kernel⟩ (siU_n (by decide)))))
abbrev Y_D_begin : Yx := (RX6, cX6_begin, 1, 5, none, [], false)
def c_D_begin (h : PH) (this : Nat) : Option RH :=
  grd h this [5, 6, 7] (
  pI h this [5, 6, 7] 1 (0 : Int32) fun h1 =>
  hV (c_D_next h1 this) noX fun h2 =>
  rV h2)
set_option maxHeartbeats 4000000 in
theorem m_D_begin (h : PH) (this : Nat) : MM yX6_begin (ws_ yX6_begin cX6_begin 1 none) 5 [.ref this] h (c_D_begin h this) := by
  refine MM.of (by decide) rfl (by decide) (Nat.le_of_ble_eq_true rfl) (own := RX6) (cc := cX6_begin) (maxL := 1) (lev := 5) (rt := none) (ini := false) ?_
  show Sim Y_D_begin h 0 [(0, .ref this)] [] _
  unfold c_D_begin
  refine x_grd ?_
  refine x_aload_nR (pc := 0) (a := this) 0 rfl rfl dX6_begin_0 ?_
  refine x_iconst (pc := 1) (v := 0) (by decide) dX6_begin_1 ?_
  refine x_pI (pc := 2) fi_X6_19 (fun z => absurd z (by decide)) dX6_begin_2 ?_
  intro h1
  refine x_aload_nR (pc := 5) (a := this) 0 rfl rfl dX6_begin_5 ?_
  refine x_callU (pc := 6) (As := []) (rest := []) (lev' := 4) si_X6_22 (m_D_next h1 this) (fun z e => grdN e) rfl rfl (by decide) (cat4 (Nat.le_of_ble_eq_true rfl)) dX6_begin_6 (kV (fun h2 => ?_)) xNo
  exact x_vret (pc := 9) dX6_begin_9
theorem si_X6_72 : SiT RX6 72 yJ2_charAt cJ2_charAt 2 (some .char) 1 := ⟨lw_V q646 q647 q648 q122 q649, ⟨rfl, by decide, by decide, by decide +kernel⟩, by decide⟩
theorem si_X6_67 : SiT RX6 67 yJ2_length cJ2_length 1 (some .int) 0 := ⟨lw_V q636 q637 q638 q122 q639, ⟨rfl, by decide, by decide, by decide +kernel⟩, by decide⟩
abbrev Y_D_is : Yx := (RX6, cX6_is, 3, 9, (some .boolean), [], false)
def c_D_is_l23 (r23 : PH → Nat → Nat → Int32 → Option RH) (h : PH) (this : Nat) (x1 : Nat) (x2 : Int32) : Option RH :=
  gI h this [5, 6, 7] 5 fun v1 =>
  if v1 ≤ x2 then
    rZ (1 : Int32) h
  else
    gQ h this [5, 6, 7] 7 fun v2 =>
    nn v2 fun a3 =>
    gQ h a3 [0] 0 fun v5 =>
    gI h this [5, 6, 7] 2 fun v6 =>
    nn v5 fun a7 =>
    ldI h a7 2 (v6 + x2) fun v9 =>
    hI (c_J2_charAt h x1 x2) noX fun v10 h11 =>
    if v9 = v10 then
      r23 h11 this x1 (x2 + (1 : Int32))
    else
      rZ (0 : Int32) h11
def c_D_is (h : PH) (this : Nat) (x1 : Nat) : Option RH :=
  grd h this [5, 6, 7] (
  gI h this [5, 6, 7] 3 fun v1 =>
  if v1 = (1 : Int32) then
    gI h this [5, 6, 7] 5 fun v2 =>
    hI (c_J2_length h x1) noX fun v3 h4 =>
    if v2 = v3 then
      itr (c_D_is_l23) (fun _ _ _ _ => none) FU h4 this x1 (0 : Int32)
    else
      rZ (0 : Int32) h4
  else
    rZ (0 : Int32) h)
set_option maxHeartbeats 4000000 in
theorem w_D_is_l23 (r23 : PH → Nat → Nat → Int32 → Option RH) (hr23 : ∀ (h : PH) (this : Nat) (x1 : Nat) (x2 : Int32), Sim Y_D_is h 23 [(0, .ref this), (1, .ref x1), (2, .int x2)] [] (r23 h this x1 x2)) (h : PH) (this : Nat) (x1 : Nat) (x2 : Int32) : Sim Y_D_is h 23 [(0, .ref this), (1, .ref x1), (2, .int x2)] [] (c_D_is_l23 r23 h this x1 x2) := by
  unfold c_D_is_l23
  refine x_iload_n (pc := 23) 2 rfl rfl dX6_is_23 ?_
  refine x_aload_nR (pc := 24) (a := this) 0 rfl rfl dX6_is_24 ?_
  refine x_getI (pc := 25) fi_X6_64 dX6_is_25 ?_
  intro v1
  refine x_icmp_ge (pc := 28) 61 (by decide) dX6_is_28 ?_ ?_
  · refine x_iconst (pc := 61) (v := 1) (by decide) dX6_is_61 ?_
    exact x_zret (pc := 62) dX6_is_62
  · refine x_aload_nR (pc := 31) (a := this) 0 rfl rfl dX6_is_31 ?_
    refine x_getQ (pc := 32) fi_X6_3 dX6_is_32 ?_
    intro v2
    refine x_nn (fun a3 e4 => ?_)
    subst e4
    refine x_getQ (pc := 35) fi_X6_28 dX6_is_35 ?_
    intro v5
    refine x_aload_nR (pc := 38) (a := this) 0 rfl rfl dX6_is_38 ?_
    refine x_getI (pc := 39) fi_X6_40 dX6_is_39 ?_
    intro v6
    refine x_iload_n (pc := 42) 2 rfl rfl dX6_is_42 ?_
    refine x_iadd (pc := 43) dX6_is_43 ?_
    refine x_nn (fun a7 e8 => ?_)
    subst e8
    refine x_bald (pc := 44) dX6_is_44 ?_
    intro v9
    refine x_aload_nR (pc := 45) (a := x1) 1 rfl rfl dX6_is_45 ?_
    refine x_iload_n (pc := 46) 2 rfl rfl dX6_is_46 ?_
    refine x_callT (pc := 47) (As := [.int x2]) (rest := [.int v9]) (lev' := 4) si_X6_72 (m_J2_charAt h x1 x2) (fun z e => gS_g e) rfl rfl (by decide) (cat4 (Nat.le_of_ble_eq_true rfl)) dX6_is_47 (kI (fun v10 h11 => ?_)) xNo
    refine x_icmp_eq (pc := 50) 55 (by decide) dX6_is_50 ?_ ?_
    · refine x_iinc (pc := 55) (v := (1 : Int32)) (lv' := [(2, .int (x2 + (1 : Int32))), (0, .ref this), (1, .ref x1)]) 2 rfl (by decide) (by decide) rfl dX6_is_55 ?_
      refine x_goto (pc := 58) 23 (by decide) dX6_is_58 ?_
      refine Sim.lv [1, 2, 0] rfl ?_
      exact hr23 h11 this x1 (x2 + (1 : Int32))
    · refine x_iconst (pc := 53) (v := 0) (by decide) dX6_is_53 ?_
      exact x_zret (pc := 54) dX6_is_54
set_option maxHeartbeats 4000000 in
theorem v_D_is_l23 : ∀ (n : Nat) (h : PH) (this : Nat) (x1 : Nat) (x2 : Int32), Sim Y_D_is h 23 [(0, .ref this), (1, .ref x1), (2, .int x2)] [] (itr (c_D_is_l23) (fun _ _ _ _ => none) n h this x1 x2)
  | 0, h, this, x1, x2 => Sim.none
  | n + 1, h, this, x1, x2 => w_D_is_l23 _ (v_D_is_l23 n) h this x1 x2
set_option maxHeartbeats 4000000 in
theorem m_D_is (h : PH) (this : Nat) (x1 : Nat) : MM yX6_is (ws_ yX6_is cX6_is 3 (some .boolean)) 9 [.ref this, .ref x1] h (c_D_is h this x1) := by
  refine MM.of (by decide) rfl (by decide) (Nat.le_of_ble_eq_true rfl) (own := RX6) (cc := cX6_is) (maxL := 3) (lev := 9) (rt := (some .boolean)) (ini := false) ?_
  show Sim Y_D_is h 0 [(0, .ref this), (1, .ref x1)] [] _
  unfold c_D_is
  refine x_grd ?_
  refine x_aload_nR (pc := 0) (a := this) 0 rfl rfl dX6_is_0 ?_
  refine x_getI (pc := 1) fi_X6_43 dX6_is_1 ?_
  intro v1
  refine x_iconst (pc := 4) (v := 1) (by decide) dX6_is_4 ?_
  refine x_icmp_ne (pc := 5) 19 (by decide) dX6_is_5 ?_ ?_
  · refine x_iconst (pc := 19) (v := 0) (by decide) dX6_is_19 ?_
    exact x_zret (pc := 20) dX6_is_20
  · refine x_aload_nR (pc := 8) (a := this) 0 rfl rfl dX6_is_8 ?_
    refine x_getI (pc := 9) fi_X6_64 dX6_is_9 ?_
    intro v2
    refine x_aload_nR (pc := 12) (a := x1) 1 rfl rfl dX6_is_12 ?_
    refine x_callT (pc := 13) (As := []) (rest := [.int v2]) (lev' := 2) si_X6_67 (m_J2_length h x1) (fun z e => gS_g e) rfl rfl (by decide) (cat4 (Nat.le_of_ble_eq_true rfl)) dX6_is_13 (kI (fun v3 h4 => ?_)) xNo
    refine x_icmp_eq (pc := 16) 21 (by decide) dX6_is_16 ?_ ?_
    · refine x_iconst (pc := 21) (v := 0) (by decide) dX6_is_21 ?_
      refine x_istore_n (pc := 22) (lv' := [(2, .int (0 : Int32)), (0, .ref this), (1, .ref x1)]) rfl (by decide) rfl dX6_is_22 ?_
      refine Sim.lv [1, 2, 0] rfl ?_
      exact v_D_is_l23 FU h4 this x1 (0 : Int32)
    · refine x_iconst (pc := 19) (v := 0) (by decide) dX6_is_19 ?_
      exact x_zret (pc := 20) dX6_is_20
theorem si_X6_76 : SiU RX6 76 [5, 6, 7] ⟨RX6, "is", "(Ljava/lang/String;)Z"⟩ yX6_is cX6_is 3 (some .boolean) 1 := (siU_c (c := 5) (owner := "BitRopes$Reade\x72") rfl (by decide) ⟨q629, q631, (Or.inl q633), q630, q117, q635⟩ (Or.inl rfl) ⟨by decide, by decide, by decide +kernel⟩ (siU_c (c := 6) (owner := "BitRopes$Reade\x72") rfl (by decide) ⟨q629, q631, (Or.inl q632), q630, q117, q635⟩ (Or.inl rfl) ⟨by decide, by decide, by decide +kernel⟩ (siU_c (c := 7) (owner := "BitRopes$Reade\x72") rfl (by decide) ⟨q629, q631, (Or.inl q634), q630, q117, q635⟩ (Or.inl rfl) ⟨by decide, by decide, by decide +kernel⟩ (siU_n (by decide)))))
abbrev Y_D_find : Yx := (RX6, cX6_find, 3, 10, (some .int), [], false)
def c_D_find_l2 (r2 : PH → Nat → Nat → Int32 → Option RH) (h : PH) (this : Nat) (x1 : Nat) (x2 : Int32) : Option RH :=
  alen h x1 fun v1 =>
  if v1 ≤ x2 then
    rI (-1 : Int32) h
  else
    ldQ h x1 x2 fun v2 =>
    nn v2 fun a3 =>
    hI (c_D_is h this a3) noX fun v6 h5 =>
    if v6 = 0 then
      r2 h5 this x1 (x2 + (1 : Int32))
    else
      rI x2 h5
def c_D_find (h : PH) (this : Nat) (x1 : Nat) : Option RH :=
  grd h this [5, 6, 7] (
  itr (c_D_find_l2) (fun _ _ _ _ => none) FU h this x1 (0 : Int32))
set_option maxHeartbeats 4000000 in
theorem w_D_find_l2 (r2 : PH → Nat → Nat → Int32 → Option RH) (hr2 : ∀ (h : PH) (this : Nat) (x1 : Nat) (x2 : Int32), Sim Y_D_find h 2 [(0, .ref this), (1, .ref x1), (2, .int x2)] [] (r2 h this x1 x2)) (h : PH) (this : Nat) (x1 : Nat) (x2 : Int32) : Sim Y_D_find h 2 [(0, .ref this), (1, .ref x1), (2, .int x2)] [] (c_D_find_l2 r2 h this x1 x2) := by
  unfold c_D_find_l2
  refine x_iload_n (pc := 2) 2 rfl rfl dX6_find_2 ?_
  refine x_aload_nR (pc := 3) (a := x1) 1 rfl rfl dX6_find_3 ?_
  refine x_alen (pc := 4) dX6_find_4 ?_
  intro v1
  refine x_icmp_ge (pc := 5) 26 (by decide) dX6_find_5 ?_ ?_
  · refine x_iconst (pc := 26) (v := (-1)) (by decide) dX6_find_26 ?_
    exact x_iret (pc := 27) dX6_find_27
  · refine x_aload_nR (pc := 8) (a := this) 0 rfl rfl dX6_find_8 ?_
    refine x_aload_nR (pc := 9) (a := x1) 1 rfl rfl dX6_find_9 ?_
    refine x_iload_n (pc := 10) 2 rfl rfl dX6_find_10 ?_
    refine x_aald (pc := 11) dX6_find_11 ?_
    intro v2
    refine x_nn (fun a3 e4 => ?_)
    subst e4
    refine x_callU (pc := 12) (As := [.ref a3]) (rest := []) (lev' := 9) si_X6_76 (m_D_is h this a3) (fun z e => grdN e) rfl rfl (by decide) (cat4 (Nat.le_of_ble_eq_true rfl)) dX6_find_12 (kI (fun v6 h5 => ?_)) xNo
    refine x_if_eq (pc := 15) 20 (by decide) dX6_find_15 ?_ ?_
    · refine x_iinc (pc := 20) (v := (1 : Int32)) (lv' := [(2, .int (x2 + (1 : Int32))), (0, .ref this), (1, .ref x1)]) 2 rfl (by decide) (by decide) rfl dX6_find_20 ?_
      refine x_goto (pc := 23) 2 (by decide) dX6_find_23 ?_
      refine Sim.lv [1, 2, 0] rfl ?_
      exact hr2 h5 this x1 (x2 + (1 : Int32))
    · refine x_iload_n (pc := 18) 2 rfl rfl dX6_find_18 ?_
      exact x_iret (pc := 19) dX6_find_19
set_option maxHeartbeats 4000000 in
theorem v_D_find_l2 : ∀ (n : Nat) (h : PH) (this : Nat) (x1 : Nat) (x2 : Int32), Sim Y_D_find h 2 [(0, .ref this), (1, .ref x1), (2, .int x2)] [] (itr (c_D_find_l2) (fun _ _ _ _ => none) n h this x1 x2)
  | 0, h, this, x1, x2 => Sim.none
  | n + 1, h, this, x1, x2 => w_D_find_l2 _ (v_D_find_l2 n) h this x1 x2
set_option maxHeartbeats 4000000 in
theorem m_D_find (h : PH) (this : Nat) (x1 : Nat) : MM yX6_find (ws_ yX6_find cX6_find 3 (some .int)) 10 [.ref this, .ref x1] h (c_D_find h this x1) := by
  refine MM.of (by decide) rfl (by decide) (Nat.le_of_ble_eq_true rfl) (own := RX6) (cc := cX6_find) (maxL := 3) (lev := 10) (rt := (some .int)) (ini := false) ?_
  show Sim Y_D_find h 0 [(0, .ref this), (1, .ref x1)] [] _
  unfold c_D_find
  refine x_grd ?_
  refine x_iconst (pc := 0) (v := 0) (by decide) dX6_find_0 ?_
  refine x_istore_n (pc := 1) (lv' := [(2, .int (0 : Int32)), (0, .ref this), (1, .ref x1)]) rfl (by decide) rfl dX6_find_1 ?_
  refine Sim.lv [1, 2, 0] rfl ?_
  exact v_D_find_l2 FU h this x1 (0 : Int32)
theorem fi_X6_91 : FI RX6 91 [0] 3 (.object "BitRopes$Fault") true false := (fi_c ci_0 (by decide) rfl rfl (Or.inr ⟨_, q501⟩) (Or.inl rfl) (fun _ h => absurd h (by decide)) fi_n)
theorem fi_X6_95 : FI RX6 95 [1] 6 .int false true := (fi_c ci_1 (by decide) rfl rfl (Or.inl q202) (Or.inl rfl) (fun h => absurd h (by decide)) fi_n)
theorem fi_X6_100 : FI RX6 100 [1] 7 .int false true := (fi_c ci_1 (by decide) rfl rfl (Or.inl q204) (Or.inl rfl) (fun h => absurd h (by decide)) fi_n)
abbrev Y_D_wrong : Yx := (RX6, cX6_wrong, 2, 1, (some (.object "BitRopes$Fault")), [], false)
def c_D_wrong (h : PH) (this : Nat) (x1 : Int32) : Option RH :=
  grd h this [5, 6, 7] (
  gQ h this [5, 6, 7] 7 fun v1 =>
  nn v1 fun a2 =>
  gQ h a2 [0] 3 fun v4 =>
  nn v4 fun a5 =>
  pI h a5 [1] 6 x1 fun h7 =>
  gQ h7 this [5, 6, 7] 7 fun v8 =>
  nn v8 fun a9 =>
  gQ h7 a9 [0] 3 fun v11 =>
  gI h7 this [5, 6, 7] 2 fun v12 =>
  nn v11 fun a13 =>
  pI h7 a13 [1] 7 v12 fun h15 =>
  gQ h15 this [5, 6, 7] 7 fun v16 =>
  nn v16 fun a17 =>
  gQ h15 a17 [0] 3 fun v19 =>
  rQ v19 h15)
set_option maxHeartbeats 4000000 in
theorem m_D_wrong (h : PH) (this : Nat) (x1 : Int32) : MM yX6_wrong (ws_ yX6_wrong cX6_wrong 2 (some (.object "BitRopes$Fault"))) 1 [.ref this, .int x1] h (c_D_wrong h this x1) := by
  refine MM.of (by decide) rfl (by decide) (Nat.le_of_ble_eq_true rfl) (own := RX6) (cc := cX6_wrong) (maxL := 2) (lev := 1) (rt := (some (.object "BitRopes$Fault"))) (ini := false) ?_
  show Sim Y_D_wrong h 0 [(0, .ref this), (1, .int x1)] [] _
  unfold c_D_wrong
  refine x_grd ?_
  refine x_aload_nR (pc := 0) (a := this) 0 rfl rfl dX6_wrong_0 ?_
  refine x_getQ (pc := 1) fi_X6_3 dX6_wrong_1 ?_
  intro v1
  refine x_nn (fun a2 e3 => ?_)
  subst e3
  refine x_getQ (pc := 4) fi_X6_91 dX6_wrong_4 ?_
  intro v4
  refine x_iload_n (pc := 7) 1 rfl rfl dX6_wrong_7 ?_
  refine x_nn (fun a5 e6 => ?_)
  subst e6
  refine x_pI (pc := 8) fi_X6_95 (fun z => absurd z (by decide)) dX6_wrong_8 ?_
  intro h7
  refine x_aload_nR (pc := 11) (a := this) 0 rfl rfl dX6_wrong_11 ?_
  refine x_getQ (pc := 12) fi_X6_3 dX6_wrong_12 ?_
  intro v8
  refine x_nn (fun a9 e10 => ?_)
  subst e10
  refine x_getQ (pc := 15) fi_X6_91 dX6_wrong_15 ?_
  intro v11
  refine x_aload_nR (pc := 18) (a := this) 0 rfl rfl dX6_wrong_18 ?_
  refine x_getI (pc := 19) fi_X6_40 dX6_wrong_19 ?_
  intro v12
  refine x_nn (fun a13 e14 => ?_)
  subst e14
  refine x_pI (pc := 22) fi_X6_100 (fun z => absurd z (by decide)) dX6_wrong_22 ?_
  intro h15
  refine x_aload_nR (pc := 25) (a := this) 0 rfl rfl dX6_wrong_25 ?_
  refine x_getQ (pc := 26) fi_X6_3 dX6_wrong_26 ?_
  intro v16
  refine x_nn (fun a17 e18 => ?_)
  subst e18
  refine x_getQ (pc := 29) fi_X6_91 dX6_wrong_29 ?_
  intro v19
  exact x_aret (pc := 32) (v := v19) (Or.inl ⟨_, rfl⟩) dX6_wrong_32
theorem si_X6_103 : SiU RX6 103 [5, 6, 7] ⟨RX6, "wrong", "(I)LBitRopes$Fault;"⟩ yX6_wrong cX6_wrong 2 (some (.object "BitRopes$Fault")) 1 := (siU_c (c := 5) (owner := "BitRopes$Reade\x72") rfl (by decide) ⟨q690, q692, (Or.inl q694), q691, q117, q696⟩ (Or.inl rfl) ⟨by decide, by decide, by decide +kernel⟩ (siU_c (c := 6) (owner := "BitRopes$Reade\x72") rfl (by decide) ⟨q690, q692, (Or.inl q693), q691, q117, q696⟩ (Or.inl rfl) ⟨by decide, by decide, by decide +kernel⟩ (siU_c (c := 7) (owner := "BitRopes$Reade\x72") rfl (by decide) ⟨q690, q692, (Or.inl q695), q691, q117, q696⟩ (Or.inl rfl) ⟨by decide, by decide, by decide +kernel⟩ (siU_n (by decide)))))
abbrev Y_D_must : Yx := (RX6, cX6_must, 3, 2, none, [], false)
def c_D_must (h : PH) (this : Nat) (x1 : Int32) (x2 : Int32) : Option RH :=
  grd h this [5, 6, 7] (
  if x1 = 0 then
    hQ (c_D_wrong h this x2) noX fun v2 h1 =>
    nn v2 fun a3 =>
    grd h1 a3 [1] (rX (a3, 0) h1)
  else
    rV h)
set_option maxHeartbeats 4000000 in
theorem m_D_must (h : PH) (this : Nat) (x1 : Int32) (x2 : Int32) : MM yX6_must (ws_ yX6_must cX6_must 3 none) 2 [.ref this, .int x1, .int x2] h (c_D_must h this x1 x2) := by
  refine MM.of (by decide) rfl (by decide) (Nat.le_of_ble_eq_true rfl) (own := RX6) (cc := cX6_must) (maxL := 3) (lev := 2) (rt := none) (ini := false) ?_
  show Sim Y_D_must h 0 [(0, .ref this), (1, .int x1), (2, .int x2)] [] _
  unfold c_D_must
  refine x_grd ?_
  refine x_iload_n (pc := 0) 1 rfl rfl dX6_must_0 ?_
  refine x_if_ne (pc := 1) 10 (by decide) dX6_must_1 ?_ ?_
  · exact x_vret (pc := 10) dX6_must_10
  · refine x_aload_nR (pc := 4) (a := this) 0 rfl rfl dX6_must_4 ?_
    refine x_iload_n (pc := 5) 2 rfl rfl dX6_must_5 ?_
    refine x_callU (pc := 6) (As := [.int x2]) (rest := []) (lev' := 1) si_X6_103 (m_D_wrong h this x2) (fun z e => grdN e) rfl rfl (by decide) (cat4 (Nat.le_of_ble_eq_true rfl)) dX6_must_6 (kQ (fun v2 h1 => ?_)) xNo
    refine x_nn (fun a3 e4 => ?_)
    subst e4
    exact x_athrowF (pc := 9) dX6_must_9 (by decide)
theorem si_X6_109 : SiU RX6 109 [5, 6, 7] ⟨RX6, "must", "(ZI)V"⟩ yX6_must cX6_must 3 none 2 := (siU_c (c := 5) (owner := "BitRopes$Reade\x72") rfl (by decide) ⟨q711, q2306, (Or.inl q2308), q688, q117, q689⟩ (Or.inl rfl) ⟨by decide, by decide, by decide +kernel⟩ (siU_c (c := 6) (owner := "BitRopes$Reade\x72") rfl (by decide) ⟨q711, q2306, (Or.inl q2307), q688, q117, q689⟩ (Or.inl rfl) ⟨by decide, by decide, by decide +kernel⟩ (siU_c (c := 7) (owner := "BitRopes$Reade\x72") rfl (by decide) ⟨q711, q2306, (Or.inl q2309), q688, q117, q689⟩ (Or.inl rfl) ⟨by decide, by decide, by decide +kernel⟩ (siU_n (by decide)))))
abbrev Y_D_number : Yx := (RX6, cX6_number, 4, 5, (some .int), [], false)
def c_D_number_j14 (h : PH) (this : Nat) (x1 : Int32) (x2 : Int32) (s0 : Int32) (s1 : Nat) : Option RH :=
  hV (c_D_must h s1 s0 (1 : Int32)) rX fun h1 =>
  gI h1 this [5, 6, 7] 4 fun v2 =>
  hI (c_B_isIn h1 v2 x1 x2) noX fun v4 h3 =>
  hV (c_D_must h3 this v4 (2 : Int32)) rX fun h5 =>
  gI h5 this [5, 6, 7] 4 fun v6 =>
  hV (c_D_next h5 this) noX fun h7 =>
  rI v6 h7
def c_D_number (h : PH) (this : Nat) (x1 : Int32) (x2 : Int32) : Option RH :=
  grd h this [5, 6, 7] (
  gI h this [5, 6, 7] 3 fun v1 =>
  if v1 = (2 : Int32) then
    c_D_number_j14 h this x1 x2 (1 : Int32) this
  else
    c_D_number_j14 h this x1 x2 (0 : Int32) this)
set_option maxHeartbeats 4000000 in
theorem w_D_number_j14 (h : PH) (this : Nat) (x1 : Int32) (x2 : Int32) (s0 : Int32) (s1 : Nat) : Sim Y_D_number h 14 [(0, .ref this), (1, .int x1), (2, .int x2)] [.int s0, .ref s1] (c_D_number_j14 h this x1 x2 s0 s1) := by
  unfold c_D_number_j14
  refine x_iconst (pc := 14) (v := 1) (by decide) dX6_number_14 ?_
  refine x_callU (pc := 15) (As := [.int s0, .int (1 : Int32)]) (rest := []) (lev' := 2) si_X6_109 (m_D_must h s1 s0 (1 : Int32)) (fun z e => grdN e) rfl rfl (by decide) (cat4 (Nat.le_of_ble_eq_true rfl)) dX6_number_15 (kV (fun h1 => ?_)) (xOut (by decide))
  refine x_aload_nR (pc := 18) (a := this) 0 rfl rfl dX6_number_18 ?_
  refine x_aload_nR (pc := 19) (a := this) 0 rfl rfl dX6_number_19 ?_
  refine x_getI (pc := 20) fi_X6_57 dX6_number_20 ?_
  intro v2
  refine x_iload_n (pc := 23) 1 rfl rfl dX6_number_23 ?_
  refine x_iload_n (pc := 24) 2 rfl rfl dX6_number_24 ?_
  refine x_callSN (pc := 25) (As := [.int v2, .int x1, .int x2]) (rest := [.ref this]) (lev' := 1) si_X6_32 (m_B_isIn h1 v2 x1 x2) rfl rfl (by decide) (cat4 (Nat.le_of_ble_eq_true rfl)) dX6_number_25 (kI (fun v4 h3 => ?_)) xNo
  refine x_iconst (pc := 28) (v := 2) (by decide) dX6_number_28 ?_
  refine x_callU (pc := 29) (As := [.int v4, .int (2 : Int32)]) (rest := []) (lev' := 2) si_X6_109 (m_D_must h3 this v4 (2 : Int32)) (fun z e => grdN e) rfl rfl (by decide) (cat4 (Nat.le_of_ble_eq_true rfl)) dX6_number_29 (kV (fun h5 => ?_)) (xOut (by decide))
  refine x_aload_nR (pc := 32) (a := this) 0 rfl rfl dX6_number_32 ?_
  refine x_getI (pc := 33) fi_X6_57 dX6_number_33 ?_
  intro v6
  refine x_istore_n (pc := 36) (lv' := [(3, .int v6), (0, .ref this), (1, .int x1), (2, .int x2)]) rfl (by decide) rfl dX6_number_36 ?_
  refine x_aload_nR (pc := 37) (a := this) 1 rfl rfl dX6_number_37 ?_
  refine x_callU (pc := 38) (As := []) (rest := []) (lev' := 4) si_X6_22 (m_D_next h5 this) (fun z e => grdN e) rfl rfl (by decide) (cat4 (Nat.le_of_ble_eq_true rfl)) dX6_number_38 (kV (fun h7 => ?_)) xNo
  refine x_iload_n (pc := 41) 0 rfl rfl dX6_number_41 ?_
  exact x_iret (pc := 42) dX6_number_42
set_option maxHeartbeats 4000000 in
theorem m_D_number (h : PH) (this : Nat) (x1 : Int32) (x2 : Int32) : MM yX6_number (ws_ yX6_number cX6_number 4 (some .int)) 5 [.ref this, .int x1, .int x2] h (c_D_number h this x1 x2) := by
  refine MM.of (by decide) rfl (by decide) (Nat.le_of_ble_eq_true rfl) (own := RX6) (cc := cX6_number) (maxL := 4) (lev := 5) (rt := (some .int)) (ini := false) ?_
  show Sim Y_D_number h 0 [(0, .ref this), (1, .int x1), (2, .int x2)] [] _
  unfold c_D_number
  refine x_grd ?_
  refine x_aload_nR (pc := 0) (a := this) 0 rfl rfl dX6_number_0 ?_
  refine x_aload_nR (pc := 1) (a := this) 0 rfl rfl dX6_number_1 ?_
  refine x_getI (pc := 2) fi_X6_43 dX6_number_2 ?_
  intro v1
  refine x_iconst (pc := 5) (v := 2) (by decide) dX6_number_5 ?_
  refine x_icmp_ne (pc := 6) 13 (by decide) dX6_number_6 ?_ ?_
  · refine x_iconst (pc := 13) (v := 0) (by decide) dX6_number_13 ?_
    exact w_D_number_j14 h this x1 x2 (0 : Int32) this
  · refine x_iconst (pc := 9) (v := 1) (by decide) dX6_number_9 ?_
    refine x_goto (pc := 10) 14 (by decide) dX6_number_10 ?_
    exact w_D_number_j14 h this x1 x2 (1 : Int32) this
theorem fi_X6_80 : FI RX6 80 [0] 4 (.array (.object "java/lang/String")) true false := (fi_c ci_0 (by decide) rfl rfl (Or.inr ⟨_, q504⟩) (Or.inl rfl) (fun _ h => absurd h (by decide)) fi_n)
theorem si_X6_84 : SiU RX6 84 [5, 6, 7] ⟨RX6, "find", "([Ljava/lang/String;)I"⟩ yX6_find cX6_find 3 (some .int) 1 := (siU_c (c := 5) (owner := "BitRopes$Reade\x72") rfl (by decide) ⟨q723, q2310, (Or.inl q2312), q627, q117, q628⟩ (Or.inl rfl) ⟨by decide, by decide, by decide +kernel⟩ (siU_c (c := 6) (owner := "BitRopes$Reade\x72") rfl (by decide) ⟨q723, q2310, (Or.inl q2311), q627, q117, q628⟩ (Or.inl rfl) ⟨by decide, by decide, by decide +kernel⟩ (siU_c (c := 7) (owner := "BitRopes$Reade\x72") rfl (by decide) ⟨q723, q2310, (Or.inl q2313), q627, q117, q628⟩ (Or.inl rfl) ⟨by decide, by decide, by decide +kernel⟩ (siU_n (by decide)))))
theorem fi_X6_88 : FI RX6 88 [0] 5 (.array (.object "java/lang/String")) true false := (fi_c ci_0 (by decide) rfl rfl (Or.inr ⟨_, q506⟩) (Or.inl rfl) (fun _ h => absurd h (by decide)) fi_n)
abbrev Y_D_isName : Yx := (RX6, cX6_isName, 1, 11, (some .boolean), [], false)
def c_D_isName (h : PH) (this : Nat) : Option RH :=
  grd h this [5, 6, 7] (
  gI h this [5, 6, 7] 3 fun v1 =>
  if v1 = (1 : Int32) then
    gQ h this [5, 6, 7] 7 fun v2 =>
    nn v2 fun a3 =>
    gQ h a3 [0] 4 fun v5 =>
    nn v5 fun a6 =>
    hI (c_D_find h this a6) noX fun v9 h8 =>
    if v9 = (-1 : Int32) then
      gQ h8 this [5, 6, 7] 7 fun v10 =>
      nn v10 fun a11 =>
      gQ h8 a11 [0] 5 fun v13 =>
      nn v13 fun a14 =>
      hI (c_D_find h8 this a14) noX fun v17 h16 =>
      if v17 = (-1 : Int32) then
        rZ (1 : Int32) h16
      else
        rZ (0 : Int32) h16
    else
      rZ (0 : Int32) h8
  else
    rZ (0 : Int32) h)
set_option maxHeartbeats 4000000 in
theorem m_D_isName (h : PH) (this : Nat) : MM yX6_isName (ws_ yX6_isName cX6_isName 1 (some .boolean)) 11 [.ref this] h (c_D_isName h this) := by
  refine MM.of (by decide) rfl (by decide) (Nat.le_of_ble_eq_true rfl) (own := RX6) (cc := cX6_isName) (maxL := 1) (lev := 11) (rt := (some .boolean)) (ini := false) ?_
  show Sim Y_D_isName h 0 [(0, .ref this)] [] _
  unfold c_D_isName
  refine x_grd ?_
  refine x_aload_nR (pc := 0) (a := this) 0 rfl rfl dX6_isName_0 ?_
  refine x_getI (pc := 1) fi_X6_43 dX6_isName_1 ?_
  intro v1
  refine x_iconst (pc := 4) (v := 1) (by decide) dX6_isName_4 ?_
  refine x_icmp_ne (pc := 5) 42 (by decide) dX6_isName_5 ?_ ?_
  · refine x_iconst (pc := 42) (v := 0) (by decide) dX6_isName_42 ?_
    exact x_zret (pc := 43) dX6_isName_43
  · refine x_aload_nR (pc := 8) (a := this) 0 rfl rfl dX6_isName_8 ?_
    refine x_aload_nR (pc := 9) (a := this) 0 rfl rfl dX6_isName_9 ?_
    refine x_getQ (pc := 10) fi_X6_3 dX6_isName_10 ?_
    intro v2
    refine x_nn (fun a3 e4 => ?_)
    subst e4
    refine x_getQ (pc := 13) fi_X6_80 dX6_isName_13 ?_
    intro v5
    refine x_nn (fun a6 e7 => ?_)
    subst e7
    refine x_callU (pc := 16) (As := [.ref a6]) (rest := []) (lev' := 10) si_X6_84 (m_D_find h this a6) (fun z e => grdN e) rfl rfl (by decide) (cat4 (Nat.le_of_ble_eq_true rfl)) dX6_isName_16 (kI (fun v9 h8 => ?_)) xNo
    refine x_iconst (pc := 19) (v := (-1)) (by decide) dX6_isName_19 ?_
    refine x_icmp_ne (pc := 20) 42 (by decide) dX6_isName_20 ?_ ?_
    · refine x_iconst (pc := 42) (v := 0) (by decide) dX6_isName_42 ?_
      exact x_zret (pc := 43) dX6_isName_43
    · refine x_aload_nR (pc := 23) (a := this) 0 rfl rfl dX6_isName_23 ?_
      refine x_aload_nR (pc := 24) (a := this) 0 rfl rfl dX6_isName_24 ?_
      refine x_getQ (pc := 25) fi_X6_3 dX6_isName_25 ?_
      intro v10
      refine x_nn (fun a11 e12 => ?_)
      subst e12
      refine x_getQ (pc := 28) fi_X6_88 dX6_isName_28 ?_
      intro v13
      refine x_nn (fun a14 e15 => ?_)
      subst e15
      refine x_callU (pc := 31) (As := [.ref a14]) (rest := []) (lev' := 10) si_X6_84 (m_D_find h8 this a14) (fun z e => grdN e) rfl rfl (by decide) (cat4 (Nat.le_of_ble_eq_true rfl)) dX6_isName_31 (kI (fun v17 h16 => ?_)) xNo
      refine x_iconst (pc := 34) (v := (-1)) (by decide) dX6_isName_34 ?_
      refine x_icmp_ne (pc := 35) 42 (by decide) dX6_isName_35 ?_ ?_
      · refine x_iconst (pc := 42) (v := 0) (by decide) dX6_isName_42 ?_
        exact x_zret (pc := 43) dX6_isName_43
      · refine x_iconst (pc := 38) (v := 1) (by decide) dX6_isName_38 ?_
        refine x_goto (pc := 39) 43 (by decide) dX6_isName_39 ?_
        exact x_zret (pc := 43) dX6_isName_43
abbrev Y_D_of : Yx := (RX6, cX6_of, 4, 1, (some .int), [], false)
def c_D_of_l2 (r2 : PH → Nat → Nat → Int32 → Int32 → Option RH) (h : PH) (this : Nat) (x1 : Nat) (x2 : Int32) (x3 : Int32) : Option RH :=
  if x2 ≤ x3 then
    rI (-1 : Int32) h
  else
    ldL h x1 x3 fun v1 =>
    gL h this [5, 6, 7] 6 fun v2 =>
    if (lg_cmp v1 v2) = 0 then
      rI x3 h
    else
      r2 h this x1 x2 (x3 + (1 : Int32))
def c_D_of (h : PH) (this : Nat) (x1 : Nat) (x2 : Int32) : Option RH :=
  grd h this [5, 6, 7] (
  itr (c_D_of_l2) (fun _ _ _ _ _ => none) FU h this x1 x2 (0 : Int32))
set_option maxHeartbeats 4000000 in
theorem w_D_of_l2 (r2 : PH → Nat → Nat → Int32 → Int32 → Option RH) (hr2 : ∀ (h : PH) (this : Nat) (x1 : Nat) (x2 : Int32) (x3 : Int32), Sim Y_D_of h 2 [(0, .ref this), (1, .ref x1), (2, .int x2), (3, .int x3)] [] (r2 h this x1 x2 x3)) (h : PH) (this : Nat) (x1 : Nat) (x2 : Int32) (x3 : Int32) : Sim Y_D_of h 2 [(0, .ref this), (1, .ref x1), (2, .int x2), (3, .int x3)] [] (c_D_of_l2 r2 h this x1 x2 x3) := by
  unfold c_D_of_l2
  refine x_iload_n (pc := 2) 3 rfl rfl dX6_of_2 ?_
  refine x_iload_n (pc := 3) 2 rfl rfl dX6_of_3 ?_
  refine x_icmp_ge (pc := 4) 26 (by decide) dX6_of_4 ?_ ?_
  · refine x_iconst (pc := 26) (v := (-1)) (by decide) dX6_of_26 ?_
    exact x_iret (pc := 27) dX6_of_27
  · refine x_aload_nR (pc := 7) (a := x1) 1 rfl rfl dX6_of_7 ?_
    refine x_iload_n (pc := 8) 3 rfl rfl dX6_of_8 ?_
    refine x_lald (pc := 9) dX6_of_9 ?_
    intro v1
    refine x_aload_nR (pc := 10) (a := this) 0 rfl rfl dX6_of_10 ?_
    refine x_getL (pc := 11) fi_X6_60 dX6_of_11 ?_
    intro v2
    refine x_lcmp (pc := 14) dX6_of_14 ?_
    refine x_if_ne (pc := 15) 20 (by decide) dX6_of_15 ?_ ?_
    · refine x_iinc (pc := 20) (v := (1 : Int32)) (lv' := [(3, .int (x3 + (1 : Int32))), (0, .ref this), (1, .ref x1), (2, .int x2)]) 3 rfl (by decide) (by decide) rfl dX6_of_20 ?_
      refine x_goto (pc := 23) 2 (by decide) dX6_of_23 ?_
      refine Sim.lv [1, 2, 3, 0] rfl ?_
      exact hr2 h this x1 x2 (x3 + (1 : Int32))
    · refine x_iload_n (pc := 18) 3 rfl rfl dX6_of_18 ?_
      exact x_iret (pc := 19) dX6_of_19
set_option maxHeartbeats 4000000 in
theorem v_D_of_l2 : ∀ (n : Nat) (h : PH) (this : Nat) (x1 : Nat) (x2 : Int32) (x3 : Int32), Sim Y_D_of h 2 [(0, .ref this), (1, .ref x1), (2, .int x2), (3, .int x3)] [] (itr (c_D_of_l2) (fun _ _ _ _ _ => none) n h this x1 x2 x3)
  | 0, h, this, x1, x2, x3 => Sim.none
  | n + 1, h, this, x1, x2, x3 => w_D_of_l2 _ (v_D_of_l2 n) h this x1 x2 x3
set_option maxHeartbeats 4000000 in
theorem m_D_of (h : PH) (this : Nat) (x1 : Nat) (x2 : Int32) : MM yX6_of (ws_ yX6_of cX6_of 4 (some .int)) 1 [.ref this, .ref x1, .int x2] h (c_D_of h this x1 x2) := by
  refine MM.of (by decide) rfl (by decide) (Nat.le_of_ble_eq_true rfl) (own := RX6) (cc := cX6_of) (maxL := 4) (lev := 1) (rt := (some .int)) (ini := false) ?_
  show Sim Y_D_of h 0 [(0, .ref this), (1, .ref x1), (2, .int x2)] [] _
  unfold c_D_of
  refine x_grd ?_
  refine x_iconst (pc := 0) (v := 0) (by decide) dX6_of_0 ?_
  refine x_istore_n (pc := 1) (lv' := [(3, .int (0 : Int32)), (0, .ref this), (1, .ref x1), (2, .int x2)]) rfl (by decide) rfl dX6_of_1 ?_
  refine Sim.lv [1, 2, 3, 0] rfl ?_
  exact v_D_of_l2 FU h this x1 x2 (0 : Int32)
abbrev Y_D_is_2 : Yx := (RX6, cX6_is_2, 2, 1, (some .boolean), [], false)
def c_D_is_2 (h : PH) (this : Nat) (x1 : Int32) : Option RH :=
  grd h this [5, 6, 7] (
  gI h this [5, 6, 7] 3 fun v1 =>
  if v1 = (3 : Int32) then
    gI h this [5, 6, 7] 4 fun v2 =>
    if v2 = x1 then
      rZ (1 : Int32) h
    else
      rZ (0 : Int32) h
  else
    rZ (0 : Int32) h)
set_option maxHeartbeats 4000000 in
theorem m_D_is_2 (h : PH) (this : Nat) (x1 : Int32) : MM yX6_is_2 (ws_ yX6_is_2 cX6_is_2 2 (some .boolean)) 1 [.ref this, .int x1] h (c_D_is_2 h this x1) := by
  refine MM.of (by decide) rfl (by decide) (Nat.le_of_ble_eq_true rfl) (own := RX6) (cc := cX6_is_2) (maxL := 2) (lev := 1) (rt := (some .boolean)) (ini := false) ?_
  show Sim Y_D_is_2 h 0 [(0, .ref this), (1, .int x1)] [] _
  unfold c_D_is_2
  refine x_grd ?_
  refine x_aload_nR (pc := 0) (a := this) 0 rfl rfl dX6_is_2_0 ?_
  refine x_getI (pc := 1) fi_X6_43 dX6_is_2_1 ?_
  intro v1
  refine x_iconst (pc := 4) (v := 3) (by decide) dX6_is_2_4 ?_
  refine x_icmp_ne (pc := 5) 20 (by decide) dX6_is_2_5 ?_ ?_
  · refine x_iconst (pc := 20) (v := 0) (by decide) dX6_is_2_20 ?_
    exact x_zret (pc := 21) dX6_is_2_21
  · refine x_aload_nR (pc := 8) (a := this) 0 rfl rfl dX6_is_2_8 ?_
    refine x_getI (pc := 9) fi_X6_57 dX6_is_2_9 ?_
    intro v2
    refine x_iload_n (pc := 12) 1 rfl rfl dX6_is_2_12 ?_
    refine x_icmp_ne (pc := 13) 20 (by decide) dX6_is_2_13 ?_ ?_
    · refine x_iconst (pc := 20) (v := 0) (by decide) dX6_is_2_20 ?_
      exact x_zret (pc := 21) dX6_is_2_21
    · refine x_iconst (pc := 16) (v := 1) (by decide) dX6_is_2_16 ?_
      refine x_goto (pc := 17) 21 (by decide) dX6_is_2_17 ?_
      exact x_zret (pc := 21) dX6_is_2_21
theorem si_X6_107 : SiU RX6 107 [5, 6, 7] ⟨RX6, "is", "(I)Z"⟩ yX6_is_2 cX6_is_2 2 (some .boolean) 1 := (siU_c (c := 5) (owner := "BitRopes$Reade\x72") rfl (by decide) ⟨q881, q883, (Or.inl q885), q882, q117, q887⟩ (Or.inl rfl) ⟨by decide, by decide, by decide +kernel⟩ (siU_c (c := 6) (owner := "BitRopes$Reade\x72") rfl (by decide) ⟨q881, q883, (Or.inl q884), q882, q117, q887⟩ (Or.inl rfl) ⟨by decide, by decide, by decide +kernel⟩ (siU_c (c := 7) (owner := "BitRopes$Reade\x72") rfl (by decide) ⟨q881, q883, (Or.inl q886), q882, q117, q887⟩ (Or.inl rfl) ⟨by decide, by decide, by decide +kernel⟩ (siU_n (by decide)))))
abbrev Y_D_sign : Yx := (RX6, cX6_sign, 2, 5, none, [], false)
def c_D_sign (h : PH) (this : Nat) (x1 : Int32) : Option RH :=
  grd h this [5, 6, 7] (
  hI (c_D_is_2 h this x1) noX fun v2 h1 =>
  hV (c_D_must h1 this v2 (1 : Int32)) rX fun h3 =>
  hV (c_D_next h3 this) noX fun h4 =>
  rV h4)
set_option maxHeartbeats 4000000 in
theorem m_D_sign (h : PH) (this : Nat) (x1 : Int32) : MM yX6_sign (ws_ yX6_sign cX6_sign 2 none) 5 [.ref this, .int x1] h (c_D_sign h this x1) := by
  refine MM.of (by decide) rfl (by decide) (Nat.le_of_ble_eq_true rfl) (own := RX6) (cc := cX6_sign) (maxL := 2) (lev := 5) (rt := none) (ini := false) ?_
  show Sim Y_D_sign h 0 [(0, .ref this), (1, .int x1)] [] _
  unfold c_D_sign
  refine x_grd ?_
  refine x_aload_nR (pc := 0) (a := this) 0 rfl rfl dX6_sign_0 ?_
  refine x_aload_nR (pc := 1) (a := this) 0 rfl rfl dX6_sign_1 ?_
  refine x_iload_n (pc := 2) 1 rfl rfl dX6_sign_2 ?_
  refine x_callU (pc := 3) (As := [.int x1]) (rest := [.ref this]) (lev' := 1) si_X6_107 (m_D_is_2 h this x1) (fun z e => grdN e) rfl rfl (by decide) (cat4 (Nat.le_of_ble_eq_true rfl)) dX6_sign_3 (kI (fun v2 h1 => ?_)) xNo
  refine x_iconst (pc := 6) (v := 1) (by decide) dX6_sign_6 ?_
  refine x_callU (pc := 7) (As := [.int v2, .int (1 : Int32)]) (rest := []) (lev' := 2) si_X6_109 (m_D_must h1 this v2 (1 : Int32)) (fun z e => grdN e) rfl rfl (by decide) (cat4 (Nat.le_of_ble_eq_true rfl)) dX6_sign_7 (kV (fun h3 => ?_)) (xOut (by decide))
  refine x_aload_nR (pc := 10) (a := this) 0 rfl rfl dX6_sign_10 ?_
  refine x_callU (pc := 11) (As := []) (rest := []) (lev' := 4) si_X6_22 (m_D_next h3 this) (fun z e => grdN e) rfl rfl (by decide) (cat4 (Nat.le_of_ble_eq_true rfl)) dX6_sign_11 (kV (fun h4 => ?_)) xNo
  exact x_vret (pc := 14) dX6_sign_14
theorem si_X6_113 : SiU RX6 113 [5, 6, 7] ⟨RX6, "isName", "()Z"⟩ yX6_isName cX6_isName 1 (some .boolean) 0 := (siU_c (c := 5) (owner := "BitRopes$Reade\x72") rfl (by decide) ⟨q1334, q2314, (Or.inl q2316), q721, q117, q722⟩ (Or.inl rfl) ⟨by decide, by decide, by decide +kernel⟩ (siU_c (c := 6) (owner := "BitRopes$Reade\x72") rfl (by decide) ⟨q1334, q2314, (Or.inl q2315), q721, q117, q722⟩ (Or.inl rfl) ⟨by decide, by decide, by decide +kernel⟩ (siU_c (c := 7) (owner := "BitRopes$Reade\x72") rfl (by decide) ⟨q1334, q2314, (Or.inl q2317), q721, q117, q722⟩ (Or.inl rfl) ⟨by decide, by decide, by decide +kernel⟩ (siU_n (by decide)))))
theorem si_X6_117 : SiU RX6 117 [5, 6, 7] ⟨RX6, "of", "([JI)I"⟩ yX6_of cX6_of 4 (some .int) 2 := (siU_c (c := 5) (owner := "BitRopes$Reade\x72") rfl (by decide) ⟨q1335, q2318, (Or.inl q2320), q728, q117, q729⟩ (Or.inl rfl) ⟨by decide, by decide, by decide +kernel⟩ (siU_c (c := 6) (owner := "BitRopes$Reade\x72") rfl (by decide) ⟨q1335, q2318, (Or.inl q2319), q728, q117, q729⟩ (Or.inl rfl) ⟨by decide, by decide, by decide +kernel⟩ (siU_c (c := 7) (owner := "BitRopes$Reade\x72") rfl (by decide) ⟨q1335, q2318, (Or.inl q2321), q728, q117, q729⟩ (Or.inl rfl) ⟨by decide, by decide, by decide +kernel⟩ (siU_n (by decide)))))
abbrev Y_D_look : Yx := (RX6, cX6_look, 4, 12, (some .int), [], false)
def c_D_look (h : PH) (this : Nat) (x1 : Nat) (x2 : Int32) : Option RH :=
  grd h this [5, 6, 7] (
  hI (c_D_isName h this) noX fun v2 h1 =>
  hV (c_D_must h1 this v2 (1 : Int32)) rX fun h3 =>
  hI (c_D_of h3 this x1 x2) noX fun v5 h4 =>
  if v5 = (-1 : Int32) then
    hV (c_D_must h4 this (0 : Int32) (3 : Int32)) rX fun h6 =>
    rI v5 h6
  else
    hV (c_D_must h4 this (1 : Int32) (3 : Int32)) rX fun h7 =>
    rI v5 h7)
set_option maxHeartbeats 4000000 in
theorem m_D_look (h : PH) (this : Nat) (x1 : Nat) (x2 : Int32) : MM yX6_look (ws_ yX6_look cX6_look 4 (some .int)) 12 [.ref this, .ref x1, .int x2] h (c_D_look h this x1 x2) := by
  refine MM.of (by decide) rfl (by decide) (Nat.le_of_ble_eq_true rfl) (own := RX6) (cc := cX6_look) (maxL := 4) (lev := 12) (rt := (some .int)) (ini := false) ?_
  show Sim Y_D_look h 0 [(0, .ref this), (1, .ref x1), (2, .int x2)] [] _
  unfold c_D_look
  refine x_grd ?_
  refine x_aload_nR (pc := 0) (a := this) 0 rfl rfl dX6_look_0 ?_
  refine x_aload_nR (pc := 1) (a := this) 0 rfl rfl dX6_look_1 ?_
  refine x_callU (pc := 2) (As := []) (rest := [.ref this]) (lev' := 11) si_X6_113 (m_D_isName h this) (fun z e => grdN e) rfl rfl (by decide) (cat4 (Nat.le_of_ble_eq_true rfl)) dX6_look_2 (kI (fun v2 h1 => ?_)) xNo
  refine x_iconst (pc := 5) (v := 1) (by decide) dX6_look_5 ?_
  refine x_callU (pc := 6) (As := [.int v2, .int (1 : Int32)]) (rest := []) (lev' := 2) si_X6_109 (m_D_must h1 this v2 (1 : Int32)) (fun z e => grdN e) rfl rfl (by decide) (cat4 (Nat.le_of_ble_eq_true rfl)) dX6_look_6 (kV (fun h3 => ?_)) (xOut (by decide))
  refine x_aload_nR (pc := 9) (a := this) 0 rfl rfl dX6_look_9 ?_
  refine x_aload_nR (pc := 10) (a := x1) 1 rfl rfl dX6_look_10 ?_
  refine x_iload_n (pc := 11) 2 rfl rfl dX6_look_11 ?_
  refine x_callU (pc := 12) (As := [.ref x1, .int x2]) (rest := []) (lev' := 1) si_X6_117 (m_D_of h3 this x1 x2) (fun z e => grdN e) rfl rfl (by decide) (cat4 (Nat.le_of_ble_eq_true rfl)) dX6_look_12 (kI (fun v5 h4 => ?_)) xNo
  refine x_istore_n (pc := 15) (lv' := [(3, .int v5), (0, .ref this), (1, .ref x1), (2, .int x2)]) rfl (by decide) rfl dX6_look_15 ?_
  refine x_aload_nR (pc := 16) (a := this) 1 rfl rfl dX6_look_16 ?_
  refine x_iload_n (pc := 17) 0 rfl rfl dX6_look_17 ?_
  refine x_iconst (pc := 18) (v := (-1)) (by decide) dX6_look_18 ?_
  refine x_icmp_eq (pc := 19) 26 (by decide) dX6_look_19 ?_ ?_
  · refine x_iconst (pc := 26) (v := 0) (by decide) dX6_look_26 ?_
    refine x_iconst (pc := 27) (v := 3) (by decide) dX6_look_27 ?_
    refine x_callU (pc := 28) (As := [.int (0 : Int32), .int (3 : Int32)]) (rest := []) (lev' := 2) si_X6_109 (m_D_must h4 this (0 : Int32) (3 : Int32)) (fun z e => grdN e) rfl rfl (by decide) (cat4 (Nat.le_of_ble_eq_true rfl)) dX6_look_28 (kV (fun h6 => ?_)) (xOut (by decide))
    refine x_iload_n (pc := 31) 0 rfl rfl dX6_look_31 ?_
    exact x_iret (pc := 32) dX6_look_32
  · refine x_iconst (pc := 22) (v := 1) (by decide) dX6_look_22 ?_
    refine x_goto (pc := 23) 27 (by decide) dX6_look_23 ?_
    refine x_iconst (pc := 27) (v := 3) (by decide) dX6_look_27 ?_
    refine x_callU (pc := 28) (As := [.int (1 : Int32), .int (3 : Int32)]) (rest := []) (lev' := 2) si_X6_109 (m_D_must h4 this (1 : Int32) (3 : Int32)) (fun z e => grdN e) rfl rfl (by decide) (cat4 (Nat.le_of_ble_eq_true rfl)) dX6_look_28 (kV (fun h7 => ?_)) (xOut (by decide))
    refine x_iload_n (pc := 31) 0 rfl rfl dX6_look_31 ?_
    exact x_iret (pc := 32) dX6_look_32
theorem si_X6_121 : SiU RX6 121 [5, 6, 7] ⟨RX6, "look", "([JI)I"⟩ yX6_look cX6_look 4 (some .int) 2 := (siU_c (c := 5) (owner := "BitRopes$Reade\x72") rfl (by decide) ⟨q1327, q1329, (Or.inl q1331), q1328, q117, q1333⟩ (Or.inl rfl) ⟨by decide, by decide, by decide +kernel⟩ (siU_c (c := 6) (owner := "BitRopes$Reade\x72") rfl (by decide) ⟨q1327, q1329, (Or.inl q1330), q1328, q117, q1333⟩ (Or.inl rfl) ⟨by decide, by decide, by decide +kernel⟩ (siU_c (c := 7) (owner := "BitRopes$Reade\x72") rfl (by decide) ⟨q1327, q1329, (Or.inl q1332), q1328, q117, q1333⟩ (Or.inl rfl) ⟨by decide, by decide, by decide +kernel⟩ (siU_n (by decide)))))
abbrev Y_D_known : Yx := (RX6, cX6_known, 4, 13, (some .int), [], false)
def c_D_known (h : PH) (this : Nat) (x1 : Nat) (x2 : Int32) : Option RH :=
  grd h this [5, 6, 7] (
  hI (c_D_look h this x1 x2) rX fun v2 h1 =>
  hV (c_D_next h1 this) noX fun h3 =>
  rI v2 h3)
set_option maxHeartbeats 4000000 in
theorem m_D_known (h : PH) (this : Nat) (x1 : Nat) (x2 : Int32) : MM yX6_known (ws_ yX6_known cX6_known 4 (some .int)) 13 [.ref this, .ref x1, .int x2] h (c_D_known h this x1 x2) := by
  refine MM.of (by decide) rfl (by decide) (Nat.le_of_ble_eq_true rfl) (own := RX6) (cc := cX6_known) (maxL := 4) (lev := 13) (rt := (some .int)) (ini := false) ?_
  show Sim Y_D_known h 0 [(0, .ref this), (1, .ref x1), (2, .int x2)] [] _
  unfold c_D_known
  refine x_grd ?_
  refine x_aload_nR (pc := 0) (a := this) 0 rfl rfl dX6_known_0 ?_
  refine x_aload_nR (pc := 1) (a := x1) 1 rfl rfl dX6_known_1 ?_
  refine x_iload_n (pc := 2) 2 rfl rfl dX6_known_2 ?_
  refine x_callU (pc := 3) (As := [.ref x1, .int x2]) (rest := []) (lev' := 12) si_X6_121 (m_D_look h this x1 x2) (fun z e => grdN e) rfl rfl (by decide) (cat4 (Nat.le_of_ble_eq_true rfl)) dX6_known_3 (kI (fun v2 h1 => ?_)) (xOut (by decide))
  refine x_istore_n (pc := 6) (lv' := [(3, .int v2), (0, .ref this), (1, .ref x1), (2, .int x2)]) rfl (by decide) rfl dX6_known_6 ?_
  refine x_aload_nR (pc := 7) (a := this) 1 rfl rfl dX6_known_7 ?_
  refine x_callU (pc := 8) (As := []) (rest := []) (lev' := 4) si_X6_22 (m_D_next h1 this) (fun z e => grdN e) rfl rfl (by decide) (cat4 (Nat.le_of_ble_eq_true rfl)) dX6_known_8 (kV (fun h3 => ?_)) xNo
  refine x_iload_n (pc := 11) 0 rfl rfl dX6_known_11 ?_
  exact x_iret (pc := 12) dX6_known_12
theorem fi_X7_3 : FI RX7 3 [5] 11 (.object "BitRopes") true true := (fi_c ci_5 (by decide) rfl rfl (Or.inl q350) (Or.inl rfl) (fun _ _ => rfl) fi_n)
theorem si_X7_9 : SiI RX7 9 yX6_init cX6_init 3 2 := ⟨q345, q117, q343, q344, rfl, ⟨by decide, by decide, by decide +kernel⟩, by decide⟩
abbrev Y_DR_init : Yx := (RX7, cX7_init, 2, 2, none, [], true)
def c_DR_init (h : PH) (this : Nat) (x1 : Nat) : Option RH :=
  grd h this [5] (
  pQ h this [5] 11 (some x1) fun h1 =>
  hV (c_D_init h1 this x1 (900 : Int32)) noX fun h2 =>
  rV h2)
set_option maxHeartbeats 4000000 in
theorem m_DR_init (h : PH) (this : Nat) (x1 : Nat) : MM yX7_init (ws_ yX7_init cX7_init 2 none) 2 [.ref this, .ref x1] h (c_DR_init h this x1) := by
  refine MM.of (by decide) rfl (by decide) (Nat.le_of_ble_eq_true rfl) (own := RX7) (cc := cX7_init) (maxL := 2) (lev := 2) (rt := none) (ini := true) ?_
  show Sim Y_DR_init h 0 [(0, .ref this), (1, .ref x1)] [] _
  unfold c_DR_init
  refine x_grd ?_
  refine x_aload_nR (pc := 0) (a := this) 0 rfl rfl dX7_init_0 ?_
  refine x_aload_nR (pc := 1) (a := x1) 1 rfl rfl dX7_init_1 ?_
  refine x_pQ (pc := 2) (v := (some x1)) fi_X7_3 (fun _ => rfl) dX7_init_2 ?_
  intro h1
  refine x_aload_nR (pc := 5) (a := this) 0 rfl rfl dX7_init_5 ?_
  refine x_aload_nR (pc := 6) (a := x1) 1 rfl rfl dX7_init_6 ?_
  refine x_sipush (pc := 7) (v := 900) (by decide) dX7_init_7 ?_
  refine x_callI (pc := 10) (As := [.ref x1, .int (900 : Int32)]) (rest := []) (lev' := 1) si_X7_9 (m_D_init h1 this x1 (900 : Int32)) rfl rfl (by decide) (cat4 (Nat.le_of_ble_eq_true rfl)) dX7_init_10 (kV (fun h2 => ?_)) xNo
  exact x_vret (pc := 13) dX7_init_13
theorem fi_X7_85 : FI RX7 85 [5] 5 .int false true := (fi_c ci_5 (by decide) rfl rfl (Or.inl q366) (Or.inr q367) (fun h => absurd h (by decide)) fi_n)
theorem fi_X7_88 : FI RX7 88 [0] 0 (.array .byte) true false := (fi_c ci_0 (by decide) rfl rfl (Or.inr ⟨_, q496⟩) (Or.inl rfl) (fun _ h => absurd h (by decide)) fi_n)
theorem fi_X7_92 : FI RX7 92 [5] 2 .int false true := (fi_c ci_5 (by decide) rfl rfl (Or.inl q353) (Or.inr q354) (fun h => absurd h (by decide)) fi_n)
theorem si_X7_99 : SiSN RX7 99 "BitRopes" yX1_isIn cX1_isIn 3 (some .boolean) 3 := ⟨q614, q110, q734, q613, ⟨by decide, by decide, by decide +kernel⟩, by decide⟩
abbrev Y_DR_isOf : Yx := (RX7, cX7_isOf, 5, 2, (some .boolean), [], false)
def c_DR_isOf_l3 (r3 : PH → Nat → Int32 → Int32 → Int32 → Int32 → Option RH) (h : PH) (this : Nat) (x1 : Int32) (x2 : Int32) (x3 : Int32) (x4 : Int32) : Option RH :=
  gI h this [5] 5 fun v1 =>
  if v1 ≤ x4 then
    rZ (1 : Int32) h
  else
    gQ h this [5] 11 fun v2 =>
    nn v2 fun a3 =>
    gQ h a3 [0] 0 fun v5 =>
    gI h this [5] 2 fun v6 =>
    nn v5 fun a7 =>
    ldI h a7 2 (v6 + x4) fun v9 =>
    hI (c_B_isIn h v9 x1 x2) noX fun v11 h10 =>
    if v11 = 0 then
      gQ h10 this [5] 11 fun v12 =>
      nn v12 fun a13 =>
      gQ h10 a13 [0] 0 fun v15 =>
      gI h10 this [5] 2 fun v16 =>
      nn v15 fun a17 =>
      ldI h10 a17 2 (v16 + x4) fun v19 =>
      if v19 = x3 then
        r3 h10 this x1 x2 x3 (x4 + (1 : Int32))
      else
        rZ (0 : Int32) h10
    else
      r3 h10 this x1 x2 x3 (x4 + (1 : Int32))
def c_DR_isOf (h : PH) (this : Nat) (x1 : Int32) (x2 : Int32) (x3 : Int32) : Option RH :=
  grd h this [5] (
  itr (c_DR_isOf_l3) (fun _ _ _ _ _ _ => none) FU h this x1 x2 x3 (0 : Int32))
set_option maxHeartbeats 4000000 in
theorem w_DR_isOf_l3 (r3 : PH → Nat → Int32 → Int32 → Int32 → Int32 → Option RH) (hr3 : ∀ (h : PH) (this : Nat) (x1 : Int32) (x2 : Int32) (x3 : Int32) (x4 : Int32), Sim Y_DR_isOf h 3 [(0, .ref this), (1, .int x1), (2, .int x2), (3, .int x3), (4, .int x4)] [] (r3 h this x1 x2 x3 x4)) (h : PH) (this : Nat) (x1 : Int32) (x2 : Int32) (x3 : Int32) (x4 : Int32) : Sim Y_DR_isOf h 3 [(0, .ref this), (1, .int x1), (2, .int x2), (3, .int x3), (4, .int x4)] [] (c_DR_isOf_l3 r3 h this x1 x2 x3 x4) := by
  unfold c_DR_isOf_l3
  refine x_iload (pc := 3) 4 rfl dX7_isOf_3 ?_
  refine x_aload_nR (pc := 5) (a := this) 0 rfl rfl dX7_isOf_5 ?_
  refine x_getI (pc := 6) fi_X7_85 dX7_isOf_6 ?_
  intro v1
  refine x_icmp_ge (pc := 9) 62 (by decide) dX7_isOf_9 ?_ ?_
  · refine x_iconst (pc := 62) (v := 1) (by decide) dX7_isOf_62 ?_
    exact x_zret (pc := 63) dX7_isOf_63
  · refine x_aload_nR (pc := 12) (a := this) 0 rfl rfl dX7_isOf_12 ?_
    refine x_getQ (pc := 13) fi_X7_3 dX7_isOf_13 ?_
    intro v2
    refine x_nn (fun a3 e4 => ?_)
    subst e4
    refine x_getQ (pc := 16) fi_X7_88 dX7_isOf_16 ?_
    intro v5
    refine x_aload_nR (pc := 19) (a := this) 0 rfl rfl dX7_isOf_19 ?_
    refine x_getI (pc := 20) fi_X7_92 dX7_isOf_20 ?_
    intro v6
    refine x_iload (pc := 23) 4 rfl dX7_isOf_23 ?_
    refine x_iadd (pc := 25) dX7_isOf_25 ?_
    refine x_nn (fun a7 e8 => ?_)
    subst e8
    refine x_bald (pc := 26) dX7_isOf_26 ?_
    intro v9
    refine x_iload_n (pc := 27) 1 rfl rfl dX7_isOf_27 ?_
    refine x_iload_n (pc := 28) 2 rfl rfl dX7_isOf_28 ?_
    refine x_callSN (pc := 29) (As := [.int v9, .int x1, .int x2]) (rest := []) (lev' := 1) si_X7_99 (m_B_isIn h v9 x1 x2) rfl rfl (by decide) (cat4 (Nat.le_of_ble_eq_true rfl)) dX7_isOf_29 (kI (fun v11 h10 => ?_)) xNo
    refine x_if_ne (pc := 32) 56 (by decide) dX7_isOf_32 ?_ ?_
    · refine x_iinc (pc := 56) (v := (1 : Int32)) (lv' := [(4, .int (x4 + (1 : Int32))), (0, .ref this), (1, .int x1), (2, .int x2), (3, .int x3)]) 4 rfl (by decide) (by decide) rfl dX7_isOf_56 ?_
      refine x_goto (pc := 59) 3 (by decide) dX7_isOf_59 ?_
      refine Sim.lv [1, 2, 3, 4, 0] rfl ?_
      exact hr3 h10 this x1 x2 x3 (x4 + (1 : Int32))
    · refine x_aload_nR (pc := 35) (a := this) 0 rfl rfl dX7_isOf_35 ?_
      refine x_getQ (pc := 36) fi_X7_3 dX7_isOf_36 ?_
      intro v12
      refine x_nn (fun a13 e14 => ?_)
      subst e14
      refine x_getQ (pc := 39) fi_X7_88 dX7_isOf_39 ?_
      intro v15
      refine x_aload_nR (pc := 42) (a := this) 0 rfl rfl dX7_isOf_42 ?_
      refine x_getI (pc := 43) fi_X7_92 dX7_isOf_43 ?_
      intro v16
      refine x_iload (pc := 46) 4 rfl dX7_isOf_46 ?_
      refine x_iadd (pc := 48) dX7_isOf_48 ?_
      refine x_nn (fun a17 e18 => ?_)
      subst e18
      refine x_bald (pc := 49) dX7_isOf_49 ?_
      intro v19
      refine x_iload_n (pc := 50) 3 rfl rfl dX7_isOf_50 ?_
      refine x_icmp_eq (pc := 51) 56 (by decide) dX7_isOf_51 ?_ ?_
      · refine x_iinc (pc := 56) (v := (1 : Int32)) (lv' := [(4, .int (x4 + (1 : Int32))), (0, .ref this), (1, .int x1), (2, .int x2), (3, .int x3)]) 4 rfl (by decide) (by decide) rfl dX7_isOf_56 ?_
        refine x_goto (pc := 59) 3 (by decide) dX7_isOf_59 ?_
        refine Sim.lv [1, 2, 3, 4, 0] rfl ?_
        exact hr3 h10 this x1 x2 x3 (x4 + (1 : Int32))
      · refine x_iconst (pc := 54) (v := 0) (by decide) dX7_isOf_54 ?_
        exact x_zret (pc := 55) dX7_isOf_55
set_option maxHeartbeats 4000000 in
theorem v_DR_isOf_l3 : ∀ (n : Nat) (h : PH) (this : Nat) (x1 : Int32) (x2 : Int32) (x3 : Int32) (x4 : Int32), Sim Y_DR_isOf h 3 [(0, .ref this), (1, .int x1), (2, .int x2), (3, .int x3), (4, .int x4)] [] (itr (c_DR_isOf_l3) (fun _ _ _ _ _ _ => none) n h this x1 x2 x3 x4)
  | 0, h, this, x1, x2, x3, x4 => Sim.none
  | n + 1, h, this, x1, x2, x3, x4 => w_DR_isOf_l3 _ (v_DR_isOf_l3 n) h this x1 x2 x3 x4
set_option maxHeartbeats 4000000 in
theorem m_DR_isOf (h : PH) (this : Nat) (x1 : Int32) (x2 : Int32) (x3 : Int32) : MM yX7_isOf (ws_ yX7_isOf cX7_isOf 5 (some .boolean)) 2 [.ref this, .int x1, .int x2, .int x3] h (c_DR_isOf h this x1 x2 x3) := by
  refine MM.of (by decide) rfl (by decide) (Nat.le_of_ble_eq_true rfl) (own := RX7) (cc := cX7_isOf) (maxL := 5) (lev := 2) (rt := (some .boolean)) (ini := false) ?_
  show Sim Y_DR_isOf h 0 [(0, .ref this), (1, .int x1), (2, .int x2), (3, .int x3)] [] _
  unfold c_DR_isOf
  refine x_grd ?_
  refine x_iconst (pc := 0) (v := 0) (by decide) dX7_isOf_0 ?_
  refine x_istore (pc := 1) (lv' := [(4, .int (0 : Int32)), (0, .ref this), (1, .int x1), (2, .int x2), (3, .int x3)]) (by decide) rfl dX7_isOf_1 ?_
  refine Sim.lv [1, 2, 3, 4, 0] rfl ?_
  exact v_DR_isOf_l3 FU h this x1 x2 x3 (0 : Int32)
