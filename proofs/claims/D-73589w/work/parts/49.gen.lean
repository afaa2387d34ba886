set_option maxRecDepth 100000
abbrev Y_M_paste : Yx := (RX10, cX10_paste, 6, 4, (some .int), [], false)
def c_M_paste_l54 (r54 : PH → Nat → Int32 → Int32 → Int32 → Int32 → Option RH) (h : PH) (this : Nat) (x1 : Int32) (x2 : Int32) (x3 : Int32) (x5 : Int32) : Option RH :=
  if x3 ≤ x5 then
    rI (0 : Int32) h
  else
    gQ h this [8] 1 fun v1 =>
    nn v1 fun a2 =>
    ldI h a2 0 x5 fun v4 =>
    hV (c_M_putBit h this x1 (x2 + x5) v4) noX fun h5 =>
    r54 h5 this x1 x2 x3 (x5 + (1 : Int32))
def c_M_paste (h : PH) (this : Nat) (x1 : Int32) (x2 : Int32) : Option RH :=
  grd h this [8] (
  pI h this [8] 0 (0 : Int32) fun h1 =>
  hI (c_M_take h1 this) noX fun v3 h2 =>
  hI (c_M_isRow h2 this x1) noX fun v5 h4 =>
  if v5 = 0 then
    rI (-1 : Int32) h4
  else
    hI (c_M_areTapeBits h4 this v3 (64 : Int32)) noX fun v7 h6 =>
    if v7 = 0 then
      rI (-1 : Int32) h6
    else
      hI (c_M_whyPut h6 this x1 x2 v3) noX fun v9 h8 =>
      if v9 = 0 then
        hV (c_M_snap h8 this) noX fun h10 =>
        itr (c_M_paste_l54) (fun _ _ _ _ _ _ => none) FU h10 this x1 x2 v3 (0 : Int32)
      else
        rI v9 h8)
set_option maxHeartbeats 4000000 in
theorem w_M_paste_l54 (r54 : PH → Nat → Int32 → Int32 → Int32 → Int32 → Option RH) (hr54 : ∀ (h : PH) (this : Nat) (x1 : Int32) (x2 : Int32) (x3 : Int32) (x5 : Int32), Sim Y_M_paste h 54 [(0, .ref this), (1, .int x1), (2, .int x2), (3, .int x3), (5, .int x5)] [] (r54 h this x1 x2 x3 x5)) (h : PH) (this : Nat) (x1 : Int32) (x2 : Int32) (x3 : Int32) (x5 : Int32) : Sim Y_M_paste h 54 [(0, .ref this), (1, .int x1), (2, .int x2), (3, .int x3), (5, .int x5)] [] (c_M_paste_l54 r54 h this x1 x2 x3 x5) := by
  unfold c_M_paste_l54
  refine x_iload (pc := 54) 4 rfl dX10_paste_54 ?_
  refine x_iload_n (pc := 56) 3 rfl rfl dX10_paste_56 ?_
  refine x_icmp_ge (pc := 57) 82 (by decide) dX10_paste_57 ?_ ?_
  · refine x_iconst (pc := 82) (v := 0) (by decide) dX10_paste_82 ?_
    exact x_iret (pc := 83) dX10_paste_83
  · refine x_aload_nR (pc := 60) (a := this) 0 rfl rfl dX10_paste_60 ?_
    refine x_iload_n (pc := 61) 1 rfl rfl dX10_paste_61 ?_
    refine x_iload_n (pc := 62) 2 rfl rfl dX10_paste_62 ?_
    refine x_iload (pc := 63) 4 rfl dX10_paste_63 ?_
    refine x_iadd (pc := 65) dX10_paste_65 ?_
    refine x_aload_nR (pc := 66) (a := this) 0 rfl rfl dX10_paste_66 ?_
    refine x_getQ (pc := 67) fi_X10_7 dX10_paste_67 ?_
    intro v1
    refine x_iload (pc := 70) 4 rfl dX10_paste_70 ?_
    refine x_nn (fun a2 e3 => ?_)
    subst e3
    refine x_iald (pc := 72) dX10_paste_72 ?_
    intro v4
    refine x_callV (pc := 73) (As := [.int x1, .int (x2 + x5), .int v4]) (rest := []) (lev' := 3) si_X10_142 (m_M_putBit h this x1 (x2 + x5) v4) (fun z e => grd1 e) rfl rfl (by decide) (cat4 (Nat.le_of_ble_eq_true rfl)) dX10_paste_73 (kV (fun h5 => ?_)) xNo
    refine x_iinc (pc := 76) (v := (1 : Int32)) (lv' := [(5, .int (x5 + (1 : Int32))), (0, .ref this), (1, .int x1), (2, .int x2), (3, .int x3)]) 4 rfl (by decide) (by decide) rfl dX10_paste_76 ?_
    refine x_goto (pc := 79) 54 (by decide) dX10_paste_79 ?_
    refine Sim.lv [1, 2, 3, 4, 0] rfl ?_
    exact hr54 h5 this x1 x2 x3 (x5 + (1 : Int32))
set_option maxHeartbeats 4000000 in
theorem v_M_paste_l54 : ∀ (n : Nat) (h : PH) (this : Nat) (x1 : Int32) (x2 : Int32) (x3 : Int32) (x5 : Int32), Sim Y_M_paste h 54 [(0, .ref this), (1, .int x1), (2, .int x2), (3, .int x3), (5, .int x5)] [] (itr (c_M_paste_l54) (fun _ _ _ _ _ _ => none) n h this x1 x2 x3 x5)
  | 0, h, this, x1, x2, x3, x5 => Sim.none
  | n + 1, h, this, x1, x2, x3, x5 => w_M_paste_l54 _ (v_M_paste_l54 n) h this x1 x2 x3 x5
set_option maxHeartbeats 4000000 in
theorem m_M_paste (h : PH) (this : Nat) (x1 : Int32) (x2 : Int32) : MM yX10_paste (ws_ yX10_paste cX10_paste 6 (some .int)) 4 [.ref this, .int x1, .int x2] h (c_M_paste h this x1 x2) := by
  refine MM.of (by decide) rfl (by decide) (Nat.le_of_ble_eq_true rfl) (own := RX10) (cc := cX10_paste) (maxL := 6) (lev := 4) (rt := (some .int)) (ini := false) ?_
  show Sim Y_M_paste h 0 [(0, .ref this), (1, .int x1), (2, .int x2)] [] _
  unfold c_M_paste
  refine x_grd ?_
  refine x_aload_nR (pc := 0) (a := this) 0 rfl rfl dX10_paste_0 ?_
  refine x_iconst (pc := 1) (v := 0) (by decide) dX10_paste_1 ?_
  refine x_pI (pc := 2) fi_X10_1 (fun z => absurd z (by decide)) dX10_paste_2 ?_
  intro h1
  refine x_aload_nR (pc := 5) (a := this) 0 rfl rfl dX10_paste_5 ?_
  refine x_callV (pc := 6) (As := []) (rest := []) (lev' := 1) si_X10_89 (m_M_take h1 this) (fun z e => grd1 e) rfl rfl (by decide) (cat4 (Nat.le_of_ble_eq_true rfl)) dX10_paste_6 (kI (fun v3 h2 => ?_)) xNo
  refine x_istore_n (pc := 9) (lv' := [(3, .int v3), (0, .ref this), (1, .int x1), (2, .int x2)]) rfl (by decide) rfl dX10_paste_9 ?_
  refine x_aload_nR (pc := 10) (a := this) 1 rfl rfl dX10_paste_10 ?_
  refine x_iload_n (pc := 11) 2 rfl rfl dX10_paste_11 ?_
  refine x_callV (pc := 12) (As := [.int x1]) (rest := []) (lev' := 2) si_X10_215 (m_M_isRow h2 this x1) (fun z e => grd1 e) rfl rfl (by decide) (cat4 (Nat.le_of_ble_eq_true rfl)) dX10_paste_12 (kI (fun v5 h4 => ?_)) xNo
  refine x_if_eq (pc := 15) 28 (by decide) dX10_paste_15 ?_ ?_
  · refine x_iconst (pc := 28) (v := (-1)) (by decide) dX10_paste_28 ?_
    exact x_iret (pc := 29) dX10_paste_29
  · refine x_aload_nR (pc := 18) (a := this) 1 rfl rfl dX10_paste_18 ?_
    refine x_iload_n (pc := 19) 0 rfl rfl dX10_paste_19 ?_
    refine x_bipush (pc := 20) (v := 64) (by decide) dX10_paste_20 ?_
    refine x_callV (pc := 22) (As := [.int v3, .int (64 : Int32)]) (rest := []) (lev' := 2) si_X10_273 (m_M_areTapeBits h4 this v3 (64 : Int32)) (fun z e => grd1 e) rfl rfl (by decide) (cat4 (Nat.le_of_ble_eq_true rfl)) dX10_paste_22 (kI (fun v7 h6 => ?_)) xNo
    refine x_if_ne (pc := 25) 30 (by decide) dX10_paste_25 ?_ ?_
    · refine x_aload_nR (pc := 30) (a := this) 1 rfl rfl dX10_paste_30 ?_
      refine x_iload_n (pc := 31) 2 rfl rfl dX10_paste_31 ?_
      refine x_iload_n (pc := 32) 3 rfl rfl dX10_paste_32 ?_
      refine x_iload_n (pc := 33) 0 rfl rfl dX10_paste_33 ?_
      refine x_callV (pc := 34) (As := [.int x1, .int x2, .int v3]) (rest := []) (lev' := 2) si_X10_292 (m_M_whyPut h6 this x1 x2 v3) (fun z e => grd1 e) rfl rfl (by decide) (cat4 (Nat.le_of_ble_eq_true rfl)) dX10_paste_34 (kI (fun v9 h8 => ?_)) xNo
      refine x_istore (pc := 37) (lv' := [(4, .int v9), (3, .int v3), (0, .ref this), (1, .int x1), (2, .int x2)]) (by decide) rfl dX10_paste_37 ?_
      refine x_iload (pc := 39) 0 rfl dX10_paste_39 ?_
      refine x_if_eq (pc := 41) 47 (by decide) dX10_paste_41 ?_ ?_
      · refine x_aload_nR (pc := 47) (a := this) 2 rfl rfl dX10_paste_47 ?_
        refine x_callV (pc := 48) (As := []) (rest := []) (lev' := 2) si_X10_308 (m_M_snap h8 this) (fun z e => grd1 e) rfl rfl (by decide) (cat4 (Nat.le_of_ble_eq_true rfl)) dX10_paste_48 (kV (fun h10 => ?_)) xNo
        refine x_iconst (pc := 51) (v := 0) (by decide) dX10_paste_51 ?_
        refine x_istore (pc := 52) (lv' := [(5, .int (0 : Int32)), (4, .int v9), (3, .int v3), (0, .ref this), (1, .int x1), (2, .int x2)]) (by decide) rfl dX10_paste_52 ?_
        refine Sim.lv [3, 4, 5, 2, 0] rfl ?_
        exact v_M_paste_l54 FU h10 this x1 x2 v3 (0 : Int32)
      · refine x_iload (pc := 44) 0 rfl dX10_paste_44 ?_
        exact x_iret (pc := 46) dX10_paste_46
    · refine x_iconst (pc := 28) (v := (-1)) (by decide) dX10_paste_28 ?_
      exact x_iret (pc := 29) dX10_paste_29
abbrev Y_M_areTwo : Yx := (RX10, cX10_areTwo, 3, 3, (some .boolean), [], false)
def c_M_areTwo (h : PH) (this : Nat) (x1 : Int32) (x2 : Int32) : Option RH :=
  grd h this [8] (
  hI (c_M_isRow h this x1) noX fun v2 h1 =>
  if v2 = 0 then
    rZ (0 : Int32) h1
  else
    hI (c_M_isRow h1 this x2) noX fun v4 h3 =>
    if v4 = 0 then
      rZ (0 : Int32) h3
    else
      if x1 = x2 then
        rZ (0 : Int32) h3
      else
        rZ (1 : Int32) h3)
set_option maxHeartbeats 4000000 in
theorem m_M_areTwo (h : PH) (this : Nat) (x1 : Int32) (x2 : Int32) : MM yX10_areTwo (ws_ yX10_areTwo cX10_areTwo 3 (some .boolean)) 3 [.ref this, .int x1, .int x2] h (c_M_areTwo h this x1 x2) := by
  refine MM.of (by decide) rfl (by decide) (Nat.le_of_ble_eq_true rfl) (own := RX10) (cc := cX10_areTwo) (maxL := 3) (lev := 3) (rt := (some .boolean)) (ini := false) ?_
  show Sim Y_M_areTwo h 0 [(0, .ref this), (1, .int x1), (2, .int x2)] [] _
  unfold c_M_areTwo
  refine x_grd ?_
  refine x_aload_nR (pc := 0) (a := this) 0 rfl rfl dX10_areTwo_0 ?_
  refine x_iload_n (pc := 1) 1 rfl rfl dX10_areTwo_1 ?_
  refine x_callV (pc := 2) (As := [.int x1]) (rest := []) (lev' := 2) si_X10_215 (m_M_isRow h this x1) (fun z e => grd1 e) rfl rfl (by decide) (cat4 (Nat.le_of_ble_eq_true rfl)) dX10_areTwo_2 (kI (fun v2 h1 => ?_)) xNo
  refine x_if_eq (pc := 5) 25 (by decide) dX10_areTwo_5 ?_ ?_
  · refine x_iconst (pc := 25) (v := 0) (by decide) dX10_areTwo_25 ?_
    exact x_zret (pc := 26) dX10_areTwo_26
  · refine x_aload_nR (pc := 8) (a := this) 0 rfl rfl dX10_areTwo_8 ?_
    refine x_iload_n (pc := 9) 2 rfl rfl dX10_areTwo_9 ?_
    refine x_callV (pc := 10) (As := [.int x2]) (rest := []) (lev' := 2) si_X10_215 (m_M_isRow h1 this x2) (fun z e => grd1 e) rfl rfl (by decide) (cat4 (Nat.le_of_ble_eq_true rfl)) dX10_areTwo_10 (kI (fun v4 h3 => ?_)) xNo
    refine x_if_eq (pc := 13) 25 (by decide) dX10_areTwo_13 ?_ ?_
    · refine x_iconst (pc := 25) (v := 0) (by decide) dX10_areTwo_25 ?_
      exact x_zret (pc := 26) dX10_areTwo_26
    · refine x_iload_n (pc := 16) 1 rfl rfl dX10_areTwo_16 ?_
      refine x_iload_n (pc := 17) 2 rfl rfl dX10_areTwo_17 ?_
      refine x_icmp_eq (pc := 18) 25 (by decide) dX10_areTwo_18 ?_ ?_
      · refine x_iconst (pc := 25) (v := 0) (by decide) dX10_areTwo_25 ?_
        exact x_zret (pc := 26) dX10_areTwo_26
      · refine x_iconst (pc := 21) (v := 1) (by decide) dX10_areTwo_21 ?_
        refine x_goto (pc := 22) 26 (by decide) dX10_areTwo_22 ?_
        exact x_zret (pc := 26) dX10_areTwo_26
theorem si_X10_319 : SiV RX10 319 8 yX10_areTwo cX10_areTwo 3 (some .boolean) 2 := ⟨_, _, _, ci_8.1, by decide, lw_V q2160 q2162 qs86 q121 q2163, ⟨rfl, by decide, by decide, by decide +kernel⟩, by decide⟩
abbrev Y_M_join : Yx := (RX10, cX10_join, 3, 8, (some .int), [], false)
def c_M_join (h : PH) (this : Nat) (x1 : Int32) (x2 : Int32) : Option RH :=
  grd h this [8] (
  pI h this [8] 0 (0 : Int32) fun h1 =>
  hI (c_M_areTwo h1 this x1 x2) noX fun v3 h2 =>
  hI (c_M_act h2 this (4 : Int32) x1 (0 : Int32) x2 v3) noX fun v5 h4 =>
  rI v5 h4)
set_option maxHeartbeats 4000000 in
theorem m_M_join (h : PH) (this : Nat) (x1 : Int32) (x2 : Int32) : MM yX10_join (ws_ yX10_join cX10_join 3 (some .int)) 8 [.ref this, .int x1, .int x2] h (c_M_join h this x1 x2) := by
  refine MM.of (by decide) rfl (by decide) (Nat.le_of_ble_eq_true rfl) (own := RX10) (cc := cX10_join) (maxL := 3) (lev := 8) (rt := (some .int)) (ini := false) ?_
  show Sim Y_M_join h 0 [(0, .ref this), (1, .int x1), (2, .int x2)] [] _
  unfold c_M_join
  refine x_grd ?_
  refine x_aload_nR (pc := 0) (a := this) 0 rfl rfl dX10_join_0 ?_
  refine x_iconst (pc := 1) (v := 0) (by decide) dX10_join_1 ?_
  refine x_pI (pc := 2) fi_X10_1 (fun z => absurd z (by decide)) dX10_join_2 ?_
  intro h1
  refine x_aload_nR (pc := 5) (a := this) 0 rfl rfl dX10_join_5 ?_
  refine x_iconst (pc := 6) (v := 4) (by decide) dX10_join_6 ?_
  refine x_iload_n (pc := 7) 1 rfl rfl dX10_join_7 ?_
  refine x_iconst (pc := 8) (v := 0) (by decide) dX10_join_8 ?_
  refine x_iload_n (pc := 9) 2 rfl rfl dX10_join_9 ?_
  refine x_aload_nR (pc := 10) (a := this) 0 rfl rfl dX10_join_10 ?_
  refine x_iload_n (pc := 11) 1 rfl rfl dX10_join_11 ?_
  refine x_iload_n (pc := 12) 2 rfl rfl dX10_join_12 ?_
  refine x_callV (pc := 13) (As := [.int x1, .int x2]) (rest := [.int x2, .int (0 : Int32), .int x1, .int (4 : Int32), .ref this]) (lev' := 3) si_X10_319 (m_M_areTwo h1 this x1 x2) (fun z e => grd1 e) rfl rfl (by decide) (Nat.le_of_ble_eq_true rfl) dX10_join_13 (kI (fun v3 h2 => ?_)) xNo
  refine x_callV (pc := 16) (As := [.int (4 : Int32), .int x1, .int (0 : Int32), .int x2, .int v3]) (rest := []) (lev' := 7) si_X10_315 (m_M_act h2 this (4 : Int32) x1 (0 : Int32) x2 v3) (fun z e => grd1 e) rfl rfl (by decide) (cat4 (Nat.le_of_ble_eq_true rfl)) dX10_join_16 (kI (fun v5 h4 => ?_)) xNo
  exact x_iret (pc := 19) dX10_join_19
abbrev Y_M_split : Yx := (RX10, cX10_split, 4, 8, (some .int), [], false)
def c_M_split (h : PH) (this : Nat) (x1 : Int32) (x2 : Int32) (x3 : Int32) : Option RH :=
  grd h this [8] (
  pI h this [8] 0 (0 : Int32) fun h1 =>
  hI (c_M_areTwo h1 this x1 x3) noX fun v3 h2 =>
  hI (c_M_act h2 this (5 : Int32) x1 x2 x3 v3) noX fun v5 h4 =>
  rI v5 h4)
set_option maxHeartbeats 4000000 in
theorem m_M_split (h : PH) (this : Nat) (x1 : Int32) (x2 : Int32) (x3 : Int32) : MM yX10_split (ws_ yX10_split cX10_split 4 (some .int)) 8 [.ref this, .int x1, .int x2, .int x3] h (c_M_split h this x1 x2 x3) := by
  refine MM.of (by decide) rfl (by decide) (Nat.le_of_ble_eq_true rfl) (own := RX10) (cc := cX10_split) (maxL := 4) (lev := 8) (rt := (some .int)) (ini := false) ?_
  show Sim Y_M_split h 0 [(0, .ref this), (1, .int x1), (2, .int x2), (3, .int x3)] [] _
  unfold c_M_split
  refine x_grd ?_
  refine x_aload_nR (pc := 0) (a := this) 0 rfl rfl dX10_split_0 ?_
  refine x_iconst (pc := 1) (v := 0) (by decide) dX10_split_1 ?_
  refine x_pI (pc := 2) fi_X10_1 (fun z => absurd z (by decide)) dX10_split_2 ?_
  intro h1
  refine x_aload_nR (pc := 5) (a := this) 0 rfl rfl dX10_split_5 ?_
  refine x_iconst (pc := 6) (v := 5) (by decide) dX10_split_6 ?_
  refine x_iload_n (pc := 7) 1 rfl rfl dX10_split_7 ?_
  refine x_iload_n (pc := 8) 2 rfl rfl dX10_split_8 ?_
  refine x_iload_n (pc := 9) 3 rfl rfl dX10_split_9 ?_
  refine x_aload_nR (pc := 10) (a := this) 0 rfl rfl dX10_split_10 ?_
  refine x_iload_n (pc := 11) 1 rfl rfl dX10_split_11 ?_
  refine x_iload_n (pc := 12) 3 rfl rfl dX10_split_12 ?_
  refine x_callV (pc := 13) (As := [.int x1, .int x3]) (rest := [.int x3, .int x2, .int x1, .int (5 : Int32), .ref this]) (lev' := 3) si_X10_319 (m_M_areTwo h1 this x1 x3) (fun z e => grd1 e) rfl rfl (by decide) (Nat.le_of_ble_eq_true rfl) dX10_split_13 (kI (fun v3 h2 => ?_)) xNo
  refine x_callV (pc := 16) (As := [.int (5 : Int32), .int x1, .int x2, .int x3, .int v3]) (rest := []) (lev' := 7) si_X10_315 (m_M_act h2 this (5 : Int32) x1 x2 x3 v3) (fun z e => grd1 e) rfl rfl (by decide) (cat4 (Nat.le_of_ble_eq_true rfl)) dX10_split_16 (kI (fun v5 h4 => ?_)) xNo
  exact x_iret (pc := 19) dX10_split_19
abbrev Y_M_type : Yx := (RX10, cX10_type, 3, 8, (some .int), [], false)
def c_M_type (h : PH) (this : Nat) (x1 : Int32) (x2 : Int32) : Option RH :=
  grd h this [8] (
  pI h this [8] 0 (0 : Int32) fun h1 =>
  hI (c_M_isIn h1 x2 (0 : Int32) (7 : Int32)) noX fun v3 h2 =>
  hI (c_M_act h2 this (6 : Int32) (0 : Int32) x1 x2 v3) noX fun v5 h4 =>
  rI v5 h4)
set_option maxHeartbeats 4000000 in
theorem m_M_type (h : PH) (this : Nat) (x1 : Int32) (x2 : Int32) : MM yX10_type (ws_ yX10_type cX10_type 3 (some .int)) 8 [.ref this, .int x1, .int x2] h (c_M_type h this x1 x2) := by
  refine MM.of (by decide) rfl (by decide) (Nat.le_of_ble_eq_true rfl) (own := RX10) (cc := cX10_type) (maxL := 3) (lev := 8) (rt := (some .int)) (ini := false) ?_
  show Sim Y_M_type h 0 [(0, .ref this), (1, .int x1), (2, .int x2)] [] _
  unfold c_M_type
  refine x_grd ?_
  refine x_aload_nR (pc := 0) (a := this) 0 rfl rfl dX10_type_0 ?_
  refine x_iconst (pc := 1) (v := 0) (by decide) dX10_type_1 ?_
  refine x_pI (pc := 2) fi_X10_1 (fun z => absurd z (by decide)) dX10_type_2 ?_
  intro h1
  refine x_aload_nR (pc := 5) (a := this) 0 rfl rfl dX10_type_5 ?_
  refine x_bipush (pc := 6) (v := 6) (by decide) dX10_type_6 ?_
  refine x_iconst (pc := 8) (v := 0) (by decide) dX10_type_8 ?_
  refine x_iload_n (pc := 9) 1 rfl rfl dX10_type_9 ?_
  refine x_iload_n (pc := 10) 2 rfl rfl dX10_type_10 ?_
  refine x_iload_n (pc := 11) 2 rfl rfl dX10_type_11 ?_
  refine x_iconst (pc := 12) (v := 0) (by decide) dX10_type_12 ?_
  refine x_bipush (pc := 13) (v := 7) (by decide) dX10_type_13 ?_
  refine x_callS (pc := 15) (As := [.int x2, .int (0 : Int32), .int (7 : Int32)]) (rest := [.int x2, .int x1, .int (0 : Int32), .int (6 : Int32), .ref this]) (lev' := 1) si_X10_75 (m_M_isIn h1 x2 (0 : Int32) (7 : Int32)) rfl rfl (by decide) (Nat.le_of_ble_eq_true rfl) dX10_type_15 (kI (fun v3 h2 => ?_)) xNo
  refine x_callV (pc := 18) (As := [.int (6 : Int32), .int (0 : Int32), .int x1, .int x2, .int v3]) (rest := []) (lev' := 7) si_X10_315 (m_M_act h2 this (6 : Int32) (0 : Int32) x1 x2 v3) (fun z e => grd1 e) rfl rfl (by decide) (cat4 (Nat.le_of_ble_eq_true rfl)) dX10_type_18 (kI (fun v5 h4 => ?_)) xNo
  exact x_iret (pc := 21) dX10_type_21
abbrev Y_M_erase : Yx := (RX10, cX10_erase, 3, 8, (some .int), [], false)
def c_M_erase (h : PH) (this : Nat) (x1 : Int32) (x2 : Int32) : Option RH :=
  grd h this [8] (
  pI h this [8] 0 (0 : Int32) fun h1 =>
  hI (c_M_isIn h1 x2 (1 : Int32) (200 : Int32)) noX fun v3 h2 =>
  hI (c_M_act h2 this (7 : Int32) (0 : Int32) x1 x2 v3) noX fun v5 h4 =>
  rI v5 h4)
set_option maxHeartbeats 4000000 in
theorem m_M_erase (h : PH) (this : Nat) (x1 : Int32) (x2 : Int32) : MM yX10_erase (ws_ yX10_erase cX10_erase 3 (some .int)) 8 [.ref this, .int x1, .int x2] h (c_M_erase h this x1 x2) := by
  refine MM.of (by decide) rfl (by decide) (Nat.le_of_ble_eq_true rfl) (own := RX10) (cc := cX10_erase) (maxL := 3) (lev := 8) (rt := (some .int)) (ini := false) ?_
  show Sim Y_M_erase h 0 [(0, .ref this), (1, .int x1), (2, .int x2)] [] _
  unfold c_M_erase
  refine x_grd ?_
  refine x_aload_nR (pc := 0) (a := this) 0 rfl rfl dX10_erase_0 ?_
  refine x_iconst (pc := 1) (v := 0) (by decide) dX10_erase_1 ?_
  refine x_pI (pc := 2) fi_X10_1 (fun z => absurd z (by decide)) dX10_erase_2 ?_
  intro h1
  refine x_aload_nR (pc := 5) (a := this) 0 rfl rfl dX10_erase_5 ?_
  refine x_bipush (pc := 6) (v := 7) (by decide) dX10_erase_6 ?_
  refine x_iconst (pc := 8) (v := 0) (by decide) dX10_erase_8 ?_
  refine x_iload_n (pc := 9) 1 rfl rfl dX10_erase_9 ?_
  refine x_iload_n (pc := 10) 2 rfl rfl dX10_erase_10 ?_
  refine x_iload_n (pc := 11) 2 rfl rfl dX10_erase_11 ?_
  refine x_iconst (pc := 12) (v := 1) (by decide) dX10_erase_12 ?_
  refine x_sipush (pc := 13) (v := 200) (by decide) dX10_erase_13 ?_
  refine x_callS (pc := 16) (As := [.int x2, .int (1 : Int32), .int (200 : Int32)]) (rest := [.int x2, .int x1, .int (0 : Int32), .int (7 : Int32), .ref this]) (lev' := 1) si_X10_75 (m_M_isIn h1 x2 (1 : Int32) (200 : Int32)) rfl rfl (by decide) (Nat.le_of_ble_eq_true rfl) dX10_erase_16 (kI (fun v3 h2 => ?_)) xNo
  refine x_callV (pc := 19) (As := [.int (7 : Int32), .int (0 : Int32), .int x1, .int x2, .int v3]) (rest := []) (lev' := 7) si_X10_315 (m_M_act h2 this (7 : Int32) (0 : Int32) x1 x2 v3) (fun z e => grd1 e) rfl rfl (by decide) (cat4 (Nat.le_of_ble_eq_true rfl)) dX10_erase_19 (kI (fun v5 h4 => ?_)) xNo
  exact x_iret (pc := 22) dX10_erase_22
abbrev Y_M_comeBack : Yx := (RX10, cX10_comeBack, 4, 1, none, [], false)
def c_M_comeBack_l2 (r2 : PH → Nat → Nat → Int32 → Int32 → Option RH) (h : PH) (this : Nat) (x1 : Nat) (x2 : Int32) (x3 : Int32) : Option RH :=
  if (3213 : Int32) ≤ x3 then
    rV h
  else
    gQ h this [8] 14 fun v1 =>
    ldI h x1 0 (x2 + x3) fun v2 =>
    nn v1 fun a3 =>
    stI h a3 ((2607 : Int32) + x3) v2 fun h5 =>
    r2 h5 this x1 x2 (x3 + (1 : Int32))
def c_M_comeBack (h : PH) (this : Nat) (x1 : Nat) (x2 : Int32) : Option RH :=
  grd h this [8] (
  itr (c_M_comeBack_l2) (fun _ _ _ _ _ => none) FU h this x1 x2 (0 : Int32))
set_option maxHeartbeats 4000000 in
theorem w_M_comeBack_l2 (r2 : PH → Nat → Nat → Int32 → Int32 → Option RH) (hr2 : ∀ (h : PH) (this : Nat) (x1 : Nat) (x2 : Int32) (x3 : Int32), Sim Y_M_comeBack h 2 [(0, .ref this), (1, .ref x1), (2, .int x2), (3, .int x3)] [] (r2 h this x1 x2 x3)) (h : PH) (this : Nat) (x1 : Nat) (x2 : Int32) (x3 : Int32) : Sim Y_M_comeBack h 2 [(0, .ref this), (1, .ref x1), (2, .int x2), (3, .int x3)] [] (c_M_comeBack_l2 r2 h this x1 x2 x3) := by
  unfold c_M_comeBack_l2
  refine x_iload_n (pc := 2) 3 rfl rfl dX10_comeBack_2 ?_
  refine x_sipush (pc := 3) (v := 3213) (by decide) dX10_comeBack_3 ?_
  refine x_icmp_ge (pc := 6) 30 (by decide) dX10_comeBack_6 ?_ ?_
  · exact x_vret (pc := 30) dX10_comeBack_30
  · refine x_aload_nR (pc := 9) (a := this) 0 rfl rfl dX10_comeBack_9 ?_
    refine x_getQ (pc := 10) fi_X10_98 dX10_comeBack_10 ?_
    intro v1
    refine x_sipush (pc := 13) (v := 2607) (by decide) dX10_comeBack_13 ?_
    refine x_iload_n (pc := 16) 3 rfl rfl dX10_comeBack_16 ?_
    refine x_iadd (pc := 17) dX10_comeBack_17 ?_
    refine x_aload_nR (pc := 18) (a := x1) 1 rfl rfl dX10_comeBack_18 ?_
    refine x_iload_n (pc := 19) 2 rfl rfl dX10_comeBack_19 ?_
    refine x_iload_n (pc := 20) 3 rfl rfl dX10_comeBack_20 ?_
    refine x_iadd (pc := 21) dX10_comeBack_21 ?_
    refine x_iald (pc := 22) dX10_comeBack_22 ?_
    intro v2
    refine x_nn (fun a3 e4 => ?_)
    subst e4
    refine x_iast (pc := 23) dX10_comeBack_23 ?_
    intro h5
    refine x_iinc (pc := 24) (v := (1 : Int32)) (lv' := [(3, .int (x3 + (1 : Int32))), (0, .ref this), (1, .ref x1), (2, .int x2)]) 3 rfl (by decide) (by decide) rfl dX10_comeBack_24 ?_
    refine x_goto (pc := 27) 2 (by decide) dX10_comeBack_27 ?_
    refine Sim.lv [1, 2, 3, 0] rfl ?_
    exact hr2 h5 this x1 x2 (x3 + (1 : Int32))
set_option maxHeartbeats 4000000 in
theorem v_M_comeBack_l2 : ∀ (n : Nat) (h : PH) (this : Nat) (x1 : Nat) (x2 : Int32) (x3 : Int32), Sim Y_M_comeBack h 2 [(0, .ref this), (1, .ref x1), (2, .int x2), (3, .int x3)] [] (itr (c_M_comeBack_l2) (fun _ _ _ _ _ => none) n h this x1 x2 x3)
  | 0, h, this, x1, x2, x3 => Sim.none
  | n + 1, h, this, x1, x2, x3 => w_M_comeBack_l2 _ (v_M_comeBack_l2 n) h this x1 x2 x3
set_option maxHeartbeats 4000000 in
theorem m_M_comeBack (h : PH) (this : Nat) (x1 : Nat) (x2 : Int32) : MM yX10_comeBack (ws_ yX10_comeBack cX10_comeBack 4 none) 1 [.ref this, .ref x1, .int x2] h (c_M_comeBack h this x1 x2) := by
  refine MM.of (by decide) rfl (by decide) (Nat.le_of_ble_eq_true rfl) (own := RX10) (cc := cX10_comeBack) (maxL := 4) (lev := 1) (rt := none) (ini := false) ?_
  show Sim Y_M_comeBack h 0 [(0, .ref this), (1, .ref x1), (2, .int x2)] [] _
  unfold c_M_comeBack
  refine x_grd ?_
  refine x_iconst (pc := 0) (v := 0) (by decide) dX10_comeBack_0 ?_
  refine x_istore_n (pc := 1) (lv' := [(3, .int (0 : Int32)), (0, .ref this), (1, .ref x1), (2, .int x2)]) rfl (by decide) rfl dX10_comeBack_1 ?_
  refine Sim.lv [1, 2, 3, 0] rfl ?_
  exact v_M_comeBack_l2 FU h this x1 x2 (0 : Int32)
theorem si_X10_322 : SiV RX10 322 8 yX10_comeBack cX10_comeBack 4 none 2 := ⟨_, _, _, ci_8.1, by decide, lw_V q2180 q2182 qs87 q121 q2183, ⟨rfl, by decide, by decide, by decide +kernel⟩, by decide⟩
abbrev Y_M_undo : Yx := (RX10, cX10_undo, 1, 2, (some .int), [], false)
def c_M_undo (h : PH) (this : Nat) : Option RH :=
  grd h this [8] (
  pI h this [8] 0 (0 : Int32) fun h1 =>
  gI h1 this [8] 24 fun v2 =>
  if v2 = 0 then
    rI (-1 : Int32) h1
  else
    gI h1 this [8] 24 fun v3 =>
    pI h1 this [8] 24 (v3 - (1 : Int32)) fun h4 =>
    gQ h4 this [8] 17 fun v5 =>
    gI h4 this [8] 24 fun v6 =>
    nn v5 fun a7 =>
    hV (c_M_comeBack h4 this a7 ((3213 : Int32) * v6)) noX fun h9 =>
    gI h9 this [8] 24 fun v10 =>
    rI v10 h9)
set_option maxHeartbeats 4000000 in
theorem m_M_undo (h : PH) (this : Nat) : MM yX10_undo (ws_ yX10_undo cX10_undo 1 (some .int)) 2 [.ref this] h (c_M_undo h this) := by
  refine MM.of (by decide) rfl (by decide) (Nat.le_of_ble_eq_true rfl) (own := RX10) (cc := cX10_undo) (maxL := 1) (lev := 2) (rt := (some .int)) (ini := false) ?_
  show Sim Y_M_undo h 0 [(0, .ref this)] [] _
  unfold c_M_undo
  refine x_grd ?_
  refine x_aload_nR (pc := 0) (a := this) 0 rfl rfl dX10_undo_0 ?_
  refine x_iconst (pc := 1) (v := 0) (by decide) dX10_undo_1 ?_
  refine x_pI (pc := 2) fi_X10_1 (fun z => absurd z (by decide)) dX10_undo_2 ?_
  intro h1
  refine x_aload_nR (pc := 5) (a := this) 0 rfl rfl dX10_undo_5 ?_
  refine x_getI (pc := 6) fi_X10_192 dX10_undo_6 ?_
  intro v2
  refine x_if_ne (pc := 9) 14 (by decide) dX10_undo_9 ?_ ?_
  · refine x_aload_nR (pc := 14) (a := this) 0 rfl rfl dX10_undo_14 ?_
    refine x_dup (pc := 15) rfl dX10_undo_15 ?_
    refine x_getI (pc := 16) fi_X10_192 dX10_undo_16 ?_
    intro v3
    refine x_iconst (pc := 19) (v := 1) (by decide) dX10_undo_19 ?_
    refine x_isub (pc := 20) dX10_undo_20 ?_
    refine x_pI (pc := 21) fi_X10_192 (fun z => absurd z (by decide)) dX10_undo_21 ?_
    intro h4
    refine x_aload_nR (pc := 24) (a := this) 0 rfl rfl dX10_undo_24 ?_
    refine x_aload_nR (pc := 25) (a := this) 0 rfl rfl dX10_undo_25 ?_
    refine x_getQ (pc := 26) fi_X10_107 dX10_undo_26 ?_
    intro v5
    refine x_sipush (pc := 29) (v := 3213) (by decide) dX10_undo_29 ?_
    refine x_aload_nR (pc := 32) (a := this) 0 rfl rfl dX10_undo_32 ?_
    refine x_getI (pc := 33) fi_X10_192 dX10_undo_33 ?_
    intro v6
    refine x_imul (pc := 36) dX10_undo_36 ?_
    refine x_nn (fun a7 e8 => ?_)
    subst e8
    refine x_callV (pc := 37) (As := [.ref a7, .int ((3213 : Int32) * v6)]) (rest := []) (lev' := 1) si_X10_322 (m_M_comeBack h4 this a7 ((3213 : Int32) * v6)) (fun z e => grd1 e) rfl rfl (by decide) (cat4 (Nat.le_of_ble_eq_true rfl)) dX10_undo_37 (kV (fun h9 => ?_)) xNo
    refine x_aload_nR (pc := 40) (a := this) 0 rfl rfl dX10_undo_40 ?_
    refine x_getI (pc := 41) fi_X10_192 dX10_undo_41 ?_
    intro v10
    exact x_iret (pc := 44) dX10_undo_44
  · refine x_iconst (pc := 12) (v := (-1)) (by decide) dX10_undo_12 ?_
    exact x_iret (pc := 13) dX10_undo_13
theorem fi_X10_325 : FI RX10 325 [8] 29 .int false true := (fi_c ci_8 (by decide) rfl rfl (Or.inl q1715) (Or.inl rfl) (fun h => absurd h (by decide)) fi_n)
abbrev Y_M_draw : Yx := (RX10, cX10_draw, 2, 1, (some .int), [], false)
def c_M_draw (h : PH) (this : Nat) (x1 : Int32) : Option RH :=
  grd h this [8] (
  gI h this [8] 29 fun v1 =>
  pI h this [8] 29 ((v1 * (1103515245 : Int32)) + (12345 : Int32)) fun h2 =>
  gI h2 this [8] 29 fun v3 =>
  nz x1 <|
  rI (((v3.toUInt32 >>> ((8 : Int32).toUInt32 &&& Int32.toUInt32 31)).toInt32) - ((v3.toUInt32 >>> ((8 : Int32).toUInt32 &&& Int32.toUInt32 31)).toInt32) / x1 * x1) h2)
set_option maxHeartbeats 4000000 in
theorem m_M_draw (h : PH) (this : Nat) (x1 : Int32) : MM yX10_draw (ws_ yX10_draw cX10_draw 2 (some .int)) 1 [.ref this, .int x1] h (c_M_draw h this x1) := by
  refine MM.of (by decide) rfl (by decide) (Nat.le_of_ble_eq_true rfl) (own := RX10) (cc := cX10_draw) (maxL := 2) (lev := 1) (rt := (some .int)) (ini := false) ?_
  show Sim Y_M_draw h 0 [(0, .ref this), (1, .int x1)] [] _
  unfold c_M_draw
  refine x_grd ?_
  refine x_aload_nR (pc := 0) (a := this) 0 rfl rfl dX10_draw_0 ?_
  refine x_aload_nR (pc := 1) (a := this) 0 rfl rfl dX10_draw_1 ?_
  refine x_getI (pc := 2) fi_X10_325 dX10_draw_2 ?_
  intro v1
  refine x_ldcw (pc := 5) (v := 1103515245) q2196 dX10_draw_5 ?_
  refine x_imul (pc := 8) dX10_draw_8 ?_
  refine x_sipush (pc := 9) (v := 12345) (by decide) dX10_draw_9 ?_
  refine x_iadd (pc := 12) dX10_draw_12 ?_
  refine x_pI (pc := 13) fi_X10_325 (fun z => absurd z (by decide)) dX10_draw_13 ?_
  intro h2
  refine x_aload_nR (pc := 16) (a := this) 0 rfl rfl dX10_draw_16 ?_
  refine x_getI (pc := 17) fi_X10_325 dX10_draw_17 ?_
  intro v3
  refine x_bipush (pc := 20) (v := 8) (by decide) dX10_draw_20 ?_
  refine x_iushr (pc := 22) dX10_draw_22 ?_
  refine x_iload_n (pc := 23) 1 rfl rfl dX10_draw_23 ?_
  refine x_irem (pc := 24) dX10_draw_24 ?_
  exact x_iret (pc := 25) dX10_draw_25
abbrev Y_M_doIf : Yx := (RX10, cX10_doIf, 5, 7, (some .boolean), [], false)
def c_M_doIf (h : PH) (this : Nat) (x1 : Int32) (x2 : Int32) (x3 : Int32) (x4 : Int32) : Option RH :=
  grd h this [8] (
  hI (c_M_refusal h this x1 x2 x3 x4) noX fun v2 h1 =>
  if v2 = 0 then
    hV (c_M_live h1 this x1 x2 x3 x4) noX fun h3 =>
    rZ (1 : Int32) h3
  else
    rZ (0 : Int32) h1)
set_option maxHeartbeats 4000000 in
theorem m_M_doIf (h : PH) (this : Nat) (x1 : Int32) (x2 : Int32) (x3 : Int32) (x4 : Int32) : MM yX10_doIf (ws_ yX10_doIf cX10_doIf 5 (some .boolean)) 7 [.ref this, .int x1, .int x2, .int x3, .int x4] h (c_M_doIf h this x1 x2 x3 x4) := by
  refine MM.of (by decide) rfl (by decide) (Nat.le_of_ble_eq_true rfl) (own := RX10) (cc := cX10_doIf) (maxL := 5) (lev := 7) (rt := (some .boolean)) (ini := false) ?_
  show Sim Y_M_doIf h 0 [(0, .ref this), (1, .int x1), (2, .int x2), (3, .int x3), (4, .int x4)] [] _
  unfold c_M_doIf
  refine x_grd ?_
  refine x_aload_nR (pc := 0) (a := this) 0 rfl rfl dX10_doIf_0 ?_
  refine x_iload_n (pc := 1) 1 rfl rfl dX10_doIf_1 ?_
  refine x_iload_n (pc := 2) 2 rfl rfl dX10_doIf_2 ?_
  refine x_iload_n (pc := 3) 3 rfl rfl dX10_doIf_3 ?_
  refine x_iload (pc := 4) 4 rfl dX10_doIf_4 ?_
  refine x_callV (pc := 6) (As := [.int x1, .int x2, .int x3, .int x4]) (rest := []) (lev' := 3) si_X10_304 (m_M_refusal h this x1 x2 x3 x4) (fun z e => grd1 e) rfl rfl (by decide) (cat4 (Nat.le_of_ble_eq_true rfl)) dX10_doIf_6 (kI (fun v2 h1 => ?_)) xNo
  refine x_if_eq (pc := 9) 14 (by decide) dX10_doIf_9 ?_ ?_
  · refine x_aload_nR (pc := 14) (a := this) 0 rfl rfl dX10_doIf_14 ?_
    refine x_iload_n (pc := 15) 1 rfl rfl dX10_doIf_15 ?_
    refine x_iload_n (pc := 16) 2 rfl rfl dX10_doIf_16 ?_
    refine x_iload_n (pc := 17) 3 rfl rfl dX10_doIf_17 ?_
    refine x_iload (pc := 18) 4 rfl dX10_doIf_18 ?_
    refine x_callV (pc := 20) (As := [.int x1, .int x2, .int x3, .int x4]) (rest := []) (lev' := 6) si_X10_311 (m_M_live h1 this x1 x2 x3 x4) (fun z e => grd1 e) rfl rfl (by decide) (cat4 (Nat.le_of_ble_eq_true rfl)) dX10_doIf_20 (kV (fun h3 => ?_)) xNo
    refine x_iconst (pc := 23) (v := 1) (by decide) dX10_doIf_23 ?_
    exact x_zret (pc := 24) dX10_doIf_24
  · refine x_iconst (pc := 12) (v := 0) (by decide) dX10_doIf_12 ?_
    exact x_zret (pc := 13) dX10_doIf_13
theorem si_X10_332 : SiV RX10 332 8 yX10_doIf cX10_doIf 5 (some .boolean) 4 := ⟨_, _, _, ci_8.1, by decide, lw_V q2197 q2199 qs90 q121 q2200, ⟨rfl, by decide, by decide, by decide +kernel⟩, by decide⟩
theorem si_X10_329 : SiV RX10 329 8 yX10_draw cX10_draw 2 (some .int) 1 := ⟨_, _, _, ci_8.1, by decide, lw_V q2192 q2194 qs89 q121 q2195, ⟨rfl, by decide, by decide, by decide +kernel⟩, by decide⟩
abbrev Y_M_drawsDeed : Yx := (RX10, cX10_drawsDeed, 5, 8, (some .boolean), [], false)
def c_M_drawsDeed_j121 (h : PH) (x2 : Int32) (x3 : Int32) (x4 : Int32) (s0 : Int32) (s1 : Nat) : Option RH :=
  hI (c_M_doIf h s1 s0 x2 x3 x4) noX fun v2 h1 =>
  if v2 = 0 then
    rZ (0 : Int32) h1
  else
    rZ (1 : Int32) h1
def c_M_drawsDeed (h : PH) (this : Nat) : Option RH :=
  grd h this [8] (
  hI (c_M_draw h this (8 : Int32)) noX fun v2 h1 =>
  gQ h1 this [8] 14 fun v3 =>
  nn v3 fun a4 =>
  ldI h1 a4 0 (0 : Int32) fun v6 =>
  hI (c_M_draw h1 this v6) noX fun v8 h7 =>
  hI (c_M_sizeOf h7 this v8) noX fun v10 h9 =>
  hI (c_M_draw h9 this (v10 + (1 : Int32))) noX fun v12 h11 =>
  if (3 : Int32) ≤ v2 then
    if v2 = (3 : Int32) then
      hI (c_M_draw h11 this (8 : Int32)) noX fun v24 h23 =>
      hI (c_M_doIf h23 this (2 : Int32) v8 v12 (v24 + (1 : Int32))) noX fun v26 h25 =>
      rZ v26 h25
    else
      if (6 : Int32) ≤ v2 then
        gQ h11 this [8] 14 fun v13 =>
        nn v13 fun a14 =>
        ldI h11 a14 0 (0 : Int32) fun v16 =>
        hI (c_M_draw h11 this v16) noX fun v18 h17 =>
        if v18 = v8 then
          rZ (0 : Int32) h17
        else
          if v2 = (6 : Int32) then
            c_M_drawsDeed_j121 h17 v8 v12 v18 (4 : Int32) this
          else
            c_M_drawsDeed_j121 h17 v8 v12 v18 (5 : Int32) this
      else
        hI (c_M_draw h11 this (40 : Int32)) noX fun v20 h19 =>
        hI (c_M_doIf h19 this (3 : Int32) v8 v12 (v20 + (1 : Int32))) noX fun v22 h21 =>
        rZ v22 h21
  else
    hI (c_M_draw h11 this (2 : Int32)) noX fun v28 h27 =>
    hI (c_M_doIf h27 this (0 : Int32) v8 v12 v28) noX fun v30 h29 =>
    rZ v30 h29)
set_option maxHeartbeats 4000000 in
theorem w_M_drawsDeed_j121 (h : PH) (x2 : Int32) (x3 : Int32) (x4 : Int32) (s0 : Int32) (s1 : Nat) : Sim Y_M_drawsDeed h 121 [(2, .int x2), (3, .int x3), (4, .int x4)] [.int s0, .ref s1] (c_M_drawsDeed_j121 h x2 x3 x4 s0 s1) := by
  unfold c_M_drawsDeed_j121
  refine x_iload_n (pc := 121) 0 rfl rfl dX10_drawsDeed_121 ?_
  refine x_iload_n (pc := 122) 1 rfl rfl dX10_drawsDeed_122 ?_
  refine x_iload (pc := 123) 2 rfl dX10_drawsDeed_123 ?_
  refine x_callV (pc := 125) (As := [.int s0, .int x2, .int x3, .int x4]) (rest := []) (lev' := 7) si_X10_332 (m_M_doIf h s1 s0 x2 x3 x4) (fun z e => grd1 e) rfl rfl (by decide) (cat4 (Nat.le_of_ble_eq_true rfl)) dX10_drawsDeed_125 (kI (fun v2 h1 => ?_)) xNo
  refine x_if_eq (pc := 128) 135 (by decide) dX10_drawsDeed_128 ?_ ?_
  · refine x_iconst (pc := 135) (v := 0) (by decide) dX10_drawsDeed_135 ?_
    exact x_zret (pc := 136) dX10_drawsDeed_136
  · refine x_iconst (pc := 131) (v := 1) (by decide) dX10_drawsDeed_131 ?_
    refine x_goto (pc := 132) 136 (by decide) dX10_drawsDeed_132 ?_
    exact x_zret (pc := 136) dX10_drawsDeed_136
set_option maxHeartbeats 4000000 in
theorem m_M_drawsDeed (h : PH) (this : Nat) : MM yX10_drawsDeed (ws_ yX10_drawsDeed cX10_drawsDeed 5 (some .boolean)) 8 [.ref this] h (c_M_drawsDeed h this) := by
  refine MM.of (by decide) rfl (by decide) (Nat.le_of_ble_eq_true rfl) (own := RX10) (cc := cX10_drawsDeed) (maxL := 5) (lev := 8) (rt := (some .boolean)) (ini := false) ?_
  show Sim Y_M_drawsDeed h 0 [(0, .ref this)] [] _
  unfold c_M_drawsDeed
  refine x_grd ?_
  refine x_aload_nR (pc := 0) (a := this) 0 rfl rfl dX10_drawsDeed_0 ?_
  refine x_bipush (pc := 1) (v := 8) (by decide) dX10_drawsDeed_1 ?_
  refine x_callV (pc := 3) (As := [.int (8 : Int32)]) (rest := []) (lev' := 1) si_X10_329 (m_M_draw h this (8 : Int32)) (fun z e => grd1 e) rfl rfl (by decide) (cat4 (Nat.le_of_ble_eq_true rfl)) dX10_drawsDeed_3 (kI (fun v2 h1 => ?_)) xNo
  refine x_istore_n (pc := 6) (lv' := [(1, .int v2), (0, .ref this)]) rfl (by decide) rfl dX10_drawsDeed_6 ?_
  refine x_aload_nR (pc := 7) (a := this) 1 rfl rfl dX10_drawsDeed_7 ?_
  refine x_aload_nR (pc := 8) (a := this) 1 rfl rfl dX10_drawsDeed_8 ?_
  refine x_getQ (pc := 9) fi_X10_98 dX10_drawsDeed_9 ?_
  intro v3
  refine x_iconst (pc := 12) (v := 0) (by decide) dX10_drawsDeed_12 ?_
  refine x_nn (fun a4 e5 => ?_)
  subst e5
  refine x_iald (pc := 13) dX10_drawsDeed_13 ?_
  intro v6
  refine x_callV (pc := 14) (As := [.int v6]) (rest := []) (lev' := 1) si_X10_329 (m_M_draw h1 this v6) (fun z e => grd1 e) rfl rfl (by decide) (cat4 (Nat.le_of_ble_eq_true rfl)) dX10_drawsDeed_14 (kI (fun v8 h7 => ?_)) xNo
  refine x_istore_n (pc := 17) (lv' := [(2, .int v8), (1, .int v2), (0, .ref this)]) rfl (by decide) rfl dX10_drawsDeed_17 ?_
  refine x_aload_nR (pc := 18) (a := this) 2 rfl rfl dX10_drawsDeed_18 ?_
  refine x_aload_nR (pc := 19) (a := this) 2 rfl rfl dX10_drawsDeed_19 ?_
  refine x_iload_n (pc := 20) 0 rfl rfl dX10_drawsDeed_20 ?_
  refine x_callV (pc := 21) (As := [.int v8]) (rest := [.ref this]) (lev' := 1) si_X10_199 (m_M_sizeOf h7 this v8) (fun z e => grd1 e) rfl rfl (by decide) (cat4 (Nat.le_of_ble_eq_true rfl)) dX10_drawsDeed_21 (kI (fun v10 h9 => ?_)) xNo
  refine x_iconst (pc := 24) (v := 1) (by decide) dX10_drawsDeed_24 ?_
  refine x_iadd (pc := 25) dX10_drawsDeed_25 ?_
  refine x_callV (pc := 26) (As := [.int (v10 + (1 : Int32))]) (rest := []) (lev' := 1) si_X10_329 (m_M_draw h9 this (v10 + (1 : Int32))) (fun z e => grd1 e) rfl rfl (by decide) (cat4 (Nat.le_of_ble_eq_true rfl)) dX10_drawsDeed_26 (kI (fun v12 h11 => ?_)) xNo
  refine x_istore_n (pc := 29) (lv' := [(3, .int v12), (2, .int v8), (1, .int v2), (0, .ref this)]) rfl (by decide) rfl dX10_drawsDeed_29 ?_
  refine x_iload_n (pc := 30) 2 rfl rfl dX10_drawsDeed_30 ?_
  refine x_iconst (pc := 31) (v := 3) (by decide) dX10_drawsDeed_31 ?_
  refine x_icmp_ge (pc := 32) 48 (by decide) dX10_drawsDeed_32 ?_ ?_
  · refine x_iload_n (pc := 48) 2 rfl rfl dX10_drawsDeed_48 ?_
    refine x_iconst (pc := 49) (v := 3) (by decide) dX10_drawsDeed_49 ?_
    refine x_icmp_ne (pc := 50) 69 (by decide) dX10_drawsDeed_50 ?_ ?_
    · refine x_iload_n (pc := 69) 2 rfl rfl dX10_drawsDeed_69 ?_
      refine x_bipush (pc := 70) (v := 6) (by decide) dX10_drawsDeed_70 ?_
      refine x_icmp_ge (pc := 72) 91 (by decide) dX10_drawsDeed_72 ?_ ?_
      · refine x_aload_nR (pc := 91) (a := this) 3 rfl rfl dX10_drawsDeed_91 ?_
        refine x_aload_nR (pc := 92) (a := this) 3 rfl rfl dX10_drawsDeed_92 ?_
        refine x_getQ (pc := 93) fi_X10_98 dX10_drawsDeed_93 ?_
        intro v13
        refine x_iconst (pc := 96) (v := 0) (by decide) dX10_drawsDeed_96 ?_
        refine x_nn (fun a14 e15 => ?_)
        subst e15
        refine x_iald (pc := 97) dX10_drawsDeed_97 ?_
        intro v16
        refine x_callV (pc := 98) (As := [.int v16]) (rest := []) (lev' := 1) si_X10_329 (m_M_draw h11 this v16) (fun z e => grd1 e) rfl rfl (by decide) (cat4 (Nat.le_of_ble_eq_true rfl)) dX10_drawsDeed_98 (kI (fun v18 h17 => ?_)) xNo
        refine x_istore (pc := 101) (lv' := [(4, .int v18), (3, .int v12), (2, .int v8), (1, .int v2), (0, .ref this)]) (by decide) rfl dX10_drawsDeed_101 ?_
        refine x_iload (pc := 103) 0 rfl dX10_drawsDeed_103 ?_
        refine x_iload_n (pc := 105) 2 rfl rfl dX10_drawsDeed_105 ?_
        refine x_icmp_eq (pc := 106) 135 (by decide) dX10_drawsDeed_106 ?_ ?_
        · refine x_iconst (pc := 135) (v := 0) (by decide) dX10_drawsDeed_135 ?_
          exact x_zret (pc := 136) dX10_drawsDeed_136
        · refine x_aload_nR (pc := 109) (a := this) 4 rfl rfl dX10_drawsDeed_109 ?_
          refine x_iload_n (pc := 110) 3 rfl rfl dX10_drawsDeed_110 ?_
          refine x_bipush (pc := 111) (v := 6) (by decide) dX10_drawsDeed_111 ?_
          refine x_icmp_ne (pc := 113) 120 (by decide) dX10_drawsDeed_113 ?_ ?_
          · refine x_iconst (pc := 120) (v := 5) (by decide) dX10_drawsDeed_120 ?_
            refine Sim.lv [2, 1, 0] rfl ?_
            exact w_M_drawsDeed_j121 h17 v8 v12 v18 (5 : Int32) this
          · refine x_iconst (pc := 116) (v := 4) (by decide) dX10_drawsDeed_116 ?_
            refine x_goto (pc := 117) 121 (by decide) dX10_drawsDeed_117 ?_
            refine Sim.lv [2, 1, 0] rfl ?_
            exact w_M_drawsDeed_j121 h17 v8 v12 v18 (4 : Int32) this
      · refine x_aload_nR (pc := 75) (a := this) 3 rfl rfl dX10_drawsDeed_75 ?_
        refine x_iconst (pc := 76) (v := 3) (by decide) dX10_drawsDeed_76 ?_
        refine x_iload_n (pc := 77) 1 rfl rfl dX10_drawsDeed_77 ?_
        refine x_iload_n (pc := 78) 0 rfl rfl dX10_drawsDeed_78 ?_
        refine x_aload_nR (pc := 79) (a := this) 3 rfl rfl dX10_drawsDeed_79 ?_
        refine x_bipush (pc := 80) (v := 40) (by decide) dX10_drawsDeed_80 ?_
        refine x_callV (pc := 82) (As := [.int (40 : Int32)]) (rest := [.int v12, .int v8, .int (3 : Int32), .ref this]) (lev' := 1) si_X10_329 (m_M_draw h11 this (40 : Int32)) (fun z e => grd1 e) rfl rfl (by decide) (cat4 (Nat.le_of_ble_eq_true rfl)) dX10_drawsDeed_82 (kI (fun v20 h19 => ?_)) xNo
        refine x_iconst (pc := 85) (v := 1) (by decide) dX10_drawsDeed_85 ?_
        refine x_iadd (pc := 86) dX10_drawsDeed_86 ?_
        refine x_callV (pc := 87) (As := [.int (3 : Int32), .int v8, .int v12, .int (v20 + (1 : Int32))]) (rest := []) (lev' := 7) si_X10_332 (m_M_doIf h19 this (3 : Int32) v8 v12 (v20 + (1 : Int32))) (fun z e => grd1 e) rfl rfl (by decide) (cat4 (Nat.le_of_ble_eq_true rfl)) dX10_drawsDeed_87 (kI (fun v22 h21 => ?_)) xNo
        exact x_zret (pc := 90) dX10_drawsDeed_90
    · refine x_aload_nR (pc := 53) (a := this) 3 rfl rfl dX10_drawsDeed_53 ?_
      refine x_iconst (pc := 54) (v := 2) (by decide) dX10_drawsDeed_54 ?_
      refine x_iload_n (pc := 55) 1 rfl rfl dX10_drawsDeed_55 ?_
      refine x_iload_n (pc := 56) 0 rfl rfl dX10_drawsDeed_56 ?_
      refine x_aload_nR (pc := 57) (a := this) 3 rfl rfl dX10_drawsDeed_57 ?_
      refine x_bipush (pc := 58) (v := 8) (by decide) dX10_drawsDeed_58 ?_
      refine x_callV (pc := 60) (As := [.int (8 : Int32)]) (rest := [.int v12, .int v8, .int (2 : Int32), .ref this]) (lev' := 1) si_X10_329 (m_M_draw h11 this (8 : Int32)) (fun z e => grd1 e) rfl rfl (by decide) (cat4 (Nat.le_of_ble_eq_true rfl)) dX10_drawsDeed_60 (kI (fun v24 h23 => ?_)) xNo
      refine x_iconst (pc := 63) (v := 1) (by decide) dX10_drawsDeed_63 ?_
      refine x_iadd (pc := 64) dX10_drawsDeed_64 ?_
      refine x_callV (pc := 65) (As := [.int (2 : Int32), .int v8, .int v12, .int (v24 + (1 : Int32))]) (rest := []) (lev' := 7) si_X10_332 (m_M_doIf h23 this (2 : Int32) v8 v12 (v24 + (1 : Int32))) (fun z e => grd1 e) rfl rfl (by decide) (cat4 (Nat.le_of_ble_eq_true rfl)) dX10_drawsDeed_65 (kI (fun v26 h25 => ?_)) xNo
      exact x_zret (pc := 68) dX10_drawsDeed_68
  · refine x_aload_nR (pc := 35) (a := this) 3 rfl rfl dX10_drawsDeed_35 ?_
    refine x_iconst (pc := 36) (v := 0) (by decide) dX10_drawsDeed_36 ?_
    refine x_iload_n (pc := 37) 1 rfl rfl dX10_drawsDeed_37 ?_
    refine x_iload_n (pc := 38) 0 rfl rfl dX10_drawsDeed_38 ?_
    refine x_aload_nR (pc := 39) (a := this) 3 rfl rfl dX10_drawsDeed_39 ?_
    refine x_iconst (pc := 40) (v := 2) (by decide) dX10_drawsDeed_40 ?_
    refine x_callV (pc := 41) (As := [.int (2 : Int32)]) (rest := [.int v12, .int v8, .int (0 : Int32), .ref this]) (lev' := 1) si_X10_329 (m_M_draw h11 this (2 : Int32)) (fun z e => grd1 e) rfl rfl (by decide) (cat4 (Nat.le_of_ble_eq_true rfl)) dX10_drawsDeed_41 (kI (fun v28 h27 => ?_)) xNo
    refine x_callV (pc := 44) (As := [.int (0 : Int32), .int v8, .int v12, .int v28]) (rest := []) (lev' := 7) si_X10_332 (m_M_doIf h27 this (0 : Int32) v8 v12 v28) (fun z e => grd1 e) rfl rfl (by decide) (cat4 (Nat.le_of_ble_eq_true rfl)) dX10_drawsDeed_44 (kI (fun v30 h29 => ?_)) xNo
    exact x_zret (pc := 47) dX10_drawsDeed_47
abbrev Y_M_stay : Yx := (RX10, cX10_stay, 2, 3, none, [], false)
def c_M_stay (h : PH) (this : Nat) (x1 : Int32) : Option RH :=
  grd h this [8] (
  gQ h this [8] 18 fun v1 =>
  nn v1 fun a2 =>
  hV (c_M_save h this a2 (0 : Int32)) noX fun h4 =>
  gQ h4 this [8] 19 fun v5 =>
  nn v5 fun a6 =>
  hV (c_M_comeBack h4 this a6 (0 : Int32)) noX fun h8 =>
  if x1 = 0 then
    rV h8
  else
    hV (c_M_snap h8 this) noX fun h9 =>
    gQ h9 this [8] 18 fun v10 =>
    nn v10 fun a11 =>
    hV (c_M_comeBack h9 this a11 (0 : Int32)) noX fun h13 =>
    rV h13)
set_option maxHeartbeats 4000000 in
theorem m_M_stay (h : PH) (this : Nat) (x1 : Int32) : MM yX10_stay (ws_ yX10_stay cX10_stay 2 none) 3 [.ref this, .int x1] h (c_M_stay h this x1) := by
  refine MM.of (by decide) rfl (by decide) (Nat.le_of_ble_eq_true rfl) (own := RX10) (cc := cX10_stay) (maxL := 2) (lev := 3) (rt := none) (ini := false) ?_
  show Sim Y_M_stay h 0 [(0, .ref this), (1, .int x1)] [] _
  unfold c_M_stay
  refine x_grd ?_
  refine x_aload_nR (pc := 0) (a := this) 0 rfl rfl dX10_stay_0 ?_
  refine x_aload_nR (pc := 1) (a := this) 0 rfl rfl dX10_stay_1 ?_
  refine x_getQ (pc := 2) fi_X10_110 dX10_stay_2 ?_
  intro v1
  refine x_iconst (pc := 5) (v := 0) (by decide) dX10_stay_5 ?_
  refine x_nn (fun a2 e3 => ?_)
  subst e3
  refine x_callV (pc := 6) (As := [.ref a2, .int (0 : Int32)]) (rest := []) (lev' := 1) si_X10_288 (m_M_save h this a2 (0 : Int32)) (fun z e => grd1 e) rfl rfl (by decide) (cat4 (Nat.le_of_ble_eq_true rfl)) dX10_stay_6 (kV (fun h4 => ?_)) xNo
  refine x_aload_nR (pc := 9) (a := this) 0 rfl rfl dX10_stay_9 ?_
  refine x_aload_nR (pc := 10) (a := this) 0 rfl rfl dX10_stay_10 ?_
  refine x_getQ (pc := 11) fi_X10_113 dX10_stay_11 ?_
  intro v5
  refine x_iconst (pc := 14) (v := 0) (by decide) dX10_stay_14 ?_
  refine x_nn (fun a6 e7 => ?_)
  subst e7
  refine x_callV (pc := 15) (As := [.ref a6, .int (0 : Int32)]) (rest := []) (lev' := 1) si_X10_322 (m_M_comeBack h4 this a6 (0 : Int32)) (fun z e => grd1 e) rfl rfl (by decide) (cat4 (Nat.le_of_ble_eq_true rfl)) dX10_stay_15 (kV (fun h8 => ?_)) xNo
  refine x_iload_n (pc := 18) 1 rfl rfl dX10_stay_18 ?_
  refine x_if_ne (pc := 19) 23 (by decide) dX10_stay_19 ?_ ?_
  · refine x_aload_nR (pc := 23) (a := this) 0 rfl rfl dX10_stay_23 ?_
    refine x_callV (pc := 24) (As := []) (rest := []) (lev' := 2) si_X10_308 (m_M_snap h8 this) (fun z e => grd1 e) rfl rfl (by decide) (cat4 (Nat.le_of_ble_eq_true rfl)) dX10_stay_24 (kV (fun h9 => ?_)) xNo
    refine x_aload_nR (pc := 27) (a := this) 0 rfl rfl dX10_stay_27 ?_
    refine x_aload_nR (pc := 28) (a := this) 0 rfl rfl dX10_stay_28 ?_
    refine x_getQ (pc := 29) fi_X10_110 dX10_stay_29 ?_
    intro v10
    refine x_iconst (pc := 32) (v := 0) (by decide) dX10_stay_32 ?_
    refine x_nn (fun a11 e12 => ?_)
    subst e12
    refine x_callV (pc := 33) (As := [.ref a11, .int (0 : Int32)]) (rest := []) (lev' := 1) si_X10_322 (m_M_comeBack h9 this a11 (0 : Int32)) (fun z e => grd1 e) rfl rfl (by decide) (cat4 (Nat.le_of_ble_eq_true rfl)) dX10_stay_33 (kV (fun h13 => ?_)) xNo
    exact x_vret (pc := 36) dX10_stay_36
  · exact x_vret (pc := 22) dX10_stay_22
theorem si_X10_339 : SiV RX10 339 8 yX10_stay cX10_stay 2 none 1 := ⟨_, _, _, ci_8.1, by decide, lw_V q2201 q2203 qs91 q121 q2204, ⟨rfl, by decide, by decide, by decide +kernel⟩, by decide⟩
theorem si_X10_336 : SiV RX10 336 8 yX10_drawsDeed cX10_drawsDeed 5 (some .boolean) 0 := ⟨_, _, _, ci_8.1, by decide, lw_V q2188 q2190 qs88 q121 q2191, ⟨rfl, by decide, by decide, by decide +kernel⟩, by decide⟩
abbrev Y_M_drawn : Yx := (RX10, cX10_drawn, 5, 9, (some .int), [], false)
def c_M_drawn_l47 (r47 : PH → Nat → Int32 → Int32 → Int32 → Option RH) (h : PH) (this : Nat) (x1 : Int32) (x3 : Int32) (x4 : Int32) : Option RH :=
  if x1 ≤ x4 then
    if x3 ≤ 0 then
      hV (c_M_stay h this (0 : Int32)) noX fun h1 =>
      rI x3 h1
    else
      hV (c_M_stay h this (1 : Int32)) noX fun h2 =>
      rI x3 h2
  else
    hI (c_M_drawsDeed h this) noX fun v4 h3 =>
    if v4 = 0 then
      r47 h3 this x1 x3 (x4 + (1 : Int32))
    else
      r47 h3 this x1 (x3 + (1 : Int32)) (x4 + (1 : Int32))
def c_M_drawn (h : PH) (this : Nat) (x1 : Int32) (x2 : Int32) : Option RH :=
  grd h this [8] (
  pI h this [8] 0 (0 : Int32) fun h1 =>
  hI (c_M_isIn h1 x1 (1 : Int32) (60 : Int32)) noX fun v3 h2 =>
  if v3 = 0 then
    rI (-1 : Int32) h2
  else
    gQ h2 this [8] 14 fun v4 =>
    nn v4 fun a5 =>
    ldI h2 a5 0 (0 : Int32) fun v7 =>
    if v7 = 0 then
      rI (0 : Int32) h2
    else
      gQ h2 this [8] 19 fun v8 =>
      nn v8 fun a9 =>
      hV (c_M_save h2 this a9 (0 : Int32)) noX fun h11 =>
      pI h11 this [8] 29 x2 fun h12 =>
      itr (c_M_drawn_l47) (fun _ _ _ _ _ => none) FU h12 this x1 (0 : Int32) (0 : Int32))
set_option maxHeartbeats 4000000 in
theorem w_M_drawn_l47 (r47 : PH → Nat → Int32 → Int32 → Int32 → Option RH) (hr47 : ∀ (h : PH) (this : Nat) (x1 : Int32) (x3 : Int32) (x4 : Int32), Sim Y_M_drawn h 47 [(0, .ref this), (1, .int x1), (3, .int x3), (4, .int x4)] [] (r47 h this x1 x3 x4)) (h : PH) (this : Nat) (x1 : Int32) (x3 : Int32) (x4 : Int32) : Sim Y_M_drawn h 47 [(0, .ref this), (1, .int x1), (3, .int x3), (4, .int x4)] [] (c_M_drawn_l47 r47 h this x1 x3 x4) := by
  unfold c_M_drawn_l47
  refine x_iload (pc := 47) 3 rfl dX10_drawn_47 ?_
  refine x_iload_n (pc := 49) 1 rfl rfl dX10_drawn_49 ?_
  refine x_icmp_ge (pc := 50) 69 (by decide) dX10_drawn_50 ?_ ?_
  · refine x_aload_nR (pc := 69) (a := this) 0 rfl rfl dX10_drawn_69 ?_
    refine x_iload_n (pc := 70) 2 rfl rfl dX10_drawn_70 ?_
    refine x_if_le (pc := 71) 78 (by decide) dX10_drawn_71 ?_ ?_
    · refine x_iconst (pc := 78) (v := 0) (by decide) dX10_drawn_78 ?_
      refine x_callV (pc := 79) (As := [.int (0 : Int32)]) (rest := []) (lev' := 3) si_X10_339 (m_M_stay h this (0 : Int32)) (fun z e => grd1 e) rfl rfl (by decide) (cat4 (Nat.le_of_ble_eq_true rfl)) dX10_drawn_79 (kV (fun h1 => ?_)) xNo
      refine x_iload_n (pc := 82) 2 rfl rfl dX10_drawn_82 ?_
      exact x_iret (pc := 83) dX10_drawn_83
    · refine x_iconst (pc := 74) (v := 1) (by decide) dX10_drawn_74 ?_
      refine x_goto (pc := 75) 79 (by decide) dX10_drawn_75 ?_
      refine x_callV (pc := 79) (As := [.int (1 : Int32)]) (rest := []) (lev' := 3) si_X10_339 (m_M_stay h this (1 : Int32)) (fun z e => grd1 e) rfl rfl (by decide) (cat4 (Nat.le_of_ble_eq_true rfl)) dX10_drawn_79 (kV (fun h2 => ?_)) xNo
      refine x_iload_n (pc := 82) 2 rfl rfl dX10_drawn_82 ?_
      exact x_iret (pc := 83) dX10_drawn_83
  · refine x_aload_nR (pc := 53) (a := this) 0 rfl rfl dX10_drawn_53 ?_
    refine x_callV (pc := 54) (As := []) (rest := []) (lev' := 8) si_X10_336 (m_M_drawsDeed h this) (fun z e => grd1 e) rfl rfl (by decide) (cat4 (Nat.le_of_ble_eq_true rfl)) dX10_drawn_54 (kI (fun v4 h3 => ?_)) xNo
    refine x_if_eq (pc := 57) 63 (by decide) dX10_drawn_57 ?_ ?_
    · refine x_iinc (pc := 63) (v := (1 : Int32)) (lv' := [(4, .int (x4 + (1 : Int32))), (0, .ref this), (1, .int x1), (3, .int x3)]) 3 rfl (by decide) (by decide) rfl dX10_drawn_63 ?_
      refine x_goto (pc := 66) 47 (by decide) dX10_drawn_66 ?_
      refine Sim.lv [1, 2, 3, 0] rfl ?_
      exact hr47 h3 this x1 x3 (x4 + (1 : Int32))
    · refine x_iinc (pc := 60) (v := (1 : Int32)) (lv' := [(3, .int (x3 + (1 : Int32))), (0, .ref this), (1, .int x1), (4, .int x4)]) 2 rfl (by decide) (by decide) rfl dX10_drawn_60 ?_
      refine x_iinc (pc := 63) (v := (1 : Int32)) (lv' := [(4, .int (x4 + (1 : Int32))), (3, .int (x3 + (1 : Int32))), (0, .ref this), (1, .int x1)]) 3 rfl (by decide) (by decide) rfl dX10_drawn_63 ?_
      refine x_goto (pc := 66) 47 (by decide) dX10_drawn_66 ?_
      refine Sim.lv [2, 3, 1, 0] rfl ?_
      exact hr47 h3 this x1 (x3 + (1 : Int32)) (x4 + (1 : Int32))
set_option maxHeartbeats 4000000 in
theorem v_M_drawn_l47 : ∀ (n : Nat) (h : PH) (this : Nat) (x1 : Int32) (x3 : Int32) (x4 : Int32), Sim Y_M_drawn h 47 [(0, .ref this), (1, .int x1), (3, .int x3), (4, .int x4)] [] (itr (c_M_drawn_l47) (fun _ _ _ _ _ => none) n h this x1 x3 x4)
  | 0, h, this, x1, x3, x4 => Sim.none
  | n + 1, h, this, x1, x3, x4 => w_M_drawn_l47 _ (v_M_drawn_l47 n) h this x1 x3 x4
set_option maxHeartbeats 4000000 in
theorem m_M_drawn (h : PH) (this : Nat) (x1 : Int32) (x2 : Int32) : MM yX10_drawn (ws_ yX10_drawn cX10_drawn 5 (some .int)) 9 [.ref this, .int x1, .int x2] h (c_M_drawn h this x1 x2) := by
  refine MM.of (by decide) rfl (by decide) (Nat.le_of_ble_eq_true rfl) (own := RX10) (cc := cX10_drawn) (maxL := 5) (lev := 9) (rt := (some .int)) (ini := false) ?_
  show Sim Y_M_drawn h 0 [(0, .ref this), (1, .int x1), (2, .int x2)] [] _
  unfold c_M_drawn
  refine x_grd ?_
  refine x_aload_nR (pc := 0) (a := this) 0 rfl rfl dX10_drawn_0 ?_
  refine x_iconst (pc := 1) (v := 0) (by decide) dX10_drawn_1 ?_
  refine x_pI (pc := 2) fi_X10_1 (fun z => absurd z (by decide)) dX10_drawn_2 ?_
  intro h1
  refine x_iload_n (pc := 5) 1 rfl rfl dX10_drawn_5 ?_
  refine x_iconst (pc := 6) (v := 1) (by decide) dX10_drawn_6 ?_
  refine x_bipush (pc := 7) (v := 60) (by decide) dX10_drawn_7 ?_
  refine x_callS (pc := 9) (As := [.int x1, .int (1 : Int32), .int (60 : Int32)]) (rest := []) (lev' := 1) si_X10_75 (m_M_isIn h1 x1 (1 : Int32) (60 : Int32)) rfl rfl (by decide) (cat4 (Nat.le_of_ble_eq_true rfl)) dX10_drawn_9 (kI (fun v3 h2 => ?_)) xNo
  refine x_if_ne (pc := 12) 17 (by decide) dX10_drawn_12 ?_ ?_
  · refine x_aload_nR (pc := 17) (a := this) 0 rfl rfl dX10_drawn_17 ?_
    refine x_getQ (pc := 18) fi_X10_98 dX10_drawn_18 ?_
    intro v4
    refine x_iconst (pc := 21) (v := 0) (by decide) dX10_drawn_21 ?_
    refine x_nn (fun a5 e6 => ?_)
    subst e6
    refine x_iald (pc := 22) dX10_drawn_22 ?_
    intro v7
    refine x_if_ne (pc := 23) 28 (by decide) dX10_drawn_23 ?_ ?_
    · refine x_aload_nR (pc := 28) (a := this) 0 rfl rfl dX10_drawn_28 ?_
      refine x_aload_nR (pc := 29) (a := this) 0 rfl rfl dX10_drawn_29 ?_
      refine x_getQ (pc := 30) fi_X10_113 dX10_drawn_30 ?_
      intro v8
      refine x_iconst (pc := 33) (v := 0) (by decide) dX10_drawn_33 ?_
      refine x_nn (fun a9 e10 => ?_)
      subst e10
      refine x_callV (pc := 34) (As := [.ref a9, .int (0 : Int32)]) (rest := []) (lev' := 1) si_X10_288 (m_M_save h2 this a9 (0 : Int32)) (fun z e => grd1 e) rfl rfl (by decide) (cat4 (Nat.le_of_ble_eq_true rfl)) dX10_drawn_34 (kV (fun h11 => ?_)) xNo
      refine x_aload_nR (pc := 37) (a := this) 0 rfl rfl dX10_drawn_37 ?_
      refine x_iload_n (pc := 38) 2 rfl rfl dX10_drawn_38 ?_
      refine x_pI (pc := 39) fi_X10_325 (fun z => absurd z (by decide)) dX10_drawn_39 ?_
      intro h12
      refine x_iconst (pc := 42) (v := 0) (by decide) dX10_drawn_42 ?_
      refine x_istore_n (pc := 43) (lv' := [(3, .int (0 : Int32)), (0, .ref this), (1, .int x1), (2, .int x2)]) rfl (by decide) rfl dX10_drawn_43 ?_
      refine x_iconst (pc := 44) (v := 0) (by decide) dX10_drawn_44 ?_
      refine x_istore (pc := 45) (lv' := [(4, .int (0 : Int32)), (3, .int (0 : Int32)), (0, .ref this), (1, .int x1), (2, .int x2)]) (by decide) rfl dX10_drawn_45 ?_
      refine Sim.lv [2, 3, 1, 0] rfl ?_
      exact v_M_drawn_l47 FU h12 this x1 (0 : Int32) (0 : Int32)
    · refine x_iconst (pc := 26) (v := 0) (by decide) dX10_drawn_26 ?_
      exact x_iret (pc := 27) dX10_drawn_27
  · refine x_iconst (pc := 15) (v := (-1)) (by decide) dX10_drawn_15 ?_
    exact x_iret (pc := 16) dX10_drawn_16
abbrev Y_M_readRowName : Yx := (RX10, cX10_readRowName, 1, 4, (some .boolean), [], false)
def c_M_readRowName (h : PH) (this : Nat) : Option RH :=
  grd h this [8] (
  hI (c_M_isName h this) noX fun v2 h1 =>
  if v2 = 0 then
    hI (c_M_bad h1 this (1 : Int32)) noX fun v19 h18 =>
    rZ v19 h18
  else
    gQ h1 this [8] 20 fun v3 =>
    gQ h1 this [8] 14 fun v4 =>
    nn v4 fun a5 =>
    ldI h1 a5 0 (0 : Int32) fun v7 =>
    gL h1 this [8] 12 fun v8 =>
    nn v3 fun a9 =>
    hI (c_M_findIn h1 a9 v7 v8) noX fun v12 h11 =>
    pI h11 this [8] 13 v12 fun h13 =>
    gI h13 this [8] 13 fun v14 =>
    if v14 = (-1 : Int32) then
      hI (c_M_bad h13 this (3 : Int32)) noX fun v17 h16 =>
      rZ v17 h16
    else
      hV (c_M_go h13 this) noX fun h15 =>
      rZ (1 : Int32) h15)
set_option maxHeartbeats 4000000 in
theorem m_M_readRowName (h : PH) (this : Nat) : MM yX10_readRowName (ws_ yX10_readRowName cX10_readRowName 1 (some .boolean)) 4 [.ref this] h (c_M_readRowName h this) := by
  refine MM.of (by decide) rfl (by decide) (Nat.le_of_ble_eq_true rfl) (own := RX10) (cc := cX10_readRowName) (maxL := 1) (lev := 4) (rt := (some .boolean)) (ini := false) ?_
  show Sim Y_M_readRowName h 0 [(0, .ref this)] [] _
  unfold c_M_readRowName
  refine x_grd ?_
  refine x_aload_nR (pc := 0) (a := this) 0 rfl rfl dX10_readRowName_0 ?_
  refine x_callV (pc := 1) (As := []) (rest := []) (lev' := 3) si_X10_150 (m_M_isName h this) (fun z e => grd1 e) rfl rfl (by decide) (cat4 (Nat.le_of_ble_eq_true rfl)) dX10_readRowName_1 (kI (fun v2 h1 => ?_)) xNo
  refine x_if_ne (pc := 4) 13 (by decide) dX10_readRowName_4 ?_ ?_
  · refine x_aload_nR (pc := 13) (a := this) 0 rfl rfl dX10_readRowName_13 ?_
    refine x_aload_nR (pc := 14) (a := this) 0 rfl rfl dX10_readRowName_14 ?_
    refine x_getQ (pc := 15) fi_X10_116 dX10_readRowName_15 ?_
    intro v3
    refine x_aload_nR (pc := 18) (a := this) 0 rfl rfl dX10_readRowName_18 ?_
    refine x_getQ (pc := 19) fi_X10_98 dX10_readRowName_19 ?_
    intro v4
    refine x_iconst (pc := 22) (v := 0) (by decide) dX10_readRowName_22 ?_
    refine x_nn (fun a5 e6 => ?_)
    subst e6
    refine x_iald (pc := 23) dX10_readRowName_23 ?_
    intro v7
    refine x_aload_nR (pc := 24) (a := this) 0 rfl rfl dX10_readRowName_24 ?_
    refine x_getL (pc := 25) fi_X10_43 dX10_readRowName_25 ?_
    intro v8
    refine x_nn (fun a9 e10 => ?_)
    subst e10
    refine x_callS (pc := 28) (As := [.ref a9, .int v7, .long v8]) (rest := [.ref this]) (lev' := 1) si_X10_154 (m_M_findIn h1 a9 v7 v8) rfl rfl (by decide) (cat4 (Nat.le_of_ble_eq_true rfl)) dX10_readRowName_28 (kI (fun v12 h11 => ?_)) xNo
    refine x_pI (pc := 31) fi_X10_79 (fun z => absurd z (by decide)) dX10_readRowName_31 ?_
    intro h13
    refine x_aload_nR (pc := 34) (a := this) 0 rfl rfl dX10_readRowName_34 ?_
    refine x_getI (pc := 35) fi_X10_79 dX10_readRowName_35 ?_
    intro v14
    refine x_iconst (pc := 38) (v := (-1)) (by decide) dX10_readRowName_38 ?_
    refine x_icmp_ne (pc := 39) 48 (by decide) dX10_readRowName_39 ?_ ?_
    · refine x_aload_nR (pc := 48) (a := this) 0 rfl rfl dX10_readRowName_48 ?_
      refine x_callV (pc := 49) (As := []) (rest := []) (lev' := 2) si_X10_82 (m_M_go h13 this) (fun z e => grd1 e) rfl rfl (by decide) (cat4 (Nat.le_of_ble_eq_true rfl)) dX10_readRowName_49 (kV (fun h15 => ?_)) xNo
      refine x_iconst (pc := 52) (v := 1) (by decide) dX10_readRowName_52 ?_
      exact x_zret (pc := 53) dX10_readRowName_53
    · refine x_aload_nR (pc := 42) (a := this) 0 rfl rfl dX10_readRowName_42 ?_
      refine x_iconst (pc := 43) (v := 3) (by decide) dX10_readRowName_43 ?_
      refine x_callV (pc := 44) (As := [.int (3 : Int32)]) (rest := []) (lev' := 1) si_X10_72 (m_M_bad h13 this (3 : Int32)) (fun z e => grd1 e) rfl rfl (by decide) (cat4 (Nat.le_of_ble_eq_true rfl)) dX10_readRowName_44 (kI (fun v17 h16 => ?_)) xNo
      exact x_zret (pc := 47) dX10_readRowName_47
  · refine x_aload_nR (pc := 7) (a := this) 0 rfl rfl dX10_readRowName_7 ?_
    refine x_iconst (pc := 8) (v := 1) (by decide) dX10_readRowName_8 ?_
    refine x_callV (pc := 9) (As := [.int (1 : Int32)]) (rest := []) (lev' := 1) si_X10_72 (m_M_bad h1 this (1 : Int32)) (fun z e => grd1 e) rfl rfl (by decide) (cat4 (Nat.le_of_ble_eq_true rfl)) dX10_readRowName_9 (kI (fun v19 h18 => ?_)) xNo
    exact x_zret (pc := 12) dX10_readRowName_12
abbrev Y_M_keep : Yx := (RX10, cX10_keep, 3, 1, (some .boolean), [], false)
def c_M_keep (h : PH) (this : Nat) (x1 : Int32) (x2 : Int32) : Option RH :=
  grd h this [8] (
  if x2 = 0 then
    rZ x2 h
  else
    gQ h this [8] 30 fun v1 =>
    gI h this [8] 13 fun v2 =>
    nn v1 fun a3 =>
    stI h a3 x1 v2 fun h5 =>
    rZ x2 h5)
set_option maxHeartbeats 4000000 in
theorem m_M_keep (h : PH) (this : Nat) (x1 : Int32) (x2 : Int32) : MM yX10_keep (ws_ yX10_keep cX10_keep 3 (some .boolean)) 1 [.ref this, .int x1, .int x2] h (c_M_keep h this x1 x2) := by
  refine MM.of (by decide) rfl (by decide) (Nat.le_of_ble_eq_true rfl) (own := RX10) (cc := cX10_keep) (maxL := 3) (lev := 1) (rt := (some .boolean)) (ini := false) ?_
  show Sim Y_M_keep h 0 [(0, .ref this), (1, .int x1), (2, .int x2)] [] _
  unfold c_M_keep
  refine x_grd ?_
  refine x_iload_n (pc := 0) 2 rfl rfl dX10_keep_0 ?_
  refine x_if_eq (pc := 1) 14 (by decide) dX10_keep_1 ?_ ?_
  · refine x_iload_n (pc := 14) 2 rfl rfl dX10_keep_14 ?_
    exact x_zret (pc := 15) dX10_keep_15
  · refine x_aload_nR (pc := 4) (a := this) 0 rfl rfl dX10_keep_4 ?_
    refine x_getQ (pc := 5) fi_X10_133 dX10_keep_5 ?_
    intro v1
    refine x_iload_n (pc := 8) 1 rfl rfl dX10_keep_8 ?_
    refine x_aload_nR (pc := 9) (a := this) 0 rfl rfl dX10_keep_9 ?_
    refine x_getI (pc := 10) fi_X10_79 dX10_keep_10 ?_
    intro v2
    refine x_nn (fun a3 e4 => ?_)
    subst e4
    refine x_iast (pc := 13) dX10_keep_13 ?_
    intro h5
    refine x_iload_n (pc := 14) 2 rfl rfl dX10_keep_14 ?_
    exact x_zret (pc := 15) dX10_keep_15
abbrev Y_M_readOther : Yx := (RX10, cX10_readOther, 2, 4, (some .boolean), [], false)
def c_M_readOther (h : PH) (this : Nat) (x1 : Int32) : Option RH :=
  grd h this [8] (
  hI (c_M_isName h this) noX fun v2 h1 =>
  if v2 = 0 then
    hI (c_M_bad h1 this (1 : Int32)) noX fun v35 h34 =>
    rZ v35 h34
  else
    gQ h1 this [8] 30 fun v3 =>
    gQ h1 this [8] 20 fun v4 =>
    gQ h1 this [8] 14 fun v5 =>
    nn v5 fun a6 =>
    ldI h1 a6 0 (0 : Int32) fun v8 =>
    gL h1 this [8] 12 fun v9 =>
    nn v4 fun a10 =>
    hI (c_M_findIn h1 a10 v8 v9) noX fun v13 h12 =>
    nn v3 fun a14 =>
    stI h12 a14 (x1 + (3 : Int32)) v13 fun h16 =>
    gQ h16 this [8] 30 fun v17 =>
    nn v17 fun a18 =>
    ldI h16 a18 0 (x1 + (3 : Int32)) fun v20 =>
    if v20 = (-1 : Int32) then
      hI (c_M_bad h16 this (3 : Int32)) noX fun v22 h21 =>
      rZ v22 h21
    else
      gQ h16 this [8] 30 fun v23 =>
      nn v23 fun a24 =>
      ldI h16 a24 0 (x1 + (3 : Int32)) fun v26 =>
      gQ h16 this [8] 30 fun v27 =>
      nn v27 fun a28 =>
      ldI h16 a28 0 (x1 + (1 : Int32)) fun v30 =>
      if v26 = v30 then
        hI (c_M_bad h16 this (3 : Int32)) noX fun v33 h32 =>
        rZ v33 h32
      else
        hV (c_M_go h16 this) noX fun h31 =>
        rZ (1 : Int32) h31)
set_option maxHeartbeats 4000000 in
theorem m_M_readOther (h : PH) (this : Nat) (x1 : Int32) : MM yX10_readOther (ws_ yX10_readOther cX10_readOther 2 (some .boolean)) 4 [.ref this, .int x1] h (c_M_readOther h this x1) := by
  refine MM.of (by decide) rfl (by decide) (Nat.le_of_ble_eq_true rfl) (own := RX10) (cc := cX10_readOther) (maxL := 2) (lev := 4) (rt := (some .boolean)) (ini := false) ?_
  show Sim Y_M_readOther h 0 [(0, .ref this), (1, .int x1)] [] _
  unfold c_M_readOther
  refine x_grd ?_
  refine x_aload_nR (pc := 0) (a := this) 0 rfl rfl dX10_readOther_0 ?_
  refine x_callV (pc := 1) (As := []) (rest := []) (lev' := 3) si_X10_150 (m_M_isName h this) (fun z e => grd1 e) rfl rfl (by decide) (cat4 (Nat.le_of_ble_eq_true rfl)) dX10_readOther_1 (kI (fun v2 h1 => ?_)) xNo
  refine x_if_ne (pc := 4) 13 (by decide) dX10_readOther_4 ?_ ?_
  · refine x_aload_nR (pc := 13) (a := this) 0 rfl rfl dX10_readOther_13 ?_
    refine x_getQ (pc := 14) fi_X10_133 dX10_readOther_14 ?_
    intro v3
    refine x_iload_n (pc := 17) 1 rfl rfl dX10_readOther_17 ?_
    refine x_iconst (pc := 18) (v := 3) (by decide) dX10_readOther_18 ?_
    refine x_iadd (pc := 19) dX10_readOther_19 ?_
    refine x_aload_nR (pc := 20) (a := this) 0 rfl rfl dX10_readOther_20 ?_
    refine x_getQ (pc := 21) fi_X10_116 dX10_readOther_21 ?_
    intro v4
    refine x_aload_nR (pc := 24) (a := this) 0 rfl rfl dX10_readOther_24 ?_
    refine x_getQ (pc := 25) fi_X10_98 dX10_readOther_25 ?_
    intro v5
    refine x_iconst (pc := 28) (v := 0) (by decide) dX10_readOther_28 ?_
    refine x_nn (fun a6 e7 => ?_)
    subst e7
    refine x_iald (pc := 29) dX10_readOther_29 ?_
    intro v8
    refine x_aload_nR (pc := 30) (a := this) 0 rfl rfl dX10_readOther_30 ?_
    refine x_getL (pc := 31) fi_X10_43 dX10_readOther_31 ?_
    intro v9
    refine x_nn (fun a10 e11 => ?_)
    subst e11
    refine x_callS (pc := 34) (As := [.ref a10, .int v8, .long v9]) (rest := [.int (x1 + (3 : Int32)), va_rf v3]) (lev' := 1) si_X10_154 (m_M_findIn h1 a10 v8 v9) rfl rfl (by decide) (cat4 (Nat.le_of_ble_eq_true rfl)) dX10_readOther_34 (kI (fun v13 h12 => ?_)) xNo
    refine x_nn (fun a14 e15 => ?_)
    subst e15
    refine x_iast (pc := 37) dX10_readOther_37 ?_
    intro h16
    refine x_aload_nR (pc := 38) (a := this) 0 rfl rfl dX10_readOther_38 ?_
    refine x_getQ (pc := 39) fi_X10_133 dX10_readOther_39 ?_
    intro v17
    refine x_iload_n (pc := 42) 1 rfl rfl dX10_readOther_42 ?_
    refine x_iconst (pc := 43) (v := 3) (by decide) dX10_readOther_43 ?_
    refine x_iadd (pc := 44) dX10_readOther_44 ?_
    refine x_nn (fun a18 e19 => ?_)
    subst e19
    refine x_iald (pc := 45) dX10_readOther_45 ?_
    intro v20
    refine x_iconst (pc := 46) (v := (-1)) (by decide) dX10_readOther_46 ?_
    refine x_icmp_eq (pc := 47) 69 (by decide) dX10_readOther_47 ?_ ?_
    · refine x_aload_nR (pc := 69) (a := this) 0 rfl rfl dX10_readOther_69 ?_
      refine x_iconst (pc := 70) (v := 3) (by decide) dX10_readOther_70 ?_
      refine x_callV (pc := 71) (As := [.int (3 : Int32)]) (rest := []) (lev' := 1) si_X10_72 (m_M_bad h16 this (3 : Int32)) (fun z e => grd1 e) rfl rfl (by decide) (cat4 (Nat.le_of_ble_eq_true rfl)) dX10_readOther_71 (kI (fun v22 h21 => ?_)) xNo
      exact x_zret (pc := 74) dX10_readOther_74
    · refine x_aload_nR (pc := 50) (a := this) 0 rfl rfl dX10_readOther_50 ?_
      refine x_getQ (pc := 51) fi_X10_133 dX10_readOther_51 ?_
      intro v23
      refine x_iload_n (pc := 54) 1 rfl rfl dX10_readOther_54 ?_
      refine x_iconst (pc := 55) (v := 3) (by decide) dX10_readOther_55 ?_
      refine x_iadd (pc := 56) dX10_readOther_56 ?_
      refine x_nn (fun a24 e25 => ?_)
      subst e25
      refine x_iald (pc := 57) dX10_readOther_57 ?_
      intro v26
      refine x_aload_nR (pc := 58) (a := this) 0 rfl rfl dX10_readOther_58 ?_
      refine x_getQ (pc := 59) fi_X10_133 dX10_readOther_59 ?_
      intro v27
      refine x_iload_n (pc := 62) 1 rfl rfl dX10_readOther_62 ?_
      refine x_iconst (pc := 63) (v := 1) (by decide) dX10_readOther_63 ?_
      refine x_iadd (pc := 64) dX10_readOther_64 ?_
      refine x_nn (fun a28 e29 => ?_)
      subst e29
      refine x_iald (pc := 65) dX10_readOther_65 ?_
      intro v30
      refine x_icmp_ne (pc := 66) 75 (by decide) dX10_readOther_66 ?_ ?_
      · refine x_aload_nR (pc := 75) (a := this) 0 rfl rfl dX10_readOther_75 ?_
        refine x_callV (pc := 76) (As := []) (rest := []) (lev' := 2) si_X10_82 (m_M_go h16 this) (fun z e => grd1 e) rfl rfl (by decide) (cat4 (Nat.le_of_ble_eq_true rfl)) dX10_readOther_76 (kV (fun h31 => ?_)) xNo
        refine x_iconst (pc := 79) (v := 1) (by decide) dX10_readOther_79 ?_
        exact x_zret (pc := 80) dX10_readOther_80
      · refine x_aload_nR (pc := 69) (a := this) 0 rfl rfl dX10_readOther_69 ?_
        refine x_iconst (pc := 70) (v := 3) (by decide) dX10_readOther_70 ?_
        refine x_callV (pc := 71) (As := [.int (3 : Int32)]) (rest := []) (lev' := 1) si_X10_72 (m_M_bad h16 this (3 : Int32)) (fun z e => grd1 e) rfl rfl (by decide) (cat4 (Nat.le_of_ble_eq_true rfl)) dX10_readOther_71 (kI (fun v33 h32 => ?_)) xNo
        exact x_zret (pc := 74) dX10_readOther_74
  · refine x_aload_nR (pc := 7) (a := this) 0 rfl rfl dX10_readOther_7 ?_
    refine x_iconst (pc := 8) (v := 1) (by decide) dX10_readOther_8 ?_
    refine x_callV (pc := 9) (As := [.int (1 : Int32)]) (rest := []) (lev' := 1) si_X10_72 (m_M_bad h1 this (1 : Int32)) (fun z e => grd1 e) rfl rfl (by decide) (cat4 (Nat.le_of_ble_eq_true rfl)) dX10_readOther_9 (kI (fun v35 h34 => ?_)) xNo
    exact x_zret (pc := 12) dX10_readOther_12
theorem si_X10_353 : SiV RX10 353 8 yX10_readOther cX10_readOther 2 (some .boolean) 1 := ⟨_, _, _, ci_8.1, by decide, lw_V q2221 q2223 qs95 q121 q2224, ⟨rfl, by decide, by decide, by decide +kernel⟩, by decide⟩
theorem si_X10_349 : SiV RX10 349 8 yX10_keep cX10_keep 3 (some .boolean) 2 := ⟨_, _, _, ci_8.1, by decide, lw_V q2217 q2219 qs94 q121 q2220, ⟨rfl, by decide, by decide, by decide +kernel⟩, by decide⟩
theorem fi_X10_343 : FI RX10 343 [8] 32 .int false true := (fi_c ci_8 (by decide) rfl rfl (Or.inl q1718) (Or.inl rfl) (fun h => absurd h (by decide)) fi_n)
theorem si_X10_346 : SiV RX10 346 8 yX10_readRowName cX10_readRowName 1 (some .boolean) 0 := ⟨_, _, _, ci_8.1, by decide, lw_V q2213 q2215 qs93 q121 q2216, ⟨rfl, by decide, by decide, by decide +kernel⟩, by decide⟩
abbrev Y_M_readBookLine : Yx := (RX10, cX10_readBookLine, 4, 5, (some .boolean), [], false)
def c_M_readBookLine_j147 (h : PH) (this : Nat) (x2 : Int32) : Option RH :=
  hI (c_M_readOther h this x2) noX fun v2 h1 =>
  if v2 = 0 then
    rZ (0 : Int32) h1
  else
    hI (c_M_readEnd h1 this) noX fun v4 h3 =>
    if v4 = 0 then
      rZ (0 : Int32) h3
    else
      rZ (1 : Int32) h3
def c_M_readBookLine_j226 (h : PH) (this : Nat) (s0 : Int32) (s1 : Int32) (s2 : Nat) : Option RH :=
  hI (c_M_keep h s2 s1 s0) noX fun v2 h1 =>
  if v2 = 0 then
    rZ (0 : Int32) h1
  else
    hI (c_M_readEnd h1 this) noX fun v4 h3 =>
    if v4 = 0 then
      rZ (0 : Int32) h3
    else
      rZ (1 : Int32) h3
def c_M_readBookLine_j223 (h : PH) (this : Nat) (s0 : Int32) (s1 : Int32) (s2 : Nat) (s3 : Int32) (s4 : Nat) : Option RH :=
  hI (c_M_readNumber h s2 s1 s0) noX fun v2 h1 =>
  c_M_readBookLine_j226 h1 this v2 s3 s4
def c_M_readBookLine_j189 (h : PH) (this : Nat) (x1 : Int32) (x2 : Int32) (s0 : Int32) : Option RH :=
  if s0 = 0 then
    if x1 = (6 : Int32) then
      c_M_readBookLine_j223 h this (7 : Int32) (0 : Int32) this (x2 + (3 : Int32)) this
    else
      c_M_readBookLine_j223 h this (1 : Int32) (0 : Int32) this (x2 + (3 : Int32)) this
  else
    hI (c_M_readNumber h this (1 : Int32) (600 : Int32)) noX fun v2 h1 =>
    c_M_readBookLine_j226 h1 this v2 (x2 + (3 : Int32)) this
def c_M_readBookLine_j184 (h : PH) (this : Nat) (x1 : Int32) (x2 : Int32) : Option RH :=
  c_M_readBookLine_j189 h this x1 x2 (1 : Int32)
def c_M_readBookLine_j137 (h : PH) (this : Nat) (x1 : Int32) (x2 : Int32) : Option RH :=
  if x1 = (4 : Int32) then
    c_M_readBookLine_j147 h this x2
  else
    if x1 = (5 : Int32) then
      c_M_readBookLine_j147 h this x2
    else
      if x1 = (2 : Int32) then
        c_M_readBookLine_j184 h this x1 x2
      else
        if x1 = (3 : Int32) then
          c_M_readBookLine_j184 h this x1 x2
        else
          if x1 = (7 : Int32) then
            c_M_readBookLine_j184 h this x1 x2
          else
            c_M_readBookLine_j189 h this x1 x2 (0 : Int32)
def c_M_readBookLine_j112 (h : PH) (this : Nat) (x1 : Int32) (x2 : Int32) : Option RH :=
  if x1 = (4 : Int32) then
    c_M_readBookLine_j137 h this x1 x2
  else
    hI (c_M_readNumber h this (0 : Int32) (999 : Int32)) noX fun v2 h1 =>
    hI (c_M_keep h1 this (x2 + (2 : Int32)) v2) noX fun v4 h3 =>
    if v4 = 0 then
      rZ (0 : Int32) h3
    else
      c_M_readBookLine_j137 h3 this x1 x2
def c_M_readBookLine_l4 (r4 : PH → Nat → Int32 → Int32 → Option RH) (h : PH) (this : Nat) (x1 : Int32) (x2 : Int32) : Option RH :=
  if (7 : Int32) < x2 then
    if x1 = (-1 : Int32) then
      hI (c_M_bad h this (1 : Int32)) noX fun v24 h23 =>
      rZ v24 h23
    else
      gI h this [8] 32 fun v1 =>
      if v1 = (40 : Int32) then
        hI (c_M_bad h this (4 : Int32)) noX fun v22 h21 =>
        rZ v22 h21
      else
        gI h this [8] 32 fun v2 =>
        nm ((4 : Int32) * v2) fun y3 =>
        gQ h this [8] 30 fun v4 =>
        nn v4 fun a5 =>
        stI h a5 y3 x1 fun h7 =>
        gQ h7 this [8] 30 fun v8 =>
        nn v8 fun a9 =>
        stI h7 a9 (y3 + (1 : Int32)) (0 : Int32) fun h11 =>
        gQ h11 this [8] 30 fun v12 =>
        nn v12 fun a13 =>
        stI h11 a13 (y3 + (2 : Int32)) (0 : Int32) fun h15 =>
        hV (c_M_go h15 this) noX fun h16 =>
        if (6 : Int32) ≤ x1 then
          c_M_readBookLine_j112 h16 this x1 y3
        else
          hI (c_M_readRowName h16 this) noX fun v18 h17 =>
          hI (c_M_keep h17 this (y3 + (1 : Int32)) v18) noX fun v20 h19 =>
          if v20 = 0 then
            rZ (0 : Int32) h19
          else
            c_M_readBookLine_j112 h19 this x1 y3
  else
    hI (c_M_isWord h this ((3 : Int32) + x2)) noX fun v26 h25 =>
    if v26 = 0 then
      r4 h25 this x1 (x2 + (1 : Int32))
    else
      r4 h25 this x2 (x2 + (1 : Int32))
def c_M_readBookLine (h : PH) (this : Nat) : Option RH :=
  grd h this [8] (
  itr (c_M_readBookLine_l4) (fun _ _ _ _ => none) FU h this (-1 : Int32) (0 : Int32))
set_option maxHeartbeats 4000000 in
theorem w_M_readBookLine_j147 (h : PH) (this : Nat) (x2 : Int32) : Sim Y_M_readBookLine h 147 [(0, .ref this), (2, .int x2)] [] (c_M_readBookLine_j147 h this x2) := by
  unfold c_M_readBookLine_j147
  refine x_aload_nR (pc := 147) (a := this) 0 rfl rfl dX10_readBookLine_147 ?_
  refine x_iload_n (pc := 148) 1 rfl rfl dX10_readBookLine_148 ?_
  refine x_callV (pc := 149) (As := [.int x2]) (rest := []) (lev' := 4) si_X10_353 (m_M_readOther h this x2) (fun z e => grd1 e) rfl rfl (by decide) (cat4 (Nat.le_of_ble_eq_true rfl)) dX10_readBookLine_149 (kI (fun v2 h1 => ?_)) xNo
  refine x_if_eq (pc := 152) 166 (by decide) dX10_readBookLine_152 ?_ ?_
  · refine x_iconst (pc := 166) (v := 0) (by decide) dX10_readBookLine_166 ?_
    exact x_zret (pc := 167) dX10_readBookLine_167
  · refine x_aload_nR (pc := 155) (a := this) 0 rfl rfl dX10_readBookLine_155 ?_
    refine x_callV (pc := 156) (As := []) (rest := []) (lev' := 3) si_X10_186 (m_M_readEnd h1 this) (fun z e => grd1 e) rfl rfl (by decide) (cat4 (Nat.le_of_ble_eq_true rfl)) dX10_readBookLine_156 (kI (fun v4 h3 => ?_)) xNo
    refine x_if_eq (pc := 159) 166 (by decide) dX10_readBookLine_159 ?_ ?_
    · refine x_iconst (pc := 166) (v := 0) (by decide) dX10_readBookLine_166 ?_
      exact x_zret (pc := 167) dX10_readBookLine_167
    · refine x_iconst (pc := 162) (v := 1) (by decide) dX10_readBookLine_162 ?_
      refine x_goto (pc := 163) 167 (by decide) dX10_readBookLine_163 ?_
      exact x_zret (pc := 167) dX10_readBookLine_167
set_option maxHeartbeats 4000000 in
theorem w_M_readBookLine_j226 (h : PH) (this : Nat) (s0 : Int32) (s1 : Int32) (s2 : Nat) : Sim Y_M_readBookLine h 226 [(0, .ref this)] [.int s0, .int s1, .ref s2] (c_M_readBookLine_j226 h this s0 s1 s2) := by
  unfold c_M_readBookLine_j226
  refine x_callV (pc := 226) (As := [.int s1, .int s0]) (rest := []) (lev' := 1) si_X10_349 (m_M_keep h s2 s1 s0) (fun z e => grd1 e) rfl rfl (by decide) (cat4 (Nat.le_of_ble_eq_true rfl)) dX10_readBookLine_226 (kI (fun v2 h1 => ?_)) xNo
  refine x_if_eq (pc := 229) 243 (by decide) dX10_readBookLine_229 ?_ ?_
  · refine x_iconst (pc := 243) (v := 0) (by decide) dX10_readBookLine_243 ?_
    exact x_zret (pc := 244) dX10_readBookLine_244
  · refine x_aload_nR (pc := 232) (a := this) 0 rfl rfl dX10_readBookLine_232 ?_
    refine x_callV (pc := 233) (As := []) (rest := []) (lev' := 3) si_X10_186 (m_M_readEnd h1 this) (fun z e => grd1 e) rfl rfl (by decide) (cat4 (Nat.le_of_ble_eq_true rfl)) dX10_readBookLine_233 (kI (fun v4 h3 => ?_)) xNo
    refine x_if_eq (pc := 236) 243 (by decide) dX10_readBookLine_236 ?_ ?_
    · refine x_iconst (pc := 243) (v := 0) (by decide) dX10_readBookLine_243 ?_
      exact x_zret (pc := 244) dX10_readBookLine_244
    · refine x_iconst (pc := 239) (v := 1) (by decide) dX10_readBookLine_239 ?_
      refine x_goto (pc := 240) 244 (by decide) dX10_readBookLine_240 ?_
      exact x_zret (pc := 244) dX10_readBookLine_244
set_option maxHeartbeats 4000000 in
theorem w_M_readBookLine_j223 (h : PH) (this : Nat) (s0 : Int32) (s1 : Int32) (s2 : Nat) (s3 : Int32) (s4 : Nat) : Sim Y_M_readBookLine h 223 [(0, .ref this)] [.int s0, .int s1, .ref s2, .int s3, .ref s4] (c_M_readBookLine_j223 h this s0 s1 s2 s3 s4) := by
  unfold c_M_readBookLine_j223
  refine x_callV (pc := 223) (As := [.int s1, .int s0]) (rest := [.int s3, .ref s4]) (lev' := 3) si_X10_146 (m_M_readNumber h s2 s1 s0) (fun z e => grd1 e) rfl rfl (by decide) (cat4 (Nat.le_of_ble_eq_true rfl)) dX10_readBookLine_223 (kI (fun v2 h1 => ?_)) xNo
  exact w_M_readBookLine_j226 h1 this v2 s3 s4
set_option maxHeartbeats 4000000 in
theorem w_M_readBookLine_j189 (h : PH) (this : Nat) (x1 : Int32) (x2 : Int32) (s0 : Int32) : Sim Y_M_readBookLine h 189 [(0, .ref this), (1, .int x1), (2, .int x2)] [.int s0] (c_M_readBookLine_j189 h this x1 x2 s0) := by
  unfold c_M_readBookLine_j189
  refine x_istore_n (pc := 189) (lv' := [(3, .int s0), (0, .ref this), (1, .int x1), (2, .int x2)]) rfl (by decide) rfl dX10_readBookLine_189 ?_
  refine x_aload_nR (pc := 190) (a := this) 1 rfl rfl dX10_readBookLine_190 ?_
  refine x_iload_n (pc := 191) 3 rfl rfl dX10_readBookLine_191 ?_
  refine x_iconst (pc := 192) (v := 3) (by decide) dX10_readBookLine_192 ?_
  refine x_iadd (pc := 193) dX10_readBookLine_193 ?_
  refine x_iload_n (pc := 194) 0 rfl rfl dX10_readBookLine_194 ?_
  refine x_if_eq (pc := 195) 209 (by decide) dX10_readBookLine_195 ?_ ?_
  · refine x_aload_nR (pc := 209) (a := this) 1 rfl rfl dX10_readBookLine_209 ?_
    refine x_iconst (pc := 210) (v := 0) (by decide) dX10_readBookLine_210 ?_
    refine x_iload_n (pc := 211) 2 rfl rfl dX10_readBookLine_211 ?_
    refine x_bipush (pc := 212) (v := 6) (by decide) dX10_readBookLine_212 ?_
    refine x_icmp_ne (pc := 214) 222 (by decide) dX10_readBookLine_214 ?_ ?_
    · refine x_iconst (pc := 222) (v := 1) (by decide) dX10_readBookLine_222 ?_
      refine Sim.lv [1] rfl ?_
      exact w_M_readBookLine_j223 h this (1 : Int32) (0 : Int32) this (x2 + (3 : Int32)) this
    · refine x_bipush (pc := 217) (v := 7) (by decide) dX10_readBookLine_217 ?_
      refine x_goto (pc := 219) 223 (by decide) dX10_readBookLine_219 ?_
      refine Sim.lv [1] rfl ?_
      exact w_M_readBookLine_j223 h this (7 : Int32) (0 : Int32) this (x2 + (3 : Int32)) this
  · refine x_aload_nR (pc := 198) (a := this) 1 rfl rfl dX10_readBookLine_198 ?_
    refine x_iconst (pc := 199) (v := 1) (by decide) dX10_readBookLine_199 ?_
    refine x_sipush (pc := 200) (v := 600) (by decide) dX10_readBookLine_200 ?_
    refine x_callV (pc := 203) (As := [.int (1 : Int32), .int (600 : Int32)]) (rest := [.int (x2 + (3 : Int32)), .ref this]) (lev' := 3) si_X10_146 (m_M_readNumber h this (1 : Int32) (600 : Int32)) (fun z e => grd1 e) rfl rfl (by decide) (cat4 (Nat.le_of_ble_eq_true rfl)) dX10_readBookLine_203 (kI (fun v2 h1 => ?_)) xNo
    refine x_goto (pc := 206) 226 (by decide) dX10_readBookLine_206 ?_
    refine Sim.lv [1] rfl ?_
    exact w_M_readBookLine_j226 h1 this v2 (x2 + (3 : Int32)) this
set_option maxHeartbeats 4000000 in
theorem w_M_readBookLine_j184 (h : PH) (this : Nat) (x1 : Int32) (x2 : Int32) : Sim Y_M_readBookLine h 184 [(0, .ref this), (1, .int x1), (2, .int x2)] [] (c_M_readBookLine_j184 h this x1 x2) := by
  unfold c_M_readBookLine_j184
  refine x_iconst (pc := 184) (v := 1) (by decide) dX10_readBookLine_184 ?_
  refine x_goto (pc := 185) 189 (by decide) dX10_readBookLine_185 ?_
  exact w_M_readBookLine_j189 h this x1 x2 (1 : Int32)
set_option maxHeartbeats 4000000 in
theorem w_M_readBookLine_j137 (h : PH) (this : Nat) (x1 : Int32) (x2 : Int32) : Sim Y_M_readBookLine h 137 [(0, .ref this), (1, .int x1), (2, .int x2)] [] (c_M_readBookLine_j137 h this x1 x2) := by
  unfold c_M_readBookLine_j137
  refine x_iload_n (pc := 137) 1 rfl rfl dX10_readBookLine_137 ?_
  refine x_iconst (pc := 138) (v := 4) (by decide) dX10_readBookLine_138 ?_
  refine x_icmp_eq (pc := 139) 147 (by decide) dX10_readBookLine_139 ?_ ?_
  · refine Sim.lv [0, 2] rfl ?_
    exact w_M_readBookLine_j147 h this x2
  · refine x_iload_n (pc := 142) 1 rfl rfl dX10_readBookLine_142 ?_
    refine x_iconst (pc := 143) (v := 5) (by decide) dX10_readBookLine_143 ?_
    refine x_icmp_ne (pc := 144) 168 (by decide) dX10_readBookLine_144 ?_ ?_
    · refine x_iload_n (pc := 168) 1 rfl rfl dX10_readBookLine_168 ?_
      refine x_iconst (pc := 169) (v := 2) (by decide) dX10_readBookLine_169 ?_
      refine x_icmp_eq (pc := 170) 184 (by decide) dX10_readBookLine_170 ?_ ?_
      · exact w_M_readBookLine_j184 h this x1 x2
      · refine x_iload_n (pc := 173) 1 rfl rfl dX10_readBookLine_173 ?_
        refine x_iconst (pc := 174) (v := 3) (by decide) dX10_readBookLine_174 ?_
        refine x_icmp_eq (pc := 175) 184 (by decide) dX10_readBookLine_175 ?_ ?_
        · exact w_M_readBookLine_j184 h this x1 x2
        · refine x_iload_n (pc := 178) 1 rfl rfl dX10_readBookLine_178 ?_
          refine x_bipush (pc := 179) (v := 7) (by decide) dX10_readBookLine_179 ?_
          refine x_icmp_ne (pc := 181) 188 (by decide) dX10_readBookLine_181 ?_ ?_
          · refine x_iconst (pc := 188) (v := 0) (by decide) dX10_readBookLine_188 ?_
            exact w_M_readBookLine_j189 h this x1 x2 (0 : Int32)
          · exact w_M_readBookLine_j184 h this x1 x2
    · refine Sim.lv [0, 2] rfl ?_
      exact w_M_readBookLine_j147 h this x2
set_option maxHeartbeats 4000000 in
theorem w_M_readBookLine_j112 (h : PH) (this : Nat) (x1 : Int32) (x2 : Int32) : Sim Y_M_readBookLine h 112 [(0, .ref this), (1, .int x1), (2, .int x2)] [] (c_M_readBookLine_j112 h this x1 x2) := by
  unfold c_M_readBookLine_j112
  refine x_iload_n (pc := 112) 1 rfl rfl dX10_readBookLine_112 ?_
  refine x_iconst (pc := 113) (v := 4) (by decide) dX10_readBookLine_113 ?_
  refine x_icmp_eq (pc := 114) 137 (by decide) dX10_readBookLine_114 ?_ ?_
  · exact w_M_readBookLine_j137 h this x1 x2
  · refine x_aload_nR (pc := 117) (a := this) 0 rfl rfl dX10_readBookLine_117 ?_
    refine x_iload_n (pc := 118) 2 rfl rfl dX10_readBookLine_118 ?_
    refine x_iconst (pc := 119) (v := 2) (by decide) dX10_readBookLine_119 ?_
    refine x_iadd (pc := 120) dX10_readBookLine_120 ?_
    refine x_aload_nR (pc := 121) (a := this) 0 rfl rfl dX10_readBookLine_121 ?_
    refine x_iconst (pc := 122) (v := 0) (by decide) dX10_readBookLine_122 ?_
    refine x_sipush (pc := 123) (v := 999) (by decide) dX10_readBookLine_123 ?_
    refine x_callV (pc := 126) (As := [.int (0 : Int32), .int (999 : Int32)]) (rest := [.int (x2 + (2 : Int32)), .ref this]) (lev' := 3) si_X10_146 (m_M_readNumber h this (0 : Int32) (999 : Int32)) (fun z e => grd1 e) rfl rfl (by decide) (cat4 (Nat.le_of_ble_eq_true rfl)) dX10_readBookLine_126 (kI (fun v2 h1 => ?_)) xNo
    refine x_callV (pc := 129) (As := [.int (x2 + (2 : Int32)), .int v2]) (rest := []) (lev' := 1) si_X10_349 (m_M_keep h1 this (x2 + (2 : Int32)) v2) (fun z e => grd1 e) rfl rfl (by decide) (cat4 (Nat.le_of_ble_eq_true rfl)) dX10_readBookLine_129 (kI (fun v4 h3 => ?_)) xNo
    refine x_if_ne (pc := 132) 137 (by decide) dX10_readBookLine_132 ?_ ?_
    · exact w_M_readBookLine_j137 h3 this x1 x2
    · refine x_iconst (pc := 135) (v := 0) (by decide) dX10_readBookLine_135 ?_
      exact x_zret (pc := 136) dX10_readBookLine_136
set_option maxHeartbeats 4000000 in
theorem w_M_readBookLine_l4 (r4 : PH → Nat → Int32 → Int32 → Option RH) (hr4 : ∀ (h : PH) (this : Nat) (x1 : Int32) (x2 : Int32), Sim Y_M_readBookLine h 4 [(0, .ref this), (1, .int x1), (2, .int x2)] [] (r4 h this x1 x2)) (h : PH) (this : Nat) (x1 : Int32) (x2 : Int32) : Sim Y_M_readBookLine h 4 [(0, .ref this), (1, .int x1), (2, .int x2)] [] (c_M_readBookLine_l4 r4 h this x1 x2) := by
  unfold c_M_readBookLine_l4
  refine x_iload_n (pc := 4) 2 rfl rfl dX10_readBookLine_4 ?_
  refine x_bipush (pc := 5) (v := 7) (by decide) dX10_readBookLine_5 ?_
  refine x_icmp_gt (pc := 7) 28 (by decide) dX10_readBookLine_7 ?_ ?_
  · refine x_iload_n (pc := 28) 1 rfl rfl dX10_readBookLine_28 ?_
    refine x_iconst (pc := 29) (v := (-1)) (by decide) dX10_readBookLine_29 ?_
    refine x_icmp_ne (pc := 30) 39 (by decide) dX10_readBookLine_30 ?_ ?_
    · refine x_aload_nR (pc := 39) (a := this) 0 rfl rfl dX10_readBookLine_39 ?_
      refine x_getI (pc := 40) fi_X10_343 dX10_readBookLine_40 ?_
      intro v1
      refine x_bipush (pc := 43) (v := 40) (by decide) dX10_readBookLine_43 ?_
      refine x_icmp_ne (pc := 45) 54 (by decide) dX10_readBookLine_45 ?_ ?_
      · refine x_iconst (pc := 54) (v := 4) (by decide) dX10_readBookLine_54 ?_
        refine x_aload_nR (pc := 55) (a := this) 0 rfl rfl dX10_readBookLine_55 ?_
        refine x_getI (pc := 56) fi_X10_343 dX10_readBookLine_56 ?_
        intro v2
        refine x_imul (pc := 59) dX10_readBookLine_59 ?_
        refine x_nmI (fun y3 => ?_)
        refine x_istore_n (pc := 60) (lv' := [(2, .int y3), (0, .ref this), (1, .int x1)]) rfl (by decide) rfl dX10_readBookLine_60 ?_
        refine x_aload_nR (pc := 61) (a := this) 1 rfl rfl dX10_readBookLine_61 ?_
        refine x_getQ (pc := 62) fi_X10_133 dX10_readBookLine_62 ?_
        intro v4
        refine x_iload_n (pc := 65) 0 rfl rfl dX10_readBookLine_65 ?_
        refine x_iload_n (pc := 66) 2 rfl rfl dX10_readBookLine_66 ?_
        refine x_nn (fun a5 e6 => ?_)
        subst e6
        refine x_iast (pc := 67) dX10_readBookLine_67 ?_
        intro h7
        refine x_aload_nR (pc := 68) (a := this) 1 rfl rfl dX10_readBookLine_68 ?_
        refine x_getQ (pc := 69) fi_X10_133 dX10_readBookLine_69 ?_
        intro v8
        refine x_iload_n (pc := 72) 0 rfl rfl dX10_readBookLine_72 ?_
        refine x_iconst (pc := 73) (v := 1) (by decide) dX10_readBookLine_73 ?_
        refine x_iadd (pc := 74) dX10_readBookLine_74 ?_
        refine x_iconst (pc := 75) (v := 0) (by decide) dX10_readBookLine_75 ?_
        refine x_nn (fun a9 e10 => ?_)
        subst e10
        refine x_iast (pc := 76) dX10_readBookLine_76 ?_
        intro h11
        refine x_aload_nR (pc := 77) (a := this) 1 rfl rfl dX10_readBookLine_77 ?_
        refine x_getQ (pc := 78) fi_X10_133 dX10_readBookLine_78 ?_
        intro v12
        refine x_iload_n (pc := 81) 0 rfl rfl dX10_readBookLine_81 ?_
        refine x_iconst (pc := 82) (v := 2) (by decide) dX10_readBookLine_82 ?_
        refine x_iadd (pc := 83) dX10_readBookLine_83 ?_
        refine x_iconst (pc := 84) (v := 0) (by decide) dX10_readBookLine_84 ?_
        refine x_nn (fun a13 e14 => ?_)
        subst e14
        refine x_iast (pc := 85) dX10_readBookLine_85 ?_
        intro h15
        refine x_aload_nR (pc := 86) (a := this) 1 rfl rfl dX10_readBookLine_86 ?_
        refine x_callV (pc := 87) (As := []) (rest := []) (lev' := 2) si_X10_82 (m_M_go h15 this) (fun z e => grd1 e) rfl rfl (by decide) (cat4 (Nat.le_of_ble_eq_true rfl)) dX10_readBookLine_87 (kV (fun h16 => ?_)) xNo
        refine x_iload_n (pc := 90) 2 rfl rfl dX10_readBookLine_90 ?_
        refine x_bipush (pc := 91) (v := 6) (by decide) dX10_readBookLine_91 ?_
        refine x_icmp_ge (pc := 93) 112 (by decide) dX10_readBookLine_93 ?_ ?_
        · refine Sim.lv [1, 2, 0] rfl ?_
          exact w_M_readBookLine_j112 h16 this x1 y3
        · refine x_aload_nR (pc := 96) (a := this) 1 rfl rfl dX10_readBookLine_96 ?_
          refine x_iload_n (pc := 97) 0 rfl rfl dX10_readBookLine_97 ?_
          refine x_iconst (pc := 98) (v := 1) (by decide) dX10_readBookLine_98 ?_
          refine x_iadd (pc := 99) dX10_readBookLine_99 ?_
          refine x_aload_nR (pc := 100) (a := this) 1 rfl rfl dX10_readBookLine_100 ?_
          refine x_callV (pc := 101) (As := []) (rest := [.int (y3 + (1 : Int32)), .ref this]) (lev' := 4) si_X10_346 (m_M_readRowName h16 this) (fun z e => grd1 e) rfl rfl (by decide) (cat4 (Nat.le_of_ble_eq_true rfl)) dX10_readBookLine_101 (kI (fun v18 h17 => ?_)) xNo
          refine x_callV (pc := 104) (As := [.int (y3 + (1 : Int32)), .int v18]) (rest := []) (lev' := 1) si_X10_349 (m_M_keep h17 this (y3 + (1 : Int32)) v18) (fun z e => grd1 e) rfl rfl (by decide) (cat4 (Nat.le_of_ble_eq_true rfl)) dX10_readBookLine_104 (kI (fun v20 h19 => ?_)) xNo
          refine x_if_ne (pc := 107) 112 (by decide) dX10_readBookLine_107 ?_ ?_
          · refine Sim.lv [1, 2, 0] rfl ?_
            exact w_M_readBookLine_j112 h19 this x1 y3
          · refine x_iconst (pc := 110) (v := 0) (by decide) dX10_readBookLine_110 ?_
            exact x_zret (pc := 111) dX10_readBookLine_111
      · refine x_aload_nR (pc := 48) (a := this) 0 rfl rfl dX10_readBookLine_48 ?_
        refine x_iconst (pc := 49) (v := 4) (by decide) dX10_readBookLine_49 ?_
        refine x_callV (pc := 50) (As := [.int (4 : Int32)]) (rest := []) (lev' := 1) si_X10_72 (m_M_bad h this (4 : Int32)) (fun z e => grd1 e) rfl rfl (by decide) (cat4 (Nat.le_of_ble_eq_true rfl)) dX10_readBookLine_50 (kI (fun v22 h21 => ?_)) xNo
        exact x_zret (pc := 53) dX10_readBookLine_53
    · refine x_aload_nR (pc := 33) (a := this) 0 rfl rfl dX10_readBookLine_33 ?_
      refine x_iconst (pc := 34) (v := 1) (by decide) dX10_readBookLine_34 ?_
      refine x_callV (pc := 35) (As := [.int (1 : Int32)]) (rest := []) (lev' := 1) si_X10_72 (m_M_bad h this (1 : Int32)) (fun z e => grd1 e) rfl rfl (by decide) (cat4 (Nat.le_of_ble_eq_true rfl)) dX10_readBookLine_35 (kI (fun v24 h23 => ?_)) xNo
      exact x_zret (pc := 38) dX10_readBookLine_38
  · refine x_aload_nR (pc := 10) (a := this) 0 rfl rfl dX10_readBookLine_10 ?_
    refine x_iconst (pc := 11) (v := 3) (by decide) dX10_readBookLine_11 ?_
    refine x_iload_n (pc := 12) 2 rfl rfl dX10_readBookLine_12 ?_
    refine x_iadd (pc := 13) dX10_readBookLine_13 ?_
    refine x_callV (pc := 14) (As := [.int ((3 : Int32) + x2)]) (rest := []) (lev' := 3) si_X10_168 (m_M_isWord h this ((3 : Int32) + x2)) (fun z e => grd1 e) rfl rfl (by decide) (cat4 (Nat.le_of_ble_eq_true rfl)) dX10_readBookLine_14 (kI (fun v26 h25 => ?_)) xNo
    refine x_if_eq (pc := 17) 22 (by decide) dX10_readBookLine_17 ?_ ?_
    · refine x_iinc (pc := 22) (v := (1 : Int32)) (lv' := [(2, .int (x2 + (1 : Int32))), (0, .ref this), (1, .int x1)]) 2 rfl (by decide) (by decide) rfl dX10_readBookLine_22 ?_
      refine x_goto (pc := 25) 4 (by decide) dX10_readBookLine_25 ?_
      refine Sim.lv [1, 2, 0] rfl ?_
      exact hr4 h25 this x1 (x2 + (1 : Int32))
    · refine x_iload_n (pc := 20) 2 rfl rfl dX10_readBookLine_20 ?_
      refine x_istore_n (pc := 21) (lv' := [(1, .int x2), (0, .ref this), (2, .int x2)]) rfl (by decide) rfl dX10_readBookLine_21 ?_
      refine x_iinc (pc := 22) (v := (1 : Int32)) (lv' := [(2, .int (x2 + (1 : Int32))), (1, .int x2), (0, .ref this)]) 2 rfl (by decide) (by decide) rfl dX10_readBookLine_22 ?_
      refine x_goto (pc := 25) 4 (by decide) dX10_readBookLine_25 ?_
      refine Sim.lv [2, 1, 0] rfl ?_
      exact hr4 h25 this x2 (x2 + (1 : Int32))
set_option maxHeartbeats 4000000 in
theorem v_M_readBookLine_l4 : ∀ (n : Nat) (h : PH) (this : Nat) (x1 : Int32) (x2 : Int32), Sim Y_M_readBookLine h 4 [(0, .ref this), (1, .int x1), (2, .int x2)] [] (itr (c_M_readBookLine_l4) (fun _ _ _ _ => none) n h this x1 x2)
  | 0, h, this, x1, x2 => Sim.none
  | n + 1, h, this, x1, x2 => w_M_readBookLine_l4 _ (v_M_readBookLine_l4 n) h this x1 x2
set_option maxHeartbeats 4000000 in
theorem m_M_readBookLine (h : PH) (this : Nat) : MM yX10_readBookLine (ws_ yX10_readBookLine cX10_readBookLine 4 (some .boolean)) 5 [.ref this] h (c_M_readBookLine h this) := by
  refine MM.of (by decide) rfl (by decide) (Nat.le_of_ble_eq_true rfl) (own := RX10) (cc := cX10_readBookLine) (maxL := 4) (lev := 5) (rt := (some .boolean)) (ini := false) ?_
  show Sim Y_M_readBookLine h 0 [(0, .ref this)] [] _
  unfold c_M_readBookLine
  refine x_grd ?_
  refine x_iconst (pc := 0) (v := (-1)) (by decide) dX10_readBookLine_0 ?_
  refine x_istore_n (pc := 1) (lv' := [(1, .int (-1 : Int32)), (0, .ref this)]) rfl (by decide) rfl dX10_readBookLine_1 ?_
  refine x_iconst (pc := 2) (v := 0) (by decide) dX10_readBookLine_2 ?_
  refine x_istore_n (pc := 3) (lv' := [(2, .int (0 : Int32)), (1, .int (-1 : Int32)), (0, .ref this)]) rfl (by decide) rfl dX10_readBookLine_3 ?_
  refine Sim.lv [2, 1, 0] rfl ?_
  exact v_M_readBookLine_l4 FU h this (-1 : Int32) (0 : Int32)
abbrev Y_M_goBy : Yx := (RX10, cX10_goBy, 4, 7, (some .int), [], false)
def c_M_goBy (h : PH) (this : Nat) (x1 : Int32) : Option RH :=
  grd h this [8] (
  gQ h this [8] 30 fun v1 =>
  nn v1 fun a2 =>
  ldI h a2 0 x1 fun v4 =>
  gQ h this [8] 30 fun v5 =>
  nn v5 fun a6 =>
  ldI h a6 0 (x1 + (1 : Int32)) fun v8 =>
  gQ h this [8] 30 fun v9 =>
  nn v9 fun a10 =>
  ldI h a10 0 (x1 + (2 : Int32)) fun v12 =>
  gQ h this [8] 30 fun v13 =>
  nn v13 fun a14 =>
  ldI h a14 0 (x1 + (3 : Int32)) fun v16 =>
  hI (c_M_refusal h this v4 v8 v12 v16) noX fun v18 h17 =>
  if v18 = 0 then
    gQ h17 this [8] 30 fun v19 =>
    nn v19 fun a20 =>
    ldI h17 a20 0 (x1 + (1 : Int32)) fun v22 =>
    gQ h17 this [8] 30 fun v23 =>
    nn v23 fun a24 =>
    ldI h17 a24 0 (x1 + (2 : Int32)) fun v26 =>
    gQ h17 this [8] 30 fun v27 =>
    nn v27 fun a28 =>
    ldI h17 a28 0 (x1 + (3 : Int32)) fun v30 =>
    hV (c_M_live h17 this v4 v22 v26 v30) noX fun h31 =>
    rI (0 : Int32) h31
  else
    rI (((10 : Int32) * v4) + v18) h17)
set_option maxHeartbeats 4000000 in
theorem m_M_goBy (h : PH) (this : Nat) (x1 : Int32) : MM yX10_goBy (ws_ yX10_goBy cX10_goBy 4 (some .int)) 7 [.ref this, .int x1] h (c_M_goBy h this x1) := by
  refine MM.of (by decide) rfl (by decide) (Nat.le_of_ble_eq_true rfl) (own := RX10) (cc := cX10_goBy) (maxL := 4) (lev := 7) (rt := (some .int)) (ini := false) ?_
  show Sim Y_M_goBy h 0 [(0, .ref this), (1, .int x1)] [] _
  unfold c_M_goBy
  refine x_grd ?_
  refine x_aload_nR (pc := 0) (a := this) 0 rfl rfl dX10_goBy_0 ?_
  refine x_getQ (pc := 1) fi_X10_133 dX10_goBy_1 ?_
  intro v1
  refine x_iload_n (pc := 4) 1 rfl rfl dX10_goBy_4 ?_
  refine x_nn (fun a2 e3 => ?_)
  subst e3
  refine x_iald (pc := 5) dX10_goBy_5 ?_
  intro v4
  refine x_istore_n (pc := 6) (lv' := [(2, .int v4), (0, .ref this), (1, .int x1)]) rfl (by decide) rfl dX10_goBy_6 ?_
  refine x_aload_nR (pc := 7) (a := this) 1 rfl rfl dX10_goBy_7 ?_
  refine x_iload_n (pc := 8) 0 rfl rfl dX10_goBy_8 ?_
  refine x_aload_nR (pc := 9) (a := this) 1 rfl rfl dX10_goBy_9 ?_
  refine x_getQ (pc := 10) fi_X10_133 dX10_goBy_10 ?_
  intro v5
  refine x_iload_n (pc := 13) 2 rfl rfl dX10_goBy_13 ?_
  refine x_iconst (pc := 14) (v := 1) (by decide) dX10_goBy_14 ?_
  refine x_iadd (pc := 15) dX10_goBy_15 ?_
  refine x_nn (fun a6 e7 => ?_)
  subst e7
  refine x_iald (pc := 16) dX10_goBy_16 ?_
  intro v8
  refine x_aload_nR (pc := 17) (a := this) 1 rfl rfl dX10_goBy_17 ?_
  refine x_getQ (pc := 18) fi_X10_133 dX10_goBy_18 ?_
  intro v9
  refine x_iload_n (pc := 21) 2 rfl rfl dX10_goBy_21 ?_
  refine x_iconst (pc := 22) (v := 2) (by decide) dX10_goBy_22 ?_
  refine x_iadd (pc := 23) dX10_goBy_23 ?_
  refine x_nn (fun a10 e11 => ?_)
  subst e11
  refine x_iald (pc := 24) dX10_goBy_24 ?_
  intro v12
  refine x_aload_nR (pc := 25) (a := this) 1 rfl rfl dX10_goBy_25 ?_
  refine x_getQ (pc := 26) fi_X10_133 dX10_goBy_26 ?_
  intro v13
  refine x_iload_n (pc := 29) 2 rfl rfl dX10_goBy_29 ?_
  refine x_iconst (pc := 30) (v := 3) (by decide) dX10_goBy_30 ?_
  refine x_iadd (pc := 31) dX10_goBy_31 ?_
  refine x_nn (fun a14 e15 => ?_)
  subst e15
  refine x_iald (pc := 32) dX10_goBy_32 ?_
  intro v16
  refine x_callV (pc := 33) (As := [.int v4, .int v8, .int v12, .int v16]) (rest := []) (lev' := 3) si_X10_304 (m_M_refusal h this v4 v8 v12 v16) (fun z e => grd1 e) rfl rfl (by decide) (cat4 (Nat.le_of_ble_eq_true rfl)) dX10_goBy_33 (kI (fun v18 h17 => ?_)) xNo
  refine x_istore_n (pc := 36) (lv' := [(3, .int v18), (2, .int v4), (0, .ref this), (1, .int x1)]) rfl (by decide) rfl dX10_goBy_36 ?_
  refine x_iload_n (pc := 37) 0 rfl rfl dX10_goBy_37 ?_
  refine x_if_eq (pc := 38) 48 (by decide) dX10_goBy_38 ?_ ?_
  · refine x_aload_nR (pc := 48) (a := this) 2 rfl rfl dX10_goBy_48 ?_
    refine x_iload_n (pc := 49) 1 rfl rfl dX10_goBy_49 ?_
    refine x_aload_nR (pc := 50) (a := this) 2 rfl rfl dX10_goBy_50 ?_
    refine x_getQ (pc := 51) fi_X10_133 dX10_goBy_51 ?_
    intro v19
    refine x_iload_n (pc := 54) 3 rfl rfl dX10_goBy_54 ?_
    refine x_iconst (pc := 55) (v := 1) (by decide) dX10_goBy_55 ?_
    refine x_iadd (pc := 56) dX10_goBy_56 ?_
    refine x_nn (fun a20 e21 => ?_)
    subst e21
    refine x_iald (pc := 57) dX10_goBy_57 ?_
    intro v22
    refine x_aload_nR (pc := 58) (a := this) 2 rfl rfl dX10_goBy_58 ?_
    refine x_getQ (pc := 59) fi_X10_133 dX10_goBy_59 ?_
    intro v23
    refine x_iload_n (pc := 62) 3 rfl rfl dX10_goBy_62 ?_
    refine x_iconst (pc := 63) (v := 2) (by decide) dX10_goBy_63 ?_
    refine x_iadd (pc := 64) dX10_goBy_64 ?_
    refine x_nn (fun a24 e25 => ?_)
    subst e25
    refine x_iald (pc := 65) dX10_goBy_65 ?_
    intro v26
    refine x_aload_nR (pc := 66) (a := this) 2 rfl rfl dX10_goBy_66 ?_
    refine x_getQ (pc := 67) fi_X10_133 dX10_goBy_67 ?_
    intro v27
    refine x_iload_n (pc := 70) 3 rfl rfl dX10_goBy_70 ?_
    refine x_iconst (pc := 71) (v := 3) (by decide) dX10_goBy_71 ?_
    refine x_iadd (pc := 72) dX10_goBy_72 ?_
    refine x_nn (fun a28 e29 => ?_)
    subst e29
    refine x_iald (pc := 73) dX10_goBy_73 ?_
    intro v30
    refine x_callV (pc := 74) (As := [.int v4, .int v22, .int v26, .int v30]) (rest := []) (lev' := 6) si_X10_311 (m_M_live h17 this v4 v22 v26 v30) (fun z e => grd1 e) rfl rfl (by decide) (cat4 (Nat.le_of_ble_eq_true rfl)) dX10_goBy_74 (kV (fun h31 => ?_)) xNo
    refine x_iconst (pc := 77) (v := 0) (by decide) dX10_goBy_77 ?_
    exact x_iret (pc := 78) dX10_goBy_78
  · refine x_bipush (pc := 41) (v := 10) (by decide) dX10_goBy_41 ?_
    refine x_iload_n (pc := 43) 1 rfl rfl dX10_goBy_43 ?_
    refine x_imul (pc := 44) dX10_goBy_44 ?_
    refine x_iload_n (pc := 45) 0 rfl rfl dX10_goBy_45 ?_
    refine x_iadd (pc := 46) dX10_goBy_46 ?_
    exact x_iret (pc := 47) dX10_goBy_47
abbrev Y_M_allBits : Yx := (RX10, cX10_allBits, 3, 2, (some .int), [], false)
def c_M_allBits_l4 (r4 : PH → Nat → Int32 → Int32 → Option RH) (h : PH) (this : Nat) (x1 : Int32) (x2 : Int32) : Option RH :=
  gQ h this [8] 14 fun v1 =>
  nn v1 fun a2 =>
  ldI h a2 0 (0 : Int32) fun v4 =>
  if v4 ≤ x2 then
    rI x1 h
  else
    hI (c_M_sizeOf h this x2) noX fun v6 h5 =>
    nm (x1 + v6) fun y7 =>
    r4 h5 this y7 (x2 + (1 : Int32))
def c_M_allBits (h : PH) (this : Nat) : Option RH :=
  grd h this [8] (
  itr (c_M_allBits_l4) (fun _ _ _ _ => none) FU h this (0 : Int32) (0 : Int32))
set_option maxHeartbeats 4000000 in
theorem w_M_allBits_l4 (r4 : PH → Nat → Int32 → Int32 → Option RH) (hr4 : ∀ (h : PH) (this : Nat) (x1 : Int32) (x2 : Int32), Sim Y_M_allBits h 4 [(0, .ref this), (1, .int x1), (2, .int x2)] [] (r4 h this x1 x2)) (h : PH) (this : Nat) (x1 : Int32) (x2 : Int32) : Sim Y_M_allBits h 4 [(0, .ref this), (1, .int x1), (2, .int x2)] [] (c_M_allBits_l4 r4 h this x1 x2) := by
  unfold c_M_allBits_l4
  refine x_iload_n (pc := 4) 2 rfl rfl dX10_allBits_4 ?_
  refine x_aload_nR (pc := 5) (a := this) 0 rfl rfl dX10_allBits_5 ?_
  refine x_getQ (pc := 6) fi_X10_98 dX10_allBits_6 ?_
  intro v1
  refine x_iconst (pc := 9) (v := 0) (by decide) dX10_allBits_9 ?_
  refine x_nn (fun a2 e3 => ?_)
  subst e3
  refine x_iald (pc := 10) dX10_allBits_10 ?_
  intro v4
  refine x_icmp_ge (pc := 11) 28 (by decide) dX10_allBits_11 ?_ ?_
  · refine x_iload_n (pc := 28) 1 rfl rfl dX10_allBits_28 ?_
    exact x_iret (pc := 29) dX10_allBits_29
  · refine x_iload_n (pc := 14) 1 rfl rfl dX10_allBits_14 ?_
    refine x_aload_nR (pc := 15) (a := this) 0 rfl rfl dX10_allBits_15 ?_
    refine x_iload_n (pc := 16) 2 rfl rfl dX10_allBits_16 ?_
    refine x_callV (pc := 17) (As := [.int x2]) (rest := [.int x1]) (lev' := 1) si_X10_199 (m_M_sizeOf h this x2) (fun z e => grd1 e) rfl rfl (by decide) (cat4 (Nat.le_of_ble_eq_true rfl)) dX10_allBits_17 (kI (fun v6 h5 => ?_)) xNo
    refine x_iadd (pc := 20) dX10_allBits_20 ?_
    refine x_nmI (fun y7 => ?_)
    refine x_istore_n (pc := 21) (lv' := [(1, .int y7), (0, .ref this), (2, .int x2)]) rfl (by decide) rfl dX10_allBits_21 ?_
    refine x_iinc (pc := 22) (v := (1 : Int32)) (lv' := [(2, .int (x2 + (1 : Int32))), (1, .int y7), (0, .ref this)]) 2 rfl (by decide) (by decide) rfl dX10_allBits_22 ?_
    refine x_goto (pc := 25) 4 (by decide) dX10_allBits_25 ?_
    refine Sim.lv [2, 1, 0] rfl ?_
    exact hr4 h5 this y7 (x2 + (1 : Int32))
set_option maxHeartbeats 4000000 in
theorem v_M_allBits_l4 : ∀ (n : Nat) (h : PH) (this : Nat) (x1 : Int32) (x2 : Int32), Sim Y_M_allBits h 4 [(0, .ref this), (1, .int x1), (2, .int x2)] [] (itr (c_M_allBits_l4) (fun _ _ _ _ => none) n h this x1 x2)
  | 0, h, this, x1, x2 => Sim.none
  | n + 1, h, this, x1, x2 => w_M_allBits_l4 _ (v_M_allBits_l4 n) h this x1 x2
set_option maxHeartbeats 4000000 in
theorem m_M_allBits (h : PH) (this : Nat) : MM yX10_allBits (ws_ yX10_allBits cX10_allBits 3 (some .int)) 2 [.ref this] h (c_M_allBits h this) := by
  refine MM.of (by decide) rfl (by decide) (Nat.le_of_ble_eq_true rfl) (own := RX10) (cc := cX10_allBits) (maxL := 3) (lev := 2) (rt := (some .int)) (ini := false) ?_
  show Sim Y_M_allBits h 0 [(0, .ref this)] [] _
  unfold c_M_allBits
  refine x_grd ?_
  refine x_iconst (pc := 0) (v := 0) (by decide) dX10_allBits_0 ?_
  refine x_istore_n (pc := 1) (lv' := [(1, .int (0 : Int32)), (0, .ref this)]) rfl (by decide) rfl dX10_allBits_1 ?_
  refine x_iconst (pc := 2) (v := 0) (by decide) dX10_allBits_2 ?_
  refine x_istore_n (pc := 3) (lv' := [(2, .int (0 : Int32)), (1, .int (0 : Int32)), (0, .ref this)]) rfl (by decide) rfl dX10_allBits_3 ?_
  refine Sim.lv [2, 1, 0] rfl ?_
  exact v_M_allBits_l4 FU h this (0 : Int32) (0 : Int32)
