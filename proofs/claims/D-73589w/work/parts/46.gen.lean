set_option maxRecDepth 100000
theorem si_X10_218 : SiV RX10 218 8 yX10_isThere cX10_isThere 3 (some .boolean) 2 := ⟨_, _, _, ci_8.1, by decide, lw_V q1933 q1935 qs62 q121 q1936, ⟨rfl, by decide, by decide, by decide +kernel⟩, by decide⟩
theorem si_X10_212 : SiV RX10 212 8 yX10_bitOf cX10_bitOf 3 (some .int) 2 := ⟨_, _, _, ci_8.1, by decide, lw_V q1937 q1939 qs63 q121 q1940, ⟨rfl, by decide, by decide, by decide +kernel⟩, by decide⟩
abbrev Y_M_bit : Yx := (RX10, cX10_bit, 3, 3, (some .int), [], false)
def c_M_bit (h : PH) (this : Nat) (x1 : Int32) (x2 : Int32) : Option RH :=
  grd h this [8] (
  pI h this [8] 0 (0 : Int32) fun h1 =>
  hI (c_M_isRow h1 this x1) noX fun v3 h2 =>
  if v3 = 0 then
    rI (-1 : Int32) h2
  else
    hI (c_M_isThere h2 this x1 x2) noX fun v5 h4 =>
    if v5 = 0 then
      rI (-1 : Int32) h4
    else
      hI (c_M_bitOf h4 this x1 x2) noX fun v7 h6 =>
      rI v7 h6)
set_option maxHeartbeats 4000000 in
theorem m_M_bit (h : PH) (this : Nat) (x1 : Int32) (x2 : Int32) : MM yX10_bit (ws_ yX10_bit cX10_bit 3 (some .int)) 3 [.ref this, .int x1, .int x2] h (c_M_bit h this x1 x2) := by
  refine MM.of (by decide) rfl (by decide) (Nat.le_of_ble_eq_true rfl) (own := RX10) (cc := cX10_bit) (maxL := 3) (lev := 3) (rt := (some .int)) (ini := false) ?_
  show Sim Y_M_bit h 0 [(0, .ref this), (1, .int x1), (2, .int x2)] [] _
  unfold c_M_bit
  refine x_grd ?_
  refine x_aload_nR (pc := 0) (a := this) 0 rfl rfl dX10_bit_0 ?_
  refine x_iconst (pc := 1) (v := 0) (by decide) dX10_bit_1 ?_
  refine x_pI (pc := 2) fi_X10_1 (fun z => absurd z (by decide)) dX10_bit_2 ?_
  intro h1
  refine x_aload_nR (pc := 5) (a := this) 0 rfl rfl dX10_bit_5 ?_
  refine x_iload_n (pc := 6) 1 rfl rfl dX10_bit_6 ?_
  refine x_callV (pc := 7) (As := [.int x1]) (rest := []) (lev' := 2) si_X10_215 (m_M_isRow h1 this x1) (fun z e => grd1 e) rfl rfl (by decide) (cat4 (Nat.le_of_ble_eq_true rfl)) dX10_bit_7 (kI (fun v3 h2 => ?_)) xNo
  refine x_if_eq (pc := 10) 31 (by decide) dX10_bit_10 ?_ ?_
  · refine x_iconst (pc := 31) (v := (-1)) (by decide) dX10_bit_31 ?_
    exact x_iret (pc := 32) dX10_bit_32
  · refine x_aload_nR (pc := 13) (a := this) 0 rfl rfl dX10_bit_13 ?_
    refine x_iload_n (pc := 14) 1 rfl rfl dX10_bit_14 ?_
    refine x_iload_n (pc := 15) 2 rfl rfl dX10_bit_15 ?_
    refine x_callV (pc := 16) (As := [.int x1, .int x2]) (rest := []) (lev' := 2) si_X10_218 (m_M_isThere h2 this x1 x2) (fun z e => grd1 e) rfl rfl (by decide) (cat4 (Nat.le_of_ble_eq_true rfl)) dX10_bit_16 (kI (fun v5 h4 => ?_)) xNo
    refine x_if_eq (pc := 19) 31 (by decide) dX10_bit_19 ?_ ?_
    · refine x_iconst (pc := 31) (v := (-1)) (by decide) dX10_bit_31 ?_
      exact x_iret (pc := 32) dX10_bit_32
    · refine x_aload_nR (pc := 22) (a := this) 0 rfl rfl dX10_bit_22 ?_
      refine x_iload_n (pc := 23) 1 rfl rfl dX10_bit_23 ?_
      refine x_iload_n (pc := 24) 2 rfl rfl dX10_bit_24 ?_
      refine x_callV (pc := 25) (As := [.int x1, .int x2]) (rest := []) (lev' := 1) si_X10_212 (m_M_bitOf h4 this x1 x2) (fun z e => grd1 e) rfl rfl (by decide) (cat4 (Nat.le_of_ble_eq_true rfl)) dX10_bit_25 (kI (fun v7 h6 => ?_)) xNo
      refine x_goto (pc := 28) 32 (by decide) dX10_bit_28 ?_
      exact x_iret (pc := 32) dX10_bit_32
abbrev Y_M_isBit : Yx := (RX10, cX10_isBit, 2, 2, (some .boolean), [], false)
def c_M_isBit (h : PH) (this : Nat) (x1 : Int32) : Option RH :=
  grd h this [8] (
  hI (c_M_isIn h x1 (0 : Int32) (1 : Int32)) noX fun v2 h1 =>
  rZ v2 h1)
set_option maxHeartbeats 4000000 in
theorem m_M_isBit (h : PH) (this : Nat) (x1 : Int32) : MM yX10_isBit (ws_ yX10_isBit cX10_isBit 2 (some .boolean)) 2 [.ref this, .int x1] h (c_M_isBit h this x1) := by
  refine MM.of (by decide) rfl (by decide) (Nat.le_of_ble_eq_true rfl) (own := RX10) (cc := cX10_isBit) (maxL := 2) (lev := 2) (rt := (some .boolean)) (ini := false) ?_
  show Sim Y_M_isBit h 0 [(0, .ref this), (1, .int x1)] [] _
  unfold c_M_isBit
  refine x_grd ?_
  refine x_iload_n (pc := 0) 1 rfl rfl dX10_isBit_0 ?_
  refine x_iconst (pc := 1) (v := 0) (by decide) dX10_isBit_1 ?_
  refine x_iconst (pc := 2) (v := 1) (by decide) dX10_isBit_2 ?_
  refine x_callS (pc := 3) (As := [.int x1, .int (0 : Int32), .int (1 : Int32)]) (rest := []) (lev' := 1) si_X10_75 (m_M_isIn h x1 (0 : Int32) (1 : Int32)) rfl rfl (by decide) (cat4 (Nat.le_of_ble_eq_true rfl)) dX10_isBit_3 (kI (fun v2 h1 => ?_)) xNo
  exact x_zret (pc := 6) dX10_isBit_6
abbrev Y_M_onesIn : Yx := (RX10, cX10_onesIn, 6, 2, (some .int), [], false)
def c_M_onesIn_l6 (r6 : PH → Nat → Int32 → Int32 → Int32 → Int32 → Option RH) (h : PH) (this : Nat) (x1 : Int32) (x3 : Int32) (x4 : Int32) (x5 : Int32) : Option RH :=
  if x3 ≤ x5 then
    rI x4 h
  else
    hI (c_M_bitOf h this x1 x5) noX fun v2 h1 =>
    nm (x4 + v2) fun y3 =>
    r6 h1 this x1 x3 y3 (x5 + (1 : Int32))
def c_M_onesIn (h : PH) (this : Nat) (x1 : Int32) (x2 : Int32) (x3 : Int32) : Option RH :=
  grd h this [8] (
  itr (c_M_onesIn_l6) (fun _ _ _ _ _ _ => none) FU h this x1 x3 (0 : Int32) x2)
set_option maxHeartbeats 4000000 in
theorem w_M_onesIn_l6 (r6 : PH → Nat → Int32 → Int32 → Int32 → Int32 → Option RH) (hr6 : ∀ (h : PH) (this : Nat) (x1 : Int32) (x3 : Int32) (x4 : Int32) (x5 : Int32), Sim Y_M_onesIn h 6 [(0, .ref this), (1, .int x1), (3, .int x3), (4, .int x4), (5, .int x5)] [] (r6 h this x1 x3 x4 x5)) (h : PH) (this : Nat) (x1 : Int32) (x3 : Int32) (x4 : Int32) (x5 : Int32) : Sim Y_M_onesIn h 6 [(0, .ref this), (1, .int x1), (3, .int x3), (4, .int x4), (5, .int x5)] [] (c_M_onesIn_l6 r6 h this x1 x3 x4 x5) := by
  unfold c_M_onesIn_l6
  refine x_iload (pc := 6) 4 rfl dX10_onesIn_6 ?_
  refine x_iload_n (pc := 8) 2 rfl rfl dX10_onesIn_8 ?_
  refine x_icmp_ge (pc := 9) 30 (by decide) dX10_onesIn_9 ?_ ?_
  · refine x_iload (pc := 30) 3 rfl dX10_onesIn_30 ?_
    exact x_iret (pc := 32) dX10_onesIn_32
  · refine x_iload (pc := 12) 3 rfl dX10_onesIn_12 ?_
    refine x_aload_nR (pc := 14) (a := this) 0 rfl rfl dX10_onesIn_14 ?_
    refine x_iload_n (pc := 15) 1 rfl rfl dX10_onesIn_15 ?_
    refine x_iload (pc := 16) 4 rfl dX10_onesIn_16 ?_
    refine x_callV (pc := 18) (As := [.int x1, .int x5]) (rest := [.int x4]) (lev' := 1) si_X10_212 (m_M_bitOf h this x1 x5) (fun z e => grd1 e) rfl rfl (by decide) (cat4 (Nat.le_of_ble_eq_true rfl)) dX10_onesIn_18 (kI (fun v2 h1 => ?_)) xNo
    refine x_iadd (pc := 21) dX10_onesIn_21 ?_
    refine x_nmI (fun y3 => ?_)
    refine x_istore (pc := 22) (lv' := [(4, .int y3), (0, .ref this), (1, .int x1), (3, .int x3), (5, .int x5)]) (by decide) rfl dX10_onesIn_22 ?_
    refine x_iinc (pc := 24) (v := (1 : Int32)) (lv' := [(5, .int (x5 + (1 : Int32))), (4, .int y3), (0, .ref this), (1, .int x1), (3, .int x3)]) 4 rfl (by decide) (by decide) rfl dX10_onesIn_24 ?_
    refine x_goto (pc := 27) 6 (by decide) dX10_onesIn_27 ?_
    refine Sim.lv [2, 3, 4, 1, 0] rfl ?_
    exact hr6 h1 this x1 x3 y3 (x5 + (1 : Int32))
set_option maxHeartbeats 4000000 in
theorem v_M_onesIn_l6 : ∀ (n : Nat) (h : PH) (this : Nat) (x1 : Int32) (x3 : Int32) (x4 : Int32) (x5 : Int32), Sim Y_M_onesIn h 6 [(0, .ref this), (1, .int x1), (3, .int x3), (4, .int x4), (5, .int x5)] [] (itr (c_M_onesIn_l6) (fun _ _ _ _ _ _ => none) n h this x1 x3 x4 x5)
  | 0, h, this, x1, x3, x4, x5 => Sim.none
  | n + 1, h, this, x1, x3, x4, x5 => w_M_onesIn_l6 _ (v_M_onesIn_l6 n) h this x1 x3 x4 x5
set_option maxHeartbeats 4000000 in
theorem m_M_onesIn (h : PH) (this : Nat) (x1 : Int32) (x2 : Int32) (x3 : Int32) : MM yX10_onesIn (ws_ yX10_onesIn cX10_onesIn 6 (some .int)) 2 [.ref this, .int x1, .int x2, .int x3] h (c_M_onesIn h this x1 x2 x3) := by
  refine MM.of (by decide) rfl (by decide) (Nat.le_of_ble_eq_true rfl) (own := RX10) (cc := cX10_onesIn) (maxL := 6) (lev := 2) (rt := (some .int)) (ini := false) ?_
  show Sim Y_M_onesIn h 0 [(0, .ref this), (1, .int x1), (2, .int x2), (3, .int x3)] [] _
  unfold c_M_onesIn
  refine x_grd ?_
  refine x_iconst (pc := 0) (v := 0) (by decide) dX10_onesIn_0 ?_
  refine x_istore (pc := 1) (lv' := [(4, .int (0 : Int32)), (0, .ref this), (1, .int x1), (2, .int x2), (3, .int x3)]) (by decide) rfl dX10_onesIn_1 ?_
  refine x_iload_n (pc := 3) 3 rfl rfl dX10_onesIn_3 ?_
  refine x_istore (pc := 4) (lv' := [(5, .int x2), (4, .int (0 : Int32)), (0, .ref this), (1, .int x1), (2, .int x2), (3, .int x3)]) (by decide) rfl dX10_onesIn_4 ?_
  refine Sim.lv [2, 3, 5, 1, 0] rfl ?_
  exact v_M_onesIn_l6 FU h this x1 x3 (0 : Int32) x2
theorem si_X10_221 : SiV RX10 221 8 yX10_isBit cX10_isBit 2 (some .boolean) 1 := ⟨_, _, _, ci_8.1, by decide, lw_V q1945 q1947 qs64 q121 q1948, ⟨rfl, by decide, by decide, by decide +kernel⟩, by decide⟩
theorem si_X10_224 : SiV RX10 224 8 yX10_onesIn cX10_onesIn 6 (some .int) 3 := ⟨_, _, _, ci_8.1, by decide, lw_V q1949 q1951 qs65 q121 q1952, ⟨rfl, by decide, by decide, by decide +kernel⟩, by decide⟩
abbrev Y_M_rank : Yx := (RX10, cX10_rank, 5, 3, (some .int), [], false)
def c_M_rank (h : PH) (this : Nat) (x1 : Int32) (x2 : Int32) (x3 : Int32) : Option RH :=
  grd h this [8] (
  pI h this [8] 0 (0 : Int32) fun h1 =>
  hI (c_M_isRow h1 this x1) noX fun v3 h2 =>
  if v3 = 0 then
    rI (-1 : Int32) h2
  else
    hI (c_M_isBit h2 this x3) noX fun v5 h4 =>
    if v5 = 0 then
      rI (-1 : Int32) h4
    else
      hI (c_M_sizeOf h4 this x1) noX fun v7 h6 =>
      hI (c_M_isIn h6 x2 (0 : Int32) v7) noX fun v9 h8 =>
      if v9 = 0 then
        rI (-1 : Int32) h8
      else
        hI (c_M_onesIn h8 this x1 (0 : Int32) x2) noX fun v11 h10 =>
        if x3 = (1 : Int32) then
          rI v11 h10
        else
          rI (x2 - v11) h10)
set_option maxHeartbeats 4000000 in
theorem m_M_rank (h : PH) (this : Nat) (x1 : Int32) (x2 : Int32) (x3 : Int32) : MM yX10_rank (ws_ yX10_rank cX10_rank 5 (some .int)) 3 [.ref this, .int x1, .int x2, .int x3] h (c_M_rank h this x1 x2 x3) := by
  refine MM.of (by decide) rfl (by decide) (Nat.le_of_ble_eq_true rfl) (own := RX10) (cc := cX10_rank) (maxL := 5) (lev := 3) (rt := (some .int)) (ini := false) ?_
  show Sim Y_M_rank h 0 [(0, .ref this), (1, .int x1), (2, .int x2), (3, .int x3)] [] _
  unfold c_M_rank
  refine x_grd ?_
  refine x_aload_nR (pc := 0) (a := this) 0 rfl rfl dX10_rank_0 ?_
  refine x_iconst (pc := 1) (v := 0) (by decide) dX10_rank_1 ?_
  refine x_pI (pc := 2) fi_X10_1 (fun z => absurd z (by decide)) dX10_rank_2 ?_
  intro h1
  refine x_aload_nR (pc := 5) (a := this) 0 rfl rfl dX10_rank_5 ?_
  refine x_iload_n (pc := 6) 1 rfl rfl dX10_rank_6 ?_
  refine x_callV (pc := 7) (As := [.int x1]) (rest := []) (lev' := 2) si_X10_215 (m_M_isRow h1 this x1) (fun z e => grd1 e) rfl rfl (by decide) (cat4 (Nat.le_of_ble_eq_true rfl)) dX10_rank_7 (kI (fun v3 h2 => ?_)) xNo
  refine x_if_eq (pc := 10) 34 (by decide) dX10_rank_10 ?_ ?_
  · refine x_iconst (pc := 34) (v := (-1)) (by decide) dX10_rank_34 ?_
    exact x_iret (pc := 35) dX10_rank_35
  · refine x_aload_nR (pc := 13) (a := this) 0 rfl rfl dX10_rank_13 ?_
    refine x_iload_n (pc := 14) 3 rfl rfl dX10_rank_14 ?_
    refine x_callV (pc := 15) (As := [.int x3]) (rest := []) (lev' := 2) si_X10_221 (m_M_isBit h2 this x3) (fun z e => grd1 e) rfl rfl (by decide) (cat4 (Nat.le_of_ble_eq_true rfl)) dX10_rank_15 (kI (fun v5 h4 => ?_)) xNo
    refine x_if_eq (pc := 18) 34 (by decide) dX10_rank_18 ?_ ?_
    · refine x_iconst (pc := 34) (v := (-1)) (by decide) dX10_rank_34 ?_
      exact x_iret (pc := 35) dX10_rank_35
    · refine x_iload_n (pc := 21) 2 rfl rfl dX10_rank_21 ?_
      refine x_iconst (pc := 22) (v := 0) (by decide) dX10_rank_22 ?_
      refine x_aload_nR (pc := 23) (a := this) 0 rfl rfl dX10_rank_23 ?_
      refine x_iload_n (pc := 24) 1 rfl rfl dX10_rank_24 ?_
      refine x_callV (pc := 25) (As := [.int x1]) (rest := [.int (0 : Int32), .int x2]) (lev' := 1) si_X10_199 (m_M_sizeOf h4 this x1) (fun z e => grd1 e) rfl rfl (by decide) (cat4 (Nat.le_of_ble_eq_true rfl)) dX10_rank_25 (kI (fun v7 h6 => ?_)) xNo
      refine x_callS (pc := 28) (As := [.int x2, .int (0 : Int32), .int v7]) (rest := []) (lev' := 1) si_X10_75 (m_M_isIn h6 x2 (0 : Int32) v7) rfl rfl (by decide) (cat4 (Nat.le_of_ble_eq_true rfl)) dX10_rank_28 (kI (fun v9 h8 => ?_)) xNo
      refine x_if_ne (pc := 31) 36 (by decide) dX10_rank_31 ?_ ?_
      · refine x_aload_nR (pc := 36) (a := this) 0 rfl rfl dX10_rank_36 ?_
        refine x_iload_n (pc := 37) 1 rfl rfl dX10_rank_37 ?_
        refine x_iconst (pc := 38) (v := 0) (by decide) dX10_rank_38 ?_
        refine x_iload_n (pc := 39) 2 rfl rfl dX10_rank_39 ?_
        refine x_callV (pc := 40) (As := [.int x1, .int (0 : Int32), .int x2]) (rest := []) (lev' := 2) si_X10_224 (m_M_onesIn h8 this x1 (0 : Int32) x2) (fun z e => grd1 e) rfl rfl (by decide) (cat4 (Nat.le_of_ble_eq_true rfl)) dX10_rank_40 (kI (fun v11 h10 => ?_)) xNo
        refine x_istore (pc := 43) (lv' := [(4, .int v11), (0, .ref this), (1, .int x1), (2, .int x2), (3, .int x3)]) (by decide) rfl dX10_rank_43 ?_
        refine x_iload_n (pc := 45) 4 rfl rfl dX10_rank_45 ?_
        refine x_iconst (pc := 46) (v := 1) (by decide) dX10_rank_46 ?_
        refine x_icmp_ne (pc := 47) 55 (by decide) dX10_rank_47 ?_ ?_
        · refine x_iload_n (pc := 55) 3 rfl rfl dX10_rank_55 ?_
          refine x_iload (pc := 56) 0 rfl dX10_rank_56 ?_
          refine x_isub (pc := 58) dX10_rank_58 ?_
          exact x_iret (pc := 59) dX10_rank_59
        · refine x_iload (pc := 50) 0 rfl dX10_rank_50 ?_
          refine x_goto (pc := 52) 59 (by decide) dX10_rank_52 ?_
          exact x_iret (pc := 59) dX10_rank_59
      · refine x_iconst (pc := 34) (v := (-1)) (by decide) dX10_rank_34 ?_
        exact x_iret (pc := 35) dX10_rank_35
abbrev Y_M_select : Yx := (RX10, cX10_select, 6, 3, (some .int), [], false)
def c_M_select_l33 (r33 : PH → Nat → Int32 → Int32 → Int32 → Int32 → Int32 → Option RH) (h : PH) (this : Nat) (x1 : Int32) (x2 : Int32) (x3 : Int32) (x4 : Int32) (x5 : Int32) : Option RH :=
  hI (c_M_sizeOf h this x1) noX fun v2 h1 =>
  if v2 ≤ x5 then
    rI (-1 : Int32) h1
  else
    hI (c_M_bitOf h1 this x1 x5) noX fun v4 h3 =>
    if v4 = x3 then
      if x4 = x2 then
        rI x5 h3
      else
        r33 h3 this x1 x2 x3 (x4 + (1 : Int32)) (x5 + (1 : Int32))
    else
      r33 h3 this x1 x2 x3 x4 (x5 + (1 : Int32))
def c_M_select (h : PH) (this : Nat) (x1 : Int32) (x2 : Int32) (x3 : Int32) : Option RH :=
  grd h this [8] (
  pI h this [8] 0 (0 : Int32) fun h1 =>
  hI (c_M_isRow h1 this x1) noX fun v3 h2 =>
  if v3 = 0 then
    rI (-1 : Int32) h2
  else
    hI (c_M_isBit h2 this x3) noX fun v5 h4 =>
    if v5 = 0 then
      rI (-1 : Int32) h4
    else
      if 0 ≤ x2 then
        itr (c_M_select_l33) (fun _ _ _ _ _ _ _ => none) FU h4 this x1 x2 x3 (0 : Int32) (0 : Int32)
      else
        rI (-1 : Int32) h4)
set_option maxHeartbeats 4000000 in
theorem w_M_select_l33 (r33 : PH → Nat → Int32 → Int32 → Int32 → Int32 → Int32 → Option RH) (hr33 : ∀ (h : PH) (this : Nat) (x1 : Int32) (x2 : Int32) (x3 : Int32) (x4 : Int32) (x5 : Int32), Sim Y_M_select h 33 [(0, .ref this), (1, .int x1), (2, .int x2), (3, .int x3), (4, .int x4), (5, .int x5)] [] (r33 h this x1 x2 x3 x4 x5)) (h : PH) (this : Nat) (x1 : Int32) (x2 : Int32) (x3 : Int32) (x4 : Int32) (x5 : Int32) : Sim Y_M_select h 33 [(0, .ref this), (1, .int x1), (2, .int x2), (3, .int x3), (4, .int x4), (5, .int x5)] [] (c_M_select_l33 r33 h this x1 x2 x3 x4 x5) := by
  unfold c_M_select_l33
  refine x_iload (pc := 33) 5 rfl dX10_select_33 ?_
  refine x_aload_nR (pc := 35) (a := this) 0 rfl rfl dX10_select_35 ?_
  refine x_iload_n (pc := 36) 1 rfl rfl dX10_select_36 ?_
  refine x_callV (pc := 37) (As := [.int x1]) (rest := [.int x5]) (lev' := 1) si_X10_199 (m_M_sizeOf h this x1) (fun z e => grd1 e) rfl rfl (by decide) (cat4 (Nat.le_of_ble_eq_true rfl)) dX10_select_37 (kI (fun v2 h1 => ?_)) xNo
  refine x_icmp_ge (pc := 40) 75 (by decide) dX10_select_40 ?_ ?_
  · refine x_iconst (pc := 75) (v := (-1)) (by decide) dX10_select_75 ?_
    exact x_iret (pc := 76) dX10_select_76
  · refine x_aload_nR (pc := 43) (a := this) 0 rfl rfl dX10_select_43 ?_
    refine x_iload_n (pc := 44) 1 rfl rfl dX10_select_44 ?_
    refine x_iload (pc := 45) 5 rfl dX10_select_45 ?_
    refine x_callV (pc := 47) (As := [.int x1, .int x5]) (rest := []) (lev' := 1) si_X10_212 (m_M_bitOf h1 this x1 x5) (fun z e => grd1 e) rfl rfl (by decide) (cat4 (Nat.le_of_ble_eq_true rfl)) dX10_select_47 (kI (fun v4 h3 => ?_)) xNo
    refine x_iload_n (pc := 50) 3 rfl rfl dX10_select_50 ?_
    refine x_icmp_eq (pc := 51) 57 (by decide) dX10_select_51 ?_ ?_
    · refine x_iload (pc := 57) 4 rfl dX10_select_57 ?_
      refine x_iload_n (pc := 59) 2 rfl rfl dX10_select_59 ?_
      refine x_icmp_ne (pc := 60) 66 (by decide) dX10_select_60 ?_ ?_
      · refine x_iinc (pc := 66) (v := (1 : Int32)) (lv' := [(4, .int (x4 + (1 : Int32))), (0, .ref this), (1, .int x1), (2, .int x2), (3, .int x3), (5, .int x5)]) 4 rfl (by decide) (by decide) rfl dX10_select_66 ?_
        refine x_iinc (pc := 69) (v := (1 : Int32)) (lv' := [(5, .int (x5 + (1 : Int32))), (4, .int (x4 + (1 : Int32))), (0, .ref this), (1, .int x1), (2, .int x2), (3, .int x3)]) 5 rfl (by decide) (by decide) rfl dX10_select_69 ?_
        refine x_goto (pc := 72) 33 (by decide) dX10_select_72 ?_
        refine Sim.lv [2, 3, 4, 5, 1, 0] rfl ?_
        exact hr33 h3 this x1 x2 x3 (x4 + (1 : Int32)) (x5 + (1 : Int32))
      · refine x_iload (pc := 63) 5 rfl dX10_select_63 ?_
        exact x_iret (pc := 65) dX10_select_65
    · refine x_goto (pc := 54) 69 (by decide) dX10_select_54 ?_
      refine x_iinc (pc := 69) (v := (1 : Int32)) (lv' := [(5, .int (x5 + (1 : Int32))), (0, .ref this), (1, .int x1), (2, .int x2), (3, .int x3), (4, .int x4)]) 5 rfl (by decide) (by decide) rfl dX10_select_69 ?_
      refine x_goto (pc := 72) 33 (by decide) dX10_select_72 ?_
      refine Sim.lv [1, 2, 3, 4, 5, 0] rfl ?_
      exact hr33 h3 this x1 x2 x3 x4 (x5 + (1 : Int32))
set_option maxHeartbeats 4000000 in
theorem v_M_select_l33 : ∀ (n : Nat) (h : PH) (this : Nat) (x1 : Int32) (x2 : Int32) (x3 : Int32) (x4 : Int32) (x5 : Int32), Sim Y_M_select h 33 [(0, .ref this), (1, .int x1), (2, .int x2), (3, .int x3), (4, .int x4), (5, .int x5)] [] (itr (c_M_select_l33) (fun _ _ _ _ _ _ _ => none) n h this x1 x2 x3 x4 x5)
  | 0, h, this, x1, x2, x3, x4, x5 => Sim.none
  | n + 1, h, this, x1, x2, x3, x4, x5 => w_M_select_l33 _ (v_M_select_l33 n) h this x1 x2 x3 x4 x5
set_option maxHeartbeats 4000000 in
theorem m_M_select (h : PH) (this : Nat) (x1 : Int32) (x2 : Int32) (x3 : Int32) : MM yX10_select (ws_ yX10_select cX10_select 6 (some .int)) 3 [.ref this, .int x1, .int x2, .int x3] h (c_M_select h this x1 x2 x3) := by
  refine MM.of (by decide) rfl (by decide) (Nat.le_of_ble_eq_true rfl) (own := RX10) (cc := cX10_select) (maxL := 6) (lev := 3) (rt := (some .int)) (ini := false) ?_
  show Sim Y_M_select h 0 [(0, .ref this), (1, .int x1), (2, .int x2), (3, .int x3)] [] _
  unfold c_M_select
  refine x_grd ?_
  refine x_aload_nR (pc := 0) (a := this) 0 rfl rfl dX10_select_0 ?_
  refine x_iconst (pc := 1) (v := 0) (by decide) dX10_select_1 ?_
  refine x_pI (pc := 2) fi_X10_1 (fun z => absurd z (by decide)) dX10_select_2 ?_
  intro h1
  refine x_aload_nR (pc := 5) (a := this) 0 rfl rfl dX10_select_5 ?_
  refine x_iload_n (pc := 6) 1 rfl rfl dX10_select_6 ?_
  refine x_callV (pc := 7) (As := [.int x1]) (rest := []) (lev' := 2) si_X10_215 (m_M_isRow h1 this x1) (fun z e => grd1 e) rfl rfl (by decide) (cat4 (Nat.le_of_ble_eq_true rfl)) dX10_select_7 (kI (fun v3 h2 => ?_)) xNo
  refine x_if_eq (pc := 10) 25 (by decide) dX10_select_10 ?_ ?_
  · refine x_iconst (pc := 25) (v := (-1)) (by decide) dX10_select_25 ?_
    exact x_iret (pc := 26) dX10_select_26
  · refine x_aload_nR (pc := 13) (a := this) 0 rfl rfl dX10_select_13 ?_
    refine x_iload_n (pc := 14) 3 rfl rfl dX10_select_14 ?_
    refine x_callV (pc := 15) (As := [.int x3]) (rest := []) (lev' := 2) si_X10_221 (m_M_isBit h2 this x3) (fun z e => grd1 e) rfl rfl (by decide) (cat4 (Nat.le_of_ble_eq_true rfl)) dX10_select_15 (kI (fun v5 h4 => ?_)) xNo
    refine x_if_eq (pc := 18) 25 (by decide) dX10_select_18 ?_ ?_
    · refine x_iconst (pc := 25) (v := (-1)) (by decide) dX10_select_25 ?_
      exact x_iret (pc := 26) dX10_select_26
    · refine x_iload_n (pc := 21) 2 rfl rfl dX10_select_21 ?_
      refine x_if_ge (pc := 22) 27 (by decide) dX10_select_22 ?_ ?_
      · refine x_iconst (pc := 27) (v := 0) (by decide) dX10_select_27 ?_
        refine x_istore (pc := 28) (lv' := [(4, .int (0 : Int32)), (0, .ref this), (1, .int x1), (2, .int x2), (3, .int x3)]) (by decide) rfl dX10_select_28 ?_
        refine x_iconst (pc := 30) (v := 0) (by decide) dX10_select_30 ?_
        refine x_istore (pc := 31) (lv' := [(5, .int (0 : Int32)), (4, .int (0 : Int32)), (0, .ref this), (1, .int x1), (2, .int x2), (3, .int x3)]) (by decide) rfl dX10_select_31 ?_
        refine Sim.lv [2, 3, 4, 5, 1, 0] rfl ?_
        exact v_M_select_l33 FU h4 this x1 x2 x3 (0 : Int32) (0 : Int32)
      · refine x_iconst (pc := 25) (v := (-1)) (by decide) dX10_select_25 ?_
        exact x_iret (pc := 26) dX10_select_26
abbrev Y_M_find : Yx := (RX10, cX10_find, 5, 3, (some .int), [], false)
def c_M_find_l30 (r30 : PH → Nat → Int32 → Int32 → Int32 → Option RH) (h : PH) (this : Nat) (x1 : Int32) (x3 : Int32) (x4 : Int32) : Option RH :=
  hI (c_M_sizeOf h this x1) noX fun v2 h1 =>
  if v2 ≤ x4 then
    rI (-1 : Int32) h1
  else
    hI (c_M_bitOf h1 this x1 x4) noX fun v4 h3 =>
    if v4 = x3 then
      rI x4 h3
    else
      r30 h3 this x1 x3 (x4 + (1 : Int32))
def c_M_find (h : PH) (this : Nat) (x1 : Int32) (x2 : Int32) (x3 : Int32) : Option RH :=
  grd h this [8] (
  pI h this [8] 0 (0 : Int32) fun h1 =>
  hI (c_M_isRow h1 this x1) noX fun v3 h2 =>
  if v3 = 0 then
    rI (-1 : Int32) h2
  else
    hI (c_M_isBit h2 this x3) noX fun v5 h4 =>
    if v5 = 0 then
      rI (-1 : Int32) h4
    else
      if 0 ≤ x2 then
        itr (c_M_find_l30) (fun _ _ _ _ _ => none) FU h4 this x1 x3 x2
      else
        rI (-1 : Int32) h4)
set_option maxHeartbeats 4000000 in
theorem w_M_find_l30 (r30 : PH → Nat → Int32 → Int32 → Int32 → Option RH) (hr30 : ∀ (h : PH) (this : Nat) (x1 : Int32) (x3 : Int32) (x4 : Int32), Sim Y_M_find h 30 [(0, .ref this), (1, .int x1), (3, .int x3), (4, .int x4)] [] (r30 h this x1 x3 x4)) (h : PH) (this : Nat) (x1 : Int32) (x3 : Int32) (x4 : Int32) : Sim Y_M_find h 30 [(0, .ref this), (1, .int x1), (3, .int x3), (4, .int x4)] [] (c_M_find_l30 r30 h this x1 x3 x4) := by
  unfold c_M_find_l30
  refine x_iload (pc := 30) 3 rfl dX10_find_30 ?_
  refine x_aload_nR (pc := 32) (a := this) 0 rfl rfl dX10_find_32 ?_
  refine x_iload_n (pc := 33) 1 rfl rfl dX10_find_33 ?_
  refine x_callV (pc := 34) (As := [.int x1]) (rest := [.int x4]) (lev' := 1) si_X10_199 (m_M_sizeOf h this x1) (fun z e => grd1 e) rfl rfl (by decide) (cat4 (Nat.le_of_ble_eq_true rfl)) dX10_find_34 (kI (fun v2 h1 => ?_)) xNo
  refine x_icmp_ge (pc := 37) 60 (by decide) dX10_find_37 ?_ ?_
  · refine x_iconst (pc := 60) (v := (-1)) (by decide) dX10_find_60 ?_
    exact x_iret (pc := 61) dX10_find_61
  · refine x_aload_nR (pc := 40) (a := this) 0 rfl rfl dX10_find_40 ?_
    refine x_iload_n (pc := 41) 1 rfl rfl dX10_find_41 ?_
    refine x_iload (pc := 42) 3 rfl dX10_find_42 ?_
    refine x_callV (pc := 44) (As := [.int x1, .int x4]) (rest := []) (lev' := 1) si_X10_212 (m_M_bitOf h1 this x1 x4) (fun z e => grd1 e) rfl rfl (by decide) (cat4 (Nat.le_of_ble_eq_true rfl)) dX10_find_44 (kI (fun v4 h3 => ?_)) xNo
    refine x_iload_n (pc := 47) 2 rfl rfl dX10_find_47 ?_
    refine x_icmp_ne (pc := 48) 54 (by decide) dX10_find_48 ?_ ?_
    · refine x_iinc (pc := 54) (v := (1 : Int32)) (lv' := [(4, .int (x4 + (1 : Int32))), (0, .ref this), (1, .int x1), (3, .int x3)]) 3 rfl (by decide) (by decide) rfl dX10_find_54 ?_
      refine x_goto (pc := 57) 30 (by decide) dX10_find_57 ?_
      refine Sim.lv [1, 2, 3, 0] rfl ?_
      exact hr30 h3 this x1 x3 (x4 + (1 : Int32))
    · refine x_iload (pc := 51) 3 rfl dX10_find_51 ?_
      exact x_iret (pc := 53) dX10_find_53
set_option maxHeartbeats 4000000 in
theorem v_M_find_l30 : ∀ (n : Nat) (h : PH) (this : Nat) (x1 : Int32) (x3 : Int32) (x4 : Int32), Sim Y_M_find h 30 [(0, .ref this), (1, .int x1), (3, .int x3), (4, .int x4)] [] (itr (c_M_find_l30) (fun _ _ _ _ _ => none) n h this x1 x3 x4)
  | 0, h, this, x1, x3, x4 => Sim.none
  | n + 1, h, this, x1, x3, x4 => w_M_find_l30 _ (v_M_find_l30 n) h this x1 x3 x4
set_option maxHeartbeats 4000000 in
theorem m_M_find (h : PH) (this : Nat) (x1 : Int32) (x2 : Int32) (x3 : Int32) : MM yX10_find (ws_ yX10_find cX10_find 5 (some .int)) 3 [.ref this, .int x1, .int x2, .int x3] h (c_M_find h this x1 x2 x3) := by
  refine MM.of (by decide) rfl (by decide) (Nat.le_of_ble_eq_true rfl) (own := RX10) (cc := cX10_find) (maxL := 5) (lev := 3) (rt := (some .int)) (ini := false) ?_
  show Sim Y_M_find h 0 [(0, .ref this), (1, .int x1), (2, .int x2), (3, .int x3)] [] _
  unfold c_M_find
  refine x_grd ?_
  refine x_aload_nR (pc := 0) (a := this) 0 rfl rfl dX10_find_0 ?_
  refine x_iconst (pc := 1) (v := 0) (by decide) dX10_find_1 ?_
  refine x_pI (pc := 2) fi_X10_1 (fun z => absurd z (by decide)) dX10_find_2 ?_
  intro h1
  refine x_aload_nR (pc := 5) (a := this) 0 rfl rfl dX10_find_5 ?_
  refine x_iload_n (pc := 6) 1 rfl rfl dX10_find_6 ?_
  refine x_callV (pc := 7) (As := [.int x1]) (rest := []) (lev' := 2) si_X10_215 (m_M_isRow h1 this x1) (fun z e => grd1 e) rfl rfl (by decide) (cat4 (Nat.le_of_ble_eq_true rfl)) dX10_find_7 (kI (fun v3 h2 => ?_)) xNo
  refine x_if_eq (pc := 10) 25 (by decide) dX10_find_10 ?_ ?_
  · refine x_iconst (pc := 25) (v := (-1)) (by decide) dX10_find_25 ?_
    exact x_iret (pc := 26) dX10_find_26
  · refine x_aload_nR (pc := 13) (a := this) 0 rfl rfl dX10_find_13 ?_
    refine x_iload_n (pc := 14) 3 rfl rfl dX10_find_14 ?_
    refine x_callV (pc := 15) (As := [.int x3]) (rest := []) (lev' := 2) si_X10_221 (m_M_isBit h2 this x3) (fun z e => grd1 e) rfl rfl (by decide) (cat4 (Nat.le_of_ble_eq_true rfl)) dX10_find_15 (kI (fun v5 h4 => ?_)) xNo
    refine x_if_eq (pc := 18) 25 (by decide) dX10_find_18 ?_ ?_
    · refine x_iconst (pc := 25) (v := (-1)) (by decide) dX10_find_25 ?_
      exact x_iret (pc := 26) dX10_find_26
    · refine x_iload_n (pc := 21) 2 rfl rfl dX10_find_21 ?_
      refine x_if_ge (pc := 22) 27 (by decide) dX10_find_22 ?_ ?_
      · refine x_iload_n (pc := 27) 2 rfl rfl dX10_find_27 ?_
        refine x_istore (pc := 28) (lv' := [(4, .int x2), (0, .ref this), (1, .int x1), (2, .int x2), (3, .int x3)]) (by decide) rfl dX10_find_28 ?_
        refine Sim.lv [1, 2, 4, 0] rfl ?_
        exact v_M_find_l30 FU h4 this x1 x3 x2
      · refine x_iconst (pc := 25) (v := (-1)) (by decide) dX10_find_25 ?_
        exact x_iret (pc := 26) dX10_find_26
abbrev Y_M_runsOf : Yx := (RX10, cX10_runsOf, 4, 2, (some .int), [], false)
def c_M_runsOf_l4 (r4 : PH → Nat → Int32 → Int32 → Int32 → Option RH) (h : PH) (this : Nat) (x1 : Int32) (x2 : Int32) (x3 : Int32) : Option RH :=
  hI (c_M_sizeOf h this x1) noX fun v2 h1 =>
  if v2 ≤ x3 then
    rI x2 h1
  else
    if x3 = 0 then
      r4 h1 this x1 (x2 + (1 : Int32)) (x3 + (1 : Int32))
    else
      hI (c_M_bitOf h1 this x1 x3) noX fun v4 h3 =>
      hI (c_M_bitOf h3 this x1 (x3 - (1 : Int32))) noX fun v6 h5 =>
      if v4 = v6 then
        r4 h5 this x1 x2 (x3 + (1 : Int32))
      else
        r4 h5 this x1 (x2 + (1 : Int32)) (x3 + (1 : Int32))
def c_M_runsOf (h : PH) (this : Nat) (x1 : Int32) : Option RH :=
  grd h this [8] (
  itr (c_M_runsOf_l4) (fun _ _ _ _ _ => none) FU h this x1 (0 : Int32) (0 : Int32))
set_option maxHeartbeats 4000000 in
theorem w_M_runsOf_l4 (r4 : PH → Nat → Int32 → Int32 → Int32 → Option RH) (hr4 : ∀ (h : PH) (this : Nat) (x1 : Int32) (x2 : Int32) (x3 : Int32), Sim Y_M_runsOf h 4 [(0, .ref this), (1, .int x1), (2, .int x2), (3, .int x3)] [] (r4 h this x1 x2 x3)) (h : PH) (this : Nat) (x1 : Int32) (x2 : Int32) (x3 : Int32) : Sim Y_M_runsOf h 4 [(0, .ref this), (1, .int x1), (2, .int x2), (3, .int x3)] [] (c_M_runsOf_l4 r4 h this x1 x2 x3) := by
  unfold c_M_runsOf_l4
  refine x_iload_n (pc := 4) 3 rfl rfl dX10_runsOf_4 ?_
  refine x_aload_nR (pc := 5) (a := this) 0 rfl rfl dX10_runsOf_5 ?_
  refine x_iload_n (pc := 6) 1 rfl rfl dX10_runsOf_6 ?_
  refine x_callV (pc := 7) (As := [.int x1]) (rest := [.int x3]) (lev' := 1) si_X10_199 (m_M_sizeOf h this x1) (fun z e => grd1 e) rfl rfl (by decide) (cat4 (Nat.le_of_ble_eq_true rfl)) dX10_runsOf_7 (kI (fun v2 h1 => ?_)) xNo
  refine x_icmp_ge (pc := 10) 43 (by decide) dX10_runsOf_10 ?_ ?_
  · refine x_iload_n (pc := 43) 2 rfl rfl dX10_runsOf_43 ?_
    exact x_iret (pc := 44) dX10_runsOf_44
  · refine x_iload_n (pc := 13) 3 rfl rfl dX10_runsOf_13 ?_
    refine x_if_eq (pc := 14) 34 (by decide) dX10_runsOf_14 ?_ ?_
    · refine x_iinc (pc := 34) (v := (1 : Int32)) (lv' := [(2, .int (x2 + (1 : Int32))), (0, .ref this), (1, .int x1), (3, .int x3)]) 2 rfl (by decide) (by decide) rfl dX10_runsOf_34 ?_
      refine x_iinc (pc := 37) (v := (1 : Int32)) (lv' := [(3, .int (x3 + (1 : Int32))), (2, .int (x2 + (1 : Int32))), (0, .ref this), (1, .int x1)]) 3 rfl (by decide) (by decide) rfl dX10_runsOf_37 ?_
      refine x_goto (pc := 40) 4 (by decide) dX10_runsOf_40 ?_
      refine Sim.lv [2, 3, 1, 0] rfl ?_
      exact hr4 h1 this x1 (x2 + (1 : Int32)) (x3 + (1 : Int32))
    · refine x_aload_nR (pc := 17) (a := this) 0 rfl rfl dX10_runsOf_17 ?_
      refine x_iload_n (pc := 18) 1 rfl rfl dX10_runsOf_18 ?_
      refine x_iload_n (pc := 19) 3 rfl rfl dX10_runsOf_19 ?_
      refine x_callV (pc := 20) (As := [.int x1, .int x3]) (rest := []) (lev' := 1) si_X10_212 (m_M_bitOf h1 this x1 x3) (fun z e => grd1 e) rfl rfl (by decide) (cat4 (Nat.le_of_ble_eq_true rfl)) dX10_runsOf_20 (kI (fun v4 h3 => ?_)) xNo
      refine x_aload_nR (pc := 23) (a := this) 0 rfl rfl dX10_runsOf_23 ?_
      refine x_iload_n (pc := 24) 1 rfl rfl dX10_runsOf_24 ?_
      refine x_iload_n (pc := 25) 3 rfl rfl dX10_runsOf_25 ?_
      refine x_iconst (pc := 26) (v := 1) (by decide) dX10_runsOf_26 ?_
      refine x_isub (pc := 27) dX10_runsOf_27 ?_
      refine x_callV (pc := 28) (As := [.int x1, .int (x3 - (1 : Int32))]) (rest := [.int v4]) (lev' := 1) si_X10_212 (m_M_bitOf h3 this x1 (x3 - (1 : Int32))) (fun z e => grd1 e) rfl rfl (by decide) (cat4 (Nat.le_of_ble_eq_true rfl)) dX10_runsOf_28 (kI (fun v6 h5 => ?_)) xNo
      refine x_icmp_eq (pc := 31) 37 (by decide) dX10_runsOf_31 ?_ ?_
      · refine x_iinc (pc := 37) (v := (1 : Int32)) (lv' := [(3, .int (x3 + (1 : Int32))), (0, .ref this), (1, .int x1), (2, .int x2)]) 3 rfl (by decide) (by decide) rfl dX10_runsOf_37 ?_
        refine x_goto (pc := 40) 4 (by decide) dX10_runsOf_40 ?_
        refine Sim.lv [1, 2, 3, 0] rfl ?_
        exact hr4 h5 this x1 x2 (x3 + (1 : Int32))
      · refine x_iinc (pc := 34) (v := (1 : Int32)) (lv' := [(2, .int (x2 + (1 : Int32))), (0, .ref this), (1, .int x1), (3, .int x3)]) 2 rfl (by decide) (by decide) rfl dX10_runsOf_34 ?_
        refine x_iinc (pc := 37) (v := (1 : Int32)) (lv' := [(3, .int (x3 + (1 : Int32))), (2, .int (x2 + (1 : Int32))), (0, .ref this), (1, .int x1)]) 3 rfl (by decide) (by decide) rfl dX10_runsOf_37 ?_
        refine x_goto (pc := 40) 4 (by decide) dX10_runsOf_40 ?_
        refine Sim.lv [2, 3, 1, 0] rfl ?_
        exact hr4 h5 this x1 (x2 + (1 : Int32)) (x3 + (1 : Int32))
set_option maxHeartbeats 4000000 in
theorem v_M_runsOf_l4 : ∀ (n : Nat) (h : PH) (this : Nat) (x1 : Int32) (x2 : Int32) (x3 : Int32), Sim Y_M_runsOf h 4 [(0, .ref this), (1, .int x1), (2, .int x2), (3, .int x3)] [] (itr (c_M_runsOf_l4) (fun _ _ _ _ _ => none) n h this x1 x2 x3)
  | 0, h, this, x1, x2, x3 => Sim.none
  | n + 1, h, this, x1, x2, x3 => w_M_runsOf_l4 _ (v_M_runsOf_l4 n) h this x1 x2 x3
set_option maxHeartbeats 4000000 in
theorem m_M_runsOf (h : PH) (this : Nat) (x1 : Int32) : MM yX10_runsOf (ws_ yX10_runsOf cX10_runsOf 4 (some .int)) 2 [.ref this, .int x1] h (c_M_runsOf h this x1) := by
  refine MM.of (by decide) rfl (by decide) (Nat.le_of_ble_eq_true rfl) (own := RX10) (cc := cX10_runsOf) (maxL := 4) (lev := 2) (rt := (some .int)) (ini := false) ?_
  show Sim Y_M_runsOf h 0 [(0, .ref this), (1, .int x1)] [] _
  unfold c_M_runsOf
  refine x_grd ?_
  refine x_iconst (pc := 0) (v := 0) (by decide) dX10_runsOf_0 ?_
  refine x_istore_n (pc := 1) (lv' := [(2, .int (0 : Int32)), (0, .ref this), (1, .int x1)]) rfl (by decide) rfl dX10_runsOf_1 ?_
  refine x_iconst (pc := 2) (v := 0) (by decide) dX10_runsOf_2 ?_
  refine x_istore_n (pc := 3) (lv' := [(3, .int (0 : Int32)), (2, .int (0 : Int32)), (0, .ref this), (1, .int x1)]) rfl (by decide) rfl dX10_runsOf_3 ?_
  refine Sim.lv [2, 3, 1, 0] rfl ?_
  exact v_M_runsOf_l4 FU h this x1 (0 : Int32) (0 : Int32)
theorem si_X10_228 : SiV RX10 228 8 yX10_runsOf cX10_runsOf 4 (some .int) 1 := ⟨_, _, _, ci_8.1, by decide, lw_V q1965 q1967 qs66 q121 q1968, ⟨rfl, by decide, by decide, by decide +kernel⟩, by decide⟩
abbrev Y_M_runs : Yx := (RX10, cX10_runs, 2, 3, (some .int), [], false)
def c_M_runs (h : PH) (this : Nat) (x1 : Int32) : Option RH :=
  grd h this [8] (
  pI h this [8] 0 (0 : Int32) fun h1 =>
  hI (c_M_isRow h1 this x1) noX fun v3 h2 =>
  if v3 = 0 then
    rI (-1 : Int32) h2
  else
    hI (c_M_runsOf h2 this x1) noX fun v5 h4 =>
    rI v5 h4)
set_option maxHeartbeats 4000000 in
theorem m_M_runs (h : PH) (this : Nat) (x1 : Int32) : MM yX10_runs (ws_ yX10_runs cX10_runs 2 (some .int)) 3 [.ref this, .int x1] h (c_M_runs h this x1) := by
  refine MM.of (by decide) rfl (by decide) (Nat.le_of_ble_eq_true rfl) (own := RX10) (cc := cX10_runs) (maxL := 2) (lev := 3) (rt := (some .int)) (ini := false) ?_
  show Sim Y_M_runs h 0 [(0, .ref this), (1, .int x1)] [] _
  unfold c_M_runs
  refine x_grd ?_
  refine x_aload_nR (pc := 0) (a := this) 0 rfl rfl dX10_runs_0 ?_
  refine x_iconst (pc := 1) (v := 0) (by decide) dX10_runs_1 ?_
  refine x_pI (pc := 2) fi_X10_1 (fun z => absurd z (by decide)) dX10_runs_2 ?_
  intro h1
  refine x_aload_nR (pc := 5) (a := this) 0 rfl rfl dX10_runs_5 ?_
  refine x_iload_n (pc := 6) 1 rfl rfl dX10_runs_6 ?_
  refine x_callV (pc := 7) (As := [.int x1]) (rest := []) (lev' := 2) si_X10_215 (m_M_isRow h1 this x1) (fun z e => grd1 e) rfl rfl (by decide) (cat4 (Nat.le_of_ble_eq_true rfl)) dX10_runs_7 (kI (fun v3 h2 => ?_)) xNo
  refine x_if_eq (pc := 10) 21 (by decide) dX10_runs_10 ?_ ?_
  · refine x_iconst (pc := 21) (v := (-1)) (by decide) dX10_runs_21 ?_
    exact x_iret (pc := 22) dX10_runs_22
  · refine x_aload_nR (pc := 13) (a := this) 0 rfl rfl dX10_runs_13 ?_
    refine x_iload_n (pc := 14) 1 rfl rfl dX10_runs_14 ?_
    refine x_callV (pc := 15) (As := [.int x1]) (rest := []) (lev' := 2) si_X10_228 (m_M_runsOf h2 this x1) (fun z e => grd1 e) rfl rfl (by decide) (cat4 (Nat.le_of_ble_eq_true rfl)) dX10_runs_15 (kI (fun v5 h4 => ?_)) xNo
    refine x_goto (pc := 18) 22 (by decide) dX10_runs_18 ?_
    exact x_iret (pc := 22) dX10_runs_22
abbrev Y_M_longest : Yx := (RX10, cX10_longest, 6, 3, (some .int), [], false)
def c_M_longest_j60 (r31 : PH → Nat → Int32 → Int32 → Int32 → Int32 → Int32 → Option RH) (h : PH) (this : Nat) (x1 : Int32) (x2 : Int32) (x3 : Int32) (x5 : Int32) (s0 : Int32) : Option RH :=
  if s0 ≤ x3 then
    r31 h this x1 x2 x3 s0 (x5 + (1 : Int32))
  else
    r31 h this x1 x2 s0 s0 (x5 + (1 : Int32))
def c_M_longest_l31 (r31 : PH → Nat → Int32 → Int32 → Int32 → Int32 → Int32 → Option RH) (h : PH) (this : Nat) (x1 : Int32) (x2 : Int32) (x3 : Int32) (x4 : Int32) (x5 : Int32) : Option RH :=
  hI (c_M_sizeOf h this x1) noX fun v2 h1 =>
  if v2 ≤ x5 then
    rI x3 h1
  else
    hI (c_M_bitOf h1 this x1 x5) noX fun v4 h3 =>
    if v4 = x2 then
      c_M_longest_j60 r31 h3 this x1 x2 x3 x5 (x4 + (1 : Int32))
    else
      c_M_longest_j60 r31 h3 this x1 x2 x3 x5 (0 : Int32)
def c_M_longest (h : PH) (this : Nat) (x1 : Int32) (x2 : Int32) : Option RH :=
  grd h this [8] (
  pI h this [8] 0 (0 : Int32) fun h1 =>
  hI (c_M_isRow h1 this x1) noX fun v3 h2 =>
  if v3 = 0 then
    rI (-1 : Int32) h2
  else
    hI (c_M_isBit h2 this x2) noX fun v5 h4 =>
    if v5 = 0 then
      rI (-1 : Int32) h4
    else
      itr (c_M_longest_l31) (fun _ _ _ _ _ _ _ => none) FU h4 this x1 x2 (0 : Int32) (0 : Int32) (0 : Int32))
set_option maxHeartbeats 4000000 in
theorem w_M_longest_j60 (r31 : PH → Nat → Int32 → Int32 → Int32 → Int32 → Int32 → Option RH) (hr31 : ∀ (h : PH) (this : Nat) (x1 : Int32) (x2 : Int32) (x3 : Int32) (x4 : Int32) (x5 : Int32), Sim Y_M_longest h 31 [(0, .ref this), (1, .int x1), (2, .int x2), (3, .int x3), (4, .int x4), (5, .int x5)] [] (r31 h this x1 x2 x3 x4 x5)) (h : PH) (this : Nat) (x1 : Int32) (x2 : Int32) (x3 : Int32) (x5 : Int32) (s0 : Int32) : Sim Y_M_longest h 60 [(0, .ref this), (1, .int x1), (2, .int x2), (3, .int x3), (5, .int x5)] [.int s0] (c_M_longest_j60 r31 h this x1 x2 x3 x5 s0) := by
  unfold c_M_longest_j60
  refine x_istore (pc := 60) (lv' := [(4, .int s0), (0, .ref this), (1, .int x1), (2, .int x2), (3, .int x3), (5, .int x5)]) (by decide) rfl dX10_longest_60 ?_
  refine x_iload (pc := 62) 0 rfl dX10_longest_62 ?_
  refine x_iload_n (pc := 64) 4 rfl rfl dX10_longest_64 ?_
  refine x_icmp_le (pc := 65) 71 (by decide) dX10_longest_65 ?_ ?_
  · refine x_iinc (pc := 71) (v := (1 : Int32)) (lv' := [(5, .int (x5 + (1 : Int32))), (4, .int s0), (0, .ref this), (1, .int x1), (2, .int x2), (3, .int x3)]) 5 rfl (by decide) (by decide) rfl dX10_longest_71 ?_
    refine x_goto (pc := 74) 31 (by decide) dX10_longest_74 ?_
    refine Sim.lv [2, 3, 4, 5, 1, 0] rfl ?_
    exact hr31 h this x1 x2 x3 s0 (x5 + (1 : Int32))
  · refine x_iload (pc := 68) 0 rfl dX10_longest_68 ?_
    refine x_istore_n (pc := 70) (lv' := [(3, .int s0), (4, .int s0), (0, .ref this), (1, .int x1), (2, .int x2), (5, .int x5)]) rfl (by decide) rfl dX10_longest_70 ?_
    refine x_iinc (pc := 71) (v := (1 : Int32)) (lv' := [(5, .int (x5 + (1 : Int32))), (3, .int s0), (4, .int s0), (0, .ref this), (1, .int x1), (2, .int x2)]) 5 rfl (by decide) (by decide) rfl dX10_longest_71 ?_
    refine x_goto (pc := 74) 31 (by decide) dX10_longest_74 ?_
    refine Sim.lv [3, 4, 5, 1, 2, 0] rfl ?_
    exact hr31 h this x1 x2 s0 s0 (x5 + (1 : Int32))
set_option maxHeartbeats 4000000 in
theorem w_M_longest_l31 (r31 : PH → Nat → Int32 → Int32 → Int32 → Int32 → Int32 → Option RH) (hr31 : ∀ (h : PH) (this : Nat) (x1 : Int32) (x2 : Int32) (x3 : Int32) (x4 : Int32) (x5 : Int32), Sim Y_M_longest h 31 [(0, .ref this), (1, .int x1), (2, .int x2), (3, .int x3), (4, .int x4), (5, .int x5)] [] (r31 h this x1 x2 x3 x4 x5)) (h : PH) (this : Nat) (x1 : Int32) (x2 : Int32) (x3 : Int32) (x4 : Int32) (x5 : Int32) : Sim Y_M_longest h 31 [(0, .ref this), (1, .int x1), (2, .int x2), (3, .int x3), (4, .int x4), (5, .int x5)] [] (c_M_longest_l31 r31 h this x1 x2 x3 x4 x5) := by
  unfold c_M_longest_l31
  refine x_iload (pc := 31) 5 rfl dX10_longest_31 ?_
  refine x_aload_nR (pc := 33) (a := this) 0 rfl rfl dX10_longest_33 ?_
  refine x_iload_n (pc := 34) 1 rfl rfl dX10_longest_34 ?_
  refine x_callV (pc := 35) (As := [.int x1]) (rest := [.int x5]) (lev' := 1) si_X10_199 (m_M_sizeOf h this x1) (fun z e => grd1 e) rfl rfl (by decide) (cat4 (Nat.le_of_ble_eq_true rfl)) dX10_longest_35 (kI (fun v2 h1 => ?_)) xNo
  refine x_icmp_ge (pc := 38) 77 (by decide) dX10_longest_38 ?_ ?_
  · refine x_iload_n (pc := 77) 3 rfl rfl dX10_longest_77 ?_
    exact x_iret (pc := 78) dX10_longest_78
  · refine x_aload_nR (pc := 41) (a := this) 0 rfl rfl dX10_longest_41 ?_
    refine x_iload_n (pc := 42) 1 rfl rfl dX10_longest_42 ?_
    refine x_iload (pc := 43) 5 rfl dX10_longest_43 ?_
    refine x_callV (pc := 45) (As := [.int x1, .int x5]) (rest := []) (lev' := 1) si_X10_212 (m_M_bitOf h1 this x1 x5) (fun z e => grd1 e) rfl rfl (by decide) (cat4 (Nat.le_of_ble_eq_true rfl)) dX10_longest_45 (kI (fun v4 h3 => ?_)) xNo
    refine x_iload_n (pc := 48) 2 rfl rfl dX10_longest_48 ?_
    refine x_icmp_ne (pc := 49) 59 (by decide) dX10_longest_49 ?_ ?_
    · refine x_iconst (pc := 59) (v := 0) (by decide) dX10_longest_59 ?_
      refine Sim.lv [0, 1, 2, 3, 5] rfl ?_
      exact w_M_longest_j60 r31 hr31 h3 this x1 x2 x3 x5 (0 : Int32)
    · refine x_iload (pc := 52) 4 rfl dX10_longest_52 ?_
      refine x_iconst (pc := 54) (v := 1) (by decide) dX10_longest_54 ?_
      refine x_iadd (pc := 55) dX10_longest_55 ?_
      refine x_goto (pc := 56) 60 (by decide) dX10_longest_56 ?_
      refine Sim.lv [0, 1, 2, 3, 5] rfl ?_
      exact w_M_longest_j60 r31 hr31 h3 this x1 x2 x3 x5 (x4 + (1 : Int32))
set_option maxHeartbeats 4000000 in
theorem v_M_longest_l31 : ∀ (n : Nat) (h : PH) (this : Nat) (x1 : Int32) (x2 : Int32) (x3 : Int32) (x4 : Int32) (x5 : Int32), Sim Y_M_longest h 31 [(0, .ref this), (1, .int x1), (2, .int x2), (3, .int x3), (4, .int x4), (5, .int x5)] [] (itr (c_M_longest_l31) (fun _ _ _ _ _ _ _ => none) n h this x1 x2 x3 x4 x5)
  | 0, h, this, x1, x2, x3, x4, x5 => Sim.none
  | n + 1, h, this, x1, x2, x3, x4, x5 => w_M_longest_l31 _ (v_M_longest_l31 n) h this x1 x2 x3 x4 x5
set_option maxHeartbeats 4000000 in
theorem m_M_longest (h : PH) (this : Nat) (x1 : Int32) (x2 : Int32) : MM yX10_longest (ws_ yX10_longest cX10_longest 6 (some .int)) 3 [.ref this, .int x1, .int x2] h (c_M_longest h this x1 x2) := by
  refine MM.of (by decide) rfl (by decide) (Nat.le_of_ble_eq_true rfl) (own := RX10) (cc := cX10_longest) (maxL := 6) (lev := 3) (rt := (some .int)) (ini := false) ?_
  show Sim Y_M_longest h 0 [(0, .ref this), (1, .int x1), (2, .int x2)] [] _
  unfold c_M_longest
  refine x_grd ?_
  refine x_aload_nR (pc := 0) (a := this) 0 rfl rfl dX10_longest_0 ?_
  refine x_iconst (pc := 1) (v := 0) (by decide) dX10_longest_1 ?_
  refine x_pI (pc := 2) fi_X10_1 (fun z => absurd z (by decide)) dX10_longest_2 ?_
  intro h1
  refine x_aload_nR (pc := 5) (a := this) 0 rfl rfl dX10_longest_5 ?_
  refine x_iload_n (pc := 6) 1 rfl rfl dX10_longest_6 ?_
  refine x_callV (pc := 7) (As := [.int x1]) (rest := []) (lev' := 2) si_X10_215 (m_M_isRow h1 this x1) (fun z e => grd1 e) rfl rfl (by decide) (cat4 (Nat.le_of_ble_eq_true rfl)) dX10_longest_7 (kI (fun v3 h2 => ?_)) xNo
  refine x_if_eq (pc := 10) 21 (by decide) dX10_longest_10 ?_ ?_
  · refine x_iconst (pc := 21) (v := (-1)) (by decide) dX10_longest_21 ?_
    exact x_iret (pc := 22) dX10_longest_22
  · refine x_aload_nR (pc := 13) (a := this) 0 rfl rfl dX10_longest_13 ?_
    refine x_iload_n (pc := 14) 2 rfl rfl dX10_longest_14 ?_
    refine x_callV (pc := 15) (As := [.int x2]) (rest := []) (lev' := 2) si_X10_221 (m_M_isBit h2 this x2) (fun z e => grd1 e) rfl rfl (by decide) (cat4 (Nat.le_of_ble_eq_true rfl)) dX10_longest_15 (kI (fun v5 h4 => ?_)) xNo
    refine x_if_ne (pc := 18) 23 (by decide) dX10_longest_18 ?_ ?_
    · refine x_iconst (pc := 23) (v := 0) (by decide) dX10_longest_23 ?_
      refine x_istore_n (pc := 24) (lv' := [(3, .int (0 : Int32)), (0, .ref this), (1, .int x1), (2, .int x2)]) rfl (by decide) rfl dX10_longest_24 ?_
      refine x_iconst (pc := 25) (v := 0) (by decide) dX10_longest_25 ?_
      refine x_istore (pc := 26) (lv' := [(4, .int (0 : Int32)), (3, .int (0 : Int32)), (0, .ref this), (1, .int x1), (2, .int x2)]) (by decide) rfl dX10_longest_26 ?_
      refine x_iconst (pc := 28) (v := 0) (by decide) dX10_longest_28 ?_
      refine x_istore (pc := 29) (lv' := [(5, .int (0 : Int32)), (4, .int (0 : Int32)), (3, .int (0 : Int32)), (0, .ref this), (1, .int x1), (2, .int x2)]) (by decide) rfl dX10_longest_29 ?_
      refine Sim.lv [3, 4, 5, 2, 1, 0] rfl ?_
      exact v_M_longest_l31 FU h4 this x1 x2 (0 : Int32) (0 : Int32) (0 : Int32)
    · refine x_iconst (pc := 21) (v := (-1)) (by decide) dX10_longest_21 ?_
      exact x_iret (pc := 22) dX10_longest_22
abbrev Y_M_refuse : Yx := (RX10, cX10_refuse, 1, 1, (some .int), [], false)
def c_M_refuse (h : PH) (this : Nat) : Option RH :=
  grd h this [8] (
  pI h this [8] 0 (1 : Int32) fun h1 =>
  rI (0 : Int32) h1)
set_option maxHeartbeats 4000000 in
theorem m_M_refuse (h : PH) (this : Nat) : MM yX10_refuse (ws_ yX10_refuse cX10_refuse 1 (some .int)) 1 [.ref this] h (c_M_refuse h this) := by
  refine MM.of (by decide) rfl (by decide) (Nat.le_of_ble_eq_true rfl) (own := RX10) (cc := cX10_refuse) (maxL := 1) (lev := 1) (rt := (some .int)) (ini := false) ?_
  show Sim Y_M_refuse h 0 [(0, .ref this)] [] _
  unfold c_M_refuse
  refine x_grd ?_
  refine x_aload_nR (pc := 0) (a := this) 0 rfl rfl dX10_refuse_0 ?_
  refine x_iconst (pc := 1) (v := 1) (by decide) dX10_refuse_1 ?_
  refine x_pI (pc := 2) fi_X10_1 (fun z => absurd z (by decide)) dX10_refuse_2 ?_
  intro h1
  refine x_iconst (pc := 5) (v := 0) (by decide) dX10_refuse_5 ?_
  exact x_iret (pc := 6) dX10_refuse_6
theorem si_X10_231 : SiV RX10 231 8 yX10_refuse cX10_refuse 1 (some .int) 0 := ⟨_, _, _, ci_8.1, by decide, lw_V q1977 q1979 qs67 q121 q1980, ⟨rfl, by decide, by decide, by decide +kernel⟩, by decide⟩
abbrev Y_M_word : Yx := (RX10, cX10_word, 5, 3, (some .int), [], false)
def c_M_word_l36 (r36 : PH → Nat → Int32 → Int32 → Int32 → Int32 → Option RH) (h : PH) (this : Nat) (x1 : Int32) (x2 : Int32) (x3 : Int32) (x4 : Int32) : Option RH :=
  if (x2 + (32 : Int32)) ≤ x4 then
    rI x3 h
  else
    hI (c_M_sizeOf h this x1) noX fun v2 h1 =>
    if v2 ≤ x4 then
      nm ((x3 <<< ((1 : Int32) &&& 31)) ||| (0 : Int32)) fun y3 =>
      r36 h1 this x1 x2 y3 (x4 + (1 : Int32))
    else
      hI (c_M_bitOf h1 this x1 x4) noX fun v5 h4 =>
      nm ((x3 <<< ((1 : Int32) &&& 31)) ||| v5) fun y6 =>
      r36 h4 this x1 x2 y6 (x4 + (1 : Int32))
def c_M_word (h : PH) (this : Nat) (x1 : Int32) (x2 : Int32) : Option RH :=
  grd h this [8] (
  pI h this [8] 0 (0 : Int32) fun h1 =>
  hI (c_M_isRow h1 this x1) noX fun v3 h2 =>
  if v3 = 0 then
    hI (c_M_refuse h2 this) noX fun v5 h4 =>
    rI v5 h4
  else
    hI (c_M_sizeOf h2 this x1) noX fun v7 h6 =>
    hI (c_M_isIn h6 x2 (0 : Int32) v7) noX fun v9 h8 =>
    if v9 = 0 then
      hI (c_M_refuse h8 this) noX fun v11 h10 =>
      rI v11 h10
    else
      itr (c_M_word_l36) (fun _ _ _ _ _ _ => none) FU h8 this x1 x2 (0 : Int32) x2)
set_option maxHeartbeats 4000000 in
theorem w_M_word_l36 (r36 : PH → Nat → Int32 → Int32 → Int32 → Int32 → Option RH) (hr36 : ∀ (h : PH) (this : Nat) (x1 : Int32) (x2 : Int32) (x3 : Int32) (x4 : Int32), Sim Y_M_word h 36 [(0, .ref this), (1, .int x1), (2, .int x2), (3, .int x3), (4, .int x4)] [] (r36 h this x1 x2 x3 x4)) (h : PH) (this : Nat) (x1 : Int32) (x2 : Int32) (x3 : Int32) (x4 : Int32) : Sim Y_M_word h 36 [(0, .ref this), (1, .int x1), (2, .int x2), (3, .int x3), (4, .int x4)] [] (c_M_word_l36 r36 h this x1 x2 x3 x4) := by
  unfold c_M_word_l36
  refine x_iload (pc := 36) 4 rfl dX10_word_36 ?_
  refine x_iload_n (pc := 38) 2 rfl rfl dX10_word_38 ?_
  refine x_bipush (pc := 39) (v := 32) (by decide) dX10_word_39 ?_
  refine x_iadd (pc := 41) dX10_word_41 ?_
  refine x_icmp_ge (pc := 42) 77 (by decide) dX10_word_42 ?_ ?_
  · refine x_iload_n (pc := 77) 3 rfl rfl dX10_word_77 ?_
    exact x_iret (pc := 78) dX10_word_78
  · refine x_iload_n (pc := 45) 3 rfl rfl dX10_word_45 ?_
    refine x_iconst (pc := 46) (v := 1) (by decide) dX10_word_46 ?_
    refine x_ishl (pc := 47) dX10_word_47 ?_
    refine x_iload (pc := 48) 4 rfl dX10_word_48 ?_
    refine x_aload_nR (pc := 50) (a := this) 0 rfl rfl dX10_word_50 ?_
    refine x_iload_n (pc := 51) 1 rfl rfl dX10_word_51 ?_
    refine x_callV (pc := 52) (As := [.int x1]) (rest := [.int x4, .int (x3 <<< ((1 : Int32) &&& 31))]) (lev' := 1) si_X10_199 (m_M_sizeOf h this x1) (fun z e => grd1 e) rfl rfl (by decide) (cat4 (Nat.le_of_ble_eq_true rfl)) dX10_word_52 (kI (fun v2 h1 => ?_)) xNo
    refine x_icmp_ge (pc := 55) 68 (by decide) dX10_word_55 ?_ ?_
    · refine x_iconst (pc := 68) (v := 0) (by decide) dX10_word_68 ?_
      refine x_ior (pc := 69) dX10_word_69 ?_
      refine x_nmI (fun y3 => ?_)
      refine x_istore_n (pc := 70) (lv' := [(3, .int y3), (0, .ref this), (1, .int x1), (2, .int x2), (4, .int x4)]) rfl (by decide) rfl dX10_word_70 ?_
      refine x_iinc (pc := 71) (v := (1 : Int32)) (lv' := [(4, .int (x4 + (1 : Int32))), (3, .int y3), (0, .ref this), (1, .int x1), (2, .int x2)]) 4 rfl (by decide) (by decide) rfl dX10_word_71 ?_
      refine x_goto (pc := 74) 36 (by decide) dX10_word_74 ?_
      refine Sim.lv [2, 3, 4, 1, 0] rfl ?_
      exact hr36 h1 this x1 x2 y3 (x4 + (1 : Int32))
    · refine x_aload_nR (pc := 58) (a := this) 0 rfl rfl dX10_word_58 ?_
      refine x_iload_n (pc := 59) 1 rfl rfl dX10_word_59 ?_
      refine x_iload (pc := 60) 4 rfl dX10_word_60 ?_
      refine x_callV (pc := 62) (As := [.int x1, .int x4]) (rest := [.int (x3 <<< ((1 : Int32) &&& 31))]) (lev' := 1) si_X10_212 (m_M_bitOf h1 this x1 x4) (fun z e => grd1 e) rfl rfl (by decide) (cat4 (Nat.le_of_ble_eq_true rfl)) dX10_word_62 (kI (fun v5 h4 => ?_)) xNo
      refine x_goto (pc := 65) 69 (by decide) dX10_word_65 ?_
      refine x_ior (pc := 69) dX10_word_69 ?_
      refine x_nmI (fun y6 => ?_)
      refine x_istore_n (pc := 70) (lv' := [(3, .int y6), (0, .ref this), (1, .int x1), (2, .int x2), (4, .int x4)]) rfl (by decide) rfl dX10_word_70 ?_
      refine x_iinc (pc := 71) (v := (1 : Int32)) (lv' := [(4, .int (x4 + (1 : Int32))), (3, .int y6), (0, .ref this), (1, .int x1), (2, .int x2)]) 4 rfl (by decide) (by decide) rfl dX10_word_71 ?_
      refine x_goto (pc := 74) 36 (by decide) dX10_word_74 ?_
      refine Sim.lv [2, 3, 4, 1, 0] rfl ?_
      exact hr36 h4 this x1 x2 y6 (x4 + (1 : Int32))
set_option maxHeartbeats 4000000 in
theorem v_M_word_l36 : ∀ (n : Nat) (h : PH) (this : Nat) (x1 : Int32) (x2 : Int32) (x3 : Int32) (x4 : Int32), Sim Y_M_word h 36 [(0, .ref this), (1, .int x1), (2, .int x2), (3, .int x3), (4, .int x4)] [] (itr (c_M_word_l36) (fun _ _ _ _ _ _ => none) n h this x1 x2 x3 x4)
  | 0, h, this, x1, x2, x3, x4 => Sim.none
  | n + 1, h, this, x1, x2, x3, x4 => w_M_word_l36 _ (v_M_word_l36 n) h this x1 x2 x3 x4
set_option maxHeartbeats 4000000 in
theorem m_M_word (h : PH) (this : Nat) (x1 : Int32) (x2 : Int32) : MM yX10_word (ws_ yX10_word cX10_word 5 (some .int)) 3 [.ref this, .int x1, .int x2] h (c_M_word h this x1 x2) := by
  refine MM.of (by decide) rfl (by decide) (Nat.le_of_ble_eq_true rfl) (own := RX10) (cc := cX10_word) (maxL := 5) (lev := 3) (rt := (some .int)) (ini := false) ?_
  show Sim Y_M_word h 0 [(0, .ref this), (1, .int x1), (2, .int x2)] [] _
  unfold c_M_word
  refine x_grd ?_
  refine x_aload_nR (pc := 0) (a := this) 0 rfl rfl dX10_word_0 ?_
  refine x_iconst (pc := 1) (v := 0) (by decide) dX10_word_1 ?_
  refine x_pI (pc := 2) fi_X10_1 (fun z => absurd z (by decide)) dX10_word_2 ?_
  intro h1
  refine x_aload_nR (pc := 5) (a := this) 0 rfl rfl dX10_word_5 ?_
  refine x_iload_n (pc := 6) 1 rfl rfl dX10_word_6 ?_
  refine x_callV (pc := 7) (As := [.int x1]) (rest := []) (lev' := 2) si_X10_215 (m_M_isRow h1 this x1) (fun z e => grd1 e) rfl rfl (by decide) (cat4 (Nat.le_of_ble_eq_true rfl)) dX10_word_7 (kI (fun v3 h2 => ?_)) xNo
  refine x_if_eq (pc := 10) 26 (by decide) dX10_word_10 ?_ ?_
  · refine x_aload_nR (pc := 26) (a := this) 0 rfl rfl dX10_word_26 ?_
    refine x_callV (pc := 27) (As := []) (rest := []) (lev' := 1) si_X10_231 (m_M_refuse h2 this) (fun z e => grd1 e) rfl rfl (by decide) (cat4 (Nat.le_of_ble_eq_true rfl)) dX10_word_27 (kI (fun v5 h4 => ?_)) xNo
    exact x_iret (pc := 30) dX10_word_30
  · refine x_iload_n (pc := 13) 2 rfl rfl dX10_word_13 ?_
    refine x_iconst (pc := 14) (v := 0) (by decide) dX10_word_14 ?_
    refine x_aload_nR (pc := 15) (a := this) 0 rfl rfl dX10_word_15 ?_
    refine x_iload_n (pc := 16) 1 rfl rfl dX10_word_16 ?_
    refine x_callV (pc := 17) (As := [.int x1]) (rest := [.int (0 : Int32), .int x2]) (lev' := 1) si_X10_199 (m_M_sizeOf h2 this x1) (fun z e => grd1 e) rfl rfl (by decide) (cat4 (Nat.le_of_ble_eq_true rfl)) dX10_word_17 (kI (fun v7 h6 => ?_)) xNo
    refine x_callS (pc := 20) (As := [.int x2, .int (0 : Int32), .int v7]) (rest := []) (lev' := 1) si_X10_75 (m_M_isIn h6 x2 (0 : Int32) v7) rfl rfl (by decide) (cat4 (Nat.le_of_ble_eq_true rfl)) dX10_word_20 (kI (fun v9 h8 => ?_)) xNo
    refine x_if_ne (pc := 23) 31 (by decide) dX10_word_23 ?_ ?_
    · refine x_iconst (pc := 31) (v := 0) (by decide) dX10_word_31 ?_
      refine x_istore_n (pc := 32) (lv' := [(3, .int (0 : Int32)), (0, .ref this), (1, .int x1), (2, .int x2)]) rfl (by decide) rfl dX10_word_32 ?_
      refine x_iload_n (pc := 33) 3 rfl rfl dX10_word_33 ?_
      refine x_istore (pc := 34) (lv' := [(4, .int x2), (3, .int (0 : Int32)), (0, .ref this), (1, .int x1), (2, .int x2)]) (by decide) rfl dX10_word_34 ?_
      refine Sim.lv [2, 3, 4, 1, 0] rfl ?_
      exact v_M_word_l36 FU h8 this x1 x2 (0 : Int32) x2
    · refine x_aload_nR (pc := 26) (a := this) 0 rfl rfl dX10_word_26 ?_
      refine x_callV (pc := 27) (As := []) (rest := []) (lev' := 1) si_X10_231 (m_M_refuse h8 this) (fun z e => grd1 e) rfl rfl (by decide) (cat4 (Nat.le_of_ble_eq_true rfl)) dX10_word_27 (kI (fun v11 h10 => ?_)) xNo
      exact x_iret (pc := 30) dX10_word_30
abbrev Y_M_leaves : Yx := (RX10, cX10_leaves, 2, 3, (some .int), [], false)
def c_M_leaves (h : PH) (this : Nat) (x1 : Int32) : Option RH :=
  grd h this [8] (
  pI h this [8] 0 (0 : Int32) fun h1 =>
  hI (c_M_isRow h1 this x1) noX fun v3 h2 =>
  if v3 = 0 then
    rI (-1 : Int32) h2
  else
    gQ h2 this [8] 14 fun v4 =>
    nn v4 fun a5 =>
    ldI h2 a5 0 ((2611 : Int32) + x1) fun v7 =>
    rI v7 h2)
set_option maxHeartbeats 4000000 in
theorem m_M_leaves (h : PH) (this : Nat) (x1 : Int32) : MM yX10_leaves (ws_ yX10_leaves cX10_leaves 2 (some .int)) 3 [.ref this, .int x1] h (c_M_leaves h this x1) := by
  refine MM.of (by decide) rfl (by decide) (Nat.le_of_ble_eq_true rfl) (own := RX10) (cc := cX10_leaves) (maxL := 2) (lev := 3) (rt := (some .int)) (ini := false) ?_
  show Sim Y_M_leaves h 0 [(0, .ref this), (1, .int x1)] [] _
  unfold c_M_leaves
  refine x_grd ?_
  refine x_aload_nR (pc := 0) (a := this) 0 rfl rfl dX10_leaves_0 ?_
  refine x_iconst (pc := 1) (v := 0) (by decide) dX10_leaves_1 ?_
  refine x_pI (pc := 2) fi_X10_1 (fun z => absurd z (by decide)) dX10_leaves_2 ?_
  intro h1
  refine x_aload_nR (pc := 5) (a := this) 0 rfl rfl dX10_leaves_5 ?_
  refine x_iload_n (pc := 6) 1 rfl rfl dX10_leaves_6 ?_
  refine x_callV (pc := 7) (As := [.int x1]) (rest := []) (lev' := 2) si_X10_215 (m_M_isRow h1 this x1) (fun z e => grd1 e) rfl rfl (by decide) (cat4 (Nat.le_of_ble_eq_true rfl)) dX10_leaves_7 (kI (fun v3 h2 => ?_)) xNo
  refine x_if_eq (pc := 10) 26 (by decide) dX10_leaves_10 ?_ ?_
  · refine x_iconst (pc := 26) (v := (-1)) (by decide) dX10_leaves_26 ?_
    exact x_iret (pc := 27) dX10_leaves_27
  · refine x_aload_nR (pc := 13) (a := this) 0 rfl rfl dX10_leaves_13 ?_
    refine x_getQ (pc := 14) fi_X10_98 dX10_leaves_14 ?_
    intro v4
    refine x_sipush (pc := 17) (v := 2611) (by decide) dX10_leaves_17 ?_
    refine x_iload_n (pc := 20) 1 rfl rfl dX10_leaves_20 ?_
    refine x_iadd (pc := 21) dX10_leaves_21 ?_
    refine x_nn (fun a5 e6 => ?_)
    subst e6
    refine x_iald (pc := 22) dX10_leaves_22 ?_
    intro v7
    refine x_goto (pc := 23) 27 (by decide) dX10_leaves_23 ?_
    exact x_iret (pc := 27) dX10_leaves_27
abbrev Y_M_leaf : Yx := (RX10, cX10_leaf, 6, 3, (some .int), [], false)
def c_M_leaf_l41 (r41 : PH → Nat → Int32 → Int32 → Int32 → Int32 → Int32 → Option RH) (h : PH) (this : Nat) (x1 : Int32) (x2 : Int32) (x3 : Int32) (x4 : Int32) (x5 : Int32) : Option RH :=
  if x2 ≤ x5 then
    gQ h this [8] 14 fun v1 =>
    hI (c_M_leafAt h this x1 x2) noX fun v3 h2 =>
    nn v1 fun a4 =>
    ldI h2 a4 0 v3 fun v6 =>
    if x3 = 0 then
      rI v6 h2
    else
    if x3 = 1 then
      hI (c_M_onesIn h2 this x1 x4 (x4 + v6)) noX fun v8 h7 =>
      rI v8 h7
    else
    if x3 = 2 then
      rI x4 h2
    else
    rI (-1 : Int32) h2
  else
    gQ h this [8] 14 fun v9 =>
    hI (c_M_leafAt h this x1 x5) noX fun v11 h10 =>
    nn v9 fun a12 =>
    ldI h10 a12 0 v11 fun v14 =>
    nm (x4 + v14) fun y15 =>
    r41 h10 this x1 x2 x3 y15 (x5 + (1 : Int32))
def c_M_leaf (h : PH) (this : Nat) (x1 : Int32) (x2 : Int32) (x3 : Int32) : Option RH :=
  grd h this [8] (
  pI h this [8] 0 (0 : Int32) fun h1 =>
  hI (c_M_isRow h1 this x1) noX fun v3 h2 =>
  if v3 = 0 then
    rI (-1 : Int32) h2
  else
    gQ h2 this [8] 14 fun v4 =>
    nn v4 fun a5 =>
    ldI h2 a5 0 ((2611 : Int32) + x1) fun v7 =>
    hI (c_M_isIn h2 x2 (0 : Int32) (v7 - (1 : Int32))) noX fun v9 h8 =>
    if v9 = 0 then
      rI (-1 : Int32) h8
    else
      itr (c_M_leaf_l41) (fun _ _ _ _ _ _ _ => none) FU h8 this x1 x2 x3 (0 : Int32) (0 : Int32))
set_option maxHeartbeats 4000000 in
theorem w_M_leaf_l41 (r41 : PH → Nat → Int32 → Int32 → Int32 → Int32 → Int32 → Option RH) (hr41 : ∀ (h : PH) (this : Nat) (x1 : Int32) (x2 : Int32) (x3 : Int32) (x4 : Int32) (x5 : Int32), Sim Y_M_leaf h 41 [(0, .ref this), (1, .int x1), (2, .int x2), (3, .int x3), (4, .int x4), (5, .int x5)] [] (r41 h this x1 x2 x3 x4 x5)) (h : PH) (this : Nat) (x1 : Int32) (x2 : Int32) (x3 : Int32) (x4 : Int32) (x5 : Int32) : Sim Y_M_leaf h 41 [(0, .ref this), (1, .int x1), (2, .int x2), (3, .int x3), (4, .int x4), (5, .int x5)] [] (c_M_leaf_l41 r41 h this x1 x2 x3 x4 x5) := by
  unfold c_M_leaf_l41
  refine x_iload (pc := 41) 5 rfl dX10_leaf_41 ?_
  refine x_iload_n (pc := 43) 2 rfl rfl dX10_leaf_43 ?_
  refine x_icmp_ge (pc := 44) 70 (by decide) dX10_leaf_44 ?_ ?_
  · refine x_aload_nR (pc := 70) (a := this) 0 rfl rfl dX10_leaf_70 ?_
    refine x_getQ (pc := 71) fi_X10_98 dX10_leaf_71 ?_
    intro v1
    refine x_aload_nR (pc := 74) (a := this) 0 rfl rfl dX10_leaf_74 ?_
    refine x_iload_n (pc := 75) 1 rfl rfl dX10_leaf_75 ?_
    refine x_iload_n (pc := 76) 2 rfl rfl dX10_leaf_76 ?_
    refine x_callV (pc := 77) (As := [.int x1, .int x2]) (rest := [va_rf v1]) (lev' := 1) si_X10_195 (m_M_leafAt h this x1 x2) (fun z e => grd1 e) rfl rfl (by decide) (cat4 (Nat.le_of_ble_eq_true rfl)) dX10_leaf_77 (kI (fun v3 h2 => ?_)) xNo
    refine x_nn (fun a4 e5 => ?_)
    subst e5
    refine x_iald (pc := 80) dX10_leaf_80 ?_
    intro v6
    refine x_istore (pc := 81) (lv' := [(5, .int v6), (0, .ref this), (1, .int x1), (2, .int x2), (3, .int x3), (4, .int x4)]) (by decide) rfl dX10_leaf_81 ?_
    refine x_iload_n (pc := 83) 4 rfl rfl dX10_leaf_83 ?_
    refine x_sw0 (pc := 84) (lo := 0) ?_
    refine x_sw (pc := 84) (v := 0) 112 dX10_leaf_84 rfl (by decide) (by decide) rfl (by decide) ?_ ?_
    · refine x_iload (pc := 112) 0 rfl dX10_leaf_112 ?_
      exact x_iret (pc := 114) dX10_leaf_114
    refine x_sw (pc := 84) (v := 1) 115 dX10_leaf_84 rfl (by decide) (by decide) rfl (by decide) ?_ ?_
    · refine x_aload_nR (pc := 115) (a := this) 1 rfl rfl dX10_leaf_115 ?_
      refine x_iload_n (pc := 116) 2 rfl rfl dX10_leaf_116 ?_
      refine x_iload (pc := 117) 5 rfl dX10_leaf_117 ?_
      refine x_iload (pc := 119) 5 rfl dX10_leaf_119 ?_
      refine x_iload (pc := 121) 0 rfl dX10_leaf_121 ?_
      refine x_iadd (pc := 123) dX10_leaf_123 ?_
      refine x_callV (pc := 124) (As := [.int x1, .int x4, .int (x4 + v6)]) (rest := []) (lev' := 2) si_X10_224 (m_M_onesIn h2 this x1 x4 (x4 + v6)) (fun z e => grd1 e) rfl rfl (by decide) (cat4 (Nat.le_of_ble_eq_true rfl)) dX10_leaf_124 (kI (fun v8 h7 => ?_)) xNo
      exact x_iret (pc := 127) dX10_leaf_127
    refine x_sw (pc := 84) (v := 2) 128 dX10_leaf_84 rfl (by decide) (by decide) rfl (by decide) ?_ ?_
    · refine x_iload (pc := 128) 5 rfl dX10_leaf_128 ?_
      exact x_iret (pc := 130) dX10_leaf_130
    refine x_swD (pc := 84) 131 dX10_leaf_84 (by decide) (by decide) ?_
    refine x_iconst (pc := 131) (v := (-1)) (by decide) dX10_leaf_131 ?_
    exact x_iret (pc := 132) dX10_leaf_132
  · refine x_iload (pc := 47) 4 rfl dX10_leaf_47 ?_
    refine x_aload_nR (pc := 49) (a := this) 0 rfl rfl dX10_leaf_49 ?_
    refine x_getQ (pc := 50) fi_X10_98 dX10_leaf_50 ?_
    intro v9
    refine x_aload_nR (pc := 53) (a := this) 0 rfl rfl dX10_leaf_53 ?_
    refine x_iload_n (pc := 54) 1 rfl rfl dX10_leaf_54 ?_
    refine x_iload (pc := 55) 5 rfl dX10_leaf_55 ?_
    refine x_callV (pc := 57) (As := [.int x1, .int x5]) (rest := [va_rf v9, .int x4]) (lev' := 1) si_X10_195 (m_M_leafAt h this x1 x5) (fun z e => grd1 e) rfl rfl (by decide) (cat4 (Nat.le_of_ble_eq_true rfl)) dX10_leaf_57 (kI (fun v11 h10 => ?_)) xNo
    refine x_nn (fun a12 e13 => ?_)
    subst e13
    refine x_iald (pc := 60) dX10_leaf_60 ?_
    intro v14
    refine x_iadd (pc := 61) dX10_leaf_61 ?_
    refine x_nmI (fun y15 => ?_)
    refine x_istore (pc := 62) (lv' := [(4, .int y15), (0, .ref this), (1, .int x1), (2, .int x2), (3, .int x3), (5, .int x5)]) (by decide) rfl dX10_leaf_62 ?_
    refine x_iinc (pc := 64) (v := (1 : Int32)) (lv' := [(5, .int (x5 + (1 : Int32))), (4, .int y15), (0, .ref this), (1, .int x1), (2, .int x2), (3, .int x3)]) 5 rfl (by decide) (by decide) rfl dX10_leaf_64 ?_
    refine x_goto (pc := 67) 41 (by decide) dX10_leaf_67 ?_
    refine Sim.lv [2, 3, 4, 5, 1, 0] rfl ?_
    exact hr41 h10 this x1 x2 x3 y15 (x5 + (1 : Int32))
set_option maxHeartbeats 4000000 in
theorem v_M_leaf_l41 : ∀ (n : Nat) (h : PH) (this : Nat) (x1 : Int32) (x2 : Int32) (x3 : Int32) (x4 : Int32) (x5 : Int32), Sim Y_M_leaf h 41 [(0, .ref this), (1, .int x1), (2, .int x2), (3, .int x3), (4, .int x4), (5, .int x5)] [] (itr (c_M_leaf_l41) (fun _ _ _ _ _ _ _ => none) n h this x1 x2 x3 x4 x5)
  | 0, h, this, x1, x2, x3, x4, x5 => Sim.none
  | n + 1, h, this, x1, x2, x3, x4, x5 => w_M_leaf_l41 _ (v_M_leaf_l41 n) h this x1 x2 x3 x4 x5
set_option maxHeartbeats 4000000 in
theorem m_M_leaf (h : PH) (this : Nat) (x1 : Int32) (x2 : Int32) (x3 : Int32) : MM yX10_leaf (ws_ yX10_leaf cX10_leaf 6 (some .int)) 3 [.ref this, .int x1, .int x2, .int x3] h (c_M_leaf h this x1 x2 x3) := by
  refine MM.of (by decide) rfl (by decide) (Nat.le_of_ble_eq_true rfl) (own := RX10) (cc := cX10_leaf) (maxL := 6) (lev := 3) (rt := (some .int)) (ini := false) ?_
  show Sim Y_M_leaf h 0 [(0, .ref this), (1, .int x1), (2, .int x2), (3, .int x3)] [] _
  unfold c_M_leaf
  refine x_grd ?_
  refine x_aload_nR (pc := 0) (a := this) 0 rfl rfl dX10_leaf_0 ?_
  refine x_iconst (pc := 1) (v := 0) (by decide) dX10_leaf_1 ?_
  refine x_pI (pc := 2) fi_X10_1 (fun z => absurd z (by decide)) dX10_leaf_2 ?_
  intro h1
  refine x_aload_nR (pc := 5) (a := this) 0 rfl rfl dX10_leaf_5 ?_
  refine x_iload_n (pc := 6) 1 rfl rfl dX10_leaf_6 ?_
  refine x_callV (pc := 7) (As := [.int x1]) (rest := []) (lev' := 2) si_X10_215 (m_M_isRow h1 this x1) (fun z e => grd1 e) rfl rfl (by decide) (cat4 (Nat.le_of_ble_eq_true rfl)) dX10_leaf_7 (kI (fun v3 h2 => ?_)) xNo
  refine x_if_eq (pc := 10) 33 (by decide) dX10_leaf_10 ?_ ?_
  · refine x_iconst (pc := 33) (v := (-1)) (by decide) dX10_leaf_33 ?_
    exact x_iret (pc := 34) dX10_leaf_34
  · refine x_iload_n (pc := 13) 2 rfl rfl dX10_leaf_13 ?_
    refine x_iconst (pc := 14) (v := 0) (by decide) dX10_leaf_14 ?_
    refine x_aload_nR (pc := 15) (a := this) 0 rfl rfl dX10_leaf_15 ?_
    refine x_getQ (pc := 16) fi_X10_98 dX10_leaf_16 ?_
    intro v4
    refine x_sipush (pc := 19) (v := 2611) (by decide) dX10_leaf_19 ?_
    refine x_iload_n (pc := 22) 1 rfl rfl dX10_leaf_22 ?_
    refine x_iadd (pc := 23) dX10_leaf_23 ?_
    refine x_nn (fun a5 e6 => ?_)
    subst e6
    refine x_iald (pc := 24) dX10_leaf_24 ?_
    intro v7
    refine x_iconst (pc := 25) (v := 1) (by decide) dX10_leaf_25 ?_
    refine x_isub (pc := 26) dX10_leaf_26 ?_
    refine x_callS (pc := 27) (As := [.int x2, .int (0 : Int32), .int (v7 - (1 : Int32))]) (rest := []) (lev' := 1) si_X10_75 (m_M_isIn h2 x2 (0 : Int32) (v7 - (1 : Int32))) rfl rfl (by decide) (cat4 (Nat.le_of_ble_eq_true rfl)) dX10_leaf_27 (kI (fun v9 h8 => ?_)) xNo
    refine x_if_ne (pc := 30) 35 (by decide) dX10_leaf_30 ?_ ?_
    · refine x_iconst (pc := 35) (v := 0) (by decide) dX10_leaf_35 ?_
      refine x_istore (pc := 36) (lv' := [(4, .int (0 : Int32)), (0, .ref this), (1, .int x1), (2, .int x2), (3, .int x3)]) (by decide) rfl dX10_leaf_36 ?_
      refine x_iconst (pc := 38) (v := 0) (by decide) dX10_leaf_38 ?_
      refine x_istore (pc := 39) (lv' := [(5, .int (0 : Int32)), (4, .int (0 : Int32)), (0, .ref this), (1, .int x1), (2, .int x2), (3, .int x3)]) (by decide) rfl dX10_leaf_39 ?_
      refine Sim.lv [2, 3, 4, 5, 1, 0] rfl ?_
      exact v_M_leaf_l41 FU h8 this x1 x2 x3 (0 : Int32) (0 : Int32)
    · refine x_iconst (pc := 33) (v := (-1)) (by decide) dX10_leaf_33 ?_
      exact x_iret (pc := 34) dX10_leaf_34
theorem si_X10_234 : SiS RX10 234 yX10_highOf cX10_highOf 1 (some .int) 1 := ⟨lw_S q1993 q1994 q121 q1995, ⟨by decide, by decide, by decide +kernel⟩, by decide⟩
abbrev Y_M_highOf (d : Nat) : Yx := (RX10, cX10_highOf, 1, (1 + d + 1), (some .int), [], false)
def b_M_highOf (rg : PH → Int32 → Option RH) (h : PH) (x0 : Int32) : Option RH :=
  if (2 : Int32) ≤ x0 then
    nz (2 : Int32) <|
    hI (rg h ((x0 + (1 : Int32)) / (2 : Int32))) noX fun v2 h1 =>
    rI ((1 : Int32) + v2) h1
  else
    rI (0 : Int32) h
set_option maxHeartbeats 4000000 in
theorem t_M_highOf (rg : PH → Int32 → Option RH) {d : Nat} (hrg : (∀ (h : PH) (x0 : Int32), MM yX10_highOf (ws_ yX10_highOf cX10_highOf 1 (some .int)) (1 + d) [.int x0] h (rg h x0))) (h : PH) (x0 : Int32) : MM yX10_highOf (ws_ yX10_highOf cX10_highOf 1 (some .int)) (1 + d + 1) [.int x0] h (b_M_highOf rg h x0) := by
  refine MM.of (by decide) rfl (by decide) (Nat.le_of_ble_eq_true rfl) (own := RX10) (cc := cX10_highOf) (maxL := 1) (lev := (1 + d + 1)) (rt := (some .int)) (ini := false) ?_
  show Sim (Y_M_highOf d) h 0 [(0, .int x0)] [] _
  unfold b_M_highOf
  refine x_iload_n (pc := 0) 0 rfl rfl dX10_highOf_0 ?_
  refine x_iconst (pc := 1) (v := 2) (by decide) dX10_highOf_1 ?_
  refine x_icmp_ge (pc := 2) 9 (by decide) dX10_highOf_2 ?_ ?_
  · refine x_iconst (pc := 9) (v := 1) (by decide) dX10_highOf_9 ?_
    refine x_iload_n (pc := 10) 0 rfl rfl dX10_highOf_10 ?_
    refine x_iconst (pc := 11) (v := 1) (by decide) dX10_highOf_11 ?_
    refine x_iadd (pc := 12) dX10_highOf_12 ?_
    refine x_iconst (pc := 13) (v := 2) (by decide) dX10_highOf_13 ?_
    refine x_idiv (pc := 14) dX10_highOf_14 ?_
    refine x_callS (pc := 15) (As := [.int ((x0 + (1 : Int32)) / (2 : Int32))]) (rest := [.int (1 : Int32)]) (lev' := (1 + d)) si_X10_234 (hrg h ((x0 + (1 : Int32)) / (2 : Int32))) rfl rfl (by omega) (cat4 (Nat.le_of_ble_eq_true rfl)) dX10_highOf_15 (kI (fun v2 h1 => ?_)) xNo
    refine x_iadd (pc := 18) dX10_highOf_18 ?_
    exact x_iret (pc := 19) dX10_highOf_19
  · refine x_iconst (pc := 5) (v := 0) (by decide) dX10_highOf_5 ?_
    refine x_goto (pc := 6) 19 (by decide) dX10_highOf_6 ?_
    exact x_iret (pc := 19) dX10_highOf_19
def c_M_highOf : Nat → PH → Int32 → Option RH := itr b_M_highOf (fun _ _ => none)
theorem m_M_highOf : ∀ (d : Nat) (h : PH) (x0 : Int32), MM yX10_highOf (ws_ yX10_highOf cX10_highOf 1 (some .int)) (1 + d) [.int x0] h (c_M_highOf d h x0)
  | 0, h, x0 => MM.none
  | d + 1, h, x0 => t_M_highOf (d := d) (c_M_highOf d) (m_M_highOf d) h x0
abbrev Y_M_innerOf : Yx := (RX10, cX10_innerOf, 1, 1, (some .int), [], false)
def c_M_innerOf (h : PH) (x0 : Int32) : Option RH :=
  if (2 : Int32) ≤ x0 then
    rI (x0 - (1 : Int32)) h
  else
    rI (0 : Int32) h
set_option maxHeartbeats 4000000 in
theorem m_M_innerOf (h : PH) (x0 : Int32) : MM yX10_innerOf (ws_ yX10_innerOf cX10_innerOf 1 (some .int)) 1 [.int x0] h (c_M_innerOf h x0) := by
  refine MM.of (by decide) rfl (by decide) (Nat.le_of_ble_eq_true rfl) (own := RX10) (cc := cX10_innerOf) (maxL := 1) (lev := 1) (rt := (some .int)) (ini := false) ?_
  show Sim Y_M_innerOf h 0 [(0, .int x0)] [] _
  unfold c_M_innerOf
  refine x_iload_n (pc := 0) 0 rfl rfl dX10_innerOf_0 ?_
  refine x_iconst (pc := 1) (v := 2) (by decide) dX10_innerOf_1 ?_
  refine x_icmp_ge (pc := 2) 9 (by decide) dX10_innerOf_2 ?_ ?_
  · refine x_iload_n (pc := 9) 0 rfl rfl dX10_innerOf_9 ?_
    refine x_iconst (pc := 10) (v := 1) (by decide) dX10_innerOf_10 ?_
    refine x_isub (pc := 11) dX10_innerOf_11 ?_
    exact x_iret (pc := 12) dX10_innerOf_12
  · refine x_iconst (pc := 5) (v := 0) (by decide) dX10_innerOf_5 ?_
    refine x_goto (pc := 6) 12 (by decide) dX10_innerOf_6 ?_
    exact x_iret (pc := 12) dX10_innerOf_12
theorem si_X10_237 : SiS RX10 237 yX10_mixedOf cX10_mixedOf 1 (some .int) 1 := ⟨lw_S q1999 q2000 q121 q2001, ⟨by decide, by decide, by decide +kernel⟩, by decide⟩
abbrev Y_M_mixedOf (d : Nat) : Yx := (RX10, cX10_mixedOf, 1, (1 + d + 1), (some .int), [], false)
def b_M_mixedOf (rg : PH → Int32 → Option RH) (h : PH) (x0 : Int32) : Option RH :=
  if (2 : Int32) ≤ x0 then
    nz (2 : Int32) <|
    hI (rg h ((x0 + (1 : Int32)) / (2 : Int32))) noX fun v2 h1 =>
    nz (2 : Int32) <|
    hI (rg h1 (x0 / (2 : Int32))) noX fun v4 h3 =>
    if x0 = (3 : Int32) then
      rI ((v2 + v4) + (1 : Int32)) h3
    else
      rI ((v2 + v4) + (0 : Int32)) h3
  else
    rI (0 : Int32) h
set_option maxHeartbeats 4000000 in
theorem t_M_mixedOf (rg : PH → Int32 → Option RH) {d : Nat} (hrg : (∀ (h : PH) (x0 : Int32), MM yX10_mixedOf (ws_ yX10_mixedOf cX10_mixedOf 1 (some .int)) (1 + d) [.int x0] h (rg h x0))) (h : PH) (x0 : Int32) : MM yX10_mixedOf (ws_ yX10_mixedOf cX10_mixedOf 1 (some .int)) (1 + d + 1) [.int x0] h (b_M_mixedOf rg h x0) := by
  refine MM.of (by decide) rfl (by decide) (Nat.le_of_ble_eq_true rfl) (own := RX10) (cc := cX10_mixedOf) (maxL := 1) (lev := (1 + d + 1)) (rt := (some .int)) (ini := false) ?_
  show Sim (Y_M_mixedOf d) h 0 [(0, .int x0)] [] _
  unfold b_M_mixedOf
  refine x_iload_n (pc := 0) 0 rfl rfl dX10_mixedOf_0 ?_
  refine x_iconst (pc := 1) (v := 2) (by decide) dX10_mixedOf_1 ?_
  refine x_icmp_ge (pc := 2) 9 (by decide) dX10_mixedOf_2 ?_ ?_
  · refine x_iload_n (pc := 9) 0 rfl rfl dX10_mixedOf_9 ?_
    refine x_iconst (pc := 10) (v := 1) (by decide) dX10_mixedOf_10 ?_
    refine x_iadd (pc := 11) dX10_mixedOf_11 ?_
    refine x_iconst (pc := 12) (v := 2) (by decide) dX10_mixedOf_12 ?_
    refine x_idiv (pc := 13) dX10_mixedOf_13 ?_
    refine x_callS (pc := 14) (As := [.int ((x0 + (1 : Int32)) / (2 : Int32))]) (rest := []) (lev' := (1 + d)) si_X10_237 (hrg h ((x0 + (1 : Int32)) / (2 : Int32))) rfl rfl (by omega) (cat4 (Nat.le_of_ble_eq_true rfl)) dX10_mixedOf_14 (kI (fun v2 h1 => ?_)) xNo
    refine x_iload_n (pc := 17) 0 rfl rfl dX10_mixedOf_17 ?_
    refine x_iconst (pc := 18) (v := 2) (by decide) dX10_mixedOf_18 ?_
    refine x_idiv (pc := 19) dX10_mixedOf_19 ?_
    refine x_callS (pc := 20) (As := [.int (x0 / (2 : Int32))]) (rest := [.int v2]) (lev' := (1 + d)) si_X10_237 (hrg h1 (x0 / (2 : Int32))) rfl rfl (by omega) (cat4 (Nat.le_of_ble_eq_true rfl)) dX10_mixedOf_20 (kI (fun v4 h3 => ?_)) xNo
    refine x_iadd (pc := 23) dX10_mixedOf_23 ?_
    refine x_iload_n (pc := 24) 0 rfl rfl dX10_mixedOf_24 ?_
    refine x_iconst (pc := 25) (v := 3) (by decide) dX10_mixedOf_25 ?_
    refine x_icmp_ne (pc := 26) 33 (by decide) dX10_mixedOf_26 ?_ ?_
    · refine x_iconst (pc := 33) (v := 0) (by decide) dX10_mixedOf_33 ?_
      refine x_iadd (pc := 34) dX10_mixedOf_34 ?_
      exact x_iret (pc := 35) dX10_mixedOf_35
    · refine x_iconst (pc := 29) (v := 1) (by decide) dX10_mixedOf_29 ?_
      refine x_goto (pc := 30) 34 (by decide) dX10_mixedOf_30 ?_
      refine x_iadd (pc := 34) dX10_mixedOf_34 ?_
      exact x_iret (pc := 35) dX10_mixedOf_35
  · refine x_iconst (pc := 5) (v := 0) (by decide) dX10_mixedOf_5 ?_
    refine x_goto (pc := 6) 35 (by decide) dX10_mixedOf_6 ?_
    exact x_iret (pc := 35) dX10_mixedOf_35
def c_M_mixedOf : Nat → PH → Int32 → Option RH := itr b_M_mixedOf (fun _ _ => none)
theorem m_M_mixedOf : ∀ (d : Nat) (h : PH) (x0 : Int32), MM yX10_mixedOf (ws_ yX10_mixedOf cX10_mixedOf 1 (some .int)) (1 + d) [.int x0] h (c_M_mixedOf d h x0)
  | 0, h, x0 => MM.none
  | d + 1, h, x0 => t_M_mixedOf (d := d) (c_M_mixedOf d) (m_M_mixedOf d) h x0
theorem si_X10_240 : SiS RX10 240 yX10_innerOf cX10_innerOf 1 (some .int) 1 := ⟨lw_S q1996 q1997 q121 q1998, ⟨by decide, by decide, by decide +kernel⟩, by decide⟩
abbrev Y_M_costOf : Yx := (RX10, cX10_costOf, 4, 2, (some .int), [], false)
def c_M_costOf_l18 (r18 : PH → Nat → Int32 → Int32 → Int32 → Option RH) (h : PH) (this : Nat) (x1 : Int32) (x2 : Int32) (x3 : Int32) : Option RH :=
  gQ h this [8] 14 fun v1 =>
  nn v1 fun a2 =>
  ldI h a2 0 ((2611 : Int32) + x1) fun v4 =>
  if v4 ≤ x3 then
    rI x2 h
  else
    gQ h this [8] 14 fun v5 =>
    hI (c_M_leafAt h this x1 x3) noX fun v7 h6 =>
    nn v5 fun a8 =>
    ldI h6 a8 0 v7 fun v10 =>
    nz (32 : Int32) <|
    nm (x2 + (((v10 + (31 : Int32)) / (32 : Int32)) + (4 : Int32))) fun y11 =>
    r18 h6 this x1 y11 (x3 + (1 : Int32))
def c_M_costOf (h : PH) (this : Nat) (x1 : Int32) : Option RH :=
  grd h this [8] (
  gQ h this [8] 14 fun v1 =>
  nn v1 fun a2 =>
  ldI h a2 0 ((2611 : Int32) + x1) fun v4 =>
  hI (c_M_innerOf h v4) noX fun v6 h5 =>
  nm ((5 : Int32) * v6) fun y7 =>
  itr (c_M_costOf_l18) (fun _ _ _ _ _ => none) FU h5 this x1 y7 (0 : Int32))
set_option maxHeartbeats 4000000 in
theorem w_M_costOf_l18 (r18 : PH → Nat → Int32 → Int32 → Int32 → Option RH) (hr18 : ∀ (h : PH) (this : Nat) (x1 : Int32) (x2 : Int32) (x3 : Int32), Sim Y_M_costOf h 18 [(0, .ref this), (1, .int x1), (2, .int x2), (3, .int x3)] [] (r18 h this x1 x2 x3)) (h : PH) (this : Nat) (x1 : Int32) (x2 : Int32) (x3 : Int32) : Sim Y_M_costOf h 18 [(0, .ref this), (1, .int x1), (2, .int x2), (3, .int x3)] [] (c_M_costOf_l18 r18 h this x1 x2 x3) := by
  unfold c_M_costOf_l18
  refine x_iload_n (pc := 18) 3 rfl rfl dX10_costOf_18 ?_
  refine x_aload_nR (pc := 19) (a := this) 0 rfl rfl dX10_costOf_19 ?_
  refine x_getQ (pc := 20) fi_X10_98 dX10_costOf_20 ?_
  intro v1
  refine x_sipush (pc := 23) (v := 2611) (by decide) dX10_costOf_23 ?_
  refine x_iload_n (pc := 26) 1 rfl rfl dX10_costOf_26 ?_
  refine x_iadd (pc := 27) dX10_costOf_27 ?_
  refine x_nn (fun a2 e3 => ?_)
  subst e3
  refine x_iald (pc := 28) dX10_costOf_28 ?_
  intro v4
  refine x_icmp_ge (pc := 29) 60 (by decide) dX10_costOf_29 ?_ ?_
  · refine x_iload_n (pc := 60) 2 rfl rfl dX10_costOf_60 ?_
    exact x_iret (pc := 61) dX10_costOf_61
  · refine x_iload_n (pc := 32) 2 rfl rfl dX10_costOf_32 ?_
    refine x_aload_nR (pc := 33) (a := this) 0 rfl rfl dX10_costOf_33 ?_
    refine x_getQ (pc := 34) fi_X10_98 dX10_costOf_34 ?_
    intro v5
    refine x_aload_nR (pc := 37) (a := this) 0 rfl rfl dX10_costOf_37 ?_
    refine x_iload_n (pc := 38) 1 rfl rfl dX10_costOf_38 ?_
    refine x_iload_n (pc := 39) 3 rfl rfl dX10_costOf_39 ?_
    refine x_callV (pc := 40) (As := [.int x1, .int x3]) (rest := [va_rf v5, .int x2]) (lev' := 1) si_X10_195 (m_M_leafAt h this x1 x3) (fun z e => grd1 e) rfl rfl (by decide) (cat4 (Nat.le_of_ble_eq_true rfl)) dX10_costOf_40 (kI (fun v7 h6 => ?_)) xNo
    refine x_nn (fun a8 e9 => ?_)
    subst e9
    refine x_iald (pc := 43) dX10_costOf_43 ?_
    intro v10
    refine x_bipush (pc := 44) (v := 31) (by decide) dX10_costOf_44 ?_
    refine x_iadd (pc := 46) dX10_costOf_46 ?_
    refine x_bipush (pc := 47) (v := 32) (by decide) dX10_costOf_47 ?_
    refine x_idiv (pc := 49) dX10_costOf_49 ?_
    refine x_iconst (pc := 50) (v := 4) (by decide) dX10_costOf_50 ?_
    refine x_iadd (pc := 51) dX10_costOf_51 ?_
    refine x_iadd (pc := 52) dX10_costOf_52 ?_
    refine x_nmI (fun y11 => ?_)
    refine x_istore_n (pc := 53) (lv' := [(2, .int y11), (0, .ref this), (1, .int x1), (3, .int x3)]) rfl (by decide) rfl dX10_costOf_53 ?_
    refine x_iinc (pc := 54) (v := (1 : Int32)) (lv' := [(3, .int (x3 + (1 : Int32))), (2, .int y11), (0, .ref this), (1, .int x1)]) 3 rfl (by decide) (by decide) rfl dX10_costOf_54 ?_
    refine x_goto (pc := 57) 18 (by decide) dX10_costOf_57 ?_
    refine Sim.lv [2, 3, 1, 0] rfl ?_
    exact hr18 h6 this x1 y11 (x3 + (1 : Int32))
set_option maxHeartbeats 4000000 in
theorem v_M_costOf_l18 : ∀ (n : Nat) (h : PH) (this : Nat) (x1 : Int32) (x2 : Int32) (x3 : Int32), Sim Y_M_costOf h 18 [(0, .ref this), (1, .int x1), (2, .int x2), (3, .int x3)] [] (itr (c_M_costOf_l18) (fun _ _ _ _ _ => none) n h this x1 x2 x3)
  | 0, h, this, x1, x2, x3 => Sim.none
  | n + 1, h, this, x1, x2, x3 => w_M_costOf_l18 _ (v_M_costOf_l18 n) h this x1 x2 x3
set_option maxHeartbeats 4000000 in
theorem m_M_costOf (h : PH) (this : Nat) (x1 : Int32) : MM yX10_costOf (ws_ yX10_costOf cX10_costOf 4 (some .int)) 2 [.ref this, .int x1] h (c_M_costOf h this x1) := by
  refine MM.of (by decide) rfl (by decide) (Nat.le_of_ble_eq_true rfl) (own := RX10) (cc := cX10_costOf) (maxL := 4) (lev := 2) (rt := (some .int)) (ini := false) ?_
  show Sim Y_M_costOf h 0 [(0, .ref this), (1, .int x1)] [] _
  unfold c_M_costOf
  refine x_grd ?_
  refine x_iconst (pc := 0) (v := 5) (by decide) dX10_costOf_0 ?_
  refine x_aload_nR (pc := 1) (a := this) 0 rfl rfl dX10_costOf_1 ?_
  refine x_getQ (pc := 2) fi_X10_98 dX10_costOf_2 ?_
  intro v1
  refine x_sipush (pc := 5) (v := 2611) (by decide) dX10_costOf_5 ?_
  refine x_iload_n (pc := 8) 1 rfl rfl dX10_costOf_8 ?_
  refine x_iadd (pc := 9) dX10_costOf_9 ?_
  refine x_nn (fun a2 e3 => ?_)
  subst e3
  refine x_iald (pc := 10) dX10_costOf_10 ?_
  intro v4
  refine x_callS (pc := 11) (As := [.int v4]) (rest := [.int (5 : Int32)]) (lev' := 1) si_X10_240 (m_M_innerOf h v4) rfl rfl (by decide) (cat4 (Nat.le_of_ble_eq_true rfl)) dX10_costOf_11 (kI (fun v6 h5 => ?_)) xNo
  refine x_imul (pc := 14) dX10_costOf_14 ?_
  refine x_nmI (fun y7 => ?_)
  refine x_istore_n (pc := 15) (lv' := [(2, .int y7), (0, .ref this), (1, .int x1)]) rfl (by decide) rfl dX10_costOf_15 ?_
  refine x_iconst (pc := 16) (v := 0) (by decide) dX10_costOf_16 ?_
  refine x_istore_n (pc := 17) (lv' := [(3, .int (0 : Int32)), (2, .int y7), (0, .ref this), (1, .int x1)]) rfl (by decide) rfl dX10_costOf_17 ?_
  refine Sim.lv [2, 3, 1, 0] rfl ?_
  exact v_M_costOf_l18 FU h5 this x1 y7 (0 : Int32)
theorem si_X10_243 : SiV RX10 243 8 yX10_costOf cX10_costOf 4 (some .int) 1 := ⟨_, _, _, ci_8.1, by decide, lw_V q2002 q2004 qs68 q121 q2005, ⟨rfl, by decide, by decide, by decide +kernel⟩, by decide⟩
abbrev Y_M_tree : Yx := (RX10, cX10_tree, 4, 14, (some .int), [], false)
def c_M_tree (h : PH) (this : Nat) (x1 : Int32) (x2 : Int32) : Option RH :=
  grd h this [8] (
  pI h this [8] 0 (0 : Int32) fun h1 =>
  hI (c_M_isRow h1 this x1) noX fun v3 h2 =>
  if v3 = 0 then
    rI (-1 : Int32) h2
  else
    gQ h2 this [8] 14 fun v4 =>
    nn v4 fun a5 =>
    ldI h2 a5 0 ((2611 : Int32) + x1) fun v7 =>
    if x2 = 0 then
      hI (c_M_highOf 12 h2 v7) noX fun v9 h8 =>
      rI v9 h8
    else
    if x2 = 1 then
      hI (c_M_innerOf h2 v7) noX fun v11 h10 =>
      rI v11 h10
    else
    if x2 = 2 then
      hI (c_M_mixedOf 12 h2 v7) noX fun v13 h12 =>
      rI v13 h12
    else
    if x2 = 3 then
      hI (c_M_costOf h2 this x1) noX fun v15 h14 =>
      rI v15 h14
    else
    rI (-1 : Int32) h2)
set_option maxHeartbeats 4000000 in
theorem m_M_tree (h : PH) (this : Nat) (x1 : Int32) (x2 : Int32) : MM yX10_tree (ws_ yX10_tree cX10_tree 4 (some .int)) 14 [.ref this, .int x1, .int x2] h (c_M_tree h this x1 x2) := by
  refine MM.of (by decide) rfl (by decide) (Nat.le_of_ble_eq_true rfl) (own := RX10) (cc := cX10_tree) (maxL := 4) (lev := 14) (rt := (some .int)) (ini := false) ?_
  show Sim Y_M_tree h 0 [(0, .ref this), (1, .int x1), (2, .int x2)] [] _
  unfold c_M_tree
  refine x_grd ?_
  refine x_aload_nR (pc := 0) (a := this) 0 rfl rfl dX10_tree_0 ?_
  refine x_iconst (pc := 1) (v := 0) (by decide) dX10_tree_1 ?_
  refine x_pI (pc := 2) fi_X10_1 (fun z => absurd z (by decide)) dX10_tree_2 ?_
  intro h1
  refine x_aload_nR (pc := 5) (a := this) 0 rfl rfl dX10_tree_5 ?_
  refine x_iload_n (pc := 6) 1 rfl rfl dX10_tree_6 ?_
  refine x_callV (pc := 7) (As := [.int x1]) (rest := []) (lev' := 2) si_X10_215 (m_M_isRow h1 this x1) (fun z e => grd1 e) rfl rfl (by decide) (cat4 (Nat.le_of_ble_eq_true rfl)) dX10_tree_7 (kI (fun v3 h2 => ?_)) xNo
  refine x_if_ne (pc := 10) 15 (by decide) dX10_tree_10 ?_ ?_
  · refine x_aload_nR (pc := 15) (a := this) 0 rfl rfl dX10_tree_15 ?_
    refine x_getQ (pc := 16) fi_X10_98 dX10_tree_16 ?_
    intro v4
    refine x_sipush (pc := 19) (v := 2611) (by decide) dX10_tree_19 ?_
    refine x_iload_n (pc := 22) 1 rfl rfl dX10_tree_22 ?_
    refine x_iadd (pc := 23) dX10_tree_23 ?_
    refine x_nn (fun a5 e6 => ?_)
    subst e6
    refine x_iald (pc := 24) dX10_tree_24 ?_
    intro v7
    refine x_istore_n (pc := 25) (lv' := [(3, .int v7), (0, .ref this), (1, .int x1), (2, .int x2)]) rfl (by decide) rfl dX10_tree_25 ?_
    refine x_iload_n (pc := 26) 3 rfl rfl dX10_tree_26 ?_
    refine x_sw0 (pc := 27) (lo := 0) ?_
    refine x_sw (pc := 27) (v := 0) 56 dX10_tree_27 rfl (by decide) (by decide) rfl (by decide) ?_ ?_
    · refine x_iload_n (pc := 56) 0 rfl rfl dX10_tree_56 ?_
      refine x_callS (pc := 57) (As := [.int v7]) (rest := []) (lev' := (1 + 12)) si_X10_234 (m_M_highOf 12 h2 v7) rfl rfl (by omega) (cat4 (Nat.le_of_ble_eq_true rfl)) dX10_tree_57 (kI (fun v9 h8 => ?_)) xNo
      exact x_iret (pc := 60) dX10_tree_60
    refine x_sw (pc := 27) (v := 1) 61 dX10_tree_27 rfl (by decide) (by decide) rfl (by decide) ?_ ?_
    · refine x_iload_n (pc := 61) 0 rfl rfl dX10_tree_61 ?_
      refine x_callS (pc := 62) (As := [.int v7]) (rest := []) (lev' := 1) si_X10_240 (m_M_innerOf h2 v7) rfl rfl (by decide) (cat4 (Nat.le_of_ble_eq_true rfl)) dX10_tree_62 (kI (fun v11 h10 => ?_)) xNo
      exact x_iret (pc := 65) dX10_tree_65
    refine x_sw (pc := 27) (v := 2) 66 dX10_tree_27 rfl (by decide) (by decide) rfl (by decide) ?_ ?_
    · refine x_iload_n (pc := 66) 0 rfl rfl dX10_tree_66 ?_
      refine x_callS (pc := 67) (As := [.int v7]) (rest := []) (lev' := (1 + 12)) si_X10_237 (m_M_mixedOf 12 h2 v7) rfl rfl (by omega) (cat4 (Nat.le_of_ble_eq_true rfl)) dX10_tree_67 (kI (fun v13 h12 => ?_)) xNo
      exact x_iret (pc := 70) dX10_tree_70
    refine x_sw (pc := 27) (v := 3) 71 dX10_tree_27 rfl (by decide) (by decide) rfl (by decide) ?_ ?_
    · refine x_aload_nR (pc := 71) (a := this) 1 rfl rfl dX10_tree_71 ?_
      refine x_iload_n (pc := 72) 2 rfl rfl dX10_tree_72 ?_
      refine x_callV (pc := 73) (As := [.int x1]) (rest := []) (lev' := 2) si_X10_243 (m_M_costOf h2 this x1) (fun z e => grd1 e) rfl rfl (by decide) (cat4 (Nat.le_of_ble_eq_true rfl)) dX10_tree_73 (kI (fun v15 h14 => ?_)) xNo
      exact x_iret (pc := 76) dX10_tree_76
    refine x_swD (pc := 27) 77 dX10_tree_27 (by decide) (by decide) ?_
    refine x_iconst (pc := 77) (v := (-1)) (by decide) dX10_tree_77 ?_
    exact x_iret (pc := 78) dX10_tree_78
  · refine x_iconst (pc := 13) (v := (-1)) (by decide) dX10_tree_13 ?_
    exact x_iret (pc := 14) dX10_tree_14
theorem fi_X10_246 : FI RX10 246 [8] 26 .int false true := (fi_c ci_8 (by decide) rfl rfl (Or.inl q1712) (Or.inl rfl) (fun h => absurd h (by decide)) fi_n)
abbrev Y_M_firstBits : Yx := (RX10, cX10_firstBits, 13, 1, (some .long), [], false)
def c_M_firstBits_j181 (h : PH) (this : Nat) (x3 : Int32) (x8 : Int64) : Option RH :=
  if 0 ≤ (lg_cmp x8 ((1 : Int64) <<< (x3.toInt64 &&& 63))) then
    gI h this [8] 26 fun v1 =>
    pI h this [8] 26 (v1 + (1 : Int32)) fun h2 =>
    nzL (2 : Int64) <|
    rL (x8 / (2 : Int64)) h2
  else
    rL x8 h
def c_M_firstBits_j175 (h : PH) (this : Nat) (x3 : Int32) (x8 : Int64) : Option RH :=
  nm (x8 + (1 : Int64)) fun y1 =>
  c_M_firstBits_j181 h this x3 y1
def c_M_firstBits_l88 (r88 : PH → Nat → Int32 → Int64 → Int64 → Int64 → Int32 → Option RH) (h : PH) (this : Nat) (x3 : Int32) (x6 : Int64) (x8 : Int64) (x10 : Int64) (x12 : Int32) : Option RH :=
  if x3 ≤ x12 then
    if 0 < (lg_cmp ((2 : Int64) * x10) x6) then
      c_M_firstBits_j175 h this x3 x8
    else
      if (lg_cmp ((2 : Int64) * x10) x6) = 0 then
        nzL (2 : Int64) <|
        if (lg_cmp (x8 - x8 / (2 : Int64) * (2 : Int64)) (1 : Int64)) = 0 then
          c_M_firstBits_j175 h this x3 x8
        else
          c_M_firstBits_j181 h this x3 x8
      else
        c_M_firstBits_j181 h this x3 x8
  else
    nm (x10 * (2 : Int64)) fun y1 =>
    nm (x8 * (2 : Int64)) fun y2 =>
    if 0 ≤ (lg_cmp y1 x6) then
      nm (y1 - x6) fun y3 =>
      nm (y2 + (1 : Int64)) fun y4 =>
      r88 h this x3 x6 y4 y3 (x12 + (1 : Int32))
    else
      r88 h this x3 x6 y2 y1 (x12 + (1 : Int32))
def c_M_firstBits_l46 (r46 : PH → Nat → Int32 → Int64 → Int64 → Option RH) (h : PH) (this : Nat) (x3 : Int32) (x4 : Int64) (x6 : Int64) : Option RH :=
  if 0 ≤ (lg_cmp x4 x6) then
    nm (x4 - x6) fun y1 =>
    itr (c_M_firstBits_l88) (fun _ _ _ _ _ _ _ => none) FU h this x3 x6 (1 : Int64) y1 (1 : Int32)
  else
    nm (x4 * (2 : Int64)) fun y2 =>
    gI h this [8] 26 fun v3 =>
    pI h this [8] 26 (v3 - (1 : Int32)) fun h4 =>
    r46 h4 this x3 y2 x6
def c_M_firstBits_l13 (r13 : PH → Nat → Int32 → Int64 → Int64 → Option RH) (h : PH) (this : Nat) (x3 : Int32) (x4 : Int64) (x6 : Int64) : Option RH :=
  if (lg_cmp x4 ((2 : Int64) * x6)) < 0 then
    itr (c_M_firstBits_l46) (fun _ _ _ _ _ => none) FU h this x3 x4 x6
  else
    nm (x6 * (2 : Int64)) fun y1 =>
    gI h this [8] 26 fun v2 =>
    pI h this [8] 26 (v2 + (1 : Int32)) fun h3 =>
    r13 h3 this x3 x4 y1
def c_M_firstBits (h : PH) (this : Nat) (x1 : Int32) (x2 : Int32) (x3 : Int32) : Option RH :=
  grd h this [8] (
  nm x1.toInt64 fun y1 =>
  nm x2.toInt64 fun y2 =>
  pI h this [8] 26 (0 : Int32) fun h3 =>
  itr (c_M_firstBits_l13) (fun _ _ _ _ _ => none) FU h3 this x3 y1 y2)
set_option maxHeartbeats 4000000 in
theorem w_M_firstBits_j181 (h : PH) (this : Nat) (x3 : Int32) (x8 : Int64) : Sim Y_M_firstBits h 181 [(0, .ref this), (3, .int x3), (8, .long x8)] [] (c_M_firstBits_j181 h this x3 x8) := by
  unfold c_M_firstBits_j181
  refine x_lload (pc := 181) 2 rfl dX10_firstBits_181 ?_
  refine x_lconst (pc := 183) (v := 1) (by decide) dX10_firstBits_183 ?_
  refine x_iload_n (pc := 184) 1 rfl rfl dX10_firstBits_184 ?_
  refine x_lshl (pc := 185) dX10_firstBits_185 ?_
  refine x_lcmp (pc := 186) dX10_firstBits_186 ?_
  refine x_if_ge (pc := 187) 193 (by decide) dX10_firstBits_187 ?_ ?_
  · refine x_aload_nR (pc := 193) (a := this) 0 rfl rfl dX10_firstBits_193 ?_
    refine x_dup (pc := 194) rfl dX10_firstBits_194 ?_
    refine x_getI (pc := 195) fi_X10_246 dX10_firstBits_195 ?_
    intro v1
    refine x_iconst (pc := 198) (v := 1) (by decide) dX10_firstBits_198 ?_
    refine x_iadd (pc := 199) dX10_firstBits_199 ?_
    refine x_pI (pc := 200) fi_X10_246 (fun z => absurd z (by decide)) dX10_firstBits_200 ?_
    intro h2
    refine x_lload (pc := 203) 2 rfl dX10_firstBits_203 ?_
    refine x_ldc2 (pc := 205) (v := 2) q2018 dX10_firstBits_205 ?_
    refine x_ldiv (pc := 208) dX10_firstBits_208 ?_
    exact x_lret (pc := 209) dX10_firstBits_209
  · refine x_lload (pc := 190) 2 rfl dX10_firstBits_190 ?_
    exact x_lret (pc := 192) dX10_firstBits_192
set_option maxHeartbeats 4000000 in
theorem w_M_firstBits_j175 (h : PH) (this : Nat) (x3 : Int32) (x8 : Int64) : Sim Y_M_firstBits h 175 [(0, .ref this), (3, .int x3), (8, .long x8)] [] (c_M_firstBits_j175 h this x3 x8) := by
  unfold c_M_firstBits_j175
  refine x_lload (pc := 175) 2 rfl dX10_firstBits_175 ?_
  refine x_lconst (pc := 177) (v := 1) (by decide) dX10_firstBits_177 ?_
  refine x_ladd (pc := 178) dX10_firstBits_178 ?_
  refine x_nmL (fun y1 => ?_)
  refine x_lstore (pc := 179) (lv' := [(8, .long y1), (0, .ref this), (3, .int x3)]) (by decide) rfl dX10_firstBits_179 ?_
  refine Sim.lv [1, 2, 0] rfl ?_
  exact w_M_firstBits_j181 h this x3 y1
set_option maxHeartbeats 4000000 in
theorem w_M_firstBits_l88 (r88 : PH → Nat → Int32 → Int64 → Int64 → Int64 → Int32 → Option RH) (hr88 : ∀ (h : PH) (this : Nat) (x3 : Int32) (x6 : Int64) (x8 : Int64) (x10 : Int64) (x12 : Int32), Sim Y_M_firstBits h 88 [(0, .ref this), (3, .int x3), (6, .long x6), (8, .long x8), (10, .long x10), (12, .int x12)] [] (r88 h this x3 x6 x8 x10 x12)) (h : PH) (this : Nat) (x3 : Int32) (x6 : Int64) (x8 : Int64) (x10 : Int64) (x12 : Int32) : Sim Y_M_firstBits h 88 [(0, .ref this), (3, .int x3), (6, .long x6), (8, .long x8), (10, .long x10), (12, .int x12)] [] (c_M_firstBits_l88 r88 h this x3 x6 x8 x10 x12) := by
  unfold c_M_firstBits_l88
  refine x_iload (pc := 88) 5 rfl dX10_firstBits_88 ?_
  refine x_iload_n (pc := 90) 1 rfl rfl dX10_firstBits_90 ?_
  refine x_icmp_ge (pc := 91) 140 (by decide) dX10_firstBits_91 ?_ ?_
  · refine x_ldc2 (pc := 140) (v := 2) q2018 dX10_firstBits_140 ?_
    refine x_lload (pc := 143) 4 rfl dX10_firstBits_143 ?_
    refine x_lmul (pc := 145) dX10_firstBits_145 ?_
    refine x_lload (pc := 146) 2 rfl dX10_firstBits_146 ?_
    refine x_lcmp (pc := 148) dX10_firstBits_148 ?_
    refine x_if_gt (pc := 149) 175 (by decide) dX10_firstBits_149 ?_ ?_
    · refine Sim.lv [0, 1, 3] rfl ?_
      exact w_M_firstBits_j175 h this x3 x8
    · refine x_ldc2 (pc := 152) (v := 2) q2018 dX10_firstBits_152 ?_
      refine x_lload (pc := 155) 4 rfl dX10_firstBits_155 ?_
      refine x_lmul (pc := 157) dX10_firstBits_157 ?_
      refine x_lload (pc := 158) 2 rfl dX10_firstBits_158 ?_
      refine x_lcmp (pc := 160) dX10_firstBits_160 ?_
      refine x_if_ne (pc := 161) 181 (by decide) dX10_firstBits_161 ?_ ?_
      · refine Sim.lv [0, 1, 3] rfl ?_
        exact w_M_firstBits_j181 h this x3 x8
      · refine x_lload (pc := 164) 3 rfl dX10_firstBits_164 ?_
        refine x_ldc2 (pc := 166) (v := 2) q2018 dX10_firstBits_166 ?_
        refine x_lrem (pc := 169) dX10_firstBits_169 ?_
        refine x_lconst (pc := 170) (v := 1) (by decide) dX10_firstBits_170 ?_
        refine x_lcmp (pc := 171) dX10_firstBits_171 ?_
        refine x_if_ne (pc := 172) 181 (by decide) dX10_firstBits_172 ?_ ?_
        · refine Sim.lv [0, 1, 3] rfl ?_
          exact w_M_firstBits_j181 h this x3 x8
        · refine Sim.lv [0, 1, 3] rfl ?_
          exact w_M_firstBits_j175 h this x3 x8
  · refine x_lload (pc := 94) 4 rfl dX10_firstBits_94 ?_
    refine x_ldc2 (pc := 96) (v := 2) q2018 dX10_firstBits_96 ?_
    refine x_lmul (pc := 99) dX10_firstBits_99 ?_
    refine x_nmL (fun y1 => ?_)
    refine x_lstore (pc := 100) (lv' := [(10, .long y1), (0, .ref this), (3, .int x3), (6, .long x6), (8, .long x8), (12, .int x12)]) (by decide) rfl dX10_firstBits_100 ?_
    refine x_lload (pc := 102) 4 rfl dX10_firstBits_102 ?_
    refine x_ldc2 (pc := 104) (v := 2) q2018 dX10_firstBits_104 ?_
    refine x_lmul (pc := 107) dX10_firstBits_107 ?_
    refine x_nmL (fun y2 => ?_)
    refine x_lstore (pc := 108) (lv' := [(8, .long y2), (10, .long y1), (0, .ref this), (3, .int x3), (6, .long x6), (12, .int x12)]) (by decide) rfl dX10_firstBits_108 ?_
    refine x_lload (pc := 110) 1 rfl dX10_firstBits_110 ?_
    refine x_lload (pc := 112) 4 rfl dX10_firstBits_112 ?_
    refine x_lcmp (pc := 114) dX10_firstBits_114 ?_
    refine x_if_ge (pc := 115) 121 (by decide) dX10_firstBits_115 ?_ ?_
    · refine x_lload (pc := 121) 1 rfl dX10_firstBits_121 ?_
      refine x_lload (pc := 123) 4 rfl dX10_firstBits_123 ?_
      refine x_lsub (pc := 125) dX10_firstBits_125 ?_
      refine x_nmL (fun y3 => ?_)
      refine x_lstore (pc := 126) (lv' := [(10, .long y3), (8, .long y2), (0, .ref this), (3, .int x3), (6, .long x6), (12, .int x12)]) (by decide) rfl dX10_firstBits_126 ?_
      refine x_lload (pc := 128) 1 rfl dX10_firstBits_128 ?_
      refine x_lconst (pc := 130) (v := 1) (by decide) dX10_firstBits_130 ?_
      refine x_ladd (pc := 131) dX10_firstBits_131 ?_
      refine x_nmL (fun y4 => ?_)
      refine x_lstore (pc := 132) (lv' := [(8, .long y4), (10, .long y3), (0, .ref this), (3, .int x3), (6, .long x6), (12, .int x12)]) (by decide) rfl dX10_firstBits_132 ?_
      refine x_iinc (pc := 134) (v := (1 : Int32)) (lv' := [(12, .int (x12 + (1 : Int32))), (8, .long y4), (10, .long y3), (0, .ref this), (3, .int x3), (6, .long x6)]) 5 rfl (by decide) (by decide) rfl dX10_firstBits_134 ?_
      refine x_goto (pc := 137) 88 (by decide) dX10_firstBits_137 ?_
      refine Sim.lv [3, 4, 5, 1, 2, 0] rfl ?_
      exact hr88 h this x3 x6 y4 y3 (x12 + (1 : Int32))
    · refine x_goto (pc := 118) 134 (by decide) dX10_firstBits_118 ?_
      refine x_iinc (pc := 134) (v := (1 : Int32)) (lv' := [(12, .int (x12 + (1 : Int32))), (8, .long y2), (10, .long y1), (0, .ref this), (3, .int x3), (6, .long x6)]) 5 rfl (by decide) (by decide) rfl dX10_firstBits_134 ?_
      refine x_goto (pc := 137) 88 (by decide) dX10_firstBits_137 ?_
      refine Sim.lv [3, 4, 5, 1, 2, 0] rfl ?_
      exact hr88 h this x3 x6 y2 y1 (x12 + (1 : Int32))
set_option maxHeartbeats 4000000 in
theorem v_M_firstBits_l88 : ∀ (n : Nat) (h : PH) (this : Nat) (x3 : Int32) (x6 : Int64) (x8 : Int64) (x10 : Int64) (x12 : Int32), Sim Y_M_firstBits h 88 [(0, .ref this), (3, .int x3), (6, .long x6), (8, .long x8), (10, .long x10), (12, .int x12)] [] (itr (c_M_firstBits_l88) (fun _ _ _ _ _ _ _ => none) n h this x3 x6 x8 x10 x12)
  | 0, h, this, x3, x6, x8, x10, x12 => Sim.none
  | n + 1, h, this, x3, x6, x8, x10, x12 => w_M_firstBits_l88 _ (v_M_firstBits_l88 n) h this x3 x6 x8 x10 x12
set_option maxHeartbeats 4000000 in
theorem w_M_firstBits_l46 (r46 : PH → Nat → Int32 → Int64 → Int64 → Option RH) (hr46 : ∀ (h : PH) (this : Nat) (x3 : Int32) (x4 : Int64) (x6 : Int64), Sim Y_M_firstBits h 46 [(0, .ref this), (3, .int x3), (4, .long x4), (6, .long x6)] [] (r46 h this x3 x4 x6)) (h : PH) (this : Nat) (x3 : Int32) (x4 : Int64) (x6 : Int64) : Sim Y_M_firstBits h 46 [(0, .ref this), (3, .int x3), (4, .long x4), (6, .long x6)] [] (c_M_firstBits_l46 r46 h this x3 x4 x6) := by
  unfold c_M_firstBits_l46
  refine x_lload (pc := 46) 2 rfl dX10_firstBits_46 ?_
  refine x_lload (pc := 48) 3 rfl dX10_firstBits_48 ?_
  refine x_lcmp (pc := 50) dX10_firstBits_50 ?_
  refine x_if_ge (pc := 51) 75 (by decide) dX10_firstBits_51 ?_ ?_
  · refine x_lconst (pc := 75) (v := 1) (by decide) dX10_firstBits_75 ?_
    refine x_lstore (pc := 76) (lv' := [(8, .long (1 : Int64)), (0, .ref this), (3, .int x3), (4, .long x4), (6, .long x6)]) (by decide) rfl dX10_firstBits_76 ?_
    refine x_lload (pc := 78) 3 rfl dX10_firstBits_78 ?_
    refine x_lload (pc := 80) 4 rfl dX10_firstBits_80 ?_
    refine x_lsub (pc := 82) dX10_firstBits_82 ?_
    refine x_nmL (fun y1 => ?_)
    refine x_lstore (pc := 83) (lv' := [(10, .long y1), (8, .long (1 : Int64)), (0, .ref this), (3, .int x3), (4, .long x4), (6, .long x6)]) (by decide) rfl dX10_firstBits_83 ?_
    refine x_iconst (pc := 85) (v := 1) (by decide) dX10_firstBits_85 ?_
    refine x_istore (pc := 86) (lv' := [(12, .int (1 : Int32)), (10, .long y1), (8, .long (1 : Int64)), (0, .ref this), (3, .int x3), (4, .long x4), (6, .long x6)]) (by decide) rfl dX10_firstBits_86 ?_
    refine Sim.lv [3, 4, 6, 2, 1, 0] rfl ?_
    exact v_M_firstBits_l88 FU h this x3 x6 (1 : Int64) y1 (1 : Int32)
  · refine x_lload (pc := 54) 2 rfl dX10_firstBits_54 ?_
    refine x_ldc2 (pc := 56) (v := 2) q2018 dX10_firstBits_56 ?_
    refine x_lmul (pc := 59) dX10_firstBits_59 ?_
    refine x_nmL (fun y2 => ?_)
    refine x_lstore (pc := 60) (lv' := [(4, .long y2), (0, .ref this), (3, .int x3), (6, .long x6)]) (by decide) rfl dX10_firstBits_60 ?_
    refine x_aload_nR (pc := 62) (a := this) 1 rfl rfl dX10_firstBits_62 ?_
    refine x_dup (pc := 63) rfl dX10_firstBits_63 ?_
    refine x_getI (pc := 64) fi_X10_246 dX10_firstBits_64 ?_
    intro v3
    refine x_iconst (pc := 67) (v := 1) (by decide) dX10_firstBits_67 ?_
    refine x_isub (pc := 68) dX10_firstBits_68 ?_
    refine x_pI (pc := 69) fi_X10_246 (fun z => absurd z (by decide)) dX10_firstBits_69 ?_
    intro h4
    refine x_goto (pc := 72) 46 (by decide) dX10_firstBits_72 ?_
    refine Sim.lv [1, 2, 0, 3] rfl ?_
    exact hr46 h4 this x3 y2 x6
set_option maxHeartbeats 4000000 in
theorem v_M_firstBits_l46 : ∀ (n : Nat) (h : PH) (this : Nat) (x3 : Int32) (x4 : Int64) (x6 : Int64), Sim Y_M_firstBits h 46 [(0, .ref this), (3, .int x3), (4, .long x4), (6, .long x6)] [] (itr (c_M_firstBits_l46) (fun _ _ _ _ _ => none) n h this x3 x4 x6)
  | 0, h, this, x3, x4, x6 => Sim.none
  | n + 1, h, this, x3, x4, x6 => w_M_firstBits_l46 _ (v_M_firstBits_l46 n) h this x3 x4 x6
set_option maxHeartbeats 4000000 in
theorem w_M_firstBits_l13 (r13 : PH → Nat → Int32 → Int64 → Int64 → Option RH) (hr13 : ∀ (h : PH) (this : Nat) (x3 : Int32) (x4 : Int64) (x6 : Int64), Sim Y_M_firstBits h 13 [(0, .ref this), (3, .int x3), (4, .long x4), (6, .long x6)] [] (r13 h this x3 x4 x6)) (h : PH) (this : Nat) (x3 : Int32) (x4 : Int64) (x6 : Int64) : Sim Y_M_firstBits h 13 [(0, .ref this), (3, .int x3), (4, .long x4), (6, .long x6)] [] (c_M_firstBits_l13 r13 h this x3 x4 x6) := by
  unfold c_M_firstBits_l13
  refine x_lload (pc := 13) 2 rfl dX10_firstBits_13 ?_
  refine x_ldc2 (pc := 15) (v := 2) q2018 dX10_firstBits_15 ?_
  refine x_lload (pc := 18) 3 rfl dX10_firstBits_18 ?_
  refine x_lmul (pc := 20) dX10_firstBits_20 ?_
  refine x_lcmp (pc := 21) dX10_firstBits_21 ?_
  refine x_if_lt (pc := 22) 46 (by decide) dX10_firstBits_22 ?_ ?_
  · exact v_M_firstBits_l46 FU h this x3 x4 x6
  · refine x_lload (pc := 25) 3 rfl dX10_firstBits_25 ?_
    refine x_ldc2 (pc := 27) (v := 2) q2018 dX10_firstBits_27 ?_
    refine x_lmul (pc := 30) dX10_firstBits_30 ?_
    refine x_nmL (fun y1 => ?_)
    refine x_lstore (pc := 31) (lv' := [(6, .long y1), (0, .ref this), (3, .int x3), (4, .long x4)]) (by decide) rfl dX10_firstBits_31 ?_
    refine x_aload_nR (pc := 33) (a := this) 1 rfl rfl dX10_firstBits_33 ?_
    refine x_dup (pc := 34) rfl dX10_firstBits_34 ?_
    refine x_getI (pc := 35) fi_X10_246 dX10_firstBits_35 ?_
    intro v2
    refine x_iconst (pc := 38) (v := 1) (by decide) dX10_firstBits_38 ?_
    refine x_iadd (pc := 39) dX10_firstBits_39 ?_
    refine x_pI (pc := 40) fi_X10_246 (fun z => absurd z (by decide)) dX10_firstBits_40 ?_
    intro h3
    refine x_goto (pc := 43) 13 (by decide) dX10_firstBits_43 ?_
    refine Sim.lv [1, 2, 3, 0] rfl ?_
    exact hr13 h3 this x3 x4 y1
set_option maxHeartbeats 4000000 in
theorem v_M_firstBits_l13 : ∀ (n : Nat) (h : PH) (this : Nat) (x3 : Int32) (x4 : Int64) (x6 : Int64), Sim Y_M_firstBits h 13 [(0, .ref this), (3, .int x3), (4, .long x4), (6, .long x6)] [] (itr (c_M_firstBits_l13) (fun _ _ _ _ _ => none) n h this x3 x4 x6)
  | 0, h, this, x3, x4, x6 => Sim.none
  | n + 1, h, this, x3, x4, x6 => w_M_firstBits_l13 _ (v_M_firstBits_l13 n) h this x3 x4 x6
set_option maxHeartbeats 4000000 in
theorem m_M_firstBits (h : PH) (this : Nat) (x1 : Int32) (x2 : Int32) (x3 : Int32) : MM yX10_firstBits (ws_ yX10_firstBits cX10_firstBits 13 (some .long)) 1 [.ref this, .int x1, .int x2, .int x3] h (c_M_firstBits h this x1 x2 x3) := by
  refine MM.of (by decide) rfl (by decide) (Nat.le_of_ble_eq_true rfl) (own := RX10) (cc := cX10_firstBits) (maxL := 13) (lev := 1) (rt := (some .long)) (ini := false) ?_
  show Sim Y_M_firstBits h 0 [(0, .ref this), (1, .int x1), (2, .int x2), (3, .int x3)] [] _
  unfold c_M_firstBits
  refine x_grd ?_
  refine x_iload_n (pc := 0) 1 rfl rfl dX10_firstBits_0 ?_
  refine x_i2l (pc := 1) dX10_firstBits_1 ?_
  refine x_nmL (fun y1 => ?_)
  refine x_lstore (pc := 2) (lv' := [(4, .long y1), (0, .ref this), (1, .int x1), (2, .int x2), (3, .int x3)]) (by decide) rfl dX10_firstBits_2 ?_
  refine x_iload_n (pc := 4) 3 rfl rfl dX10_firstBits_4 ?_
  refine x_i2l (pc := 5) dX10_firstBits_5 ?_
  refine x_nmL (fun y2 => ?_)
  refine x_lstore (pc := 6) (lv' := [(6, .long y2), (4, .long y1), (0, .ref this), (1, .int x1), (2, .int x2), (3, .int x3)]) (by decide) rfl dX10_firstBits_6 ?_
  refine x_aload_nR (pc := 8) (a := this) 2 rfl rfl dX10_firstBits_8 ?_
  refine x_iconst (pc := 9) (v := 0) (by decide) dX10_firstBits_9 ?_
  refine x_pI (pc := 10) fi_X10_246 (fun z => absurd z (by decide)) dX10_firstBits_10 ?_
  intro h3
  refine Sim.lv [2, 5, 1, 0] rfl ?_
  exact v_M_firstBits_l13 FU h3 this x3 y1 y2
theorem si_X10_251 : SiV RX10 251 8 yX10_firstBits cX10_firstBits 13 (some .long) 3 := ⟨_, _, _, ci_8.1, by decide, lw_V q2014 q2016 qs70 q121 q2017, ⟨rfl, by decide, by decide, by decide +kernel⟩, by decide⟩
abbrev Y_M_asFloat : Yx := (RX10, cX10_asFloat, 4, 2, (some .int), [], false)
def c_M_asFloat (h : PH) (this : Nat) (x1 : Int32) (x2 : Int32) : Option RH :=
  grd h this [8] (
  if x1 = 0 then
    rI (0 : Int32) h
  else
    hL (c_M_firstBits h this x1 x2 (24 : Int32)) noX fun v2 h1 =>
    nm v2.toInt32 fun y3 =>
    gI h1 this [8] 26 fun v4 =>
    rI (((v4 + (127 : Int32)) <<< ((23 : Int32) &&& 31)) ||| (y3 - (8388608 : Int32))) h1)
set_option maxHeartbeats 4000000 in
theorem m_M_asFloat (h : PH) (this : Nat) (x1 : Int32) (x2 : Int32) : MM yX10_asFloat (ws_ yX10_asFloat cX10_asFloat 4 (some .int)) 2 [.ref this, .int x1, .int x2] h (c_M_asFloat h this x1 x2) := by
  refine MM.of (by decide) rfl (by decide) (Nat.le_of_ble_eq_true rfl) (own := RX10) (cc := cX10_asFloat) (maxL := 4) (lev := 2) (rt := (some .int)) (ini := false) ?_
  show Sim Y_M_asFloat h 0 [(0, .ref this), (1, .int x1), (2, .int x2)] [] _
  unfold c_M_asFloat
  refine x_grd ?_
  refine x_iload_n (pc := 0) 1 rfl rfl dX10_asFloat_0 ?_
  refine x_if_ne (pc := 1) 6 (by decide) dX10_asFloat_1 ?_ ?_
  · refine x_aload_nR (pc := 6) (a := this) 0 rfl rfl dX10_asFloat_6 ?_
    refine x_iload_n (pc := 7) 1 rfl rfl dX10_asFloat_7 ?_
    refine x_iload_n (pc := 8) 2 rfl rfl dX10_asFloat_8 ?_
    refine x_bipush (pc := 9) (v := 24) (by decide) dX10_asFloat_9 ?_
    refine x_callV (pc := 11) (As := [.int x1, .int x2, .int (24 : Int32)]) (rest := []) (lev' := 1) si_X10_251 (m_M_firstBits h this x1 x2 (24 : Int32)) (fun z e => grd1 e) rfl rfl (by decide) (cat4 (Nat.le_of_ble_eq_true rfl)) dX10_asFloat_11 (kL (fun v2 h1 => ?_)) xNo
    refine x_l2i (pc := 14) dX10_asFloat_14 ?_
    refine x_nmI (fun y3 => ?_)
    refine x_istore_n (pc := 15) (lv' := [(3, .int y3), (0, .ref this), (1, .int x1), (2, .int x2)]) rfl (by decide) rfl dX10_asFloat_15 ?_
    refine x_aload_nR (pc := 16) (a := this) 1 rfl rfl dX10_asFloat_16 ?_
    refine x_getI (pc := 17) fi_X10_246 dX10_asFloat_17 ?_
    intro v4
    refine x_bipush (pc := 20) (v := 127) (by decide) dX10_asFloat_20 ?_
    refine x_iadd (pc := 22) dX10_asFloat_22 ?_
    refine x_bipush (pc := 23) (v := 23) (by decide) dX10_asFloat_23 ?_
    refine x_ishl (pc := 25) dX10_asFloat_25 ?_
    refine x_iload_n (pc := 26) 0 rfl rfl dX10_asFloat_26 ?_
    refine x_ldc (pc := 27) (v := 8388608) q2019 dX10_asFloat_27 ?_
    refine x_isub (pc := 29) dX10_asFloat_29 ?_
    refine x_ior (pc := 30) dX10_asFloat_30 ?_
    exact x_iret (pc := 31) dX10_asFloat_31
  · refine x_iconst (pc := 4) (v := 0) (by decide) dX10_asFloat_4 ?_
    exact x_iret (pc := 5) dX10_asFloat_5
theorem si_X10_260 : SiV RX10 260 8 yX10_asFloat cX10_asFloat 4 (some .int) 2 := ⟨_, _, _, ci_8.1, by decide, lw_V q2010 q2012 qs69 q121 q2013, ⟨rfl, by decide, by decide, by decide +kernel⟩, by decide⟩
abbrev Y_M_dense : Yx := (RX10, cX10_dense, 4, 3, (some .int), [], false)
def c_M_dense (h : PH) (this : Nat) (x1 : Int32) (x2 : Int32) (x3 : Int32) : Option RH :=
  grd h this [8] (
  pI h this [8] 0 (0 : Int32) fun h1 =>
  hI (c_M_isRow h1 this x1) noX fun v3 h2 =>
  if v3 = 0 then
    hI (c_M_refuse h2 this) noX fun v5 h4 =>
    rI v5 h4
  else
    if x2 < 0 then
      hI (c_M_refuse h2 this) noX fun v7 h6 =>
      rI v7 h6
    else
      if x3 < (1 : Int32) then
        hI (c_M_refuse h2 this) noX fun v9 h8 =>
        rI v9 h8
      else
        hI (c_M_sizeOf h2 this x1) noX fun v11 h10 =>
        if v11 < x3 then
          hI (c_M_refuse h10 this) noX fun v13 h12 =>
          rI v13 h12
        else
          hI (c_M_sizeOf h10 this x1) noX fun v15 h14 =>
          if x2 ≤ (v15 - x3) then
            hI (c_M_onesIn h14 this x1 x2 (x2 + x3)) noX fun v17 h16 =>
            hI (c_M_asFloat h16 this v17 x3) noX fun v19 h18 =>
            rI v19 h18
          else
            hI (c_M_refuse h14 this) noX fun v21 h20 =>
            rI v21 h20)
set_option maxHeartbeats 4000000 in
theorem m_M_dense (h : PH) (this : Nat) (x1 : Int32) (x2 : Int32) (x3 : Int32) : MM yX10_dense (ws_ yX10_dense cX10_dense 4 (some .int)) 3 [.ref this, .int x1, .int x2, .int x3] h (c_M_dense h this x1 x2 x3) := by
  refine MM.of (by decide) rfl (by decide) (Nat.le_of_ble_eq_true rfl) (own := RX10) (cc := cX10_dense) (maxL := 4) (lev := 3) (rt := (some .int)) (ini := false) ?_
  show Sim Y_M_dense h 0 [(0, .ref this), (1, .int x1), (2, .int x2), (3, .int x3)] [] _
  unfold c_M_dense
  refine x_grd ?_
  refine x_aload_nR (pc := 0) (a := this) 0 rfl rfl dX10_dense_0 ?_
  refine x_iconst (pc := 1) (v := 0) (by decide) dX10_dense_1 ?_
  refine x_pI (pc := 2) fi_X10_1 (fun z => absurd z (by decide)) dX10_dense_2 ?_
  intro h1
  refine x_aload_nR (pc := 5) (a := this) 0 rfl rfl dX10_dense_5 ?_
  refine x_iload_n (pc := 6) 1 rfl rfl dX10_dense_6 ?_
  refine x_callV (pc := 7) (As := [.int x1]) (rest := []) (lev' := 2) si_X10_215 (m_M_isRow h1 this x1) (fun z e => grd1 e) rfl rfl (by decide) (cat4 (Nat.le_of_ble_eq_true rfl)) dX10_dense_7 (kI (fun v3 h2 => ?_)) xNo
  refine x_if_eq (pc := 10) 42 (by decide) dX10_dense_10 ?_ ?_
  · refine x_aload_nR (pc := 42) (a := this) 0 rfl rfl dX10_dense_42 ?_
    refine x_callV (pc := 43) (As := []) (rest := []) (lev' := 1) si_X10_231 (m_M_refuse h2 this) (fun z e => grd1 e) rfl rfl (by decide) (cat4 (Nat.le_of_ble_eq_true rfl)) dX10_dense_43 (kI (fun v5 h4 => ?_)) xNo
    exact x_iret (pc := 46) dX10_dense_46
  · refine x_iload_n (pc := 13) 2 rfl rfl dX10_dense_13 ?_
    refine x_if_lt (pc := 14) 42 (by decide) dX10_dense_14 ?_ ?_
    · refine x_aload_nR (pc := 42) (a := this) 0 rfl rfl dX10_dense_42 ?_
      refine x_callV (pc := 43) (As := []) (rest := []) (lev' := 1) si_X10_231 (m_M_refuse h2 this) (fun z e => grd1 e) rfl rfl (by decide) (cat4 (Nat.le_of_ble_eq_true rfl)) dX10_dense_43 (kI (fun v7 h6 => ?_)) xNo
      exact x_iret (pc := 46) dX10_dense_46
    · refine x_iload_n (pc := 17) 3 rfl rfl dX10_dense_17 ?_
      refine x_iconst (pc := 18) (v := 1) (by decide) dX10_dense_18 ?_
      refine x_icmp_lt (pc := 19) 42 (by decide) dX10_dense_19 ?_ ?_
      · refine x_aload_nR (pc := 42) (a := this) 0 rfl rfl dX10_dense_42 ?_
        refine x_callV (pc := 43) (As := []) (rest := []) (lev' := 1) si_X10_231 (m_M_refuse h2 this) (fun z e => grd1 e) rfl rfl (by decide) (cat4 (Nat.le_of_ble_eq_true rfl)) dX10_dense_43 (kI (fun v9 h8 => ?_)) xNo
        exact x_iret (pc := 46) dX10_dense_46
      · refine x_iload_n (pc := 22) 3 rfl rfl dX10_dense_22 ?_
        refine x_aload_nR (pc := 23) (a := this) 0 rfl rfl dX10_dense_23 ?_
        refine x_iload_n (pc := 24) 1 rfl rfl dX10_dense_24 ?_
        refine x_callV (pc := 25) (As := [.int x1]) (rest := [.int x3]) (lev' := 1) si_X10_199 (m_M_sizeOf h2 this x1) (fun z e => grd1 e) rfl rfl (by decide) (cat4 (Nat.le_of_ble_eq_true rfl)) dX10_dense_25 (kI (fun v11 h10 => ?_)) xNo
        refine x_icmp_gt (pc := 28) 42 (by decide) dX10_dense_28 ?_ ?_
        · refine x_aload_nR (pc := 42) (a := this) 0 rfl rfl dX10_dense_42 ?_
          refine x_callV (pc := 43) (As := []) (rest := []) (lev' := 1) si_X10_231 (m_M_refuse h10 this) (fun z e => grd1 e) rfl rfl (by decide) (cat4 (Nat.le_of_ble_eq_true rfl)) dX10_dense_43 (kI (fun v13 h12 => ?_)) xNo
          exact x_iret (pc := 46) dX10_dense_46
        · refine x_iload_n (pc := 31) 2 rfl rfl dX10_dense_31 ?_
          refine x_aload_nR (pc := 32) (a := this) 0 rfl rfl dX10_dense_32 ?_
          refine x_iload_n (pc := 33) 1 rfl rfl dX10_dense_33 ?_
          refine x_callV (pc := 34) (As := [.int x1]) (rest := [.int x2]) (lev' := 1) si_X10_199 (m_M_sizeOf h10 this x1) (fun z e => grd1 e) rfl rfl (by decide) (cat4 (Nat.le_of_ble_eq_true rfl)) dX10_dense_34 (kI (fun v15 h14 => ?_)) xNo
          refine x_iload_n (pc := 37) 3 rfl rfl dX10_dense_37 ?_
          refine x_isub (pc := 38) dX10_dense_38 ?_
          refine x_icmp_le (pc := 39) 47 (by decide) dX10_dense_39 ?_ ?_
          · refine x_aload_nR (pc := 47) (a := this) 0 rfl rfl dX10_dense_47 ?_
            refine x_aload_nR (pc := 48) (a := this) 0 rfl rfl dX10_dense_48 ?_
            refine x_iload_n (pc := 49) 1 rfl rfl dX10_dense_49 ?_
            refine x_iload_n (pc := 50) 2 rfl rfl dX10_dense_50 ?_
            refine x_iload_n (pc := 51) 2 rfl rfl dX10_dense_51 ?_
            refine x_iload_n (pc := 52) 3 rfl rfl dX10_dense_52 ?_
            refine x_iadd (pc := 53) dX10_dense_53 ?_
            refine x_callV (pc := 54) (As := [.int x1, .int x2, .int (x2 + x3)]) (rest := [.ref this]) (lev' := 2) si_X10_224 (m_M_onesIn h14 this x1 x2 (x2 + x3)) (fun z e => grd1 e) rfl rfl (by decide) (cat4 (Nat.le_of_ble_eq_true rfl)) dX10_dense_54 (kI (fun v17 h16 => ?_)) xNo
            refine x_iload_n (pc := 57) 3 rfl rfl dX10_dense_57 ?_
            refine x_callV (pc := 58) (As := [.int v17, .int x3]) (rest := []) (lev' := 2) si_X10_260 (m_M_asFloat h16 this v17 x3) (fun z e => grd1 e) rfl rfl (by decide) (cat4 (Nat.le_of_ble_eq_true rfl)) dX10_dense_58 (kI (fun v19 h18 => ?_)) xNo
            exact x_iret (pc := 61) dX10_dense_61
          · refine x_aload_nR (pc := 42) (a := this) 0 rfl rfl dX10_dense_42 ?_
            refine x_callV (pc := 43) (As := []) (rest := []) (lev' := 1) si_X10_231 (m_M_refuse h14 this) (fun z e => grd1 e) rfl rfl (by decide) (cat4 (Nat.le_of_ble_eq_true rfl)) dX10_dense_43 (kI (fun v21 h20 => ?_)) xNo
            exact x_iret (pc := 46) dX10_dense_46
abbrev Y_M_load : Yx := (RX10, cX10_load, 2, 3, (some .int), [], false)
def c_M_load (h : PH) (this : Nat) (x1 : Int32) : Option RH :=
  grd h this [8] (
  pI h this [8] 0 (0 : Int32) fun h1 =>
  hI (c_M_isRow h1 this x1) noX fun v3 h2 =>
  if v3 = 0 then
    hI (c_M_refuse h2 this) noX fun v5 h4 =>
    rI v5 h4
  else
    hI (c_M_sizeOf h2 this x1) noX fun v7 h6 =>
    if v7 ≤ 0 then
      hI (c_M_refuse h6 this) noX fun v9 h8 =>
      rI v9 h8
    else
      hI (c_M_costOf h6 this x1) noX fun v11 h10 =>
      hI (c_M_sizeOf h10 this x1) noX fun v13 h12 =>
      hI (c_M_asFloat h12 this ((32 : Int32) * v11) v13) noX fun v15 h14 =>
      rI v15 h14)
set_option maxHeartbeats 4000000 in
theorem m_M_load (h : PH) (this : Nat) (x1 : Int32) : MM yX10_load (ws_ yX10_load cX10_load 2 (some .int)) 3 [.ref this, .int x1] h (c_M_load h this x1) := by
  refine MM.of (by decide) rfl (by decide) (Nat.le_of_ble_eq_true rfl) (own := RX10) (cc := cX10_load) (maxL := 2) (lev := 3) (rt := (some .int)) (ini := false) ?_
  show Sim Y_M_load h 0 [(0, .ref this), (1, .int x1)] [] _
  unfold c_M_load
  refine x_grd ?_
  refine x_aload_nR (pc := 0) (a := this) 0 rfl rfl dX10_load_0 ?_
  refine x_iconst (pc := 1) (v := 0) (by decide) dX10_load_1 ?_
  refine x_pI (pc := 2) fi_X10_1 (fun z => absurd z (by decide)) dX10_load_2 ?_
  intro h1
  refine x_aload_nR (pc := 5) (a := this) 0 rfl rfl dX10_load_5 ?_
  refine x_iload_n (pc := 6) 1 rfl rfl dX10_load_6 ?_
  refine x_callV (pc := 7) (As := [.int x1]) (rest := []) (lev' := 2) si_X10_215 (m_M_isRow h1 this x1) (fun z e => grd1 e) rfl rfl (by decide) (cat4 (Nat.le_of_ble_eq_true rfl)) dX10_load_7 (kI (fun v3 h2 => ?_)) xNo
  refine x_if_eq (pc := 10) 41 (by decide) dX10_load_10 ?_ ?_
  · refine x_aload_nR (pc := 41) (a := this) 0 rfl rfl dX10_load_41 ?_
    refine x_callV (pc := 42) (As := []) (rest := []) (lev' := 1) si_X10_231 (m_M_refuse h2 this) (fun z e => grd1 e) rfl rfl (by decide) (cat4 (Nat.le_of_ble_eq_true rfl)) dX10_load_42 (kI (fun v5 h4 => ?_)) xNo
    exact x_iret (pc := 45) dX10_load_45
  · refine x_aload_nR (pc := 13) (a := this) 0 rfl rfl dX10_load_13 ?_
    refine x_iload_n (pc := 14) 1 rfl rfl dX10_load_14 ?_
    refine x_callV (pc := 15) (As := [.int x1]) (rest := []) (lev' := 1) si_X10_199 (m_M_sizeOf h2 this x1) (fun z e => grd1 e) rfl rfl (by decide) (cat4 (Nat.le_of_ble_eq_true rfl)) dX10_load_15 (kI (fun v7 h6 => ?_)) xNo
    refine x_if_le (pc := 18) 41 (by decide) dX10_load_18 ?_ ?_
    · refine x_aload_nR (pc := 41) (a := this) 0 rfl rfl dX10_load_41 ?_
      refine x_callV (pc := 42) (As := []) (rest := []) (lev' := 1) si_X10_231 (m_M_refuse h6 this) (fun z e => grd1 e) rfl rfl (by decide) (cat4 (Nat.le_of_ble_eq_true rfl)) dX10_load_42 (kI (fun v9 h8 => ?_)) xNo
      exact x_iret (pc := 45) dX10_load_45
    · refine x_aload_nR (pc := 21) (a := this) 0 rfl rfl dX10_load_21 ?_
      refine x_bipush (pc := 22) (v := 32) (by decide) dX10_load_22 ?_
      refine x_aload_nR (pc := 24) (a := this) 0 rfl rfl dX10_load_24 ?_
      refine x_iload_n (pc := 25) 1 rfl rfl dX10_load_25 ?_
      refine x_callV (pc := 26) (As := [.int x1]) (rest := [.int (32 : Int32), .ref this]) (lev' := 2) si_X10_243 (m_M_costOf h6 this x1) (fun z e => grd1 e) rfl rfl (by decide) (cat4 (Nat.le_of_ble_eq_true rfl)) dX10_load_26 (kI (fun v11 h10 => ?_)) xNo
      refine x_imul (pc := 29) dX10_load_29 ?_
      refine x_aload_nR (pc := 30) (a := this) 0 rfl rfl dX10_load_30 ?_
      refine x_iload_n (pc := 31) 1 rfl rfl dX10_load_31 ?_
      refine x_callV (pc := 32) (As := [.int x1]) (rest := [.int ((32 : Int32) * v11), .ref this]) (lev' := 1) si_X10_199 (m_M_sizeOf h10 this x1) (fun z e => grd1 e) rfl rfl (by decide) (cat4 (Nat.le_of_ble_eq_true rfl)) dX10_load_32 (kI (fun v13 h12 => ?_)) xNo
      refine x_callV (pc := 35) (As := [.int ((32 : Int32) * v11), .int v13]) (rest := []) (lev' := 2) si_X10_260 (m_M_asFloat h12 this ((32 : Int32) * v11) v13) (fun z e => grd1 e) rfl rfl (by decide) (cat4 (Nat.le_of_ble_eq_true rfl)) dX10_load_35 (kI (fun v15 h14 => ?_)) xNo
      refine x_goto (pc := 38) 45 (by decide) dX10_load_38 ?_
      exact x_iret (pc := 45) dX10_load_45
