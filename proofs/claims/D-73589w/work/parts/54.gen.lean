set_option maxRecDepth 100000
theorem si_X1_215 : SiV RX1 215 4 yX5_many cX5_many 2 (some .int) 1 := ⟨_, _, _, ci_4.1, by decide, lw_V q983 q984 q985 q116 q986, ⟨rfl, by decide, by decide, by decide +kernel⟩, by decide⟩
theorem si_X1_218 : SiV RX1 218 4 yX5_where cX5_where 9 (some .int) 2 := ⟨_, _, _, ci_4.1, by decide, lw_V q992 q993 q994 q116 q995, ⟨rfl, by decide, by decide, by decide +kernel⟩, by decide⟩
abbrev Y_B_select : Yx := (RX1, cX1_select, 4, 115, (some .int), [], false)
def c_B_select (h : PH) (this : Nat) (x1 : Int32) (x2 : Int32) (x3 : Int32) : Option RH :=
  grd h this [0] (
  hI (c_B_isRow h this x1) noX fun v2 h1 =>
  if v2 = 0 then
    rI (-1 : Int32) h1
  else
    hI (c_B_isIn h1 x3 (0 : Int32) (1 : Int32)) noX fun v4 h3 =>
    if v4 = 0 then
      rI (-1 : Int32) h3
    else
      hQ (c_B_rope h3 this x1) noX fun v6 h5 =>
      nn v6 fun a7 =>
      hI (c_R_many h5 a7 x3) noX fun v10 h9 =>
      hI (c_B_isIn h9 x2 (0 : Int32) (v10 - (1 : Int32))) noX fun v12 h11 =>
      if v12 = 0 then
        rI (-1 : Int32) h11
      else
        hQ (c_B_rope h11 this x1) noX fun v14 h13 =>
        nn v14 fun a15 =>
        hI (c_R_where h13 a15 x2 x3) noX fun v18 h17 =>
        rI v18 h17)
set_option maxHeartbeats 4000000 in
theorem m_B_select (h : PH) (this : Nat) (x1 : Int32) (x2 : Int32) (x3 : Int32) : MM yX1_select (ws_ yX1_select cX1_select 4 (some .int)) 115 [.ref this, .int x1, .int x2, .int x3] h (c_B_select h this x1 x2 x3) := by
  refine MM.of (by decide) rfl (by decide) (Nat.le_of_ble_eq_true rfl) (own := RX1) (cc := cX1_select) (maxL := 4) (lev := 115) (rt := (some .int)) (ini := false) ?_
  show Sim Y_B_select h 0 [(0, .ref this), (1, .int x1), (2, .int x2), (3, .int x3)] [] _
  unfold c_B_select
  refine x_grd ?_
  refine x_aload_nR (pc := 0) (a := this) 0 rfl rfl dX1_select_0 ?_
  refine x_iload_n (pc := 1) 1 rfl rfl dX1_select_1 ?_
  refine x_callV (pc := 2) (As := [.int x1]) (rest := []) (lev' := 2) si_X1_186 (m_B_isRow h this x1) (fun z e => grd1 e) rfl rfl (by decide) (cat4 (Nat.le_of_ble_eq_true rfl)) dX1_select_2 (kI (fun v2 h1 => ?_)) xNo
  refine x_if_eq (pc := 5) 49 (by decide) dX1_select_5 ?_ ?_
  · refine x_iconst (pc := 49) (v := (-1)) (by decide) dX1_select_49 ?_
    exact x_iret (pc := 50) dX1_select_50
  · refine x_iload_n (pc := 8) 3 rfl rfl dX1_select_8 ?_
    refine x_iconst (pc := 9) (v := 0) (by decide) dX1_select_9 ?_
    refine x_iconst (pc := 10) (v := 1) (by decide) dX1_select_10 ?_
    refine x_callS (pc := 11) (As := [.int x3, .int (0 : Int32), .int (1 : Int32)]) (rest := []) (lev' := 1) si_X1_182 (m_B_isIn h1 x3 (0 : Int32) (1 : Int32)) rfl rfl (by decide) (cat4 (Nat.le_of_ble_eq_true rfl)) dX1_select_11 (kI (fun v4 h3 => ?_)) xNo
    refine x_if_eq (pc := 14) 49 (by decide) dX1_select_14 ?_ ?_
    · refine x_iconst (pc := 49) (v := (-1)) (by decide) dX1_select_49 ?_
      exact x_iret (pc := 50) dX1_select_50
    · refine x_iload_n (pc := 17) 2 rfl rfl dX1_select_17 ?_
      refine x_iconst (pc := 18) (v := 0) (by decide) dX1_select_18 ?_
      refine x_aload_nR (pc := 19) (a := this) 0 rfl rfl dX1_select_19 ?_
      refine x_iload_n (pc := 20) 1 rfl rfl dX1_select_20 ?_
      refine x_callV (pc := 21) (As := [.int x1]) (rest := [.int (0 : Int32), .int x2]) (lev' := 114) si_X1_204 (m_B_rope h3 this x1) (fun z e => grd1 e) rfl rfl (by decide) (cat4 (Nat.le_of_ble_eq_true rfl)) dX1_select_21 (kQ (fun v6 h5 => ?_)) xNo
      refine x_iload_n (pc := 24) 3 rfl rfl dX1_select_24 ?_
      refine x_nn (fun a7 e8 => ?_)
      subst e8
      refine x_callV (pc := 25) (As := [.int x3]) (rest := [.int (0 : Int32), .int x2]) (lev' := 2) si_X1_215 (m_R_many h5 a7 x3) (fun z e => grd1 e) rfl rfl (by decide) (cat4 (Nat.le_of_ble_eq_true rfl)) dX1_select_25 (kI (fun v10 h9 => ?_)) xNo
      refine x_iconst (pc := 28) (v := 1) (by decide) dX1_select_28 ?_
      refine x_isub (pc := 29) dX1_select_29 ?_
      refine x_callS (pc := 30) (As := [.int x2, .int (0 : Int32), .int (v10 - (1 : Int32))]) (rest := []) (lev' := 1) si_X1_182 (m_B_isIn h9 x2 (0 : Int32) (v10 - (1 : Int32))) rfl rfl (by decide) (cat4 (Nat.le_of_ble_eq_true rfl)) dX1_select_30 (kI (fun v12 h11 => ?_)) xNo
      refine x_if_eq (pc := 33) 49 (by decide) dX1_select_33 ?_ ?_
      · refine x_iconst (pc := 49) (v := (-1)) (by decide) dX1_select_49 ?_
        exact x_iret (pc := 50) dX1_select_50
      · refine x_aload_nR (pc := 36) (a := this) 0 rfl rfl dX1_select_36 ?_
        refine x_iload_n (pc := 37) 1 rfl rfl dX1_select_37 ?_
        refine x_callV (pc := 38) (As := [.int x1]) (rest := []) (lev' := 114) si_X1_204 (m_B_rope h11 this x1) (fun z e => grd1 e) rfl rfl (by decide) (cat4 (Nat.le_of_ble_eq_true rfl)) dX1_select_38 (kQ (fun v14 h13 => ?_)) xNo
        refine x_iload_n (pc := 41) 2 rfl rfl dX1_select_41 ?_
        refine x_iload_n (pc := 42) 3 rfl rfl dX1_select_42 ?_
        refine x_nn (fun a15 e16 => ?_)
        subst e16
        refine x_callV (pc := 43) (As := [.int x2, .int x3]) (rest := []) (lev' := 3) si_X1_218 (m_R_where h13 a15 x2 x3) (fun z e => grd1 e) rfl rfl (by decide) (cat4 (Nat.le_of_ble_eq_true rfl)) dX1_select_43 (kI (fun v18 h17 => ?_)) xNo
        refine x_goto (pc := 46) 50 (by decide) dX1_select_46 ?_
        exact x_iret (pc := 50) dX1_select_50
abbrev Y_B_find : Yx := (RX1, cX1_find, 5, 115, (some .int), [], false)
def c_B_find (h : PH) (this : Nat) (x1 : Int32) (x2 : Int32) (x3 : Int32) : Option RH :=
  grd h this [0] (
  hI (c_B_isRow h this x1) noX fun v2 h1 =>
  if v2 = 0 then
    rI (-1 : Int32) h1
  else
    hI (c_B_isIn h1 x3 (0 : Int32) (1 : Int32)) noX fun v4 h3 =>
    if v4 = 0 then
      rI (-1 : Int32) h3
    else
      hQ (c_B_rope h3 this x1) noX fun v6 h5 =>
      nn v6 fun a7 =>
      hI (c_R_wide h5 a7) noX fun v10 h9 =>
      hI (c_B_isIn h9 x2 (0 : Int32) (v10 - (1 : Int32))) noX fun v12 h11 =>
      if v12 = 0 then
        rI (-1 : Int32) h11
      else
        hQ (c_B_rope h11 this x1) noX fun v14 h13 =>
        nn v14 fun a15 =>
        hI (c_R_before h13 a15 x2 x3) noX fun v18 h17 =>
        hQ (c_B_rope h17 this x1) noX fun v20 h19 =>
        nn v20 fun a21 =>
        hI (c_R_many h19 a21 x3) noX fun v24 h23 =>
        if v24 ≤ v18 then
          rI (-1 : Int32) h23
        else
          hQ (c_B_rope h23 this x1) noX fun v26 h25 =>
          nn v26 fun a27 =>
          hI (c_R_where h25 a27 v18 x3) noX fun v30 h29 =>
          rI v30 h29)
set_option maxHeartbeats 4000000 in
theorem m_B_find (h : PH) (this : Nat) (x1 : Int32) (x2 : Int32) (x3 : Int32) : MM yX1_find (ws_ yX1_find cX1_find 5 (some .int)) 115 [.ref this, .int x1, .int x2, .int x3] h (c_B_find h this x1 x2 x3) := by
  refine MM.of (by decide) rfl (by decide) (Nat.le_of_ble_eq_true rfl) (own := RX1) (cc := cX1_find) (maxL := 5) (lev := 115) (rt := (some .int)) (ini := false) ?_
  show Sim Y_B_find h 0 [(0, .ref this), (1, .int x1), (2, .int x2), (3, .int x3)] [] _
  unfold c_B_find
  refine x_grd ?_
  refine x_aload_nR (pc := 0) (a := this) 0 rfl rfl dX1_find_0 ?_
  refine x_iload_n (pc := 1) 1 rfl rfl dX1_find_1 ?_
  refine x_callV (pc := 2) (As := [.int x1]) (rest := []) (lev' := 2) si_X1_186 (m_B_isRow h this x1) (fun z e => grd1 e) rfl rfl (by decide) (cat4 (Nat.le_of_ble_eq_true rfl)) dX1_find_2 (kI (fun v2 h1 => ?_)) xNo
  refine x_if_eq (pc := 5) 35 (by decide) dX1_find_5 ?_ ?_
  · refine x_iconst (pc := 35) (v := (-1)) (by decide) dX1_find_35 ?_
    exact x_iret (pc := 36) dX1_find_36
  · refine x_iload_n (pc := 8) 3 rfl rfl dX1_find_8 ?_
    refine x_iconst (pc := 9) (v := 0) (by decide) dX1_find_9 ?_
    refine x_iconst (pc := 10) (v := 1) (by decide) dX1_find_10 ?_
    refine x_callS (pc := 11) (As := [.int x3, .int (0 : Int32), .int (1 : Int32)]) (rest := []) (lev' := 1) si_X1_182 (m_B_isIn h1 x3 (0 : Int32) (1 : Int32)) rfl rfl (by decide) (cat4 (Nat.le_of_ble_eq_true rfl)) dX1_find_11 (kI (fun v4 h3 => ?_)) xNo
    refine x_if_eq (pc := 14) 35 (by decide) dX1_find_14 ?_ ?_
    · refine x_iconst (pc := 35) (v := (-1)) (by decide) dX1_find_35 ?_
      exact x_iret (pc := 36) dX1_find_36
    · refine x_iload_n (pc := 17) 2 rfl rfl dX1_find_17 ?_
      refine x_iconst (pc := 18) (v := 0) (by decide) dX1_find_18 ?_
      refine x_aload_nR (pc := 19) (a := this) 0 rfl rfl dX1_find_19 ?_
      refine x_iload_n (pc := 20) 1 rfl rfl dX1_find_20 ?_
      refine x_callV (pc := 21) (As := [.int x1]) (rest := [.int (0 : Int32), .int x2]) (lev' := 114) si_X1_204 (m_B_rope h3 this x1) (fun z e => grd1 e) rfl rfl (by decide) (cat4 (Nat.le_of_ble_eq_true rfl)) dX1_find_21 (kQ (fun v6 h5 => ?_)) xNo
      refine x_nn (fun a7 e8 => ?_)
      subst e8
      refine x_callV (pc := 24) (As := []) (rest := [.int (0 : Int32), .int x2]) (lev' := 1) si_X1_194 (m_R_wide h5 a7) (fun z e => grd1 e) rfl rfl (by decide) (cat4 (Nat.le_of_ble_eq_true rfl)) dX1_find_24 (kI (fun v10 h9 => ?_)) xNo
      refine x_iconst (pc := 27) (v := 1) (by decide) dX1_find_27 ?_
      refine x_isub (pc := 28) dX1_find_28 ?_
      refine x_callS (pc := 29) (As := [.int x2, .int (0 : Int32), .int (v10 - (1 : Int32))]) (rest := []) (lev' := 1) si_X1_182 (m_B_isIn h9 x2 (0 : Int32) (v10 - (1 : Int32))) rfl rfl (by decide) (cat4 (Nat.le_of_ble_eq_true rfl)) dX1_find_29 (kI (fun v12 h11 => ?_)) xNo
      refine x_if_ne (pc := 32) 37 (by decide) dX1_find_32 ?_ ?_
      · refine x_aload_nR (pc := 37) (a := this) 0 rfl rfl dX1_find_37 ?_
        refine x_iload_n (pc := 38) 1 rfl rfl dX1_find_38 ?_
        refine x_callV (pc := 39) (As := [.int x1]) (rest := []) (lev' := 114) si_X1_204 (m_B_rope h11 this x1) (fun z e => grd1 e) rfl rfl (by decide) (cat4 (Nat.le_of_ble_eq_true rfl)) dX1_find_39 (kQ (fun v14 h13 => ?_)) xNo
        refine x_iload_n (pc := 42) 2 rfl rfl dX1_find_42 ?_
        refine x_iload_n (pc := 43) 3 rfl rfl dX1_find_43 ?_
        refine x_nn (fun a15 e16 => ?_)
        subst e16
        refine x_callV (pc := 44) (As := [.int x2, .int x3]) (rest := []) (lev' := 4) si_X1_211 (m_R_before h13 a15 x2 x3) (fun z e => grd1 e) rfl rfl (by decide) (cat4 (Nat.le_of_ble_eq_true rfl)) dX1_find_44 (kI (fun v18 h17 => ?_)) xNo
        refine x_istore (pc := 47) (lv' := [(4, .int v18), (0, .ref this), (1, .int x1), (2, .int x2), (3, .int x3)]) (by decide) rfl dX1_find_47 ?_
        refine x_iload (pc := 49) 0 rfl dX1_find_49 ?_
        refine x_aload_nR (pc := 51) (a := this) 1 rfl rfl dX1_find_51 ?_
        refine x_iload_n (pc := 52) 2 rfl rfl dX1_find_52 ?_
        refine x_callV (pc := 53) (As := [.int x1]) (rest := [.int v18]) (lev' := 114) si_X1_204 (m_B_rope h17 this x1) (fun z e => grd1 e) rfl rfl (by decide) (cat4 (Nat.le_of_ble_eq_true rfl)) dX1_find_53 (kQ (fun v20 h19 => ?_)) xNo
        refine x_iload_n (pc := 56) 4 rfl rfl dX1_find_56 ?_
        refine x_nn (fun a21 e22 => ?_)
        subst e22
        refine x_callV (pc := 57) (As := [.int x3]) (rest := [.int v18]) (lev' := 2) si_X1_215 (m_R_many h19 a21 x3) (fun z e => grd1 e) rfl rfl (by decide) (cat4 (Nat.le_of_ble_eq_true rfl)) dX1_find_57 (kI (fun v24 h23 => ?_)) xNo
        refine x_icmp_ge (pc := 60) 77 (by decide) dX1_find_60 ?_ ?_
        · refine x_iconst (pc := 77) (v := (-1)) (by decide) dX1_find_77 ?_
          exact x_iret (pc := 78) dX1_find_78
        · refine x_aload_nR (pc := 63) (a := this) 1 rfl rfl dX1_find_63 ?_
          refine x_iload_n (pc := 64) 2 rfl rfl dX1_find_64 ?_
          refine x_callV (pc := 65) (As := [.int x1]) (rest := []) (lev' := 114) si_X1_204 (m_B_rope h23 this x1) (fun z e => grd1 e) rfl rfl (by decide) (cat4 (Nat.le_of_ble_eq_true rfl)) dX1_find_65 (kQ (fun v26 h25 => ?_)) xNo
          refine x_iload (pc := 68) 0 rfl dX1_find_68 ?_
          refine x_iload_n (pc := 70) 4 rfl rfl dX1_find_70 ?_
          refine x_nn (fun a27 e28 => ?_)
          subst e28
          refine x_callV (pc := 71) (As := [.int v18, .int x3]) (rest := []) (lev' := 3) si_X1_218 (m_R_where h25 a27 v18 x3) (fun z e => grd1 e) rfl rfl (by decide) (cat4 (Nat.le_of_ble_eq_true rfl)) dX1_find_71 (kI (fun v30 h29 => ?_)) xNo
          refine x_goto (pc := 74) 78 (by decide) dX1_find_74 ?_
          exact x_iret (pc := 78) dX1_find_78
      · refine x_iconst (pc := 35) (v := (-1)) (by decide) dX1_find_35 ?_
        exact x_iret (pc := 36) dX1_find_36
theorem si_X1_221 : SiV RX1 221 0 yX1_runsOf cX1_runsOf 4 (some .int) 1 := ⟨_, _, _, ci_0.1, by decide, lw_V q1004 q1006 qs18 q110 q1007, ⟨rfl, by decide, by decide, by decide +kernel⟩, by decide⟩
abbrev Y_B_runs : Yx := (RX1, cX1_runs, 2, 116, (some .int), [], false)
def c_B_runs (h : PH) (this : Nat) (x1 : Int32) : Option RH :=
  grd h this [0] (
  hI (c_B_isRow h this x1) noX fun v2 h1 =>
  if v2 = 0 then
    rI (-1 : Int32) h1
  else
    hI (c_B_runsOf h1 this x1) noX fun v4 h3 =>
    rI v4 h3)
set_option maxHeartbeats 4000000 in
theorem m_B_runs (h : PH) (this : Nat) (x1 : Int32) : MM yX1_runs (ws_ yX1_runs cX1_runs 2 (some .int)) 116 [.ref this, .int x1] h (c_B_runs h this x1) := by
  refine MM.of (by decide) rfl (by decide) (Nat.le_of_ble_eq_true rfl) (own := RX1) (cc := cX1_runs) (maxL := 2) (lev := 116) (rt := (some .int)) (ini := false) ?_
  show Sim Y_B_runs h 0 [(0, .ref this), (1, .int x1)] [] _
  unfold c_B_runs
  refine x_grd ?_
  refine x_aload_nR (pc := 0) (a := this) 0 rfl rfl dX1_runs_0 ?_
  refine x_iload_n (pc := 1) 1 rfl rfl dX1_runs_1 ?_
  refine x_callV (pc := 2) (As := [.int x1]) (rest := []) (lev' := 2) si_X1_186 (m_B_isRow h this x1) (fun z e => grd1 e) rfl rfl (by decide) (cat4 (Nat.le_of_ble_eq_true rfl)) dX1_runs_2 (kI (fun v2 h1 => ?_)) xNo
  refine x_if_eq (pc := 5) 16 (by decide) dX1_runs_5 ?_ ?_
  · refine x_iconst (pc := 16) (v := (-1)) (by decide) dX1_runs_16 ?_
    exact x_iret (pc := 17) dX1_runs_17
  · refine x_aload_nR (pc := 8) (a := this) 0 rfl rfl dX1_runs_8 ?_
    refine x_iload_n (pc := 9) 1 rfl rfl dX1_runs_9 ?_
    refine x_callV (pc := 10) (As := [.int x1]) (rest := []) (lev' := 115) si_X1_221 (m_B_runsOf h1 this x1) (fun z e => grd1 e) rfl rfl (by decide) (cat4 (Nat.le_of_ble_eq_true rfl)) dX1_runs_10 (kI (fun v4 h3 => ?_)) xNo
    refine x_goto (pc := 13) 17 (by decide) dX1_runs_13 ?_
    exact x_iret (pc := 17) dX1_runs_17
abbrev Y_B_longest : Yx := (RX1, cX1_longest, 6, 115, (some .int), [], false)
def c_B_longest_j62 (r27 : PH → Nat → Int32 → Int32 → Int32 → Int32 → Int32 → Option RH) (h : PH) (this : Nat) (x1 : Int32) (x2 : Int32) (x3 : Int32) (x5 : Int32) (s0 : Int32) : Option RH :=
  nm (if x3 < s0 then s0 else x3) fun y1 =>
  r27 h this x1 x2 y1 s0 (x5 + (1 : Int32))
def c_B_longest_l27 (r27 : PH → Nat → Int32 → Int32 → Int32 → Int32 → Int32 → Option RH) (h : PH) (this : Nat) (x1 : Int32) (x2 : Int32) (x3 : Int32) (x4 : Int32) (x5 : Int32) : Option RH :=
  hQ (c_B_rope h this x1) noX fun v2 h1 =>
  nn v2 fun a3 =>
  hI (c_R_wide h1 a3) noX fun v6 h5 =>
  if v6 ≤ x5 then
    rI x3 h5
  else
    hQ (c_B_rope h5 this x1) noX fun v8 h7 =>
    nn v8 fun a9 =>
    hI (c_R_get h7 a9 x5) noX fun v12 h11 =>
    if v12 = x2 then
      c_B_longest_j62 r27 h11 this x1 x2 x3 x5 (x4 + (1 : Int32))
    else
      c_B_longest_j62 r27 h11 this x1 x2 x3 x5 (0 : Int32)
def c_B_longest (h : PH) (this : Nat) (x1 : Int32) (x2 : Int32) : Option RH :=
  grd h this [0] (
  hI (c_B_isRow h this x1) noX fun v2 h1 =>
  if v2 = 0 then
    rI (-1 : Int32) h1
  else
    hI (c_B_isIn h1 x2 (0 : Int32) (1 : Int32)) noX fun v4 h3 =>
    if v4 = 0 then
      rI (-1 : Int32) h3
    else
      itr (c_B_longest_l27) (fun _ _ _ _ _ _ _ => none) FU h3 this x1 x2 (0 : Int32) (0 : Int32) (0 : Int32))
set_option maxHeartbeats 4000000 in
theorem w_B_longest_j62 (r27 : PH → Nat → Int32 → Int32 → Int32 → Int32 → Int32 → Option RH) (hr27 : ∀ (h : PH) (this : Nat) (x1 : Int32) (x2 : Int32) (x3 : Int32) (x4 : Int32) (x5 : Int32), Sim Y_B_longest h 27 [(0, .ref this), (1, .int x1), (2, .int x2), (3, .int x3), (4, .int x4), (5, .int x5)] [] (r27 h this x1 x2 x3 x4 x5)) (h : PH) (this : Nat) (x1 : Int32) (x2 : Int32) (x3 : Int32) (x5 : Int32) (s0 : Int32) : Sim Y_B_longest h 62 [(0, .ref this), (1, .int x1), (2, .int x2), (3, .int x3), (5, .int x5)] [.int s0] (c_B_longest_j62 r27 h this x1 x2 x3 x5 s0) := by
  unfold c_B_longest_j62
  refine x_istore (pc := 62) (lv' := [(4, .int s0), (0, .ref this), (1, .int x1), (2, .int x2), (3, .int x3), (5, .int x5)]) (by decide) rfl dX1_longest_62 ?_
  refine x_iload_n (pc := 64) 4 rfl rfl dX1_longest_64 ?_
  refine x_iload (pc := 65) 0 rfl dX1_longest_65 ?_
  refine x_mmax (pc := 67) q1012 (by omega) (cat4 (Nat.le_of_ble_eq_true rfl)) dX1_longest_67 ?_
  refine x_nmI (fun y1 => ?_)
  refine x_istore_n (pc := 70) (lv' := [(3, .int y1), (4, .int s0), (0, .ref this), (1, .int x1), (2, .int x2), (5, .int x5)]) rfl (by decide) rfl dX1_longest_70 ?_
  refine x_iinc (pc := 71) (v := (1 : Int32)) (lv' := [(5, .int (x5 + (1 : Int32))), (3, .int y1), (4, .int s0), (0, .ref this), (1, .int x1), (2, .int x2)]) 5 rfl (by decide) (by decide) rfl dX1_longest_71 ?_
  refine x_goto (pc := 74) 27 (by decide) dX1_longest_74 ?_
  refine Sim.lv [3, 4, 5, 1, 2, 0] rfl ?_
  exact hr27 h this x1 x2 y1 s0 (x5 + (1 : Int32))
set_option maxHeartbeats 4000000 in
theorem w_B_longest_l27 (r27 : PH → Nat → Int32 → Int32 → Int32 → Int32 → Int32 → Option RH) (hr27 : ∀ (h : PH) (this : Nat) (x1 : Int32) (x2 : Int32) (x3 : Int32) (x4 : Int32) (x5 : Int32), Sim Y_B_longest h 27 [(0, .ref this), (1, .int x1), (2, .int x2), (3, .int x3), (4, .int x4), (5, .int x5)] [] (r27 h this x1 x2 x3 x4 x5)) (h : PH) (this : Nat) (x1 : Int32) (x2 : Int32) (x3 : Int32) (x4 : Int32) (x5 : Int32) : Sim Y_B_longest h 27 [(0, .ref this), (1, .int x1), (2, .int x2), (3, .int x3), (4, .int x4), (5, .int x5)] [] (c_B_longest_l27 r27 h this x1 x2 x3 x4 x5) := by
  unfold c_B_longest_l27
  refine x_iload (pc := 27) 5 rfl dX1_longest_27 ?_
  refine x_aload_nR (pc := 29) (a := this) 0 rfl rfl dX1_longest_29 ?_
  refine x_iload_n (pc := 30) 1 rfl rfl dX1_longest_30 ?_
  refine x_callV (pc := 31) (As := [.int x1]) (rest := [.int x5]) (lev' := 114) si_X1_204 (m_B_rope h this x1) (fun z e => grd1 e) rfl rfl (by decide) (cat4 (Nat.le_of_ble_eq_true rfl)) dX1_longest_31 (kQ (fun v2 h1 => ?_)) xNo
  refine x_nn (fun a3 e4 => ?_)
  subst e4
  refine x_callV (pc := 34) (As := []) (rest := [.int x5]) (lev' := 1) si_X1_194 (m_R_wide h1 a3) (fun z e => grd1 e) rfl rfl (by decide) (cat4 (Nat.le_of_ble_eq_true rfl)) dX1_longest_34 (kI (fun v6 h5 => ?_)) xNo
  refine x_icmp_ge (pc := 37) 77 (by decide) dX1_longest_37 ?_ ?_
  · refine x_iload_n (pc := 77) 3 rfl rfl dX1_longest_77 ?_
    exact x_iret (pc := 78) dX1_longest_78
  · refine x_aload_nR (pc := 40) (a := this) 0 rfl rfl dX1_longest_40 ?_
    refine x_iload_n (pc := 41) 1 rfl rfl dX1_longest_41 ?_
    refine x_callV (pc := 42) (As := [.int x1]) (rest := []) (lev' := 114) si_X1_204 (m_B_rope h5 this x1) (fun z e => grd1 e) rfl rfl (by decide) (cat4 (Nat.le_of_ble_eq_true rfl)) dX1_longest_42 (kQ (fun v8 h7 => ?_)) xNo
    refine x_iload (pc := 45) 5 rfl dX1_longest_45 ?_
    refine x_nn (fun a9 e10 => ?_)
    subst e10
    refine x_callV (pc := 47) (As := [.int x5]) (rest := []) (lev' := 3) si_X1_207 (m_R_get h7 a9 x5) (fun z e => grd1 e) rfl rfl (by decide) (cat4 (Nat.le_of_ble_eq_true rfl)) dX1_longest_47 (kI (fun v12 h11 => ?_)) xNo
    refine x_iload_n (pc := 50) 2 rfl rfl dX1_longest_50 ?_
    refine x_icmp_ne (pc := 51) 61 (by decide) dX1_longest_51 ?_ ?_
    · refine x_iconst (pc := 61) (v := 0) (by decide) dX1_longest_61 ?_
      refine Sim.lv [0, 1, 2, 3, 5] rfl ?_
      exact w_B_longest_j62 r27 hr27 h11 this x1 x2 x3 x5 (0 : Int32)
    · refine x_iload (pc := 54) 4 rfl dX1_longest_54 ?_
      refine x_iconst (pc := 56) (v := 1) (by decide) dX1_longest_56 ?_
      refine x_iadd (pc := 57) dX1_longest_57 ?_
      refine x_goto (pc := 58) 62 (by decide) dX1_longest_58 ?_
      refine Sim.lv [0, 1, 2, 3, 5] rfl ?_
      exact w_B_longest_j62 r27 hr27 h11 this x1 x2 x3 x5 (x4 + (1 : Int32))
set_option maxHeartbeats 4000000 in
theorem v_B_longest_l27 : ∀ (n : Nat) (h : PH) (this : Nat) (x1 : Int32) (x2 : Int32) (x3 : Int32) (x4 : Int32) (x5 : Int32), Sim Y_B_longest h 27 [(0, .ref this), (1, .int x1), (2, .int x2), (3, .int x3), (4, .int x4), (5, .int x5)] [] (itr (c_B_longest_l27) (fun _ _ _ _ _ _ _ => none) n h this x1 x2 x3 x4 x5)
  | 0, h, this, x1, x2, x3, x4, x5 => Sim.none
  | n + 1, h, this, x1, x2, x3, x4, x5 => w_B_longest_l27 _ (v_B_longest_l27 n) h this x1 x2 x3 x4 x5
set_option maxHeartbeats 4000000 in
theorem m_B_longest (h : PH) (this : Nat) (x1 : Int32) (x2 : Int32) : MM yX1_longest (ws_ yX1_longest cX1_longest 6 (some .int)) 115 [.ref this, .int x1, .int x2] h (c_B_longest h this x1 x2) := by
  refine MM.of (by decide) rfl (by decide) (Nat.le_of_ble_eq_true rfl) (own := RX1) (cc := cX1_longest) (maxL := 6) (lev := 115) (rt := (some .int)) (ini := false) ?_
  show Sim Y_B_longest h 0 [(0, .ref this), (1, .int x1), (2, .int x2)] [] _
  unfold c_B_longest
  refine x_grd ?_
  refine x_aload_nR (pc := 0) (a := this) 0 rfl rfl dX1_longest_0 ?_
  refine x_iload_n (pc := 1) 1 rfl rfl dX1_longest_1 ?_
  refine x_callV (pc := 2) (As := [.int x1]) (rest := []) (lev' := 2) si_X1_186 (m_B_isRow h this x1) (fun z e => grd1 e) rfl rfl (by decide) (cat4 (Nat.le_of_ble_eq_true rfl)) dX1_longest_2 (kI (fun v2 h1 => ?_)) xNo
  refine x_if_eq (pc := 5) 17 (by decide) dX1_longest_5 ?_ ?_
  · refine x_iconst (pc := 17) (v := (-1)) (by decide) dX1_longest_17 ?_
    exact x_iret (pc := 18) dX1_longest_18
  · refine x_iload_n (pc := 8) 2 rfl rfl dX1_longest_8 ?_
    refine x_iconst (pc := 9) (v := 0) (by decide) dX1_longest_9 ?_
    refine x_iconst (pc := 10) (v := 1) (by decide) dX1_longest_10 ?_
    refine x_callS (pc := 11) (As := [.int x2, .int (0 : Int32), .int (1 : Int32)]) (rest := []) (lev' := 1) si_X1_182 (m_B_isIn h1 x2 (0 : Int32) (1 : Int32)) rfl rfl (by decide) (cat4 (Nat.le_of_ble_eq_true rfl)) dX1_longest_11 (kI (fun v4 h3 => ?_)) xNo
    refine x_if_ne (pc := 14) 19 (by decide) dX1_longest_14 ?_ ?_
    · refine x_iconst (pc := 19) (v := 0) (by decide) dX1_longest_19 ?_
      refine x_istore_n (pc := 20) (lv' := [(3, .int (0 : Int32)), (0, .ref this), (1, .int x1), (2, .int x2)]) rfl (by decide) rfl dX1_longest_20 ?_
      refine x_iconst (pc := 21) (v := 0) (by decide) dX1_longest_21 ?_
      refine x_istore (pc := 22) (lv' := [(4, .int (0 : Int32)), (3, .int (0 : Int32)), (0, .ref this), (1, .int x1), (2, .int x2)]) (by decide) rfl dX1_longest_22 ?_
      refine x_iconst (pc := 24) (v := 0) (by decide) dX1_longest_24 ?_
      refine x_istore (pc := 25) (lv' := [(5, .int (0 : Int32)), (4, .int (0 : Int32)), (3, .int (0 : Int32)), (0, .ref this), (1, .int x1), (2, .int x2)]) (by decide) rfl dX1_longest_25 ?_
      refine Sim.lv [3, 4, 5, 2, 1, 0] rfl ?_
      exact v_B_longest_l27 FU h3 this x1 x2 (0 : Int32) (0 : Int32) (0 : Int32)
    · refine x_iconst (pc := 17) (v := (-1)) (by decide) dX1_longest_17 ?_
      exact x_iret (pc := 18) dX1_longest_18
theorem si_X1_233 : SiV RX1 233 4 yX5_folds cX5_folds 1 (some .int) 0 := ⟨_, _, _, ci_4.1, by decide, lw_V q1019 q1020 q1021 q116 q1022, ⟨rfl, by decide, by decide, by decide +kernel⟩, by decide⟩
abbrev Y_B_leaves : Yx := (RX1, cX1_leaves, 2, 115, (some .int), [], false)
def c_B_leaves (h : PH) (this : Nat) (x1 : Int32) : Option RH :=
  grd h this [0] (
  hI (c_B_isRow h this x1) noX fun v2 h1 =>
  if v2 = 0 then
    rI (-1 : Int32) h1
  else
    hQ (c_B_rope h1 this x1) noX fun v4 h3 =>
    nn v4 fun a5 =>
    hI (c_R_folds h3 a5) noX fun v8 h7 =>
    rI v8 h7)
set_option maxHeartbeats 4000000 in
theorem m_B_leaves (h : PH) (this : Nat) (x1 : Int32) : MM yX1_leaves (ws_ yX1_leaves cX1_leaves 2 (some .int)) 115 [.ref this, .int x1] h (c_B_leaves h this x1) := by
  refine MM.of (by decide) rfl (by decide) (Nat.le_of_ble_eq_true rfl) (own := RX1) (cc := cX1_leaves) (maxL := 2) (lev := 115) (rt := (some .int)) (ini := false) ?_
  show Sim Y_B_leaves h 0 [(0, .ref this), (1, .int x1)] [] _
  unfold c_B_leaves
  refine x_grd ?_
  refine x_aload_nR (pc := 0) (a := this) 0 rfl rfl dX1_leaves_0 ?_
  refine x_iload_n (pc := 1) 1 rfl rfl dX1_leaves_1 ?_
  refine x_callV (pc := 2) (As := [.int x1]) (rest := []) (lev' := 2) si_X1_186 (m_B_isRow h this x1) (fun z e => grd1 e) rfl rfl (by decide) (cat4 (Nat.le_of_ble_eq_true rfl)) dX1_leaves_2 (kI (fun v2 h1 => ?_)) xNo
  refine x_if_eq (pc := 5) 19 (by decide) dX1_leaves_5 ?_ ?_
  · refine x_iconst (pc := 19) (v := (-1)) (by decide) dX1_leaves_19 ?_
    exact x_iret (pc := 20) dX1_leaves_20
  · refine x_aload_nR (pc := 8) (a := this) 0 rfl rfl dX1_leaves_8 ?_
    refine x_iload_n (pc := 9) 1 rfl rfl dX1_leaves_9 ?_
    refine x_callV (pc := 10) (As := [.int x1]) (rest := []) (lev' := 114) si_X1_204 (m_B_rope h1 this x1) (fun z e => grd1 e) rfl rfl (by decide) (cat4 (Nat.le_of_ble_eq_true rfl)) dX1_leaves_10 (kQ (fun v4 h3 => ?_)) xNo
    refine x_nn (fun a5 e6 => ?_)
    subst e6
    refine x_callV (pc := 13) (As := []) (rest := []) (lev' := 1) si_X1_233 (m_R_folds h3 a5) (fun z e => grd1 e) rfl rfl (by decide) (cat4 (Nat.le_of_ble_eq_true rfl)) dX1_leaves_13 (kI (fun v8 h7 => ?_)) xNo
    refine x_goto (pc := 16) 20 (by decide) dX1_leaves_16 ?_
    exact x_iret (pc := 20) dX1_leaves_20
theorem fi_X1_244 : FI RX1 244 [9] 1 .int false true := (fi_c ci_9 (by decide) rfl rfl (Or.inl q794) (Or.inr q788) (fun h => absurd h (by decide)) fi_n)
theorem fi_X1_240 : FI RX1 240 [9] 0 .int false true := (fi_c ci_9 (by decide) rfl rfl (Or.inl q786) (Or.inr q780) (fun h => absurd h (by decide)) fi_n)
theorem si_X1_236 : SiV RX1 236 4 yX5_all cX5_all 1 (some (.array (.object "BitRopes$Leaf"))) 0 := ⟨_, _, _, ci_4.1, by decide, lw_V q1027 q1028 q1029 q116 q1030, ⟨rfl, by decide, by decide, by decide +kernel⟩, by decide⟩
abbrev Y_B_leaf : Yx := (RX1, cX1_leaf, 7, 115, (some .int), [], false)
def c_B_leaf_l44 (r44 : PH → Int32 → Int32 → Option Nat → Int32 → Int32 → Option RH) (h : PH) (x2 : Int32) (x3 : Int32) (x4 : Option Nat) (x5 : Int32) (x6 : Int32) : Option RH :=
  if x2 ≤ x6 then
    if x3 = 0 then
      nn x4 fun a7 =>
      ldQ h a7 x2 fun v9 =>
      nn v9 fun a10 =>
      gI h a10 [9] 0 fun v12 =>
      rI v12 h
    else
      if x3 = (1 : Int32) then
        nn x4 fun a1 =>
        ldQ h a1 x2 fun v3 =>
        nn v3 fun a4 =>
        gI h a4 [9] 1 fun v6 =>
        rI v6 h
      else
        if x3 = (2 : Int32) then
          rI x5 h
        else
          rI (-1 : Int32) h
  else
    nn x4 fun a13 =>
    ldQ h a13 x6 fun v15 =>
    nn v15 fun a16 =>
    gI h a16 [9] 0 fun v18 =>
    nm (x5 + v18) fun y19 =>
    r44 h x2 x3 (some a13) y19 (x6 + (1 : Int32))
def c_B_leaf (h : PH) (this : Nat) (x1 : Int32) (x2 : Int32) (x3 : Int32) : Option RH :=
  grd h this [0] (
  hI (c_B_isRow h this x1) noX fun v2 h1 =>
  if v2 = 0 then
    rI (-1 : Int32) h1
  else
    hQ (c_B_rope h1 this x1) noX fun v4 h3 =>
    nn v4 fun a5 =>
    hI (c_R_folds h3 a5) noX fun v8 h7 =>
    hI (c_B_isIn h7 x2 (0 : Int32) (v8 - (1 : Int32))) noX fun v10 h9 =>
    if v10 = 0 then
      rI (-1 : Int32) h9
    else
      hQ (c_B_rope h9 this x1) noX fun v12 h11 =>
      nn v12 fun a13 =>
      hQ (c_R_all h11 a13) noX fun v16 h15 =>
      itr (c_B_leaf_l44) (fun _ _ _ _ _ _ => none) FU h15 x2 x3 v16 (0 : Int32) (0 : Int32))
set_option maxHeartbeats 4000000 in
theorem w_B_leaf_l44 (r44 : PH → Int32 → Int32 → Option Nat → Int32 → Int32 → Option RH) (hr44 : ∀ (h : PH) (x2 : Int32) (x3 : Int32) (x4 : Option Nat) (x5 : Int32) (x6 : Int32), Sim Y_B_leaf h 44 [(2, .int x2), (3, .int x3), (4, va_rf x4), (5, .int x5), (6, .int x6)] [] (r44 h x2 x3 x4 x5 x6)) (h : PH) (x2 : Int32) (x3 : Int32) (x4 : Option Nat) (x5 : Int32) (x6 : Int32) : Sim Y_B_leaf h 44 [(2, .int x2), (3, .int x3), (4, va_rf x4), (5, .int x5), (6, .int x6)] [] (c_B_leaf_l44 r44 h x2 x3 x4 x5 x6) := by
  unfold c_B_leaf_l44
  refine x_iload (pc := 44) 4 rfl dX1_leaf_44 ?_
  refine x_iload_n (pc := 46) 0 rfl rfl dX1_leaf_46 ?_
  refine x_icmp_ge (pc := 47) 69 (by decide) dX1_leaf_47 ?_ ?_
  · refine x_iload_n (pc := 69) 1 rfl rfl dX1_leaf_69 ?_
    refine x_if_ne (pc := 70) 83 (by decide) dX1_leaf_70 ?_ ?_
    · refine x_iload_n (pc := 83) 1 rfl rfl dX1_leaf_83 ?_
      refine x_iconst (pc := 84) (v := 1) (by decide) dX1_leaf_84 ?_
      refine x_icmp_ne (pc := 85) 98 (by decide) dX1_leaf_85 ?_ ?_
      · refine x_iload_n (pc := 98) 1 rfl rfl dX1_leaf_98 ?_
        refine x_iconst (pc := 99) (v := 2) (by decide) dX1_leaf_99 ?_
        refine x_icmp_ne (pc := 100) 108 (by decide) dX1_leaf_100 ?_ ?_
        · refine x_iconst (pc := 108) (v := (-1)) (by decide) dX1_leaf_108 ?_
          exact x_iret (pc := 109) dX1_leaf_109
        · refine x_iload (pc := 103) 3 rfl dX1_leaf_103 ?_
          refine x_goto (pc := 105) 109 (by decide) dX1_leaf_105 ?_
          exact x_iret (pc := 109) dX1_leaf_109
      · refine x_aload (pc := 88) (r := x4) 2 rfl dX1_leaf_88 ?_
        refine x_iload_n (pc := 90) 0 rfl rfl dX1_leaf_90 ?_
        refine x_nn (fun a1 e2 => ?_)
        subst e2
        refine x_aald (pc := 91) dX1_leaf_91 ?_
        intro v3
        refine x_nn (fun a4 e5 => ?_)
        subst e5
        refine x_getI (pc := 92) fi_X1_244 dX1_leaf_92 ?_
        intro v6
        refine x_goto (pc := 95) 109 (by decide) dX1_leaf_95 ?_
        exact x_iret (pc := 109) dX1_leaf_109
    · refine x_aload (pc := 73) (r := x4) 2 rfl dX1_leaf_73 ?_
      refine x_iload_n (pc := 75) 0 rfl rfl dX1_leaf_75 ?_
      refine x_nn (fun a7 e8 => ?_)
      subst e8
      refine x_aald (pc := 76) dX1_leaf_76 ?_
      intro v9
      refine x_nn (fun a10 e11 => ?_)
      subst e11
      refine x_getI (pc := 77) fi_X1_240 dX1_leaf_77 ?_
      intro v12
      refine x_goto (pc := 80) 109 (by decide) dX1_leaf_80 ?_
      exact x_iret (pc := 109) dX1_leaf_109
  · refine x_iload (pc := 50) 3 rfl dX1_leaf_50 ?_
    refine x_aload (pc := 52) (r := x4) 2 rfl dX1_leaf_52 ?_
    refine x_iload (pc := 54) 4 rfl dX1_leaf_54 ?_
    refine x_nn (fun a13 e14 => ?_)
    subst e14
    refine x_aald (pc := 56) dX1_leaf_56 ?_
    intro v15
    refine x_nn (fun a16 e17 => ?_)
    subst e17
    refine x_getI (pc := 57) fi_X1_240 dX1_leaf_57 ?_
    intro v18
    refine x_iadd (pc := 60) dX1_leaf_60 ?_
    refine x_nmI (fun y19 => ?_)
    refine x_istore (pc := 61) (lv' := [(5, .int y19), (2, .int x2), (3, .int x3), (4, .ref a13), (6, .int x6)]) (by decide) rfl dX1_leaf_61 ?_
    refine x_iinc (pc := 63) (v := (1 : Int32)) (lv' := [(6, .int (x6 + (1 : Int32))), (5, .int y19), (2, .int x2), (3, .int x3), (4, .ref a13)]) 4 rfl (by decide) (by decide) rfl dX1_leaf_63 ?_
    refine x_goto (pc := 66) 44 (by decide) dX1_leaf_66 ?_
    refine Sim.lv [2, 3, 4, 1, 0] rfl ?_
    exact hr44 h x2 x3 (some a13) y19 (x6 + (1 : Int32))
set_option maxHeartbeats 4000000 in
theorem v_B_leaf_l44 : ∀ (n : Nat) (h : PH) (x2 : Int32) (x3 : Int32) (x4 : Option Nat) (x5 : Int32) (x6 : Int32), Sim Y_B_leaf h 44 [(2, .int x2), (3, .int x3), (4, va_rf x4), (5, .int x5), (6, .int x6)] [] (itr (c_B_leaf_l44) (fun _ _ _ _ _ _ => none) n h x2 x3 x4 x5 x6)
  | 0, h, x2, x3, x4, x5, x6 => Sim.none
  | n + 1, h, x2, x3, x4, x5, x6 => w_B_leaf_l44 _ (v_B_leaf_l44 n) h x2 x3 x4 x5 x6
set_option maxHeartbeats 4000000 in
theorem m_B_leaf (h : PH) (this : Nat) (x1 : Int32) (x2 : Int32) (x3 : Int32) : MM yX1_leaf (ws_ yX1_leaf cX1_leaf 7 (some .int)) 115 [.ref this, .int x1, .int x2, .int x3] h (c_B_leaf h this x1 x2 x3) := by
  refine MM.of (by decide) rfl (by decide) (Nat.le_of_ble_eq_true rfl) (own := RX1) (cc := cX1_leaf) (maxL := 7) (lev := 115) (rt := (some .int)) (ini := false) ?_
  show Sim Y_B_leaf h 0 [(0, .ref this), (1, .int x1), (2, .int x2), (3, .int x3)] [] _
  unfold c_B_leaf
  refine x_grd ?_
  refine x_aload_nR (pc := 0) (a := this) 0 rfl rfl dX1_leaf_0 ?_
  refine x_iload_n (pc := 1) 1 rfl rfl dX1_leaf_1 ?_
  refine x_callV (pc := 2) (As := [.int x1]) (rest := []) (lev' := 2) si_X1_186 (m_B_isRow h this x1) (fun z e => grd1 e) rfl rfl (by decide) (cat4 (Nat.le_of_ble_eq_true rfl)) dX1_leaf_2 (kI (fun v2 h1 => ?_)) xNo
  refine x_if_eq (pc := 5) 26 (by decide) dX1_leaf_5 ?_ ?_
  · refine x_iconst (pc := 26) (v := (-1)) (by decide) dX1_leaf_26 ?_
    exact x_iret (pc := 27) dX1_leaf_27
  · refine x_iload_n (pc := 8) 2 rfl rfl dX1_leaf_8 ?_
    refine x_iconst (pc := 9) (v := 0) (by decide) dX1_leaf_9 ?_
    refine x_aload_nR (pc := 10) (a := this) 0 rfl rfl dX1_leaf_10 ?_
    refine x_iload_n (pc := 11) 1 rfl rfl dX1_leaf_11 ?_
    refine x_callV (pc := 12) (As := [.int x1]) (rest := [.int (0 : Int32), .int x2]) (lev' := 114) si_X1_204 (m_B_rope h1 this x1) (fun z e => grd1 e) rfl rfl (by decide) (cat4 (Nat.le_of_ble_eq_true rfl)) dX1_leaf_12 (kQ (fun v4 h3 => ?_)) xNo
    refine x_nn (fun a5 e6 => ?_)
    subst e6
    refine x_callV (pc := 15) (As := []) (rest := [.int (0 : Int32), .int x2]) (lev' := 1) si_X1_233 (m_R_folds h3 a5) (fun z e => grd1 e) rfl rfl (by decide) (cat4 (Nat.le_of_ble_eq_true rfl)) dX1_leaf_15 (kI (fun v8 h7 => ?_)) xNo
    refine x_iconst (pc := 18) (v := 1) (by decide) dX1_leaf_18 ?_
    refine x_isub (pc := 19) dX1_leaf_19 ?_
    refine x_callS (pc := 20) (As := [.int x2, .int (0 : Int32), .int (v8 - (1 : Int32))]) (rest := []) (lev' := 1) si_X1_182 (m_B_isIn h7 x2 (0 : Int32) (v8 - (1 : Int32))) rfl rfl (by decide) (cat4 (Nat.le_of_ble_eq_true rfl)) dX1_leaf_20 (kI (fun v10 h9 => ?_)) xNo
    refine x_if_ne (pc := 23) 28 (by decide) dX1_leaf_23 ?_ ?_
    · refine x_aload_nR (pc := 28) (a := this) 0 rfl rfl dX1_leaf_28 ?_
      refine x_iload_n (pc := 29) 1 rfl rfl dX1_leaf_29 ?_
      refine x_callV (pc := 30) (As := [.int x1]) (rest := []) (lev' := 114) si_X1_204 (m_B_rope h9 this x1) (fun z e => grd1 e) rfl rfl (by decide) (cat4 (Nat.le_of_ble_eq_true rfl)) dX1_leaf_30 (kQ (fun v12 h11 => ?_)) xNo
      refine x_nn (fun a13 e14 => ?_)
      subst e14
      refine x_callV (pc := 33) (As := []) (rest := []) (lev' := 16) si_X1_236 (m_R_all h11 a13) (fun z e => grd1 e) rfl rfl (by decide) (cat4 (Nat.le_of_ble_eq_true rfl)) dX1_leaf_33 (kQ (fun v16 h15 => ?_)) xNo
      refine x_astore (pc := 36) (r := v16) (lv' := [(4, va_rf v16), (0, .ref this), (1, .int x1), (2, .int x2), (3, .int x3)]) (by decide) rfl dX1_leaf_36 ?_
      refine x_iconst (pc := 38) (v := 0) (by decide) dX1_leaf_38 ?_
      refine x_istore (pc := 39) (lv' := [(5, .int (0 : Int32)), (4, va_rf v16), (0, .ref this), (1, .int x1), (2, .int x2), (3, .int x3)]) (by decide) (by simp [rf_cat]) dX1_leaf_39 ?_
      refine x_iconst (pc := 41) (v := 0) (by decide) dX1_leaf_41 ?_
      refine x_istore (pc := 42) (lv' := [(6, .int (0 : Int32)), (5, .int (0 : Int32)), (4, va_rf v16), (0, .ref this), (1, .int x1), (2, .int x2), (3, .int x3)]) (by decide) rfl dX1_leaf_42 ?_
      refine Sim.lv [5, 6, 2, 1, 0] rfl ?_
      exact v_B_leaf_l44 FU h15 x2 x3 v16 (0 : Int32) (0 : Int32)
    · refine x_iconst (pc := 26) (v := (-1)) (by decide) dX1_leaf_26 ?_
      exact x_iret (pc := 27) dX1_leaf_27
theorem fi_X1_246 : FI RX1 246 [4] 1 (.object "BitRopes$Node") false true := (fi_c ci_4 (by decide) rfl rfl (Or.inr ⟨_, q292⟩) (Or.inl rfl) (fun h => absurd h (by decide)) fi_n)
theorem si_X1_250 : SiV RX1 250 4 yX5_height cX5_height 3 (some .int) 1 := ⟨_, _, _, ci_4.1, by decide, lw_V q1035 q1036 q1037 q116 q1038, ⟨rfl, by decide, by decide, by decide +kernel⟩, by decide⟩
theorem fi_X1_254 : FI RX1 254 [4] 4 .int false true := (fi_c ci_4 (by decide) rfl rfl (Or.inr ⟨_, q297⟩) (Or.inl rfl) (fun h => absurd h (by decide)) fi_n)
theorem si_X1_257 : SiV RX1 257 4 yX5_cost cX5_cost 3 (some .int) 0 := ⟨_, _, _, ci_4.1, by decide, lw_V q1041 q1042 q1043 q116 q1044, ⟨rfl, by decide, by decide, by decide +kernel⟩, by decide⟩
abbrev Y_B_tree : Yx := (RX1, cX1_tree, 4, 115, (some .int), [], false)
def c_B_tree (h : PH) (this : Nat) (x1 : Int32) (x2 : Int32) : Option RH :=
  grd h this [0] (
  hI (c_B_isRow h this x1) noX fun v2 h1 =>
  if v2 = 0 then
    rI (-1 : Int32) h1
  else
    hQ (c_B_rope h1 this x1) noX fun v4 h3 =>
    if x2 = 0 then
      nn v4 fun a5 =>
      gQ h3 a5 [4] 1 fun v7 =>
      hI (grd h3 a5 [4] (c_R_height 12 h3 a5 v7)) noX fun v9 h8 =>
      rI v9 h8
    else
    if x2 = 1 then
      nn v4 fun a10 =>
      hI (c_R_folds h3 a10) noX fun v13 h12 =>
      rI (if (0 : Int32) < (v13 - (1 : Int32)) then (v13 - (1 : Int32)) else (0 : Int32)) h12
    else
    if x2 = 2 then
      nn v4 fun a14 =>
      gI h3 a14 [4] 4 fun v16 =>
      rI v16 h3
    else
    if x2 = 3 then
      nn v4 fun a17 =>
      hI (c_R_cost h3 a17) noX fun v20 h19 =>
      rI v20 h19
    else
    rI (-1 : Int32) h3)
set_option maxHeartbeats 4000000 in
theorem m_B_tree (h : PH) (this : Nat) (x1 : Int32) (x2 : Int32) : MM yX1_tree (ws_ yX1_tree cX1_tree 4 (some .int)) 115 [.ref this, .int x1, .int x2] h (c_B_tree h this x1 x2) := by
  refine MM.of (by decide) rfl (by decide) (Nat.le_of_ble_eq_true rfl) (own := RX1) (cc := cX1_tree) (maxL := 4) (lev := 115) (rt := (some .int)) (ini := false) ?_
  show Sim Y_B_tree h 0 [(0, .ref this), (1, .int x1), (2, .int x2)] [] _
  unfold c_B_tree
  refine x_grd ?_
  refine x_aload_nR (pc := 0) (a := this) 0 rfl rfl dX1_tree_0 ?_
  refine x_iload_n (pc := 1) 1 rfl rfl dX1_tree_1 ?_
  refine x_callV (pc := 2) (As := [.int x1]) (rest := []) (lev' := 2) si_X1_186 (m_B_isRow h this x1) (fun z e => grd1 e) rfl rfl (by decide) (cat4 (Nat.le_of_ble_eq_true rfl)) dX1_tree_2 (kI (fun v2 h1 => ?_)) xNo
  refine x_if_ne (pc := 5) 10 (by decide) dX1_tree_5 ?_ ?_
  · refine x_aload_nR (pc := 10) (a := this) 0 rfl rfl dX1_tree_10 ?_
    refine x_iload_n (pc := 11) 1 rfl rfl dX1_tree_11 ?_
    refine x_callV (pc := 12) (As := [.int x1]) (rest := []) (lev' := 114) si_X1_204 (m_B_rope h1 this x1) (fun z e => grd1 e) rfl rfl (by decide) (cat4 (Nat.le_of_ble_eq_true rfl)) dX1_tree_12 (kQ (fun v4 h3 => ?_)) xNo
    refine x_astore_n (pc := 15) (r := v4) (lv' := [(3, va_rf v4), (0, .ref this), (1, .int x1), (2, .int x2)]) rfl (by decide) rfl dX1_tree_15 ?_
    refine x_iload_n (pc := 16) 3 rfl rfl dX1_tree_16 ?_
    refine x_sw0 (pc := 17) (lo := 0) ?_
    refine x_sw (pc := 17) (v := 0) 48 dX1_tree_17 rfl (by decide) (by decide) rfl (by decide) ?_ ?_
    · refine x_aload_n (pc := 48) (r := v4) 0 rfl rfl dX1_tree_48 ?_
      refine x_aload_n (pc := 49) (r := v4) 0 rfl rfl dX1_tree_49 ?_
      refine x_nn (fun a5 e6 => ?_)
      subst e6
      refine x_getQ (pc := 50) fi_X1_246 dX1_tree_50 ?_
      intro v7
      refine x_callV (pc := 53) (As := [va_rf v7]) (rest := []) (lev' := (9 + 12)) si_X1_250 (MM.grd (m_R_height 12 h3 a5 v7)) (fun z e => grd1 e) rfl rfl (by omega) (cat4 (Nat.le_of_ble_eq_true rfl)) dX1_tree_53 (kI (fun v9 h8 => ?_)) xNo
      exact x_iret (pc := 56) dX1_tree_56
    refine x_sw (pc := 17) (v := 1) 57 dX1_tree_17 rfl (by decide) (by decide) rfl (by decide) ?_ ?_
    · refine x_iconst (pc := 57) (v := 0) (by decide) dX1_tree_57 ?_
      refine x_aload_n (pc := 58) (r := v4) 0 rfl rfl dX1_tree_58 ?_
      refine x_nn (fun a10 e11 => ?_)
      subst e11
      refine x_callV (pc := 59) (As := []) (rest := [.int (0 : Int32)]) (lev' := 1) si_X1_233 (m_R_folds h3 a10) (fun z e => grd1 e) rfl rfl (by decide) (cat4 (Nat.le_of_ble_eq_true rfl)) dX1_tree_59 (kI (fun v13 h12 => ?_)) xNo
      refine x_iconst (pc := 62) (v := 1) (by decide) dX1_tree_62 ?_
      refine x_isub (pc := 63) dX1_tree_63 ?_
      refine x_mmax (pc := 64) q1012 (by omega) (cat4 (Nat.le_of_ble_eq_true rfl)) dX1_tree_64 ?_
      exact x_iret (pc := 67) dX1_tree_67
    refine x_sw (pc := 17) (v := 2) 68 dX1_tree_17 rfl (by decide) (by decide) rfl (by decide) ?_ ?_
    · refine x_aload_n (pc := 68) (r := v4) 0 rfl rfl dX1_tree_68 ?_
      refine x_nn (fun a14 e15 => ?_)
      subst e15
      refine x_getI (pc := 69) fi_X1_254 dX1_tree_69 ?_
      intro v16
      exact x_iret (pc := 72) dX1_tree_72
    refine x_sw (pc := 17) (v := 3) 73 dX1_tree_17 rfl (by decide) (by decide) rfl (by decide) ?_ ?_
    · refine x_aload_n (pc := 73) (r := v4) 0 rfl rfl dX1_tree_73 ?_
      refine x_nn (fun a17 e18 => ?_)
      subst e18
      refine x_callV (pc := 74) (As := []) (rest := []) (lev' := 9) si_X1_257 (m_R_cost h3 a17) (fun z e => grd1 e) rfl rfl (by decide) (cat4 (Nat.le_of_ble_eq_true rfl)) dX1_tree_74 (kI (fun v20 h19 => ?_)) xNo
      exact x_iret (pc := 77) dX1_tree_77
    refine x_swD (pc := 17) 78 dX1_tree_17 (by decide) (by decide) ?_
    refine x_iconst (pc := 78) (v := (-1)) (by decide) dX1_tree_78 ?_
    exact x_iret (pc := 79) dX1_tree_79
  · refine x_iconst (pc := 8) (v := (-1)) (by decide) dX1_tree_8 ?_
    exact x_iret (pc := 9) dX1_tree_9
abbrev Y_B_apart : Yx := (RX1, cX1_apart, 6, 115, (some .int), [], false)
def c_B_apart_l64 (r64 : PH → Nat → Int32 → Int32 → Int32 → Int32 → Int32 → Option RH) (h : PH) (this : Nat) (x1 : Int32) (x2 : Int32) (x3 : Int32) (x4 : Int32) (x5 : Int32) : Option RH :=
  if x3 ≤ x5 then
    rI x4 h
  else
    hQ (c_B_rope h this x1) noX fun v2 h1 =>
    nn v2 fun a3 =>
    hI (c_R_get h1 a3 x5) noX fun v6 h5 =>
    hQ (c_B_rope h5 this x2) noX fun v8 h7 =>
    nn v8 fun a9 =>
    hI (c_R_get h7 a9 x5) noX fun v12 h11 =>
    nm (x4 + (v6 ^^^ v12)) fun y13 =>
    r64 h11 this x1 x2 x3 y13 (x5 + (1 : Int32))
def c_B_apart (h : PH) (this : Nat) (x1 : Int32) (x2 : Int32) : Option RH :=
  grd h this [0] (
  hI (c_B_isRow h this x1) noX fun v2 h1 =>
  if v2 = 0 then
    rI (-1 : Int32) h1
  else
    hI (c_B_isRow h1 this x2) noX fun v4 h3 =>
    if v4 = 0 then
      rI (-1 : Int32) h3
    else
      hQ (c_B_rope h3 this x1) noX fun v6 h5 =>
      nn v6 fun a7 =>
      hI (c_R_wide h5 a7) noX fun v10 h9 =>
      hQ (c_B_rope h9 this x2) noX fun v12 h11 =>
      nn v12 fun a13 =>
      hI (c_R_wide h11 a13) noX fun v16 h15 =>
      nm (if v16 < v10 then v16 else v10) fun y17 =>
      hQ (c_B_rope h15 this x1) noX fun v19 h18 =>
      nn v19 fun a20 =>
      hI (c_R_wide h18 a20) noX fun v23 h22 =>
      hQ (c_B_rope h22 this x2) noX fun v25 h24 =>
      nn v25 fun a26 =>
      hI (c_R_wide h24 a26) noX fun v29 h28 =>
      nm ((if v23 < v29 then v29 else v23) - y17) fun y30 =>
      itr (c_B_apart_l64) (fun _ _ _ _ _ _ _ => none) FU h28 this x1 x2 y17 y30 (0 : Int32))
set_option maxHeartbeats 4000000 in
theorem w_B_apart_l64 (r64 : PH → Nat → Int32 → Int32 → Int32 → Int32 → Int32 → Option RH) (hr64 : ∀ (h : PH) (this : Nat) (x1 : Int32) (x2 : Int32) (x3 : Int32) (x4 : Int32) (x5 : Int32), Sim Y_B_apart h 64 [(0, .ref this), (1, .int x1), (2, .int x2), (3, .int x3), (4, .int x4), (5, .int x5)] [] (r64 h this x1 x2 x3 x4 x5)) (h : PH) (this : Nat) (x1 : Int32) (x2 : Int32) (x3 : Int32) (x4 : Int32) (x5 : Int32) : Sim Y_B_apart h 64 [(0, .ref this), (1, .int x1), (2, .int x2), (3, .int x3), (4, .int x4), (5, .int x5)] [] (c_B_apart_l64 r64 h this x1 x2 x3 x4 x5) := by
  unfold c_B_apart_l64
  refine x_iload (pc := 64) 5 rfl dX1_apart_64 ?_
  refine x_iload_n (pc := 66) 3 rfl rfl dX1_apart_66 ?_
  refine x_icmp_ge (pc := 67) 102 (by decide) dX1_apart_67 ?_ ?_
  · refine x_iload (pc := 102) 4 rfl dX1_apart_102 ?_
    exact x_iret (pc := 104) dX1_apart_104
  · refine x_iload (pc := 70) 4 rfl dX1_apart_70 ?_
    refine x_aload_nR (pc := 72) (a := this) 0 rfl rfl dX1_apart_72 ?_
    refine x_iload_n (pc := 73) 1 rfl rfl dX1_apart_73 ?_
    refine x_callV (pc := 74) (As := [.int x1]) (rest := [.int x4]) (lev' := 114) si_X1_204 (m_B_rope h this x1) (fun z e => grd1 e) rfl rfl (by decide) (cat4 (Nat.le_of_ble_eq_true rfl)) dX1_apart_74 (kQ (fun v2 h1 => ?_)) xNo
    refine x_iload (pc := 77) 5 rfl dX1_apart_77 ?_
    refine x_nn (fun a3 e4 => ?_)
    subst e4
    refine x_callV (pc := 79) (As := [.int x5]) (rest := [.int x4]) (lev' := 3) si_X1_207 (m_R_get h1 a3 x5) (fun z e => grd1 e) rfl rfl (by decide) (cat4 (Nat.le_of_ble_eq_true rfl)) dX1_apart_79 (kI (fun v6 h5 => ?_)) xNo
    refine x_aload_nR (pc := 82) (a := this) 0 rfl rfl dX1_apart_82 ?_
    refine x_iload_n (pc := 83) 2 rfl rfl dX1_apart_83 ?_
    refine x_callV (pc := 84) (As := [.int x2]) (rest := [.int v6, .int x4]) (lev' := 114) si_X1_204 (m_B_rope h5 this x2) (fun z e => grd1 e) rfl rfl (by decide) (cat4 (Nat.le_of_ble_eq_true rfl)) dX1_apart_84 (kQ (fun v8 h7 => ?_)) xNo
    refine x_iload (pc := 87) 5 rfl dX1_apart_87 ?_
    refine x_nn (fun a9 e10 => ?_)
    subst e10
    refine x_callV (pc := 89) (As := [.int x5]) (rest := [.int v6, .int x4]) (lev' := 3) si_X1_207 (m_R_get h7 a9 x5) (fun z e => grd1 e) rfl rfl (by decide) (cat4 (Nat.le_of_ble_eq_true rfl)) dX1_apart_89 (kI (fun v12 h11 => ?_)) xNo
    refine x_ixor (pc := 92) dX1_apart_92 ?_
    refine x_iadd (pc := 93) dX1_apart_93 ?_
    refine x_nmI (fun y13 => ?_)
    refine x_istore (pc := 94) (lv' := [(4, .int y13), (0, .ref this), (1, .int x1), (2, .int x2), (3, .int x3), (5, .int x5)]) (by decide) rfl dX1_apart_94 ?_
    refine x_iinc (pc := 96) (v := (1 : Int32)) (lv' := [(5, .int (x5 + (1 : Int32))), (4, .int y13), (0, .ref this), (1, .int x1), (2, .int x2), (3, .int x3)]) 5 rfl (by decide) (by decide) rfl dX1_apart_96 ?_
    refine x_goto (pc := 99) 64 (by decide) dX1_apart_99 ?_
    refine Sim.lv [2, 3, 4, 5, 1, 0] rfl ?_
    exact hr64 h11 this x1 x2 x3 y13 (x5 + (1 : Int32))
set_option maxHeartbeats 4000000 in
theorem v_B_apart_l64 : ∀ (n : Nat) (h : PH) (this : Nat) (x1 : Int32) (x2 : Int32) (x3 : Int32) (x4 : Int32) (x5 : Int32), Sim Y_B_apart h 64 [(0, .ref this), (1, .int x1), (2, .int x2), (3, .int x3), (4, .int x4), (5, .int x5)] [] (itr (c_B_apart_l64) (fun _ _ _ _ _ _ _ => none) n h this x1 x2 x3 x4 x5)
  | 0, h, this, x1, x2, x3, x4, x5 => Sim.none
  | n + 1, h, this, x1, x2, x3, x4, x5 => w_B_apart_l64 _ (v_B_apart_l64 n) h this x1 x2 x3 x4 x5
set_option maxHeartbeats 4000000 in
theorem m_B_apart (h : PH) (this : Nat) (x1 : Int32) (x2 : Int32) : MM yX1_apart (ws_ yX1_apart cX1_apart 6 (some .int)) 115 [.ref this, .int x1, .int x2] h (c_B_apart h this x1 x2) := by
  refine MM.of (by decide) rfl (by decide) (Nat.le_of_ble_eq_true rfl) (own := RX1) (cc := cX1_apart) (maxL := 6) (lev := 115) (rt := (some .int)) (ini := false) ?_
  show Sim Y_B_apart h 0 [(0, .ref this), (1, .int x1), (2, .int x2)] [] _
  unfold c_B_apart
  refine x_grd ?_
  refine x_aload_nR (pc := 0) (a := this) 0 rfl rfl dX1_apart_0 ?_
  refine x_iload_n (pc := 1) 1 rfl rfl dX1_apart_1 ?_
  refine x_callV (pc := 2) (As := [.int x1]) (rest := []) (lev' := 2) si_X1_186 (m_B_isRow h this x1) (fun z e => grd1 e) rfl rfl (by decide) (cat4 (Nat.le_of_ble_eq_true rfl)) dX1_apart_2 (kI (fun v2 h1 => ?_)) xNo
  refine x_if_eq (pc := 5) 16 (by decide) dX1_apart_5 ?_ ?_
  · refine x_iconst (pc := 16) (v := (-1)) (by decide) dX1_apart_16 ?_
    exact x_iret (pc := 17) dX1_apart_17
  · refine x_aload_nR (pc := 8) (a := this) 0 rfl rfl dX1_apart_8 ?_
    refine x_iload_n (pc := 9) 2 rfl rfl dX1_apart_9 ?_
    refine x_callV (pc := 10) (As := [.int x2]) (rest := []) (lev' := 2) si_X1_186 (m_B_isRow h1 this x2) (fun z e => grd1 e) rfl rfl (by decide) (cat4 (Nat.le_of_ble_eq_true rfl)) dX1_apart_10 (kI (fun v4 h3 => ?_)) xNo
    refine x_if_ne (pc := 13) 18 (by decide) dX1_apart_13 ?_ ?_
    · refine x_aload_nR (pc := 18) (a := this) 0 rfl rfl dX1_apart_18 ?_
      refine x_iload_n (pc := 19) 1 rfl rfl dX1_apart_19 ?_
      refine x_callV (pc := 20) (As := [.int x1]) (rest := []) (lev' := 114) si_X1_204 (m_B_rope h3 this x1) (fun z e => grd1 e) rfl rfl (by decide) (cat4 (Nat.le_of_ble_eq_true rfl)) dX1_apart_20 (kQ (fun v6 h5 => ?_)) xNo
      refine x_nn (fun a7 e8 => ?_)
      subst e8
      refine x_callV (pc := 23) (As := []) (rest := []) (lev' := 1) si_X1_194 (m_R_wide h5 a7) (fun z e => grd1 e) rfl rfl (by decide) (cat4 (Nat.le_of_ble_eq_true rfl)) dX1_apart_23 (kI (fun v10 h9 => ?_)) xNo
      refine x_aload_nR (pc := 26) (a := this) 0 rfl rfl dX1_apart_26 ?_
      refine x_iload_n (pc := 27) 2 rfl rfl dX1_apart_27 ?_
      refine x_callV (pc := 28) (As := [.int x2]) (rest := [.int v10]) (lev' := 114) si_X1_204 (m_B_rope h9 this x2) (fun z e => grd1 e) rfl rfl (by decide) (cat4 (Nat.le_of_ble_eq_true rfl)) dX1_apart_28 (kQ (fun v12 h11 => ?_)) xNo
      refine x_nn (fun a13 e14 => ?_)
      subst e14
      refine x_callV (pc := 31) (As := []) (rest := [.int v10]) (lev' := 1) si_X1_194 (m_R_wide h11 a13) (fun z e => grd1 e) rfl rfl (by decide) (cat4 (Nat.le_of_ble_eq_true rfl)) dX1_apart_31 (kI (fun v16 h15 => ?_)) xNo
      refine x_mmin (pc := 34) q1050 (by omega) (cat4 (Nat.le_of_ble_eq_true rfl)) dX1_apart_34 ?_
      refine x_nmI (fun y17 => ?_)
      refine x_istore_n (pc := 37) (lv' := [(3, .int y17), (0, .ref this), (1, .int x1), (2, .int x2)]) rfl (by decide) rfl dX1_apart_37 ?_
      refine x_aload_nR (pc := 38) (a := this) 1 rfl rfl dX1_apart_38 ?_
      refine x_iload_n (pc := 39) 2 rfl rfl dX1_apart_39 ?_
      refine x_callV (pc := 40) (As := [.int x1]) (rest := []) (lev' := 114) si_X1_204 (m_B_rope h15 this x1) (fun z e => grd1 e) rfl rfl (by decide) (cat4 (Nat.le_of_ble_eq_true rfl)) dX1_apart_40 (kQ (fun v19 h18 => ?_)) xNo
      refine x_nn (fun a20 e21 => ?_)
      subst e21
      refine x_callV (pc := 43) (As := []) (rest := []) (lev' := 1) si_X1_194 (m_R_wide h18 a20) (fun z e => grd1 e) rfl rfl (by decide) (cat4 (Nat.le_of_ble_eq_true rfl)) dX1_apart_43 (kI (fun v23 h22 => ?_)) xNo
      refine x_aload_nR (pc := 46) (a := this) 1 rfl rfl dX1_apart_46 ?_
      refine x_iload_n (pc := 47) 3 rfl rfl dX1_apart_47 ?_
      refine x_callV (pc := 48) (As := [.int x2]) (rest := [.int v23]) (lev' := 114) si_X1_204 (m_B_rope h22 this x2) (fun z e => grd1 e) rfl rfl (by decide) (cat4 (Nat.le_of_ble_eq_true rfl)) dX1_apart_48 (kQ (fun v25 h24 => ?_)) xNo
      refine x_nn (fun a26 e27 => ?_)
      subst e27
      refine x_callV (pc := 51) (As := []) (rest := [.int v23]) (lev' := 1) si_X1_194 (m_R_wide h24 a26) (fun z e => grd1 e) rfl rfl (by decide) (cat4 (Nat.le_of_ble_eq_true rfl)) dX1_apart_51 (kI (fun v29 h28 => ?_)) xNo
      refine x_mmax (pc := 54) q1012 (by omega) (cat4 (Nat.le_of_ble_eq_true rfl)) dX1_apart_54 ?_
      refine x_iload_n (pc := 57) 0 rfl rfl dX1_apart_57 ?_
      refine x_isub (pc := 58) dX1_apart_58 ?_
      refine x_nmI (fun y30 => ?_)
      refine x_istore (pc := 59) (lv' := [(4, .int y30), (3, .int y17), (0, .ref this), (1, .int x1), (2, .int x2)]) (by decide) rfl dX1_apart_59 ?_
      refine x_iconst (pc := 61) (v := 0) (by decide) dX1_apart_61 ?_
      refine x_istore (pc := 62) (lv' := [(5, .int (0 : Int32)), (4, .int y30), (3, .int y17), (0, .ref this), (1, .int x1), (2, .int x2)]) (by decide) rfl dX1_apart_62 ?_
      refine Sim.lv [3, 4, 5, 2, 1, 0] rfl ?_
      exact v_B_apart_l64 FU h28 this x1 x2 y17 y30 (0 : Int32)
    · refine x_iconst (pc := 16) (v := (-1)) (by decide) dX1_apart_16 ?_
      exact x_iret (pc := 17) dX1_apart_17
theorem si_X1_281 : SiV RX1 281 0 yX1_differs cX1_differs 5 (some .int) 2 := ⟨_, _, _, ci_0.1, by decide, lw_V q1057 q1059 qs19 q110 q1060, ⟨rfl, by decide, by decide, by decide +kernel⟩, by decide⟩
abbrev Y_B_differ : Yx := (RX1, cX1_differ, 3, 116, (some .int), [], false)
def c_B_differ (h : PH) (this : Nat) (x1 : Int32) (x2 : Int32) : Option RH :=
  grd h this [0] (
  hI (c_B_isRow h this x1) noX fun v2 h1 =>
  if v2 = 0 then
    rI (-1 : Int32) h1
  else
    hI (c_B_isRow h1 this x2) noX fun v4 h3 =>
    if v4 = 0 then
      rI (-1 : Int32) h3
    else
      hI (c_B_differs h3 this x1 x2) noX fun v6 h5 =>
      rI v6 h5)
set_option maxHeartbeats 4000000 in
theorem m_B_differ (h : PH) (this : Nat) (x1 : Int32) (x2 : Int32) : MM yX1_differ (ws_ yX1_differ cX1_differ 3 (some .int)) 116 [.ref this, .int x1, .int x2] h (c_B_differ h this x1 x2) := by
  refine MM.of (by decide) rfl (by decide) (Nat.le_of_ble_eq_true rfl) (own := RX1) (cc := cX1_differ) (maxL := 3) (lev := 116) (rt := (some .int)) (ini := false) ?_
  show Sim Y_B_differ h 0 [(0, .ref this), (1, .int x1), (2, .int x2)] [] _
  unfold c_B_differ
  refine x_grd ?_
  refine x_aload_nR (pc := 0) (a := this) 0 rfl rfl dX1_differ_0 ?_
  refine x_iload_n (pc := 1) 1 rfl rfl dX1_differ_1 ?_
  refine x_callV (pc := 2) (As := [.int x1]) (rest := []) (lev' := 2) si_X1_186 (m_B_isRow h this x1) (fun z e => grd1 e) rfl rfl (by decide) (cat4 (Nat.le_of_ble_eq_true rfl)) dX1_differ_2 (kI (fun v2 h1 => ?_)) xNo
  refine x_if_eq (pc := 5) 25 (by decide) dX1_differ_5 ?_ ?_
  · refine x_iconst (pc := 25) (v := (-1)) (by decide) dX1_differ_25 ?_
    exact x_iret (pc := 26) dX1_differ_26
  · refine x_aload_nR (pc := 8) (a := this) 0 rfl rfl dX1_differ_8 ?_
    refine x_iload_n (pc := 9) 2 rfl rfl dX1_differ_9 ?_
    refine x_callV (pc := 10) (As := [.int x2]) (rest := []) (lev' := 2) si_X1_186 (m_B_isRow h1 this x2) (fun z e => grd1 e) rfl rfl (by decide) (cat4 (Nat.le_of_ble_eq_true rfl)) dX1_differ_10 (kI (fun v4 h3 => ?_)) xNo
    refine x_if_eq (pc := 13) 25 (by decide) dX1_differ_13 ?_ ?_
    · refine x_iconst (pc := 25) (v := (-1)) (by decide) dX1_differ_25 ?_
      exact x_iret (pc := 26) dX1_differ_26
    · refine x_aload_nR (pc := 16) (a := this) 0 rfl rfl dX1_differ_16 ?_
      refine x_iload_n (pc := 17) 1 rfl rfl dX1_differ_17 ?_
      refine x_iload_n (pc := 18) 2 rfl rfl dX1_differ_18 ?_
      refine x_callV (pc := 19) (As := [.int x1, .int x2]) (rest := []) (lev' := 115) si_X1_281 (m_B_differs h3 this x1 x2) (fun z e => grd1 e) rfl rfl (by decide) (cat4 (Nat.le_of_ble_eq_true rfl)) dX1_differ_19 (kI (fun v6 h5 => ?_)) xNo
      refine x_goto (pc := 22) 26 (by decide) dX1_differ_22 ?_
      exact x_iret (pc := 26) dX1_differ_26
abbrev Y_B_one : Yx := (RX1, cX1_one, 2, 1, (some .int), [], false)
def c_B_one (h : PH) (this : Nat) (x1 : Int32) : Option RH :=
  grd h this [0] (
  gQ h this [0] 0 fun v1 =>
  nn v1 fun a2 =>
  ldI h a2 2 x1 fun v4 =>
  rI (v4 &&& (255 : Int32)) h)
set_option maxHeartbeats 4000000 in
theorem m_B_one (h : PH) (this : Nat) (x1 : Int32) : MM yX1_one (ws_ yX1_one cX1_one 2 (some .int)) 1 [.ref this, .int x1] h (c_B_one h this x1) := by
  refine MM.of (by decide) rfl (by decide) (Nat.le_of_ble_eq_true rfl) (own := RX1) (cc := cX1_one) (maxL := 2) (lev := 1) (rt := (some .int)) (ini := false) ?_
  show Sim Y_B_one h 0 [(0, .ref this), (1, .int x1)] [] _
  unfold c_B_one
  refine x_grd ?_
  refine x_aload_nR (pc := 0) (a := this) 0 rfl rfl dX1_one_0 ?_
  refine x_getQ (pc := 1) fi_X1_9 dX1_one_1 ?_
  intro v1
  refine x_iload_n (pc := 4) 1 rfl rfl dX1_one_4 ?_
  refine x_nn (fun a2 e3 => ?_)
  subst e3
  refine x_bald (pc := 5) dX1_one_5 ?_
  intro v4
  refine x_sipush (pc := 6) (v := 255) (by decide) dX1_one_6 ?_
  refine x_iand (pc := 9) dX1_one_9 ?_
  exact x_iret (pc := 10) dX1_one_10
theorem si_X1_284 : SiV RX1 284 0 yX1_one cX1_one 2 (some .int) 1 := ⟨_, _, _, ci_0.1, by decide, lw_V q1069 q1071 qs21 q110 q1072, ⟨rfl, by decide, by decide, by decide +kernel⟩, by decide⟩
abbrev Y_B_areBits : Yx := (RX1, cX1_areBits, 3, 2, (some .boolean), [], false)
def c_B_areBits_l16 (r16 : PH → Nat → Int32 → Option RH) (h : PH) (this : Nat) (x2 : Int32) : Option RH :=
  gI h this [0] 2 fun v1 =>
  if v1 ≤ x2 then
    rZ (1 : Int32) h
  else
    hI (c_B_one h this x2) noX fun v3 h2 =>
    if v3 ≤ (1 : Int32) then
      r16 h2 this (x2 + (1 : Int32))
    else
      rZ (0 : Int32) h2
def c_B_areBits (h : PH) (this : Nat) (x1 : Int32) : Option RH :=
  grd h this [0] (
  gI h this [0] 2 fun v1 =>
  hI (c_B_isIn h v1 (1 : Int32) x1) noX fun v3 h2 =>
  if v3 = 0 then
    rZ (0 : Int32) h2
  else
    itr (c_B_areBits_l16) (fun _ _ _ => none) FU h2 this (0 : Int32))
set_option maxHeartbeats 4000000 in
theorem w_B_areBits_l16 (r16 : PH → Nat → Int32 → Option RH) (hr16 : ∀ (h : PH) (this : Nat) (x2 : Int32), Sim Y_B_areBits h 16 [(0, .ref this), (2, .int x2)] [] (r16 h this x2)) (h : PH) (this : Nat) (x2 : Int32) : Sim Y_B_areBits h 16 [(0, .ref this), (2, .int x2)] [] (c_B_areBits_l16 r16 h this x2) := by
  unfold c_B_areBits_l16
  refine x_iload_n (pc := 16) 1 rfl rfl dX1_areBits_16 ?_
  refine x_aload_nR (pc := 17) (a := this) 0 rfl rfl dX1_areBits_17 ?_
  refine x_getI (pc := 18) fi_X1_149 dX1_areBits_18 ?_
  intro v1
  refine x_icmp_ge (pc := 21) 41 (by decide) dX1_areBits_21 ?_ ?_
  · refine x_iconst (pc := 41) (v := 1) (by decide) dX1_areBits_41 ?_
    exact x_zret (pc := 42) dX1_areBits_42
  · refine x_aload_nR (pc := 24) (a := this) 0 rfl rfl dX1_areBits_24 ?_
    refine x_iload_n (pc := 25) 1 rfl rfl dX1_areBits_25 ?_
    refine x_callV (pc := 26) (As := [.int x2]) (rest := []) (lev' := 1) si_X1_284 (m_B_one h this x2) (fun z e => grd1 e) rfl rfl (by decide) (cat4 (Nat.le_of_ble_eq_true rfl)) dX1_areBits_26 (kI (fun v3 h2 => ?_)) xNo
    refine x_iconst (pc := 29) (v := 1) (by decide) dX1_areBits_29 ?_
    refine x_icmp_le (pc := 30) 35 (by decide) dX1_areBits_30 ?_ ?_
    · refine x_iinc (pc := 35) (v := (1 : Int32)) (lv' := [(2, .int (x2 + (1 : Int32))), (0, .ref this)]) 1 rfl (by decide) (by decide) rfl dX1_areBits_35 ?_
      refine x_goto (pc := 38) 16 (by decide) dX1_areBits_38 ?_
      refine Sim.lv [1, 0] rfl ?_
      exact hr16 h2 this (x2 + (1 : Int32))
    · refine x_iconst (pc := 33) (v := 0) (by decide) dX1_areBits_33 ?_
      exact x_zret (pc := 34) dX1_areBits_34
set_option maxHeartbeats 4000000 in
theorem v_B_areBits_l16 : ∀ (n : Nat) (h : PH) (this : Nat) (x2 : Int32), Sim Y_B_areBits h 16 [(0, .ref this), (2, .int x2)] [] (itr (c_B_areBits_l16) (fun _ _ _ => none) n h this x2)
  | 0, h, this, x2 => Sim.none
  | n + 1, h, this, x2 => w_B_areBits_l16 _ (v_B_areBits_l16 n) h this x2
set_option maxHeartbeats 4000000 in
theorem m_B_areBits (h : PH) (this : Nat) (x1 : Int32) : MM yX1_areBits (ws_ yX1_areBits cX1_areBits 3 (some .boolean)) 2 [.ref this, .int x1] h (c_B_areBits h this x1) := by
  refine MM.of (by decide) rfl (by decide) (Nat.le_of_ble_eq_true rfl) (own := RX1) (cc := cX1_areBits) (maxL := 3) (lev := 2) (rt := (some .boolean)) (ini := false) ?_
  show Sim Y_B_areBits h 0 [(0, .ref this), (1, .int x1)] [] _
  unfold c_B_areBits
  refine x_grd ?_
  refine x_aload_nR (pc := 0) (a := this) 0 rfl rfl dX1_areBits_0 ?_
  refine x_getI (pc := 1) fi_X1_149 dX1_areBits_1 ?_
  intro v1
  refine x_iconst (pc := 4) (v := 1) (by decide) dX1_areBits_4 ?_
  refine x_iload_n (pc := 5) 1 rfl rfl dX1_areBits_5 ?_
  refine x_callS (pc := 6) (As := [.int v1, .int (1 : Int32), .int x1]) (rest := []) (lev' := 1) si_X1_182 (m_B_isIn h v1 (1 : Int32) x1) rfl rfl (by decide) (cat4 (Nat.le_of_ble_eq_true rfl)) dX1_areBits_6 (kI (fun v3 h2 => ?_)) xNo
  refine x_if_ne (pc := 9) 14 (by decide) dX1_areBits_9 ?_ ?_
  · refine x_iconst (pc := 14) (v := 0) (by decide) dX1_areBits_14 ?_
    refine x_istore_n (pc := 15) (lv' := [(2, .int (0 : Int32)), (0, .ref this), (1, .int x1)]) rfl (by decide) rfl dX1_areBits_15 ?_
    refine Sim.lv [1, 0] rfl ?_
    exact v_B_areBits_l16 FU h2 this (0 : Int32)
  · refine x_iconst (pc := 12) (v := 0) (by decide) dX1_areBits_12 ?_
    exact x_zret (pc := 13) dX1_areBits_13
theorem si_X1_287 : SiV RX1 287 0 yX1_areBits cX1_areBits 3 (some .boolean) 1 := ⟨_, _, _, ci_0.1, by decide, lw_V q1065 q1067 qs20 q110 q1068, ⟨rfl, by decide, by decide, by decide +kernel⟩, by decide⟩
abbrev Y_B_seek : Yx := (RX1, cX1_seek, 4, 115, (some .int), [], false)
def c_B_seek_j82 (r30 : PH → Nat → Int32 → Int32 → Option RH) (h : PH) (this : Nat) (x1 : Int32) (x2 : Int32) (x3 : Int32) : Option RH :=
  gI h this [0] 2 fun v1 =>
  if v1 ≤ x3 then
    gQ h this [0] 12 fun v2 =>
    gI h this [0] 13 fun v3 =>
    nn v2 fun a4 =>
    stI h a4 v3 x2 fun h6 =>
    gI h6 this [0] 13 fun v7 =>
    pI h6 this [0] 13 (v7 + (1 : Int32)) fun h8 =>
    r30 h8 this x1 (x2 + (1 : Int32))
  else
    r30 h this x1 (x2 + (1 : Int32))
def c_B_seek_l49 (r30 : PH → Nat → Int32 → Int32 → Option RH) (r49 : PH → Nat → Int32 → Int32 → Int32 → Option RH) (h : PH) (this : Nat) (x1 : Int32) (x2 : Int32) (x3 : Int32) : Option RH :=
  gI h this [0] 2 fun v1 =>
  if v1 ≤ x3 then
    c_B_seek_j82 r30 h this x1 x2 x3
  else
    hQ (c_B_rope h this x1) noX fun v3 h2 =>
    nn v3 fun a4 =>
    hI (c_R_get h2 a4 (x2 + x3)) noX fun v7 h6 =>
    hI (c_B_one h6 this x3) noX fun v9 h8 =>
    if v7 = v9 then
      r49 h8 this x1 x2 (x3 + (1 : Int32))
    else
      c_B_seek_j82 r30 h8 this x1 x2 x3
def c_B_seek_l30 (r30 : PH → Nat → Int32 → Int32 → Option RH) (h : PH) (this : Nat) (x1 : Int32) (x2 : Int32) : Option RH :=
  gI h this [0] 2 fun v1 =>
  hQ (c_B_rope h this x1) noX fun v3 h2 =>
  nn v3 fun a4 =>
  hI (c_R_wide h2 a4) noX fun v7 h6 =>
  if v7 < (x2 + v1) then
    gI h6 this [0] 13 fun v8 =>
    rI v8 h6
  else
    itr (c_B_seek_l49 r30) (fun _ _ _ _ _ => none) FU h6 this x1 x2 (0 : Int32)
def c_B_seek (h : PH) (this : Nat) (x1 : Int32) : Option RH :=
  grd h this [0] (
  hV (c_B_consume h this) noX fun h1 =>
  hI (c_B_isRow h1 this x1) noX fun v3 h2 =>
  if v3 = 0 then
    rI (-1 : Int32) h2
  else
    hI (c_B_areBits h2 this (32 : Int32)) noX fun v5 h4 =>
    if v5 = 0 then
      rI (-1 : Int32) h4
    else
      pI h4 this [0] 13 (0 : Int32) fun h6 =>
      itr (c_B_seek_l30) (fun _ _ _ _ => none) FU h6 this x1 (0 : Int32))
set_option maxHeartbeats 4000000 in
theorem w_B_seek_j82 (r30 : PH → Nat → Int32 → Int32 → Option RH) (hr30 : ∀ (h : PH) (this : Nat) (x1 : Int32) (x2 : Int32), Sim Y_B_seek h 30 [(0, .ref this), (1, .int x1), (2, .int x2)] [] (r30 h this x1 x2)) (h : PH) (this : Nat) (x1 : Int32) (x2 : Int32) (x3 : Int32) : Sim Y_B_seek h 82 [(0, .ref this), (1, .int x1), (2, .int x2), (3, .int x3)] [] (c_B_seek_j82 r30 h this x1 x2 x3) := by
  unfold c_B_seek_j82
  refine x_iload_n (pc := 82) 3 rfl rfl dX1_seek_82 ?_
  refine x_aload_nR (pc := 83) (a := this) 0 rfl rfl dX1_seek_83 ?_
  refine x_getI (pc := 84) fi_X1_149 dX1_seek_84 ?_
  intro v1
  refine x_icmp_ge (pc := 87) 93 (by decide) dX1_seek_87 ?_ ?_
  · refine x_aload_nR (pc := 93) (a := this) 0 rfl rfl dX1_seek_93 ?_
    refine x_getQ (pc := 94) fi_X1_112 dX1_seek_94 ?_
    intro v2
    refine x_aload_nR (pc := 97) (a := this) 0 rfl rfl dX1_seek_97 ?_
    refine x_getI (pc := 98) fi_X1_116 dX1_seek_98 ?_
    intro v3
    refine x_iload_n (pc := 101) 2 rfl rfl dX1_seek_101 ?_
    refine x_nn (fun a4 e5 => ?_)
    subst e5
    refine x_iast (pc := 102) dX1_seek_102 ?_
    intro h6
    refine x_aload_nR (pc := 103) (a := this) 0 rfl rfl dX1_seek_103 ?_
    refine x_dup (pc := 104) rfl dX1_seek_104 ?_
    refine x_getI (pc := 105) fi_X1_116 dX1_seek_105 ?_
    intro v7
    refine x_iconst (pc := 108) (v := 1) (by decide) dX1_seek_108 ?_
    refine x_iadd (pc := 109) dX1_seek_109 ?_
    refine x_pI (pc := 110) fi_X1_116 (fun z => absurd z (by decide)) dX1_seek_110 ?_
    intro h8
    refine x_iinc (pc := 113) (v := (1 : Int32)) (lv' := [(2, .int (x2 + (1 : Int32))), (0, .ref this), (1, .int x1), (3, .int x3)]) 2 rfl (by decide) (by decide) rfl dX1_seek_113 ?_
    refine x_goto (pc := 116) 30 (by decide) dX1_seek_116 ?_
    refine Sim.lv [1, 2, 0] rfl ?_
    exact hr30 h8 this x1 (x2 + (1 : Int32))
  · refine x_goto (pc := 90) 113 (by decide) dX1_seek_90 ?_
    refine x_iinc (pc := 113) (v := (1 : Int32)) (lv' := [(2, .int (x2 + (1 : Int32))), (0, .ref this), (1, .int x1), (3, .int x3)]) 2 rfl (by decide) (by decide) rfl dX1_seek_113 ?_
    refine x_goto (pc := 116) 30 (by decide) dX1_seek_116 ?_
    refine Sim.lv [1, 2, 0] rfl ?_
    exact hr30 h this x1 (x2 + (1 : Int32))
set_option maxHeartbeats 4000000 in
theorem w_B_seek_l49 (r30 : PH → Nat → Int32 → Int32 → Option RH) (r49 : PH → Nat → Int32 → Int32 → Int32 → Option RH) (hr30 : ∀ (h : PH) (this : Nat) (x1 : Int32) (x2 : Int32), Sim Y_B_seek h 30 [(0, .ref this), (1, .int x1), (2, .int x2)] [] (r30 h this x1 x2)) (hr49 : ∀ (h : PH) (this : Nat) (x1 : Int32) (x2 : Int32) (x3 : Int32), Sim Y_B_seek h 49 [(0, .ref this), (1, .int x1), (2, .int x2), (3, .int x3)] [] (r49 h this x1 x2 x3)) (h : PH) (this : Nat) (x1 : Int32) (x2 : Int32) (x3 : Int32) : Sim Y_B_seek h 49 [(0, .ref this), (1, .int x1), (2, .int x2), (3, .int x3)] [] (c_B_seek_l49 r30 r49 h this x1 x2 x3) := by
  unfold c_B_seek_l49
  refine x_iload_n (pc := 49) 3 rfl rfl dX1_seek_49 ?_
  refine x_aload_nR (pc := 50) (a := this) 0 rfl rfl dX1_seek_50 ?_
  refine x_getI (pc := 51) fi_X1_149 dX1_seek_51 ?_
  intro v1
  refine x_icmp_ge (pc := 54) 82 (by decide) dX1_seek_54 ?_ ?_
  · exact w_B_seek_j82 r30 hr30 h this x1 x2 x3
  · refine x_aload_nR (pc := 57) (a := this) 0 rfl rfl dX1_seek_57 ?_
    refine x_iload_n (pc := 58) 1 rfl rfl dX1_seek_58 ?_
    refine x_callV (pc := 59) (As := [.int x1]) (rest := []) (lev' := 114) si_X1_204 (m_B_rope h this x1) (fun z e => grd1 e) rfl rfl (by decide) (cat4 (Nat.le_of_ble_eq_true rfl)) dX1_seek_59 (kQ (fun v3 h2 => ?_)) xNo
    refine x_iload_n (pc := 62) 2 rfl rfl dX1_seek_62 ?_
    refine x_iload_n (pc := 63) 3 rfl rfl dX1_seek_63 ?_
    refine x_iadd (pc := 64) dX1_seek_64 ?_
    refine x_nn (fun a4 e5 => ?_)
    subst e5
    refine x_callV (pc := 65) (As := [.int (x2 + x3)]) (rest := []) (lev' := 3) si_X1_207 (m_R_get h2 a4 (x2 + x3)) (fun z e => grd1 e) rfl rfl (by decide) (cat4 (Nat.le_of_ble_eq_true rfl)) dX1_seek_65 (kI (fun v7 h6 => ?_)) xNo
    refine x_aload_nR (pc := 68) (a := this) 0 rfl rfl dX1_seek_68 ?_
    refine x_iload_n (pc := 69) 3 rfl rfl dX1_seek_69 ?_
    refine x_callV (pc := 70) (As := [.int x3]) (rest := [.int v7]) (lev' := 1) si_X1_284 (m_B_one h6 this x3) (fun z e => grd1 e) rfl rfl (by decide) (cat4 (Nat.le_of_ble_eq_true rfl)) dX1_seek_70 (kI (fun v9 h8 => ?_)) xNo
    refine x_icmp_ne (pc := 73) 82 (by decide) dX1_seek_73 ?_ ?_
    · exact w_B_seek_j82 r30 hr30 h8 this x1 x2 x3
    · refine x_iinc (pc := 76) (v := (1 : Int32)) (lv' := [(3, .int (x3 + (1 : Int32))), (0, .ref this), (1, .int x1), (2, .int x2)]) 3 rfl (by decide) (by decide) rfl dX1_seek_76 ?_
      refine x_goto (pc := 79) 49 (by decide) dX1_seek_79 ?_
      refine Sim.lv [1, 2, 3, 0] rfl ?_
      exact hr49 h8 this x1 x2 (x3 + (1 : Int32))
set_option maxHeartbeats 4000000 in
theorem v_B_seek_l49 (r30 : PH → Nat → Int32 → Int32 → Option RH) (hr30 : ∀ (h : PH) (this : Nat) (x1 : Int32) (x2 : Int32), Sim Y_B_seek h 30 [(0, .ref this), (1, .int x1), (2, .int x2)] [] (r30 h this x1 x2)) : ∀ (n : Nat) (h : PH) (this : Nat) (x1 : Int32) (x2 : Int32) (x3 : Int32), Sim Y_B_seek h 49 [(0, .ref this), (1, .int x1), (2, .int x2), (3, .int x3)] [] (itr (c_B_seek_l49 r30) (fun _ _ _ _ _ => none) n h this x1 x2 x3)
  | 0, h, this, x1, x2, x3 => Sim.none
  | n + 1, h, this, x1, x2, x3 => w_B_seek_l49 r30 _ hr30 (v_B_seek_l49 r30 hr30 n) h this x1 x2 x3
set_option maxHeartbeats 4000000 in
theorem w_B_seek_l30 (r30 : PH → Nat → Int32 → Int32 → Option RH) (hr30 : ∀ (h : PH) (this : Nat) (x1 : Int32) (x2 : Int32), Sim Y_B_seek h 30 [(0, .ref this), (1, .int x1), (2, .int x2)] [] (r30 h this x1 x2)) (h : PH) (this : Nat) (x1 : Int32) (x2 : Int32) : Sim Y_B_seek h 30 [(0, .ref this), (1, .int x1), (2, .int x2)] [] (c_B_seek_l30 r30 h this x1 x2) := by
  unfold c_B_seek_l30
  refine x_iload_n (pc := 30) 2 rfl rfl dX1_seek_30 ?_
  refine x_aload_nR (pc := 31) (a := this) 0 rfl rfl dX1_seek_31 ?_
  refine x_getI (pc := 32) fi_X1_149 dX1_seek_32 ?_
  intro v1
  refine x_iadd (pc := 35) dX1_seek_35 ?_
  refine x_aload_nR (pc := 36) (a := this) 0 rfl rfl dX1_seek_36 ?_
  refine x_iload_n (pc := 37) 1 rfl rfl dX1_seek_37 ?_
  refine x_callV (pc := 38) (As := [.int x1]) (rest := [.int (x2 + v1)]) (lev' := 114) si_X1_204 (m_B_rope h this x1) (fun z e => grd1 e) rfl rfl (by decide) (cat4 (Nat.le_of_ble_eq_true rfl)) dX1_seek_38 (kQ (fun v3 h2 => ?_)) xNo
  refine x_nn (fun a4 e5 => ?_)
  subst e5
  refine x_callV (pc := 41) (As := []) (rest := [.int (x2 + v1)]) (lev' := 1) si_X1_194 (m_R_wide h2 a4) (fun z e => grd1 e) rfl rfl (by decide) (cat4 (Nat.le_of_ble_eq_true rfl)) dX1_seek_41 (kI (fun v7 h6 => ?_)) xNo
  refine x_icmp_gt (pc := 44) 119 (by decide) dX1_seek_44 ?_ ?_
  · refine x_aload_nR (pc := 119) (a := this) 0 rfl rfl dX1_seek_119 ?_
    refine x_getI (pc := 120) fi_X1_116 dX1_seek_120 ?_
    intro v8
    exact x_iret (pc := 123) dX1_seek_123
  · refine x_iconst (pc := 47) (v := 0) (by decide) dX1_seek_47 ?_
    refine x_istore_n (pc := 48) (lv' := [(3, .int (0 : Int32)), (0, .ref this), (1, .int x1), (2, .int x2)]) rfl (by decide) rfl dX1_seek_48 ?_
    refine Sim.lv [1, 2, 3, 0] rfl ?_
    exact v_B_seek_l49 r30 hr30 FU h6 this x1 x2 (0 : Int32)
set_option maxHeartbeats 4000000 in
theorem v_B_seek_l30 : ∀ (n : Nat) (h : PH) (this : Nat) (x1 : Int32) (x2 : Int32), Sim Y_B_seek h 30 [(0, .ref this), (1, .int x1), (2, .int x2)] [] (itr (c_B_seek_l30) (fun _ _ _ _ => none) n h this x1 x2)
  | 0, h, this, x1, x2 => Sim.none
  | n + 1, h, this, x1, x2 => w_B_seek_l30 _ (v_B_seek_l30 n) h this x1 x2
set_option maxHeartbeats 4000000 in
theorem m_B_seek (h : PH) (this : Nat) (x1 : Int32) : MM yX1_seek (ws_ yX1_seek cX1_seek 4 (some .int)) 115 [.ref this, .int x1] h (c_B_seek h this x1) := by
  refine MM.of (by decide) rfl (by decide) (Nat.le_of_ble_eq_true rfl) (own := RX1) (cc := cX1_seek) (maxL := 4) (lev := 115) (rt := (some .int)) (ini := false) ?_
  show Sim Y_B_seek h 0 [(0, .ref this), (1, .int x1)] [] _
  unfold c_B_seek
  refine x_grd ?_
  refine x_aload_nR (pc := 0) (a := this) 0 rfl rfl dX1_seek_0 ?_
  refine x_callV (pc := 1) (As := []) (rest := []) (lev' := 1) si_X1_155 (m_B_consume h this) (fun z e => grd1 e) rfl rfl (by decide) (cat4 (Nat.le_of_ble_eq_true rfl)) dX1_seek_1 (kV (fun h1 => ?_)) xNo
  refine x_aload_nR (pc := 4) (a := this) 0 rfl rfl dX1_seek_4 ?_
  refine x_iload_n (pc := 5) 1 rfl rfl dX1_seek_5 ?_
  refine x_callV (pc := 6) (As := [.int x1]) (rest := []) (lev' := 2) si_X1_186 (m_B_isRow h1 this x1) (fun z e => grd1 e) rfl rfl (by decide) (cat4 (Nat.le_of_ble_eq_true rfl)) dX1_seek_6 (kI (fun v3 h2 => ?_)) xNo
  refine x_if_eq (pc := 9) 21 (by decide) dX1_seek_9 ?_ ?_
  · refine x_iconst (pc := 21) (v := (-1)) (by decide) dX1_seek_21 ?_
    exact x_iret (pc := 22) dX1_seek_22
  · refine x_aload_nR (pc := 12) (a := this) 0 rfl rfl dX1_seek_12 ?_
    refine x_bipush (pc := 13) (v := 32) (by decide) dX1_seek_13 ?_
    refine x_callV (pc := 15) (As := [.int (32 : Int32)]) (rest := []) (lev' := 2) si_X1_287 (m_B_areBits h2 this (32 : Int32)) (fun z e => grd1 e) rfl rfl (by decide) (cat4 (Nat.le_of_ble_eq_true rfl)) dX1_seek_15 (kI (fun v5 h4 => ?_)) xNo
    refine x_if_ne (pc := 18) 23 (by decide) dX1_seek_18 ?_ ?_
    · refine x_aload_nR (pc := 23) (a := this) 0 rfl rfl dX1_seek_23 ?_
      refine x_iconst (pc := 24) (v := 0) (by decide) dX1_seek_24 ?_
      refine x_pI (pc := 25) fi_X1_116 (fun z => absurd z (by decide)) dX1_seek_25 ?_
      intro h6
      refine x_iconst (pc := 28) (v := 0) (by decide) dX1_seek_28 ?_
      refine x_istore_n (pc := 29) (lv' := [(2, .int (0 : Int32)), (0, .ref this), (1, .int x1)]) rfl (by decide) rfl dX1_seek_29 ?_
      refine Sim.lv [1, 2, 0] rfl ?_
      exact v_B_seek_l30 FU h6 this x1 (0 : Int32)
    · refine x_iconst (pc := 21) (v := (-1)) (by decide) dX1_seek_21 ?_
      exact x_iret (pc := 22) dX1_seek_22
abbrev Y_B_seekAt : Yx := (RX1, cX1_seekAt, 2, 2, (some .int), [], false)
def c_B_seekAt (h : PH) (this : Nat) (x1 : Int32) : Option RH :=
  grd h this [0] (
  gI h this [0] 13 fun v1 =>
  hI (c_B_isIn h x1 (0 : Int32) (v1 - (1 : Int32))) noX fun v3 h2 =>
  if v3 = 0 then
    rI (-1 : Int32) h2
  else
    gQ h2 this [0] 12 fun v4 =>
    nn v4 fun a5 =>
    ldI h2 a5 0 x1 fun v7 =>
    rI v7 h2)
set_option maxHeartbeats 4000000 in
theorem m_B_seekAt (h : PH) (this : Nat) (x1 : Int32) : MM yX1_seekAt (ws_ yX1_seekAt cX1_seekAt 2 (some .int)) 2 [.ref this, .int x1] h (c_B_seekAt h this x1) := by
  refine MM.of (by decide) rfl (by decide) (Nat.le_of_ble_eq_true rfl) (own := RX1) (cc := cX1_seekAt) (maxL := 2) (lev := 2) (rt := (some .int)) (ini := false) ?_
  show Sim Y_B_seekAt h 0 [(0, .ref this), (1, .int x1)] [] _
  unfold c_B_seekAt
  refine x_grd ?_
  refine x_iload_n (pc := 0) 1 rfl rfl dX1_seekAt_0 ?_
  refine x_iconst (pc := 1) (v := 0) (by decide) dX1_seekAt_1 ?_
  refine x_aload_nR (pc := 2) (a := this) 0 rfl rfl dX1_seekAt_2 ?_
  refine x_getI (pc := 3) fi_X1_116 dX1_seekAt_3 ?_
  intro v1
  refine x_iconst (pc := 6) (v := 1) (by decide) dX1_seekAt_6 ?_
  refine x_isub (pc := 7) dX1_seekAt_7 ?_
  refine x_callS (pc := 8) (As := [.int x1, .int (0 : Int32), .int (v1 - (1 : Int32))]) (rest := []) (lev' := 1) si_X1_182 (m_B_isIn h x1 (0 : Int32) (v1 - (1 : Int32))) rfl rfl (by decide) (cat4 (Nat.le_of_ble_eq_true rfl)) dX1_seekAt_8 (kI (fun v3 h2 => ?_)) xNo
  refine x_if_eq (pc := 11) 23 (by decide) dX1_seekAt_11 ?_ ?_
  · refine x_iconst (pc := 23) (v := (-1)) (by decide) dX1_seekAt_23 ?_
    exact x_iret (pc := 24) dX1_seekAt_24
  · refine x_aload_nR (pc := 14) (a := this) 0 rfl rfl dX1_seekAt_14 ?_
    refine x_getQ (pc := 15) fi_X1_112 dX1_seekAt_15 ?_
    intro v4
    refine x_iload_n (pc := 18) 1 rfl rfl dX1_seekAt_18 ?_
    refine x_nn (fun a5 e6 => ?_)
    subst e6
    refine x_iald (pc := 19) dX1_seekAt_19 ?_
    intro v7
    refine x_goto (pc := 20) 24 (by decide) dX1_seekAt_20 ?_
    exact x_iret (pc := 24) dX1_seekAt_24
theorem si_X1_296 : SiV RX1 296 3 yX4_unpack cX4_unpack 3 none 1 := ⟨_, _, _, ci_3.1, by decide, lw_V q1081 q1082 q1083 q115 q1084, ⟨rfl, by decide, by decide, by decide +kernel⟩, by decide⟩
abbrev Y_B_undo : Yx := (RX1, cX1_undo, 1, 6, (some .int), [], false)
def c_B_undo (h : PH) (this : Nat) : Option RH :=
  grd h this [0] (
  gI h this [0] 15 fun v1 =>
  if v1 = 0 then
    rI (-1 : Int32) h
  else
    gI h this [0] 15 fun v2 =>
    pI h this [0] 15 (v2 - (1 : Int32)) fun h3 =>
    gQ h3 this [0] 7 fun v4 =>
    gQ h3 this [0] 14 fun v5 =>
    gI h3 this [0] 15 fun v6 =>
    nn v5 fun a7 =>
    ldQ h3 a7 v6 fun v9 =>
    nn v9 fun a10 =>
    nn v4 fun a12 =>
    hV (c_S_unpack h3 a12 a10) noX fun h14 =>
    gI h14 this [0] 15 fun v15 =>
    rI v15 h14)
set_option maxHeartbeats 4000000 in
theorem m_B_undo (h : PH) (this : Nat) : MM yX1_undo (ws_ yX1_undo cX1_undo 1 (some .int)) 6 [.ref this] h (c_B_undo h this) := by
  refine MM.of (by decide) rfl (by decide) (Nat.le_of_ble_eq_true rfl) (own := RX1) (cc := cX1_undo) (maxL := 1) (lev := 6) (rt := (some .int)) (ini := false) ?_
  show Sim Y_B_undo h 0 [(0, .ref this)] [] _
  unfold c_B_undo
  refine x_grd ?_
  refine x_aload_nR (pc := 0) (a := this) 0 rfl rfl dX1_undo_0 ?_
  refine x_getI (pc := 1) fi_X1_169 dX1_undo_1 ?_
  intro v1
  refine x_if_ne (pc := 4) 9 (by decide) dX1_undo_4 ?_ ?_
  · refine x_aload_nR (pc := 9) (a := this) 0 rfl rfl dX1_undo_9 ?_
    refine x_dup (pc := 10) rfl dX1_undo_10 ?_
    refine x_getI (pc := 11) fi_X1_169 dX1_undo_11 ?_
    intro v2
    refine x_iconst (pc := 14) (v := 1) (by decide) dX1_undo_14 ?_
    refine x_isub (pc := 15) dX1_undo_15 ?_
    refine x_pI (pc := 16) fi_X1_169 (fun z => absurd z (by decide)) dX1_undo_16 ?_
    intro h3
    refine x_aload_nR (pc := 19) (a := this) 0 rfl rfl dX1_undo_19 ?_
    refine x_getQ (pc := 20) fi_X1_85 dX1_undo_20 ?_
    intro v4
    refine x_aload_nR (pc := 23) (a := this) 0 rfl rfl dX1_undo_23 ?_
    refine x_getQ (pc := 24) fi_X1_122 dX1_undo_24 ?_
    intro v5
    refine x_aload_nR (pc := 27) (a := this) 0 rfl rfl dX1_undo_27 ?_
    refine x_getI (pc := 28) fi_X1_169 dX1_undo_28 ?_
    intro v6
    refine x_nn (fun a7 e8 => ?_)
    subst e8
    refine x_aald (pc := 31) dX1_undo_31 ?_
    intro v9
    refine x_nn (fun a10 e11 => ?_)
    subst e11
    refine x_nn (fun a12 e13 => ?_)
    subst e13
    refine x_callV (pc := 32) (As := [.ref a10]) (rest := []) (lev' := 5) si_X1_296 (m_S_unpack h3 a12 a10) (fun z e => grd1 e) rfl rfl (by decide) (cat4 (Nat.le_of_ble_eq_true rfl)) dX1_undo_32 (kV (fun h14 => ?_)) xNo
    refine x_aload_nR (pc := 35) (a := this) 0 rfl rfl dX1_undo_35 ?_
    refine x_getI (pc := 36) fi_X1_169 dX1_undo_36 ?_
    intro v15
    exact x_iret (pc := 39) dX1_undo_39
  · refine x_iconst (pc := 7) (v := (-1)) (by decide) dX1_undo_7 ?_
    exact x_iret (pc := 8) dX1_undo_8
abbrev Y_B_keep : Yx := (RX1, cX1_keep, 2, 9, none, [], false)
def c_B_keep_j34 (h : PH) (this : Nat) (x1 : Nat) : Option RH :=
  gQ h this [0] 14 fun v1 =>
  gI h this [0] 15 fun v2 =>
  nn v1 fun a3 =>
  stQ h a3 v2 (some x1) fun h5 =>
  gI h5 this [0] 15 fun v6 =>
  pI h5 this [0] 15 (v6 + (1 : Int32)) fun h7 =>
  rV h7
def c_B_keep (h : PH) (this : Nat) (x1 : Nat) : Option RH :=
  grd h this [0] (
  gI h this [0] 15 fun v1 =>
  if v1 = (8 : Int32) then
    gQ h this [0] 14 fun v2 =>
    gQ h this [0] 14 fun v3 =>
    nn v3 fun a4 =>
    nn v2 fun a6 =>
    cpQ2 h a6 a4 (1 : Int32) (0 : Int32) (7 : Int32) fun h8 =>
    gI h8 this [0] 15 fun v9 =>
    pI h8 this [0] 15 (v9 - (1 : Int32)) fun h10 =>
    c_B_keep_j34 h10 this x1
  else
    c_B_keep_j34 h this x1)
set_option maxHeartbeats 4000000 in
theorem w_B_keep_j34 (h : PH) (this : Nat) (x1 : Nat) : Sim Y_B_keep h 34 [(0, .ref this), (1, .ref x1)] [] (c_B_keep_j34 h this x1) := by
  unfold c_B_keep_j34
  refine x_aload_nR (pc := 34) (a := this) 0 rfl rfl dX1_keep_34 ?_
  refine x_getQ (pc := 35) fi_X1_122 dX1_keep_35 ?_
  intro v1
  refine x_aload_nR (pc := 38) (a := this) 0 rfl rfl dX1_keep_38 ?_
  refine x_getI (pc := 39) fi_X1_169 dX1_keep_39 ?_
  intro v2
  refine x_aload_nR (pc := 42) (a := x1) 1 rfl rfl dX1_keep_42 ?_
  refine x_nn (fun a3 e4 => ?_)
  subst e4
  refine x_aast (pc := 43) (r := (some x1)) dX1_keep_43 ?_
  intro h5
  refine x_aload_nR (pc := 44) (a := this) 0 rfl rfl dX1_keep_44 ?_
  refine x_dup (pc := 45) rfl dX1_keep_45 ?_
  refine x_getI (pc := 46) fi_X1_169 dX1_keep_46 ?_
  intro v6
  refine x_iconst (pc := 49) (v := 1) (by decide) dX1_keep_49 ?_
  refine x_iadd (pc := 50) dX1_keep_50 ?_
  refine x_pI (pc := 51) fi_X1_169 (fun z => absurd z (by decide)) dX1_keep_51 ?_
  intro h7
  exact x_vret (pc := 54) dX1_keep_54
set_option maxHeartbeats 4000000 in
theorem m_B_keep (h : PH) (this : Nat) (x1 : Nat) : MM yX1_keep (ws_ yX1_keep cX1_keep 2 none) 9 [.ref this, .ref x1] h (c_B_keep h this x1) := by
  refine MM.of (by decide) rfl (by decide) (Nat.le_of_ble_eq_true rfl) (own := RX1) (cc := cX1_keep) (maxL := 2) (lev := 9) (rt := none) (ini := false) ?_
  show Sim Y_B_keep h 0 [(0, .ref this), (1, .ref x1)] [] _
  unfold c_B_keep
  refine x_grd ?_
  refine x_aload_nR (pc := 0) (a := this) 0 rfl rfl dX1_keep_0 ?_
  refine x_getI (pc := 1) fi_X1_169 dX1_keep_1 ?_
  intro v1
  refine x_bipush (pc := 4) (v := 8) (by decide) dX1_keep_4 ?_
  refine x_icmp_ne (pc := 6) 34 (by decide) dX1_keep_6 ?_ ?_
  · exact w_B_keep_j34 h this x1
  · refine x_aload_nR (pc := 9) (a := this) 0 rfl rfl dX1_keep_9 ?_
    refine x_getQ (pc := 10) fi_X1_122 dX1_keep_10 ?_
    intro v2
    refine x_iconst (pc := 13) (v := 1) (by decide) dX1_keep_13 ?_
    refine x_aload_nR (pc := 14) (a := this) 0 rfl rfl dX1_keep_14 ?_
    refine x_getQ (pc := 15) fi_X1_122 dX1_keep_15 ?_
    intro v3
    refine x_iconst (pc := 18) (v := 0) (by decide) dX1_keep_18 ?_
    refine x_bipush (pc := 19) (v := 7) (by decide) dX1_keep_19 ?_
    refine x_nn (fun a4 e5 => ?_)
    subst e5
    refine x_nn (fun a6 e7 => ?_)
    subst e7
    refine x_acopy2 (pc := 21) q1134 (by omega) (cat4 (Nat.le_of_ble_eq_true rfl)) dX1_keep_21 (fun h8 => ?_)
    refine x_aload_nR (pc := 24) (a := this) 0 rfl rfl dX1_keep_24 ?_
    refine x_dup (pc := 25) rfl dX1_keep_25 ?_
    refine x_getI (pc := 26) fi_X1_169 dX1_keep_26 ?_
    intro v9
    refine x_iconst (pc := 29) (v := 1) (by decide) dX1_keep_29 ?_
    refine x_isub (pc := 30) dX1_keep_30 ?_
    refine x_pI (pc := 31) fi_X1_169 (fun z => absurd z (by decide)) dX1_keep_31 ?_
    intro h10
    exact w_B_keep_j34 h10 this x1
theorem si_X1_300 : SiV RX1 300 3 yX4_whyNot cX4_whyNot 5 (some .int) 4 := ⟨_, _, _, ci_3.1, by decide, lw_V q1098 q1099 q1100 q115 q1101, ⟨rfl, by decide, by decide, by decide +kernel⟩, by decide⟩
theorem si_X1_304 : SiV RX1 304 3 yX4_pack cX4_pack 3 (some (.array (.object "BitRopes$Packed"))) 0 := ⟨_, _, _, ci_3.1, by decide, lw_V q1104 q1105 q1106 q115 q1107, ⟨rfl, by decide, by decide, by decide +kernel⟩, by decide⟩
theorem si_X1_308 : SiV RX1 308 0 yX1_keep cX1_keep 2 none 1 := ⟨_, _, _, ci_0.1, by decide, lw_V q1130 q1132 qs23 q110 q1133, ⟨rfl, by decide, by decide, by decide +kernel⟩, by decide⟩
theorem si_X1_311 : SiV RX1 311 3 yX4_does cX4_does 6 none 4 := ⟨_, _, _, ci_3.1, by decide, lw_V q1135 q1136 q1137 q115 q1138, ⟨rfl, by decide, by decide, by decide +kernel⟩, by decide⟩
abbrev Y_B_acts : Yx := (RX1, cX1_acts, 6, 24, (some .int), [], false)
def c_B_acts (h : PH) (this : Nat) (x1 : Int32) (x2 : Int32) (x3 : Int32) (x4 : Int32) : Option RH :=
  grd h this [0] (
  gQ h this [0] 7 fun v1 =>
  nn v1 fun a2 =>
  hI (c_S_whyNot h a2 x1 x2 x3 x4) noX fun v5 h4 =>
  if v5 = 0 then
    gQ h4 this [0] 7 fun v6 =>
    nn v6 fun a7 =>
    hQ (c_S_pack h4 a7) noX fun v10 h9 =>
    nn v10 fun a11 =>
    hV (c_B_keep h9 this a11) noX fun h13 =>
    gQ h13 this [0] 7 fun v14 =>
    nn v14 fun a15 =>
    hV (c_S_does h13 a15 x1 x2 x3 x4) noX fun h17 =>
    rI (0 : Int32) h17
  else
    rI v5 h4)
set_option maxHeartbeats 4000000 in
theorem m_B_acts (h : PH) (this : Nat) (x1 : Int32) (x2 : Int32) (x3 : Int32) (x4 : Int32) : MM yX1_acts (ws_ yX1_acts cX1_acts 6 (some .int)) 24 [.ref this, .int x1, .int x2, .int x3, .int x4] h (c_B_acts h this x1 x2 x3 x4) := by
  refine MM.of (by decide) rfl (by decide) (Nat.le_of_ble_eq_true rfl) (own := RX1) (cc := cX1_acts) (maxL := 6) (lev := 24) (rt := (some .int)) (ini := false) ?_
  show Sim Y_B_acts h 0 [(0, .ref this), (1, .int x1), (2, .int x2), (3, .int x3), (4, .int x4)] [] _
  unfold c_B_acts
  refine x_grd ?_
  refine x_aload_nR (pc := 0) (a := this) 0 rfl rfl dX1_acts_0 ?_
  refine x_getQ (pc := 1) fi_X1_85 dX1_acts_1 ?_
  intro v1
  refine x_iload_n (pc := 4) 1 rfl rfl dX1_acts_4 ?_
  refine x_iload_n (pc := 5) 2 rfl rfl dX1_acts_5 ?_
  refine x_iload_n (pc := 6) 3 rfl rfl dX1_acts_6 ?_
  refine x_iload (pc := 7) 4 rfl dX1_acts_7 ?_
  refine x_nn (fun a2 e3 => ?_)
  subst e3
  refine x_callV (pc := 9) (As := [.int x1, .int x2, .int x3, .int x4]) (rest := []) (lev' := 4) si_X1_300 (m_S_whyNot h a2 x1 x2 x3 x4) (fun z e => grd1 e) rfl rfl (by decide) (cat4 (Nat.le_of_ble_eq_true rfl)) dX1_acts_9 (kI (fun v5 h4 => ?_)) xNo
  refine x_istore (pc := 12) (lv' := [(5, .int v5), (0, .ref this), (1, .int x1), (2, .int x2), (3, .int x3), (4, .int x4)]) (by decide) rfl dX1_acts_12 ?_
  refine x_iload (pc := 14) 0 rfl dX1_acts_14 ?_
  refine x_if_eq (pc := 16) 22 (by decide) dX1_acts_16 ?_ ?_
  · refine x_aload_nR (pc := 22) (a := this) 1 rfl rfl dX1_acts_22 ?_
    refine x_aload_nR (pc := 23) (a := this) 1 rfl rfl dX1_acts_23 ?_
    refine x_getQ (pc := 24) fi_X1_85 dX1_acts_24 ?_
    intro v6
    refine x_nn (fun a7 e8 => ?_)
    subst e8
    refine x_callV (pc := 27) (As := []) (rest := [.ref this]) (lev' := 18) si_X1_304 (m_S_pack h4 a7) (fun z e => grd1 e) rfl rfl (by decide) (cat4 (Nat.le_of_ble_eq_true rfl)) dX1_acts_27 (kQ (fun v10 h9 => ?_)) xNo
    refine x_nn (fun a11 e12 => ?_)
    subst e12
    refine x_callV (pc := 30) (As := [.ref a11]) (rest := []) (lev' := 9) si_X1_308 (m_B_keep h9 this a11) (fun z e => grd1 e) rfl rfl (by decide) (cat4 (Nat.le_of_ble_eq_true rfl)) dX1_acts_30 (kV (fun h13 => ?_)) xNo
    refine x_aload_nR (pc := 33) (a := this) 1 rfl rfl dX1_acts_33 ?_
    refine x_getQ (pc := 34) fi_X1_85 dX1_acts_34 ?_
    intro v14
    refine x_iload_n (pc := 37) 2 rfl rfl dX1_acts_37 ?_
    refine x_iload_n (pc := 38) 3 rfl rfl dX1_acts_38 ?_
    refine x_iload_n (pc := 39) 4 rfl rfl dX1_acts_39 ?_
    refine x_iload (pc := 40) 5 rfl dX1_acts_40 ?_
    refine x_nn (fun a15 e16 => ?_)
    subst e16
    refine x_callV (pc := 42) (As := [.int x1, .int x2, .int x3, .int x4]) (rest := []) (lev' := 23) si_X1_311 (m_S_does h13 a15 x1 x2 x3 x4) (fun z e => grd1 e) rfl rfl (by decide) (cat4 (Nat.le_of_ble_eq_true rfl)) dX1_acts_42 (kV (fun h17 => ?_)) xNo
    refine x_iconst (pc := 45) (v := 0) (by decide) dX1_acts_45 ?_
    exact x_iret (pc := 46) dX1_acts_46
  · refine x_iload (pc := 19) 0 rfl dX1_acts_19 ?_
    exact x_iret (pc := 21) dX1_acts_21
theorem si_X1_315 : SiV RX1 315 0 yX1_acts cX1_acts 6 (some .int) 4 := ⟨_, _, _, ci_0.1, by decide, lw_V q1094 q1096 qs22 q110 q1097, ⟨rfl, by decide, by decide, by decide +kernel⟩, by decide⟩
abbrev Y_B_put : Yx := (RX1, cX1_put, 4, 25, (some .int), [], false)
def c_B_put (h : PH) (this : Nat) (x1 : Int32) (x2 : Int32) (x3 : Int32) : Option RH :=
  grd h this [0] (
  hI (c_B_isRow h this x1) noX fun v2 h1 =>
  if v2 = 0 then
    rI (-1 : Int32) h1
  else
    hI (c_B_isIn h1 x3 (0 : Int32) (1 : Int32)) noX fun v4 h3 =>
    if v4 = 0 then
      rI (-1 : Int32) h3
    else
      if 0 ≤ x2 then
        hI (c_B_acts h3 this (0 : Int32) x1 x2 x3) noX fun v6 h5 =>
        rI v6 h5
      else
        rI (1 : Int32) h3)
set_option maxHeartbeats 4000000 in
theorem m_B_put (h : PH) (this : Nat) (x1 : Int32) (x2 : Int32) (x3 : Int32) : MM yX1_put (ws_ yX1_put cX1_put 4 (some .int)) 25 [.ref this, .int x1, .int x2, .int x3] h (c_B_put h this x1 x2 x3) := by
  refine MM.of (by decide) rfl (by decide) (Nat.le_of_ble_eq_true rfl) (own := RX1) (cc := cX1_put) (maxL := 4) (lev := 25) (rt := (some .int)) (ini := false) ?_
  show Sim Y_B_put h 0 [(0, .ref this), (1, .int x1), (2, .int x2), (3, .int x3)] [] _
  unfold c_B_put
  refine x_grd ?_
  refine x_aload_nR (pc := 0) (a := this) 0 rfl rfl dX1_put_0 ?_
  refine x_iload_n (pc := 1) 1 rfl rfl dX1_put_1 ?_
  refine x_callV (pc := 2) (As := [.int x1]) (rest := []) (lev' := 2) si_X1_186 (m_B_isRow h this x1) (fun z e => grd1 e) rfl rfl (by decide) (cat4 (Nat.le_of_ble_eq_true rfl)) dX1_put_2 (kI (fun v2 h1 => ?_)) xNo
  refine x_if_eq (pc := 5) 36 (by decide) dX1_put_5 ?_ ?_
  · refine x_iconst (pc := 36) (v := (-1)) (by decide) dX1_put_36 ?_
    exact x_iret (pc := 37) dX1_put_37
  · refine x_iload_n (pc := 8) 3 rfl rfl dX1_put_8 ?_
    refine x_iconst (pc := 9) (v := 0) (by decide) dX1_put_9 ?_
    refine x_iconst (pc := 10) (v := 1) (by decide) dX1_put_10 ?_
    refine x_callS (pc := 11) (As := [.int x3, .int (0 : Int32), .int (1 : Int32)]) (rest := []) (lev' := 1) si_X1_182 (m_B_isIn h1 x3 (0 : Int32) (1 : Int32)) rfl rfl (by decide) (cat4 (Nat.le_of_ble_eq_true rfl)) dX1_put_11 (kI (fun v4 h3 => ?_)) xNo
    refine x_if_eq (pc := 14) 36 (by decide) dX1_put_14 ?_ ?_
    · refine x_iconst (pc := 36) (v := (-1)) (by decide) dX1_put_36 ?_
      exact x_iret (pc := 37) dX1_put_37
    · refine x_iload_n (pc := 17) 2 rfl rfl dX1_put_17 ?_
      refine x_if_ge (pc := 18) 25 (by decide) dX1_put_18 ?_ ?_
      · refine x_aload_nR (pc := 25) (a := this) 0 rfl rfl dX1_put_25 ?_
        refine x_iconst (pc := 26) (v := 0) (by decide) dX1_put_26 ?_
        refine x_iload_n (pc := 27) 1 rfl rfl dX1_put_27 ?_
        refine x_iload_n (pc := 28) 2 rfl rfl dX1_put_28 ?_
        refine x_iload_n (pc := 29) 3 rfl rfl dX1_put_29 ?_
        refine x_callV (pc := 30) (As := [.int (0 : Int32), .int x1, .int x2, .int x3]) (rest := []) (lev' := 24) si_X1_315 (m_B_acts h3 this (0 : Int32) x1 x2 x3) (fun z e => grd1 e) rfl rfl (by decide) (cat4 (Nat.le_of_ble_eq_true rfl)) dX1_put_30 (kI (fun v6 h5 => ?_)) xNo
        refine x_goto (pc := 33) 37 (by decide) dX1_put_33 ?_
        exact x_iret (pc := 37) dX1_put_37
      · refine x_iconst (pc := 21) (v := 1) (by decide) dX1_put_21 ?_
        refine x_goto (pc := 22) 37 (by decide) dX1_put_22 ?_
        exact x_iret (pc := 37) dX1_put_37
abbrev Y_B_set : Yx := (RX1, cX1_set, 4, 25, (some .int), [], false)
def c_B_set (h : PH) (this : Nat) (x1 : Int32) (x2 : Int32) (x3 : Int32) : Option RH :=
  grd h this [0] (
  hI (c_B_isRow h this x1) noX fun v2 h1 =>
  if v2 = 0 then
    rI (-1 : Int32) h1
  else
    hI (c_B_isIn h1 x3 (0 : Int32) (1 : Int32)) noX fun v4 h3 =>
    if v4 = 0 then
      rI (-1 : Int32) h3
    else
      if 0 ≤ x2 then
        hI (c_B_acts h3 this (1 : Int32) x1 x2 x3) noX fun v6 h5 =>
        rI v6 h5
      else
        rI (1 : Int32) h3)
set_option maxHeartbeats 4000000 in
theorem m_B_set (h : PH) (this : Nat) (x1 : Int32) (x2 : Int32) (x3 : Int32) : MM yX1_set (ws_ yX1_set cX1_set 4 (some .int)) 25 [.ref this, .int x1, .int x2, .int x3] h (c_B_set h this x1 x2 x3) := by
  refine MM.of (by decide) rfl (by decide) (Nat.le_of_ble_eq_true rfl) (own := RX1) (cc := cX1_set) (maxL := 4) (lev := 25) (rt := (some .int)) (ini := false) ?_
  show Sim Y_B_set h 0 [(0, .ref this), (1, .int x1), (2, .int x2), (3, .int x3)] [] _
  unfold c_B_set
  refine x_grd ?_
  refine x_aload_nR (pc := 0) (a := this) 0 rfl rfl dX1_set_0 ?_
  refine x_iload_n (pc := 1) 1 rfl rfl dX1_set_1 ?_
  refine x_callV (pc := 2) (As := [.int x1]) (rest := []) (lev' := 2) si_X1_186 (m_B_isRow h this x1) (fun z e => grd1 e) rfl rfl (by decide) (cat4 (Nat.le_of_ble_eq_true rfl)) dX1_set_2 (kI (fun v2 h1 => ?_)) xNo
  refine x_if_eq (pc := 5) 36 (by decide) dX1_set_5 ?_ ?_
  · refine x_iconst (pc := 36) (v := (-1)) (by decide) dX1_set_36 ?_
    exact x_iret (pc := 37) dX1_set_37
  · refine x_iload_n (pc := 8) 3 rfl rfl dX1_set_8 ?_
    refine x_iconst (pc := 9) (v := 0) (by decide) dX1_set_9 ?_
    refine x_iconst (pc := 10) (v := 1) (by decide) dX1_set_10 ?_
    refine x_callS (pc := 11) (As := [.int x3, .int (0 : Int32), .int (1 : Int32)]) (rest := []) (lev' := 1) si_X1_182 (m_B_isIn h1 x3 (0 : Int32) (1 : Int32)) rfl rfl (by decide) (cat4 (Nat.le_of_ble_eq_true rfl)) dX1_set_11 (kI (fun v4 h3 => ?_)) xNo
    refine x_if_eq (pc := 14) 36 (by decide) dX1_set_14 ?_ ?_
    · refine x_iconst (pc := 36) (v := (-1)) (by decide) dX1_set_36 ?_
      exact x_iret (pc := 37) dX1_set_37
    · refine x_iload_n (pc := 17) 2 rfl rfl dX1_set_17 ?_
      refine x_if_ge (pc := 18) 25 (by decide) dX1_set_18 ?_ ?_
      · refine x_aload_nR (pc := 25) (a := this) 0 rfl rfl dX1_set_25 ?_
        refine x_iconst (pc := 26) (v := 1) (by decide) dX1_set_26 ?_
        refine x_iload_n (pc := 27) 1 rfl rfl dX1_set_27 ?_
        refine x_iload_n (pc := 28) 2 rfl rfl dX1_set_28 ?_
        refine x_iload_n (pc := 29) 3 rfl rfl dX1_set_29 ?_
        refine x_callV (pc := 30) (As := [.int (1 : Int32), .int x1, .int x2, .int x3]) (rest := []) (lev' := 24) si_X1_315 (m_B_acts h3 this (1 : Int32) x1 x2 x3) (fun z e => grd1 e) rfl rfl (by decide) (cat4 (Nat.le_of_ble_eq_true rfl)) dX1_set_30 (kI (fun v6 h5 => ?_)) xNo
        refine x_goto (pc := 33) 37 (by decide) dX1_set_33 ?_
        exact x_iret (pc := 37) dX1_set_37
      · refine x_iconst (pc := 21) (v := 1) (by decide) dX1_set_21 ?_
        refine x_goto (pc := 22) 37 (by decide) dX1_set_22 ?_
        exact x_iret (pc := 37) dX1_set_37
abbrev Y_B_isFar : Yx := (RX1, cX1_isFar, 2, 2, (some .boolean), [], false)
def c_B_isFar (h : PH) (this : Nat) (x1 : Int32) : Option RH :=
  grd h this [0] (
  hI (c_B_isIn h x1 (0 : Int32) (999 : Int32)) noX fun v2 h1 =>
  if v2 = 0 then
    rZ (1 : Int32) h1
  else
    rZ (0 : Int32) h1)
set_option maxHeartbeats 4000000 in
theorem m_B_isFar (h : PH) (this : Nat) (x1 : Int32) : MM yX1_isFar (ws_ yX1_isFar cX1_isFar 2 (some .boolean)) 2 [.ref this, .int x1] h (c_B_isFar h this x1) := by
  refine MM.of (by decide) rfl (by decide) (Nat.le_of_ble_eq_true rfl) (own := RX1) (cc := cX1_isFar) (maxL := 2) (lev := 2) (rt := (some .boolean)) (ini := false) ?_
  show Sim Y_B_isFar h 0 [(0, .ref this), (1, .int x1)] [] _
  unfold c_B_isFar
  refine x_grd ?_
  refine x_iload_n (pc := 0) 1 rfl rfl dX1_isFar_0 ?_
  refine x_iconst (pc := 1) (v := 0) (by decide) dX1_isFar_1 ?_
  refine x_sipush (pc := 2) (v := 999) (by decide) dX1_isFar_2 ?_
  refine x_callS (pc := 5) (As := [.int x1, .int (0 : Int32), .int (999 : Int32)]) (rest := []) (lev' := 1) si_X1_182 (m_B_isIn h x1 (0 : Int32) (999 : Int32)) rfl rfl (by decide) (cat4 (Nat.le_of_ble_eq_true rfl)) dX1_isFar_5 (kI (fun v2 h1 => ?_)) xNo
  refine x_if_ne (pc := 8) 15 (by decide) dX1_isFar_8 ?_ ?_
  · refine x_iconst (pc := 15) (v := 0) (by decide) dX1_isFar_15 ?_
    exact x_zret (pc := 16) dX1_isFar_16
  · refine x_iconst (pc := 11) (v := 1) (by decide) dX1_isFar_11 ?_
    refine x_goto (pc := 12) 16 (by decide) dX1_isFar_12 ?_
    exact x_zret (pc := 16) dX1_isFar_16
theorem si_X1_318 : SiV RX1 318 0 yX1_isFar cX1_isFar 2 (some .boolean) 1 := ⟨_, _, _, ci_0.1, by decide, lw_V q1198 q1200 qs30 q110 q1201, ⟨rfl, by decide, by decide, by decide +kernel⟩, by decide⟩
abbrev Y_B_cut : Yx := (RX1, cX1_cut, 4, 25, (some .int), [], false)
def c_B_cut (h : PH) (this : Nat) (x1 : Int32) (x2 : Int32) (x3 : Int32) : Option RH :=
  grd h this [0] (
  hI (c_B_isRow h this x1) noX fun v2 h1 =>
  if v2 = 0 then
    rI (-1 : Int32) h1
  else
    hI (c_B_isIn h1 x3 (1 : Int32) (600 : Int32)) noX fun v4 h3 =>
    if v4 = 0 then
      rI (-1 : Int32) h3
    else
      hI (c_B_isFar h3 this x2) noX fun v6 h5 =>
      if v6 = 0 then
        hI (c_B_acts h5 this (2 : Int32) x1 x2 x3) noX fun v8 h7 =>
        rI v8 h7
      else
        rI (1 : Int32) h5)
set_option maxHeartbeats 4000000 in
theorem m_B_cut (h : PH) (this : Nat) (x1 : Int32) (x2 : Int32) (x3 : Int32) : MM yX1_cut (ws_ yX1_cut cX1_cut 4 (some .int)) 25 [.ref this, .int x1, .int x2, .int x3] h (c_B_cut h this x1 x2 x3) := by
  refine MM.of (by decide) rfl (by decide) (Nat.le_of_ble_eq_true rfl) (own := RX1) (cc := cX1_cut) (maxL := 4) (lev := 25) (rt := (some .int)) (ini := false) ?_
  show Sim Y_B_cut h 0 [(0, .ref this), (1, .int x1), (2, .int x2), (3, .int x3)] [] _
  unfold c_B_cut
  refine x_grd ?_
  refine x_aload_nR (pc := 0) (a := this) 0 rfl rfl dX1_cut_0 ?_
  refine x_iload_n (pc := 1) 1 rfl rfl dX1_cut_1 ?_
  refine x_callV (pc := 2) (As := [.int x1]) (rest := []) (lev' := 2) si_X1_186 (m_B_isRow h this x1) (fun z e => grd1 e) rfl rfl (by decide) (cat4 (Nat.le_of_ble_eq_true rfl)) dX1_cut_2 (kI (fun v2 h1 => ?_)) xNo
  refine x_if_eq (pc := 5) 42 (by decide) dX1_cut_5 ?_ ?_
  · refine x_iconst (pc := 42) (v := (-1)) (by decide) dX1_cut_42 ?_
    exact x_iret (pc := 43) dX1_cut_43
  · refine x_iload_n (pc := 8) 3 rfl rfl dX1_cut_8 ?_
    refine x_iconst (pc := 9) (v := 1) (by decide) dX1_cut_9 ?_
    refine x_sipush (pc := 10) (v := 600) (by decide) dX1_cut_10 ?_
    refine x_callS (pc := 13) (As := [.int x3, .int (1 : Int32), .int (600 : Int32)]) (rest := []) (lev' := 1) si_X1_182 (m_B_isIn h1 x3 (1 : Int32) (600 : Int32)) rfl rfl (by decide) (cat4 (Nat.le_of_ble_eq_true rfl)) dX1_cut_13 (kI (fun v4 h3 => ?_)) xNo
    refine x_if_eq (pc := 16) 42 (by decide) dX1_cut_16 ?_ ?_
    · refine x_iconst (pc := 42) (v := (-1)) (by decide) dX1_cut_42 ?_
      exact x_iret (pc := 43) dX1_cut_43
    · refine x_aload_nR (pc := 19) (a := this) 0 rfl rfl dX1_cut_19 ?_
      refine x_iload_n (pc := 20) 2 rfl rfl dX1_cut_20 ?_
      refine x_callV (pc := 21) (As := [.int x2]) (rest := []) (lev' := 2) si_X1_318 (m_B_isFar h3 this x2) (fun z e => grd1 e) rfl rfl (by decide) (cat4 (Nat.le_of_ble_eq_true rfl)) dX1_cut_21 (kI (fun v6 h5 => ?_)) xNo
      refine x_if_eq (pc := 24) 31 (by decide) dX1_cut_24 ?_ ?_
      · refine x_aload_nR (pc := 31) (a := this) 0 rfl rfl dX1_cut_31 ?_
        refine x_iconst (pc := 32) (v := 2) (by decide) dX1_cut_32 ?_
        refine x_iload_n (pc := 33) 1 rfl rfl dX1_cut_33 ?_
        refine x_iload_n (pc := 34) 2 rfl rfl dX1_cut_34 ?_
        refine x_iload_n (pc := 35) 3 rfl rfl dX1_cut_35 ?_
        refine x_callV (pc := 36) (As := [.int (2 : Int32), .int x1, .int x2, .int x3]) (rest := []) (lev' := 24) si_X1_315 (m_B_acts h5 this (2 : Int32) x1 x2 x3) (fun z e => grd1 e) rfl rfl (by decide) (cat4 (Nat.le_of_ble_eq_true rfl)) dX1_cut_36 (kI (fun v8 h7 => ?_)) xNo
        refine x_goto (pc := 39) 43 (by decide) dX1_cut_39 ?_
        exact x_iret (pc := 43) dX1_cut_43
      · refine x_iconst (pc := 27) (v := 1) (by decide) dX1_cut_27 ?_
        refine x_goto (pc := 28) 43 (by decide) dX1_cut_28 ?_
        exact x_iret (pc := 43) dX1_cut_43
abbrev Y_B_turn : Yx := (RX1, cX1_turn, 4, 25, (some .int), [], false)
def c_B_turn (h : PH) (this : Nat) (x1 : Int32) (x2 : Int32) (x3 : Int32) : Option RH :=
  grd h this [0] (
  hI (c_B_isRow h this x1) noX fun v2 h1 =>
  if v2 = 0 then
    rI (-1 : Int32) h1
  else
    hI (c_B_isIn h1 x3 (1 : Int32) (600 : Int32)) noX fun v4 h3 =>
    if v4 = 0 then
      rI (-1 : Int32) h3
    else
      hI (c_B_isFar h3 this x2) noX fun v6 h5 =>
      if v6 = 0 then
        hI (c_B_acts h5 this (3 : Int32) x1 x2 x3) noX fun v8 h7 =>
        rI v8 h7
      else
        rI (1 : Int32) h5)
set_option maxHeartbeats 4000000 in
theorem m_B_turn (h : PH) (this : Nat) (x1 : Int32) (x2 : Int32) (x3 : Int32) : MM yX1_turn (ws_ yX1_turn cX1_turn 4 (some .int)) 25 [.ref this, .int x1, .int x2, .int x3] h (c_B_turn h this x1 x2 x3) := by
  refine MM.of (by decide) rfl (by decide) (Nat.le_of_ble_eq_true rfl) (own := RX1) (cc := cX1_turn) (maxL := 4) (lev := 25) (rt := (some .int)) (ini := false) ?_
  show Sim Y_B_turn h 0 [(0, .ref this), (1, .int x1), (2, .int x2), (3, .int x3)] [] _
  unfold c_B_turn
  refine x_grd ?_
  refine x_aload_nR (pc := 0) (a := this) 0 rfl rfl dX1_turn_0 ?_
  refine x_iload_n (pc := 1) 1 rfl rfl dX1_turn_1 ?_
  refine x_callV (pc := 2) (As := [.int x1]) (rest := []) (lev' := 2) si_X1_186 (m_B_isRow h this x1) (fun z e => grd1 e) rfl rfl (by decide) (cat4 (Nat.le_of_ble_eq_true rfl)) dX1_turn_2 (kI (fun v2 h1 => ?_)) xNo
  refine x_if_eq (pc := 5) 42 (by decide) dX1_turn_5 ?_ ?_
  · refine x_iconst (pc := 42) (v := (-1)) (by decide) dX1_turn_42 ?_
    exact x_iret (pc := 43) dX1_turn_43
  · refine x_iload_n (pc := 8) 3 rfl rfl dX1_turn_8 ?_
    refine x_iconst (pc := 9) (v := 1) (by decide) dX1_turn_9 ?_
    refine x_sipush (pc := 10) (v := 600) (by decide) dX1_turn_10 ?_
    refine x_callS (pc := 13) (As := [.int x3, .int (1 : Int32), .int (600 : Int32)]) (rest := []) (lev' := 1) si_X1_182 (m_B_isIn h1 x3 (1 : Int32) (600 : Int32)) rfl rfl (by decide) (cat4 (Nat.le_of_ble_eq_true rfl)) dX1_turn_13 (kI (fun v4 h3 => ?_)) xNo
    refine x_if_eq (pc := 16) 42 (by decide) dX1_turn_16 ?_ ?_
    · refine x_iconst (pc := 42) (v := (-1)) (by decide) dX1_turn_42 ?_
      exact x_iret (pc := 43) dX1_turn_43
    · refine x_aload_nR (pc := 19) (a := this) 0 rfl rfl dX1_turn_19 ?_
      refine x_iload_n (pc := 20) 2 rfl rfl dX1_turn_20 ?_
      refine x_callV (pc := 21) (As := [.int x2]) (rest := []) (lev' := 2) si_X1_318 (m_B_isFar h3 this x2) (fun z e => grd1 e) rfl rfl (by decide) (cat4 (Nat.le_of_ble_eq_true rfl)) dX1_turn_21 (kI (fun v6 h5 => ?_)) xNo
      refine x_if_eq (pc := 24) 31 (by decide) dX1_turn_24 ?_ ?_
      · refine x_aload_nR (pc := 31) (a := this) 0 rfl rfl dX1_turn_31 ?_
        refine x_iconst (pc := 32) (v := 3) (by decide) dX1_turn_32 ?_
        refine x_iload_n (pc := 33) 1 rfl rfl dX1_turn_33 ?_
        refine x_iload_n (pc := 34) 2 rfl rfl dX1_turn_34 ?_
        refine x_iload_n (pc := 35) 3 rfl rfl dX1_turn_35 ?_
        refine x_callV (pc := 36) (As := [.int (3 : Int32), .int x1, .int x2, .int x3]) (rest := []) (lev' := 24) si_X1_315 (m_B_acts h5 this (3 : Int32) x1 x2 x3) (fun z e => grd1 e) rfl rfl (by decide) (cat4 (Nat.le_of_ble_eq_true rfl)) dX1_turn_36 (kI (fun v8 h7 => ?_)) xNo
        refine x_goto (pc := 39) 43 (by decide) dX1_turn_39 ?_
        exact x_iret (pc := 43) dX1_turn_43
      · refine x_iconst (pc := 27) (v := 1) (by decide) dX1_turn_27 ?_
        refine x_goto (pc := 28) 43 (by decide) dX1_turn_28 ?_
        exact x_iret (pc := 43) dX1_turn_43
abbrev Y_B_areTwo : Yx := (RX1, cX1_areTwo, 3, 3, (some .boolean), [], false)
def c_B_areTwo (h : PH) (this : Nat) (x1 : Int32) (x2 : Int32) : Option RH :=
  grd h this [0] (
  hI (c_B_isRow h this x1) noX fun v2 h1 =>
  if v2 = 0 then
    rZ (0 : Int32) h1
  else
    hI (c_B_isRow h1 this x2) noX fun v4 h3 =>
    if v4 = 0 then
      rZ (0 : Int32) h3
    else
      if x1 = x2 then
        rZ (0 : Int32) h3
      else
        rZ (1 : Int32) h3)
set_option maxHeartbeats 4000000 in
theorem m_B_areTwo (h : PH) (this : Nat) (x1 : Int32) (x2 : Int32) : MM yX1_areTwo (ws_ yX1_areTwo cX1_areTwo 3 (some .boolean)) 3 [.ref this, .int x1, .int x2] h (c_B_areTwo h this x1 x2) := by
  refine MM.of (by decide) rfl (by decide) (Nat.le_of_ble_eq_true rfl) (own := RX1) (cc := cX1_areTwo) (maxL := 3) (lev := 3) (rt := (some .boolean)) (ini := false) ?_
  show Sim Y_B_areTwo h 0 [(0, .ref this), (1, .int x1), (2, .int x2)] [] _
  unfold c_B_areTwo
  refine x_grd ?_
  refine x_aload_nR (pc := 0) (a := this) 0 rfl rfl dX1_areTwo_0 ?_
  refine x_iload_n (pc := 1) 1 rfl rfl dX1_areTwo_1 ?_
  refine x_callV (pc := 2) (As := [.int x1]) (rest := []) (lev' := 2) si_X1_186 (m_B_isRow h this x1) (fun z e => grd1 e) rfl rfl (by decide) (cat4 (Nat.le_of_ble_eq_true rfl)) dX1_areTwo_2 (kI (fun v2 h1 => ?_)) xNo
  refine x_if_eq (pc := 5) 25 (by decide) dX1_areTwo_5 ?_ ?_
  · refine x_iconst (pc := 25) (v := 0) (by decide) dX1_areTwo_25 ?_
    exact x_zret (pc := 26) dX1_areTwo_26
  · refine x_aload_nR (pc := 8) (a := this) 0 rfl rfl dX1_areTwo_8 ?_
    refine x_iload_n (pc := 9) 2 rfl rfl dX1_areTwo_9 ?_
    refine x_callV (pc := 10) (As := [.int x2]) (rest := []) (lev' := 2) si_X1_186 (m_B_isRow h1 this x2) (fun z e => grd1 e) rfl rfl (by decide) (cat4 (Nat.le_of_ble_eq_true rfl)) dX1_areTwo_10 (kI (fun v4 h3 => ?_)) xNo
    refine x_if_eq (pc := 13) 25 (by decide) dX1_areTwo_13 ?_ ?_
    · refine x_iconst (pc := 25) (v := 0) (by decide) dX1_areTwo_25 ?_
      exact x_zret (pc := 26) dX1_areTwo_26
    · refine x_iload_n (pc := 16) 1 rfl rfl dX1_areTwo_16 ?_
      refine x_iload_n (pc := 17) 2 rfl rfl dX1_areTwo_17 ?_
      refine x_icmp_eq (pc := 18) 25 (by decide) dX1_areTwo_18 ?_ ?_
      · refine x_iconst (pc := 25) (v := 0) (by decide) dX1_areTwo_25 ?_
        exact x_zret (pc := 26) dX1_areTwo_26
      · refine x_iconst (pc := 21) (v := 1) (by decide) dX1_areTwo_21 ?_
        refine x_goto (pc := 22) 26 (by decide) dX1_areTwo_22 ?_
        exact x_zret (pc := 26) dX1_areTwo_26
theorem si_X1_321 : SiV RX1 321 0 yX1_areTwo cX1_areTwo 3 (some .boolean) 2 := ⟨_, _, _, ci_0.1, by decide, lw_V q1210 q1212 qs31 q110 q1213, ⟨rfl, by decide, by decide, by decide +kernel⟩, by decide⟩
abbrev Y_B_join : Yx := (RX1, cX1_join, 3, 25, (some .int), [], false)
def c_B_join (h : PH) (this : Nat) (x1 : Int32) (x2 : Int32) : Option RH :=
  grd h this [0] (
  hI (c_B_areTwo h this x1 x2) noX fun v2 h1 =>
  if v2 = 0 then
    rI (-1 : Int32) h1
  else
    hI (c_B_acts h1 this (4 : Int32) x1 (0 : Int32) x2) noX fun v4 h3 =>
    rI v4 h3)
set_option maxHeartbeats 4000000 in
theorem m_B_join (h : PH) (this : Nat) (x1 : Int32) (x2 : Int32) : MM yX1_join (ws_ yX1_join cX1_join 3 (some .int)) 25 [.ref this, .int x1, .int x2] h (c_B_join h this x1 x2) := by
  refine MM.of (by decide) rfl (by decide) (Nat.le_of_ble_eq_true rfl) (own := RX1) (cc := cX1_join) (maxL := 3) (lev := 25) (rt := (some .int)) (ini := false) ?_
  show Sim Y_B_join h 0 [(0, .ref this), (1, .int x1), (2, .int x2)] [] _
  unfold c_B_join
  refine x_grd ?_
  refine x_aload_nR (pc := 0) (a := this) 0 rfl rfl dX1_join_0 ?_
  refine x_iload_n (pc := 1) 1 rfl rfl dX1_join_1 ?_
  refine x_iload_n (pc := 2) 2 rfl rfl dX1_join_2 ?_
  refine x_callV (pc := 3) (As := [.int x1, .int x2]) (rest := []) (lev' := 3) si_X1_321 (m_B_areTwo h this x1 x2) (fun z e => grd1 e) rfl rfl (by decide) (cat4 (Nat.le_of_ble_eq_true rfl)) dX1_join_3 (kI (fun v2 h1 => ?_)) xNo
  refine x_if_eq (pc := 6) 20 (by decide) dX1_join_6 ?_ ?_
  · refine x_iconst (pc := 20) (v := (-1)) (by decide) dX1_join_20 ?_
    exact x_iret (pc := 21) dX1_join_21
  · refine x_aload_nR (pc := 9) (a := this) 0 rfl rfl dX1_join_9 ?_
    refine x_iconst (pc := 10) (v := 4) (by decide) dX1_join_10 ?_
    refine x_iload_n (pc := 11) 1 rfl rfl dX1_join_11 ?_
    refine x_iconst (pc := 12) (v := 0) (by decide) dX1_join_12 ?_
    refine x_iload_n (pc := 13) 2 rfl rfl dX1_join_13 ?_
    refine x_callV (pc := 14) (As := [.int (4 : Int32), .int x1, .int (0 : Int32), .int x2]) (rest := []) (lev' := 24) si_X1_315 (m_B_acts h1 this (4 : Int32) x1 (0 : Int32) x2) (fun z e => grd1 e) rfl rfl (by decide) (cat4 (Nat.le_of_ble_eq_true rfl)) dX1_join_14 (kI (fun v4 h3 => ?_)) xNo
    refine x_goto (pc := 17) 21 (by decide) dX1_join_17 ?_
    exact x_iret (pc := 21) dX1_join_21
abbrev Y_B_split : Yx := (RX1, cX1_split, 4, 25, (some .int), [], false)
def c_B_split (h : PH) (this : Nat) (x1 : Int32) (x2 : Int32) (x3 : Int32) : Option RH :=
  grd h this [0] (
  hI (c_B_areTwo h this x1 x3) noX fun v2 h1 =>
  if v2 = 0 then
    rI (-1 : Int32) h1
  else
    hI (c_B_isFar h1 this x2) noX fun v4 h3 =>
    if v4 = 0 then
      hI (c_B_acts h3 this (5 : Int32) x1 x2 x3) noX fun v6 h5 =>
      rI v6 h5
    else
      rI (1 : Int32) h3)
set_option maxHeartbeats 4000000 in
theorem m_B_split (h : PH) (this : Nat) (x1 : Int32) (x2 : Int32) (x3 : Int32) : MM yX1_split (ws_ yX1_split cX1_split 4 (some .int)) 25 [.ref this, .int x1, .int x2, .int x3] h (c_B_split h this x1 x2 x3) := by
  refine MM.of (by decide) rfl (by decide) (Nat.le_of_ble_eq_true rfl) (own := RX1) (cc := cX1_split) (maxL := 4) (lev := 25) (rt := (some .int)) (ini := false) ?_
  show Sim Y_B_split h 0 [(0, .ref this), (1, .int x1), (2, .int x2), (3, .int x3)] [] _
  unfold c_B_split
  refine x_grd ?_
  refine x_aload_nR (pc := 0) (a := this) 0 rfl rfl dX1_split_0 ?_
  refine x_iload_n (pc := 1) 1 rfl rfl dX1_split_1 ?_
  refine x_iload_n (pc := 2) 3 rfl rfl dX1_split_2 ?_
  refine x_callV (pc := 3) (As := [.int x1, .int x3]) (rest := []) (lev' := 3) si_X1_321 (m_B_areTwo h this x1 x3) (fun z e => grd1 e) rfl rfl (by decide) (cat4 (Nat.le_of_ble_eq_true rfl)) dX1_split_3 (kI (fun v2 h1 => ?_)) xNo
  refine x_if_eq (pc := 6) 32 (by decide) dX1_split_6 ?_ ?_
  · refine x_iconst (pc := 32) (v := (-1)) (by decide) dX1_split_32 ?_
    exact x_iret (pc := 33) dX1_split_33
  · refine x_aload_nR (pc := 9) (a := this) 0 rfl rfl dX1_split_9 ?_
    refine x_iload_n (pc := 10) 2 rfl rfl dX1_split_10 ?_
    refine x_callV (pc := 11) (As := [.int x2]) (rest := []) (lev' := 2) si_X1_318 (m_B_isFar h1 this x2) (fun z e => grd1 e) rfl rfl (by decide) (cat4 (Nat.le_of_ble_eq_true rfl)) dX1_split_11 (kI (fun v4 h3 => ?_)) xNo
    refine x_if_eq (pc := 14) 21 (by decide) dX1_split_14 ?_ ?_
    · refine x_aload_nR (pc := 21) (a := this) 0 rfl rfl dX1_split_21 ?_
      refine x_iconst (pc := 22) (v := 5) (by decide) dX1_split_22 ?_
      refine x_iload_n (pc := 23) 1 rfl rfl dX1_split_23 ?_
      refine x_iload_n (pc := 24) 2 rfl rfl dX1_split_24 ?_
      refine x_iload_n (pc := 25) 3 rfl rfl dX1_split_25 ?_
      refine x_callV (pc := 26) (As := [.int (5 : Int32), .int x1, .int x2, .int x3]) (rest := []) (lev' := 24) si_X1_315 (m_B_acts h3 this (5 : Int32) x1 x2 x3) (fun z e => grd1 e) rfl rfl (by decide) (cat4 (Nat.le_of_ble_eq_true rfl)) dX1_split_26 (kI (fun v6 h5 => ?_)) xNo
      refine x_goto (pc := 29) 33 (by decide) dX1_split_29 ?_
      exact x_iret (pc := 33) dX1_split_33
    · refine x_iconst (pc := 17) (v := 1) (by decide) dX1_split_17 ?_
      refine x_goto (pc := 18) 33 (by decide) dX1_split_18 ?_
      exact x_iret (pc := 33) dX1_split_33
abbrev Y_B_type : Yx := (RX1, cX1_type, 3, 25, (some .int), [], false)
def c_B_type (h : PH) (this : Nat) (x1 : Int32) (x2 : Int32) : Option RH :=
  grd h this [0] (
  hI (c_B_isIn h x2 (0 : Int32) (7 : Int32)) noX fun v2 h1 =>
  if v2 = 0 then
    rI (-1 : Int32) h1
  else
    hI (c_B_isFar h1 this x1) noX fun v4 h3 =>
    if v4 = 0 then
      hI (c_B_acts h3 this (6 : Int32) (0 : Int32) x1 x2) noX fun v6 h5 =>
      rI v6 h5
    else
      rI (1 : Int32) h3)
set_option maxHeartbeats 4000000 in
theorem m_B_type (h : PH) (this : Nat) (x1 : Int32) (x2 : Int32) : MM yX1_type (ws_ yX1_type cX1_type 3 (some .int)) 25 [.ref this, .int x1, .int x2] h (c_B_type h this x1 x2) := by
  refine MM.of (by decide) rfl (by decide) (Nat.le_of_ble_eq_true rfl) (own := RX1) (cc := cX1_type) (maxL := 3) (lev := 25) (rt := (some .int)) (ini := false) ?_
  show Sim Y_B_type h 0 [(0, .ref this), (1, .int x1), (2, .int x2)] [] _
  unfold c_B_type
  refine x_grd ?_
  refine x_iload_n (pc := 0) 2 rfl rfl dX1_type_0 ?_
  refine x_iconst (pc := 1) (v := 0) (by decide) dX1_type_1 ?_
  refine x_bipush (pc := 2) (v := 7) (by decide) dX1_type_2 ?_
  refine x_callS (pc := 4) (As := [.int x2, .int (0 : Int32), .int (7 : Int32)]) (rest := []) (lev' := 1) si_X1_182 (m_B_isIn h x2 (0 : Int32) (7 : Int32)) rfl rfl (by decide) (cat4 (Nat.le_of_ble_eq_true rfl)) dX1_type_4 (kI (fun v2 h1 => ?_)) xNo
  refine x_if_eq (pc := 7) 34 (by decide) dX1_type_7 ?_ ?_
  · refine x_iconst (pc := 34) (v := (-1)) (by decide) dX1_type_34 ?_
    exact x_iret (pc := 35) dX1_type_35
  · refine x_aload_nR (pc := 10) (a := this) 0 rfl rfl dX1_type_10 ?_
    refine x_iload_n (pc := 11) 1 rfl rfl dX1_type_11 ?_
    refine x_callV (pc := 12) (As := [.int x1]) (rest := []) (lev' := 2) si_X1_318 (m_B_isFar h1 this x1) (fun z e => grd1 e) rfl rfl (by decide) (cat4 (Nat.le_of_ble_eq_true rfl)) dX1_type_12 (kI (fun v4 h3 => ?_)) xNo
    refine x_if_eq (pc := 15) 22 (by decide) dX1_type_15 ?_ ?_
    · refine x_aload_nR (pc := 22) (a := this) 0 rfl rfl dX1_type_22 ?_
      refine x_bipush (pc := 23) (v := 6) (by decide) dX1_type_23 ?_
      refine x_iconst (pc := 25) (v := 0) (by decide) dX1_type_25 ?_
      refine x_iload_n (pc := 26) 1 rfl rfl dX1_type_26 ?_
      refine x_iload_n (pc := 27) 2 rfl rfl dX1_type_27 ?_
      refine x_callV (pc := 28) (As := [.int (6 : Int32), .int (0 : Int32), .int x1, .int x2]) (rest := []) (lev' := 24) si_X1_315 (m_B_acts h3 this (6 : Int32) (0 : Int32) x1 x2) (fun z e => grd1 e) rfl rfl (by decide) (cat4 (Nat.le_of_ble_eq_true rfl)) dX1_type_28 (kI (fun v6 h5 => ?_)) xNo
      refine x_goto (pc := 31) 35 (by decide) dX1_type_31 ?_
      exact x_iret (pc := 35) dX1_type_35
    · refine x_iconst (pc := 18) (v := 1) (by decide) dX1_type_18 ?_
      refine x_goto (pc := 19) 35 (by decide) dX1_type_19 ?_
      exact x_iret (pc := 35) dX1_type_35
abbrev Y_B_erase : Yx := (RX1, cX1_erase, 3, 25, (some .int), [], false)
def c_B_erase (h : PH) (this : Nat) (x1 : Int32) (x2 : Int32) : Option RH :=
  grd h this [0] (
  hI (c_B_isIn h x2 (1 : Int32) (200 : Int32)) noX fun v2 h1 =>
  if v2 = 0 then
    rI (-1 : Int32) h1
  else
    hI (c_B_isFar h1 this x1) noX fun v4 h3 =>
    if v4 = 0 then
      hI (c_B_acts h3 this (7 : Int32) (0 : Int32) x1 x2) noX fun v6 h5 =>
      rI v6 h5
    else
      rI (1 : Int32) h3)
set_option maxHeartbeats 4000000 in
theorem m_B_erase (h : PH) (this : Nat) (x1 : Int32) (x2 : Int32) : MM yX1_erase (ws_ yX1_erase cX1_erase 3 (some .int)) 25 [.ref this, .int x1, .int x2] h (c_B_erase h this x1 x2) := by
  refine MM.of (by decide) rfl (by decide) (Nat.le_of_ble_eq_true rfl) (own := RX1) (cc := cX1_erase) (maxL := 3) (lev := 25) (rt := (some .int)) (ini := false) ?_
  show Sim Y_B_erase h 0 [(0, .ref this), (1, .int x1), (2, .int x2)] [] _
  unfold c_B_erase
  refine x_grd ?_
  refine x_iload_n (pc := 0) 2 rfl rfl dX1_erase_0 ?_
  refine x_iconst (pc := 1) (v := 1) (by decide) dX1_erase_1 ?_
  refine x_sipush (pc := 2) (v := 200) (by decide) dX1_erase_2 ?_
  refine x_callS (pc := 5) (As := [.int x2, .int (1 : Int32), .int (200 : Int32)]) (rest := []) (lev' := 1) si_X1_182 (m_B_isIn h x2 (1 : Int32) (200 : Int32)) rfl rfl (by decide) (cat4 (Nat.le_of_ble_eq_true rfl)) dX1_erase_5 (kI (fun v2 h1 => ?_)) xNo
  refine x_if_eq (pc := 8) 35 (by decide) dX1_erase_8 ?_ ?_
  · refine x_iconst (pc := 35) (v := (-1)) (by decide) dX1_erase_35 ?_
    exact x_iret (pc := 36) dX1_erase_36
  · refine x_aload_nR (pc := 11) (a := this) 0 rfl rfl dX1_erase_11 ?_
    refine x_iload_n (pc := 12) 1 rfl rfl dX1_erase_12 ?_
    refine x_callV (pc := 13) (As := [.int x1]) (rest := []) (lev' := 2) si_X1_318 (m_B_isFar h1 this x1) (fun z e => grd1 e) rfl rfl (by decide) (cat4 (Nat.le_of_ble_eq_true rfl)) dX1_erase_13 (kI (fun v4 h3 => ?_)) xNo
    refine x_if_eq (pc := 16) 23 (by decide) dX1_erase_16 ?_ ?_
    · refine x_aload_nR (pc := 23) (a := this) 0 rfl rfl dX1_erase_23 ?_
      refine x_bipush (pc := 24) (v := 7) (by decide) dX1_erase_24 ?_
      refine x_iconst (pc := 26) (v := 0) (by decide) dX1_erase_26 ?_
      refine x_iload_n (pc := 27) 1 rfl rfl dX1_erase_27 ?_
      refine x_iload_n (pc := 28) 2 rfl rfl dX1_erase_28 ?_
      refine x_callV (pc := 29) (As := [.int (7 : Int32), .int (0 : Int32), .int x1, .int x2]) (rest := []) (lev' := 24) si_X1_315 (m_B_acts h3 this (7 : Int32) (0 : Int32) x1 x2) (fun z e => grd1 e) rfl rfl (by decide) (cat4 (Nat.le_of_ble_eq_true rfl)) dX1_erase_29 (kI (fun v6 h5 => ?_)) xNo
      refine x_goto (pc := 32) 36 (by decide) dX1_erase_32 ?_
      exact x_iret (pc := 36) dX1_erase_36
    · refine x_iconst (pc := 19) (v := 1) (by decide) dX1_erase_19 ?_
      refine x_goto (pc := 20) 36 (by decide) dX1_erase_20 ?_
      exact x_iret (pc := 36) dX1_erase_36
