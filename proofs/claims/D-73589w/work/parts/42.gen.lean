set_option maxRecDepth 100000
theorem si_X5_145 : SiV RX5 145 4 yX5_merge cX5_merge 6 none 1 := ⟨_, _, _, ci_4.1, by decide, lw_V q1163 q1165 qs26 q116 q1166, ⟨rfl, by decide, by decide, by decide +kernel⟩, by decide⟩
abbrev Y_R_remove : Yx := (RX5, cX5_remove, 3, 17, none, [], false)
def c_R_remove (h : PH) (this : Nat) (x1 : Int32) : Option RH :=
  grd h this [4] (
  hV (c_R_loosen h this) noX fun h1 =>
  hI (c_R_leafOf h1 this x1) noX fun v3 h2 =>
  gI h2 this [4] 7 fun v4 =>
  gQ h2 this [4] 0 fun v5 =>
  nn v5 fun a6 =>
  ldQ h2 a6 v3 fun v8 =>
  gI h2 this [4] 8 fun v9 =>
  nn v8 fun a10 =>
  hI (c_L_get h2 a10 v9) noX fun v13 h12 =>
  pI h12 this [4] 7 (v4 - v13) fun h14 =>
  gI h14 this [4] 6 fun v15 =>
  pI h14 this [4] 6 (v15 - (1 : Int32)) fun h16 =>
  gQ h16 this [4] 0 fun v17 =>
  nn v17 fun a18 =>
  ldQ h16 a18 v3 fun v20 =>
  gI h16 this [4] 8 fun v21 =>
  nn v20 fun a22 =>
  hV (c_L_remove h16 a22 v21) noX fun h24 =>
  gQ h24 this [4] 0 fun v25 =>
  nn v25 fun a26 =>
  ldQ h24 a26 v3 fun v28 =>
  nn v28 fun a29 =>
  gI h24 a29 [9] 0 fun v31 =>
  gI h24 this [4] 3 fun v32 =>
  if v31 < v32 then
    gI h24 this [4] 5 fun v33 =>
    if v33 ≤ (1 : Int32) then
      gQ h24 this [4] 0 fun v34 =>
      nn v34 fun a35 =>
      ldQ h24 a35 (0 : Int32) fun v37 =>
      nn v37 fun a38 =>
      gI h24 a38 [9] 0 fun v40 =>
      if v40 = 0 then
        pI h24 this [4] 5 (0 : Int32) fun h41 =>
        rV h41
      else
        rV h24
    else
      gI h24 this [4] 5 fun v42 =>
      hV (c_R_merge h24 this (if (v42 - (2 : Int32)) < v3 then (v42 - (2 : Int32)) else v3)) noX fun h43 =>
      rV h43
  else
    rV h24)
set_option maxHeartbeats 4000000 in
theorem m_R_remove (h : PH) (this : Nat) (x1 : Int32) : MM yX5_remove (ws_ yX5_remove cX5_remove 3 none) 17 [.ref this, .int x1] h (c_R_remove h this x1) := by
  refine MM.of (by decide) rfl (by decide) (Nat.le_of_ble_eq_true rfl) (own := RX5) (cc := cX5_remove) (maxL := 3) (lev := 17) (rt := none) (ini := false) ?_
  show Sim Y_R_remove h 0 [(0, .ref this), (1, .int x1)] [] _
  unfold c_R_remove
  refine x_grd ?_
  refine x_aload_nR (pc := 0) (a := this) 0 rfl rfl dX5_remove_0 ?_
  refine x_callV (pc := 1) (As := []) (rest := []) (lev' := 16) si_X5_125 (m_R_loosen h this) (fun z e => grd1 e) rfl rfl (by decide) (cat4 (Nat.le_of_ble_eq_true rfl)) dX5_remove_1 (kV (fun h1 => ?_)) xNo
  refine x_aload_nR (pc := 4) (a := this) 0 rfl rfl dX5_remove_4 ?_
  refine x_iload_n (pc := 5) 1 rfl rfl dX5_remove_5 ?_
  refine x_callV (pc := 6) (As := [.int x1]) (rest := []) (lev' := 1) si_X5_68 (m_R_leafOf h1 this x1) (fun z e => grd1 e) rfl rfl (by decide) (cat4 (Nat.le_of_ble_eq_true rfl)) dX5_remove_6 (kI (fun v3 h2 => ?_)) xNo
  refine x_istore_n (pc := 9) (lv' := [(2, .int v3), (0, .ref this), (1, .int x1)]) rfl (by decide) rfl dX5_remove_9 ?_
  refine x_aload_nR (pc := 10) (a := this) 1 rfl rfl dX5_remove_10 ?_
  refine x_dup (pc := 11) rfl dX5_remove_11 ?_
  refine x_getI (pc := 12) fi_X5_21 dX5_remove_12 ?_
  intro v4
  refine x_aload_nR (pc := 15) (a := this) 1 rfl rfl dX5_remove_15 ?_
  refine x_getQ (pc := 16) fi_X5_11 dX5_remove_16 ?_
  intro v5
  refine x_iload_n (pc := 19) 0 rfl rfl dX5_remove_19 ?_
  refine x_nn (fun a6 e7 => ?_)
  subst e7
  refine x_aald (pc := 20) dX5_remove_20 ?_
  intro v8
  refine x_aload_nR (pc := 21) (a := this) 1 rfl rfl dX5_remove_21 ?_
  refine x_getI (pc := 22) fi_X5_62 dX5_remove_22 ?_
  intro v9
  refine x_nn (fun a10 e11 => ?_)
  subst e11
  refine x_callV (pc := 25) (As := [.int v9]) (rest := [.int v4, .ref this]) (lev' := 1) si_X5_72 (m_L_get h2 a10 v9) (fun z e => grd1 e) rfl rfl (by decide) (cat4 (Nat.le_of_ble_eq_true rfl)) dX5_remove_25 (kI (fun v13 h12 => ?_)) xNo
  refine x_isub (pc := 28) dX5_remove_28 ?_
  refine x_pI (pc := 29) fi_X5_21 (fun z => absurd z (by decide)) dX5_remove_29 ?_
  intro h14
  refine x_aload_nR (pc := 32) (a := this) 1 rfl rfl dX5_remove_32 ?_
  refine x_dup (pc := 33) rfl dX5_remove_33 ?_
  refine x_getI (pc := 34) fi_X5_17 dX5_remove_34 ?_
  intro v15
  refine x_iconst (pc := 37) (v := 1) (by decide) dX5_remove_37 ?_
  refine x_isub (pc := 38) dX5_remove_38 ?_
  refine x_pI (pc := 39) fi_X5_17 (fun z => absurd z (by decide)) dX5_remove_39 ?_
  intro h16
  refine x_aload_nR (pc := 42) (a := this) 1 rfl rfl dX5_remove_42 ?_
  refine x_getQ (pc := 43) fi_X5_11 dX5_remove_43 ?_
  intro v17
  refine x_iload_n (pc := 46) 0 rfl rfl dX5_remove_46 ?_
  refine x_nn (fun a18 e19 => ?_)
  subst e19
  refine x_aald (pc := 47) dX5_remove_47 ?_
  intro v20
  refine x_aload_nR (pc := 48) (a := this) 1 rfl rfl dX5_remove_48 ?_
  refine x_getI (pc := 49) fi_X5_62 dX5_remove_49 ?_
  intro v21
  refine x_nn (fun a22 e23 => ?_)
  subst e23
  refine x_callV (pc := 52) (As := [.int v21]) (rest := []) (lev' := 2) si_X5_142 (m_L_remove h16 a22 v21) (fun z e => grd1 e) rfl rfl (by decide) (cat4 (Nat.le_of_ble_eq_true rfl)) dX5_remove_52 (kV (fun h24 => ?_)) xNo
  refine x_aload_nR (pc := 55) (a := this) 1 rfl rfl dX5_remove_55 ?_
  refine x_getQ (pc := 56) fi_X5_11 dX5_remove_56 ?_
  intro v25
  refine x_iload_n (pc := 59) 0 rfl rfl dX5_remove_59 ?_
  refine x_nn (fun a26 e27 => ?_)
  subst e27
  refine x_aald (pc := 60) dX5_remove_60 ?_
  intro v28
  refine x_nn (fun a29 e30 => ?_)
  subst e30
  refine x_getI (pc := 61) fi_X5_65 dX5_remove_61 ?_
  intro v31
  refine x_aload_nR (pc := 64) (a := this) 1 rfl rfl dX5_remove_64 ?_
  refine x_getI (pc := 65) fi_X5_135 dX5_remove_65 ?_
  intro v32
  refine x_icmp_lt (pc := 68) 72 (by decide) dX5_remove_68 ?_ ?_
  · refine x_aload_nR (pc := 72) (a := this) 1 rfl rfl dX5_remove_72 ?_
    refine x_getI (pc := 73) fi_X5_24 dX5_remove_73 ?_
    intro v33
    refine x_iconst (pc := 76) (v := 1) (by decide) dX5_remove_76 ?_
    refine x_icmp_le (pc := 77) 97 (by decide) dX5_remove_77 ?_ ?_
    · refine x_aload_nR (pc := 97) (a := this) 1 rfl rfl dX5_remove_97 ?_
      refine x_getQ (pc := 98) fi_X5_11 dX5_remove_98 ?_
      intro v34
      refine x_iconst (pc := 101) (v := 0) (by decide) dX5_remove_101 ?_
      refine x_nn (fun a35 e36 => ?_)
      subst e36
      refine x_aald (pc := 102) dX5_remove_102 ?_
      intro v37
      refine x_nn (fun a38 e39 => ?_)
      subst e39
      refine x_getI (pc := 103) fi_X5_65 dX5_remove_103 ?_
      intro v40
      refine x_if_ne (pc := 106) 114 (by decide) dX5_remove_106 ?_ ?_
      · exact x_vret (pc := 114) dX5_remove_114
      · refine x_aload_nR (pc := 109) (a := this) 1 rfl rfl dX5_remove_109 ?_
        refine x_iconst (pc := 110) (v := 0) (by decide) dX5_remove_110 ?_
        refine x_pI (pc := 111) fi_X5_24 (fun z => absurd z (by decide)) dX5_remove_111 ?_
        intro h41
        exact x_vret (pc := 114) dX5_remove_114
    · refine x_aload_nR (pc := 80) (a := this) 1 rfl rfl dX5_remove_80 ?_
      refine x_iload_n (pc := 81) 0 rfl rfl dX5_remove_81 ?_
      refine x_aload_nR (pc := 82) (a := this) 1 rfl rfl dX5_remove_82 ?_
      refine x_getI (pc := 83) fi_X5_24 dX5_remove_83 ?_
      intro v42
      refine x_iconst (pc := 86) (v := 2) (by decide) dX5_remove_86 ?_
      refine x_isub (pc := 87) dX5_remove_87 ?_
      refine x_mmin (pc := 88) q1162 (by omega) (cat4 (Nat.le_of_ble_eq_true rfl)) dX5_remove_88 ?_
      refine x_callV (pc := 91) (As := [.int (if (v42 - (2 : Int32)) < v3 then (v42 - (2 : Int32)) else v3)]) (rest := []) (lev' := 9) si_X5_145 (m_R_merge h24 this (if (v42 - (2 : Int32)) < v3 then (v42 - (2 : Int32)) else v3)) (fun z e => grd1 e) rfl rfl (by decide) (cat4 (Nat.le_of_ble_eq_true rfl)) dX5_remove_91 (kV (fun h43 => ?_)) xNo
      refine x_goto (pc := 94) 114 (by decide) dX5_remove_94 ?_
      exact x_vret (pc := 114) dX5_remove_114
  · exact x_vret (pc := 71) dX5_remove_71
theorem si_X5_106 : SiV RX5 106 9 yX12_flip cX12_flip 4 none 2 := ⟨_, _, _, ci_9.1, by decide, lw_V q1176 q1177 q1178 q127 q1179, ⟨rfl, by decide, by decide, by decide +kernel⟩, by decide⟩
theorem si_X5_115 : SiV RX5 115 4 yX5_flip_2 cX5_flip_2 6 none 3 := ⟨_, _, _, ci_4.1, by decide, lw_V q1171 q1173 qs27 q116 q1174, ⟨rfl, by decide, by decide, by decide +kernel⟩, by decide⟩
theorem si_X5_103a : SiU RX5 103 [9] ⟨RX11, "turnAll", "()V"⟩ yX12_turnAll cX12_turnAll 1 none 0 := (siU_c (c := 9) (owner := "BitRopes$Node") rfl (by decide) ⟨q1175, q758, Or.inl q762, q763, q127, q764⟩ (Or.inr q757) ⟨by decide, by decide, by decide +kernel⟩ (siU_n (by decide)))
theorem si_X5_103b : SiU RX5 103 [10] ⟨RX11, "turnAll", "()V"⟩ yX13_turnAll cX13_turnAll 1 none 0 := (siU_c (c := 10) (owner := "BitRopes$Node") rfl (by decide) ⟨q1175, q758, Or.inl q759, q760, q131, q761⟩ (Or.inr q757) ⟨by decide, by decide, by decide +kernel⟩ (siU_n (by decide)))
abbrev Y_R_flip_2 (d : Nat) : Yx := (RX5, cX5_flip_2, 6, (9 + d + 1), none, [], false)
def c_R_flip_2_j23 (rg : PH → Nat → Nat → Int32 → Int32 → Option RH) (h : PH) (this : Nat) (x1 : Nat) (x2 : Int32) (x3 : Int32) : Option RH :=
  iof h (some x1) 9 10 (
    grd h x1 [9] <|
    hV (c_L_flip h x1 x2 x3) noX fun h1 =>
    rV h1) (
    grd h x1 [10] <|
    hV (c_I_push h x1) noX fun h2 =>
    gQ h2 x1 [10] 3 fun v3 =>
    nn v3 fun a4 =>
    ldQ h2 a4 (0 : Int32) fun v6 =>
    nn v6 fun a7 =>
    gI h2 a7 [9, 10] 0 fun v9 =>
    gQ h2 x1 [10] 3 fun v10 =>
    nn v10 fun a11 =>
    ldQ h2 a11 (0 : Int32) fun v13 =>
    nn v13 fun a14 =>
    hV (grd h2 this [4] (rg h2 this a14 (if v9 < x2 then v9 else x2) (if v9 < x3 then v9 else x3))) noX fun h16 =>
    gQ h16 x1 [10] 3 fun v17 =>
    nn v17 fun a18 =>
    ldQ h16 a18 (1 : Int32) fun v20 =>
    nn v20 fun a21 =>
    hV (grd h16 this [4] (rg h16 this a21 (if (x2 - v9) < (0 : Int32) then (0 : Int32) else (x2 - v9)) (if (x3 - v9) < (0 : Int32) then (0 : Int32) else (x3 - v9)))) noX fun h23 =>
    hV (c_I_recount h23 x1) noX fun h24 =>
    rV h24)
def b_R_flip_2 (rg : PH → Nat → Nat → Int32 → Int32 → Option RH) (h : PH) (this : Nat) (x1 : Nat) (x2 : Int32) (x3 : Int32) : Option RH :=
  grd h this [4] (
  if x2 < x3 then
    if x2 = 0 then
      gI h x1 [9, 10] 0 fun v1 =>
      if x3 = v1 then
        hV (dsp2 h x1 9 10 (c_L_turnAll h x1) (c_I_turnAll h x1)) noX fun h2 =>
        rV h2
      else
        c_R_flip_2_j23 rg h this x1 x2 x3
    else
      c_R_flip_2_j23 rg h this x1 x2 x3
  else
    rV h)
set_option maxHeartbeats 4000000 in
theorem w_R_flip_2_j23 (rg : PH → Nat → Nat → Int32 → Int32 → Option RH) {d : Nat} (hrg : (∀ (h : PH) (this : Nat) (x1 : Nat) (x2 : Int32) (x3 : Int32), MM yX5_flip_2 (ws_ yX5_flip_2 cX5_flip_2 6 none) (9 + d) [.ref this, .ref x1, .int x2, .int x3] h (rg h this x1 x2 x3))) (h : PH) (this : Nat) (x1 : Nat) (x2 : Int32) (x3 : Int32) : Sim (Y_R_flip_2 d) h 23 [(0, .ref this), (1, .ref x1), (2, .int x2), (3, .int x3)] [] (c_R_flip_2_j23 rg h this x1 x2 x3) := by
  unfold c_R_flip_2_j23
  refine x_aload_nR (pc := 23) (a := x1) 1 rfl rfl dX5_flip_2_23 ?_
  refine x_inst (pc := 24) (r := (some x1)) ci_9 ci_10 (by decide +kernel) q288 dX5_flip_2_24 ?_ ?_
  · refine x_if_eqF (pc := 27) 40 (by decide) (by decide) dX5_flip_2_27 ?_
    refine x_aload_nR (pc := 30) (a := x1) 1 rfl rfl dX5_flip_2_30 ?_
    refine x_cast (pc := 31) ci_9 q288 dX5_flip_2_31 ?_
    refine x_iload_n (pc := 34) 2 rfl rfl dX5_flip_2_34 ?_
    refine x_iload_n (pc := 35) 3 rfl rfl dX5_flip_2_35 ?_
    refine x_callV (pc := 36) (As := [.int x2, .int x3]) (rest := []) (lev' := 3) si_X5_106 (m_L_flip h x1 x2 x3) (fun z e => grd1 e) rfl rfl (by omega) (cat4 (Nat.le_of_ble_eq_true rfl)) dX5_flip_2_36 (kV (fun h1 => ?_)) xNo
    exact x_vret (pc := 39) dX5_flip_2_39
  · refine x_if_eqT (pc := 27) 40 (by decide) (by decide) dX5_flip_2_27 ?_
    refine x_aload_nR (pc := 40) (a := x1) 1 rfl rfl dX5_flip_2_40 ?_
    refine x_cast (pc := 41) ci_10 q751 dX5_flip_2_41 ?_
    refine x_astoreR (pc := 44) (a := x1) (lv' := [(4, .ref x1), (0, .ref this), (1, .ref x1), (2, .int x2), (3, .int x3)]) (by decide) rfl dX5_flip_2_44 ?_
    refine x_aloadR (pc := 46) (a := x1) 0 rfl dX5_flip_2_46 ?_
    refine x_callV (pc := 48) (As := []) (rest := []) (lev' := 2) si_X5_48 (m_I_push h x1) (fun z e => grd1 e) rfl rfl (by omega) (cat4 (Nat.le_of_ble_eq_true rfl)) dX5_flip_2_48 (kV (fun h2 => ?_)) xNo
    refine x_aloadR (pc := 51) (a := x1) 0 rfl dX5_flip_2_51 ?_
    refine x_getQ (pc := 53) fi_X5_51 dX5_flip_2_53 ?_
    intro v3
    refine x_iconst (pc := 56) (v := 0) (by decide) dX5_flip_2_56 ?_
    refine x_nn (fun a4 e5 => ?_)
    subst e5
    refine x_aald (pc := 57) dX5_flip_2_57 ?_
    intro v6
    refine x_nn (fun a7 e8 => ?_)
    subst e8
    refine x_getI (pc := 58) fi_X5_75 dX5_flip_2_58 ?_
    intro v9
    refine x_istore (pc := 61) (lv' := [(5, .int v9), (4, .ref x1), (0, .ref this), (1, .ref x1), (2, .int x2), (3, .int x3)]) (by decide) rfl dX5_flip_2_61 ?_
    refine x_aload_nR (pc := 63) (a := this) 2 rfl rfl dX5_flip_2_63 ?_
    refine x_aloadR (pc := 64) (a := x1) 1 rfl dX5_flip_2_64 ?_
    refine x_getQ (pc := 66) fi_X5_51 dX5_flip_2_66 ?_
    intro v10
    refine x_iconst (pc := 69) (v := 0) (by decide) dX5_flip_2_69 ?_
    refine x_nn (fun a11 e12 => ?_)
    subst e12
    refine x_aald (pc := 70) dX5_flip_2_70 ?_
    intro v13
    refine x_iload_n (pc := 71) 4 rfl rfl dX5_flip_2_71 ?_
    refine x_iload (pc := 72) 0 rfl dX5_flip_2_72 ?_
    refine x_mmin (pc := 74) q1162 (by omega) (cat4 (Nat.le_of_ble_eq_true rfl)) dX5_flip_2_74 ?_
    refine x_iload_n (pc := 77) 5 rfl rfl dX5_flip_2_77 ?_
    refine x_iload (pc := 78) 0 rfl dX5_flip_2_78 ?_
    refine x_mmin (pc := 80) q1162 (by omega) (cat4 (Nat.le_of_ble_eq_true rfl)) dX5_flip_2_80 ?_
    refine x_nn (fun a14 e15 => ?_)
    subst e15
    refine x_callV (pc := 83) (As := [.ref a14, .int (if v9 < x2 then v9 else x2), .int (if v9 < x3 then v9 else x3)]) (rest := []) (lev' := (9 + d)) si_X5_115 (MM.grd (hrg h2 this a14 (if v9 < x2 then v9 else x2) (if v9 < x3 then v9 else x3))) (fun z e => grd1 e) rfl rfl (by omega) (cat4 (Nat.le_of_ble_eq_true rfl)) dX5_flip_2_83 (kV (fun h16 => ?_)) xNo
    refine x_aload_nR (pc := 86) (a := this) 2 rfl rfl dX5_flip_2_86 ?_
    refine x_aloadR (pc := 87) (a := x1) 1 rfl dX5_flip_2_87 ?_
    refine x_getQ (pc := 89) fi_X5_51 dX5_flip_2_89 ?_
    intro v17
    refine x_iconst (pc := 92) (v := 1) (by decide) dX5_flip_2_92 ?_
    refine x_nn (fun a18 e19 => ?_)
    subst e19
    refine x_aald (pc := 93) dX5_flip_2_93 ?_
    intro v20
    refine x_iload_n (pc := 94) 4 rfl rfl dX5_flip_2_94 ?_
    refine x_iload (pc := 95) 0 rfl dX5_flip_2_95 ?_
    refine x_isub (pc := 97) dX5_flip_2_97 ?_
    refine x_iconst (pc := 98) (v := 0) (by decide) dX5_flip_2_98 ?_
    refine x_mmax (pc := 99) q1040 (by omega) (cat4 (Nat.le_of_ble_eq_true rfl)) dX5_flip_2_99 ?_
    refine x_iload_n (pc := 102) 5 rfl rfl dX5_flip_2_102 ?_
    refine x_iload (pc := 103) 0 rfl dX5_flip_2_103 ?_
    refine x_isub (pc := 105) dX5_flip_2_105 ?_
    refine x_iconst (pc := 106) (v := 0) (by decide) dX5_flip_2_106 ?_
    refine x_mmax (pc := 107) q1040 (by omega) (cat4 (Nat.le_of_ble_eq_true rfl)) dX5_flip_2_107 ?_
    refine x_nn (fun a21 e22 => ?_)
    subst e22
    refine x_callV (pc := 110) (As := [.ref a21, .int (if (x2 - v9) < (0 : Int32) then (0 : Int32) else (x2 - v9)), .int (if (x3 - v9) < (0 : Int32) then (0 : Int32) else (x3 - v9))]) (rest := []) (lev' := (9 + d)) si_X5_115 (MM.grd (hrg h16 this a21 (if (x2 - v9) < (0 : Int32) then (0 : Int32) else (x2 - v9)) (if (x3 - v9) < (0 : Int32) then (0 : Int32) else (x3 - v9)))) (fun z e => grd1 e) rfl rfl (by omega) (cat4 (Nat.le_of_ble_eq_true rfl)) dX5_flip_2_110 (kV (fun h23 => ?_)) xNo
    refine x_aloadR (pc := 113) (a := x1) 1 rfl dX5_flip_2_113 ?_
    refine x_callV (pc := 115) (As := []) (rest := []) (lev' := 1) si_X5_99 (m_I_recount h23 x1) (fun z e => grd1 e) rfl rfl (by omega) (cat4 (Nat.le_of_ble_eq_true rfl)) dX5_flip_2_115 (kV (fun h24 => ?_)) xNo
    exact x_vret (pc := 118) dX5_flip_2_118
set_option maxHeartbeats 4000000 in
theorem t_R_flip_2 (rg : PH → Nat → Nat → Int32 → Int32 → Option RH) {d : Nat} (hrg : (∀ (h : PH) (this : Nat) (x1 : Nat) (x2 : Int32) (x3 : Int32), MM yX5_flip_2 (ws_ yX5_flip_2 cX5_flip_2 6 none) (9 + d) [.ref this, .ref x1, .int x2, .int x3] h (rg h this x1 x2 x3))) (h : PH) (this : Nat) (x1 : Nat) (x2 : Int32) (x3 : Int32) : MM yX5_flip_2 (ws_ yX5_flip_2 cX5_flip_2 6 none) (9 + d + 1) [.ref this, .ref x1, .int x2, .int x3] h (b_R_flip_2 rg h this x1 x2 x3) := by
  refine MM.of (by decide) rfl (by decide) (Nat.le_of_ble_eq_true rfl) (own := RX5) (cc := cX5_flip_2) (maxL := 6) (lev := (9 + d + 1)) (rt := none) (ini := false) ?_
  show Sim (Y_R_flip_2 d) h 0 [(0, .ref this), (1, .ref x1), (2, .int x2), (3, .int x3)] [] _
  unfold b_R_flip_2
  refine x_grd ?_
  refine x_iload_n (pc := 0) 2 rfl rfl dX5_flip_2_0 ?_
  refine x_iload_n (pc := 1) 3 rfl rfl dX5_flip_2_1 ?_
  refine x_icmp_lt (pc := 2) 6 (by decide) dX5_flip_2_2 ?_ ?_
  · refine x_iload_n (pc := 6) 2 rfl rfl dX5_flip_2_6 ?_
    refine x_if_ne (pc := 7) 23 (by decide) dX5_flip_2_7 ?_ ?_
    · exact w_R_flip_2_j23 rg hrg h this x1 x2 x3
    · refine x_iload_n (pc := 10) 3 rfl rfl dX5_flip_2_10 ?_
      refine x_aload_nR (pc := 11) (a := x1) 1 rfl rfl dX5_flip_2_11 ?_
      refine x_getI (pc := 12) fi_X5_75 dX5_flip_2_12 ?_
      intro v1
      refine x_icmp_ne (pc := 15) 23 (by decide) dX5_flip_2_15 ?_ ?_
      · exact w_R_flip_2_j23 rg hrg h this x1 x2 x3
      · refine x_aload_nR (pc := 18) (a := x1) 1 rfl rfl dX5_flip_2_18 ?_
        refine x_callD2 (pc := 19) (As := []) (rest := []) si_X5_103a si_X5_103b (m_L_turnAll h x1) (m_I_turnAll h x1) rfl rfl (by omega) (by omega) (cat4 (Nat.le_of_ble_eq_true rfl)) dX5_flip_2_19 (fun h2 => ?_)
        exact x_vret (pc := 22) dX5_flip_2_22
  · exact x_vret (pc := 5) dX5_flip_2_5
def c_R_flip_2 : Nat → PH → Nat → Nat → Int32 → Int32 → Option RH := itr b_R_flip_2 (fun _ _ _ _ _ => none)
theorem m_R_flip_2 : ∀ (d : Nat) (h : PH) (this : Nat) (x1 : Nat) (x2 : Int32) (x3 : Int32), MM yX5_flip_2 (ws_ yX5_flip_2 cX5_flip_2 6 none) (9 + d) [.ref this, .ref x1, .int x2, .int x3] h (c_R_flip_2 d h this x1 x2 x3)
  | 0, h, this, x1, x2, x3 => MM.none
  | d + 1, h, this, x1, x2, x3 => t_R_flip_2 (d := d) (c_R_flip_2 d) (m_R_flip_2 d) h this x1 x2 x3
abbrev Y_R_flip : Yx := (RX5, cX5_flip, 7, 22, none, [], false)
def c_R_flip_l52 (r52 : PH → Nat → Int32 → Int32 → Int32 → Int32 → Option RH) (h : PH) (this : Nat) (x1 : Int32) (x2 : Int32) (x4 : Int32) (x5 : Int32) : Option RH :=
  gI h this [4] 5 fun v1 =>
  if v1 ≤ x5 then
    rV h
  else
    gQ h this [4] 0 fun v2 =>
    nn v2 fun a3 =>
    ldQ h a3 x5 fun v5 =>
    nn v5 fun a6 =>
    gI h a6 [9] 0 fun v8 =>
    gQ h this [4] 0 fun v9 =>
    nn v9 fun a10 =>
    ldQ h a10 x5 fun v12 =>
    nn v12 fun a13 =>
    hV (grd h this [4] (c_R_flip_2 12 h this a13 (if (x1 - x4) < (0 : Int32) then (0 : Int32) else (x1 - x4)) (if v8 < (x2 - x4) then v8 else (x2 - x4)))) noX fun h15 =>
    nm (x4 + v8) fun y16 =>
    r52 h15 this x1 x2 y16 (x5 + (1 : Int32))
def c_R_flip (h : PH) (this : Nat) (x1 : Int32) (x2 : Int32) : Option RH :=
  grd h this [4] (
  hI (c_R_onesAhead h this x2) noX fun v2 h1 =>
  hI (c_R_onesAhead h1 this x1) noX fun v4 h3 =>
  nm (v2 - v4) fun y5 =>
  gI h3 this [4] 7 fun v6 =>
  pI h3 this [4] 7 (v6 + ((x2 - x1) - ((2 : Int32) * y5))) fun h7 =>
  gI h7 this [4] 2 fun v8 =>
  if v8 = 0 then
    itr (c_R_flip_l52) (fun _ _ _ _ _ _ => none) FU h7 this x1 x2 (0 : Int32) (0 : Int32)
  else
    gQ h7 this [4] 1 fun v9 =>
    nn v9 fun a10 =>
    hV (grd h7 this [4] (c_R_flip_2 12 h7 this a10 x1 x2)) noX fun h12 =>
    rV h12)
set_option maxHeartbeats 4000000 in
theorem w_R_flip_l52 (r52 : PH → Nat → Int32 → Int32 → Int32 → Int32 → Option RH) (hr52 : ∀ (h : PH) (this : Nat) (x1 : Int32) (x2 : Int32) (x4 : Int32) (x5 : Int32), Sim Y_R_flip h 52 [(0, .ref this), (1, .int x1), (2, .int x2), (4, .int x4), (5, .int x5)] [] (r52 h this x1 x2 x4 x5)) (h : PH) (this : Nat) (x1 : Int32) (x2 : Int32) (x4 : Int32) (x5 : Int32) : Sim Y_R_flip h 52 [(0, .ref this), (1, .int x1), (2, .int x2), (4, .int x4), (5, .int x5)] [] (c_R_flip_l52 r52 h this x1 x2 x4 x5) := by
  unfold c_R_flip_l52
  refine x_iload (pc := 52) 4 rfl dX5_flip_52 ?_
  refine x_aload_nR (pc := 54) (a := this) 0 rfl rfl dX5_flip_54 ?_
  refine x_getI (pc := 55) fi_X5_24 dX5_flip_55 ?_
  intro v1
  refine x_icmp_ge (pc := 58) 114 (by decide) dX5_flip_58 ?_ ?_
  · exact x_vret (pc := 114) dX5_flip_114
  · refine x_aload_nR (pc := 61) (a := this) 0 rfl rfl dX5_flip_61 ?_
    refine x_getQ (pc := 62) fi_X5_11 dX5_flip_62 ?_
    intro v2
    refine x_iload (pc := 65) 4 rfl dX5_flip_65 ?_
    refine x_nn (fun a3 e4 => ?_)
    subst e4
    refine x_aald (pc := 67) dX5_flip_67 ?_
    intro v5
    refine x_nn (fun a6 e7 => ?_)
    subst e7
    refine x_getI (pc := 68) fi_X5_65 dX5_flip_68 ?_
    intro v8
    refine x_istore (pc := 71) (lv' := [(6, .int v8), (0, .ref this), (1, .int x1), (2, .int x2), (4, .int x4), (5, .int x5)]) (by decide) rfl dX5_flip_71 ?_
    refine x_aload_nR (pc := 73) (a := this) 1 rfl rfl dX5_flip_73 ?_
    refine x_aload_nR (pc := 74) (a := this) 1 rfl rfl dX5_flip_74 ?_
    refine x_getQ (pc := 75) fi_X5_11 dX5_flip_75 ?_
    intro v9
    refine x_iload (pc := 78) 5 rfl dX5_flip_78 ?_
    refine x_nn (fun a10 e11 => ?_)
    subst e11
    refine x_aald (pc := 80) dX5_flip_80 ?_
    intro v12
    refine x_iload_n (pc := 81) 2 rfl rfl dX5_flip_81 ?_
    refine x_iload (pc := 82) 4 rfl dX5_flip_82 ?_
    refine x_isub (pc := 84) dX5_flip_84 ?_
    refine x_iconst (pc := 85) (v := 0) (by decide) dX5_flip_85 ?_
    refine x_mmax (pc := 86) q1040 (by omega) (cat4 (Nat.le_of_ble_eq_true rfl)) dX5_flip_86 ?_
    refine x_iload_n (pc := 89) 3 rfl rfl dX5_flip_89 ?_
    refine x_iload (pc := 90) 4 rfl dX5_flip_90 ?_
    refine x_isub (pc := 92) dX5_flip_92 ?_
    refine x_iload (pc := 93) 0 rfl dX5_flip_93 ?_
    refine x_mmin (pc := 95) q1162 (by omega) (cat4 (Nat.le_of_ble_eq_true rfl)) dX5_flip_95 ?_
    refine x_nn (fun a13 e14 => ?_)
    subst e14
    refine x_callV (pc := 98) (As := [.ref a13, .int (if (x1 - x4) < (0 : Int32) then (0 : Int32) else (x1 - x4)), .int (if v8 < (x2 - x4) then v8 else (x2 - x4))]) (rest := []) (lev' := (9 + 12)) si_X5_115 (MM.grd (m_R_flip_2 12 h this a13 (if (x1 - x4) < (0 : Int32) then (0 : Int32) else (x1 - x4)) (if v8 < (x2 - x4) then v8 else (x2 - x4)))) (fun z e => grd1 e) rfl rfl (by omega) (cat4 (Nat.le_of_ble_eq_true rfl)) dX5_flip_98 (kV (fun h15 => ?_)) xNo
    refine x_iload (pc := 101) 4 rfl dX5_flip_101 ?_
    refine x_iload (pc := 103) 0 rfl dX5_flip_103 ?_
    refine x_iadd (pc := 105) dX5_flip_105 ?_
    refine x_nmI (fun y16 => ?_)
    refine x_istore (pc := 106) (lv' := [(4, .int y16), (6, .int v8), (0, .ref this), (1, .int x1), (2, .int x2), (5, .int x5)]) (by decide) rfl dX5_flip_106 ?_
    refine x_iinc (pc := 108) (v := (1 : Int32)) (lv' := [(5, .int (x5 + (1 : Int32))), (4, .int y16), (6, .int v8), (0, .ref this), (1, .int x1), (2, .int x2)]) 5 rfl (by decide) (by decide) rfl dX5_flip_108 ?_
    refine x_goto (pc := 111) 52 (by decide) dX5_flip_111 ?_
    refine Sim.lv [3, 4, 5, 1, 0] rfl ?_
    exact hr52 h15 this x1 x2 y16 (x5 + (1 : Int32))
set_option maxHeartbeats 4000000 in
theorem v_R_flip_l52 : ∀ (n : Nat) (h : PH) (this : Nat) (x1 : Int32) (x2 : Int32) (x4 : Int32) (x5 : Int32), Sim Y_R_flip h 52 [(0, .ref this), (1, .int x1), (2, .int x2), (4, .int x4), (5, .int x5)] [] (itr (c_R_flip_l52) (fun _ _ _ _ _ _ => none) n h this x1 x2 x4 x5)
  | 0, h, this, x1, x2, x4, x5 => Sim.none
  | n + 1, h, this, x1, x2, x4, x5 => w_R_flip_l52 _ (v_R_flip_l52 n) h this x1 x2 x4 x5
set_option maxHeartbeats 4000000 in
theorem m_R_flip (h : PH) (this : Nat) (x1 : Int32) (x2 : Int32) : MM yX5_flip (ws_ yX5_flip cX5_flip 7 none) 22 [.ref this, .int x1, .int x2] h (c_R_flip h this x1 x2) := by
  refine MM.of (by decide) rfl (by decide) (Nat.le_of_ble_eq_true rfl) (own := RX5) (cc := cX5_flip) (maxL := 7) (lev := 22) (rt := none) (ini := false) ?_
  show Sim Y_R_flip h 0 [(0, .ref this), (1, .int x1), (2, .int x2)] [] _
  unfold c_R_flip
  refine x_grd ?_
  refine x_aload_nR (pc := 0) (a := this) 0 rfl rfl dX5_flip_0 ?_
  refine x_iload_n (pc := 1) 2 rfl rfl dX5_flip_1 ?_
  refine x_callV (pc := 2) (As := [.int x2]) (rest := []) (lev' := 3) si_X5_83 (m_R_onesAhead h this x2) (fun z e => grd1 e) rfl rfl (by decide) (cat4 (Nat.le_of_ble_eq_true rfl)) dX5_flip_2 (kI (fun v2 h1 => ?_)) xNo
  refine x_aload_nR (pc := 5) (a := this) 0 rfl rfl dX5_flip_5 ?_
  refine x_iload_n (pc := 6) 1 rfl rfl dX5_flip_6 ?_
  refine x_callV (pc := 7) (As := [.int x1]) (rest := [.int v2]) (lev' := 3) si_X5_83 (m_R_onesAhead h1 this x1) (fun z e => grd1 e) rfl rfl (by decide) (cat4 (Nat.le_of_ble_eq_true rfl)) dX5_flip_7 (kI (fun v4 h3 => ?_)) xNo
  refine x_isub (pc := 10) dX5_flip_10 ?_
  refine x_nmI (fun y5 => ?_)
  refine x_istore_n (pc := 11) (lv' := [(3, .int y5), (0, .ref this), (1, .int x1), (2, .int x2)]) rfl (by decide) rfl dX5_flip_11 ?_
  refine x_aload_nR (pc := 12) (a := this) 1 rfl rfl dX5_flip_12 ?_
  refine x_dup (pc := 13) rfl dX5_flip_13 ?_
  refine x_getI (pc := 14) fi_X5_21 dX5_flip_14 ?_
  intro v6
  refine x_iload_n (pc := 17) 3 rfl rfl dX5_flip_17 ?_
  refine x_iload_n (pc := 18) 2 rfl rfl dX5_flip_18 ?_
  refine x_isub (pc := 19) dX5_flip_19 ?_
  refine x_iconst (pc := 20) (v := 2) (by decide) dX5_flip_20 ?_
  refine x_iload_n (pc := 21) 0 rfl rfl dX5_flip_21 ?_
  refine x_imul (pc := 22) dX5_flip_22 ?_
  refine x_isub (pc := 23) dX5_flip_23 ?_
  refine x_iadd (pc := 24) dX5_flip_24 ?_
  refine x_pI (pc := 25) fi_X5_21 (fun z => absurd z (by decide)) dX5_flip_25 ?_
  intro h7
  refine x_aload_nR (pc := 28) (a := this) 1 rfl rfl dX5_flip_28 ?_
  refine x_getI (pc := 29) fi_X5_31 dX5_flip_29 ?_
  intro v8
  refine x_if_eq (pc := 32) 46 (by decide) dX5_flip_32 ?_ ?_
  · refine x_iconst (pc := 46) (v := 0) (by decide) dX5_flip_46 ?_
    refine x_istore (pc := 47) (lv' := [(4, .int (0 : Int32)), (3, .int y5), (0, .ref this), (1, .int x1), (2, .int x2)]) (by decide) rfl dX5_flip_47 ?_
    refine x_iconst (pc := 49) (v := 0) (by decide) dX5_flip_49 ?_
    refine x_istore (pc := 50) (lv' := [(5, .int (0 : Int32)), (4, .int (0 : Int32)), (3, .int y5), (0, .ref this), (1, .int x1), (2, .int x2)]) (by decide) rfl dX5_flip_50 ?_
    refine Sim.lv [3, 4, 5, 1, 0] rfl ?_
    exact v_R_flip_l52 FU h7 this x1 x2 (0 : Int32) (0 : Int32)
  · refine x_aload_nR (pc := 35) (a := this) 1 rfl rfl dX5_flip_35 ?_
    refine x_aload_nR (pc := 36) (a := this) 1 rfl rfl dX5_flip_36 ?_
    refine x_getQ (pc := 37) fi_X5_27 dX5_flip_37 ?_
    intro v9
    refine x_iload_n (pc := 40) 2 rfl rfl dX5_flip_40 ?_
    refine x_iload_n (pc := 41) 3 rfl rfl dX5_flip_41 ?_
    refine x_nn (fun a10 e11 => ?_)
    subst e11
    refine x_callV (pc := 42) (As := [.ref a10, .int x1, .int x2]) (rest := []) (lev' := (9 + 12)) si_X5_115 (MM.grd (m_R_flip_2 12 h7 this a10 x1 x2)) (fun z e => grd1 e) rfl rfl (by omega) (cat4 (Nat.le_of_ble_eq_true rfl)) dX5_flip_42 (kV (fun h12 => ?_)) xNo
    exact x_vret (pc := 45) dX5_flip_45
theorem fi_X3_9 : FI RX3 9 [2] 0 (.array .long) true true := (fi_c ci_2 (by decide) rfl rfl (Or.inl q254) (Or.inl rfl) (fun _ _ => rfl) fi_n)
theorem fi_X3_15 : FI RX3 15 [2] 2 .int false true := (fi_c ci_2 (by decide) rfl rfl (Or.inl q263) (Or.inl rfl) (fun h => absurd h (by decide)) fi_n)
abbrev Y_O_init : Yx := (RX3, cX3_init, 1, 1, none, [], true)
def c_O_init (h : PH) (this : Nat) : Option RH :=
  grd h this [2] (
  newA h 1 (4 : Int32) (.inr (.inl (fun _ => 0))) fun a1 h2 =>
  pQ h2 this [2] 0 (some a1) fun h3 =>
  pI h3 this [2] 2 (8 : Int32) fun h4 =>
  rV h4)
set_option maxHeartbeats 4000000 in
theorem m_O_init (h : PH) (this : Nat) : MM yX3_init (ws_ yX3_init cX3_init 1 none) 1 [.ref this] h (c_O_init h this) := by
  refine MM.of (by decide) rfl (by decide) (Nat.le_of_ble_eq_true rfl) (own := RX3) (cc := cX3_init) (maxL := 1) (lev := 1) (rt := none) (ini := true) ?_
  show Sim Y_O_init h 0 [(0, .ref this)] [] _
  unfold c_O_init
  refine x_grd ?_
  refine x_aload_nR (pc := 0) (a := this) 0 rfl rfl dX3_init_0 ?_
  refine x_objInit (pc := 1) q253 (by omega) (by decide) dX3_init_1 ?_
  refine x_aload_nR (pc := 4) (a := this) 0 rfl rfl dX3_init_4 ?_
  refine x_iconst (pc := 5) (v := 4) (by decide) dX3_init_5 ?_
  refine x_newaL (pc := 6) dX3_init_6 ?_
  intro a1 h2
  refine x_pQA (pc := 8) (v := (some a1)) fi_X3_9 (fun _ => rfl) dX3_init_8 ?_
  intro h3
  refine x_aload_nR (pc := 11) (a := this) 0 rfl rfl dX3_init_11 ?_
  refine x_bipush (pc := 12) (v := 8) (by decide) dX3_init_12 ?_
  refine x_pI (pc := 14) fi_X3_15 (fun z => absurd z (by decide)) dX3_init_14 ?_
  intro h4
  exact x_vret (pc := 17) dX3_init_17
theorem fi_X4_17 : FI RX4 17 [3] 1 (.array (.object "BitRopes$Rope")) true true := (fi_c ci_3 (by decide) rfl rfl (Or.inl q324) (Or.inl rfl) (fun _ _ => rfl) fi_n)
theorem ni_X4_9 : NI RX4 9 4 [.null, .null, .int 0, .int 0, .int 0, .int 0, .int 0, .int 0, .int 0] := ⟨_, _, _, _, ci_4, q281, q283, q116, by decide +kernel, rfl⟩
theorem si_X4_20 : SiIN RX4 20 "BitRopes" yX5_init cX5_init 1 0 := ⟨q286, q116, q284, q285, rfl, ⟨by decide, by decide, by decide +kernel⟩, by decide⟩
theorem fi_X4_11 : FI RX4 11 [3] 0 (.array (.object "BitRopes$Rope")) true true := (fi_c ci_3 (by decide) rfl rfl (Or.inl q321) (Or.inl rfl) (fun _ _ => rfl) fi_n)
abbrev Y_S_init : Yx := (RX4, cX4_init, 2, 2, none, [], true)
def c_S_init_l49 (r49 : PH → Nat → Int32 → Option RH) (h : PH) (this : Nat) (x1 : Int32) : Option RH :=
  if (7 : Int32) ≤ x1 then
    rV h
  else
    gQ h this [3] 1 fun v1 =>
    newO h 4 [.null, .null, .int 0, .int 0, .int 0, .int 0, .int 0, .int 0, .int 0] fun a2 h3 =>
    hV (c_R_init h3 a2) noX fun h4 =>
    nn v1 fun a5 =>
    stQ h4 a5 x1 (some a2) fun h7 =>
    r49 h7 this (x1 + (1 : Int32))
def c_S_init_l23 (r23 : PH → Nat → Int32 → Option RH) (h : PH) (this : Nat) (x1 : Int32) : Option RH :=
  if (4 : Int32) ≤ x1 then
    itr (c_S_init_l49) (fun _ _ _ => none) FU h this (0 : Int32)
  else
    gQ h this [3] 0 fun v1 =>
    newO h 4 [.null, .null, .int 0, .int 0, .int 0, .int 0, .int 0, .int 0, .int 0] fun a2 h3 =>
    hV (c_R_init h3 a2) noX fun h4 =>
    nn v1 fun a5 =>
    stQ h4 a5 x1 (some a2) fun h7 =>
    r23 h7 this (x1 + (1 : Int32))
def c_S_init (h : PH) (this : Nat) : Option RH :=
  grd h this [3] (
  newA h 7 (4 : Int32) (.inr (.inr (.inr (.inr (fun _ => none))))) fun a1 h2 =>
  pQ h2 this [3] 0 (some a1) fun h3 =>
  newA h3 7 (7 : Int32) (.inr (.inr (.inr (.inr (fun _ => none))))) fun a4 h5 =>
  pQ h5 this [3] 1 (some a4) fun h6 =>
  itr (c_S_init_l23) (fun _ _ _ => none) FU h6 this (0 : Int32))
set_option maxHeartbeats 4000000 in
theorem w_S_init_l49 (r49 : PH → Nat → Int32 → Option RH) (hr49 : ∀ (h : PH) (this : Nat) (x1 : Int32), Sim Y_S_init h 49 [(0, .ref this), (1, .int x1)] [] (r49 h this x1)) (h : PH) (this : Nat) (x1 : Int32) : Sim Y_S_init h 49 [(0, .ref this), (1, .int x1)] [] (c_S_init_l49 r49 h this x1) := by
  unfold c_S_init_l49
  refine x_iload_n (pc := 49) 1 rfl rfl dX4_init_49 ?_
  refine x_bipush (pc := 50) (v := 7) (by decide) dX4_init_50 ?_
  refine x_icmp_ge (pc := 52) 74 (by decide) dX4_init_52 ?_ ?_
  · exact x_vret (pc := 74) dX4_init_74
  · refine x_aload_nR (pc := 55) (a := this) 0 rfl rfl dX4_init_55 ?_
    refine x_getQ (pc := 56) fi_X4_17 dX4_init_56 ?_
    intro v1
    refine x_iload_n (pc := 59) 1 rfl rfl dX4_init_59 ?_
    refine x_new (pc := 60) ni_X4_9 dX4_init_60 ?_
    intro a2 h3
    refine x_dup (pc := 63) rfl dX4_init_63 ?_
    refine x_callIN (pc := 64) (As := []) (rest := [.ref a2, .int x1, va_rf v1]) (lev' := 1) si_X4_20 (m_R_init h3 a2) rfl rfl (by decide) (cat4 (Nat.le_of_ble_eq_true rfl)) dX4_init_64 (kV (fun h4 => ?_)) xNo
    refine x_nn (fun a5 e6 => ?_)
    subst e6
    refine x_aast (pc := 67) (r := (some a2)) dX4_init_67 ?_
    intro h7
    refine x_iinc (pc := 68) (v := (1 : Int32)) (lv' := [(1, .int (x1 + (1 : Int32))), (0, .ref this)]) 1 rfl (by decide) (by decide) rfl dX4_init_68 ?_
    refine x_goto (pc := 71) 49 (by decide) dX4_init_71 ?_
    refine Sim.lv [1, 0] rfl ?_
    exact hr49 h7 this (x1 + (1 : Int32))
set_option maxHeartbeats 4000000 in
theorem v_S_init_l49 : ∀ (n : Nat) (h : PH) (this : Nat) (x1 : Int32), Sim Y_S_init h 49 [(0, .ref this), (1, .int x1)] [] (itr (c_S_init_l49) (fun _ _ _ => none) n h this x1)
  | 0, h, this, x1 => Sim.none
  | n + 1, h, this, x1 => w_S_init_l49 _ (v_S_init_l49 n) h this x1
set_option maxHeartbeats 4000000 in
theorem w_S_init_l23 (r23 : PH → Nat → Int32 → Option RH) (hr23 : ∀ (h : PH) (this : Nat) (x1 : Int32), Sim Y_S_init h 23 [(0, .ref this), (1, .int x1)] [] (r23 h this x1)) (h : PH) (this : Nat) (x1 : Int32) : Sim Y_S_init h 23 [(0, .ref this), (1, .int x1)] [] (c_S_init_l23 r23 h this x1) := by
  unfold c_S_init_l23
  refine x_iload_n (pc := 23) 1 rfl rfl dX4_init_23 ?_
  refine x_iconst (pc := 24) (v := 4) (by decide) dX4_init_24 ?_
  refine x_icmp_ge (pc := 25) 47 (by decide) dX4_init_25 ?_ ?_
  · refine x_iconst (pc := 47) (v := 0) (by decide) dX4_init_47 ?_
    refine x_istore_n (pc := 48) (lv' := [(1, .int (0 : Int32)), (0, .ref this)]) rfl (by decide) rfl dX4_init_48 ?_
    refine Sim.lv [1, 0] rfl ?_
    exact v_S_init_l49 FU h this (0 : Int32)
  · refine x_aload_nR (pc := 28) (a := this) 0 rfl rfl dX4_init_28 ?_
    refine x_getQ (pc := 29) fi_X4_11 dX4_init_29 ?_
    intro v1
    refine x_iload_n (pc := 32) 1 rfl rfl dX4_init_32 ?_
    refine x_new (pc := 33) ni_X4_9 dX4_init_33 ?_
    intro a2 h3
    refine x_dup (pc := 36) rfl dX4_init_36 ?_
    refine x_callIN (pc := 37) (As := []) (rest := [.ref a2, .int x1, va_rf v1]) (lev' := 1) si_X4_20 (m_R_init h3 a2) rfl rfl (by decide) (cat4 (Nat.le_of_ble_eq_true rfl)) dX4_init_37 (kV (fun h4 => ?_)) xNo
    refine x_nn (fun a5 e6 => ?_)
    subst e6
    refine x_aast (pc := 40) (r := (some a2)) dX4_init_40 ?_
    intro h7
    refine x_iinc (pc := 41) (v := (1 : Int32)) (lv' := [(1, .int (x1 + (1 : Int32))), (0, .ref this)]) 1 rfl (by decide) (by decide) rfl dX4_init_41 ?_
    refine x_goto (pc := 44) 23 (by decide) dX4_init_44 ?_
    refine Sim.lv [1, 0] rfl ?_
    exact hr23 h7 this (x1 + (1 : Int32))
set_option maxHeartbeats 4000000 in
theorem v_S_init_l23 : ∀ (n : Nat) (h : PH) (this : Nat) (x1 : Int32), Sim Y_S_init h 23 [(0, .ref this), (1, .int x1)] [] (itr (c_S_init_l23) (fun _ _ _ => none) n h this x1)
  | 0, h, this, x1 => Sim.none
  | n + 1, h, this, x1 => w_S_init_l23 _ (v_S_init_l23 n) h this x1
set_option maxHeartbeats 4000000 in
theorem m_S_init (h : PH) (this : Nat) : MM yX4_init (ws_ yX4_init cX4_init 2 none) 2 [.ref this] h (c_S_init h this) := by
  refine MM.of (by decide) rfl (by decide) (Nat.le_of_ble_eq_true rfl) (own := RX4) (cc := cX4_init) (maxL := 2) (lev := 2) (rt := none) (ini := true) ?_
  show Sim Y_S_init h 0 [(0, .ref this)] [] _
  unfold c_S_init
  refine x_grd ?_
  refine x_aload_nR (pc := 0) (a := this) 0 rfl rfl dX4_init_0 ?_
  refine x_objInit (pc := 1) q280 (by omega) (by decide) dX4_init_1 ?_
  refine x_aload_nR (pc := 4) (a := this) 0 rfl rfl dX4_init_4 ?_
  refine x_iconst (pc := 5) (v := 4) (by decide) dX4_init_5 ?_
  refine x_newaQ (pc := 6) (C := RX5) (t := 7) (by decide +kernel) q281 (fun G s hk => (hk.1.2 7 _ rfl).2.choose_spec.choose_spec.2.2.2) dX4_init_6 ?_
  intro a1 h2
  refine x_pQA (pc := 9) (v := (some a1)) fi_X4_11 (fun _ => rfl) dX4_init_9 ?_
  intro h3
  refine x_aload_nR (pc := 12) (a := this) 0 rfl rfl dX4_init_12 ?_
  refine x_bipush (pc := 13) (v := 7) (by decide) dX4_init_13 ?_
  refine x_newaQ (pc := 15) (C := RX5) (t := 7) (by decide +kernel) q281 (fun G s hk => (hk.1.2 7 _ rfl).2.choose_spec.choose_spec.2.2.2) dX4_init_15 ?_
  intro a4 h5
  refine x_pQA (pc := 18) (v := (some a4)) fi_X4_17 (fun _ => rfl) dX4_init_18 ?_
  intro h6
  refine x_iconst (pc := 21) (v := 0) (by decide) dX4_init_21 ?_
  refine x_istore_n (pc := 22) (lv' := [(1, .int (0 : Int32)), (0, .ref this)]) rfl (by decide) rfl dX4_init_22 ?_
  refine Sim.lv [1, 0] rfl ?_
  exact v_S_init_l23 FU h6 this (0 : Int32)
theorem fi_X4_35 : FI RX4 35 [4] 3 .int false true := (fi_c ci_4 (by decide) rfl rfl (Or.inr ⟨_, q294⟩) (Or.inl rfl) (fun h => absurd h (by decide)) fi_n)
theorem si_X4_36 : SiV RX4 36 4 yX5_clear cX5_clear 1 none 0 := ⟨_, _, _, ci_4.1, by decide, lw_V q446 q447 q448 q116 q449, ⟨rfl, by decide, by decide, by decide +kernel⟩, by decide⟩
abbrev Y_S_begin_2 : Yx := (RX4, cX4_begin_2, 3, 2, none, [], false)
def c_S_begin_2 (h : PH) (this : Nat) (x1 : Nat) (x2 : Int32) : Option RH :=
  grd h this [3] (
  pI h x1 [4] 3 x2 fun h1 =>
  hV (c_R_clear h1 x1) noX fun h2 =>
  rV h2)
set_option maxHeartbeats 4000000 in
theorem m_S_begin_2 (h : PH) (this : Nat) (x1 : Nat) (x2 : Int32) : MM yX4_begin_2 (ws_ yX4_begin_2 cX4_begin_2 3 none) 2 [.ref this, .ref x1, .int x2] h (c_S_begin_2 h this x1 x2) := by
  refine MM.of (by decide) rfl (by decide) (Nat.le_of_ble_eq_true rfl) (own := RX4) (cc := cX4_begin_2) (maxL := 3) (lev := 2) (rt := none) (ini := false) ?_
  show Sim Y_S_begin_2 h 0 [(0, .ref this), (1, .ref x1), (2, .int x2)] [] _
  unfold c_S_begin_2
  refine x_grd ?_
  refine x_aload_nR (pc := 0) (a := x1) 1 rfl rfl dX4_begin_2_0 ?_
  refine x_iload_n (pc := 1) 2 rfl rfl dX4_begin_2_1 ?_
  refine x_pI (pc := 2) fi_X4_35 (fun z => absurd z (by decide)) dX4_begin_2_2 ?_
  intro h1
  refine x_aload_nR (pc := 5) (a := x1) 1 rfl rfl dX4_begin_2_5 ?_
  refine x_callV (pc := 6) (As := []) (rest := []) (lev' := 1) si_X4_36 (m_R_clear h1 x1) (fun z e => grd1 e) rfl rfl (by decide) (cat4 (Nat.le_of_ble_eq_true rfl)) dX4_begin_2_6 (kV (fun h2 => ?_)) xNo
  exact x_vret (pc := 9) dX4_begin_2_9
theorem fi_X4_28 : FI RX4 28 [2] 2 .int false true := (fi_c ci_2 (by decide) rfl rfl (Or.inr ⟨_, q264⟩) (Or.inl rfl) (fun h => absurd h (by decide)) fi_n)
theorem si_X4_31 : SiV RX4 31 3 yX4_begin_2 cX4_begin_2 3 none 2 := ⟨_, _, _, ci_3.1, by decide, lw_V q442 q444 qs1 q115 q445, ⟨rfl, by decide, by decide, by decide +kernel⟩, by decide⟩
theorem fi_X4_21 : FI RX4 21 [2] 1 .int false true := (fi_c ci_2 (by decide) rfl rfl (Or.inr ⟨_, q258⟩) (Or.inl rfl) (fun h => absurd h (by decide)) fi_n)
theorem fi_X4_27 : FI RX4 27 [3] 2 .int false true := (fi_c ci_3 (by decide) rfl rfl (Or.inl q326) (Or.inl rfl) (fun h => absurd h (by decide)) fi_n)
abbrev Y_S_begin : Yx := (RX4, cX4_begin, 6, 3, none, [], false)
def c_S_begin_l58 (r58 : PH → Nat → Nat → Option Nat → Int32 → Int32 → Option RH) (h : PH) (this : Nat) (x1 : Nat) (x2 : Option Nat) (x3 : Int32) (x4 : Int32) : Option RH :=
  if x3 ≤ x4 then
    rV h
  else
    nn x2 fun a1 =>
    ldQ h a1 x4 fun v3 =>
    gI h x1 [2] 2 fun v4 =>
    nn v3 fun a5 =>
    hV (c_S_begin_2 h this a5 v4) noX fun h7 =>
    r58 h7 this x1 (some a1) x3 (x4 + (1 : Int32))
def c_S_begin_l19 (r19 : PH → Nat → Nat → Option Nat → Int32 → Int32 → Option RH) (h : PH) (this : Nat) (x1 : Nat) (x2 : Option Nat) (x3 : Int32) (x4 : Int32) : Option RH :=
  if x3 ≤ x4 then
    gQ h this [3] 1 fun v1 =>
    nn v1 fun a2 =>
    alen h a2 fun v4 =>
    itr (c_S_begin_l58) (fun _ _ _ _ _ _ => none) FU h this x1 (some a2) v4 (0 : Int32)
  else
    nn x2 fun a5 =>
    ldQ h a5 x4 fun v7 =>
    gI h x1 [2] 2 fun v8 =>
    nn v7 fun a9 =>
    hV (c_S_begin_2 h this a9 v8) noX fun h11 =>
    r19 h11 this x1 (some a5) x3 (x4 + (1 : Int32))
def c_S_begin (h : PH) (this : Nat) (x1 : Nat) : Option RH :=
  grd h this [3] (
  gI h x1 [2] 1 fun v1 =>
  pI h this [3] 2 v1 fun h2 =>
  gQ h2 this [3] 0 fun v3 =>
  nn v3 fun a4 =>
  alen h2 a4 fun v6 =>
  itr (c_S_begin_l19) (fun _ _ _ _ _ _ => none) FU h2 this x1 (some a4) v6 (0 : Int32))
set_option maxHeartbeats 4000000 in
theorem w_S_begin_l58 (r58 : PH → Nat → Nat → Option Nat → Int32 → Int32 → Option RH) (hr58 : ∀ (h : PH) (this : Nat) (x1 : Nat) (x2 : Option Nat) (x3 : Int32) (x4 : Int32), Sim Y_S_begin h 58 [(0, .ref this), (1, .ref x1), (2, va_rf x2), (3, .int x3), (4, .int x4)] [] (r58 h this x1 x2 x3 x4)) (h : PH) (this : Nat) (x1 : Nat) (x2 : Option Nat) (x3 : Int32) (x4 : Int32) : Sim Y_S_begin h 58 [(0, .ref this), (1, .ref x1), (2, va_rf x2), (3, .int x3), (4, .int x4)] [] (c_S_begin_l58 r58 h this x1 x2 x3 x4) := by
  unfold c_S_begin_l58
  refine x_iload (pc := 58) 4 rfl dX4_begin_58 ?_
  refine x_iload_n (pc := 60) 3 rfl rfl dX4_begin_60 ?_
  refine x_icmp_ge (pc := 61) 86 (by decide) dX4_begin_61 ?_ ?_
  · exact x_vret (pc := 86) dX4_begin_86
  · refine x_aload_n (pc := 64) (r := x2) 2 rfl rfl dX4_begin_64 ?_
    refine x_iload (pc := 65) 4 rfl dX4_begin_65 ?_
    refine x_nn (fun a1 e2 => ?_)
    subst e2
    refine x_aald (pc := 67) dX4_begin_67 ?_
    intro v3
    refine x_astore (pc := 68) (r := v3) (lv' := [(5, va_rf v3), (0, .ref this), (1, .ref x1), (2, .ref a1), (3, .int x3), (4, .int x4)]) (by decide) rfl dX4_begin_68 ?_
    refine x_aload_nR (pc := 70) (a := this) 1 rfl rfl dX4_begin_70 ?_
    refine x_aload (pc := 71) (r := v3) 0 rfl dX4_begin_71 ?_
    refine x_aload_nR (pc := 73) (a := x1) 2 rfl rfl dX4_begin_73 ?_
    refine x_getI (pc := 74) fi_X4_28 dX4_begin_74 ?_
    intro v4
    refine x_nn (fun a5 e6 => ?_)
    subst e6
    refine x_callV (pc := 77) (As := [.ref a5, .int v4]) (rest := []) (lev' := 2) si_X4_31 (m_S_begin_2 h this a5 v4) (fun z e => grd1 e) rfl rfl (by decide) (cat4 (Nat.le_of_ble_eq_true rfl)) dX4_begin_77 (kV (fun h7 => ?_)) xNo
    refine x_iinc (pc := 80) (v := (1 : Int32)) (lv' := [(4, .int (x4 + (1 : Int32))), (5, .ref a5), (0, .ref this), (1, .ref x1), (2, .ref a1), (3, .int x3)]) 5 rfl (by decide) (by decide) rfl dX4_begin_80 ?_
    refine x_goto (pc := 83) 58 (by decide) dX4_begin_83 ?_
    refine Sim.lv [2, 3, 4, 5, 0] rfl ?_
    exact hr58 h7 this x1 (some a1) x3 (x4 + (1 : Int32))
set_option maxHeartbeats 4000000 in
theorem v_S_begin_l58 : ∀ (n : Nat) (h : PH) (this : Nat) (x1 : Nat) (x2 : Option Nat) (x3 : Int32) (x4 : Int32), Sim Y_S_begin h 58 [(0, .ref this), (1, .ref x1), (2, va_rf x2), (3, .int x3), (4, .int x4)] [] (itr (c_S_begin_l58) (fun _ _ _ _ _ _ => none) n h this x1 x2 x3 x4)
  | 0, h, this, x1, x2, x3, x4 => Sim.none
  | n + 1, h, this, x1, x2, x3, x4 => w_S_begin_l58 _ (v_S_begin_l58 n) h this x1 x2 x3 x4
set_option maxHeartbeats 4000000 in
theorem w_S_begin_l19 (r19 : PH → Nat → Nat → Option Nat → Int32 → Int32 → Option RH) (hr19 : ∀ (h : PH) (this : Nat) (x1 : Nat) (x2 : Option Nat) (x3 : Int32) (x4 : Int32), Sim Y_S_begin h 19 [(0, .ref this), (1, .ref x1), (2, va_rf x2), (3, .int x3), (4, .int x4)] [] (r19 h this x1 x2 x3 x4)) (h : PH) (this : Nat) (x1 : Nat) (x2 : Option Nat) (x3 : Int32) (x4 : Int32) : Sim Y_S_begin h 19 [(0, .ref this), (1, .ref x1), (2, va_rf x2), (3, .int x3), (4, .int x4)] [] (c_S_begin_l19 r19 h this x1 x2 x3 x4) := by
  unfold c_S_begin_l19
  refine x_iload (pc := 19) 4 rfl dX4_begin_19 ?_
  refine x_iload_n (pc := 21) 3 rfl rfl dX4_begin_21 ?_
  refine x_icmp_ge (pc := 22) 47 (by decide) dX4_begin_22 ?_ ?_
  · refine x_aload_nR (pc := 47) (a := this) 0 rfl rfl dX4_begin_47 ?_
    refine x_getQ (pc := 48) fi_X4_17 dX4_begin_48 ?_
    intro v1
    refine x_astore_n (pc := 51) (r := v1) (lv' := [(2, va_rf v1), (0, .ref this), (1, .ref x1), (3, .int x3), (4, .int x4)]) rfl (by decide) rfl dX4_begin_51 ?_
    refine x_aload_n (pc := 52) (r := v1) 0 rfl rfl dX4_begin_52 ?_
    refine x_nn (fun a2 e3 => ?_)
    subst e3
    refine x_alen (pc := 53) dX4_begin_53 ?_
    intro v4
    refine x_istore_n (pc := 54) (lv' := [(3, .int v4), (2, .ref a2), (0, .ref this), (1, .ref x1), (4, .int x4)]) rfl (by decide) rfl dX4_begin_54 ?_
    refine x_iconst (pc := 55) (v := 0) (by decide) dX4_begin_55 ?_
    refine x_istore (pc := 56) (lv' := [(4, .int (0 : Int32)), (3, .int v4), (2, .ref a2), (0, .ref this), (1, .ref x1)]) (by decide) rfl dX4_begin_56 ?_
    refine Sim.lv [3, 4, 2, 1, 0] rfl ?_
    exact v_S_begin_l58 FU h this x1 (some a2) v4 (0 : Int32)
  · refine x_aload_n (pc := 25) (r := x2) 2 rfl rfl dX4_begin_25 ?_
    refine x_iload (pc := 26) 4 rfl dX4_begin_26 ?_
    refine x_nn (fun a5 e6 => ?_)
    subst e6
    refine x_aald (pc := 28) dX4_begin_28 ?_
    intro v7
    refine x_astore (pc := 29) (r := v7) (lv' := [(5, va_rf v7), (0, .ref this), (1, .ref x1), (2, .ref a5), (3, .int x3), (4, .int x4)]) (by decide) rfl dX4_begin_29 ?_
    refine x_aload_nR (pc := 31) (a := this) 1 rfl rfl dX4_begin_31 ?_
    refine x_aload (pc := 32) (r := v7) 0 rfl dX4_begin_32 ?_
    refine x_aload_nR (pc := 34) (a := x1) 2 rfl rfl dX4_begin_34 ?_
    refine x_getI (pc := 35) fi_X4_28 dX4_begin_35 ?_
    intro v8
    refine x_nn (fun a9 e10 => ?_)
    subst e10
    refine x_callV (pc := 38) (As := [.ref a9, .int v8]) (rest := []) (lev' := 2) si_X4_31 (m_S_begin_2 h this a9 v8) (fun z e => grd1 e) rfl rfl (by decide) (cat4 (Nat.le_of_ble_eq_true rfl)) dX4_begin_38 (kV (fun h11 => ?_)) xNo
    refine x_iinc (pc := 41) (v := (1 : Int32)) (lv' := [(4, .int (x4 + (1 : Int32))), (5, .ref a9), (0, .ref this), (1, .ref x1), (2, .ref a5), (3, .int x3)]) 5 rfl (by decide) (by decide) rfl dX4_begin_41 ?_
    refine x_goto (pc := 44) 19 (by decide) dX4_begin_44 ?_
    refine Sim.lv [2, 3, 4, 5, 0] rfl ?_
    exact hr19 h11 this x1 (some a5) x3 (x4 + (1 : Int32))
set_option maxHeartbeats 4000000 in
theorem v_S_begin_l19 : ∀ (n : Nat) (h : PH) (this : Nat) (x1 : Nat) (x2 : Option Nat) (x3 : Int32) (x4 : Int32), Sim Y_S_begin h 19 [(0, .ref this), (1, .ref x1), (2, va_rf x2), (3, .int x3), (4, .int x4)] [] (itr (c_S_begin_l19) (fun _ _ _ _ _ _ => none) n h this x1 x2 x3 x4)
  | 0, h, this, x1, x2, x3, x4 => Sim.none
  | n + 1, h, this, x1, x2, x3, x4 => w_S_begin_l19 _ (v_S_begin_l19 n) h this x1 x2 x3 x4
set_option maxHeartbeats 4000000 in
theorem m_S_begin (h : PH) (this : Nat) (x1 : Nat) : MM yX4_begin (ws_ yX4_begin cX4_begin 6 none) 3 [.ref this, .ref x1] h (c_S_begin h this x1) := by
  refine MM.of (by decide) rfl (by decide) (Nat.le_of_ble_eq_true rfl) (own := RX4) (cc := cX4_begin) (maxL := 6) (lev := 3) (rt := none) (ini := false) ?_
  show Sim Y_S_begin h 0 [(0, .ref this), (1, .ref x1)] [] _
  unfold c_S_begin
  refine x_grd ?_
  refine x_aload_nR (pc := 0) (a := this) 0 rfl rfl dX4_begin_0 ?_
  refine x_aload_nR (pc := 1) (a := x1) 1 rfl rfl dX4_begin_1 ?_
  refine x_getI (pc := 2) fi_X4_21 dX4_begin_2 ?_
  intro v1
  refine x_pI (pc := 5) fi_X4_27 (fun z => absurd z (by decide)) dX4_begin_5 ?_
  intro h2
  refine x_aload_nR (pc := 8) (a := this) 0 rfl rfl dX4_begin_8 ?_
  refine x_getQ (pc := 9) fi_X4_11 dX4_begin_9 ?_
  intro v3
  refine x_astore_n (pc := 12) (r := v3) (lv' := [(2, va_rf v3), (0, .ref this), (1, .ref x1)]) rfl (by decide) rfl dX4_begin_12 ?_
  refine x_aload_n (pc := 13) (r := v3) 0 rfl rfl dX4_begin_13 ?_
  refine x_nn (fun a4 e5 => ?_)
  subst e5
  refine x_alen (pc := 14) dX4_begin_14 ?_
  intro v6
  refine x_istore_n (pc := 15) (lv' := [(3, .int v6), (2, .ref a4), (0, .ref this), (1, .ref x1)]) rfl (by decide) rfl dX4_begin_15 ?_
  refine x_iconst (pc := 16) (v := 0) (by decide) dX4_begin_16 ?_
  refine x_istore (pc := 17) (lv' := [(4, .int (0 : Int32)), (3, .int v6), (2, .ref a4), (0, .ref this), (1, .ref x1)]) (by decide) rfl dX4_begin_17 ?_
  refine Sim.lv [3, 4, 2, 1, 0] rfl ?_
  exact v_S_begin_l19 FU h2 this x1 (some a4) v6 (0 : Int32)
theorem si_X4_49 : SiV RX4 49 4 yX5_wide cX5_wide 1 (some .int) 0 := ⟨_, _, _, ci_4.1, by decide, lw_V q856 q736 q737 q116 q738, ⟨rfl, by decide, by decide, by decide +kernel⟩, by decide⟩
abbrev Y_S_typed : Yx := (RX4, cX4_typed, 1, 2, (some .int), [], false)
def c_S_typed (h : PH) (this : Nat) : Option RH :=
  grd h this [3] (
  gQ h this [3] 1 fun v1 =>
  nn v1 fun a2 =>
  ldQ h a2 (0 : Int32) fun v4 =>
  nn v4 fun a5 =>
  hI (c_R_wide h a5) noX fun v8 h7 =>
  rI v8 h7)
set_option maxHeartbeats 4000000 in
theorem m_S_typed (h : PH) (this : Nat) : MM yX4_typed (ws_ yX4_typed cX4_typed 1 (some .int)) 2 [.ref this] h (c_S_typed h this) := by
  refine MM.of (by decide) rfl (by decide) (Nat.le_of_ble_eq_true rfl) (own := RX4) (cc := cX4_typed) (maxL := 1) (lev := 2) (rt := (some .int)) (ini := false) ?_
  show Sim Y_S_typed h 0 [(0, .ref this)] [] _
  unfold c_S_typed
  refine x_grd ?_
  refine x_aload_nR (pc := 0) (a := this) 0 rfl rfl dX4_typed_0 ?_
  refine x_getQ (pc := 1) fi_X4_17 dX4_typed_1 ?_
  intro v1
  refine x_iconst (pc := 4) (v := 0) (by decide) dX4_typed_4 ?_
  refine x_nn (fun a2 e3 => ?_)
  subst e3
  refine x_aald (pc := 5) dX4_typed_5 ?_
  intro v4
  refine x_nn (fun a5 e6 => ?_)
  subst e6
  refine x_callV (pc := 6) (As := []) (rest := []) (lev' := 1) si_X4_49 (m_R_wide h a5) (fun z e => grd1 e) rfl rfl (by decide) (cat4 (Nat.le_of_ble_eq_true rfl)) dX4_typed_6 (kI (fun v8 h7 => ?_)) xNo
  exact x_iret (pc := 9) dX4_typed_9
theorem si_X4_57 : SiV RX4 57 4 yX5_before cX5_before 3 (some .int) 2 := ⟨_, _, _, ci_4.1, by decide, lw_V q861 q862 q863 q116 q864, ⟨rfl, by decide, by decide, by decide +kernel⟩, by decide⟩
theorem si_X4_74 : SiV RX4 74 4 yX5_insert cX5_insert 5 none 2 := ⟨_, _, _, ci_4.1, by decide, lw_V q874 q740 q741 q116 q742, ⟨rfl, by decide, by decide, by decide +kernel⟩, by decide⟩
abbrev Y_S_types : Yx := (RX4, cX4_types, 8, 18, none, [], false)
def c_S_types_l8 (r8 : PH → Nat → Int32 → Int32 → Int32 → Int32 → Option RH) (h : PH) (this : Nat) (x2 : Int32) (x3 : Int32) (x4 : Int32) (x5 : Int32) : Option RH :=
  if x5 < 0 then
    rV h
  else
    nm ((x2 >>> (x5 &&& 31)) &&& (1 : Int32)) fun y1 =>
    gQ h this [3] 1 fun v2 =>
    nn v2 fun a3 =>
    ldQ h a3 x3 fun v5 =>
    nn v5 fun a6 =>
    hI (c_R_before h a6 x4 y1) noX fun v9 h8 =>
    gQ h8 this [3] 1 fun v10 =>
    nn v10 fun a11 =>
    ldQ h8 a11 x3 fun v13 =>
    nn v13 fun a14 =>
    hV (c_R_insert h8 a14 x4 y1) noX fun h16 =>
    nm ((((2 : Int32) * x3) + (1 : Int32)) + y1) fun y17 =>
    r8 h16 this x2 y17 v9 (x5 + (-1 : Int32))
def c_S_types (h : PH) (this : Nat) (x1 : Int32) (x2 : Int32) : Option RH :=
  grd h this [3] (
  itr (c_S_types_l8) (fun _ _ _ _ _ _ => none) FU h this x2 (0 : Int32) x1 (2 : Int32))
set_option maxHeartbeats 4000000 in
theorem w_S_types_l8 (r8 : PH → Nat → Int32 → Int32 → Int32 → Int32 → Option RH) (hr8 : ∀ (h : PH) (this : Nat) (x2 : Int32) (x3 : Int32) (x4 : Int32) (x5 : Int32), Sim Y_S_types h 8 [(0, .ref this), (2, .int x2), (3, .int x3), (4, .int x4), (5, .int x5)] [] (r8 h this x2 x3 x4 x5)) (h : PH) (this : Nat) (x2 : Int32) (x3 : Int32) (x4 : Int32) (x5 : Int32) : Sim Y_S_types h 8 [(0, .ref this), (2, .int x2), (3, .int x3), (4, .int x4), (5, .int x5)] [] (c_S_types_l8 r8 h this x2 x3 x4 x5) := by
  unfold c_S_types_l8
  refine x_iload (pc := 8) 4 rfl dX4_types_8 ?_
  refine x_if_lt (pc := 10) 68 (by decide) dX4_types_10 ?_ ?_
  · exact x_vret (pc := 68) dX4_types_68
  · refine x_iload_n (pc := 13) 1 rfl rfl dX4_types_13 ?_
    refine x_iload (pc := 14) 4 rfl dX4_types_14 ?_
    refine x_ishr (pc := 16) dX4_types_16 ?_
    refine x_iconst (pc := 17) (v := 1) (by decide) dX4_types_17 ?_
    refine x_iand (pc := 18) dX4_types_18 ?_
    refine x_nmI (fun y1 => ?_)
    refine x_istore (pc := 19) (lv' := [(6, .int y1), (0, .ref this), (2, .int x2), (3, .int x3), (4, .int x4), (5, .int x5)]) (by decide) rfl dX4_types_19 ?_
    refine x_aload_nR (pc := 21) (a := this) 1 rfl rfl dX4_types_21 ?_
    refine x_getQ (pc := 22) fi_X4_17 dX4_types_22 ?_
    intro v2
    refine x_iload_n (pc := 25) 3 rfl rfl dX4_types_25 ?_
    refine x_nn (fun a3 e4 => ?_)
    subst e4
    refine x_aald (pc := 26) dX4_types_26 ?_
    intro v5
    refine x_iload (pc := 27) 4 rfl dX4_types_27 ?_
    refine x_iload (pc := 29) 0 rfl dX4_types_29 ?_
    refine x_nn (fun a6 e7 => ?_)
    subst e7
    refine x_callV (pc := 31) (As := [.int x4, .int y1]) (rest := []) (lev' := 4) si_X4_57 (m_R_before h a6 x4 y1) (fun z e => grd1 e) rfl rfl (by decide) (cat4 (Nat.le_of_ble_eq_true rfl)) dX4_types_31 (kI (fun v9 h8 => ?_)) xNo
    refine x_istore (pc := 34) (lv' := [(7, .int v9), (6, .int y1), (0, .ref this), (2, .int x2), (3, .int x3), (4, .int x4), (5, .int x5)]) (by decide) rfl dX4_types_34 ?_
    refine x_aload_nR (pc := 36) (a := this) 2 rfl rfl dX4_types_36 ?_
    refine x_getQ (pc := 37) fi_X4_17 dX4_types_37 ?_
    intro v10
    refine x_iload_n (pc := 40) 4 rfl rfl dX4_types_40 ?_
    refine x_nn (fun a11 e12 => ?_)
    subst e12
    refine x_aald (pc := 41) dX4_types_41 ?_
    intro v13
    refine x_iload (pc := 42) 5 rfl dX4_types_42 ?_
    refine x_iload (pc := 44) 1 rfl dX4_types_44 ?_
    refine x_nn (fun a14 e15 => ?_)
    subst e15
    refine x_callV (pc := 46) (As := [.int x4, .int y1]) (rest := []) (lev' := 17) si_X4_74 (m_R_insert h8 a14 x4 y1) (fun z e => grd1 e) rfl rfl (by decide) (cat4 (Nat.le_of_ble_eq_true rfl)) dX4_types_46 (kV (fun h16 => ?_)) xNo
    refine x_iload (pc := 49) 0 rfl dX4_types_49 ?_
    refine x_istore (pc := 51) (lv' := [(4, .int v9), (7, .int v9), (6, .int y1), (0, .ref this), (2, .int x2), (3, .int x3), (5, .int x5)]) (by decide) rfl dX4_types_51 ?_
    refine x_iconst (pc := 53) (v := 2) (by decide) dX4_types_53 ?_
    refine x_iload_n (pc := 54) 5 rfl rfl dX4_types_54 ?_
    refine x_imul (pc := 55) dX4_types_55 ?_
    refine x_iconst (pc := 56) (v := 1) (by decide) dX4_types_56 ?_
    refine x_iadd (pc := 57) dX4_types_57 ?_
    refine x_iload (pc := 58) 2 rfl dX4_types_58 ?_
    refine x_iadd (pc := 60) dX4_types_60 ?_
    refine x_nmI (fun y17 => ?_)
    refine x_istore_n (pc := 61) (lv' := [(3, .int y17), (4, .int v9), (7, .int v9), (6, .int y1), (0, .ref this), (2, .int x2), (5, .int x5)]) rfl (by decide) rfl dX4_types_61 ?_
    refine x_iinc (pc := 62) (v := (-1 : Int32)) (lv' := [(5, .int (x5 + (-1 : Int32))), (3, .int y17), (4, .int v9), (7, .int v9), (6, .int y1), (0, .ref this), (2, .int x2)]) 6 rfl (by decide) (by decide) rfl dX4_types_62 ?_
    refine x_goto (pc := 65) 8 (by decide) dX4_types_65 ?_
    refine Sim.lv [5, 6, 1, 2, 0] rfl ?_
    exact hr8 h16 this x2 y17 v9 (x5 + (-1 : Int32))
set_option maxHeartbeats 4000000 in
theorem v_S_types_l8 : ∀ (n : Nat) (h : PH) (this : Nat) (x2 : Int32) (x3 : Int32) (x4 : Int32) (x5 : Int32), Sim Y_S_types h 8 [(0, .ref this), (2, .int x2), (3, .int x3), (4, .int x4), (5, .int x5)] [] (itr (c_S_types_l8) (fun _ _ _ _ _ _ => none) n h this x2 x3 x4 x5)
  | 0, h, this, x2, x3, x4, x5 => Sim.none
  | n + 1, h, this, x2, x3, x4, x5 => w_S_types_l8 _ (v_S_types_l8 n) h this x2 x3 x4 x5
set_option maxHeartbeats 4000000 in
theorem m_S_types (h : PH) (this : Nat) (x1 : Int32) (x2 : Int32) : MM yX4_types (ws_ yX4_types cX4_types 8 none) 18 [.ref this, .int x1, .int x2] h (c_S_types h this x1 x2) := by
  refine MM.of (by decide) rfl (by decide) (Nat.le_of_ble_eq_true rfl) (own := RX4) (cc := cX4_types) (maxL := 8) (lev := 18) (rt := none) (ini := false) ?_
  show Sim Y_S_types h 0 [(0, .ref this), (1, .int x1), (2, .int x2)] [] _
  unfold c_S_types
  refine x_grd ?_
  refine x_iconst (pc := 0) (v := 0) (by decide) dX4_types_0 ?_
  refine x_istore_n (pc := 1) (lv' := [(3, .int (0 : Int32)), (0, .ref this), (1, .int x1), (2, .int x2)]) rfl (by decide) rfl dX4_types_1 ?_
  refine x_iload_n (pc := 2) 2 rfl rfl dX4_types_2 ?_
  refine x_istore (pc := 3) (lv' := [(4, .int x1), (3, .int (0 : Int32)), (0, .ref this), (1, .int x1), (2, .int x2)]) (by decide) rfl dX4_types_3 ?_
  refine x_iconst (pc := 5) (v := 2) (by decide) dX4_types_5 ?_
  refine x_istore (pc := 6) (lv' := [(5, .int (2 : Int32)), (4, .int x1), (3, .int (0 : Int32)), (0, .ref this), (1, .int x1), (2, .int x2)]) (by decide) rfl dX4_types_6 ?_
  refine Sim.lv [3, 5, 2, 1, 0] rfl ?_
  exact v_S_types_l8 FU h this x2 (0 : Int32) x1 (2 : Int32)
theorem si_X4_45 : SiV RX4 45 4 yX5_unpack cX5_unpack 5 none 1 := ⟨_, _, _, ci_4.1, by decide, lw_V q1085 q1086 q1087 q116 q1088, ⟨rfl, by decide, by decide, by decide +kernel⟩, by decide⟩
abbrev Y_S_unpack : Yx := (RX4, cX4_unpack, 3, 5, none, [], false)
def c_S_unpack_l2 (r2 : PH → Nat → Nat → Int32 → Option RH) (h : PH) (this : Nat) (x1 : Nat) (x2 : Int32) : Option RH :=
  alen h x1 fun v1 =>
  if v1 ≤ x2 then
    rV h
  else
    if (4 : Int32) ≤ x2 then
      gQ h this [3] 1 fun v2 =>
      nn v2 fun a3 =>
      ldQ h a3 (x2 - (4 : Int32)) fun v5 =>
      ldQ h x1 x2 fun v6 =>
      nn v6 fun a7 =>
      nn v5 fun a9 =>
      hV (c_R_unpack h a9 a7) noX fun h11 =>
      r2 h11 this x1 (x2 + (1 : Int32))
    else
      gQ h this [3] 0 fun v12 =>
      nn v12 fun a13 =>
      ldQ h a13 x2 fun v15 =>
      ldQ h x1 x2 fun v16 =>
      nn v16 fun a17 =>
      nn v15 fun a19 =>
      hV (c_R_unpack h a19 a17) noX fun h21 =>
      r2 h21 this x1 (x2 + (1 : Int32))
def c_S_unpack (h : PH) (this : Nat) (x1 : Nat) : Option RH :=
  grd h this [3] (
  itr (c_S_unpack_l2) (fun _ _ _ _ => none) FU h this x1 (0 : Int32))
set_option maxHeartbeats 4000000 in
theorem w_S_unpack_l2 (r2 : PH → Nat → Nat → Int32 → Option RH) (hr2 : ∀ (h : PH) (this : Nat) (x1 : Nat) (x2 : Int32), Sim Y_S_unpack h 2 [(0, .ref this), (1, .ref x1), (2, .int x2)] [] (r2 h this x1 x2)) (h : PH) (this : Nat) (x1 : Nat) (x2 : Int32) : Sim Y_S_unpack h 2 [(0, .ref this), (1, .ref x1), (2, .int x2)] [] (c_S_unpack_l2 r2 h this x1 x2) := by
  unfold c_S_unpack_l2
  refine x_iload_n (pc := 2) 2 rfl rfl dX4_unpack_2 ?_
  refine x_aload_nR (pc := 3) (a := x1) 1 rfl rfl dX4_unpack_3 ?_
  refine x_alen (pc := 4) dX4_unpack_4 ?_
  intro v1
  refine x_icmp_ge (pc := 5) 48 (by decide) dX4_unpack_5 ?_ ?_
  · exact x_vret (pc := 48) dX4_unpack_48
  · refine x_iload_n (pc := 8) 2 rfl rfl dX4_unpack_8 ?_
    refine x_iconst (pc := 9) (v := 4) (by decide) dX4_unpack_9 ?_
    refine x_icmp_ge (pc := 10) 28 (by decide) dX4_unpack_10 ?_ ?_
    · refine x_aload_nR (pc := 28) (a := this) 0 rfl rfl dX4_unpack_28 ?_
      refine x_getQ (pc := 29) fi_X4_17 dX4_unpack_29 ?_
      intro v2
      refine x_iload_n (pc := 32) 2 rfl rfl dX4_unpack_32 ?_
      refine x_iconst (pc := 33) (v := 4) (by decide) dX4_unpack_33 ?_
      refine x_isub (pc := 34) dX4_unpack_34 ?_
      refine x_nn (fun a3 e4 => ?_)
      subst e4
      refine x_aald (pc := 35) dX4_unpack_35 ?_
      intro v5
      refine x_aload_nR (pc := 36) (a := x1) 1 rfl rfl dX4_unpack_36 ?_
      refine x_iload_n (pc := 37) 2 rfl rfl dX4_unpack_37 ?_
      refine x_aald (pc := 38) dX4_unpack_38 ?_
      intro v6
      refine x_nn (fun a7 e8 => ?_)
      subst e8
      refine x_nn (fun a9 e10 => ?_)
      subst e10
      refine x_callV (pc := 39) (As := [.ref a7]) (rest := []) (lev' := 4) si_X4_45 (m_R_unpack h a9 a7) (fun z e => grd1 e) rfl rfl (by decide) (cat4 (Nat.le_of_ble_eq_true rfl)) dX4_unpack_39 (kV (fun h11 => ?_)) xNo
      refine x_iinc (pc := 42) (v := (1 : Int32)) (lv' := [(2, .int (x2 + (1 : Int32))), (0, .ref this), (1, .ref x1)]) 2 rfl (by decide) (by decide) rfl dX4_unpack_42 ?_
      refine x_goto (pc := 45) 2 (by decide) dX4_unpack_45 ?_
      refine Sim.lv [1, 2, 0] rfl ?_
      exact hr2 h11 this x1 (x2 + (1 : Int32))
    · refine x_aload_nR (pc := 13) (a := this) 0 rfl rfl dX4_unpack_13 ?_
      refine x_getQ (pc := 14) fi_X4_11 dX4_unpack_14 ?_
      intro v12
      refine x_iload_n (pc := 17) 2 rfl rfl dX4_unpack_17 ?_
      refine x_nn (fun a13 e14 => ?_)
      subst e14
      refine x_aald (pc := 18) dX4_unpack_18 ?_
      intro v15
      refine x_aload_nR (pc := 19) (a := x1) 1 rfl rfl dX4_unpack_19 ?_
      refine x_iload_n (pc := 20) 2 rfl rfl dX4_unpack_20 ?_
      refine x_aald (pc := 21) dX4_unpack_21 ?_
      intro v16
      refine x_nn (fun a17 e18 => ?_)
      subst e18
      refine x_nn (fun a19 e20 => ?_)
      subst e20
      refine x_callV (pc := 22) (As := [.ref a17]) (rest := []) (lev' := 4) si_X4_45 (m_R_unpack h a19 a17) (fun z e => grd1 e) rfl rfl (by decide) (cat4 (Nat.le_of_ble_eq_true rfl)) dX4_unpack_22 (kV (fun h21 => ?_)) xNo
      refine x_goto (pc := 25) 42 (by decide) dX4_unpack_25 ?_
      refine x_iinc (pc := 42) (v := (1 : Int32)) (lv' := [(2, .int (x2 + (1 : Int32))), (0, .ref this), (1, .ref x1)]) 2 rfl (by decide) (by decide) rfl dX4_unpack_42 ?_
      refine x_goto (pc := 45) 2 (by decide) dX4_unpack_45 ?_
      refine Sim.lv [1, 2, 0] rfl ?_
      exact hr2 h21 this x1 (x2 + (1 : Int32))
set_option maxHeartbeats 4000000 in
theorem v_S_unpack_l2 : ∀ (n : Nat) (h : PH) (this : Nat) (x1 : Nat) (x2 : Int32), Sim Y_S_unpack h 2 [(0, .ref this), (1, .ref x1), (2, .int x2)] [] (itr (c_S_unpack_l2) (fun _ _ _ _ => none) n h this x1 x2)
  | 0, h, this, x1, x2 => Sim.none
  | n + 1, h, this, x1, x2 => w_S_unpack_l2 _ (v_S_unpack_l2 n) h this x1 x2
set_option maxHeartbeats 4000000 in
theorem m_S_unpack (h : PH) (this : Nat) (x1 : Nat) : MM yX4_unpack (ws_ yX4_unpack cX4_unpack 3 none) 5 [.ref this, .ref x1] h (c_S_unpack h this x1) := by
  refine MM.of (by decide) rfl (by decide) (Nat.le_of_ble_eq_true rfl) (own := RX4) (cc := cX4_unpack) (maxL := 3) (lev := 5) (rt := none) (ini := false) ?_
  show Sim Y_S_unpack h 0 [(0, .ref this), (1, .ref x1)] [] _
  unfold c_S_unpack
  refine x_grd ?_
  refine x_iconst (pc := 0) (v := 0) (by decide) dX4_unpack_0 ?_
  refine x_istore_n (pc := 1) (lv' := [(2, .int (0 : Int32)), (0, .ref this), (1, .ref x1)]) rfl (by decide) rfl dX4_unpack_1 ?_
  refine Sim.lv [1, 2, 0] rfl ?_
  exact v_S_unpack_l2 FU h this x1 (0 : Int32)
theorem si_X4_53 : SiV RX4 53 4 yX5_get cX5_get 6 (some .int) 1 := ⟨_, _, _, ci_4.1, by decide, lw_V q1102 q971 q972 q116 q973, ⟨rfl, by decide, by decide, by decide +kernel⟩, by decide⟩
theorem si_X4_61 : SiV RX4 61 3 yX4_typed cX4_typed 1 (some .int) 0 := ⟨_, _, _, ci_3.1, by decide, lw_V q1103 q853 q854 q115 q855, ⟨rfl, by decide, by decide, by decide +kernel⟩, by decide⟩
abbrev Y_S_whyNot : Yx := (RX4, cX4_whyNot, 5, 4, (some .int), [], false)
def c_S_whyNot_j120 (h : PH) (this : Nat) (x2 : Int32) (x3 : Int32) (x4 : Int32) : Option RH :=
  gQ h this [3] 0 fun v1 =>
  nn v1 fun a2 =>
  ldQ h a2 x2 fun v4 =>
  nn v4 fun a5 =>
  hI (c_R_wide h a5) noX fun v8 h7 =>
  if (x3 + x4) ≤ v8 then
    rI (0 : Int32) h7
  else
    rI (1 : Int32) h7
def c_S_whyNot (h : PH) (this : Nat) (x1 : Int32) (x2 : Int32) (x3 : Int32) (x4 : Int32) : Option RH :=
  grd h this [3] (
  if x1 = 0 then
    gQ h this [3] 0 fun v1 =>
    nn v1 fun a2 =>
    ldQ h a2 x2 fun v4 =>
    nn v4 fun a5 =>
    hI (c_R_wide h a5) noX fun v8 h7 =>
    if x3 ≤ v8 then
      gQ h7 this [3] 0 fun v9 =>
      nn v9 fun a10 =>
      ldQ h7 a10 x2 fun v12 =>
      nn v12 fun a13 =>
      hI (c_R_wide h7 a13) noX fun v16 h15 =>
      if v16 = (600 : Int32) then
        rI (2 : Int32) h15
      else
        rI (0 : Int32) h15
    else
      rI (1 : Int32) h7
  else
  if x1 = 1 then
    gQ h this [3] 0 fun v17 =>
    nn v17 fun a18 =>
    ldQ h a18 x2 fun v20 =>
    nn v20 fun a21 =>
    hI (c_R_wide h a21) noX fun v24 h23 =>
    if x3 < v24 then
      gQ h23 this [3] 0 fun v25 =>
      nn v25 fun a26 =>
      ldQ h23 a26 x2 fun v28 =>
      nn v28 fun a29 =>
      hI (c_R_get h23 a29 x3) noX fun v32 h31 =>
      if v32 = x4 then
        rI (2 : Int32) h31
      else
        rI (0 : Int32) h31
    else
      rI (1 : Int32) h23
  else
  if x1 = 2 then
    c_S_whyNot_j120 h this x2 x3 x4
  else
  if x1 = 3 then
    c_S_whyNot_j120 h this x2 x3 x4
  else
  if x1 = 4 then
    gQ h this [3] 0 fun v33 =>
    nn v33 fun a34 =>
    ldQ h a34 x4 fun v36 =>
    nn v36 fun a37 =>
    hI (c_R_wide h a37) noX fun v40 h39 =>
    if v40 = 0 then
      rI (1 : Int32) h39
    else
      gQ h39 this [3] 0 fun v41 =>
      nn v41 fun a42 =>
      ldQ h39 a42 x2 fun v44 =>
      nn v44 fun a45 =>
      hI (c_R_wide h39 a45) noX fun v48 h47 =>
      gQ h47 this [3] 0 fun v49 =>
      nn v49 fun a50 =>
      ldQ h47 a50 x4 fun v52 =>
      nn v52 fun a53 =>
      hI (c_R_wide h47 a53) noX fun v56 h55 =>
      if (v48 + v56) ≤ (600 : Int32) then
        rI (0 : Int32) h55
      else
        rI (2 : Int32) h55
  else
  if x1 = 5 then
    gQ h this [3] 0 fun v57 =>
    nn v57 fun a58 =>
    ldQ h a58 x2 fun v60 =>
    nn v60 fun a61 =>
    hI (c_R_wide h a61) noX fun v64 h63 =>
    if x3 < v64 then
      gQ h63 this [3] 0 fun v65 =>
      nn v65 fun a66 =>
      ldQ h63 a66 x4 fun v68 =>
      nn v68 fun a69 =>
      hI (c_R_wide h63 a69) noX fun v72 h71 =>
      gQ h71 this [3] 0 fun v73 =>
      nn v73 fun a74 =>
      ldQ h71 a74 x2 fun v76 =>
      nn v76 fun a77 =>
      hI (c_R_wide h71 a77) noX fun v80 h79 =>
      if ((v72 + v80) - x3) ≤ (600 : Int32) then
        rI (0 : Int32) h79
      else
        rI (2 : Int32) h79
    else
      rI (1 : Int32) h63
  else
  if x1 = 6 then
    hI (c_S_typed h this) noX fun v82 h81 =>
    if x3 ≤ v82 then
      hI (c_S_typed h81 this) noX fun v84 h83 =>
      if v84 = (200 : Int32) then
        rI (2 : Int32) h83
      else
        rI (0 : Int32) h83
    else
      rI (1 : Int32) h81
  else
  hI (c_S_typed h this) noX fun v86 h85 =>
  if (x3 + x4) ≤ v86 then
    rI (0 : Int32) h85
  else
    rI (1 : Int32) h85)
set_option maxHeartbeats 4000000 in
theorem w_S_whyNot_j120 (h : PH) (this : Nat) (x2 : Int32) (x3 : Int32) (x4 : Int32) : Sim Y_S_whyNot h 120 [(0, .ref this), (2, .int x2), (3, .int x3), (4, .int x4)] [] (c_S_whyNot_j120 h this x2 x3 x4) := by
  unfold c_S_whyNot_j120
  refine x_iload_n (pc := 120) 2 rfl rfl dX4_whyNot_120 ?_
  refine x_iload (pc := 121) 3 rfl dX4_whyNot_121 ?_
  refine x_iadd (pc := 123) dX4_whyNot_123 ?_
  refine x_aload_nR (pc := 124) (a := this) 0 rfl rfl dX4_whyNot_124 ?_
  refine x_getQ (pc := 125) fi_X4_11 dX4_whyNot_125 ?_
  intro v1
  refine x_iload_n (pc := 128) 1 rfl rfl dX4_whyNot_128 ?_
  refine x_nn (fun a2 e3 => ?_)
  subst e3
  refine x_aald (pc := 129) dX4_whyNot_129 ?_
  intro v4
  refine x_nn (fun a5 e6 => ?_)
  subst e6
  refine x_callV (pc := 130) (As := []) (rest := [.int (x3 + x4)]) (lev' := 1) si_X4_49 (m_R_wide h a5) (fun z e => grd1 e) rfl rfl (by decide) (cat4 (Nat.le_of_ble_eq_true rfl)) dX4_whyNot_130 (kI (fun v8 h7 => ?_)) xNo
  refine x_icmp_le (pc := 133) 140 (by decide) dX4_whyNot_133 ?_ ?_
  · refine x_iconst (pc := 140) (v := 0) (by decide) dX4_whyNot_140 ?_
    exact x_iret (pc := 141) dX4_whyNot_141
  · refine x_iconst (pc := 136) (v := 1) (by decide) dX4_whyNot_136 ?_
    refine x_goto (pc := 137) 141 (by decide) dX4_whyNot_137 ?_
    exact x_iret (pc := 141) dX4_whyNot_141
set_option maxHeartbeats 4000000 in
theorem m_S_whyNot (h : PH) (this : Nat) (x1 : Int32) (x2 : Int32) (x3 : Int32) (x4 : Int32) : MM yX4_whyNot (ws_ yX4_whyNot cX4_whyNot 5 (some .int)) 4 [.ref this, .int x1, .int x2, .int x3, .int x4] h (c_S_whyNot h this x1 x2 x3 x4) := by
  refine MM.of (by decide) rfl (by decide) (Nat.le_of_ble_eq_true rfl) (own := RX4) (cc := cX4_whyNot) (maxL := 5) (lev := 4) (rt := (some .int)) (ini := false) ?_
  show Sim Y_S_whyNot h 0 [(0, .ref this), (1, .int x1), (2, .int x2), (3, .int x3), (4, .int x4)] [] _
  unfold c_S_whyNot
  refine x_grd ?_
  refine x_iload_n (pc := 0) 1 rfl rfl dX4_whyNot_0 ?_
  refine x_sw0 (pc := 1) (lo := 0) ?_
  refine x_sw (pc := 1) (v := 0) 44 dX4_whyNot_1 rfl (by decide) (by decide) rfl (by decide) ?_ ?_
  · refine x_iload_n (pc := 44) 3 rfl rfl dX4_whyNot_44 ?_
    refine x_aload_nR (pc := 45) (a := this) 0 rfl rfl dX4_whyNot_45 ?_
    refine x_getQ (pc := 46) fi_X4_11 dX4_whyNot_46 ?_
    intro v1
    refine x_iload_n (pc := 49) 2 rfl rfl dX4_whyNot_49 ?_
    refine x_nn (fun a2 e3 => ?_)
    subst e3
    refine x_aald (pc := 50) dX4_whyNot_50 ?_
    intro v4
    refine x_nn (fun a5 e6 => ?_)
    subst e6
    refine x_callV (pc := 51) (As := []) (rest := [.int x3]) (lev' := 1) si_X4_49 (m_R_wide h a5) (fun z e => grd1 e) rfl rfl (by decide) (cat4 (Nat.le_of_ble_eq_true rfl)) dX4_whyNot_51 (kI (fun v8 h7 => ?_)) xNo
    refine x_icmp_le (pc := 54) 61 (by decide) dX4_whyNot_54 ?_ ?_
    · refine x_aload_nR (pc := 61) (a := this) 0 rfl rfl dX4_whyNot_61 ?_
      refine x_getQ (pc := 62) fi_X4_11 dX4_whyNot_62 ?_
      intro v9
      refine x_iload_n (pc := 65) 2 rfl rfl dX4_whyNot_65 ?_
      refine x_nn (fun a10 e11 => ?_)
      subst e11
      refine x_aald (pc := 66) dX4_whyNot_66 ?_
      intro v12
      refine x_nn (fun a13 e14 => ?_)
      subst e14
      refine x_callV (pc := 67) (As := []) (rest := []) (lev' := 1) si_X4_49 (m_R_wide h7 a13) (fun z e => grd1 e) rfl rfl (by decide) (cat4 (Nat.le_of_ble_eq_true rfl)) dX4_whyNot_67 (kI (fun v16 h15 => ?_)) xNo
      refine x_sipush (pc := 70) (v := 600) (by decide) dX4_whyNot_70 ?_
      refine x_icmp_ne (pc := 73) 80 (by decide) dX4_whyNot_73 ?_ ?_
      · refine x_iconst (pc := 80) (v := 0) (by decide) dX4_whyNot_80 ?_
        exact x_iret (pc := 81) dX4_whyNot_81
      · refine x_iconst (pc := 76) (v := 2) (by decide) dX4_whyNot_76 ?_
        refine x_goto (pc := 77) 81 (by decide) dX4_whyNot_77 ?_
        exact x_iret (pc := 81) dX4_whyNot_81
    · refine x_iconst (pc := 57) (v := 1) (by decide) dX4_whyNot_57 ?_
      refine x_goto (pc := 58) 81 (by decide) dX4_whyNot_58 ?_
      exact x_iret (pc := 81) dX4_whyNot_81
  refine x_sw (pc := 1) (v := 1) 82 dX4_whyNot_1 rfl (by decide) (by decide) rfl (by decide) ?_ ?_
  · refine x_iload_n (pc := 82) 3 rfl rfl dX4_whyNot_82 ?_
    refine x_aload_nR (pc := 83) (a := this) 0 rfl rfl dX4_whyNot_83 ?_
    refine x_getQ (pc := 84) fi_X4_11 dX4_whyNot_84 ?_
    intro v17
    refine x_iload_n (pc := 87) 2 rfl rfl dX4_whyNot_87 ?_
    refine x_nn (fun a18 e19 => ?_)
    subst e19
    refine x_aald (pc := 88) dX4_whyNot_88 ?_
    intro v20
    refine x_nn (fun a21 e22 => ?_)
    subst e22
    refine x_callV (pc := 89) (As := []) (rest := [.int x3]) (lev' := 1) si_X4_49 (m_R_wide h a21) (fun z e => grd1 e) rfl rfl (by decide) (cat4 (Nat.le_of_ble_eq_true rfl)) dX4_whyNot_89 (kI (fun v24 h23 => ?_)) xNo
    refine x_icmp_lt (pc := 92) 99 (by decide) dX4_whyNot_92 ?_ ?_
    · refine x_aload_nR (pc := 99) (a := this) 0 rfl rfl dX4_whyNot_99 ?_
      refine x_getQ (pc := 100) fi_X4_11 dX4_whyNot_100 ?_
      intro v25
      refine x_iload_n (pc := 103) 2 rfl rfl dX4_whyNot_103 ?_
      refine x_nn (fun a26 e27 => ?_)
      subst e27
      refine x_aald (pc := 104) dX4_whyNot_104 ?_
      intro v28
      refine x_iload_n (pc := 105) 3 rfl rfl dX4_whyNot_105 ?_
      refine x_nn (fun a29 e30 => ?_)
      subst e30
      refine x_callV (pc := 106) (As := [.int x3]) (rest := []) (lev' := 3) si_X4_53 (m_R_get h23 a29 x3) (fun z e => grd1 e) rfl rfl (by decide) (cat4 (Nat.le_of_ble_eq_true rfl)) dX4_whyNot_106 (kI (fun v32 h31 => ?_)) xNo
      refine x_iload (pc := 109) 4 rfl dX4_whyNot_109 ?_
      refine x_icmp_ne (pc := 111) 118 (by decide) dX4_whyNot_111 ?_ ?_
      · refine x_iconst (pc := 118) (v := 0) (by decide) dX4_whyNot_118 ?_
        exact x_iret (pc := 119) dX4_whyNot_119
      · refine x_iconst (pc := 114) (v := 2) (by decide) dX4_whyNot_114 ?_
        refine x_goto (pc := 115) 119 (by decide) dX4_whyNot_115 ?_
        exact x_iret (pc := 119) dX4_whyNot_119
    · refine x_iconst (pc := 95) (v := 1) (by decide) dX4_whyNot_95 ?_
      refine x_goto (pc := 96) 119 (by decide) dX4_whyNot_96 ?_
      exact x_iret (pc := 119) dX4_whyNot_119
  refine x_sw (pc := 1) (v := 2) 120 dX4_whyNot_1 rfl (by decide) (by decide) rfl (by decide) ?_ ?_
  · refine Sim.lv [0, 2, 3, 4] rfl ?_
    exact w_S_whyNot_j120 h this x2 x3 x4
  refine x_sw (pc := 1) (v := 3) 120 dX4_whyNot_1 rfl (by decide) (by decide) rfl (by decide) ?_ ?_
  · refine Sim.lv [0, 2, 3, 4] rfl ?_
    exact w_S_whyNot_j120 h this x2 x3 x4
  refine x_sw (pc := 1) (v := 4) 142 dX4_whyNot_1 rfl (by decide) (by decide) rfl (by decide) ?_ ?_
  · refine x_aload_nR (pc := 142) (a := this) 0 rfl rfl dX4_whyNot_142 ?_
    refine x_getQ (pc := 143) fi_X4_11 dX4_whyNot_143 ?_
    intro v33
    refine x_iload (pc := 146) 4 rfl dX4_whyNot_146 ?_
    refine x_nn (fun a34 e35 => ?_)
    subst e35
    refine x_aald (pc := 148) dX4_whyNot_148 ?_
    intro v36
    refine x_nn (fun a37 e38 => ?_)
    subst e38
    refine x_callV (pc := 149) (As := []) (rest := []) (lev' := 1) si_X4_49 (m_R_wide h a37) (fun z e => grd1 e) rfl rfl (by decide) (cat4 (Nat.le_of_ble_eq_true rfl)) dX4_whyNot_149 (kI (fun v40 h39 => ?_)) xNo
    refine x_if_ne (pc := 152) 159 (by decide) dX4_whyNot_152 ?_ ?_
    · refine x_aload_nR (pc := 159) (a := this) 0 rfl rfl dX4_whyNot_159 ?_
      refine x_getQ (pc := 160) fi_X4_11 dX4_whyNot_160 ?_
      intro v41
      refine x_iload_n (pc := 163) 2 rfl rfl dX4_whyNot_163 ?_
      refine x_nn (fun a42 e43 => ?_)
      subst e43
      refine x_aald (pc := 164) dX4_whyNot_164 ?_
      intro v44
      refine x_nn (fun a45 e46 => ?_)
      subst e46
      refine x_callV (pc := 165) (As := []) (rest := []) (lev' := 1) si_X4_49 (m_R_wide h39 a45) (fun z e => grd1 e) rfl rfl (by decide) (cat4 (Nat.le_of_ble_eq_true rfl)) dX4_whyNot_165 (kI (fun v48 h47 => ?_)) xNo
      refine x_aload_nR (pc := 168) (a := this) 0 rfl rfl dX4_whyNot_168 ?_
      refine x_getQ (pc := 169) fi_X4_11 dX4_whyNot_169 ?_
      intro v49
      refine x_iload (pc := 172) 4 rfl dX4_whyNot_172 ?_
      refine x_nn (fun a50 e51 => ?_)
      subst e51
      refine x_aald (pc := 174) dX4_whyNot_174 ?_
      intro v52
      refine x_nn (fun a53 e54 => ?_)
      subst e54
      refine x_callV (pc := 175) (As := []) (rest := [.int v48]) (lev' := 1) si_X4_49 (m_R_wide h47 a53) (fun z e => grd1 e) rfl rfl (by decide) (cat4 (Nat.le_of_ble_eq_true rfl)) dX4_whyNot_175 (kI (fun v56 h55 => ?_)) xNo
      refine x_iadd (pc := 178) dX4_whyNot_178 ?_
      refine x_sipush (pc := 179) (v := 600) (by decide) dX4_whyNot_179 ?_
      refine x_icmp_le (pc := 182) 189 (by decide) dX4_whyNot_182 ?_ ?_
      · refine x_iconst (pc := 189) (v := 0) (by decide) dX4_whyNot_189 ?_
        exact x_iret (pc := 190) dX4_whyNot_190
      · refine x_iconst (pc := 185) (v := 2) (by decide) dX4_whyNot_185 ?_
        refine x_goto (pc := 186) 190 (by decide) dX4_whyNot_186 ?_
        exact x_iret (pc := 190) dX4_whyNot_190
    · refine x_iconst (pc := 155) (v := 1) (by decide) dX4_whyNot_155 ?_
      refine x_goto (pc := 156) 190 (by decide) dX4_whyNot_156 ?_
      exact x_iret (pc := 190) dX4_whyNot_190
  refine x_sw (pc := 1) (v := 5) 191 dX4_whyNot_1 rfl (by decide) (by decide) rfl (by decide) ?_ ?_
  · refine x_iload_n (pc := 191) 3 rfl rfl dX4_whyNot_191 ?_
    refine x_aload_nR (pc := 192) (a := this) 0 rfl rfl dX4_whyNot_192 ?_
    refine x_getQ (pc := 193) fi_X4_11 dX4_whyNot_193 ?_
    intro v57
    refine x_iload_n (pc := 196) 2 rfl rfl dX4_whyNot_196 ?_
    refine x_nn (fun a58 e59 => ?_)
    subst e59
    refine x_aald (pc := 197) dX4_whyNot_197 ?_
    intro v60
    refine x_nn (fun a61 e62 => ?_)
    subst e62
    refine x_callV (pc := 198) (As := []) (rest := [.int x3]) (lev' := 1) si_X4_49 (m_R_wide h a61) (fun z e => grd1 e) rfl rfl (by decide) (cat4 (Nat.le_of_ble_eq_true rfl)) dX4_whyNot_198 (kI (fun v64 h63 => ?_)) xNo
    refine x_icmp_lt (pc := 201) 208 (by decide) dX4_whyNot_201 ?_ ?_
    · refine x_aload_nR (pc := 208) (a := this) 0 rfl rfl dX4_whyNot_208 ?_
      refine x_getQ (pc := 209) fi_X4_11 dX4_whyNot_209 ?_
      intro v65
      refine x_iload (pc := 212) 4 rfl dX4_whyNot_212 ?_
      refine x_nn (fun a66 e67 => ?_)
      subst e67
      refine x_aald (pc := 214) dX4_whyNot_214 ?_
      intro v68
      refine x_nn (fun a69 e70 => ?_)
      subst e70
      refine x_callV (pc := 215) (As := []) (rest := []) (lev' := 1) si_X4_49 (m_R_wide h63 a69) (fun z e => grd1 e) rfl rfl (by decide) (cat4 (Nat.le_of_ble_eq_true rfl)) dX4_whyNot_215 (kI (fun v72 h71 => ?_)) xNo
      refine x_aload_nR (pc := 218) (a := this) 0 rfl rfl dX4_whyNot_218 ?_
      refine x_getQ (pc := 219) fi_X4_11 dX4_whyNot_219 ?_
      intro v73
      refine x_iload_n (pc := 222) 2 rfl rfl dX4_whyNot_222 ?_
      refine x_nn (fun a74 e75 => ?_)
      subst e75
      refine x_aald (pc := 223) dX4_whyNot_223 ?_
      intro v76
      refine x_nn (fun a77 e78 => ?_)
      subst e78
      refine x_callV (pc := 224) (As := []) (rest := [.int v72]) (lev' := 1) si_X4_49 (m_R_wide h71 a77) (fun z e => grd1 e) rfl rfl (by decide) (cat4 (Nat.le_of_ble_eq_true rfl)) dX4_whyNot_224 (kI (fun v80 h79 => ?_)) xNo
      refine x_iadd (pc := 227) dX4_whyNot_227 ?_
      refine x_iload_n (pc := 228) 3 rfl rfl dX4_whyNot_228 ?_
      refine x_isub (pc := 229) dX4_whyNot_229 ?_
      refine x_sipush (pc := 230) (v := 600) (by decide) dX4_whyNot_230 ?_
      refine x_icmp_le (pc := 233) 240 (by decide) dX4_whyNot_233 ?_ ?_
      · refine x_iconst (pc := 240) (v := 0) (by decide) dX4_whyNot_240 ?_
        exact x_iret (pc := 241) dX4_whyNot_241
      · refine x_iconst (pc := 236) (v := 2) (by decide) dX4_whyNot_236 ?_
        refine x_goto (pc := 237) 241 (by decide) dX4_whyNot_237 ?_
        exact x_iret (pc := 241) dX4_whyNot_241
    · refine x_iconst (pc := 204) (v := 1) (by decide) dX4_whyNot_204 ?_
      refine x_goto (pc := 205) 241 (by decide) dX4_whyNot_205 ?_
      exact x_iret (pc := 241) dX4_whyNot_241
  refine x_sw (pc := 1) (v := 6) 242 dX4_whyNot_1 rfl (by decide) (by decide) rfl (by decide) ?_ ?_
  · refine x_iload_n (pc := 242) 3 rfl rfl dX4_whyNot_242 ?_
    refine x_aload_nR (pc := 243) (a := this) 0 rfl rfl dX4_whyNot_243 ?_
    refine x_callV (pc := 244) (As := []) (rest := [.int x3]) (lev' := 2) si_X4_61 (m_S_typed h this) (fun z e => grd1 e) rfl rfl (by decide) (cat4 (Nat.le_of_ble_eq_true rfl)) dX4_whyNot_244 (kI (fun v82 h81 => ?_)) xNo
    refine x_icmp_le (pc := 247) 254 (by decide) dX4_whyNot_247 ?_ ?_
    · refine x_aload_nR (pc := 254) (a := this) 0 rfl rfl dX4_whyNot_254 ?_
      refine x_callV (pc := 255) (As := []) (rest := []) (lev' := 2) si_X4_61 (m_S_typed h81 this) (fun z e => grd1 e) rfl rfl (by decide) (cat4 (Nat.le_of_ble_eq_true rfl)) dX4_whyNot_255 (kI (fun v84 h83 => ?_)) xNo
      refine x_sipush (pc := 258) (v := 200) (by decide) dX4_whyNot_258 ?_
      refine x_icmp_ne (pc := 261) 268 (by decide) dX4_whyNot_261 ?_ ?_
      · refine x_iconst (pc := 268) (v := 0) (by decide) dX4_whyNot_268 ?_
        exact x_iret (pc := 269) dX4_whyNot_269
      · refine x_iconst (pc := 264) (v := 2) (by decide) dX4_whyNot_264 ?_
        refine x_goto (pc := 265) 269 (by decide) dX4_whyNot_265 ?_
        exact x_iret (pc := 269) dX4_whyNot_269
    · refine x_iconst (pc := 250) (v := 1) (by decide) dX4_whyNot_250 ?_
      refine x_goto (pc := 251) 269 (by decide) dX4_whyNot_251 ?_
      exact x_iret (pc := 269) dX4_whyNot_269
  refine x_swD (pc := 1) 270 dX4_whyNot_1 (by decide) (by decide) ?_
  refine x_iload_n (pc := 270) 3 rfl rfl dX4_whyNot_270 ?_
  refine x_iload (pc := 271) 4 rfl dX4_whyNot_271 ?_
  refine x_iadd (pc := 273) dX4_whyNot_273 ?_
  refine x_aload_nR (pc := 274) (a := this) 0 rfl rfl dX4_whyNot_274 ?_
  refine x_callV (pc := 275) (As := []) (rest := [.int (x3 + x4)]) (lev' := 2) si_X4_61 (m_S_typed h this) (fun z e => grd1 e) rfl rfl (by decide) (cat4 (Nat.le_of_ble_eq_true rfl)) dX4_whyNot_275 (kI (fun v86 h85 => ?_)) xNo
  refine x_icmp_le (pc := 278) 285 (by decide) dX4_whyNot_278 ?_ ?_
  · refine x_iconst (pc := 285) (v := 0) (by decide) dX4_whyNot_285 ?_
    exact x_iret (pc := 286) dX4_whyNot_286
  · refine x_iconst (pc := 281) (v := 1) (by decide) dX4_whyNot_281 ?_
    refine x_goto (pc := 282) 286 (by decide) dX4_whyNot_282 ?_
    exact x_iret (pc := 286) dX4_whyNot_286
theorem si_X4_41 : SiV RX4 41 4 yX5_pack cX5_pack 7 (some (.object "BitRopes$Packed")) 0 := ⟨_, _, _, ci_4.1, by decide, lw_V q1109 q1110 q1111 q116 q1112, ⟨rfl, by decide, by decide, by decide +kernel⟩, by decide⟩
abbrev Y_S_pack : Yx := (RX4, cX4_pack, 3, 18, (some (.array (.object "BitRopes$Packed"))), [], false)
def c_S_pack_l8 (r8 : PH → Nat → Nat → Int32 → Option RH) (h : PH) (this : Nat) (x1 : Nat) (x2 : Int32) : Option RH :=
  alen h x1 fun v1 =>
  if v1 ≤ x2 then
    rQ (some x1) h
  else
    if (4 : Int32) ≤ x2 then
      gQ h this [3] 1 fun v2 =>
      nn v2 fun a3 =>
      ldQ h a3 (x2 - (4 : Int32)) fun v5 =>
      nn v5 fun a6 =>
      hQ (c_R_pack h a6) noX fun v9 h8 =>
      stQ h8 x1 x2 v9 fun h10 =>
      r8 h10 this x1 (x2 + (1 : Int32))
    else
      gQ h this [3] 0 fun v11 =>
      nn v11 fun a12 =>
      ldQ h a12 x2 fun v14 =>
      nn v14 fun a15 =>
      hQ (c_R_pack h a15) noX fun v18 h17 =>
      stQ h17 x1 x2 v18 fun h19 =>
      r8 h19 this x1 (x2 + (1 : Int32))
def c_S_pack (h : PH) (this : Nat) : Option RH :=
  grd h this [3] (
  newA h 8 (11 : Int32) (.inr (.inr (.inr (.inr (fun _ => none))))) fun a1 h2 =>
  itr (c_S_pack_l8) (fun _ _ _ _ => none) FU h2 this a1 (0 : Int32))
set_option maxHeartbeats 4000000 in
theorem w_S_pack_l8 (r8 : PH → Nat → Nat → Int32 → Option RH) (hr8 : ∀ (h : PH) (this : Nat) (x1 : Nat) (x2 : Int32), Sim Y_S_pack h 8 [(0, .ref this), (1, .ref x1), (2, .int x2)] [] (r8 h this x1 x2)) (h : PH) (this : Nat) (x1 : Nat) (x2 : Int32) : Sim Y_S_pack h 8 [(0, .ref this), (1, .ref x1), (2, .int x2)] [] (c_S_pack_l8 r8 h this x1 x2) := by
  unfold c_S_pack_l8
  refine x_iload_n (pc := 8) 2 rfl rfl dX4_pack_8 ?_
  refine x_aload_nR (pc := 9) (a := x1) 1 rfl rfl dX4_pack_9 ?_
  refine x_alen (pc := 10) dX4_pack_10 ?_
  intro v1
  refine x_icmp_ge (pc := 11) 51 (by decide) dX4_pack_11 ?_ ?_
  · refine x_aload_nR (pc := 51) (a := x1) 1 rfl rfl dX4_pack_51 ?_
    exact x_aret (pc := 52) (v := (some x1)) (Or.inr ⟨_, rfl⟩) dX4_pack_52
  · refine x_aload_nR (pc := 14) (a := x1) 1 rfl rfl dX4_pack_14 ?_
    refine x_iload_n (pc := 15) 2 rfl rfl dX4_pack_15 ?_
    refine x_iload_n (pc := 16) 2 rfl rfl dX4_pack_16 ?_
    refine x_iconst (pc := 17) (v := 4) (by decide) dX4_pack_17 ?_
    refine x_icmp_ge (pc := 18) 33 (by decide) dX4_pack_18 ?_ ?_
    · refine x_aload_nR (pc := 33) (a := this) 0 rfl rfl dX4_pack_33 ?_
      refine x_getQ (pc := 34) fi_X4_17 dX4_pack_34 ?_
      intro v2
      refine x_iload_n (pc := 37) 2 rfl rfl dX4_pack_37 ?_
      refine x_iconst (pc := 38) (v := 4) (by decide) dX4_pack_38 ?_
      refine x_isub (pc := 39) dX4_pack_39 ?_
      refine x_nn (fun a3 e4 => ?_)
      subst e4
      refine x_aald (pc := 40) dX4_pack_40 ?_
      intro v5
      refine x_nn (fun a6 e7 => ?_)
      subst e7
      refine x_callV (pc := 41) (As := []) (rest := [.int x2, .ref x1]) (lev' := 17) si_X4_41 (m_R_pack h a6) (fun z e => grd1 e) rfl rfl (by decide) (cat4 (Nat.le_of_ble_eq_true rfl)) dX4_pack_41 (kQ (fun v9 h8 => ?_)) xNo
      refine x_aast (pc := 44) (r := v9) dX4_pack_44 ?_
      intro h10
      refine x_iinc (pc := 45) (v := (1 : Int32)) (lv' := [(2, .int (x2 + (1 : Int32))), (0, .ref this), (1, .ref x1)]) 2 rfl (by decide) (by decide) rfl dX4_pack_45 ?_
      refine x_goto (pc := 48) 8 (by decide) dX4_pack_48 ?_
      refine Sim.lv [1, 2, 0] rfl ?_
      exact hr8 h10 this x1 (x2 + (1 : Int32))
    · refine x_aload_nR (pc := 21) (a := this) 0 rfl rfl dX4_pack_21 ?_
      refine x_getQ (pc := 22) fi_X4_11 dX4_pack_22 ?_
      intro v11
      refine x_iload_n (pc := 25) 2 rfl rfl dX4_pack_25 ?_
      refine x_nn (fun a12 e13 => ?_)
      subst e13
      refine x_aald (pc := 26) dX4_pack_26 ?_
      intro v14
      refine x_nn (fun a15 e16 => ?_)
      subst e16
      refine x_callV (pc := 27) (As := []) (rest := [.int x2, .ref x1]) (lev' := 17) si_X4_41 (m_R_pack h a15) (fun z e => grd1 e) rfl rfl (by decide) (cat4 (Nat.le_of_ble_eq_true rfl)) dX4_pack_27 (kQ (fun v18 h17 => ?_)) xNo
      refine x_goto (pc := 30) 44 (by decide) dX4_pack_30 ?_
      refine x_aast (pc := 44) (r := v18) dX4_pack_44 ?_
      intro h19
      refine x_iinc (pc := 45) (v := (1 : Int32)) (lv' := [(2, .int (x2 + (1 : Int32))), (0, .ref this), (1, .ref x1)]) 2 rfl (by decide) (by decide) rfl dX4_pack_45 ?_
      refine x_goto (pc := 48) 8 (by decide) dX4_pack_48 ?_
      refine Sim.lv [1, 2, 0] rfl ?_
      exact hr8 h19 this x1 (x2 + (1 : Int32))
set_option maxHeartbeats 4000000 in
theorem v_S_pack_l8 : ∀ (n : Nat) (h : PH) (this : Nat) (x1 : Nat) (x2 : Int32), Sim Y_S_pack h 8 [(0, .ref this), (1, .ref x1), (2, .int x2)] [] (itr (c_S_pack_l8) (fun _ _ _ _ => none) n h this x1 x2)
  | 0, h, this, x1, x2 => Sim.none
  | n + 1, h, this, x1, x2 => w_S_pack_l8 _ (v_S_pack_l8 n) h this x1 x2
set_option maxHeartbeats 4000000 in
theorem m_S_pack (h : PH) (this : Nat) : MM yX4_pack (ws_ yX4_pack cX4_pack 3 (some (.array (.object "BitRopes$Packed")))) 18 [.ref this] h (c_S_pack h this) := by
  refine MM.of (by decide) rfl (by decide) (Nat.le_of_ble_eq_true rfl) (own := RX4) (cc := cX4_pack) (maxL := 3) (lev := 18) (rt := (some (.array (.object "BitRopes$Packed")))) (ini := false) ?_
  show Sim Y_S_pack h 0 [(0, .ref this)] [] _
  unfold c_S_pack
  refine x_grd ?_
  refine x_bipush (pc := 0) (v := 11) (by decide) dX4_pack_0 ?_
  refine x_newaQ (pc := 2) (C := RX14) (t := 8) (by decide +kernel) q1108 (fun G s hk => (hk.1.2 8 _ rfl).2.choose_spec.choose_spec.2.2.2) dX4_pack_2 ?_
  intro a1 h2
  refine x_astore_nR (pc := 5) (a := a1) (lv' := [(1, .ref a1), (0, .ref this)]) rfl (by decide) rfl dX4_pack_5 ?_
  refine x_iconst (pc := 6) (v := 0) (by decide) dX4_pack_6 ?_
  refine x_istore_n (pc := 7) (lv' := [(2, .int (0 : Int32)), (1, .ref a1), (0, .ref this)]) rfl (by decide) rfl dX4_pack_7 ?_
  refine Sim.lv [2, 1, 0] rfl ?_
  exact v_S_pack_l8 FU h2 this a1 (0 : Int32)
theorem si_X4_78 : SiV RX4 78 4 yX5_remove cX5_remove 3 none 1 := ⟨_, _, _, ci_4.1, by decide, lw_V q1157 q1158 q1159 q116 q1160, ⟨rfl, by decide, by decide, by decide +kernel⟩, by decide⟩
abbrev Y_S_cuts : Yx := (RX4, cX4_cuts, 5, 18, none, [], false)
def c_S_cuts_l3 (r3 : PH → Nat → Int32 → Int32 → Int32 → Int32 → Option RH) (h : PH) (this : Nat) (x1 : Int32) (x2 : Int32) (x3 : Int32) (x4 : Int32) : Option RH :=
  if x3 ≤ x4 then
    rV h
  else
    gQ h this [3] 0 fun v1 =>
    nn v1 fun a2 =>
    ldQ h a2 x1 fun v4 =>
    nn v4 fun a5 =>
    hV (c_R_remove h a5 x2) noX fun h7 =>
    r3 h7 this x1 x2 x3 (x4 + (1 : Int32))
def c_S_cuts (h : PH) (this : Nat) (x1 : Int32) (x2 : Int32) (x3 : Int32) : Option RH :=
  grd h this [3] (
  itr (c_S_cuts_l3) (fun _ _ _ _ _ _ => none) FU h this x1 x2 x3 (0 : Int32))
set_option maxHeartbeats 4000000 in
theorem w_S_cuts_l3 (r3 : PH → Nat → Int32 → Int32 → Int32 → Int32 → Option RH) (hr3 : ∀ (h : PH) (this : Nat) (x1 : Int32) (x2 : Int32) (x3 : Int32) (x4 : Int32), Sim Y_S_cuts h 3 [(0, .ref this), (1, .int x1), (2, .int x2), (3, .int x3), (4, .int x4)] [] (r3 h this x1 x2 x3 x4)) (h : PH) (this : Nat) (x1 : Int32) (x2 : Int32) (x3 : Int32) (x4 : Int32) : Sim Y_S_cuts h 3 [(0, .ref this), (1, .int x1), (2, .int x2), (3, .int x3), (4, .int x4)] [] (c_S_cuts_l3 r3 h this x1 x2 x3 x4) := by
  unfold c_S_cuts_l3
  refine x_iload (pc := 3) 4 rfl dX4_cuts_3 ?_
  refine x_iload_n (pc := 5) 3 rfl rfl dX4_cuts_5 ?_
  refine x_icmp_ge (pc := 6) 25 (by decide) dX4_cuts_6 ?_ ?_
  · exact x_vret (pc := 25) dX4_cuts_25
  · refine x_aload_nR (pc := 9) (a := this) 0 rfl rfl dX4_cuts_9 ?_
    refine x_getQ (pc := 10) fi_X4_11 dX4_cuts_10 ?_
    intro v1
    refine x_iload_n (pc := 13) 1 rfl rfl dX4_cuts_13 ?_
    refine x_nn (fun a2 e3 => ?_)
    subst e3
    refine x_aald (pc := 14) dX4_cuts_14 ?_
    intro v4
    refine x_iload_n (pc := 15) 2 rfl rfl dX4_cuts_15 ?_
    refine x_nn (fun a5 e6 => ?_)
    subst e6
    refine x_callV (pc := 16) (As := [.int x2]) (rest := []) (lev' := 17) si_X4_78 (m_R_remove h a5 x2) (fun z e => grd1 e) rfl rfl (by decide) (cat4 (Nat.le_of_ble_eq_true rfl)) dX4_cuts_16 (kV (fun h7 => ?_)) xNo
    refine x_iinc (pc := 19) (v := (1 : Int32)) (lv' := [(4, .int (x4 + (1 : Int32))), (0, .ref this), (1, .int x1), (2, .int x2), (3, .int x3)]) 4 rfl (by decide) (by decide) rfl dX4_cuts_19 ?_
    refine x_goto (pc := 22) 3 (by decide) dX4_cuts_22 ?_
    refine Sim.lv [1, 2, 3, 4, 0] rfl ?_
    exact hr3 h7 this x1 x2 x3 (x4 + (1 : Int32))
set_option maxHeartbeats 4000000 in
theorem v_S_cuts_l3 : ∀ (n : Nat) (h : PH) (this : Nat) (x1 : Int32) (x2 : Int32) (x3 : Int32) (x4 : Int32), Sim Y_S_cuts h 3 [(0, .ref this), (1, .int x1), (2, .int x2), (3, .int x3), (4, .int x4)] [] (itr (c_S_cuts_l3) (fun _ _ _ _ _ _ => none) n h this x1 x2 x3 x4)
  | 0, h, this, x1, x2, x3, x4 => Sim.none
  | n + 1, h, this, x1, x2, x3, x4 => w_S_cuts_l3 _ (v_S_cuts_l3 n) h this x1 x2 x3 x4
set_option maxHeartbeats 4000000 in
theorem m_S_cuts (h : PH) (this : Nat) (x1 : Int32) (x2 : Int32) (x3 : Int32) : MM yX4_cuts (ws_ yX4_cuts cX4_cuts 5 none) 18 [.ref this, .int x1, .int x2, .int x3] h (c_S_cuts h this x1 x2 x3) := by
  refine MM.of (by decide) rfl (by decide) (Nat.le_of_ble_eq_true rfl) (own := RX4) (cc := cX4_cuts) (maxL := 5) (lev := 18) (rt := none) (ini := false) ?_
  show Sim Y_S_cuts h 0 [(0, .ref this), (1, .int x1), (2, .int x2), (3, .int x3)] [] _
  unfold c_S_cuts
  refine x_grd ?_
  refine x_iconst (pc := 0) (v := 0) (by decide) dX4_cuts_0 ?_
  refine x_istore (pc := 1) (lv' := [(4, .int (0 : Int32)), (0, .ref this), (1, .int x1), (2, .int x2), (3, .int x3)]) (by decide) rfl dX4_cuts_1 ?_
  refine Sim.lv [1, 2, 3, 4, 0] rfl ?_
  exact v_S_cuts_l3 FU h this x1 x2 x3 (0 : Int32)
theorem fi_X4_82 : FI RX4 82 [11] 0 (.array .long) true false := (fi_c ci_11 (by decide) rfl rfl (Or.inr ⟨_, q1121⟩) (Or.inl rfl) (fun _ h => absurd h (by decide)) fi_n)
abbrev Y_S_moves : Yx := (RX4, cX4_moves, 7, 18, none, [], false)
def c_S_moves_l25 (r25 : PH → Nat → Int32 → Option Nat → Int32 → Int32 → Option RH) (h : PH) (this : Nat) (x3 : Int32) (x4 : Option Nat) (x5 : Int32) (x6 : Int32) : Option RH :=
  if x5 ≤ x6 then
    rV h
  else
    gQ h this [3] 0 fun v1 =>
    nn v1 fun a2 =>
    ldQ h a2 x3 fun v4 =>
    gQ h this [3] 0 fun v5 =>
    nn v5 fun a6 =>
    ldQ h a6 x3 fun v8 =>
    nn v8 fun a9 =>
    hI (c_R_wide h a9) noX fun v12 h11 =>
    nn x4 fun a13 =>
    gQ h11 a13 [11] 0 fun v15 =>
    nz (64 : Int32) <|
    nn v15 fun a16 =>
    ldL h11 a16 (x6 / (64 : Int32)) fun v18 =>
    nz (64 : Int32) <|
    nn v4 fun a19 =>
    hV (c_R_insert h11 a19 v12 (((v18 >>> ((x6 - x6 / (64 : Int32) * (64 : Int32)).toInt64 &&& 63)) &&& (1 : Int64)).toInt32)) noX fun h21 =>
    r25 h21 this x3 (some a13) x5 (x6 + (1 : Int32))
def c_S_moves (h : PH) (this : Nat) (x1 : Int32) (x2 : Int32) (x3 : Int32) : Option RH :=
  grd h this [3] (
  gQ h this [3] 0 fun v1 =>
  nn v1 fun a2 =>
  ldQ h a2 x1 fun v4 =>
  nn v4 fun a5 =>
  hQ (c_R_pack h a5) noX fun v8 h7 =>
  gQ h7 this [3] 0 fun v9 =>
  nn v9 fun a10 =>
  ldQ h7 a10 x1 fun v12 =>
  nn v12 fun a13 =>
  hI (c_R_wide h7 a13) noX fun v16 h15 =>
  itr (c_S_moves_l25) (fun _ _ _ _ _ _ => none) FU h15 this x3 v8 v16 x2)
set_option maxHeartbeats 4000000 in
theorem w_S_moves_l25 (r25 : PH → Nat → Int32 → Option Nat → Int32 → Int32 → Option RH) (hr25 : ∀ (h : PH) (this : Nat) (x3 : Int32) (x4 : Option Nat) (x5 : Int32) (x6 : Int32), Sim Y_S_moves h 25 [(0, .ref this), (3, .int x3), (4, va_rf x4), (5, .int x5), (6, .int x6)] [] (r25 h this x3 x4 x5 x6)) (h : PH) (this : Nat) (x3 : Int32) (x4 : Option Nat) (x5 : Int32) (x6 : Int32) : Sim Y_S_moves h 25 [(0, .ref this), (3, .int x3), (4, va_rf x4), (5, .int x5), (6, .int x6)] [] (c_S_moves_l25 r25 h this x3 x4 x5 x6) := by
  unfold c_S_moves_l25
  refine x_iload (pc := 25) 4 rfl dX4_moves_25 ?_
  refine x_iload (pc := 27) 3 rfl dX4_moves_27 ?_
  refine x_icmp_ge (pc := 29) 76 (by decide) dX4_moves_29 ?_ ?_
  · exact x_vret (pc := 76) dX4_moves_76
  · refine x_aload_nR (pc := 32) (a := this) 0 rfl rfl dX4_moves_32 ?_
    refine x_getQ (pc := 33) fi_X4_11 dX4_moves_33 ?_
    intro v1
    refine x_iload_n (pc := 36) 1 rfl rfl dX4_moves_36 ?_
    refine x_nn (fun a2 e3 => ?_)
    subst e3
    refine x_aald (pc := 37) dX4_moves_37 ?_
    intro v4
    refine x_aload_nR (pc := 38) (a := this) 0 rfl rfl dX4_moves_38 ?_
    refine x_getQ (pc := 39) fi_X4_11 dX4_moves_39 ?_
    intro v5
    refine x_iload_n (pc := 42) 1 rfl rfl dX4_moves_42 ?_
    refine x_nn (fun a6 e7 => ?_)
    subst e7
    refine x_aald (pc := 43) dX4_moves_43 ?_
    intro v8
    refine x_nn (fun a9 e10 => ?_)
    subst e10
    refine x_callV (pc := 44) (As := []) (rest := [va_rf v4]) (lev' := 1) si_X4_49 (m_R_wide h a9) (fun z e => grd1 e) rfl rfl (by decide) (cat4 (Nat.le_of_ble_eq_true rfl)) dX4_moves_44 (kI (fun v12 h11 => ?_)) xNo
    refine x_aload (pc := 47) (r := x4) 2 rfl dX4_moves_47 ?_
    refine x_nn (fun a13 e14 => ?_)
    subst e14
    refine x_getQ (pc := 49) fi_X4_82 dX4_moves_49 ?_
    intro v15
    refine x_iload (pc := 52) 4 rfl dX4_moves_52 ?_
    refine x_bipush (pc := 54) (v := 64) (by decide) dX4_moves_54 ?_
    refine x_idiv (pc := 56) dX4_moves_56 ?_
    refine x_nn (fun a16 e17 => ?_)
    subst e17
    refine x_lald (pc := 57) dX4_moves_57 ?_
    intro v18
    refine x_iload (pc := 58) 4 rfl dX4_moves_58 ?_
    refine x_bipush (pc := 60) (v := 64) (by decide) dX4_moves_60 ?_
    refine x_irem (pc := 62) dX4_moves_62 ?_
    refine x_lshr (pc := 63) dX4_moves_63 ?_
    refine x_lconst (pc := 64) (v := 1) (by decide) dX4_moves_64 ?_
    refine x_land (pc := 65) dX4_moves_65 ?_
    refine x_l2i (pc := 66) dX4_moves_66 ?_
    refine x_nn (fun a19 e20 => ?_)
    subst e20
    refine x_callV (pc := 67) (As := [.int v12, .int (((v18 >>> ((x6 - x6 / (64 : Int32) * (64 : Int32)).toInt64 &&& 63)) &&& (1 : Int64)).toInt32)]) (rest := []) (lev' := 17) si_X4_74 (m_R_insert h11 a19 v12 (((v18 >>> ((x6 - x6 / (64 : Int32) * (64 : Int32)).toInt64 &&& 63)) &&& (1 : Int64)).toInt32)) (fun z e => grd1 e) rfl rfl (by decide) (cat4 (Nat.le_of_ble_eq_true rfl)) dX4_moves_67 (kV (fun h21 => ?_)) xNo
    refine x_iinc (pc := 70) (v := (1 : Int32)) (lv' := [(6, .int (x6 + (1 : Int32))), (0, .ref this), (3, .int x3), (4, .ref a13), (5, .int x5)]) 4 rfl (by decide) (by decide) rfl dX4_moves_70 ?_
    refine x_goto (pc := 73) 25 (by decide) dX4_moves_73 ?_
    refine Sim.lv [1, 2, 3, 4, 0] rfl ?_
    exact hr25 h21 this x3 (some a13) x5 (x6 + (1 : Int32))
set_option maxHeartbeats 4000000 in
theorem v_S_moves_l25 : ∀ (n : Nat) (h : PH) (this : Nat) (x3 : Int32) (x4 : Option Nat) (x5 : Int32) (x6 : Int32), Sim Y_S_moves h 25 [(0, .ref this), (3, .int x3), (4, va_rf x4), (5, .int x5), (6, .int x6)] [] (itr (c_S_moves_l25) (fun _ _ _ _ _ _ => none) n h this x3 x4 x5 x6)
  | 0, h, this, x3, x4, x5, x6 => Sim.none
  | n + 1, h, this, x3, x4, x5, x6 => w_S_moves_l25 _ (v_S_moves_l25 n) h this x3 x4 x5 x6
set_option maxHeartbeats 4000000 in
theorem m_S_moves (h : PH) (this : Nat) (x1 : Int32) (x2 : Int32) (x3 : Int32) : MM yX4_moves (ws_ yX4_moves cX4_moves 7 none) 18 [.ref this, .int x1, .int x2, .int x3] h (c_S_moves h this x1 x2 x3) := by
  refine MM.of (by decide) rfl (by decide) (Nat.le_of_ble_eq_true rfl) (own := RX4) (cc := cX4_moves) (maxL := 7) (lev := 18) (rt := none) (ini := false) ?_
  show Sim Y_S_moves h 0 [(0, .ref this), (1, .int x1), (2, .int x2), (3, .int x3)] [] _
  unfold c_S_moves
  refine x_grd ?_
  refine x_aload_nR (pc := 0) (a := this) 0 rfl rfl dX4_moves_0 ?_
  refine x_getQ (pc := 1) fi_X4_11 dX4_moves_1 ?_
  intro v1
  refine x_iload_n (pc := 4) 1 rfl rfl dX4_moves_4 ?_
  refine x_nn (fun a2 e3 => ?_)
  subst e3
  refine x_aald (pc := 5) dX4_moves_5 ?_
  intro v4
  refine x_nn (fun a5 e6 => ?_)
  subst e6
  refine x_callV (pc := 6) (As := []) (rest := []) (lev' := 17) si_X4_41 (m_R_pack h a5) (fun z e => grd1 e) rfl rfl (by decide) (cat4 (Nat.le_of_ble_eq_true rfl)) dX4_moves_6 (kQ (fun v8 h7 => ?_)) xNo
  refine x_astore (pc := 9) (r := v8) (lv' := [(4, va_rf v8), (0, .ref this), (1, .int x1), (2, .int x2), (3, .int x3)]) (by decide) rfl dX4_moves_9 ?_
  refine x_aload_nR (pc := 11) (a := this) 1 rfl rfl dX4_moves_11 ?_
  refine x_getQ (pc := 12) fi_X4_11 dX4_moves_12 ?_
  intro v9
  refine x_iload_n (pc := 15) 2 rfl rfl dX4_moves_15 ?_
  refine x_nn (fun a10 e11 => ?_)
  subst e11
  refine x_aald (pc := 16) dX4_moves_16 ?_
  intro v12
  refine x_nn (fun a13 e14 => ?_)
  subst e14
  refine x_callV (pc := 17) (As := []) (rest := []) (lev' := 1) si_X4_49 (m_R_wide h7 a13) (fun z e => grd1 e) rfl rfl (by decide) (cat4 (Nat.le_of_ble_eq_true rfl)) dX4_moves_17 (kI (fun v16 h15 => ?_)) xNo
  refine x_istore (pc := 20) (lv' := [(5, .int v16), (4, va_rf v8), (0, .ref this), (1, .int x1), (2, .int x2), (3, .int x3)]) (by decide) (by simp [rf_cat]) dX4_moves_20 ?_
  refine x_iload_n (pc := 22) 4 rfl rfl dX4_moves_22 ?_
  refine x_istore (pc := 23) (lv' := [(6, .int x2), (5, .int v16), (4, va_rf v8), (0, .ref this), (1, .int x1), (2, .int x2), (3, .int x3)]) (by decide) rfl dX4_moves_23 ?_
  refine Sim.lv [3, 6, 2, 1, 0] rfl ?_
  exact v_S_moves_l25 FU h15 this x3 v8 v16 x2
abbrev Y_S_erases : Yx := (RX4, cX4_erases, 6, 18, none, [], false)
def c_S_erases_l4 (r4 : PH → Nat → Int32 → Int32 → Option RH) (h : PH) (this : Nat) (x2 : Int32) (x3 : Int32) : Option RH :=
  if (7 : Int32) ≤ x2 then
    rV h
  else
    gQ h this [3] 1 fun v1 =>
    nn v1 fun a2 =>
    ldQ h a2 x2 fun v4 =>
    nn v4 fun a5 =>
    hI (c_R_get h a5 x3) noX fun v8 h7 =>
    gQ h7 this [3] 1 fun v9 =>
    nn v9 fun a10 =>
    ldQ h7 a10 x2 fun v12 =>
    nn v12 fun a13 =>
    hI (c_R_before h7 a13 x3 v8) noX fun v16 h15 =>
    gQ h15 this [3] 1 fun v17 =>
    nn v17 fun a18 =>
    ldQ h15 a18 x2 fun v20 =>
    nn v20 fun a21 =>
    hV (c_R_remove h15 a21 x3) noX fun h23 =>
    nm ((((2 : Int32) * x2) + (1 : Int32)) + v8) fun y24 =>
    r4 h23 this y24 v16
def c_S_erases (h : PH) (this : Nat) (x1 : Int32) : Option RH :=
  grd h this [3] (
  itr (c_S_erases_l4) (fun _ _ _ _ => none) FU h this (0 : Int32) x1)
set_option maxHeartbeats 4000000 in
theorem w_S_erases_l4 (r4 : PH → Nat → Int32 → Int32 → Option RH) (hr4 : ∀ (h : PH) (this : Nat) (x2 : Int32) (x3 : Int32), Sim Y_S_erases h 4 [(0, .ref this), (2, .int x2), (3, .int x3)] [] (r4 h this x2 x3)) (h : PH) (this : Nat) (x2 : Int32) (x3 : Int32) : Sim Y_S_erases h 4 [(0, .ref this), (2, .int x2), (3, .int x3)] [] (c_S_erases_l4 r4 h this x2 x3) := by
  unfold c_S_erases_l4
  refine x_iload_n (pc := 4) 1 rfl rfl dX4_erases_4 ?_
  refine x_bipush (pc := 5) (v := 7) (by decide) dX4_erases_5 ?_
  refine x_icmp_ge (pc := 7) 61 (by decide) dX4_erases_7 ?_ ?_
  · exact x_vret (pc := 61) dX4_erases_61
  · refine x_aload_nR (pc := 10) (a := this) 0 rfl rfl dX4_erases_10 ?_
    refine x_getQ (pc := 11) fi_X4_17 dX4_erases_11 ?_
    intro v1
    refine x_iload_n (pc := 14) 1 rfl rfl dX4_erases_14 ?_
    refine x_nn (fun a2 e3 => ?_)
    subst e3
    refine x_aald (pc := 15) dX4_erases_15 ?_
    intro v4
    refine x_iload_n (pc := 16) 2 rfl rfl dX4_erases_16 ?_
    refine x_nn (fun a5 e6 => ?_)
    subst e6
    refine x_callV (pc := 17) (As := [.int x3]) (rest := []) (lev' := 3) si_X4_53 (m_R_get h a5 x3) (fun z e => grd1 e) rfl rfl (by decide) (cat4 (Nat.le_of_ble_eq_true rfl)) dX4_erases_17 (kI (fun v8 h7 => ?_)) xNo
    refine x_istore (pc := 20) (lv' := [(4, .int v8), (0, .ref this), (2, .int x2), (3, .int x3)]) (by decide) rfl dX4_erases_20 ?_
    refine x_aload_nR (pc := 22) (a := this) 1 rfl rfl dX4_erases_22 ?_
    refine x_getQ (pc := 23) fi_X4_17 dX4_erases_23 ?_
    intro v9
    refine x_iload_n (pc := 26) 2 rfl rfl dX4_erases_26 ?_
    refine x_nn (fun a10 e11 => ?_)
    subst e11
    refine x_aald (pc := 27) dX4_erases_27 ?_
    intro v12
    refine x_iload_n (pc := 28) 3 rfl rfl dX4_erases_28 ?_
    refine x_iload (pc := 29) 0 rfl dX4_erases_29 ?_
    refine x_nn (fun a13 e14 => ?_)
    subst e14
    refine x_callV (pc := 31) (As := [.int x3, .int v8]) (rest := []) (lev' := 4) si_X4_57 (m_R_before h7 a13 x3 v8) (fun z e => grd1 e) rfl rfl (by decide) (cat4 (Nat.le_of_ble_eq_true rfl)) dX4_erases_31 (kI (fun v16 h15 => ?_)) xNo
    refine x_istore (pc := 34) (lv' := [(5, .int v16), (4, .int v8), (0, .ref this), (2, .int x2), (3, .int x3)]) (by decide) rfl dX4_erases_34 ?_
    refine x_aload_nR (pc := 36) (a := this) 2 rfl rfl dX4_erases_36 ?_
    refine x_getQ (pc := 37) fi_X4_17 dX4_erases_37 ?_
    intro v17
    refine x_iload_n (pc := 40) 3 rfl rfl dX4_erases_40 ?_
    refine x_nn (fun a18 e19 => ?_)
    subst e19
    refine x_aald (pc := 41) dX4_erases_41 ?_
    intro v20
    refine x_iload_n (pc := 42) 4 rfl rfl dX4_erases_42 ?_
    refine x_nn (fun a21 e22 => ?_)
    subst e22
    refine x_callV (pc := 43) (As := [.int x3]) (rest := []) (lev' := 17) si_X4_78 (m_R_remove h15 a21 x3) (fun z e => grd1 e) rfl rfl (by decide) (cat4 (Nat.le_of_ble_eq_true rfl)) dX4_erases_43 (kV (fun h23 => ?_)) xNo
    refine x_iload (pc := 46) 0 rfl dX4_erases_46 ?_
    refine x_istore_n (pc := 48) (lv' := [(3, .int v16), (5, .int v16), (4, .int v8), (0, .ref this), (2, .int x2)]) rfl (by decide) rfl dX4_erases_48 ?_
    refine x_iconst (pc := 49) (v := 2) (by decide) dX4_erases_49 ?_
    refine x_iload_n (pc := 50) 4 rfl rfl dX4_erases_50 ?_
    refine x_imul (pc := 51) dX4_erases_51 ?_
    refine x_iconst (pc := 52) (v := 1) (by decide) dX4_erases_52 ?_
    refine x_iadd (pc := 53) dX4_erases_53 ?_
    refine x_iload (pc := 54) 2 rfl dX4_erases_54 ?_
    refine x_iadd (pc := 56) dX4_erases_56 ?_
    refine x_nmI (fun y24 => ?_)
    refine x_istore_n (pc := 57) (lv' := [(2, .int y24), (3, .int v16), (5, .int v16), (4, .int v8), (0, .ref this)]) rfl (by decide) rfl dX4_erases_57 ?_
    refine x_goto (pc := 58) 4 (by decide) dX4_erases_58 ?_
    refine Sim.lv [4, 0, 1] rfl ?_
    exact hr4 h23 this y24 v16
set_option maxHeartbeats 4000000 in
theorem v_S_erases_l4 : ∀ (n : Nat) (h : PH) (this : Nat) (x2 : Int32) (x3 : Int32), Sim Y_S_erases h 4 [(0, .ref this), (2, .int x2), (3, .int x3)] [] (itr (c_S_erases_l4) (fun _ _ _ _ => none) n h this x2 x3)
  | 0, h, this, x2, x3 => Sim.none
  | n + 1, h, this, x2, x3 => w_S_erases_l4 _ (v_S_erases_l4 n) h this x2 x3
set_option maxHeartbeats 4000000 in
theorem m_S_erases (h : PH) (this : Nat) (x1 : Int32) : MM yX4_erases (ws_ yX4_erases cX4_erases 6 none) 18 [.ref this, .int x1] h (c_S_erases h this x1) := by
  refine MM.of (by decide) rfl (by decide) (Nat.le_of_ble_eq_true rfl) (own := RX4) (cc := cX4_erases) (maxL := 6) (lev := 18) (rt := none) (ini := false) ?_
  show Sim Y_S_erases h 0 [(0, .ref this), (1, .int x1)] [] _
  unfold c_S_erases
  refine x_grd ?_
  refine x_iconst (pc := 0) (v := 0) (by decide) dX4_erases_0 ?_
  refine x_istore_n (pc := 1) (lv' := [(2, .int (0 : Int32)), (0, .ref this), (1, .int x1)]) rfl (by decide) rfl dX4_erases_1 ?_
  refine x_iload_n (pc := 2) 2 rfl rfl dX4_erases_2 ?_
  refine x_istore_n (pc := 3) (lv' := [(3, .int x1), (2, .int (0 : Int32)), (0, .ref this), (1, .int x1)]) rfl (by decide) rfl dX4_erases_3 ?_
  refine Sim.lv [2, 1, 0] rfl ?_
  exact v_S_erases_l4 FU h this (0 : Int32) x1
