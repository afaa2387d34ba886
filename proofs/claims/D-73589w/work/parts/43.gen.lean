set_option maxRecDepth 100000
theorem si_X4_102 : SiV RX4 102 3 yX4_erases cX4_erases 6 none 1 := ⟨_, _, _, ci_3.1, by decide, lw_V q1186 q1188 qs29 q115 q1189, ⟨rfl, by decide, by decide, by decide +kernel⟩, by decide⟩
theorem si_X4_86 : SiV RX4 86 4 yX5_write cX5_write 4 none 2 := ⟨_, _, _, ci_4.1, by decide, lw_V q1139 q1140 q1141 q116 q1142, ⟨rfl, by decide, by decide, by decide +kernel⟩, by decide⟩
theorem si_X4_89 : SiV RX4 89 3 yX4_cuts cX4_cuts 5 none 3 := ⟨_, _, _, ci_3.1, by decide, lw_V q1153 q1155 qs25 q115 q1156, ⟨rfl, by decide, by decide, by decide +kernel⟩, by decide⟩
theorem si_X4_93 : SiV RX4 93 4 yX5_flip cX5_flip 7 none 2 := ⟨_, _, _, ci_4.1, by decide, lw_V q1167 q1168 q1169 q116 q1170, ⟨rfl, by decide, by decide, by decide +kernel⟩, by decide⟩
theorem si_X4_96 : SiV RX4 96 3 yX4_moves cX4_moves 7 none 3 := ⟨_, _, _, ci_3.1, by decide, lw_V q1181 q1183 qs28 q115 q1184, ⟨rfl, by decide, by decide, by decide +kernel⟩, by decide⟩
theorem si_X4_99 : SiV RX4 99 3 yX4_types cX4_types 8 none 2 := ⟨_, _, _, ci_3.1, by decide, lw_V q1185 q859 qs13 q115 q860, ⟨rfl, by decide, by decide, by decide +kernel⟩, by decide⟩
abbrev Y_S_does : Yx := (RX4, cX4_does, 6, 23, none, [], false)
def c_S_does_l168 (r168 : PH → Nat → Int32 → Int32 → Int32 → Option RH) (h : PH) (this : Nat) (x3 : Int32) (x4 : Int32) (x5 : Int32) : Option RH :=
  if x4 ≤ x5 then
    rV h
  else
    hV (c_S_erases h this x3) noX fun h1 =>
    r168 h1 this x3 x4 (x5 + (1 : Int32))
def c_S_does (h : PH) (this : Nat) (x1 : Int32) (x2 : Int32) (x3 : Int32) (x4 : Int32) : Option RH :=
  grd h this [3] (
  if x1 = 0 then
    gQ h this [3] 0 fun v1 =>
    nn v1 fun a2 =>
    ldQ h a2 x2 fun v4 =>
    nn v4 fun a5 =>
    hV (c_R_insert h a5 x3 x4) noX fun h7 =>
    rV h7
  else
  if x1 = 1 then
    gQ h this [3] 0 fun v8 =>
    nn v8 fun a9 =>
    ldQ h a9 x2 fun v11 =>
    nn v11 fun a12 =>
    hV (c_R_write h a12 x3 x4) noX fun h14 =>
    rV h14
  else
  if x1 = 2 then
    hV (c_S_cuts h this x2 x3 x4) noX fun h15 =>
    rV h15
  else
  if x1 = 3 then
    gQ h this [3] 0 fun v16 =>
    nn v16 fun a17 =>
    ldQ h a17 x2 fun v19 =>
    nn v19 fun a20 =>
    hV (c_R_flip h a20 x3 (x3 + x4)) noX fun h22 =>
    rV h22
  else
  if x1 = 4 then
    hV (c_S_moves h this x4 (0 : Int32) x2) noX fun h23 =>
    gQ h23 this [3] 0 fun v24 =>
    nn v24 fun a25 =>
    ldQ h23 a25 x4 fun v27 =>
    nn v27 fun a28 =>
    hV (c_R_clear h23 a28) noX fun h30 =>
    rV h30
  else
  if x1 = 5 then
    gQ h this [3] 0 fun v31 =>
    nn v31 fun a32 =>
    ldQ h a32 x2 fun v34 =>
    nn v34 fun a35 =>
    hI (c_R_wide h a35) noX fun v38 h37 =>
    nm (v38 - x3) fun y39 =>
    hV (c_S_moves h37 this x2 x3 x4) noX fun h40 =>
    hV (c_S_cuts h40 this x2 x3 y39) noX fun h41 =>
    rV h41
  else
  if x1 = 6 then
    hV (c_S_types h this x3 x4) noX fun h42 =>
    rV h42
  else
  itr (c_S_does_l168) (fun _ _ _ _ _ => none) FU h this x3 x4 (0 : Int32))
set_option maxHeartbeats 4000000 in
theorem w_S_does_l168 (r168 : PH → Nat → Int32 → Int32 → Int32 → Option RH) (hr168 : ∀ (h : PH) (this : Nat) (x3 : Int32) (x4 : Int32) (x5 : Int32), Sim Y_S_does h 168 [(0, .ref this), (3, .int x3), (4, .int x4), (5, .int x5)] [] (r168 h this x3 x4 x5)) (h : PH) (this : Nat) (x3 : Int32) (x4 : Int32) (x5 : Int32) : Sim Y_S_does h 168 [(0, .ref this), (3, .int x3), (4, .int x4), (5, .int x5)] [] (c_S_does_l168 r168 h this x3 x4 x5) := by
  unfold c_S_does_l168
  refine x_iload (pc := 168) 3 rfl dX4_does_168 ?_
  refine x_iload (pc := 170) 2 rfl dX4_does_170 ?_
  refine x_icmp_ge (pc := 172) 186 (by decide) dX4_does_172 ?_ ?_
  · exact x_vret (pc := 186) dX4_does_186
  · refine x_aload_nR (pc := 175) (a := this) 0 rfl rfl dX4_does_175 ?_
    refine x_iload_n (pc := 176) 1 rfl rfl dX4_does_176 ?_
    refine x_callV (pc := 177) (As := [.int x3]) (rest := []) (lev' := 18) si_X4_102 (m_S_erases h this x3) (fun z e => grd1 e) rfl rfl (by decide) (cat4 (Nat.le_of_ble_eq_true rfl)) dX4_does_177 (kV (fun h1 => ?_)) xNo
    refine x_iinc (pc := 180) (v := (1 : Int32)) (lv' := [(5, .int (x5 + (1 : Int32))), (0, .ref this), (3, .int x3), (4, .int x4)]) 3 rfl (by decide) (by decide) rfl dX4_does_180 ?_
    refine x_goto (pc := 183) 168 (by decide) dX4_does_183 ?_
    refine Sim.lv [1, 2, 3, 0] rfl ?_
    exact hr168 h1 this x3 x4 (x5 + (1 : Int32))
set_option maxHeartbeats 4000000 in
theorem v_S_does_l168 : ∀ (n : Nat) (h : PH) (this : Nat) (x3 : Int32) (x4 : Int32) (x5 : Int32), Sim Y_S_does h 168 [(0, .ref this), (3, .int x3), (4, .int x4), (5, .int x5)] [] (itr (c_S_does_l168) (fun _ _ _ _ _ => none) n h this x3 x4 x5)
  | 0, h, this, x3, x4, x5 => Sim.none
  | n + 1, h, this, x3, x4, x5 => w_S_does_l168 _ (v_S_does_l168 n) h this x3 x4 x5
set_option maxHeartbeats 4000000 in
theorem m_S_does (h : PH) (this : Nat) (x1 : Int32) (x2 : Int32) (x3 : Int32) (x4 : Int32) : MM yX4_does (ws_ yX4_does cX4_does 6 none) 23 [.ref this, .int x1, .int x2, .int x3, .int x4] h (c_S_does h this x1 x2 x3 x4) := by
  refine MM.of (by decide) rfl (by decide) (Nat.le_of_ble_eq_true rfl) (own := RX4) (cc := cX4_does) (maxL := 6) (lev := 23) (rt := none) (ini := false) ?_
  show Sim Y_S_does h 0 [(0, .ref this), (1, .int x1), (2, .int x2), (3, .int x3), (4, .int x4)] [] _
  unfold c_S_does
  refine x_grd ?_
  refine x_iload_n (pc := 0) 1 rfl rfl dX4_does_0 ?_
  refine x_sw0 (pc := 1) (lo := 0) ?_
  refine x_sw (pc := 1) (v := 0) 44 dX4_does_1 rfl (by decide) (by decide) rfl (by decide) ?_ ?_
  · refine x_aload_nR (pc := 44) (a := this) 0 rfl rfl dX4_does_44 ?_
    refine x_getQ (pc := 45) fi_X4_11 dX4_does_45 ?_
    intro v1
    refine x_iload_n (pc := 48) 2 rfl rfl dX4_does_48 ?_
    refine x_nn (fun a2 e3 => ?_)
    subst e3
    refine x_aald (pc := 49) dX4_does_49 ?_
    intro v4
    refine x_iload_n (pc := 50) 3 rfl rfl dX4_does_50 ?_
    refine x_iload (pc := 51) 4 rfl dX4_does_51 ?_
    refine x_nn (fun a5 e6 => ?_)
    subst e6
    refine x_callV (pc := 53) (As := [.int x3, .int x4]) (rest := []) (lev' := 17) si_X4_74 (m_R_insert h a5 x3 x4) (fun z e => grd1 e) rfl rfl (by decide) (cat4 (Nat.le_of_ble_eq_true rfl)) dX4_does_53 (kV (fun h7 => ?_)) xNo
    refine x_goto (pc := 56) 186 (by decide) dX4_does_56 ?_
    exact x_vret (pc := 186) dX4_does_186
  refine x_sw (pc := 1) (v := 1) 59 dX4_does_1 rfl (by decide) (by decide) rfl (by decide) ?_ ?_
  · refine x_aload_nR (pc := 59) (a := this) 0 rfl rfl dX4_does_59 ?_
    refine x_getQ (pc := 60) fi_X4_11 dX4_does_60 ?_
    intro v8
    refine x_iload_n (pc := 63) 2 rfl rfl dX4_does_63 ?_
    refine x_nn (fun a9 e10 => ?_)
    subst e10
    refine x_aald (pc := 64) dX4_does_64 ?_
    intro v11
    refine x_iload_n (pc := 65) 3 rfl rfl dX4_does_65 ?_
    refine x_iload (pc := 66) 4 rfl dX4_does_66 ?_
    refine x_nn (fun a12 e13 => ?_)
    subst e13
    refine x_callV (pc := 68) (As := [.int x3, .int x4]) (rest := []) (lev' := 16) si_X4_86 (m_R_write h a12 x3 x4) (fun z e => grd1 e) rfl rfl (by decide) (cat4 (Nat.le_of_ble_eq_true rfl)) dX4_does_68 (kV (fun h14 => ?_)) xNo
    refine x_goto (pc := 71) 186 (by decide) dX4_does_71 ?_
    exact x_vret (pc := 186) dX4_does_186
  refine x_sw (pc := 1) (v := 2) 74 dX4_does_1 rfl (by decide) (by decide) rfl (by decide) ?_ ?_
  · refine x_aload_nR (pc := 74) (a := this) 0 rfl rfl dX4_does_74 ?_
    refine x_iload_n (pc := 75) 2 rfl rfl dX4_does_75 ?_
    refine x_iload_n (pc := 76) 3 rfl rfl dX4_does_76 ?_
    refine x_iload (pc := 77) 4 rfl dX4_does_77 ?_
    refine x_callV (pc := 79) (As := [.int x2, .int x3, .int x4]) (rest := []) (lev' := 18) si_X4_89 (m_S_cuts h this x2 x3 x4) (fun z e => grd1 e) rfl rfl (by decide) (cat4 (Nat.le_of_ble_eq_true rfl)) dX4_does_79 (kV (fun h15 => ?_)) xNo
    refine x_goto (pc := 82) 186 (by decide) dX4_does_82 ?_
    exact x_vret (pc := 186) dX4_does_186
  refine x_sw (pc := 1) (v := 3) 85 dX4_does_1 rfl (by decide) (by decide) rfl (by decide) ?_ ?_
  · refine x_aload_nR (pc := 85) (a := this) 0 rfl rfl dX4_does_85 ?_
    refine x_getQ (pc := 86) fi_X4_11 dX4_does_86 ?_
    intro v16
    refine x_iload_n (pc := 89) 2 rfl rfl dX4_does_89 ?_
    refine x_nn (fun a17 e18 => ?_)
    subst e18
    refine x_aald (pc := 90) dX4_does_90 ?_
    intro v19
    refine x_iload_n (pc := 91) 3 rfl rfl dX4_does_91 ?_
    refine x_iload_n (pc := 92) 3 rfl rfl dX4_does_92 ?_
    refine x_iload (pc := 93) 4 rfl dX4_does_93 ?_
    refine x_iadd (pc := 95) dX4_does_95 ?_
    refine x_nn (fun a20 e21 => ?_)
    subst e21
    refine x_callV (pc := 96) (As := [.int x3, .int (x3 + x4)]) (rest := []) (lev' := 22) si_X4_93 (m_R_flip h a20 x3 (x3 + x4)) (fun z e => grd1 e) rfl rfl (by decide) (cat4 (Nat.le_of_ble_eq_true rfl)) dX4_does_96 (kV (fun h22 => ?_)) xNo
    refine x_goto (pc := 99) 186 (by decide) dX4_does_99 ?_
    exact x_vret (pc := 186) dX4_does_186
  refine x_sw (pc := 1) (v := 4) 102 dX4_does_1 rfl (by decide) (by decide) rfl (by decide) ?_ ?_
  · refine x_aload_nR (pc := 102) (a := this) 0 rfl rfl dX4_does_102 ?_
    refine x_iload (pc := 103) 4 rfl dX4_does_103 ?_
    refine x_iconst (pc := 105) (v := 0) (by decide) dX4_does_105 ?_
    refine x_iload_n (pc := 106) 2 rfl rfl dX4_does_106 ?_
    refine x_callV (pc := 107) (As := [.int x4, .int (0 : Int32), .int x2]) (rest := []) (lev' := 18) si_X4_96 (m_S_moves h this x4 (0 : Int32) x2) (fun z e => grd1 e) rfl rfl (by decide) (cat4 (Nat.le_of_ble_eq_true rfl)) dX4_does_107 (kV (fun h23 => ?_)) xNo
    refine x_aload_nR (pc := 110) (a := this) 0 rfl rfl dX4_does_110 ?_
    refine x_getQ (pc := 111) fi_X4_11 dX4_does_111 ?_
    intro v24
    refine x_iload (pc := 114) 4 rfl dX4_does_114 ?_
    refine x_nn (fun a25 e26 => ?_)
    subst e26
    refine x_aald (pc := 116) dX4_does_116 ?_
    intro v27
    refine x_nn (fun a28 e29 => ?_)
    subst e29
    refine x_callV (pc := 117) (As := []) (rest := []) (lev' := 1) si_X4_36 (m_R_clear h23 a28) (fun z e => grd1 e) rfl rfl (by decide) (cat4 (Nat.le_of_ble_eq_true rfl)) dX4_does_117 (kV (fun h30 => ?_)) xNo
    refine x_goto (pc := 120) 186 (by decide) dX4_does_120 ?_
    exact x_vret (pc := 186) dX4_does_186
  refine x_sw (pc := 1) (v := 5) 123 dX4_does_1 rfl (by decide) (by decide) rfl (by decide) ?_ ?_
  · refine x_aload_nR (pc := 123) (a := this) 0 rfl rfl dX4_does_123 ?_
    refine x_getQ (pc := 124) fi_X4_11 dX4_does_124 ?_
    intro v31
    refine x_iload_n (pc := 127) 2 rfl rfl dX4_does_127 ?_
    refine x_nn (fun a32 e33 => ?_)
    subst e33
    refine x_aald (pc := 128) dX4_does_128 ?_
    intro v34
    refine x_nn (fun a35 e36 => ?_)
    subst e36
    refine x_callV (pc := 129) (As := []) (rest := []) (lev' := 1) si_X4_49 (m_R_wide h a35) (fun z e => grd1 e) rfl rfl (by decide) (cat4 (Nat.le_of_ble_eq_true rfl)) dX4_does_129 (kI (fun v38 h37 => ?_)) xNo
    refine x_iload_n (pc := 132) 3 rfl rfl dX4_does_132 ?_
    refine x_isub (pc := 133) dX4_does_133 ?_
    refine x_nmI (fun y39 => ?_)
    refine x_istore (pc := 134) (lv' := [(5, .int y39), (0, .ref this), (1, .int x1), (2, .int x2), (3, .int x3), (4, .int x4)]) (by decide) rfl dX4_does_134 ?_
    refine x_aload_nR (pc := 136) (a := this) 1 rfl rfl dX4_does_136 ?_
    refine x_iload_n (pc := 137) 3 rfl rfl dX4_does_137 ?_
    refine x_iload_n (pc := 138) 4 rfl rfl dX4_does_138 ?_
    refine x_iload (pc := 139) 5 rfl dX4_does_139 ?_
    refine x_callV (pc := 141) (As := [.int x2, .int x3, .int x4]) (rest := []) (lev' := 18) si_X4_96 (m_S_moves h37 this x2 x3 x4) (fun z e => grd1 e) rfl rfl (by decide) (cat4 (Nat.le_of_ble_eq_true rfl)) dX4_does_141 (kV (fun h40 => ?_)) xNo
    refine x_aload_nR (pc := 144) (a := this) 1 rfl rfl dX4_does_144 ?_
    refine x_iload_n (pc := 145) 3 rfl rfl dX4_does_145 ?_
    refine x_iload_n (pc := 146) 4 rfl rfl dX4_does_146 ?_
    refine x_iload (pc := 147) 0 rfl dX4_does_147 ?_
    refine x_callV (pc := 149) (As := [.int x2, .int x3, .int y39]) (rest := []) (lev' := 18) si_X4_89 (m_S_cuts h40 this x2 x3 y39) (fun z e => grd1 e) rfl rfl (by decide) (cat4 (Nat.le_of_ble_eq_true rfl)) dX4_does_149 (kV (fun h41 => ?_)) xNo
    refine x_goto (pc := 152) 186 (by decide) dX4_does_152 ?_
    exact x_vret (pc := 186) dX4_does_186
  refine x_sw (pc := 1) (v := 6) 155 dX4_does_1 rfl (by decide) (by decide) rfl (by decide) ?_ ?_
  · refine x_aload_nR (pc := 155) (a := this) 0 rfl rfl dX4_does_155 ?_
    refine x_iload_n (pc := 156) 3 rfl rfl dX4_does_156 ?_
    refine x_iload (pc := 157) 4 rfl dX4_does_157 ?_
    refine x_callV (pc := 159) (As := [.int x3, .int x4]) (rest := []) (lev' := 18) si_X4_99 (m_S_types h this x3 x4) (fun z e => grd1 e) rfl rfl (by decide) (cat4 (Nat.le_of_ble_eq_true rfl)) dX4_does_159 (kV (fun h42 => ?_)) xNo
    refine x_goto (pc := 162) 186 (by decide) dX4_does_162 ?_
    exact x_vret (pc := 186) dX4_does_186
  refine x_swD (pc := 1) 165 dX4_does_1 (by decide) (by decide) ?_
  refine x_iconst (pc := 165) (v := 0) (by decide) dX4_does_165 ?_
  refine x_istore (pc := 166) (lv' := [(5, .int (0 : Int32)), (0, .ref this), (1, .int x1), (2, .int x2), (3, .int x3), (4, .int x4)]) (by decide) rfl dX4_does_166 ?_
  refine Sim.lv [1, 4, 5, 0] rfl ?_
  exact v_S_does_l168 FU h this x3 x4 (0 : Int32)
abbrev Y_S_letterAt : Yx := (RX4, cX4_letterAt, 6, 5, (some .int), [], false)
def c_S_letterAt_l7 (r7 : PH → Nat → Int32 → Int32 → Int32 → Option RH) (h : PH) (this : Nat) (x2 : Int32) (x3 : Int32) (x4 : Int32) : Option RH :=
  if (7 : Int32) ≤ x2 then
    rI x4 h
  else
    gQ h this [3] 1 fun v1 =>
    nn v1 fun a2 =>
    ldQ h a2 x2 fun v4 =>
    nn v4 fun a5 =>
    hI (c_R_get h a5 x3) noX fun v8 h7 =>
    gQ h7 this [3] 1 fun v9 =>
    nn v9 fun a10 =>
    ldQ h7 a10 x2 fun v12 =>
    nn v12 fun a13 =>
    hI (c_R_before h7 a13 x3 v8) noX fun v16 h15 =>
    nm (((2 : Int32) * x4) + v8) fun y17 =>
    nm ((((2 : Int32) * x2) + (1 : Int32)) + v8) fun y18 =>
    r7 h15 this y18 v16 y17
def c_S_letterAt (h : PH) (this : Nat) (x1 : Int32) : Option RH :=
  grd h this [3] (
  itr (c_S_letterAt_l7) (fun _ _ _ _ _ => none) FU h this (0 : Int32) x1 (0 : Int32))
set_option maxHeartbeats 4000000 in
theorem w_S_letterAt_l7 (r7 : PH → Nat → Int32 → Int32 → Int32 → Option RH) (hr7 : ∀ (h : PH) (this : Nat) (x2 : Int32) (x3 : Int32) (x4 : Int32), Sim Y_S_letterAt h 7 [(0, .ref this), (2, .int x2), (3, .int x3), (4, .int x4)] [] (r7 h this x2 x3 x4)) (h : PH) (this : Nat) (x2 : Int32) (x3 : Int32) (x4 : Int32) : Sim Y_S_letterAt h 7 [(0, .ref this), (2, .int x2), (3, .int x3), (4, .int x4)] [] (c_S_letterAt_l7 r7 h this x2 x3 x4) := by
  unfold c_S_letterAt_l7
  refine x_iload_n (pc := 7) 1 rfl rfl dX4_letterAt_7 ?_
  refine x_bipush (pc := 8) (v := 7) (by decide) dX4_letterAt_8 ?_
  refine x_icmp_ge (pc := 10) 59 (by decide) dX4_letterAt_10 ?_ ?_
  · refine x_iload (pc := 59) 3 rfl dX4_letterAt_59 ?_
    exact x_iret (pc := 61) dX4_letterAt_61
  · refine x_aload_nR (pc := 13) (a := this) 0 rfl rfl dX4_letterAt_13 ?_
    refine x_getQ (pc := 14) fi_X4_17 dX4_letterAt_14 ?_
    intro v1
    refine x_iload_n (pc := 17) 1 rfl rfl dX4_letterAt_17 ?_
    refine x_nn (fun a2 e3 => ?_)
    subst e3
    refine x_aald (pc := 18) dX4_letterAt_18 ?_
    intro v4
    refine x_iload_n (pc := 19) 2 rfl rfl dX4_letterAt_19 ?_
    refine x_nn (fun a5 e6 => ?_)
    subst e6
    refine x_callV (pc := 20) (As := [.int x3]) (rest := []) (lev' := 3) si_X4_53 (m_R_get h a5 x3) (fun z e => grd1 e) rfl rfl (by decide) (cat4 (Nat.le_of_ble_eq_true rfl)) dX4_letterAt_20 (kI (fun v8 h7 => ?_)) xNo
    refine x_istore (pc := 23) (lv' := [(5, .int v8), (0, .ref this), (2, .int x2), (3, .int x3), (4, .int x4)]) (by decide) rfl dX4_letterAt_23 ?_
    refine x_aload_nR (pc := 25) (a := this) 1 rfl rfl dX4_letterAt_25 ?_
    refine x_getQ (pc := 26) fi_X4_17 dX4_letterAt_26 ?_
    intro v9
    refine x_iload_n (pc := 29) 2 rfl rfl dX4_letterAt_29 ?_
    refine x_nn (fun a10 e11 => ?_)
    subst e11
    refine x_aald (pc := 30) dX4_letterAt_30 ?_
    intro v12
    refine x_iload_n (pc := 31) 3 rfl rfl dX4_letterAt_31 ?_
    refine x_iload (pc := 32) 0 rfl dX4_letterAt_32 ?_
    refine x_nn (fun a13 e14 => ?_)
    subst e14
    refine x_callV (pc := 34) (As := [.int x3, .int v8]) (rest := []) (lev' := 4) si_X4_57 (m_R_before h7 a13 x3 v8) (fun z e => grd1 e) rfl rfl (by decide) (cat4 (Nat.le_of_ble_eq_true rfl)) dX4_letterAt_34 (kI (fun v16 h15 => ?_)) xNo
    refine x_istore_n (pc := 37) (lv' := [(3, .int v16), (5, .int v8), (0, .ref this), (2, .int x2), (4, .int x4)]) rfl (by decide) rfl dX4_letterAt_37 ?_
    refine x_iconst (pc := 38) (v := 2) (by decide) dX4_letterAt_38 ?_
    refine x_iload (pc := 39) 4 rfl dX4_letterAt_39 ?_
    refine x_imul (pc := 41) dX4_letterAt_41 ?_
    refine x_iload (pc := 42) 1 rfl dX4_letterAt_42 ?_
    refine x_iadd (pc := 44) dX4_letterAt_44 ?_
    refine x_nmI (fun y17 => ?_)
    refine x_istore (pc := 45) (lv' := [(4, .int y17), (3, .int v16), (5, .int v8), (0, .ref this), (2, .int x2)]) (by decide) rfl dX4_letterAt_45 ?_
    refine x_iconst (pc := 47) (v := 2) (by decide) dX4_letterAt_47 ?_
    refine x_iload_n (pc := 48) 4 rfl rfl dX4_letterAt_48 ?_
    refine x_imul (pc := 49) dX4_letterAt_49 ?_
    refine x_iconst (pc := 50) (v := 1) (by decide) dX4_letterAt_50 ?_
    refine x_iadd (pc := 51) dX4_letterAt_51 ?_
    refine x_iload (pc := 52) 2 rfl dX4_letterAt_52 ?_
    refine x_iadd (pc := 54) dX4_letterAt_54 ?_
    refine x_nmI (fun y18 => ?_)
    refine x_istore_n (pc := 55) (lv' := [(2, .int y18), (4, .int y17), (3, .int v16), (5, .int v8), (0, .ref this)]) rfl (by decide) rfl dX4_letterAt_55 ?_
    refine x_goto (pc := 56) 7 (by decide) dX4_letterAt_56 ?_
    refine Sim.lv [4, 0, 2, 1] rfl ?_
    exact hr7 h15 this y18 v16 y17
set_option maxHeartbeats 4000000 in
theorem v_S_letterAt_l7 : ∀ (n : Nat) (h : PH) (this : Nat) (x2 : Int32) (x3 : Int32) (x4 : Int32), Sim Y_S_letterAt h 7 [(0, .ref this), (2, .int x2), (3, .int x3), (4, .int x4)] [] (itr (c_S_letterAt_l7) (fun _ _ _ _ _ => none) n h this x2 x3 x4)
  | 0, h, this, x2, x3, x4 => Sim.none
  | n + 1, h, this, x2, x3, x4 => w_S_letterAt_l7 _ (v_S_letterAt_l7 n) h this x2 x3 x4
set_option maxHeartbeats 4000000 in
theorem m_S_letterAt (h : PH) (this : Nat) (x1 : Int32) : MM yX4_letterAt (ws_ yX4_letterAt cX4_letterAt 6 (some .int)) 5 [.ref this, .int x1] h (c_S_letterAt h this x1) := by
  refine MM.of (by decide) rfl (by decide) (Nat.le_of_ble_eq_true rfl) (own := RX4) (cc := cX4_letterAt) (maxL := 6) (lev := 5) (rt := (some .int)) (ini := false) ?_
  show Sim Y_S_letterAt h 0 [(0, .ref this), (1, .int x1)] [] _
  unfold c_S_letterAt
  refine x_grd ?_
  refine x_iconst (pc := 0) (v := 0) (by decide) dX4_letterAt_0 ?_
  refine x_istore_n (pc := 1) (lv' := [(2, .int (0 : Int32)), (0, .ref this), (1, .int x1)]) rfl (by decide) rfl dX4_letterAt_1 ?_
  refine x_iload_n (pc := 2) 2 rfl rfl dX4_letterAt_2 ?_
  refine x_istore_n (pc := 3) (lv' := [(3, .int x1), (2, .int (0 : Int32)), (0, .ref this), (1, .int x1)]) rfl (by decide) rfl dX4_letterAt_3 ?_
  refine x_iconst (pc := 4) (v := 0) (by decide) dX4_letterAt_4 ?_
  refine x_istore (pc := 5) (lv' := [(4, .int (0 : Int32)), (3, .int x1), (2, .int (0 : Int32)), (0, .ref this), (1, .int x1)]) (by decide) rfl dX4_letterAt_5 ?_
  refine Sim.lv [3, 2, 1, 0] rfl ?_
  exact v_S_letterAt_l7 FU h this (0 : Int32) x1 (0 : Int32)
abbrev Y_S_ahead : Yx := (RX4, cX4_ahead, 7, 5, (some .int), [], false)
def c_S_ahead_l8 (r8 : PH → Nat → Int32 → Int32 → Int32 → Int32 → Option RH) (h : PH) (this : Nat) (x1 : Int32) (x3 : Int32) (x4 : Int32) (x5 : Int32) : Option RH :=
  if x5 < 0 then
    rI x4 h
  else
    nm ((x1 >>> (x5 &&& 31)) &&& (1 : Int32)) fun y1 =>
    gQ h this [3] 1 fun v2 =>
    nn v2 fun a3 =>
    ldQ h a3 x3 fun v5 =>
    nn v5 fun a6 =>
    hI (c_R_before h a6 x4 y1) noX fun v9 h8 =>
    nm ((((2 : Int32) * x3) + (1 : Int32)) + y1) fun y10 =>
    r8 h8 this x1 y10 v9 (x5 + (-1 : Int32))
def c_S_ahead (h : PH) (this : Nat) (x1 : Int32) (x2 : Int32) : Option RH :=
  grd h this [3] (
  itr (c_S_ahead_l8) (fun _ _ _ _ _ _ => none) FU h this x1 (0 : Int32) x2 (2 : Int32))
set_option maxHeartbeats 4000000 in
theorem w_S_ahead_l8 (r8 : PH → Nat → Int32 → Int32 → Int32 → Int32 → Option RH) (hr8 : ∀ (h : PH) (this : Nat) (x1 : Int32) (x3 : Int32) (x4 : Int32) (x5 : Int32), Sim Y_S_ahead h 8 [(0, .ref this), (1, .int x1), (3, .int x3), (4, .int x4), (5, .int x5)] [] (r8 h this x1 x3 x4 x5)) (h : PH) (this : Nat) (x1 : Int32) (x3 : Int32) (x4 : Int32) (x5 : Int32) : Sim Y_S_ahead h 8 [(0, .ref this), (1, .int x1), (3, .int x3), (4, .int x4), (5, .int x5)] [] (c_S_ahead_l8 r8 h this x1 x3 x4 x5) := by
  unfold c_S_ahead_l8
  refine x_iload (pc := 8) 4 rfl dX4_ahead_8 ?_
  refine x_if_lt (pc := 10) 51 (by decide) dX4_ahead_10 ?_ ?_
  · refine x_iload (pc := 51) 3 rfl dX4_ahead_51 ?_
    exact x_iret (pc := 53) dX4_ahead_53
  · refine x_iload_n (pc := 13) 1 rfl rfl dX4_ahead_13 ?_
    refine x_iload (pc := 14) 4 rfl dX4_ahead_14 ?_
    refine x_ishr (pc := 16) dX4_ahead_16 ?_
    refine x_iconst (pc := 17) (v := 1) (by decide) dX4_ahead_17 ?_
    refine x_iand (pc := 18) dX4_ahead_18 ?_
    refine x_nmI (fun y1 => ?_)
    refine x_istore (pc := 19) (lv' := [(6, .int y1), (0, .ref this), (1, .int x1), (3, .int x3), (4, .int x4), (5, .int x5)]) (by decide) rfl dX4_ahead_19 ?_
    refine x_aload_nR (pc := 21) (a := this) 1 rfl rfl dX4_ahead_21 ?_
    refine x_getQ (pc := 22) fi_X4_17 dX4_ahead_22 ?_
    intro v2
    refine x_iload_n (pc := 25) 3 rfl rfl dX4_ahead_25 ?_
    refine x_nn (fun a3 e4 => ?_)
    subst e4
    refine x_aald (pc := 26) dX4_ahead_26 ?_
    intro v5
    refine x_iload (pc := 27) 4 rfl dX4_ahead_27 ?_
    refine x_iload (pc := 29) 0 rfl dX4_ahead_29 ?_
    refine x_nn (fun a6 e7 => ?_)
    subst e7
    refine x_callV (pc := 31) (As := [.int x4, .int y1]) (rest := []) (lev' := 4) si_X4_57 (m_R_before h a6 x4 y1) (fun z e => grd1 e) rfl rfl (by decide) (cat4 (Nat.le_of_ble_eq_true rfl)) dX4_ahead_31 (kI (fun v9 h8 => ?_)) xNo
    refine x_istore (pc := 34) (lv' := [(4, .int v9), (6, .int y1), (0, .ref this), (1, .int x1), (3, .int x3), (5, .int x5)]) (by decide) rfl dX4_ahead_34 ?_
    refine x_iconst (pc := 36) (v := 2) (by decide) dX4_ahead_36 ?_
    refine x_iload_n (pc := 37) 4 rfl rfl dX4_ahead_37 ?_
    refine x_imul (pc := 38) dX4_ahead_38 ?_
    refine x_iconst (pc := 39) (v := 1) (by decide) dX4_ahead_39 ?_
    refine x_iadd (pc := 40) dX4_ahead_40 ?_
    refine x_iload (pc := 41) 1 rfl dX4_ahead_41 ?_
    refine x_iadd (pc := 43) dX4_ahead_43 ?_
    refine x_nmI (fun y10 => ?_)
    refine x_istore_n (pc := 44) (lv' := [(3, .int y10), (4, .int v9), (6, .int y1), (0, .ref this), (1, .int x1), (5, .int x5)]) rfl (by decide) rfl dX4_ahead_44 ?_
    refine x_iinc (pc := 45) (v := (-1 : Int32)) (lv' := [(5, .int (x5 + (-1 : Int32))), (3, .int y10), (4, .int v9), (6, .int y1), (0, .ref this), (1, .int x1)]) 5 rfl (by decide) (by decide) rfl dX4_ahead_45 ?_
    refine x_goto (pc := 48) 8 (by decide) dX4_ahead_48 ?_
    refine Sim.lv [4, 5, 1, 2, 0] rfl ?_
    exact hr8 h8 this x1 y10 v9 (x5 + (-1 : Int32))
set_option maxHeartbeats 4000000 in
theorem v_S_ahead_l8 : ∀ (n : Nat) (h : PH) (this : Nat) (x1 : Int32) (x3 : Int32) (x4 : Int32) (x5 : Int32), Sim Y_S_ahead h 8 [(0, .ref this), (1, .int x1), (3, .int x3), (4, .int x4), (5, .int x5)] [] (itr (c_S_ahead_l8) (fun _ _ _ _ _ _ => none) n h this x1 x3 x4 x5)
  | 0, h, this, x1, x3, x4, x5 => Sim.none
  | n + 1, h, this, x1, x3, x4, x5 => w_S_ahead_l8 _ (v_S_ahead_l8 n) h this x1 x3 x4 x5
set_option maxHeartbeats 4000000 in
theorem m_S_ahead (h : PH) (this : Nat) (x1 : Int32) (x2 : Int32) : MM yX4_ahead (ws_ yX4_ahead cX4_ahead 7 (some .int)) 5 [.ref this, .int x1, .int x2] h (c_S_ahead h this x1 x2) := by
  refine MM.of (by decide) rfl (by decide) (Nat.le_of_ble_eq_true rfl) (own := RX4) (cc := cX4_ahead) (maxL := 7) (lev := 5) (rt := (some .int)) (ini := false) ?_
  show Sim Y_S_ahead h 0 [(0, .ref this), (1, .int x1), (2, .int x2)] [] _
  unfold c_S_ahead
  refine x_grd ?_
  refine x_iconst (pc := 0) (v := 0) (by decide) dX4_ahead_0 ?_
  refine x_istore_n (pc := 1) (lv' := [(3, .int (0 : Int32)), (0, .ref this), (1, .int x1), (2, .int x2)]) rfl (by decide) rfl dX4_ahead_1 ?_
  refine x_iload_n (pc := 2) 3 rfl rfl dX4_ahead_2 ?_
  refine x_istore (pc := 3) (lv' := [(4, .int x2), (3, .int (0 : Int32)), (0, .ref this), (1, .int x1), (2, .int x2)]) (by decide) rfl dX4_ahead_3 ?_
  refine x_iconst (pc := 5) (v := 2) (by decide) dX4_ahead_5 ?_
  refine x_istore (pc := 6) (lv' := [(5, .int (2 : Int32)), (4, .int x2), (3, .int (0 : Int32)), (0, .ref this), (1, .int x1), (2, .int x2)]) (by decide) rfl dX4_ahead_6 ?_
  refine Sim.lv [3, 4, 2, 1, 0] rfl ?_
  exact v_S_ahead_l8 FU h this x1 (0 : Int32) x2 (2 : Int32)
theorem si_X4_71 : SiV RX4 71 4 yX5_where cX5_where 9 (some .int) 2 := ⟨_, _, _, ci_4.1, by decide, lw_V q1265 q993 q994 q116 q995, ⟨rfl, by decide, by decide, by decide +kernel⟩, by decide⟩
theorem si_X4_67 : SiV RX4 67 4 yX5_ready cX5_ready 1 (some (.object "BitRopes$Rope")) 0 := ⟨_, _, _, ci_4.1, by decide, lw_V q1264 q911 q912 q116 q913, ⟨rfl, by decide, by decide, by decide +kernel⟩, by decide⟩
theorem si_X4_64 : SiV RX4 64 3 yX4_ahead cX4_ahead 7 (some .int) 2 := ⟨_, _, _, ci_3.1, by decide, lw_V q1263 q1252 q1253 q115 q1254, ⟨rfl, by decide, by decide, by decide +kernel⟩, by decide⟩
abbrev Y_S_placeOf : Yx := (RX4, cX4_placeOf, 7, 114, (some .int), [], false)
def c_S_placeOf_l61 (r61 : PH → Nat → Int32 → Int32 → Int32 → Option RH) (h : PH) (this : Nat) (x1 : Int32) (x3 : Int32) (x4 : Int32) : Option RH :=
  if (3 : Int32) ≤ x4 then
    rI x3 h
  else
    gQ h this [3] 1 fun v1 =>
    nn v1 fun a2 =>
    ldQ h a2 ((((1 : Int32) <<< (((2 : Int32) - x4) &&& 31)) - (1 : Int32)) + (x1 >>> ((x4 + (1 : Int32)) &&& 31))) fun v4 =>
    nn v4 fun a5 =>
    hI (c_R_where h a5 x3 ((x1 >>> (x4 &&& 31)) &&& (1 : Int32))) noX fun v8 h7 =>
    r61 h7 this x1 v8 (x4 + (1 : Int32))
def c_S_placeOf_l31 (r31 : PH → Nat → Int32 → Int32 → Option Nat → Int32 → Int32 → Option RH) (h : PH) (this : Nat) (x1 : Int32) (x2 : Int32) (x3 : Option Nat) (x4 : Int32) (x5 : Int32) : Option RH :=
  if x4 ≤ x5 then
    itr (c_S_placeOf_l61) (fun _ _ _ _ _ => none) FU h this x1 x2 (0 : Int32)
  else
    nn x3 fun a1 =>
    ldQ h a1 x5 fun v3 =>
    nn v3 fun a4 =>
    hQ (c_R_ready h a4) noX fun v7 h6 =>
    r31 h6 this x1 x2 (some a1) x4 (x5 + (1 : Int32))
def c_S_placeOf (h : PH) (this : Nat) (x1 : Int32) (x2 : Int32) : Option RH :=
  grd h this [3] (
  if x2 < 0 then
    rI (-1 : Int32) h
  else
    hI (c_S_typed h this) noX fun v2 h1 =>
    hI (c_S_ahead h1 this x1 v2) noX fun v4 h3 =>
    if x2 < v4 then
      gQ h3 this [3] 1 fun v5 =>
      nn v5 fun a6 =>
      alen h3 a6 fun v8 =>
      itr (c_S_placeOf_l31) (fun _ _ _ _ _ _ _ => none) FU h3 this x1 x2 (some a6) v8 (0 : Int32)
    else
      rI (-1 : Int32) h3)
set_option maxHeartbeats 4000000 in
theorem w_S_placeOf_l61 (r61 : PH → Nat → Int32 → Int32 → Int32 → Option RH) (hr61 : ∀ (h : PH) (this : Nat) (x1 : Int32) (x3 : Int32) (x4 : Int32), Sim Y_S_placeOf h 61 [(0, .ref this), (1, .int x1), (3, .int x3), (4, .int x4)] [] (r61 h this x1 x3 x4)) (h : PH) (this : Nat) (x1 : Int32) (x3 : Int32) (x4 : Int32) : Sim Y_S_placeOf h 61 [(0, .ref this), (1, .int x1), (3, .int x3), (4, .int x4)] [] (c_S_placeOf_l61 r61 h this x1 x3 x4) := by
  unfold c_S_placeOf_l61
  refine x_iload (pc := 61) 3 rfl dX4_placeOf_61 ?_
  refine x_iconst (pc := 63) (v := 3) (by decide) dX4_placeOf_63 ?_
  refine x_icmp_ge (pc := 64) 104 (by decide) dX4_placeOf_64 ?_ ?_
  · refine x_iload_n (pc := 104) 2 rfl rfl dX4_placeOf_104 ?_
    exact x_iret (pc := 105) dX4_placeOf_105
  · refine x_aload_nR (pc := 67) (a := this) 0 rfl rfl dX4_placeOf_67 ?_
    refine x_getQ (pc := 68) fi_X4_17 dX4_placeOf_68 ?_
    intro v1
    refine x_iconst (pc := 71) (v := 1) (by decide) dX4_placeOf_71 ?_
    refine x_iconst (pc := 72) (v := 2) (by decide) dX4_placeOf_72 ?_
    refine x_iload (pc := 73) 3 rfl dX4_placeOf_73 ?_
    refine x_isub (pc := 75) dX4_placeOf_75 ?_
    refine x_ishl (pc := 76) dX4_placeOf_76 ?_
    refine x_iconst (pc := 77) (v := 1) (by decide) dX4_placeOf_77 ?_
    refine x_isub (pc := 78) dX4_placeOf_78 ?_
    refine x_iload_n (pc := 79) 1 rfl rfl dX4_placeOf_79 ?_
    refine x_iload (pc := 80) 3 rfl dX4_placeOf_80 ?_
    refine x_iconst (pc := 82) (v := 1) (by decide) dX4_placeOf_82 ?_
    refine x_iadd (pc := 83) dX4_placeOf_83 ?_
    refine x_ishr (pc := 84) dX4_placeOf_84 ?_
    refine x_iadd (pc := 85) dX4_placeOf_85 ?_
    refine x_nn (fun a2 e3 => ?_)
    subst e3
    refine x_aald (pc := 86) dX4_placeOf_86 ?_
    intro v4
    refine x_iload_n (pc := 87) 2 rfl rfl dX4_placeOf_87 ?_
    refine x_iload_n (pc := 88) 1 rfl rfl dX4_placeOf_88 ?_
    refine x_iload (pc := 89) 3 rfl dX4_placeOf_89 ?_
    refine x_ishr (pc := 91) dX4_placeOf_91 ?_
    refine x_iconst (pc := 92) (v := 1) (by decide) dX4_placeOf_92 ?_
    refine x_iand (pc := 93) dX4_placeOf_93 ?_
    refine x_nn (fun a5 e6 => ?_)
    subst e6
    refine x_callV (pc := 94) (As := [.int x3, .int ((x1 >>> (x4 &&& 31)) &&& (1 : Int32))]) (rest := []) (lev' := 3) si_X4_71 (m_R_where h a5 x3 ((x1 >>> (x4 &&& 31)) &&& (1 : Int32))) (fun z e => grd1 e) rfl rfl (by decide) (cat4 (Nat.le_of_ble_eq_true rfl)) dX4_placeOf_94 (kI (fun v8 h7 => ?_)) xNo
    refine x_istore_n (pc := 97) (lv' := [(3, .int v8), (0, .ref this), (1, .int x1), (4, .int x4)]) rfl (by decide) rfl dX4_placeOf_97 ?_
    refine x_iinc (pc := 98) (v := (1 : Int32)) (lv' := [(4, .int (x4 + (1 : Int32))), (3, .int v8), (0, .ref this), (1, .int x1)]) 3 rfl (by decide) (by decide) rfl dX4_placeOf_98 ?_
    refine x_goto (pc := 101) 61 (by decide) dX4_placeOf_101 ?_
    refine Sim.lv [2, 3, 1, 0] rfl ?_
    exact hr61 h7 this x1 v8 (x4 + (1 : Int32))
set_option maxHeartbeats 4000000 in
theorem v_S_placeOf_l61 : ∀ (n : Nat) (h : PH) (this : Nat) (x1 : Int32) (x3 : Int32) (x4 : Int32), Sim Y_S_placeOf h 61 [(0, .ref this), (1, .int x1), (3, .int x3), (4, .int x4)] [] (itr (c_S_placeOf_l61) (fun _ _ _ _ _ => none) n h this x1 x3 x4)
  | 0, h, this, x1, x3, x4 => Sim.none
  | n + 1, h, this, x1, x3, x4 => w_S_placeOf_l61 _ (v_S_placeOf_l61 n) h this x1 x3 x4
set_option maxHeartbeats 4000000 in
theorem w_S_placeOf_l31 (r31 : PH → Nat → Int32 → Int32 → Option Nat → Int32 → Int32 → Option RH) (hr31 : ∀ (h : PH) (this : Nat) (x1 : Int32) (x2 : Int32) (x3 : Option Nat) (x4 : Int32) (x5 : Int32), Sim Y_S_placeOf h 31 [(0, .ref this), (1, .int x1), (2, .int x2), (3, va_rf x3), (4, .int x4), (5, .int x5)] [] (r31 h this x1 x2 x3 x4 x5)) (h : PH) (this : Nat) (x1 : Int32) (x2 : Int32) (x3 : Option Nat) (x4 : Int32) (x5 : Int32) : Sim Y_S_placeOf h 31 [(0, .ref this), (1, .int x1), (2, .int x2), (3, va_rf x3), (4, .int x4), (5, .int x5)] [] (c_S_placeOf_l31 r31 h this x1 x2 x3 x4 x5) := by
  unfold c_S_placeOf_l31
  refine x_iload (pc := 31) 5 rfl dX4_placeOf_31 ?_
  refine x_iload (pc := 33) 4 rfl dX4_placeOf_33 ?_
  refine x_icmp_ge (pc := 35) 56 (by decide) dX4_placeOf_35 ?_ ?_
  · refine x_iload_n (pc := 56) 2 rfl rfl dX4_placeOf_56 ?_
    refine x_istore_n (pc := 57) (lv' := [(3, .int x2), (0, .ref this), (1, .int x1), (2, .int x2), (4, .int x4), (5, .int x5)]) rfl (by decide) rfl dX4_placeOf_57 ?_
    refine x_iconst (pc := 58) (v := 0) (by decide) dX4_placeOf_58 ?_
    refine x_istore (pc := 59) (lv' := [(4, .int (0 : Int32)), (3, .int x2), (0, .ref this), (1, .int x1), (2, .int x2), (5, .int x5)]) (by decide) rfl dX4_placeOf_59 ?_
    refine Sim.lv [2, 3, 1, 0] rfl ?_
    exact v_S_placeOf_l61 FU h this x1 x2 (0 : Int32)
  · refine x_aload_n (pc := 38) (r := x3) 3 rfl rfl dX4_placeOf_38 ?_
    refine x_iload (pc := 39) 5 rfl dX4_placeOf_39 ?_
    refine x_nn (fun a1 e2 => ?_)
    subst e2
    refine x_aald (pc := 41) dX4_placeOf_41 ?_
    intro v3
    refine x_astore (pc := 42) (r := v3) (lv' := [(6, va_rf v3), (0, .ref this), (1, .int x1), (2, .int x2), (3, .ref a1), (4, .int x4), (5, .int x5)]) (by decide) rfl dX4_placeOf_42 ?_
    refine x_aload (pc := 44) (r := v3) 0 rfl dX4_placeOf_44 ?_
    refine x_nn (fun a4 e5 => ?_)
    subst e5
    refine x_callV (pc := 46) (As := []) (rest := []) (lev' := 113) si_X4_67 (m_R_ready h a4) (fun z e => grd1 e) rfl rfl (by decide) (cat4 (Nat.le_of_ble_eq_true rfl)) dX4_placeOf_46 (kQ (fun v7 h6 => ?_)) xNo
    refine x_pop (pc := 49) (rf_cat v7) dX4_placeOf_49 ?_
    refine x_iinc (pc := 50) (v := (1 : Int32)) (lv' := [(5, .int (x5 + (1 : Int32))), (6, .ref a4), (0, .ref this), (1, .int x1), (2, .int x2), (3, .ref a1), (4, .int x4)]) 6 rfl (by decide) (by decide) rfl dX4_placeOf_50 ?_
    refine x_goto (pc := 53) 31 (by decide) dX4_placeOf_53 ?_
    refine Sim.lv [2, 3, 4, 5, 6, 0] rfl ?_
    exact hr31 h6 this x1 x2 (some a1) x4 (x5 + (1 : Int32))
set_option maxHeartbeats 4000000 in
theorem v_S_placeOf_l31 : ∀ (n : Nat) (h : PH) (this : Nat) (x1 : Int32) (x2 : Int32) (x3 : Option Nat) (x4 : Int32) (x5 : Int32), Sim Y_S_placeOf h 31 [(0, .ref this), (1, .int x1), (2, .int x2), (3, va_rf x3), (4, .int x4), (5, .int x5)] [] (itr (c_S_placeOf_l31) (fun _ _ _ _ _ _ _ => none) n h this x1 x2 x3 x4 x5)
  | 0, h, this, x1, x2, x3, x4, x5 => Sim.none
  | n + 1, h, this, x1, x2, x3, x4, x5 => w_S_placeOf_l31 _ (v_S_placeOf_l31 n) h this x1 x2 x3 x4 x5
set_option maxHeartbeats 4000000 in
theorem m_S_placeOf (h : PH) (this : Nat) (x1 : Int32) (x2 : Int32) : MM yX4_placeOf (ws_ yX4_placeOf cX4_placeOf 7 (some .int)) 114 [.ref this, .int x1, .int x2] h (c_S_placeOf h this x1 x2) := by
  refine MM.of (by decide) rfl (by decide) (Nat.le_of_ble_eq_true rfl) (own := RX4) (cc := cX4_placeOf) (maxL := 7) (lev := 114) (rt := (some .int)) (ini := false) ?_
  show Sim Y_S_placeOf h 0 [(0, .ref this), (1, .int x1), (2, .int x2)] [] _
  unfold c_S_placeOf
  refine x_grd ?_
  refine x_iload_n (pc := 0) 2 rfl rfl dX4_placeOf_0 ?_
  refine x_if_lt (pc := 1) 17 (by decide) dX4_placeOf_1 ?_ ?_
  · refine x_iconst (pc := 17) (v := (-1)) (by decide) dX4_placeOf_17 ?_
    exact x_iret (pc := 18) dX4_placeOf_18
  · refine x_iload_n (pc := 4) 2 rfl rfl dX4_placeOf_4 ?_
    refine x_aload_nR (pc := 5) (a := this) 0 rfl rfl dX4_placeOf_5 ?_
    refine x_iload_n (pc := 6) 1 rfl rfl dX4_placeOf_6 ?_
    refine x_aload_nR (pc := 7) (a := this) 0 rfl rfl dX4_placeOf_7 ?_
    refine x_callV (pc := 8) (As := []) (rest := [.int x1, .ref this, .int x2]) (lev' := 2) si_X4_61 (m_S_typed h this) (fun z e => grd1 e) rfl rfl (by decide) (cat4 (Nat.le_of_ble_eq_true rfl)) dX4_placeOf_8 (kI (fun v2 h1 => ?_)) xNo
    refine x_callV (pc := 11) (As := [.int x1, .int v2]) (rest := [.int x2]) (lev' := 5) si_X4_64 (m_S_ahead h1 this x1 v2) (fun z e => grd1 e) rfl rfl (by decide) (cat4 (Nat.le_of_ble_eq_true rfl)) dX4_placeOf_11 (kI (fun v4 h3 => ?_)) xNo
    refine x_icmp_lt (pc := 14) 19 (by decide) dX4_placeOf_14 ?_ ?_
    · refine x_aload_nR (pc := 19) (a := this) 0 rfl rfl dX4_placeOf_19 ?_
      refine x_getQ (pc := 20) fi_X4_17 dX4_placeOf_20 ?_
      intro v5
      refine x_astore_n (pc := 23) (r := v5) (lv' := [(3, va_rf v5), (0, .ref this), (1, .int x1), (2, .int x2)]) rfl (by decide) rfl dX4_placeOf_23 ?_
      refine x_aload_n (pc := 24) (r := v5) 0 rfl rfl dX4_placeOf_24 ?_
      refine x_nn (fun a6 e7 => ?_)
      subst e7
      refine x_alen (pc := 25) dX4_placeOf_25 ?_
      intro v8
      refine x_istore (pc := 26) (lv' := [(4, .int v8), (3, .ref a6), (0, .ref this), (1, .int x1), (2, .int x2)]) (by decide) rfl dX4_placeOf_26 ?_
      refine x_iconst (pc := 28) (v := 0) (by decide) dX4_placeOf_28 ?_
      refine x_istore (pc := 29) (lv' := [(5, .int (0 : Int32)), (4, .int v8), (3, .ref a6), (0, .ref this), (1, .int x1), (2, .int x2)]) (by decide) rfl dX4_placeOf_29 ?_
      refine Sim.lv [3, 4, 5, 2, 1, 0] rfl ?_
      exact v_S_placeOf_l31 FU h3 this x1 x2 (some a6) v8 (0 : Int32)
    · refine x_iconst (pc := 17) (v := (-1)) (by decide) dX4_placeOf_17 ?_
      exact x_iret (pc := 18) dX4_placeOf_18
abbrev Y_S_leastOf : Yx := (RX4, cX4_leastOf, 11, 5, (some .int), [], false)
def c_S_leastOf_j78 (r15 : PH → Nat → Int32 → Int32 → Int32 → Int32 → Int32 → Option RH) (h : PH) (this : Nat) (x4 : Int32) (x5 : Int32) (x6 : Int32) (x7 : Int32) (x8 : Int32) (x10 : Int32) : Option RH :=
  gQ h this [3] 1 fun v1 =>
  nn v1 fun a2 =>
  ldQ h a2 x4 fun v4 =>
  nn v4 fun a5 =>
  hI (c_R_before h a5 x5 x10) noX fun v8 h7 =>
  gQ h7 this [3] 1 fun v9 =>
  nn v9 fun a10 =>
  ldQ h7 a10 x4 fun v12 =>
  nn v12 fun a13 =>
  hI (c_R_before h7 a13 x6 x10) noX fun v16 h15 =>
  nm (((2 : Int32) * x8) + x10) fun y17 =>
  nm ((((2 : Int32) * x4) + (1 : Int32)) + x10) fun y18 =>
  r15 h15 this y18 v8 v16 x7 y17
def c_S_leastOf_j63 (r15 : PH → Nat → Int32 → Int32 → Int32 → Int32 → Int32 → Option RH) (h : PH) (this : Nat) (x4 : Int32) (x5 : Int32) (x6 : Int32) (x7 : Int32) (x8 : Int32) (x9 : Int32) (s0 : Int32) : Option RH :=
  if s0 = (1 : Int32) then
    nm (x7 - x9) fun y1 =>
    c_S_leastOf_j78 r15 h this x4 x5 x6 y1 x8 s0
  else
    c_S_leastOf_j78 r15 h this x4 x5 x6 x7 x8 s0
def c_S_leastOf_l15 (r15 : PH → Nat → Int32 → Int32 → Int32 → Int32 → Int32 → Option RH) (h : PH) (this : Nat) (x4 : Int32) (x5 : Int32) (x6 : Int32) (x7 : Int32) (x8 : Int32) : Option RH :=
  if (7 : Int32) ≤ x4 then
    rI x8 h
  else
    gQ h this [3] 1 fun v1 =>
    nn v1 fun a2 =>
    ldQ h a2 x4 fun v4 =>
    nn v4 fun a5 =>
    hI (c_R_before h a5 x6 (0 : Int32)) noX fun v8 h7 =>
    gQ h7 this [3] 1 fun v9 =>
    nn v9 fun a10 =>
    ldQ h7 a10 x4 fun v12 =>
    nn v12 fun a13 =>
    hI (c_R_before h7 a13 x5 (0 : Int32)) noX fun v16 h15 =>
    nm (v8 - v16) fun y17 =>
    if y17 ≤ x7 then
      c_S_leastOf_j63 r15 h15 this x4 x5 x6 x7 x8 y17 (1 : Int32)
    else
      c_S_leastOf_j63 r15 h15 this x4 x5 x6 x7 x8 y17 (0 : Int32)
def c_S_leastOf (h : PH) (this : Nat) (x1 : Int32) (x2 : Int32) (x3 : Int32) : Option RH :=
  grd h this [3] (
  itr (c_S_leastOf_l15) (fun _ _ _ _ _ _ _ => none) FU h this (0 : Int32) x1 x2 x3 (0 : Int32))
set_option maxHeartbeats 4000000 in
theorem w_S_leastOf_j78 (r15 : PH → Nat → Int32 → Int32 → Int32 → Int32 → Int32 → Option RH) (hr15 : ∀ (h : PH) (this : Nat) (x4 : Int32) (x5 : Int32) (x6 : Int32) (x7 : Int32) (x8 : Int32), Sim Y_S_leastOf h 15 [(0, .ref this), (4, .int x4), (5, .int x5), (6, .int x6), (7, .int x7), (8, .int x8)] [] (r15 h this x4 x5 x6 x7 x8)) (h : PH) (this : Nat) (x4 : Int32) (x5 : Int32) (x6 : Int32) (x7 : Int32) (x8 : Int32) (x10 : Int32) : Sim Y_S_leastOf h 78 [(0, .ref this), (4, .int x4), (5, .int x5), (6, .int x6), (7, .int x7), (8, .int x8), (10, .int x10)] [] (c_S_leastOf_j78 r15 h this x4 x5 x6 x7 x8 x10) := by
  unfold c_S_leastOf_j78
  refine x_aload_nR (pc := 78) (a := this) 0 rfl rfl dX4_leastOf_78 ?_
  refine x_getQ (pc := 79) fi_X4_17 dX4_leastOf_79 ?_
  intro v1
  refine x_iload (pc := 82) 1 rfl dX4_leastOf_82 ?_
  refine x_nn (fun a2 e3 => ?_)
  subst e3
  refine x_aald (pc := 84) dX4_leastOf_84 ?_
  intro v4
  refine x_iload (pc := 85) 2 rfl dX4_leastOf_85 ?_
  refine x_iload (pc := 87) 6 rfl dX4_leastOf_87 ?_
  refine x_nn (fun a5 e6 => ?_)
  subst e6
  refine x_callV (pc := 89) (As := [.int x5, .int x10]) (rest := []) (lev' := 4) si_X4_57 (m_R_before h a5 x5 x10) (fun z e => grd1 e) rfl rfl (by decide) (cat4 (Nat.le_of_ble_eq_true rfl)) dX4_leastOf_89 (kI (fun v8 h7 => ?_)) xNo
  refine x_istore (pc := 92) (lv' := [(5, .int v8), (0, .ref this), (4, .int x4), (6, .int x6), (7, .int x7), (8, .int x8), (10, .int x10)]) (by decide) rfl dX4_leastOf_92 ?_
  refine x_aload_nR (pc := 94) (a := this) 1 rfl rfl dX4_leastOf_94 ?_
  refine x_getQ (pc := 95) fi_X4_17 dX4_leastOf_95 ?_
  intro v9
  refine x_iload (pc := 98) 2 rfl dX4_leastOf_98 ?_
  refine x_nn (fun a10 e11 => ?_)
  subst e11
  refine x_aald (pc := 100) dX4_leastOf_100 ?_
  intro v12
  refine x_iload (pc := 101) 3 rfl dX4_leastOf_101 ?_
  refine x_iload (pc := 103) 6 rfl dX4_leastOf_103 ?_
  refine x_nn (fun a13 e14 => ?_)
  subst e14
  refine x_callV (pc := 105) (As := [.int x6, .int x10]) (rest := []) (lev' := 4) si_X4_57 (m_R_before h7 a13 x6 x10) (fun z e => grd1 e) rfl rfl (by decide) (cat4 (Nat.le_of_ble_eq_true rfl)) dX4_leastOf_105 (kI (fun v16 h15 => ?_)) xNo
  refine x_istore (pc := 108) (lv' := [(6, .int v16), (5, .int v8), (0, .ref this), (4, .int x4), (7, .int x7), (8, .int x8), (10, .int x10)]) (by decide) rfl dX4_leastOf_108 ?_
  refine x_iconst (pc := 110) (v := 2) (by decide) dX4_leastOf_110 ?_
  refine x_iload (pc := 111) 5 rfl dX4_leastOf_111 ?_
  refine x_imul (pc := 113) dX4_leastOf_113 ?_
  refine x_iload (pc := 114) 6 rfl dX4_leastOf_114 ?_
  refine x_iadd (pc := 116) dX4_leastOf_116 ?_
  refine x_nmI (fun y17 => ?_)
  refine x_istore (pc := 117) (lv' := [(8, .int y17), (6, .int v16), (5, .int v8), (0, .ref this), (4, .int x4), (7, .int x7), (10, .int x10)]) (by decide) rfl dX4_leastOf_117 ?_
  refine x_iconst (pc := 119) (v := 2) (by decide) dX4_leastOf_119 ?_
  refine x_iload (pc := 120) 4 rfl dX4_leastOf_120 ?_
  refine x_imul (pc := 122) dX4_leastOf_122 ?_
  refine x_iconst (pc := 123) (v := 1) (by decide) dX4_leastOf_123 ?_
  refine x_iadd (pc := 124) dX4_leastOf_124 ?_
  refine x_iload (pc := 125) 6 rfl dX4_leastOf_125 ?_
  refine x_iadd (pc := 127) dX4_leastOf_127 ?_
  refine x_nmI (fun y18 => ?_)
  refine x_istore (pc := 128) (lv' := [(4, .int y18), (8, .int y17), (6, .int v16), (5, .int v8), (0, .ref this), (7, .int x7), (10, .int x10)]) (by decide) rfl dX4_leastOf_128 ?_
  refine x_goto (pc := 130) 15 (by decide) dX4_leastOf_130 ?_
  refine Sim.lv [4, 0, 3, 2, 5, 1] rfl ?_
  exact hr15 h15 this y18 v8 v16 x7 y17
set_option maxHeartbeats 4000000 in
theorem w_S_leastOf_j63 (r15 : PH → Nat → Int32 → Int32 → Int32 → Int32 → Int32 → Option RH) (hr15 : ∀ (h : PH) (this : Nat) (x4 : Int32) (x5 : Int32) (x6 : Int32) (x7 : Int32) (x8 : Int32), Sim Y_S_leastOf h 15 [(0, .ref this), (4, .int x4), (5, .int x5), (6, .int x6), (7, .int x7), (8, .int x8)] [] (r15 h this x4 x5 x6 x7 x8)) (h : PH) (this : Nat) (x4 : Int32) (x5 : Int32) (x6 : Int32) (x7 : Int32) (x8 : Int32) (x9 : Int32) (s0 : Int32) : Sim Y_S_leastOf h 63 [(0, .ref this), (4, .int x4), (5, .int x5), (6, .int x6), (7, .int x7), (8, .int x8), (9, .int x9)] [.int s0] (c_S_leastOf_j63 r15 h this x4 x5 x6 x7 x8 x9 s0) := by
  unfold c_S_leastOf_j63
  refine x_istore (pc := 63) (lv' := [(10, .int s0), (0, .ref this), (4, .int x4), (5, .int x5), (6, .int x6), (7, .int x7), (8, .int x8), (9, .int x9)]) (by decide) rfl dX4_leastOf_63 ?_
  refine x_iload (pc := 65) 0 rfl dX4_leastOf_65 ?_
  refine x_iconst (pc := 67) (v := 1) (by decide) dX4_leastOf_67 ?_
  refine x_icmp_ne (pc := 68) 78 (by decide) dX4_leastOf_68 ?_ ?_
  · refine Sim.lv [1, 2, 3, 4, 5, 6, 0] rfl ?_
    exact w_S_leastOf_j78 r15 hr15 h this x4 x5 x6 x7 x8 s0
  · refine x_iload (pc := 71) 5 rfl dX4_leastOf_71 ?_
    refine x_iload (pc := 73) 7 rfl dX4_leastOf_73 ?_
    refine x_isub (pc := 75) dX4_leastOf_75 ?_
    refine x_nmI (fun y1 => ?_)
    refine x_istore (pc := 76) (lv' := [(7, .int y1), (10, .int s0), (0, .ref this), (4, .int x4), (5, .int x5), (6, .int x6), (8, .int x8), (9, .int x9)]) (by decide) rfl dX4_leastOf_76 ?_
    refine Sim.lv [2, 3, 4, 5, 0, 6, 1] rfl ?_
    exact w_S_leastOf_j78 r15 hr15 h this x4 x5 x6 y1 x8 s0
set_option maxHeartbeats 4000000 in
theorem w_S_leastOf_l15 (r15 : PH → Nat → Int32 → Int32 → Int32 → Int32 → Int32 → Option RH) (hr15 : ∀ (h : PH) (this : Nat) (x4 : Int32) (x5 : Int32) (x6 : Int32) (x7 : Int32) (x8 : Int32), Sim Y_S_leastOf h 15 [(0, .ref this), (4, .int x4), (5, .int x5), (6, .int x6), (7, .int x7), (8, .int x8)] [] (r15 h this x4 x5 x6 x7 x8)) (h : PH) (this : Nat) (x4 : Int32) (x5 : Int32) (x6 : Int32) (x7 : Int32) (x8 : Int32) : Sim Y_S_leastOf h 15 [(0, .ref this), (4, .int x4), (5, .int x5), (6, .int x6), (7, .int x7), (8, .int x8)] [] (c_S_leastOf_l15 r15 h this x4 x5 x6 x7 x8) := by
  unfold c_S_leastOf_l15
  refine x_iload (pc := 15) 1 rfl dX4_leastOf_15 ?_
  refine x_bipush (pc := 17) (v := 7) (by decide) dX4_leastOf_17 ?_
  refine x_icmp_ge (pc := 19) 133 (by decide) dX4_leastOf_19 ?_ ?_
  · refine x_iload (pc := 133) 5 rfl dX4_leastOf_133 ?_
    exact x_iret (pc := 135) dX4_leastOf_135
  · refine x_aload_nR (pc := 22) (a := this) 0 rfl rfl dX4_leastOf_22 ?_
    refine x_getQ (pc := 23) fi_X4_17 dX4_leastOf_23 ?_
    intro v1
    refine x_iload (pc := 26) 1 rfl dX4_leastOf_26 ?_
    refine x_nn (fun a2 e3 => ?_)
    subst e3
    refine x_aald (pc := 28) dX4_leastOf_28 ?_
    intro v4
    refine x_iload (pc := 29) 3 rfl dX4_leastOf_29 ?_
    refine x_iconst (pc := 31) (v := 0) (by decide) dX4_leastOf_31 ?_
    refine x_nn (fun a5 e6 => ?_)
    subst e6
    refine x_callV (pc := 32) (As := [.int x6, .int (0 : Int32)]) (rest := []) (lev' := 4) si_X4_57 (m_R_before h a5 x6 (0 : Int32)) (fun z e => grd1 e) rfl rfl (by decide) (cat4 (Nat.le_of_ble_eq_true rfl)) dX4_leastOf_32 (kI (fun v8 h7 => ?_)) xNo
    refine x_aload_nR (pc := 35) (a := this) 0 rfl rfl dX4_leastOf_35 ?_
    refine x_getQ (pc := 36) fi_X4_17 dX4_leastOf_36 ?_
    intro v9
    refine x_iload (pc := 39) 1 rfl dX4_leastOf_39 ?_
    refine x_nn (fun a10 e11 => ?_)
    subst e11
    refine x_aald (pc := 41) dX4_leastOf_41 ?_
    intro v12
    refine x_iload (pc := 42) 2 rfl dX4_leastOf_42 ?_
    refine x_iconst (pc := 44) (v := 0) (by decide) dX4_leastOf_44 ?_
    refine x_nn (fun a13 e14 => ?_)
    subst e14
    refine x_callV (pc := 45) (As := [.int x5, .int (0 : Int32)]) (rest := [.int v8]) (lev' := 4) si_X4_57 (m_R_before h7 a13 x5 (0 : Int32)) (fun z e => grd1 e) rfl rfl (by decide) (cat4 (Nat.le_of_ble_eq_true rfl)) dX4_leastOf_45 (kI (fun v16 h15 => ?_)) xNo
    refine x_isub (pc := 48) dX4_leastOf_48 ?_
    refine x_nmI (fun y17 => ?_)
    refine x_istore (pc := 49) (lv' := [(9, .int y17), (0, .ref this), (4, .int x4), (5, .int x5), (6, .int x6), (7, .int x7), (8, .int x8)]) (by decide) rfl dX4_leastOf_49 ?_
    refine x_iload (pc := 51) 5 rfl dX4_leastOf_51 ?_
    refine x_iload (pc := 53) 0 rfl dX4_leastOf_53 ?_
    refine x_icmp_ge (pc := 55) 62 (by decide) dX4_leastOf_55 ?_ ?_
    · refine x_iconst (pc := 62) (v := 1) (by decide) dX4_leastOf_62 ?_
      refine Sim.lv [1, 2, 3, 4, 5, 6, 0] rfl ?_
      exact w_S_leastOf_j63 r15 hr15 h15 this x4 x5 x6 x7 x8 y17 (1 : Int32)
    · refine x_iconst (pc := 58) (v := 0) (by decide) dX4_leastOf_58 ?_
      refine x_goto (pc := 59) 63 (by decide) dX4_leastOf_59 ?_
      refine Sim.lv [1, 2, 3, 4, 5, 6, 0] rfl ?_
      exact w_S_leastOf_j63 r15 hr15 h15 this x4 x5 x6 x7 x8 y17 (0 : Int32)
set_option maxHeartbeats 4000000 in
theorem v_S_leastOf_l15 : ∀ (n : Nat) (h : PH) (this : Nat) (x4 : Int32) (x5 : Int32) (x6 : Int32) (x7 : Int32) (x8 : Int32), Sim Y_S_leastOf h 15 [(0, .ref this), (4, .int x4), (5, .int x5), (6, .int x6), (7, .int x7), (8, .int x8)] [] (itr (c_S_leastOf_l15) (fun _ _ _ _ _ _ _ => none) n h this x4 x5 x6 x7 x8)
  | 0, h, this, x4, x5, x6, x7, x8 => Sim.none
  | n + 1, h, this, x4, x5, x6, x7, x8 => w_S_leastOf_l15 _ (v_S_leastOf_l15 n) h this x4 x5 x6 x7 x8
set_option maxHeartbeats 4000000 in
theorem m_S_leastOf (h : PH) (this : Nat) (x1 : Int32) (x2 : Int32) (x3 : Int32) : MM yX4_leastOf (ws_ yX4_leastOf cX4_leastOf 11 (some .int)) 5 [.ref this, .int x1, .int x2, .int x3] h (c_S_leastOf h this x1 x2 x3) := by
  refine MM.of (by decide) rfl (by decide) (Nat.le_of_ble_eq_true rfl) (own := RX4) (cc := cX4_leastOf) (maxL := 11) (lev := 5) (rt := (some .int)) (ini := false) ?_
  show Sim Y_S_leastOf h 0 [(0, .ref this), (1, .int x1), (2, .int x2), (3, .int x3)] [] _
  unfold c_S_leastOf
  refine x_grd ?_
  refine x_iconst (pc := 0) (v := 0) (by decide) dX4_leastOf_0 ?_
  refine x_istore (pc := 1) (lv' := [(4, .int (0 : Int32)), (0, .ref this), (1, .int x1), (2, .int x2), (3, .int x3)]) (by decide) rfl dX4_leastOf_1 ?_
  refine x_iload_n (pc := 3) 2 rfl rfl dX4_leastOf_3 ?_
  refine x_istore (pc := 4) (lv' := [(5, .int x1), (4, .int (0 : Int32)), (0, .ref this), (1, .int x1), (2, .int x2), (3, .int x3)]) (by decide) rfl dX4_leastOf_4 ?_
  refine x_iload_n (pc := 6) 4 rfl rfl dX4_leastOf_6 ?_
  refine x_istore (pc := 7) (lv' := [(6, .int x2), (5, .int x1), (4, .int (0 : Int32)), (0, .ref this), (1, .int x1), (2, .int x2), (3, .int x3)]) (by decide) rfl dX4_leastOf_7 ?_
  refine x_iload_n (pc := 9) 6 rfl rfl dX4_leastOf_9 ?_
  refine x_istore (pc := 10) (lv' := [(7, .int x3), (6, .int x2), (5, .int x1), (4, .int (0 : Int32)), (0, .ref this), (1, .int x1), (2, .int x2), (3, .int x3)]) (by decide) rfl dX4_leastOf_10 ?_
  refine x_iconst (pc := 12) (v := 0) (by decide) dX4_leastOf_12 ?_
  refine x_istore (pc := 13) (lv' := [(8, .int (0 : Int32)), (7, .int x3), (6, .int x2), (5, .int x1), (4, .int (0 : Int32)), (0, .ref this), (1, .int x1), (2, .int x2), (3, .int x3)]) (by decide) rfl dX4_leastOf_13 ?_
  refine Sim.lv [5, 4, 3, 2, 1, 0] rfl ?_
  exact v_S_leastOf_l15 FU h this (0 : Int32) x1 x2 x3 (0 : Int32)
theorem fi_X4_105 : FI RX4 105 [3] 3 .int false true := (fi_c ci_3 (by decide) rfl rfl (Or.inl q328) (Or.inl rfl) (fun h => absurd h (by decide)) fi_n)
abbrev Y_S_draw : Yx := (RX4, cX4_draw, 2, 1, (some .int), [], false)
def c_S_draw (h : PH) (this : Nat) (x1 : Int32) : Option RH :=
  grd h this [3] (
  gI h this [3] 3 fun v1 =>
  pI h this [3] 3 ((v1 * (1103515245 : Int32)) + (12345 : Int32)) fun h2 =>
  gI h2 this [3] 3 fun v3 =>
  nz x1 <|
  rI (((v3.toUInt32 >>> ((8 : Int32).toUInt32 &&& Int32.toUInt32 31)).toInt32) - ((v3.toUInt32 >>> ((8 : Int32).toUInt32 &&& Int32.toUInt32 31)).toInt32) / x1 * x1) h2)
set_option maxHeartbeats 4000000 in
theorem m_S_draw (h : PH) (this : Nat) (x1 : Int32) : MM yX4_draw (ws_ yX4_draw cX4_draw 2 (some .int)) 1 [.ref this, .int x1] h (c_S_draw h this x1) := by
  refine MM.of (by decide) rfl (by decide) (Nat.le_of_ble_eq_true rfl) (own := RX4) (cc := cX4_draw) (maxL := 2) (lev := 1) (rt := (some .int)) (ini := false) ?_
  show Sim Y_S_draw h 0 [(0, .ref this), (1, .int x1)] [] _
  unfold c_S_draw
  refine x_grd ?_
  refine x_aload_nR (pc := 0) (a := this) 0 rfl rfl dX4_draw_0 ?_
  refine x_aload_nR (pc := 1) (a := this) 0 rfl rfl dX4_draw_1 ?_
  refine x_getI (pc := 2) fi_X4_105 dX4_draw_2 ?_
  intro v1
  refine x_ldc (pc := 5) (v := 1103515245) q1294 dX4_draw_5 ?_
  refine x_imul (pc := 7) dX4_draw_7 ?_
  refine x_sipush (pc := 8) (v := 12345) (by decide) dX4_draw_8 ?_
  refine x_iadd (pc := 11) dX4_draw_11 ?_
  refine x_pI (pc := 12) fi_X4_105 (fun z => absurd z (by decide)) dX4_draw_12 ?_
  intro h2
  refine x_aload_nR (pc := 15) (a := this) 0 rfl rfl dX4_draw_15 ?_
  refine x_getI (pc := 16) fi_X4_105 dX4_draw_16 ?_
  intro v3
  refine x_bipush (pc := 19) (v := 8) (by decide) dX4_draw_19 ?_
  refine x_iushr (pc := 21) dX4_draw_21 ?_
  refine x_iload_n (pc := 22) 1 rfl rfl dX4_draw_22 ?_
  refine x_irem (pc := 23) dX4_draw_23 ?_
  exact x_iret (pc := 24) dX4_draw_24
theorem si_X4_112 : SiV RX4 112 3 yX4_whyNot cX4_whyNot 5 (some .int) 4 := ⟨_, _, _, ci_3.1, by decide, lw_V q1295 q1099 q1100 q115 q1101, ⟨rfl, by decide, by decide, by decide +kernel⟩, by decide⟩
theorem si_X4_116 : SiV RX4 116 3 yX4_does cX4_does 6 none 4 := ⟨_, _, _, ci_3.1, by decide, lw_V q1296 q1136 q1137 q115 q1138, ⟨rfl, by decide, by decide, by decide +kernel⟩, by decide⟩
theorem si_X4_109 : SiV RX4 109 3 yX4_draw cX4_draw 2 (some .int) 1 := ⟨_, _, _, ci_3.1, by decide, lw_V q1290 q1292 qs33 q115 q1293, ⟨rfl, by decide, by decide, by decide +kernel⟩, by decide⟩
abbrev Y_S_drawDeed : Yx := (RX4, cX4_drawDeed, 6, 24, (some .boolean), [], false)
def c_S_drawDeed_j140 (h : PH) (this : Nat) (x2 : Int32) (x3 : Int32) (x4 : Int32) (x5 : Int32) : Option RH :=
  hI (c_S_whyNot h this x4 x2 x3 x5) noX fun v2 h1 =>
  if v2 = 0 then
    hV (c_S_does h1 this x4 x2 x3 x5) noX fun h3 =>
    rZ (1 : Int32) h3
  else
    rZ (0 : Int32) h1
def c_S_drawDeed_j127 (h : PH) (this : Nat) (x1 : Int32) (x2 : Int32) (x3 : Int32) (x4 : Int32) (s0 : Int32) : Option RH :=
  if x1 ≤ (5 : Int32) then
    c_S_drawDeed_j140 h this x2 x3 x4 s0
  else
    if s0 = x2 then
      rZ (0 : Int32) h
    else
      c_S_drawDeed_j140 h this x2 x3 x4 s0
def c_S_drawDeed_j71 (h : PH) (this : Nat) (x1 : Int32) (x2 : Int32) (x3 : Int32) (s0 : Int32) : Option RH :=
  if (3 : Int32) ≤ x1 then
    if x1 = (3 : Int32) then
      hI (c_S_draw h this (8 : Int32)) noX fun v7 h6 =>
      c_S_drawDeed_j127 h6 this x1 x2 x3 s0 (v7 + (1 : Int32))
    else
      if (6 : Int32) ≤ x1 then
        gI h this [3] 2 fun v1 =>
        hI (c_S_draw h this v1) noX fun v3 h2 =>
        c_S_drawDeed_j127 h2 this x1 x2 x3 s0 v3
      else
        hI (c_S_draw h this (40 : Int32)) noX fun v5 h4 =>
        c_S_drawDeed_j127 h4 this x1 x2 x3 s0 (v5 + (1 : Int32))
  else
    hI (c_S_draw h this (2 : Int32)) noX fun v9 h8 =>
    c_S_drawDeed_j127 h8 this x1 x2 x3 s0 v9
def c_S_drawDeed (h : PH) (this : Nat) : Option RH :=
  grd h this [3] (
  hI (c_S_draw h this (8 : Int32)) noX fun v2 h1 =>
  gI h1 this [3] 2 fun v3 =>
  hI (c_S_draw h1 this v3) noX fun v5 h4 =>
  gQ h4 this [3] 0 fun v6 =>
  nn v6 fun a7 =>
  ldQ h4 a7 v5 fun v9 =>
  nn v9 fun a10 =>
  hI (c_R_wide h4 a10) noX fun v13 h12 =>
  hI (c_S_draw h12 this (v13 + (1 : Int32))) noX fun v15 h14 =>
  if (3 : Int32) ≤ v2 then
    if v2 = (3 : Int32) then
      c_S_drawDeed_j71 h14 this v2 v5 v15 (2 : Int32)
    else
      if (6 : Int32) ≤ v2 then
        if v2 = (6 : Int32) then
          c_S_drawDeed_j71 h14 this v2 v5 v15 (4 : Int32)
        else
          c_S_drawDeed_j71 h14 this v2 v5 v15 (5 : Int32)
      else
        c_S_drawDeed_j71 h14 this v2 v5 v15 (3 : Int32)
  else
    c_S_drawDeed_j71 h14 this v2 v5 v15 (0 : Int32))
set_option maxHeartbeats 4000000 in
theorem w_S_drawDeed_j140 (h : PH) (this : Nat) (x2 : Int32) (x3 : Int32) (x4 : Int32) (x5 : Int32) : Sim Y_S_drawDeed h 140 [(0, .ref this), (2, .int x2), (3, .int x3), (4, .int x4), (5, .int x5)] [] (c_S_drawDeed_j140 h this x2 x3 x4 x5) := by
  unfold c_S_drawDeed_j140
  refine x_aload_nR (pc := 140) (a := this) 0 rfl rfl dX4_drawDeed_140 ?_
  refine x_iload (pc := 141) 3 rfl dX4_drawDeed_141 ?_
  refine x_iload_n (pc := 143) 1 rfl rfl dX4_drawDeed_143 ?_
  refine x_iload_n (pc := 144) 2 rfl rfl dX4_drawDeed_144 ?_
  refine x_iload (pc := 145) 4 rfl dX4_drawDeed_145 ?_
  refine x_callV (pc := 147) (As := [.int x4, .int x2, .int x3, .int x5]) (rest := []) (lev' := 4) si_X4_112 (m_S_whyNot h this x4 x2 x3 x5) (fun z e => grd1 e) rfl rfl (by decide) (cat4 (Nat.le_of_ble_eq_true rfl)) dX4_drawDeed_147 (kI (fun v2 h1 => ?_)) xNo
  refine x_if_eq (pc := 150) 155 (by decide) dX4_drawDeed_150 ?_ ?_
  · refine x_aload_nR (pc := 155) (a := this) 0 rfl rfl dX4_drawDeed_155 ?_
    refine x_iload (pc := 156) 3 rfl dX4_drawDeed_156 ?_
    refine x_iload_n (pc := 158) 1 rfl rfl dX4_drawDeed_158 ?_
    refine x_iload_n (pc := 159) 2 rfl rfl dX4_drawDeed_159 ?_
    refine x_iload (pc := 160) 4 rfl dX4_drawDeed_160 ?_
    refine x_callV (pc := 162) (As := [.int x4, .int x2, .int x3, .int x5]) (rest := []) (lev' := 23) si_X4_116 (m_S_does h1 this x4 x2 x3 x5) (fun z e => grd1 e) rfl rfl (by decide) (cat4 (Nat.le_of_ble_eq_true rfl)) dX4_drawDeed_162 (kV (fun h3 => ?_)) xNo
    refine x_iconst (pc := 165) (v := 1) (by decide) dX4_drawDeed_165 ?_
    exact x_zret (pc := 166) dX4_drawDeed_166
  · refine x_iconst (pc := 153) (v := 0) (by decide) dX4_drawDeed_153 ?_
    exact x_zret (pc := 154) dX4_drawDeed_154
set_option maxHeartbeats 4000000 in
theorem w_S_drawDeed_j127 (h : PH) (this : Nat) (x1 : Int32) (x2 : Int32) (x3 : Int32) (x4 : Int32) (s0 : Int32) : Sim Y_S_drawDeed h 127 [(0, .ref this), (1, .int x1), (2, .int x2), (3, .int x3), (4, .int x4)] [.int s0] (c_S_drawDeed_j127 h this x1 x2 x3 x4 s0) := by
  unfold c_S_drawDeed_j127
  refine x_istore (pc := 127) (lv' := [(5, .int s0), (0, .ref this), (1, .int x1), (2, .int x2), (3, .int x3), (4, .int x4)]) (by decide) rfl dX4_drawDeed_127 ?_
  refine x_iload_n (pc := 129) 2 rfl rfl dX4_drawDeed_129 ?_
  refine x_iconst (pc := 130) (v := 5) (by decide) dX4_drawDeed_130 ?_
  refine x_icmp_le (pc := 131) 140 (by decide) dX4_drawDeed_131 ?_ ?_
  · refine Sim.lv [1, 3, 4, 5, 0] rfl ?_
    exact w_S_drawDeed_j140 h this x2 x3 x4 s0
  · refine x_iload (pc := 134) 0 rfl dX4_drawDeed_134 ?_
    refine x_iload_n (pc := 136) 3 rfl rfl dX4_drawDeed_136 ?_
    refine x_icmp_eq (pc := 137) 153 (by decide) dX4_drawDeed_137 ?_ ?_
    · refine x_iconst (pc := 153) (v := 0) (by decide) dX4_drawDeed_153 ?_
      exact x_zret (pc := 154) dX4_drawDeed_154
    · refine Sim.lv [1, 3, 4, 5, 0] rfl ?_
      exact w_S_drawDeed_j140 h this x2 x3 x4 s0
set_option maxHeartbeats 4000000 in
theorem w_S_drawDeed_j71 (h : PH) (this : Nat) (x1 : Int32) (x2 : Int32) (x3 : Int32) (s0 : Int32) : Sim Y_S_drawDeed h 71 [(0, .ref this), (1, .int x1), (2, .int x2), (3, .int x3)] [.int s0] (c_S_drawDeed_j71 h this x1 x2 x3 s0) := by
  unfold c_S_drawDeed_j71
  refine x_istore (pc := 71) (lv' := [(4, .int s0), (0, .ref this), (1, .int x1), (2, .int x2), (3, .int x3)]) (by decide) rfl dX4_drawDeed_71 ?_
  refine x_iload_n (pc := 73) 2 rfl rfl dX4_drawDeed_73 ?_
  refine x_iconst (pc := 74) (v := 3) (by decide) dX4_drawDeed_74 ?_
  refine x_icmp_ge (pc := 75) 86 (by decide) dX4_drawDeed_75 ?_ ?_
  · refine x_iload_n (pc := 86) 2 rfl rfl dX4_drawDeed_86 ?_
    refine x_iconst (pc := 87) (v := 3) (by decide) dX4_drawDeed_87 ?_
    refine x_icmp_ne (pc := 88) 102 (by decide) dX4_drawDeed_88 ?_ ?_
    · refine x_iload_n (pc := 102) 2 rfl rfl dX4_drawDeed_102 ?_
      refine x_bipush (pc := 103) (v := 6) (by decide) dX4_drawDeed_103 ?_
      refine x_icmp_ge (pc := 105) 119 (by decide) dX4_drawDeed_105 ?_ ?_
      · refine x_aload_nR (pc := 119) (a := this) 1 rfl rfl dX4_drawDeed_119 ?_
        refine x_aload_nR (pc := 120) (a := this) 1 rfl rfl dX4_drawDeed_120 ?_
        refine x_getI (pc := 121) fi_X4_27 dX4_drawDeed_121 ?_
        intro v1
        refine x_callV (pc := 124) (As := [.int v1]) (rest := []) (lev' := 1) si_X4_109 (m_S_draw h this v1) (fun z e => grd1 e) rfl rfl (by decide) (cat4 (Nat.le_of_ble_eq_true rfl)) dX4_drawDeed_124 (kI (fun v3 h2 => ?_)) xNo
        refine Sim.lv [1, 2, 3, 4, 0] rfl ?_
        exact w_S_drawDeed_j127 h2 this x1 x2 x3 s0 v3
      · refine x_aload_nR (pc := 108) (a := this) 1 rfl rfl dX4_drawDeed_108 ?_
        refine x_bipush (pc := 109) (v := 40) (by decide) dX4_drawDeed_109 ?_
        refine x_callV (pc := 111) (As := [.int (40 : Int32)]) (rest := []) (lev' := 1) si_X4_109 (m_S_draw h this (40 : Int32)) (fun z e => grd1 e) rfl rfl (by decide) (cat4 (Nat.le_of_ble_eq_true rfl)) dX4_drawDeed_111 (kI (fun v5 h4 => ?_)) xNo
        refine x_iconst (pc := 114) (v := 1) (by decide) dX4_drawDeed_114 ?_
        refine x_iadd (pc := 115) dX4_drawDeed_115 ?_
        refine x_goto (pc := 116) 127 (by decide) dX4_drawDeed_116 ?_
        refine Sim.lv [1, 2, 3, 4, 0] rfl ?_
        exact w_S_drawDeed_j127 h4 this x1 x2 x3 s0 (v5 + (1 : Int32))
    · refine x_aload_nR (pc := 91) (a := this) 1 rfl rfl dX4_drawDeed_91 ?_
      refine x_bipush (pc := 92) (v := 8) (by decide) dX4_drawDeed_92 ?_
      refine x_callV (pc := 94) (As := [.int (8 : Int32)]) (rest := []) (lev' := 1) si_X4_109 (m_S_draw h this (8 : Int32)) (fun z e => grd1 e) rfl rfl (by decide) (cat4 (Nat.le_of_ble_eq_true rfl)) dX4_drawDeed_94 (kI (fun v7 h6 => ?_)) xNo
      refine x_iconst (pc := 97) (v := 1) (by decide) dX4_drawDeed_97 ?_
      refine x_iadd (pc := 98) dX4_drawDeed_98 ?_
      refine x_goto (pc := 99) 127 (by decide) dX4_drawDeed_99 ?_
      refine Sim.lv [1, 2, 3, 4, 0] rfl ?_
      exact w_S_drawDeed_j127 h6 this x1 x2 x3 s0 (v7 + (1 : Int32))
  · refine x_aload_nR (pc := 78) (a := this) 1 rfl rfl dX4_drawDeed_78 ?_
    refine x_iconst (pc := 79) (v := 2) (by decide) dX4_drawDeed_79 ?_
    refine x_callV (pc := 80) (As := [.int (2 : Int32)]) (rest := []) (lev' := 1) si_X4_109 (m_S_draw h this (2 : Int32)) (fun z e => grd1 e) rfl rfl (by decide) (cat4 (Nat.le_of_ble_eq_true rfl)) dX4_drawDeed_80 (kI (fun v9 h8 => ?_)) xNo
    refine x_goto (pc := 83) 127 (by decide) dX4_drawDeed_83 ?_
    refine Sim.lv [1, 2, 3, 4, 0] rfl ?_
    exact w_S_drawDeed_j127 h8 this x1 x2 x3 s0 v9
set_option maxHeartbeats 4000000 in
theorem m_S_drawDeed (h : PH) (this : Nat) : MM yX4_drawDeed (ws_ yX4_drawDeed cX4_drawDeed 6 (some .boolean)) 24 [.ref this] h (c_S_drawDeed h this) := by
  refine MM.of (by decide) rfl (by decide) (Nat.le_of_ble_eq_true rfl) (own := RX4) (cc := cX4_drawDeed) (maxL := 6) (lev := 24) (rt := (some .boolean)) (ini := false) ?_
  show Sim Y_S_drawDeed h 0 [(0, .ref this)] [] _
  unfold c_S_drawDeed
  refine x_grd ?_
  refine x_aload_nR (pc := 0) (a := this) 0 rfl rfl dX4_drawDeed_0 ?_
  refine x_bipush (pc := 1) (v := 8) (by decide) dX4_drawDeed_1 ?_
  refine x_callV (pc := 3) (As := [.int (8 : Int32)]) (rest := []) (lev' := 1) si_X4_109 (m_S_draw h this (8 : Int32)) (fun z e => grd1 e) rfl rfl (by decide) (cat4 (Nat.le_of_ble_eq_true rfl)) dX4_drawDeed_3 (kI (fun v2 h1 => ?_)) xNo
  refine x_istore_n (pc := 6) (lv' := [(1, .int v2), (0, .ref this)]) rfl (by decide) rfl dX4_drawDeed_6 ?_
  refine x_aload_nR (pc := 7) (a := this) 1 rfl rfl dX4_drawDeed_7 ?_
  refine x_aload_nR (pc := 8) (a := this) 1 rfl rfl dX4_drawDeed_8 ?_
  refine x_getI (pc := 9) fi_X4_27 dX4_drawDeed_9 ?_
  intro v3
  refine x_callV (pc := 12) (As := [.int v3]) (rest := []) (lev' := 1) si_X4_109 (m_S_draw h1 this v3) (fun z e => grd1 e) rfl rfl (by decide) (cat4 (Nat.le_of_ble_eq_true rfl)) dX4_drawDeed_12 (kI (fun v5 h4 => ?_)) xNo
  refine x_istore_n (pc := 15) (lv' := [(2, .int v5), (1, .int v2), (0, .ref this)]) rfl (by decide) rfl dX4_drawDeed_15 ?_
  refine x_aload_nR (pc := 16) (a := this) 2 rfl rfl dX4_drawDeed_16 ?_
  refine x_aload_nR (pc := 17) (a := this) 2 rfl rfl dX4_drawDeed_17 ?_
  refine x_getQ (pc := 18) fi_X4_11 dX4_drawDeed_18 ?_
  intro v6
  refine x_iload_n (pc := 21) 0 rfl rfl dX4_drawDeed_21 ?_
  refine x_nn (fun a7 e8 => ?_)
  subst e8
  refine x_aald (pc := 22) dX4_drawDeed_22 ?_
  intro v9
  refine x_nn (fun a10 e11 => ?_)
  subst e11
  refine x_callV (pc := 23) (As := []) (rest := [.ref this]) (lev' := 1) si_X4_49 (m_R_wide h4 a10) (fun z e => grd1 e) rfl rfl (by decide) (cat4 (Nat.le_of_ble_eq_true rfl)) dX4_drawDeed_23 (kI (fun v13 h12 => ?_)) xNo
  refine x_iconst (pc := 26) (v := 1) (by decide) dX4_drawDeed_26 ?_
  refine x_iadd (pc := 27) dX4_drawDeed_27 ?_
  refine x_callV (pc := 28) (As := [.int (v13 + (1 : Int32))]) (rest := []) (lev' := 1) si_X4_109 (m_S_draw h12 this (v13 + (1 : Int32))) (fun z e => grd1 e) rfl rfl (by decide) (cat4 (Nat.le_of_ble_eq_true rfl)) dX4_drawDeed_28 (kI (fun v15 h14 => ?_)) xNo
  refine x_istore_n (pc := 31) (lv' := [(3, .int v15), (2, .int v5), (1, .int v2), (0, .ref this)]) rfl (by decide) rfl dX4_drawDeed_31 ?_
  refine x_iload_n (pc := 32) 2 rfl rfl dX4_drawDeed_32 ?_
  refine x_iconst (pc := 33) (v := 3) (by decide) dX4_drawDeed_33 ?_
  refine x_icmp_ge (pc := 34) 41 (by decide) dX4_drawDeed_34 ?_ ?_
  · refine x_iload_n (pc := 41) 2 rfl rfl dX4_drawDeed_41 ?_
    refine x_iconst (pc := 42) (v := 3) (by decide) dX4_drawDeed_42 ?_
    refine x_icmp_ne (pc := 43) 50 (by decide) dX4_drawDeed_43 ?_ ?_
    · refine x_iload_n (pc := 50) 2 rfl rfl dX4_drawDeed_50 ?_
      refine x_bipush (pc := 51) (v := 6) (by decide) dX4_drawDeed_51 ?_
      refine x_icmp_ge (pc := 53) 60 (by decide) dX4_drawDeed_53 ?_ ?_
      · refine x_iload_n (pc := 60) 2 rfl rfl dX4_drawDeed_60 ?_
        refine x_bipush (pc := 61) (v := 6) (by decide) dX4_drawDeed_61 ?_
        refine x_icmp_ne (pc := 63) 70 (by decide) dX4_drawDeed_63 ?_ ?_
        · refine x_iconst (pc := 70) (v := 5) (by decide) dX4_drawDeed_70 ?_
          refine Sim.lv [3, 2, 1, 0] rfl ?_
          exact w_S_drawDeed_j71 h14 this v2 v5 v15 (5 : Int32)
        · refine x_iconst (pc := 66) (v := 4) (by decide) dX4_drawDeed_66 ?_
          refine x_goto (pc := 67) 71 (by decide) dX4_drawDeed_67 ?_
          refine Sim.lv [3, 2, 1, 0] rfl ?_
          exact w_S_drawDeed_j71 h14 this v2 v5 v15 (4 : Int32)
      · refine x_iconst (pc := 56) (v := 3) (by decide) dX4_drawDeed_56 ?_
        refine x_goto (pc := 57) 71 (by decide) dX4_drawDeed_57 ?_
        refine Sim.lv [3, 2, 1, 0] rfl ?_
        exact w_S_drawDeed_j71 h14 this v2 v5 v15 (3 : Int32)
    · refine x_iconst (pc := 46) (v := 2) (by decide) dX4_drawDeed_46 ?_
      refine x_goto (pc := 47) 71 (by decide) dX4_drawDeed_47 ?_
      refine Sim.lv [3, 2, 1, 0] rfl ?_
      exact w_S_drawDeed_j71 h14 this v2 v5 v15 (2 : Int32)
  · refine x_iconst (pc := 37) (v := 0) (by decide) dX4_drawDeed_37 ?_
    refine x_goto (pc := 38) 71 (by decide) dX4_drawDeed_38 ?_
    refine Sim.lv [3, 2, 1, 0] rfl ?_
    exact w_S_drawDeed_j71 h14 this v2 v5 v15 (0 : Int32)
theorem si_X4_120 : SiV RX4 120 3 yX4_drawDeed cX4_drawDeed 6 (some .boolean) 0 := ⟨_, _, _, ci_3.1, by decide, lw_V q1286 q1288 qs32 q115 q1289, ⟨rfl, by decide, by decide, by decide +kernel⟩, by decide⟩
abbrev Y_S_drawDeeds : Yx := (RX4, cX4_drawDeeds, 5, 25, (some .int), [], false)
def c_S_drawDeeds_l19 (r19 : PH → Nat → Int32 → Int32 → Int32 → Option RH) (h : PH) (this : Nat) (x1 : Int32) (x3 : Int32) (x4 : Int32) : Option RH :=
  if x1 ≤ x4 then
    rI x3 h
  else
    hI (c_S_drawDeed h this) noX fun v2 h1 =>
    if v2 = 0 then
      r19 h1 this x1 x3 (x4 + (1 : Int32))
    else
      r19 h1 this x1 (x3 + (1 : Int32)) (x4 + (1 : Int32))
def c_S_drawDeeds (h : PH) (this : Nat) (x1 : Int32) (x2 : Int32) : Option RH :=
  grd h this [3] (
  gI h this [3] 2 fun v1 =>
  if v1 = 0 then
    rI (0 : Int32) h
  else
    pI h this [3] 3 x2 fun h2 =>
    itr (c_S_drawDeeds_l19) (fun _ _ _ _ _ => none) FU h2 this x1 (0 : Int32) (0 : Int32))
set_option maxHeartbeats 4000000 in
theorem w_S_drawDeeds_l19 (r19 : PH → Nat → Int32 → Int32 → Int32 → Option RH) (hr19 : ∀ (h : PH) (this : Nat) (x1 : Int32) (x3 : Int32) (x4 : Int32), Sim Y_S_drawDeeds h 19 [(0, .ref this), (1, .int x1), (3, .int x3), (4, .int x4)] [] (r19 h this x1 x3 x4)) (h : PH) (this : Nat) (x1 : Int32) (x3 : Int32) (x4 : Int32) : Sim Y_S_drawDeeds h 19 [(0, .ref this), (1, .int x1), (3, .int x3), (4, .int x4)] [] (c_S_drawDeeds_l19 r19 h this x1 x3 x4) := by
  unfold c_S_drawDeeds_l19
  refine x_iload (pc := 19) 3 rfl dX4_drawDeeds_19 ?_
  refine x_iload_n (pc := 21) 1 rfl rfl dX4_drawDeeds_21 ?_
  refine x_icmp_ge (pc := 22) 41 (by decide) dX4_drawDeeds_22 ?_ ?_
  · refine x_iload_n (pc := 41) 2 rfl rfl dX4_drawDeeds_41 ?_
    exact x_iret (pc := 42) dX4_drawDeeds_42
  · refine x_aload_nR (pc := 25) (a := this) 0 rfl rfl dX4_drawDeeds_25 ?_
    refine x_callV (pc := 26) (As := []) (rest := []) (lev' := 24) si_X4_120 (m_S_drawDeed h this) (fun z e => grd1 e) rfl rfl (by decide) (cat4 (Nat.le_of_ble_eq_true rfl)) dX4_drawDeeds_26 (kI (fun v2 h1 => ?_)) xNo
    refine x_if_eq (pc := 29) 35 (by decide) dX4_drawDeeds_29 ?_ ?_
    · refine x_iinc (pc := 35) (v := (1 : Int32)) (lv' := [(4, .int (x4 + (1 : Int32))), (0, .ref this), (1, .int x1), (3, .int x3)]) 3 rfl (by decide) (by decide) rfl dX4_drawDeeds_35 ?_
      refine x_goto (pc := 38) 19 (by decide) dX4_drawDeeds_38 ?_
      refine Sim.lv [1, 2, 3, 0] rfl ?_
      exact hr19 h1 this x1 x3 (x4 + (1 : Int32))
    · refine x_iinc (pc := 32) (v := (1 : Int32)) (lv' := [(3, .int (x3 + (1 : Int32))), (0, .ref this), (1, .int x1), (4, .int x4)]) 2 rfl (by decide) (by decide) rfl dX4_drawDeeds_32 ?_
      refine x_iinc (pc := 35) (v := (1 : Int32)) (lv' := [(4, .int (x4 + (1 : Int32))), (3, .int (x3 + (1 : Int32))), (0, .ref this), (1, .int x1)]) 3 rfl (by decide) (by decide) rfl dX4_drawDeeds_35 ?_
      refine x_goto (pc := 38) 19 (by decide) dX4_drawDeeds_38 ?_
      refine Sim.lv [2, 3, 1, 0] rfl ?_
      exact hr19 h1 this x1 (x3 + (1 : Int32)) (x4 + (1 : Int32))
set_option maxHeartbeats 4000000 in
theorem v_S_drawDeeds_l19 : ∀ (n : Nat) (h : PH) (this : Nat) (x1 : Int32) (x3 : Int32) (x4 : Int32), Sim Y_S_drawDeeds h 19 [(0, .ref this), (1, .int x1), (3, .int x3), (4, .int x4)] [] (itr (c_S_drawDeeds_l19) (fun _ _ _ _ _ => none) n h this x1 x3 x4)
  | 0, h, this, x1, x3, x4 => Sim.none
  | n + 1, h, this, x1, x3, x4 => w_S_drawDeeds_l19 _ (v_S_drawDeeds_l19 n) h this x1 x3 x4
set_option maxHeartbeats 4000000 in
theorem m_S_drawDeeds (h : PH) (this : Nat) (x1 : Int32) (x2 : Int32) : MM yX4_drawDeeds (ws_ yX4_drawDeeds cX4_drawDeeds 5 (some .int)) 25 [.ref this, .int x1, .int x2] h (c_S_drawDeeds h this x1 x2) := by
  refine MM.of (by decide) rfl (by decide) (Nat.le_of_ble_eq_true rfl) (own := RX4) (cc := cX4_drawDeeds) (maxL := 5) (lev := 25) (rt := (some .int)) (ini := false) ?_
  show Sim Y_S_drawDeeds h 0 [(0, .ref this), (1, .int x1), (2, .int x2)] [] _
  unfold c_S_drawDeeds
  refine x_grd ?_
  refine x_aload_nR (pc := 0) (a := this) 0 rfl rfl dX4_drawDeeds_0 ?_
  refine x_getI (pc := 1) fi_X4_27 dX4_drawDeeds_1 ?_
  intro v1
  refine x_if_ne (pc := 4) 9 (by decide) dX4_drawDeeds_4 ?_ ?_
  · refine x_aload_nR (pc := 9) (a := this) 0 rfl rfl dX4_drawDeeds_9 ?_
    refine x_iload_n (pc := 10) 2 rfl rfl dX4_drawDeeds_10 ?_
    refine x_pI (pc := 11) fi_X4_105 (fun z => absurd z (by decide)) dX4_drawDeeds_11 ?_
    intro h2
    refine x_iconst (pc := 14) (v := 0) (by decide) dX4_drawDeeds_14 ?_
    refine x_istore_n (pc := 15) (lv' := [(3, .int (0 : Int32)), (0, .ref this), (1, .int x1), (2, .int x2)]) rfl (by decide) rfl dX4_drawDeeds_15 ?_
    refine x_iconst (pc := 16) (v := 0) (by decide) dX4_drawDeeds_16 ?_
    refine x_istore (pc := 17) (lv' := [(4, .int (0 : Int32)), (3, .int (0 : Int32)), (0, .ref this), (1, .int x1), (2, .int x2)]) (by decide) rfl dX4_drawDeeds_17 ?_
    refine Sim.lv [2, 3, 1, 0] rfl ?_
    exact v_S_drawDeeds_l19 FU h2 this x1 (0 : Int32) (0 : Int32)
  · refine x_iconst (pc := 7) (v := 0) (by decide) dX4_drawDeeds_7 ?_
    exact x_iret (pc := 8) dX4_drawDeeds_8
abbrev Y_S_bits : Yx := (RX4, cX4_bits, 6, 2, (some .int), [], false)
def c_S_bits_l13 (r13 : PH → Int32 → Option Nat → Int32 → Int32 → Option RH) (h : PH) (x1 : Int32) (x2 : Option Nat) (x3 : Int32) (x4 : Int32) : Option RH :=
  if x3 ≤ x4 then
    rI x1 h
  else
    nn x2 fun a1 =>
    ldQ h a1 x4 fun v3 =>
    nn v3 fun a4 =>
    hI (c_R_wide h a4) noX fun v7 h6 =>
    nm (x1 + v7) fun y8 =>
    r13 h6 y8 (some a1) x3 (x4 + (1 : Int32))
def c_S_bits (h : PH) (this : Nat) : Option RH :=
  grd h this [3] (
  gQ h this [3] 0 fun v1 =>
  nn v1 fun a2 =>
  alen h a2 fun v4 =>
  itr (c_S_bits_l13) (fun _ _ _ _ _ => none) FU h (0 : Int32) (some a2) v4 (0 : Int32))
set_option maxHeartbeats 4000000 in
theorem w_S_bits_l13 (r13 : PH → Int32 → Option Nat → Int32 → Int32 → Option RH) (hr13 : ∀ (h : PH) (x1 : Int32) (x2 : Option Nat) (x3 : Int32) (x4 : Int32), Sim Y_S_bits h 13 [(1, .int x1), (2, va_rf x2), (3, .int x3), (4, .int x4)] [] (r13 h x1 x2 x3 x4)) (h : PH) (x1 : Int32) (x2 : Option Nat) (x3 : Int32) (x4 : Int32) : Sim Y_S_bits h 13 [(1, .int x1), (2, va_rf x2), (3, .int x3), (4, .int x4)] [] (c_S_bits_l13 r13 h x1 x2 x3 x4) := by
  unfold c_S_bits_l13
  refine x_iload (pc := 13) 3 rfl dX4_bits_13 ?_
  refine x_iload_n (pc := 15) 2 rfl rfl dX4_bits_15 ?_
  refine x_icmp_ge (pc := 16) 39 (by decide) dX4_bits_16 ?_ ?_
  · refine x_iload_n (pc := 39) 0 rfl rfl dX4_bits_39 ?_
    exact x_iret (pc := 40) dX4_bits_40
  · refine x_aload_n (pc := 19) (r := x2) 1 rfl rfl dX4_bits_19 ?_
    refine x_iload (pc := 20) 3 rfl dX4_bits_20 ?_
    refine x_nn (fun a1 e2 => ?_)
    subst e2
    refine x_aald (pc := 22) dX4_bits_22 ?_
    intro v3
    refine x_astore (pc := 23) (r := v3) (lv' := [(5, va_rf v3), (1, .int x1), (2, .ref a1), (3, .int x3), (4, .int x4)]) (by decide) rfl dX4_bits_23 ?_
    refine x_iload_n (pc := 25) 1 rfl rfl dX4_bits_25 ?_
    refine x_aload (pc := 26) (r := v3) 0 rfl dX4_bits_26 ?_
    refine x_nn (fun a4 e5 => ?_)
    subst e5
    refine x_callV (pc := 28) (As := []) (rest := [.int x1]) (lev' := 1) si_X4_49 (m_R_wide h a4) (fun z e => grd1 e) rfl rfl (by decide) (cat4 (Nat.le_of_ble_eq_true rfl)) dX4_bits_28 (kI (fun v7 h6 => ?_)) xNo
    refine x_iadd (pc := 31) dX4_bits_31 ?_
    refine x_nmI (fun y8 => ?_)
    refine x_istore_n (pc := 32) (lv' := [(1, .int y8), (5, .ref a4), (2, .ref a1), (3, .int x3), (4, .int x4)]) rfl (by decide) rfl dX4_bits_32 ?_
    refine x_iinc (pc := 33) (v := (1 : Int32)) (lv' := [(4, .int (x4 + (1 : Int32))), (1, .int y8), (5, .ref a4), (2, .ref a1), (3, .int x3)]) 4 rfl (by decide) (by decide) rfl dX4_bits_33 ?_
    refine x_goto (pc := 36) 13 (by decide) dX4_bits_36 ?_
    refine Sim.lv [1, 3, 4, 0] rfl ?_
    exact hr13 h6 y8 (some a1) x3 (x4 + (1 : Int32))
set_option maxHeartbeats 4000000 in
theorem v_S_bits_l13 : ∀ (n : Nat) (h : PH) (x1 : Int32) (x2 : Option Nat) (x3 : Int32) (x4 : Int32), Sim Y_S_bits h 13 [(1, .int x1), (2, va_rf x2), (3, .int x3), (4, .int x4)] [] (itr (c_S_bits_l13) (fun _ _ _ _ _ => none) n h x1 x2 x3 x4)
  | 0, h, x1, x2, x3, x4 => Sim.none
  | n + 1, h, x1, x2, x3, x4 => w_S_bits_l13 _ (v_S_bits_l13 n) h x1 x2 x3 x4
set_option maxHeartbeats 4000000 in
theorem m_S_bits (h : PH) (this : Nat) : MM yX4_bits (ws_ yX4_bits cX4_bits 6 (some .int)) 2 [.ref this] h (c_S_bits h this) := by
  refine MM.of (by decide) rfl (by decide) (Nat.le_of_ble_eq_true rfl) (own := RX4) (cc := cX4_bits) (maxL := 6) (lev := 2) (rt := (some .int)) (ini := false) ?_
  show Sim Y_S_bits h 0 [(0, .ref this)] [] _
  unfold c_S_bits
  refine x_grd ?_
  refine x_iconst (pc := 0) (v := 0) (by decide) dX4_bits_0 ?_
  refine x_istore_n (pc := 1) (lv' := [(1, .int (0 : Int32)), (0, .ref this)]) rfl (by decide) rfl dX4_bits_1 ?_
  refine x_aload_nR (pc := 2) (a := this) 1 rfl rfl dX4_bits_2 ?_
  refine x_getQ (pc := 3) fi_X4_11 dX4_bits_3 ?_
  intro v1
  refine x_astore_n (pc := 6) (r := v1) (lv' := [(2, va_rf v1), (1, .int (0 : Int32)), (0, .ref this)]) rfl (by decide) rfl dX4_bits_6 ?_
  refine x_aload_n (pc := 7) (r := v1) 0 rfl rfl dX4_bits_7 ?_
  refine x_nn (fun a2 e3 => ?_)
  subst e3
  refine x_alen (pc := 8) dX4_bits_8 ?_
  intro v4
  refine x_istore_n (pc := 9) (lv' := [(3, .int v4), (2, .ref a2), (1, .int (0 : Int32)), (0, .ref this)]) rfl (by decide) rfl dX4_bits_9 ?_
  refine x_iconst (pc := 10) (v := 0) (by decide) dX4_bits_10 ?_
  refine x_istore (pc := 11) (lv' := [(4, .int (0 : Int32)), (3, .int v4), (2, .ref a2), (1, .int (0 : Int32)), (0, .ref this)]) (by decide) rfl dX4_bits_11 ?_
  refine Sim.lv [3, 2, 1, 0] rfl ?_
  exact v_S_bits_l13 FU h (0 : Int32) (some a2) v4 (0 : Int32)
theorem fi_X15_7 : FI RX15 7 [12] 0 .int true true := (fi_c ci_12 (by decide) rfl rfl (Or.inl q1348) (Or.inl rfl) (fun _ _ => rfl) fi_n)
theorem fi_X15_13 : FI RX15 13 [12] 1 .int true true := (fi_c ci_12 (by decide) rfl rfl (Or.inl q1350) (Or.inl rfl) (fun _ _ => rfl) fi_n)
theorem fi_X15_16 : FI RX15 16 [12] 2 .int true true := (fi_c ci_12 (by decide) rfl rfl (Or.inl q1352) (Or.inl rfl) (fun _ _ => rfl) fi_n)
theorem fi_X15_19 : FI RX15 19 [12] 3 .int true true := (fi_c ci_12 (by decide) rfl rfl (Or.inl q1354) (Or.inl rfl) (fun _ _ => rfl) fi_n)
abbrev Y_E_init : Yx := (RX15, cX15_init, 5, 1, none, [], true)
def c_E_init (h : PH) (this : Nat) (x1 : Int32) (x2 : Int32) (x3 : Int32) (x4 : Int32) : Option RH :=
  grd h this [12] (
  pI h this [12] 0 x1 fun h1 =>
  pI h1 this [12] 1 x2 fun h2 =>
  pI h2 this [12] 2 x3 fun h3 =>
  pI h3 this [12] 3 x4 fun h4 =>
  rV h4)
set_option maxHeartbeats 4000000 in
theorem m_E_init (h : PH) (this : Nat) (x1 : Int32) (x2 : Int32) (x3 : Int32) (x4 : Int32) : MM yX15_init (ws_ yX15_init cX15_init 5 none) 1 [.ref this, .int x1, .int x2, .int x3, .int x4] h (c_E_init h this x1 x2 x3 x4) := by
  refine MM.of (by decide) rfl (by decide) (Nat.le_of_ble_eq_true rfl) (own := RX15) (cc := cX15_init) (maxL := 5) (lev := 1) (rt := none) (ini := true) ?_
  show Sim Y_E_init h 0 [(0, .ref this), (1, .int x1), (2, .int x2), (3, .int x3), (4, .int x4)] [] _
  unfold c_E_init
  refine x_grd ?_
  refine x_aload_nR (pc := 0) (a := this) 0 rfl rfl dX15_init_0 ?_
  refine x_objInit (pc := 1) q1347 (by omega) (by decide) dX15_init_1 ?_
  refine x_aload_nR (pc := 4) (a := this) 0 rfl rfl dX15_init_4 ?_
  refine x_iload_n (pc := 5) 1 rfl rfl dX15_init_5 ?_
  refine x_pI (pc := 6) fi_X15_7 (fun _ => rfl) dX15_init_6 ?_
  intro h1
  refine x_aload_nR (pc := 9) (a := this) 0 rfl rfl dX15_init_9 ?_
  refine x_iload_n (pc := 10) 2 rfl rfl dX15_init_10 ?_
  refine x_pI (pc := 11) fi_X15_13 (fun _ => rfl) dX15_init_11 ?_
  intro h2
  refine x_aload_nR (pc := 14) (a := this) 0 rfl rfl dX15_init_14 ?_
  refine x_iload_n (pc := 15) 3 rfl rfl dX15_init_15 ?_
  refine x_pI (pc := 16) fi_X15_16 (fun _ => rfl) dX15_init_16 ?_
  intro h3
  refine x_aload_nR (pc := 19) (a := this) 0 rfl rfl dX15_init_19 ?_
  refine x_iload (pc := 20) 4 rfl dX15_init_20 ?_
  refine x_pI (pc := 22) fi_X15_19 (fun _ => rfl) dX15_init_22 ?_
  intro h4
  exact x_vret (pc := 25) dX15_init_25
theorem fi_J0_31 : FI RJ0 31 [1] 3 (.object "java/lang/String") false true := (fi_c ci_1 (by decide) rfl rfl (Or.inl q206) (Or.inl rfl) (fun h => absurd h (by decide)) fi_n)
theorem fi_J0_7 : FI RJ0 7 [1] 0 (.object "java/lang/Throwable") false true := (fi_c ci_1 (by decide) rfl rfl (Or.inl q207) (Or.inl rfl) (fun h => absurd h (by decide)) fi_n)
theorem fi_J0_24 : FI RJ0 24 [1] 2 (.object "java/util/List") false true := (fi_c ci_1 (by decide) rfl rfl (Or.inl q209) (Or.inl rfl) (fun h => absurd h (by decide)) fi_n)
theorem fi_J0_17 : FI RJ0 17 [1] 1 (.array (.object "java/lang/StackTraceElement")) false true := (fi_c ci_1 (by decide) rfl rfl (Or.inl q208) (Or.inl rfl) (fun h => absurd h (by decide)) fi_n)
abbrev Y_J0_init_2 : Yx := (RJ0, cJ0_init_2, 5, 1, none, [], true)
def c_J0_init_2_j41 (h : PH) (this : Nat) (x1 : Option Nat) (x2 : Option Nat) (x3 : Int32) : Option RH :=
  pQ h this [1] 3 x1 fun h1 =>
  pQ h1 this [1] 0 x2 fun h2 =>
  if x3 = 0 then
    pQ h2 this [1] 2 none fun h3 =>
    rV h3
  else
    rV h2
def c_J0_init_2 (h : PH) (this : Nat) (x1 : Option Nat) (x2 : Option Nat) (x3 : Int32) (x4 : Int32) : Option RH :=
  grd h this [1] (
  pQ h this [1] 0 (some this) fun h1 =>
  pQ h1 this [1] 1 (zO (h1.2.2 200)) fun h2 =>
  pQ h2 this [1] 2 (zO (h2.2.2 201)) fun h3 =>
  if x4 = 0 then
    pQ h3 this [1] 1 none fun h4 =>
    c_J0_init_2_j41 h4 this x1 x2 x3
  else
    none)
set_option maxHeartbeats 4000000 in
theorem w_J0_init_2_j41 (h : PH) (this : Nat) (x1 : Option Nat) (x2 : Option Nat) (x3 : Int32) : Sim Y_J0_init_2 h 41 [(0, .ref this), (1, va_rf x1), (2, va_rf x2), (3, .int x3)] [] (c_J0_init_2_j41 h this x1 x2 x3) := by
  unfold c_J0_init_2_j41
  refine x_aload_nR (pc := 41) (a := this) 0 rfl rfl dJ0_init_2_41 ?_
  refine x_aload_n (pc := 42) (r := x1) 1 rfl rfl dJ0_init_2_42 ?_
  refine x_pQ (pc := 43) (v := x1) fi_J0_31 (fun z => absurd z (by decide)) dJ0_init_2_43 ?_
  intro h1
  refine x_aload_nR (pc := 46) (a := this) 0 rfl rfl dJ0_init_2_46 ?_
  refine x_aload_n (pc := 47) (r := x2) 2 rfl rfl dJ0_init_2_47 ?_
  refine x_pQ (pc := 48) (v := x2) fi_J0_7 (fun z => absurd z (by decide)) dJ0_init_2_48 ?_
  intro h2
  refine x_iload_n (pc := 51) 3 rfl rfl dJ0_init_2_51 ?_
  refine x_if_ne (pc := 52) 60 (by decide) dJ0_init_2_52 ?_ ?_
  · exact x_vret (pc := 60) dJ0_init_2_60
  · refine x_aload_nR (pc := 55) (a := this) 0 rfl rfl dJ0_init_2_55 ?_
    refine x_null (pc := 56) dJ0_init_2_56 ?_
    refine x_pQ (pc := 57) (v := none) fi_J0_24 (fun z => absurd z (by decide)) dJ0_init_2_57 ?_
    intro h3
    exact x_vret (pc := 60) dJ0_init_2_60
set_option maxHeartbeats 4000000 in
theorem m_J0_init_2 (h : PH) (this : Nat) (x1 : Option Nat) (x2 : Option Nat) (x3 : Int32) (x4 : Int32) : MM yJ0_init_2 (ws_ yJ0_init_2 cJ0_init_2 5 none) 1 [.ref this, va_rf x1, va_rf x2, .int x3, .int x4] h (c_J0_init_2 h this x1 x2 x3 x4) := by
  refine MM.of (by decide) rfl (by decide) (by cases x1 <;> cases x2 <;> exact Nat.le_of_ble_eq_true rfl) (own := RJ0) (cc := cJ0_init_2) (maxL := 5) (lev := 1) (rt := none) (ini := true) ?_
  rw [show lv_args 0 [.ref this, va_rf x1, va_rf x2, .int x3, .int x4] = [(0, .ref this), (1, va_rf x1), (2, va_rf x2), (3, .int x3), (4, .int x4)] from by cases x1 <;> cases x2 <;> rfl]
  show Sim Y_J0_init_2 h 0 [(0, .ref this), (1, va_rf x1), (2, va_rf x2), (3, .int x3), (4, .int x4)] [] _
  unfold c_J0_init_2
  refine x_grd ?_
  refine x_aload_nR (pc := 0) (a := this) 0 rfl rfl dJ0_init_2_0 ?_
  refine x_objInit (pc := 1) q176 (by omega) (by decide) dJ0_init_2_1 ?_
  refine x_aload_nR (pc := 4) (a := this) 0 rfl rfl dJ0_init_2_4 ?_
  refine x_aload_nR (pc := 5) (a := this) 0 rfl rfl dJ0_init_2_5 ?_
  refine x_pQ (pc := 6) (v := (some this)) fi_J0_7 (fun z => absurd z (by decide)) dJ0_init_2_6 ?_
  intro h1
  refine x_aload_nR (pc := 9) (a := this) 0 rfl rfl dJ0_init_2_9 ?_
  refine x_gst (pc := 10) z_us q177 dJ0_init_2_10 ?_
  refine x_pQA (pc := 13) (v := (zO (h1.2.2 200))) fi_J0_17 (fun z => absurd z (by decide)) dJ0_init_2_13 ?_
  intro h2
  refine x_aload_nR (pc := 16) (a := this) 0 rfl rfl dJ0_init_2_16 ?_
  refine x_gst (pc := 17) z_ss q179 dJ0_init_2_17 ?_
  refine x_pQ (pc := 20) (v := (zO (h2.2.2 201))) fi_J0_24 (fun z => absurd z (by decide)) dJ0_init_2_20 ?_
  intro h3
  refine x_iload (pc := 23) 4 rfl dJ0_init_2_23 ?_
  refine x_if_eq (pc := 25) 36 (by decide) dJ0_init_2_25 ?_ ?_
  · refine x_aload_nR (pc := 36) (a := this) 0 rfl rfl dJ0_init_2_36 ?_
    refine x_null (pc := 37) dJ0_init_2_37 ?_
    refine x_pQA (pc := 38) (v := none) fi_J0_17 (fun z => absurd z (by decide)) dJ0_init_2_38 ?_
    intro h4
    refine Sim.lv [0, 1, 2, 3] rfl ?_
    exact w_J0_init_2_j41 h4 this x1 x2 x3
  · refine x_aload_nR (pc := 28) (a := this) 0 rfl rfl dJ0_init_2_28 ?_
    exact Sim.none
theorem si_J1_16 : SiI RJ1 16 yJ0_init_2 cJ0_init_2 5 4 := ⟨q200, q111, q198, q199, rfl, ⟨by decide, by decide, by decide +kernel⟩, by decide⟩
abbrev Y_J1_init : Yx := (RJ1, cJ1_init, 5, 2, none, [], true)
def c_J1_init (h : PH) (this : Nat) (x1 : Option Nat) (x2 : Option Nat) (x3 : Int32) (x4 : Int32) : Option RH :=
  grd h this [1] (
  hV (c_J0_init_2 h this x1 x2 x3 x4) noX fun h1 =>
  rV h1)
set_option maxHeartbeats 4000000 in
theorem m_J1_init (h : PH) (this : Nat) (x1 : Option Nat) (x2 : Option Nat) (x3 : Int32) (x4 : Int32) : MM yJ1_init (ws_ yJ1_init cJ1_init 5 none) 2 [.ref this, va_rf x1, va_rf x2, .int x3, .int x4] h (c_J1_init h this x1 x2 x3 x4) := by
  refine MM.of (by decide) rfl (by decide) (by cases x1 <;> cases x2 <;> exact Nat.le_of_ble_eq_true rfl) (own := RJ1) (cc := cJ1_init) (maxL := 5) (lev := 2) (rt := none) (ini := true) ?_
  rw [show lv_args 0 [.ref this, va_rf x1, va_rf x2, .int x3, .int x4] = [(0, .ref this), (1, va_rf x1), (2, va_rf x2), (3, .int x3), (4, .int x4)] from by cases x1 <;> cases x2 <;> rfl]
  show Sim Y_J1_init h 0 [(0, .ref this), (1, va_rf x1), (2, va_rf x2), (3, .int x3), (4, .int x4)] [] _
  unfold c_J1_init
  refine x_grd ?_
  refine x_aload_nR (pc := 0) (a := this) 0 rfl rfl dJ1_init_0 ?_
  refine x_aload_n (pc := 1) (r := x1) 1 rfl rfl dJ1_init_1 ?_
  refine x_aload_n (pc := 2) (r := x2) 2 rfl rfl dJ1_init_2 ?_
  refine x_iload_n (pc := 3) 3 rfl rfl dJ1_init_3 ?_
  refine x_iload (pc := 4) 4 rfl dJ1_init_4 ?_
  refine x_callI (pc := 6) (As := [va_rf x1, va_rf x2, .int x3, .int x4]) (rest := []) (lev' := 1) si_J1_16 (m_J0_init_2 h this x1 x2 x3 x4) rfl rfl (by decide) (cat4 (Nat.le_of_ble_eq_true rfl)) dJ1_init_6 (kV (fun h1 => ?_)) xNo
  exact x_vret (pc := 9) dJ1_init_9
theorem si_X2_1 : SiI RX2 1 yJ1_init cJ1_init 5 4 := ⟨q197, q112, q195, q196, rfl, ⟨by decide, by decide, by decide +kernel⟩, by decide⟩
abbrev Y_F_init : Yx := (RX2, cX2_init, 1, 3, none, [], true)
def c_F_init (h : PH) (this : Nat) : Option RH :=
  grd h this [1] (
  hV (c_J1_init h this none none (0 : Int32) (0 : Int32)) noX fun h1 =>
  rV h1)
set_option maxHeartbeats 4000000 in
theorem m_F_init (h : PH) (this : Nat) : MM yX2_init (ws_ yX2_init cX2_init 1 none) 3 [.ref this] h (c_F_init h this) := by
  refine MM.of (by decide) rfl (by decide) (Nat.le_of_ble_eq_true rfl) (own := RX2) (cc := cX2_init) (maxL := 1) (lev := 3) (rt := none) (ini := true) ?_
  show Sim Y_F_init h 0 [(0, .ref this)] [] _
  unfold c_F_init
  refine x_grd ?_
  refine x_aload_nR (pc := 0) (a := this) 0 rfl rfl dX2_init_0 ?_
  refine x_null (pc := 1) dX2_init_1 ?_
  refine x_null (pc := 2) dX2_init_2 ?_
  refine x_iconst (pc := 3) (v := 0) (by decide) dX2_init_3 ?_
  refine x_iconst (pc := 4) (v := 0) (by decide) dX2_init_4 ?_
  refine x_callI (pc := 5) (As := [va_rf none, va_rf none, .int (0 : Int32), .int (0 : Int32)]) (rest := []) (lev' := 2) si_X2_1 (m_J1_init h this none none (0 : Int32) (0 : Int32)) rfl rfl (by decide) (cat4 (Nat.le_of_ble_eq_true rfl)) dX2_init_5 (kV (fun h1 => ?_)) xNo
  exact x_vret (pc := 8) dX2_init_8
theorem fi_X10_1 : FI RX10 1 [8] 0 .int false true := (fi_c ci_8 (by decide) rfl rfl (Or.inl q1686) (Or.inl rfl) (fun h => absurd h (by decide)) fi_n)
abbrev Y_M_thrown : Yx := (RX10, cX10_thrown, 1, 1, (some .int), [], false)
def c_M_thrown (h : PH) (this : Nat) : Option RH :=
  grd h this [8] (
  gI h this [8] 0 fun v1 =>
  rI v1 h)
set_option maxHeartbeats 4000000 in
theorem m_M_thrown (h : PH) (this : Nat) : MM yX10_thrown (ws_ yX10_thrown cX10_thrown 1 (some .int)) 1 [.ref this] h (c_M_thrown h this) := by
  refine MM.of (by decide) rfl (by decide) (Nat.le_of_ble_eq_true rfl) (own := RX10) (cc := cX10_thrown) (maxL := 1) (lev := 1) (rt := (some .int)) (ini := false) ?_
  show Sim Y_M_thrown h 0 [(0, .ref this)] [] _
  unfold c_M_thrown
  refine x_grd ?_
  refine x_aload_nR (pc := 0) (a := this) 0 rfl rfl dX10_thrown_0 ?_
  refine x_getI (pc := 1) fi_X10_1 dX10_thrown_1 ?_
  intro v1
  exact x_iret (pc := 4) dX10_thrown_4
theorem fi_X10_7 : FI RX10 7 [8] 1 (.array .int) true true := (fi_c ci_8 (by decide) rfl rfl (Or.inl q1687) (Or.inl rfl) (fun _ _ => rfl) fi_n)
theorem fi_X10_11 : FI RX10 11 [8] 2 .int false true := (fi_c ci_8 (by decide) rfl rfl (Or.inl q1688) (Or.inl rfl) (fun h => absurd h (by decide)) fi_n)
abbrev Y_M_come : Yx := (RX10, cX10_come, 3, 1, none, [], false)
def c_M_come_l3 (r3 : PH → Nat → Int32 → Int32 → Option RH) (h : PH) (this : Nat) (x1 : Int32) (x2 : Int32) : Option RH :=
  if x2 < 0 then
    rV h
  else
    gQ h this [8] 1 fun v1 =>
    gI h this [8] 2 fun v2 =>
    nn v1 fun a3 =>
    stI h a3 v2 (((x1.toUInt32 >>> (x2.toUInt32 &&& Int32.toUInt32 31)).toInt32) &&& (255 : Int32)) fun h5 =>
    gI h5 this [8] 2 fun v6 =>
    pI h5 this [8] 2 (v6 + (1 : Int32)) fun h7 =>
    r3 h7 this x1 (x2 + (-8 : Int32))
def c_M_come (h : PH) (this : Nat) (x1 : Int32) : Option RH :=
  grd h this [8] (
  itr (c_M_come_l3) (fun _ _ _ _ => none) FU h this x1 (24 : Int32))
set_option maxHeartbeats 4000000 in
theorem w_M_come_l3 (r3 : PH → Nat → Int32 → Int32 → Option RH) (hr3 : ∀ (h : PH) (this : Nat) (x1 : Int32) (x2 : Int32), Sim Y_M_come h 3 [(0, .ref this), (1, .int x1), (2, .int x2)] [] (r3 h this x1 x2)) (h : PH) (this : Nat) (x1 : Int32) (x2 : Int32) : Sim Y_M_come h 3 [(0, .ref this), (1, .int x1), (2, .int x2)] [] (c_M_come_l3 r3 h this x1 x2) := by
  unfold c_M_come_l3
  refine x_iload_n (pc := 3) 2 rfl rfl dX10_come_3 ?_
  refine x_if_lt (pc := 4) 39 (by decide) dX10_come_4 ?_ ?_
  · exact x_vret (pc := 39) dX10_come_39
  · refine x_aload_nR (pc := 7) (a := this) 0 rfl rfl dX10_come_7 ?_
    refine x_getQ (pc := 8) fi_X10_7 dX10_come_8 ?_
    intro v1
    refine x_aload_nR (pc := 11) (a := this) 0 rfl rfl dX10_come_11 ?_
    refine x_getI (pc := 12) fi_X10_11 dX10_come_12 ?_
    intro v2
    refine x_iload_n (pc := 15) 1 rfl rfl dX10_come_15 ?_
    refine x_iload_n (pc := 16) 2 rfl rfl dX10_come_16 ?_
    refine x_iushr (pc := 17) dX10_come_17 ?_
    refine x_sipush (pc := 18) (v := 255) (by decide) dX10_come_18 ?_
    refine x_iand (pc := 21) dX10_come_21 ?_
    refine x_nn (fun a3 e4 => ?_)
    subst e4
    refine x_iast (pc := 22) dX10_come_22 ?_
    intro h5
    refine x_aload_nR (pc := 23) (a := this) 0 rfl rfl dX10_come_23 ?_
    refine x_dup (pc := 24) rfl dX10_come_24 ?_
    refine x_getI (pc := 25) fi_X10_11 dX10_come_25 ?_
    intro v6
    refine x_iconst (pc := 28) (v := 1) (by decide) dX10_come_28 ?_
    refine x_iadd (pc := 29) dX10_come_29 ?_
    refine x_pI (pc := 30) fi_X10_11 (fun z => absurd z (by decide)) dX10_come_30 ?_
    intro h7
    refine x_iinc (pc := 33) (v := (-8 : Int32)) (lv' := [(2, .int (x2 + (-8 : Int32))), (0, .ref this), (1, .int x1)]) 2 rfl (by decide) (by decide) rfl dX10_come_33 ?_
    refine x_goto (pc := 36) 3 (by decide) dX10_come_36 ?_
    refine Sim.lv [1, 2, 0] rfl ?_
    exact hr3 h7 this x1 (x2 + (-8 : Int32))
set_option maxHeartbeats 4000000 in
theorem v_M_come_l3 : ∀ (n : Nat) (h : PH) (this : Nat) (x1 : Int32) (x2 : Int32), Sim Y_M_come h 3 [(0, .ref this), (1, .int x1), (2, .int x2)] [] (itr (c_M_come_l3) (fun _ _ _ _ => none) n h this x1 x2)
  | 0, h, this, x1, x2 => Sim.none
  | n + 1, h, this, x1, x2 => w_M_come_l3 _ (v_M_come_l3 n) h this x1 x2
set_option maxHeartbeats 4000000 in
theorem m_M_come (h : PH) (this : Nat) (x1 : Int32) : MM yX10_come (ws_ yX10_come cX10_come 3 none) 1 [.ref this, .int x1] h (c_M_come h this x1) := by
  refine MM.of (by decide) rfl (by decide) (Nat.le_of_ble_eq_true rfl) (own := RX10) (cc := cX10_come) (maxL := 3) (lev := 1) (rt := none) (ini := false) ?_
  show Sim Y_M_come h 0 [(0, .ref this), (1, .int x1)] [] _
  unfold c_M_come
  refine x_grd ?_
  refine x_bipush (pc := 0) (v := 24) (by decide) dX10_come_0 ?_
  refine x_istore_n (pc := 2) (lv' := [(2, .int (24 : Int32)), (0, .ref this), (1, .int x1)]) rfl (by decide) rfl dX10_come_2 ?_
  refine Sim.lv [1, 2, 0] rfl ?_
  exact v_M_come_l3 FU h this x1 (24 : Int32)
theorem si_X10_14 : SiV RX10 14 8 yX10_come cX10_come 3 none 1 := ⟨_, _, _, ci_8.1, by decide, lw_V q1672 q1674 qs38 q121 q1676, ⟨rfl, by decide, by decide, by decide +kernel⟩, by decide⟩
abbrev Y_M_feed : Yx := (RX10, cX10_feed, 6, 2, (some .int), [], false)
def c_M_feed (h : PH) (this : Nat) (x1 : Int32) (x2 : Int32) (x3 : Int32) (x4 : Int32) (x5 : Int32) : Option RH :=
  grd h this [8] (
  pI h this [8] 0 (0 : Int32) fun h1 =>
  gI h1 this [8] 2 fun v2 =>
  if (v2 + (20 : Int32)) ≤ (940 : Int32) then
    hV (c_M_come h1 this x1) noX fun h3 =>
    hV (c_M_come h3 this x2) noX fun h4 =>
    hV (c_M_come h4 this x3) noX fun h5 =>
    hV (c_M_come h5 this x4) noX fun h6 =>
    hV (c_M_come h6 this x5) noX fun h7 =>
    gI h7 this [8] 2 fun v8 =>
    rI v8 h7
  else
    rI (-1 : Int32) h1)
set_option maxHeartbeats 4000000 in
theorem m_M_feed (h : PH) (this : Nat) (x1 : Int32) (x2 : Int32) (x3 : Int32) (x4 : Int32) (x5 : Int32) : MM yX10_feed (ws_ yX10_feed cX10_feed 6 (some .int)) 2 [.ref this, .int x1, .int x2, .int x3, .int x4, .int x5] h (c_M_feed h this x1 x2 x3 x4 x5) := by
  refine MM.of (by decide) rfl (by decide) (Nat.le_of_ble_eq_true rfl) (own := RX10) (cc := cX10_feed) (maxL := 6) (lev := 2) (rt := (some .int)) (ini := false) ?_
  show Sim Y_M_feed h 0 [(0, .ref this), (1, .int x1), (2, .int x2), (3, .int x3), (4, .int x4), (5, .int x5)] [] _
  unfold c_M_feed
  refine x_grd ?_
  refine x_aload_nR (pc := 0) (a := this) 0 rfl rfl dX10_feed_0 ?_
  refine x_iconst (pc := 1) (v := 0) (by decide) dX10_feed_1 ?_
  refine x_pI (pc := 2) fi_X10_1 (fun z => absurd z (by decide)) dX10_feed_2 ?_
  intro h1
  refine x_aload_nR (pc := 5) (a := this) 0 rfl rfl dX10_feed_5 ?_
  refine x_getI (pc := 6) fi_X10_11 dX10_feed_6 ?_
  intro v2
  refine x_bipush (pc := 9) (v := 20) (by decide) dX10_feed_9 ?_
  refine x_iadd (pc := 11) dX10_feed_11 ?_
  refine x_sipush (pc := 12) (v := 940) (by decide) dX10_feed_12 ?_
  refine x_icmp_le (pc := 15) 20 (by decide) dX10_feed_15 ?_ ?_
  · refine x_aload_nR (pc := 20) (a := this) 0 rfl rfl dX10_feed_20 ?_
    refine x_iload_n (pc := 21) 1 rfl rfl dX10_feed_21 ?_
    refine x_callV (pc := 22) (As := [.int x1]) (rest := []) (lev' := 1) si_X10_14 (m_M_come h1 this x1) (fun z e => grd1 e) rfl rfl (by decide) (cat4 (Nat.le_of_ble_eq_true rfl)) dX10_feed_22 (kV (fun h3 => ?_)) xNo
    refine x_aload_nR (pc := 25) (a := this) 0 rfl rfl dX10_feed_25 ?_
    refine x_iload_n (pc := 26) 2 rfl rfl dX10_feed_26 ?_
    refine x_callV (pc := 27) (As := [.int x2]) (rest := []) (lev' := 1) si_X10_14 (m_M_come h3 this x2) (fun z e => grd1 e) rfl rfl (by decide) (cat4 (Nat.le_of_ble_eq_true rfl)) dX10_feed_27 (kV (fun h4 => ?_)) xNo
    refine x_aload_nR (pc := 30) (a := this) 0 rfl rfl dX10_feed_30 ?_
    refine x_iload_n (pc := 31) 3 rfl rfl dX10_feed_31 ?_
    refine x_callV (pc := 32) (As := [.int x3]) (rest := []) (lev' := 1) si_X10_14 (m_M_come h4 this x3) (fun z e => grd1 e) rfl rfl (by decide) (cat4 (Nat.le_of_ble_eq_true rfl)) dX10_feed_32 (kV (fun h5 => ?_)) xNo
    refine x_aload_nR (pc := 35) (a := this) 0 rfl rfl dX10_feed_35 ?_
    refine x_iload (pc := 36) 4 rfl dX10_feed_36 ?_
    refine x_callV (pc := 38) (As := [.int x4]) (rest := []) (lev' := 1) si_X10_14 (m_M_come h5 this x4) (fun z e => grd1 e) rfl rfl (by decide) (cat4 (Nat.le_of_ble_eq_true rfl)) dX10_feed_38 (kV (fun h6 => ?_)) xNo
    refine x_aload_nR (pc := 41) (a := this) 0 rfl rfl dX10_feed_41 ?_
    refine x_iload (pc := 42) 5 rfl dX10_feed_42 ?_
    refine x_callV (pc := 44) (As := [.int x5]) (rest := []) (lev' := 1) si_X10_14 (m_M_come h6 this x5) (fun z e => grd1 e) rfl rfl (by decide) (cat4 (Nat.le_of_ble_eq_true rfl)) dX10_feed_44 (kV (fun h7 => ?_)) xNo
    refine x_aload_nR (pc := 47) (a := this) 0 rfl rfl dX10_feed_47 ?_
    refine x_getI (pc := 48) fi_X10_11 dX10_feed_48 ?_
    intro v8
    exact x_iret (pc := 51) dX10_feed_51
  · refine x_iconst (pc := 18) (v := (-1)) (by decide) dX10_feed_18 ?_
    exact x_iret (pc := 19) dX10_feed_19
abbrev Y_M_end : Yx := (RX10, cX10_end, 2, 1, (some .boolean), [], false)
def c_M_end (h : PH) (this : Nat) (x1 : Int32) : Option RH :=
  grd h this [8] (
  pI h this [8] 0 (0 : Int32) fun h1 =>
  if x1 < 0 then
    rZ (0 : Int32) h1
  else
    gI h1 this [8] 2 fun v2 =>
    if x1 ≤ v2 then
      pI h1 this [8] 2 x1 fun h3 =>
      rZ (1 : Int32) h3
    else
      rZ (0 : Int32) h1)
set_option maxHeartbeats 4000000 in
theorem m_M_end (h : PH) (this : Nat) (x1 : Int32) : MM yX10_end (ws_ yX10_end cX10_end 2 (some .boolean)) 1 [.ref this, .int x1] h (c_M_end h this x1) := by
  refine MM.of (by decide) rfl (by decide) (Nat.le_of_ble_eq_true rfl) (own := RX10) (cc := cX10_end) (maxL := 2) (lev := 1) (rt := (some .boolean)) (ini := false) ?_
  show Sim Y_M_end h 0 [(0, .ref this), (1, .int x1)] [] _
  unfold c_M_end
  refine x_grd ?_
  refine x_aload_nR (pc := 0) (a := this) 0 rfl rfl dX10_end_0 ?_
  refine x_iconst (pc := 1) (v := 0) (by decide) dX10_end_1 ?_
  refine x_pI (pc := 2) fi_X10_1 (fun z => absurd z (by decide)) dX10_end_2 ?_
  intro h1
  refine x_iload_n (pc := 5) 1 rfl rfl dX10_end_5 ?_
  refine x_if_lt (pc := 6) 17 (by decide) dX10_end_6 ?_ ?_
  · refine x_iconst (pc := 17) (v := 0) (by decide) dX10_end_17 ?_
    exact x_zret (pc := 18) dX10_end_18
  · refine x_iload_n (pc := 9) 1 rfl rfl dX10_end_9 ?_
    refine x_aload_nR (pc := 10) (a := this) 0 rfl rfl dX10_end_10 ?_
    refine x_getI (pc := 11) fi_X10_11 dX10_end_11 ?_
    intro v2
    refine x_icmp_le (pc := 14) 19 (by decide) dX10_end_14 ?_ ?_
    · refine x_aload_nR (pc := 19) (a := this) 0 rfl rfl dX10_end_19 ?_
      refine x_iload_n (pc := 20) 1 rfl rfl dX10_end_20 ?_
      refine x_pI (pc := 21) fi_X10_11 (fun z => absurd z (by decide)) dX10_end_21 ?_
      intro h3
      refine x_iconst (pc := 24) (v := 1) (by decide) dX10_end_24 ?_
      exact x_zret (pc := 25) dX10_end_25
    · refine x_iconst (pc := 17) (v := 0) (by decide) dX10_end_17 ?_
      exact x_zret (pc := 18) dX10_end_18
theorem fi_X10_98 : FI RX10 98 [8] 14 (.array .int) true true := (fi_c ci_8 (by decide) rfl rfl (Or.inl q1700) (Or.inl rfl) (fun _ _ => rfl) fi_n)
theorem fi_X10_101 : FI RX10 101 [8] 15 (.array .int) true true := (fi_c ci_8 (by decide) rfl rfl (Or.inl q1701) (Or.inl rfl) (fun _ _ => rfl) fi_n)
theorem fi_X10_104 : FI RX10 104 [8] 16 (.array .int) true true := (fi_c ci_8 (by decide) rfl rfl (Or.inl q1702) (Or.inl rfl) (fun _ _ => rfl) fi_n)
theorem fi_X10_107 : FI RX10 107 [8] 17 (.array .int) true true := (fi_c ci_8 (by decide) rfl rfl (Or.inl q1703) (Or.inl rfl) (fun _ _ => rfl) fi_n)
theorem fi_X10_110 : FI RX10 110 [8] 18 (.array .int) true true := (fi_c ci_8 (by decide) rfl rfl (Or.inl q1704) (Or.inl rfl) (fun _ _ => rfl) fi_n)
theorem fi_X10_113 : FI RX10 113 [8] 19 (.array .int) true true := (fi_c ci_8 (by decide) rfl rfl (Or.inl q1705) (Or.inl rfl) (fun _ _ => rfl) fi_n)
theorem fi_X10_116 : FI RX10 116 [8] 20 (.array .long) true true := (fi_c ci_8 (by decide) rfl rfl (Or.inl q1706) (Or.inl rfl) (fun _ _ => rfl) fi_n)
theorem fi_X10_120 : FI RX10 120 [8] 21 (.array .long) true true := (fi_c ci_8 (by decide) rfl rfl (Or.inl q1707) (Or.inl rfl) (fun _ _ => rfl) fi_n)
theorem fi_X10_123 : FI RX10 123 [8] 22 (.array .long) true true := (fi_c ci_8 (by decide) rfl rfl (Or.inl q1708) (Or.inl rfl) (fun _ _ => rfl) fi_n)
theorem fi_X10_126 : FI RX10 126 [8] 23 (.array .boolean) true true := (fi_c ci_8 (by decide) rfl rfl (Or.inl q1709) (Or.inl rfl) (fun _ _ => rfl) fi_n)
theorem fi_X10_130 : FI RX10 130 [8] 27 (.array .int) true true := (fi_c ci_8 (by decide) rfl rfl (Or.inl q1713) (Or.inl rfl) (fun _ _ => rfl) fi_n)
theorem fi_X10_133 : FI RX10 133 [8] 30 (.array .int) true true := (fi_c ci_8 (by decide) rfl rfl (Or.inl q1716) (Or.inl rfl) (fun _ _ => rfl) fi_n)
theorem fi_X10_136 : FI RX10 136 [8] 31 (.array .int) true true := (fi_c ci_8 (by decide) rfl rfl (Or.inl q1717) (Or.inl rfl) (fun _ _ => rfl) fi_n)
theorem fi_X10_139 : FI RX10 139 [8] 34 (.array .int) true true := (fi_c ci_8 (by decide) rfl rfl (Or.inl q1720) (Or.inl rfl) (fun _ _ => rfl) fi_n)
abbrev Y_M_init : Yx := (RX10, cX10_init, 1, 1, none, [], true)
def c_M_init (h : PH) (this : Nat) : Option RH :=
  grd h this [8] (
  newA h 0 (940 : Int32) (.inl (fun _ => 0)) fun a1 h2 =>
  pQ h2 this [8] 1 (some a1) fun h3 =>
  newA h3 0 (6062 : Int32) (.inl (fun _ => 0)) fun a4 h5 =>
  pQ h5 this [8] 14 (some a4) fun h6 =>
  newA h6 0 (2607 : Int32) (.inl (fun _ => 0)) fun a7 h8 =>
  pQ h8 this [8] 15 (some a7) fun h9 =>
  newA h9 0 (12124 : Int32) (.inl (fun _ => 0)) fun a10 h11 =>
  pQ h11 this [8] 16 (some a10) fun h12 =>
  newA h12 0 (25704 : Int32) (.inl (fun _ => 0)) fun a13 h14 =>
  pQ h14 this [8] 17 (some a13) fun h15 =>
  newA h15 0 (3213 : Int32) (.inl (fun _ => 0)) fun a16 h17 =>
  pQ h17 this [8] 18 (some a16) fun h18 =>
  newA h18 0 (3213 : Int32) (.inl (fun _ => 0)) fun a19 h20 =>
  pQ h20 this [8] 19 (some a19) fun h21 =>
  newA h21 1 (4 : Int32) (.inr (.inl (fun _ => 0))) fun a22 h23 =>
  pQ h23 this [8] 20 (some a22) fun h24 =>
  newA h24 1 (4 : Int32) (.inr (.inl (fun _ => 0))) fun a25 h26 =>
  pQ h26 this [8] 21 (some a25) fun h27 =>
  newA h27 1 (8 : Int32) (.inr (.inl (fun _ => 0))) fun a28 h29 =>
  pQ h29 this [8] 22 (some a28) fun h30 =>
  newA h30 3 (2 : Int32) (.inl (fun _ => 0)) fun a31 h32 =>
  pQ h32 this [8] 23 (some a31) fun h33 =>
  newA h33 0 (600 : Int32) (.inl (fun _ => 0)) fun a34 h35 =>
  pQ h35 this [8] 27 (some a34) fun h36 =>
  newA h36 0 (160 : Int32) (.inl (fun _ => 0)) fun a37 h38 =>
  pQ h38 this [8] 30 (some a37) fun h39 =>
  newA h39 0 (4 : Int32) (.inl (fun _ => 0)) fun a40 h41 =>
  pQ h41 this [8] 31 (some a40) fun h42 =>
  newA h42 0 (240 : Int32) (.inl (fun _ => 0)) fun a43 h44 =>
  pQ h44 this [8] 34 (some a43) fun h45 =>
  gQ h45 this [8] 14 fun v46 =>
  nn v46 fun a47 =>
  stI h45 a47 (1 : Int32) (8 : Int32) fun h49 =>
  rV h49)
set_option maxHeartbeats 4000000 in
theorem m_M_init (h : PH) (this : Nat) : MM yX10_init (ws_ yX10_init cX10_init 1 none) 1 [.ref this] h (c_M_init h this) := by
  refine MM.of (by decide) rfl (by decide) (Nat.le_of_ble_eq_true rfl) (own := RX10) (cc := cX10_init) (maxL := 1) (lev := 1) (rt := none) (ini := true) ?_
  show Sim Y_M_init h 0 [(0, .ref this)] [] _
  unfold c_M_init
  refine x_grd ?_
  refine x_aload_nR (pc := 0) (a := this) 0 rfl rfl dX10_init_0 ?_
  refine x_objInit (pc := 1) q1685 (by omega) (by decide) dX10_init_1 ?_
  refine x_aload_nR (pc := 4) (a := this) 0 rfl rfl dX10_init_4 ?_
  refine x_sipush (pc := 5) (v := 940) (by decide) dX10_init_5 ?_
  refine x_newaI (pc := 8) dX10_init_8 ?_
  intro a1 h2
  refine x_pQA (pc := 10) (v := (some a1)) fi_X10_7 (fun _ => rfl) dX10_init_10 ?_
  intro h3
  refine x_aload_nR (pc := 13) (a := this) 0 rfl rfl dX10_init_13 ?_
  refine x_sipush (pc := 14) (v := 6062) (by decide) dX10_init_14 ?_
  refine x_newaI (pc := 17) dX10_init_17 ?_
  intro a4 h5
  refine x_pQA (pc := 19) (v := (some a4)) fi_X10_98 (fun _ => rfl) dX10_init_19 ?_
  intro h6
  refine x_aload_nR (pc := 22) (a := this) 0 rfl rfl dX10_init_22 ?_
  refine x_sipush (pc := 23) (v := 2607) (by decide) dX10_init_23 ?_
  refine x_newaI (pc := 26) dX10_init_26 ?_
  intro a7 h8
  refine x_pQA (pc := 28) (v := (some a7)) fi_X10_101 (fun _ => rfl) dX10_init_28 ?_
  intro h9
  refine x_aload_nR (pc := 31) (a := this) 0 rfl rfl dX10_init_31 ?_
  refine x_sipush (pc := 32) (v := 12124) (by decide) dX10_init_32 ?_
  refine x_newaI (pc := 35) dX10_init_35 ?_
  intro a10 h11
  refine x_pQA (pc := 37) (v := (some a10)) fi_X10_104 (fun _ => rfl) dX10_init_37 ?_
  intro h12
  refine x_aload_nR (pc := 40) (a := this) 0 rfl rfl dX10_init_40 ?_
  refine x_sipush (pc := 41) (v := 25704) (by decide) dX10_init_41 ?_
  refine x_newaI (pc := 44) dX10_init_44 ?_
  intro a13 h14
  refine x_pQA (pc := 46) (v := (some a13)) fi_X10_107 (fun _ => rfl) dX10_init_46 ?_
  intro h15
  refine x_aload_nR (pc := 49) (a := this) 0 rfl rfl dX10_init_49 ?_
  refine x_sipush (pc := 50) (v := 3213) (by decide) dX10_init_50 ?_
  refine x_newaI (pc := 53) dX10_init_53 ?_
  intro a16 h17
  refine x_pQA (pc := 55) (v := (some a16)) fi_X10_110 (fun _ => rfl) dX10_init_55 ?_
  intro h18
  refine x_aload_nR (pc := 58) (a := this) 0 rfl rfl dX10_init_58 ?_
  refine x_sipush (pc := 59) (v := 3213) (by decide) dX10_init_59 ?_
  refine x_newaI (pc := 62) dX10_init_62 ?_
  intro a19 h20
  refine x_pQA (pc := 64) (v := (some a19)) fi_X10_113 (fun _ => rfl) dX10_init_64 ?_
  intro h21
  refine x_aload_nR (pc := 67) (a := this) 0 rfl rfl dX10_init_67 ?_
  refine x_iconst (pc := 68) (v := 4) (by decide) dX10_init_68 ?_
  refine x_newaL (pc := 69) dX10_init_69 ?_
  intro a22 h23
  refine x_pQA (pc := 71) (v := (some a22)) fi_X10_116 (fun _ => rfl) dX10_init_71 ?_
  intro h24
  refine x_aload_nR (pc := 74) (a := this) 0 rfl rfl dX10_init_74 ?_
  refine x_iconst (pc := 75) (v := 4) (by decide) dX10_init_75 ?_
  refine x_newaL (pc := 76) dX10_init_76 ?_
  intro a25 h26
  refine x_pQA (pc := 78) (v := (some a25)) fi_X10_120 (fun _ => rfl) dX10_init_78 ?_
  intro h27
  refine x_aload_nR (pc := 81) (a := this) 0 rfl rfl dX10_init_81 ?_
  refine x_bipush (pc := 82) (v := 8) (by decide) dX10_init_82 ?_
  refine x_newaL (pc := 84) dX10_init_84 ?_
  intro a28 h29
  refine x_pQA (pc := 86) (v := (some a28)) fi_X10_123 (fun _ => rfl) dX10_init_86 ?_
  intro h30
  refine x_aload_nR (pc := 89) (a := this) 0 rfl rfl dX10_init_89 ?_
  refine x_iconst (pc := 90) (v := 2) (by decide) dX10_init_90 ?_
  refine x_newaZ (pc := 91) dX10_init_91 ?_
  intro a31 h32
  refine x_pQA (pc := 93) (v := (some a31)) fi_X10_126 (fun _ => rfl) dX10_init_93 ?_
  intro h33
  refine x_aload_nR (pc := 96) (a := this) 0 rfl rfl dX10_init_96 ?_
  refine x_sipush (pc := 97) (v := 600) (by decide) dX10_init_97 ?_
  refine x_newaI (pc := 100) dX10_init_100 ?_
  intro a34 h35
  refine x_pQA (pc := 102) (v := (some a34)) fi_X10_130 (fun _ => rfl) dX10_init_102 ?_
  intro h36
  refine x_aload_nR (pc := 105) (a := this) 0 rfl rfl dX10_init_105 ?_
  refine x_sipush (pc := 106) (v := 160) (by decide) dX10_init_106 ?_
  refine x_newaI (pc := 109) dX10_init_109 ?_
  intro a37 h38
  refine x_pQA (pc := 111) (v := (some a37)) fi_X10_133 (fun _ => rfl) dX10_init_111 ?_
  intro h39
  refine x_aload_nR (pc := 114) (a := this) 0 rfl rfl dX10_init_114 ?_
  refine x_iconst (pc := 115) (v := 4) (by decide) dX10_init_115 ?_
  refine x_newaI (pc := 116) dX10_init_116 ?_
  intro a40 h41
  refine x_pQA (pc := 118) (v := (some a40)) fi_X10_136 (fun _ => rfl) dX10_init_118 ?_
  intro h42
  refine x_aload_nR (pc := 121) (a := this) 0 rfl rfl dX10_init_121 ?_
  refine x_sipush (pc := 122) (v := 240) (by decide) dX10_init_122 ?_
  refine x_newaI (pc := 125) dX10_init_125 ?_
  intro a43 h44
  refine x_pQA (pc := 127) (v := (some a43)) fi_X10_139 (fun _ => rfl) dX10_init_127 ?_
  intro h45
  refine x_aload_nR (pc := 130) (a := this) 0 rfl rfl dX10_init_130 ?_
  refine x_getQ (pc := 131) fi_X10_98 dX10_init_131 ?_
  intro v46
  refine x_iconst (pc := 134) (v := 1) (by decide) dX10_init_134 ?_
  refine x_bipush (pc := 135) (v := 8) (by decide) dX10_init_135 ?_
  refine x_nn (fun a47 e48 => ?_)
  subst e48
  refine x_iast (pc := 137) dX10_init_137 ?_
  intro h49
  exact x_vret (pc := 138) dX10_init_138
abbrev Y_M_take : Yx := (RX10, cX10_take, 2, 1, (some .int), [], false)
def c_M_take (h : PH) (this : Nat) : Option RH :=
  grd h this [8] (
  gI h this [8] 2 fun v1 =>
  pI h this [8] 2 (0 : Int32) fun h2 =>
  rI v1 h2)
set_option maxHeartbeats 4000000 in
theorem m_M_take (h : PH) (this : Nat) : MM yX10_take (ws_ yX10_take cX10_take 2 (some .int)) 1 [.ref this] h (c_M_take h this) := by
  refine MM.of (by decide) rfl (by decide) (Nat.le_of_ble_eq_true rfl) (own := RX10) (cc := cX10_take) (maxL := 2) (lev := 1) (rt := (some .int)) (ini := false) ?_
  show Sim Y_M_take h 0 [(0, .ref this)] [] _
  unfold c_M_take
  refine x_grd ?_
  refine x_aload_nR (pc := 0) (a := this) 0 rfl rfl dX10_take_0 ?_
  refine x_getI (pc := 1) fi_X10_11 dX10_take_1 ?_
  intro v1
  refine x_istore_n (pc := 4) (lv' := [(1, .int v1), (0, .ref this)]) rfl (by decide) rfl dX10_take_4 ?_
  refine x_aload_nR (pc := 5) (a := this) 1 rfl rfl dX10_take_5 ?_
  refine x_iconst (pc := 6) (v := 0) (by decide) dX10_take_6 ?_
  refine x_pI (pc := 7) fi_X10_11 (fun z => absurd z (by decide)) dX10_take_7 ?_
  intro h2
  refine x_iload_n (pc := 10) 0 rfl rfl dX10_take_10 ?_
  exact x_iret (pc := 11) dX10_take_11
abbrev Y_M_isLetter : Yx := (RX10, cX10_isLetter, 1, 1, (some .boolean), [], false)
def c_M_isLetter (h : PH) (x0 : Int32) : Option RH :=
  if x0 < (97 : Int32) then
    rZ (0 : Int32) h
  else
    if (122 : Int32) < x0 then
      rZ (0 : Int32) h
    else
      rZ (1 : Int32) h
set_option maxHeartbeats 4000000 in
theorem m_M_isLetter (h : PH) (x0 : Int32) : MM yX10_isLetter (ws_ yX10_isLetter cX10_isLetter 1 (some .boolean)) 1 [.int x0] h (c_M_isLetter h x0) := by
  refine MM.of (by decide) rfl (by decide) (Nat.le_of_ble_eq_true rfl) (own := RX10) (cc := cX10_isLetter) (maxL := 1) (lev := 1) (rt := (some .boolean)) (ini := false) ?_
  show Sim Y_M_isLetter h 0 [(0, .int x0)] [] _
  unfold c_M_isLetter
  refine x_iload_n (pc := 0) 0 rfl rfl dX10_isLetter_0 ?_
  refine x_bipush (pc := 1) (v := 97) (by decide) dX10_isLetter_1 ?_
  refine x_icmp_lt (pc := 3) 16 (by decide) dX10_isLetter_3 ?_ ?_
  · refine x_iconst (pc := 16) (v := 0) (by decide) dX10_isLetter_16 ?_
    exact x_zret (pc := 17) dX10_isLetter_17
  · refine x_iload_n (pc := 6) 0 rfl rfl dX10_isLetter_6 ?_
    refine x_bipush (pc := 7) (v := 122) (by decide) dX10_isLetter_7 ?_
    refine x_icmp_gt (pc := 9) 16 (by decide) dX10_isLetter_9 ?_ ?_
    · refine x_iconst (pc := 16) (v := 0) (by decide) dX10_isLetter_16 ?_
      exact x_zret (pc := 17) dX10_isLetter_17
    · refine x_iconst (pc := 12) (v := 1) (by decide) dX10_isLetter_12 ?_
      refine x_goto (pc := 13) 17 (by decide) dX10_isLetter_13 ?_
      exact x_zret (pc := 17) dX10_isLetter_17
abbrev Y_M_isDigit : Yx := (RX10, cX10_isDigit, 1, 1, (some .boolean), [], false)
def c_M_isDigit (h : PH) (x0 : Int32) : Option RH :=
  if x0 < (48 : Int32) then
    rZ (0 : Int32) h
  else
    if (57 : Int32) < x0 then
      rZ (0 : Int32) h
    else
      rZ (1 : Int32) h
set_option maxHeartbeats 4000000 in
theorem m_M_isDigit (h : PH) (x0 : Int32) : MM yX10_isDigit (ws_ yX10_isDigit cX10_isDigit 1 (some .boolean)) 1 [.int x0] h (c_M_isDigit h x0) := by
  refine MM.of (by decide) rfl (by decide) (Nat.le_of_ble_eq_true rfl) (own := RX10) (cc := cX10_isDigit) (maxL := 1) (lev := 1) (rt := (some .boolean)) (ini := false) ?_
  show Sim Y_M_isDigit h 0 [(0, .int x0)] [] _
  unfold c_M_isDigit
  refine x_iload_n (pc := 0) 0 rfl rfl dX10_isDigit_0 ?_
  refine x_bipush (pc := 1) (v := 48) (by decide) dX10_isDigit_1 ?_
  refine x_icmp_lt (pc := 3) 16 (by decide) dX10_isDigit_3 ?_ ?_
  · refine x_iconst (pc := 16) (v := 0) (by decide) dX10_isDigit_16 ?_
    exact x_zret (pc := 17) dX10_isDigit_17
  · refine x_iload_n (pc := 6) 0 rfl rfl dX10_isDigit_6 ?_
    refine x_bipush (pc := 7) (v := 57) (by decide) dX10_isDigit_7 ?_
    refine x_icmp_gt (pc := 9) 16 (by decide) dX10_isDigit_9 ?_ ?_
    · refine x_iconst (pc := 16) (v := 0) (by decide) dX10_isDigit_16 ?_
      exact x_zret (pc := 17) dX10_isDigit_17
    · refine x_iconst (pc := 12) (v := 1) (by decide) dX10_isDigit_12 ?_
      refine x_goto (pc := 13) 17 (by decide) dX10_isDigit_13 ?_
      exact x_zret (pc := 17) dX10_isDigit_17
theorem fi_X10_18 : FI RX10 18 [8] 3 .int false true := (fi_c ci_8 (by decide) rfl rfl (Or.inl q1689) (Or.inl rfl) (fun h => absurd h (by decide)) fi_n)
abbrev Y_M_tapeAt : Yx := (RX10, cX10_tapeAt, 2, 1, (some .int), [], false)
def c_M_tapeAt (h : PH) (this : Nat) (x1 : Int32) : Option RH :=
  grd h this [8] (
  gI h this [8] 3 fun v1 =>
  if v1 ≤ x1 then
    rI (0 : Int32) h
  else
    gQ h this [8] 1 fun v2 =>
    nn v2 fun a3 =>
    ldI h a3 0 x1 fun v5 =>
    rI v5 h)
set_option maxHeartbeats 4000000 in
theorem m_M_tapeAt (h : PH) (this : Nat) (x1 : Int32) : MM yX10_tapeAt (ws_ yX10_tapeAt cX10_tapeAt 2 (some .int)) 1 [.ref this, .int x1] h (c_M_tapeAt h this x1) := by
  refine MM.of (by decide) rfl (by decide) (Nat.le_of_ble_eq_true rfl) (own := RX10) (cc := cX10_tapeAt) (maxL := 2) (lev := 1) (rt := (some .int)) (ini := false) ?_
  show Sim Y_M_tapeAt h 0 [(0, .ref this), (1, .int x1)] [] _
  unfold c_M_tapeAt
  refine x_grd ?_
  refine x_iload_n (pc := 0) 1 rfl rfl dX10_tapeAt_0 ?_
  refine x_aload_nR (pc := 1) (a := this) 0 rfl rfl dX10_tapeAt_1 ?_
  refine x_getI (pc := 2) fi_X10_18 dX10_tapeAt_2 ?_
  intro v1
  refine x_icmp_ge (pc := 5) 17 (by decide) dX10_tapeAt_5 ?_ ?_
  · refine x_iconst (pc := 17) (v := 0) (by decide) dX10_tapeAt_17 ?_
    exact x_iret (pc := 18) dX10_tapeAt_18
  · refine x_aload_nR (pc := 8) (a := this) 0 rfl rfl dX10_tapeAt_8 ?_
    refine x_getQ (pc := 9) fi_X10_7 dX10_tapeAt_9 ?_
    intro v2
    refine x_iload_n (pc := 12) 1 rfl rfl dX10_tapeAt_12 ?_
    refine x_nn (fun a3 e4 => ?_)
    subst e4
    refine x_iald (pc := 13) dX10_tapeAt_13 ?_
    intro v5
    refine x_goto (pc := 14) 18 (by decide) dX10_tapeAt_14 ?_
    exact x_iret (pc := 18) dX10_tapeAt_18
