set_option maxRecDepth 100000
theorem si_X10_295 : SiS RX10 295 yX10_areThere cX10_areThere 3 (some .boolean) 3 := ⟨lw_S q2113 q2114 q121 q2115, ⟨by decide, by decide, by decide +kernel⟩, by decide⟩
theorem si_X10_292 : SiV RX10 292 8 yX10_whyPut cX10_whyPut 4 (some .int) 3 := ⟨_, _, _, ci_8.1, by decide, lw_V q2109 q2111 qs79 q121 q2112, ⟨rfl, by decide, by decide, by decide +kernel⟩, by decide⟩
abbrev Y_M_refusal : Yx := (RX10, cX10_refusal, 5, 3, (some .int), [], false)
def c_M_refusal_j82 (h : PH) (this : Nat) (x2 : Int32) (x3 : Int32) (x4 : Int32) : Option RH :=
  hI (c_M_sizeOf h this x2) noX fun v2 h1 =>
  hI (c_M_areThere h1 x3 x4 v2) noX fun v4 h3 =>
  if v4 = 0 then
    rI (1 : Int32) h3
  else
    rI (0 : Int32) h3
def c_M_refusal (h : PH) (this : Nat) (x1 : Int32) (x2 : Int32) (x3 : Int32) (x4 : Int32) : Option RH :=
  grd h this [8] (
  if x1 = 0 then
    hI (c_M_whyPut h this x2 x3 (1 : Int32)) noX fun v2 h1 =>
    rI v2 h1
  else
  if x1 = 1 then
    hI (c_M_isThere h this x2 x3) noX fun v4 h3 =>
    if v4 = 0 then
      rI (1 : Int32) h3
    else
      hI (c_M_bitOf h3 this x2 x3) noX fun v6 h5 =>
      if v6 = x4 then
        rI (2 : Int32) h5
      else
        rI (0 : Int32) h5
  else
  if x1 = 2 then
    c_M_refusal_j82 h this x2 x3 x4
  else
  if x1 = 3 then
    c_M_refusal_j82 h this x2 x3 x4
  else
  if x1 = 4 then
    hI (c_M_sizeOf h this x4) noX fun v8 h7 =>
    if v8 = 0 then
      rI (1 : Int32) h7
    else
      hI (c_M_sizeOf h7 this x2) noX fun v10 h9 =>
      hI (c_M_sizeOf h9 this x4) noX fun v12 h11 =>
      if (v10 + v12) ≤ (600 : Int32) then
        rI (0 : Int32) h11
      else
        rI (2 : Int32) h11
  else
  if x1 = 5 then
    hI (c_M_isThere h this x2 x3) noX fun v14 h13 =>
    if v14 = 0 then
      rI (1 : Int32) h13
    else
      hI (c_M_sizeOf h13 this x4) noX fun v16 h15 =>
      hI (c_M_sizeOf h15 this x2) noX fun v18 h17 =>
      if ((v16 + v18) - x3) ≤ (600 : Int32) then
        rI (0 : Int32) h17
      else
        rI (2 : Int32) h17
  else
  if x1 = 6 then
    gQ h this [8] 14 fun v19 =>
    nn v19 fun a20 =>
    ldI h a20 0 (2615 : Int32) fun v22 =>
    hI (c_M_isIn h x3 (0 : Int32) v22) noX fun v24 h23 =>
    if v24 = 0 then
      rI (1 : Int32) h23
    else
      gQ h23 this [8] 14 fun v25 =>
      nn v25 fun a26 =>
      ldI h23 a26 0 (2615 : Int32) fun v28 =>
      if v28 = (200 : Int32) then
        rI (2 : Int32) h23
      else
        rI (0 : Int32) h23
  else
  gQ h this [8] 14 fun v29 =>
  nn v29 fun a30 =>
  ldI h a30 0 (2615 : Int32) fun v32 =>
  hI (c_M_areThere h x3 x4 v32) noX fun v34 h33 =>
  if v34 = 0 then
    rI (1 : Int32) h33
  else
    rI (0 : Int32) h33)
set_option maxHeartbeats 4000000 in
theorem w_M_refusal_j82 (h : PH) (this : Nat) (x2 : Int32) (x3 : Int32) (x4 : Int32) : Sim Y_M_refusal h 82 [(0, .ref this), (2, .int x2), (3, .int x3), (4, .int x4)] [] (c_M_refusal_j82 h this x2 x3 x4) := by
  unfold c_M_refusal_j82
  refine x_iload_n (pc := 82) 2 rfl rfl dX10_refusal_82 ?_
  refine x_iload (pc := 83) 3 rfl dX10_refusal_83 ?_
  refine x_aload_nR (pc := 85) (a := this) 0 rfl rfl dX10_refusal_85 ?_
  refine x_iload_n (pc := 86) 1 rfl rfl dX10_refusal_86 ?_
  refine x_callV (pc := 87) (As := [.int x2]) (rest := [.int x4, .int x3]) (lev' := 1) si_X10_199 (m_M_sizeOf h this x2) (fun z e => grd1 e) rfl rfl (by decide) (cat4 (Nat.le_of_ble_eq_true rfl)) dX10_refusal_87 (kI (fun v2 h1 => ?_)) xNo
  refine x_callS (pc := 90) (As := [.int x3, .int x4, .int v2]) (rest := []) (lev' := 1) si_X10_295 (m_M_areThere h1 x3 x4 v2) rfl rfl (by decide) (cat4 (Nat.le_of_ble_eq_true rfl)) dX10_refusal_90 (kI (fun v4 h3 => ?_)) xNo
  refine x_if_eq (pc := 93) 100 (by decide) dX10_refusal_93 ?_ ?_
  · refine x_iconst (pc := 100) (v := 1) (by decide) dX10_refusal_100 ?_
    exact x_iret (pc := 101) dX10_refusal_101
  · refine x_iconst (pc := 96) (v := 0) (by decide) dX10_refusal_96 ?_
    refine x_goto (pc := 97) 101 (by decide) dX10_refusal_97 ?_
    exact x_iret (pc := 101) dX10_refusal_101
set_option maxHeartbeats 4000000 in
theorem m_M_refusal (h : PH) (this : Nat) (x1 : Int32) (x2 : Int32) (x3 : Int32) (x4 : Int32) : MM yX10_refusal (ws_ yX10_refusal cX10_refusal 5 (some .int)) 3 [.ref this, .int x1, .int x2, .int x3, .int x4] h (c_M_refusal h this x1 x2 x3 x4) := by
  refine MM.of (by decide) rfl (by decide) (Nat.le_of_ble_eq_true rfl) (own := RX10) (cc := cX10_refusal) (maxL := 5) (lev := 3) (rt := (some .int)) (ini := false) ?_
  show Sim Y_M_refusal h 0 [(0, .ref this), (1, .int x1), (2, .int x2), (3, .int x3), (4, .int x4)] [] _
  unfold c_M_refusal
  refine x_grd ?_
  refine x_iload_n (pc := 0) 1 rfl rfl dX10_refusal_0 ?_
  refine x_sw0 (pc := 1) (lo := 0) ?_
  refine x_sw (pc := 1) (v := 0) 44 dX10_refusal_1 rfl (by decide) (by decide) rfl (by decide) ?_ ?_
  · refine x_aload_nR (pc := 44) (a := this) 0 rfl rfl dX10_refusal_44 ?_
    refine x_iload_n (pc := 45) 2 rfl rfl dX10_refusal_45 ?_
    refine x_iload_n (pc := 46) 3 rfl rfl dX10_refusal_46 ?_
    refine x_iconst (pc := 47) (v := 1) (by decide) dX10_refusal_47 ?_
    refine x_callV (pc := 48) (As := [.int x2, .int x3, .int (1 : Int32)]) (rest := []) (lev' := 2) si_X10_292 (m_M_whyPut h this x2 x3 (1 : Int32)) (fun z e => grd1 e) rfl rfl (by decide) (cat4 (Nat.le_of_ble_eq_true rfl)) dX10_refusal_48 (kI (fun v2 h1 => ?_)) xNo
    exact x_iret (pc := 51) dX10_refusal_51
  refine x_sw (pc := 1) (v := 1) 52 dX10_refusal_1 rfl (by decide) (by decide) rfl (by decide) ?_ ?_
  · refine x_aload_nR (pc := 52) (a := this) 0 rfl rfl dX10_refusal_52 ?_
    refine x_iload_n (pc := 53) 2 rfl rfl dX10_refusal_53 ?_
    refine x_iload_n (pc := 54) 3 rfl rfl dX10_refusal_54 ?_
    refine x_callV (pc := 55) (As := [.int x2, .int x3]) (rest := []) (lev' := 2) si_X10_218 (m_M_isThere h this x2 x3) (fun z e => grd1 e) rfl rfl (by decide) (cat4 (Nat.le_of_ble_eq_true rfl)) dX10_refusal_55 (kI (fun v4 h3 => ?_)) xNo
    refine x_if_ne (pc := 58) 65 (by decide) dX10_refusal_58 ?_ ?_
    · refine x_aload_nR (pc := 65) (a := this) 0 rfl rfl dX10_refusal_65 ?_
      refine x_iload_n (pc := 66) 2 rfl rfl dX10_refusal_66 ?_
      refine x_iload_n (pc := 67) 3 rfl rfl dX10_refusal_67 ?_
      refine x_callV (pc := 68) (As := [.int x2, .int x3]) (rest := []) (lev' := 1) si_X10_212 (m_M_bitOf h3 this x2 x3) (fun z e => grd1 e) rfl rfl (by decide) (cat4 (Nat.le_of_ble_eq_true rfl)) dX10_refusal_68 (kI (fun v6 h5 => ?_)) xNo
      refine x_iload (pc := 71) 4 rfl dX10_refusal_71 ?_
      refine x_icmp_ne (pc := 73) 80 (by decide) dX10_refusal_73 ?_ ?_
      · refine x_iconst (pc := 80) (v := 0) (by decide) dX10_refusal_80 ?_
        exact x_iret (pc := 81) dX10_refusal_81
      · refine x_iconst (pc := 76) (v := 2) (by decide) dX10_refusal_76 ?_
        refine x_goto (pc := 77) 81 (by decide) dX10_refusal_77 ?_
        exact x_iret (pc := 81) dX10_refusal_81
    · refine x_iconst (pc := 61) (v := 1) (by decide) dX10_refusal_61 ?_
      refine x_goto (pc := 62) 81 (by decide) dX10_refusal_62 ?_
      exact x_iret (pc := 81) dX10_refusal_81
  refine x_sw (pc := 1) (v := 2) 82 dX10_refusal_1 rfl (by decide) (by decide) rfl (by decide) ?_ ?_
  · refine Sim.lv [0, 2, 3, 4] rfl ?_
    exact w_M_refusal_j82 h this x2 x3 x4
  refine x_sw (pc := 1) (v := 3) 82 dX10_refusal_1 rfl (by decide) (by decide) rfl (by decide) ?_ ?_
  · refine Sim.lv [0, 2, 3, 4] rfl ?_
    exact w_M_refusal_j82 h this x2 x3 x4
  refine x_sw (pc := 1) (v := 4) 102 dX10_refusal_1 rfl (by decide) (by decide) rfl (by decide) ?_ ?_
  · refine x_aload_nR (pc := 102) (a := this) 0 rfl rfl dX10_refusal_102 ?_
    refine x_iload (pc := 103) 4 rfl dX10_refusal_103 ?_
    refine x_callV (pc := 105) (As := [.int x4]) (rest := []) (lev' := 1) si_X10_199 (m_M_sizeOf h this x4) (fun z e => grd1 e) rfl rfl (by decide) (cat4 (Nat.le_of_ble_eq_true rfl)) dX10_refusal_105 (kI (fun v8 h7 => ?_)) xNo
    refine x_if_ne (pc := 108) 115 (by decide) dX10_refusal_108 ?_ ?_
    · refine x_aload_nR (pc := 115) (a := this) 0 rfl rfl dX10_refusal_115 ?_
      refine x_iload_n (pc := 116) 2 rfl rfl dX10_refusal_116 ?_
      refine x_callV (pc := 117) (As := [.int x2]) (rest := []) (lev' := 1) si_X10_199 (m_M_sizeOf h7 this x2) (fun z e => grd1 e) rfl rfl (by decide) (cat4 (Nat.le_of_ble_eq_true rfl)) dX10_refusal_117 (kI (fun v10 h9 => ?_)) xNo
      refine x_aload_nR (pc := 120) (a := this) 0 rfl rfl dX10_refusal_120 ?_
      refine x_iload (pc := 121) 4 rfl dX10_refusal_121 ?_
      refine x_callV (pc := 123) (As := [.int x4]) (rest := [.int v10]) (lev' := 1) si_X10_199 (m_M_sizeOf h9 this x4) (fun z e => grd1 e) rfl rfl (by decide) (cat4 (Nat.le_of_ble_eq_true rfl)) dX10_refusal_123 (kI (fun v12 h11 => ?_)) xNo
      refine x_iadd (pc := 126) dX10_refusal_126 ?_
      refine x_sipush (pc := 127) (v := 600) (by decide) dX10_refusal_127 ?_
      refine x_icmp_le (pc := 130) 137 (by decide) dX10_refusal_130 ?_ ?_
      · refine x_iconst (pc := 137) (v := 0) (by decide) dX10_refusal_137 ?_
        exact x_iret (pc := 138) dX10_refusal_138
      · refine x_iconst (pc := 133) (v := 2) (by decide) dX10_refusal_133 ?_
        refine x_goto (pc := 134) 138 (by decide) dX10_refusal_134 ?_
        exact x_iret (pc := 138) dX10_refusal_138
    · refine x_iconst (pc := 111) (v := 1) (by decide) dX10_refusal_111 ?_
      refine x_goto (pc := 112) 138 (by decide) dX10_refusal_112 ?_
      exact x_iret (pc := 138) dX10_refusal_138
  refine x_sw (pc := 1) (v := 5) 139 dX10_refusal_1 rfl (by decide) (by decide) rfl (by decide) ?_ ?_
  · refine x_aload_nR (pc := 139) (a := this) 0 rfl rfl dX10_refusal_139 ?_
    refine x_iload_n (pc := 140) 2 rfl rfl dX10_refusal_140 ?_
    refine x_iload_n (pc := 141) 3 rfl rfl dX10_refusal_141 ?_
    refine x_callV (pc := 142) (As := [.int x2, .int x3]) (rest := []) (lev' := 2) si_X10_218 (m_M_isThere h this x2 x3) (fun z e => grd1 e) rfl rfl (by decide) (cat4 (Nat.le_of_ble_eq_true rfl)) dX10_refusal_142 (kI (fun v14 h13 => ?_)) xNo
    refine x_if_ne (pc := 145) 152 (by decide) dX10_refusal_145 ?_ ?_
    · refine x_aload_nR (pc := 152) (a := this) 0 rfl rfl dX10_refusal_152 ?_
      refine x_iload (pc := 153) 4 rfl dX10_refusal_153 ?_
      refine x_callV (pc := 155) (As := [.int x4]) (rest := []) (lev' := 1) si_X10_199 (m_M_sizeOf h13 this x4) (fun z e => grd1 e) rfl rfl (by decide) (cat4 (Nat.le_of_ble_eq_true rfl)) dX10_refusal_155 (kI (fun v16 h15 => ?_)) xNo
      refine x_aload_nR (pc := 158) (a := this) 0 rfl rfl dX10_refusal_158 ?_
      refine x_iload_n (pc := 159) 2 rfl rfl dX10_refusal_159 ?_
      refine x_callV (pc := 160) (As := [.int x2]) (rest := [.int v16]) (lev' := 1) si_X10_199 (m_M_sizeOf h15 this x2) (fun z e => grd1 e) rfl rfl (by decide) (cat4 (Nat.le_of_ble_eq_true rfl)) dX10_refusal_160 (kI (fun v18 h17 => ?_)) xNo
      refine x_iadd (pc := 163) dX10_refusal_163 ?_
      refine x_iload_n (pc := 164) 3 rfl rfl dX10_refusal_164 ?_
      refine x_isub (pc := 165) dX10_refusal_165 ?_
      refine x_sipush (pc := 166) (v := 600) (by decide) dX10_refusal_166 ?_
      refine x_icmp_le (pc := 169) 176 (by decide) dX10_refusal_169 ?_ ?_
      · refine x_iconst (pc := 176) (v := 0) (by decide) dX10_refusal_176 ?_
        exact x_iret (pc := 177) dX10_refusal_177
      · refine x_iconst (pc := 172) (v := 2) (by decide) dX10_refusal_172 ?_
        refine x_goto (pc := 173) 177 (by decide) dX10_refusal_173 ?_
        exact x_iret (pc := 177) dX10_refusal_177
    · refine x_iconst (pc := 148) (v := 1) (by decide) dX10_refusal_148 ?_
      refine x_goto (pc := 149) 177 (by decide) dX10_refusal_149 ?_
      exact x_iret (pc := 177) dX10_refusal_177
  refine x_sw (pc := 1) (v := 6) 178 dX10_refusal_1 rfl (by decide) (by decide) rfl (by decide) ?_ ?_
  · refine x_iload_n (pc := 178) 3 rfl rfl dX10_refusal_178 ?_
    refine x_iconst (pc := 179) (v := 0) (by decide) dX10_refusal_179 ?_
    refine x_aload_nR (pc := 180) (a := this) 0 rfl rfl dX10_refusal_180 ?_
    refine x_getQ (pc := 181) fi_X10_98 dX10_refusal_181 ?_
    intro v19
    refine x_sipush (pc := 184) (v := 2615) (by decide) dX10_refusal_184 ?_
    refine x_nn (fun a20 e21 => ?_)
    subst e21
    refine x_iald (pc := 187) dX10_refusal_187 ?_
    intro v22
    refine x_callS (pc := 188) (As := [.int x3, .int (0 : Int32), .int v22]) (rest := []) (lev' := 1) si_X10_75 (m_M_isIn h x3 (0 : Int32) v22) rfl rfl (by decide) (cat4 (Nat.le_of_ble_eq_true rfl)) dX10_refusal_188 (kI (fun v24 h23 => ?_)) xNo
    refine x_if_ne (pc := 191) 198 (by decide) dX10_refusal_191 ?_ ?_
    · refine x_aload_nR (pc := 198) (a := this) 0 rfl rfl dX10_refusal_198 ?_
      refine x_getQ (pc := 199) fi_X10_98 dX10_refusal_199 ?_
      intro v25
      refine x_sipush (pc := 202) (v := 2615) (by decide) dX10_refusal_202 ?_
      refine x_nn (fun a26 e27 => ?_)
      subst e27
      refine x_iald (pc := 205) dX10_refusal_205 ?_
      intro v28
      refine x_sipush (pc := 206) (v := 200) (by decide) dX10_refusal_206 ?_
      refine x_icmp_ne (pc := 209) 216 (by decide) dX10_refusal_209 ?_ ?_
      · refine x_iconst (pc := 216) (v := 0) (by decide) dX10_refusal_216 ?_
        exact x_iret (pc := 217) dX10_refusal_217
      · refine x_iconst (pc := 212) (v := 2) (by decide) dX10_refusal_212 ?_
        refine x_goto (pc := 213) 217 (by decide) dX10_refusal_213 ?_
        exact x_iret (pc := 217) dX10_refusal_217
    · refine x_iconst (pc := 194) (v := 1) (by decide) dX10_refusal_194 ?_
      refine x_goto (pc := 195) 217 (by decide) dX10_refusal_195 ?_
      exact x_iret (pc := 217) dX10_refusal_217
  refine x_swD (pc := 1) 218 dX10_refusal_1 (by decide) (by decide) ?_
  refine x_iload_n (pc := 218) 3 rfl rfl dX10_refusal_218 ?_
  refine x_iload (pc := 219) 4 rfl dX10_refusal_219 ?_
  refine x_aload_nR (pc := 221) (a := this) 0 rfl rfl dX10_refusal_221 ?_
  refine x_getQ (pc := 222) fi_X10_98 dX10_refusal_222 ?_
  intro v29
  refine x_sipush (pc := 225) (v := 2615) (by decide) dX10_refusal_225 ?_
  refine x_nn (fun a30 e31 => ?_)
  subst e31
  refine x_iald (pc := 228) dX10_refusal_228 ?_
  intro v32
  refine x_callS (pc := 229) (As := [.int x3, .int x4, .int v32]) (rest := []) (lev' := 1) si_X10_295 (m_M_areThere h x3 x4 v32) rfl rfl (by decide) (cat4 (Nat.le_of_ble_eq_true rfl)) dX10_refusal_229 (kI (fun v34 h33 => ?_)) xNo
  refine x_if_eq (pc := 232) 239 (by decide) dX10_refusal_232 ?_ ?_
  · refine x_iconst (pc := 239) (v := 1) (by decide) dX10_refusal_239 ?_
    exact x_iret (pc := 240) dX10_refusal_240
  · refine x_iconst (pc := 235) (v := 0) (by decide) dX10_refusal_235 ?_
    refine x_goto (pc := 236) 240 (by decide) dX10_refusal_236 ?_
    exact x_iret (pc := 240) dX10_refusal_240
abbrev Y_M_save : Yx := (RX10, cX10_save, 4, 1, none, [], false)
def c_M_save_l2 (r2 : PH → Nat → Nat → Int32 → Int32 → Option RH) (h : PH) (this : Nat) (x1 : Nat) (x2 : Int32) (x3 : Int32) : Option RH :=
  if (3213 : Int32) ≤ x3 then
    rV h
  else
    gQ h this [8] 14 fun v1 =>
    nn v1 fun a2 =>
    ldI h a2 0 ((2607 : Int32) + x3) fun v4 =>
    stI h x1 (x2 + x3) v4 fun h5 =>
    r2 h5 this x1 x2 (x3 + (1 : Int32))
def c_M_save (h : PH) (this : Nat) (x1 : Nat) (x2 : Int32) : Option RH :=
  grd h this [8] (
  itr (c_M_save_l2) (fun _ _ _ _ _ => none) FU h this x1 x2 (0 : Int32))
set_option maxHeartbeats 4000000 in
theorem w_M_save_l2 (r2 : PH → Nat → Nat → Int32 → Int32 → Option RH) (hr2 : ∀ (h : PH) (this : Nat) (x1 : Nat) (x2 : Int32) (x3 : Int32), Sim Y_M_save h 2 [(0, .ref this), (1, .ref x1), (2, .int x2), (3, .int x3)] [] (r2 h this x1 x2 x3)) (h : PH) (this : Nat) (x1 : Nat) (x2 : Int32) (x3 : Int32) : Sim Y_M_save h 2 [(0, .ref this), (1, .ref x1), (2, .int x2), (3, .int x3)] [] (c_M_save_l2 r2 h this x1 x2 x3) := by
  unfold c_M_save_l2
  refine x_iload_n (pc := 2) 3 rfl rfl dX10_save_2 ?_
  refine x_sipush (pc := 3) (v := 3213) (by decide) dX10_save_3 ?_
  refine x_icmp_ge (pc := 6) 30 (by decide) dX10_save_6 ?_ ?_
  · exact x_vret (pc := 30) dX10_save_30
  · refine x_aload_nR (pc := 9) (a := x1) 1 rfl rfl dX10_save_9 ?_
    refine x_iload_n (pc := 10) 2 rfl rfl dX10_save_10 ?_
    refine x_iload_n (pc := 11) 3 rfl rfl dX10_save_11 ?_
    refine x_iadd (pc := 12) dX10_save_12 ?_
    refine x_aload_nR (pc := 13) (a := this) 0 rfl rfl dX10_save_13 ?_
    refine x_getQ (pc := 14) fi_X10_98 dX10_save_14 ?_
    intro v1
    refine x_sipush (pc := 17) (v := 2607) (by decide) dX10_save_17 ?_
    refine x_iload_n (pc := 20) 3 rfl rfl dX10_save_20 ?_
    refine x_iadd (pc := 21) dX10_save_21 ?_
    refine x_nn (fun a2 e3 => ?_)
    subst e3
    refine x_iald (pc := 22) dX10_save_22 ?_
    intro v4
    refine x_iast (pc := 23) dX10_save_23 ?_
    intro h5
    refine x_iinc (pc := 24) (v := (1 : Int32)) (lv' := [(3, .int (x3 + (1 : Int32))), (0, .ref this), (1, .ref x1), (2, .int x2)]) 3 rfl (by decide) (by decide) rfl dX10_save_24 ?_
    refine x_goto (pc := 27) 2 (by decide) dX10_save_27 ?_
    refine Sim.lv [1, 2, 3, 0] rfl ?_
    exact hr2 h5 this x1 x2 (x3 + (1 : Int32))
set_option maxHeartbeats 4000000 in
theorem v_M_save_l2 : ∀ (n : Nat) (h : PH) (this : Nat) (x1 : Nat) (x2 : Int32) (x3 : Int32), Sim Y_M_save h 2 [(0, .ref this), (1, .ref x1), (2, .int x2), (3, .int x3)] [] (itr (c_M_save_l2) (fun _ _ _ _ _ => none) n h this x1 x2 x3)
  | 0, h, this, x1, x2, x3 => Sim.none
  | n + 1, h, this, x1, x2, x3 => w_M_save_l2 _ (v_M_save_l2 n) h this x1 x2 x3
set_option maxHeartbeats 4000000 in
theorem m_M_save (h : PH) (this : Nat) (x1 : Nat) (x2 : Int32) : MM yX10_save (ws_ yX10_save cX10_save 4 none) 1 [.ref this, .ref x1, .int x2] h (c_M_save h this x1 x2) := by
  refine MM.of (by decide) rfl (by decide) (Nat.le_of_ble_eq_true rfl) (own := RX10) (cc := cX10_save) (maxL := 4) (lev := 1) (rt := none) (ini := false) ?_
  show Sim Y_M_save h 0 [(0, .ref this), (1, .ref x1), (2, .int x2)] [] _
  unfold c_M_save
  refine x_grd ?_
  refine x_iconst (pc := 0) (v := 0) (by decide) dX10_save_0 ?_
  refine x_istore_n (pc := 1) (lv' := [(3, .int (0 : Int32)), (0, .ref this), (1, .ref x1), (2, .int x2)]) rfl (by decide) rfl dX10_save_1 ?_
  refine Sim.lv [1, 2, 3, 0] rfl ?_
  exact v_M_save_l2 FU h this x1 x2 (0 : Int32)
theorem si_X10_288 : SiV RX10 288 8 yX10_save cX10_save 4 none 2 := ⟨_, _, _, ci_8.1, by decide, lw_V q2120 q2122 qs81 q121 q2123, ⟨rfl, by decide, by decide, by decide +kernel⟩, by decide⟩
abbrev Y_M_snap : Yx := (RX10, cX10_snap, 2, 2, none, [], false)
def c_M_snap_j50 (h : PH) (this : Nat) : Option RH :=
  gQ h this [8] 17 fun v1 =>
  gI h this [8] 24 fun v2 =>
  nn v1 fun a3 =>
  hV (c_M_save h this a3 ((3213 : Int32) * v2)) noX fun h5 =>
  gI h5 this [8] 24 fun v6 =>
  pI h5 this [8] 24 (v6 + (1 : Int32)) fun h7 =>
  rV h7
def c_M_snap_l11 (r11 : PH → Nat → Int32 → Option RH) (h : PH) (this : Nat) (x1 : Int32) : Option RH :=
  if (22491 : Int32) ≤ x1 then
    gI h this [8] 24 fun v1 =>
    pI h this [8] 24 (v1 - (1 : Int32)) fun h2 =>
    c_M_snap_j50 h2 this
  else
    gQ h this [8] 17 fun v3 =>
    gQ h this [8] 17 fun v4 =>
    nn v4 fun a5 =>
    ldI h a5 0 (x1 + (3213 : Int32)) fun v7 =>
    nn v3 fun a8 =>
    stI h a8 x1 v7 fun h10 =>
    r11 h10 this (x1 + (1 : Int32))
def c_M_snap (h : PH) (this : Nat) : Option RH :=
  grd h this [8] (
  gI h this [8] 24 fun v1 =>
  if v1 = (8 : Int32) then
    itr (c_M_snap_l11) (fun _ _ _ => none) FU h this (0 : Int32)
  else
    c_M_snap_j50 h this)
set_option maxHeartbeats 4000000 in
theorem w_M_snap_j50 (h : PH) (this : Nat) : Sim Y_M_snap h 50 [(0, .ref this)] [] (c_M_snap_j50 h this) := by
  unfold c_M_snap_j50
  refine x_aload_nR (pc := 50) (a := this) 0 rfl rfl dX10_snap_50 ?_
  refine x_aload_nR (pc := 51) (a := this) 0 rfl rfl dX10_snap_51 ?_
  refine x_getQ (pc := 52) fi_X10_107 dX10_snap_52 ?_
  intro v1
  refine x_sipush (pc := 55) (v := 3213) (by decide) dX10_snap_55 ?_
  refine x_aload_nR (pc := 58) (a := this) 0 rfl rfl dX10_snap_58 ?_
  refine x_getI (pc := 59) fi_X10_192 dX10_snap_59 ?_
  intro v2
  refine x_imul (pc := 62) dX10_snap_62 ?_
  refine x_nn (fun a3 e4 => ?_)
  subst e4
  refine x_callV (pc := 63) (As := [.ref a3, .int ((3213 : Int32) * v2)]) (rest := []) (lev' := 1) si_X10_288 (m_M_save h this a3 ((3213 : Int32) * v2)) (fun z e => grd1 e) rfl rfl (by decide) (cat4 (Nat.le_of_ble_eq_true rfl)) dX10_snap_63 (kV (fun h5 => ?_)) xNo
  refine x_aload_nR (pc := 66) (a := this) 0 rfl rfl dX10_snap_66 ?_
  refine x_dup (pc := 67) rfl dX10_snap_67 ?_
  refine x_getI (pc := 68) fi_X10_192 dX10_snap_68 ?_
  intro v6
  refine x_iconst (pc := 71) (v := 1) (by decide) dX10_snap_71 ?_
  refine x_iadd (pc := 72) dX10_snap_72 ?_
  refine x_pI (pc := 73) fi_X10_192 (fun z => absurd z (by decide)) dX10_snap_73 ?_
  intro h7
  exact x_vret (pc := 76) dX10_snap_76
set_option maxHeartbeats 4000000 in
theorem w_M_snap_l11 (r11 : PH → Nat → Int32 → Option RH) (hr11 : ∀ (h : PH) (this : Nat) (x1 : Int32), Sim Y_M_snap h 11 [(0, .ref this), (1, .int x1)] [] (r11 h this x1)) (h : PH) (this : Nat) (x1 : Int32) : Sim Y_M_snap h 11 [(0, .ref this), (1, .int x1)] [] (c_M_snap_l11 r11 h this x1) := by
  unfold c_M_snap_l11
  refine x_iload_n (pc := 11) 1 rfl rfl dX10_snap_11 ?_
  refine x_sipush (pc := 12) (v := 22491) (by decide) dX10_snap_12 ?_
  refine x_icmp_ge (pc := 15) 40 (by decide) dX10_snap_15 ?_ ?_
  · refine x_aload_nR (pc := 40) (a := this) 0 rfl rfl dX10_snap_40 ?_
    refine x_dup (pc := 41) rfl dX10_snap_41 ?_
    refine x_getI (pc := 42) fi_X10_192 dX10_snap_42 ?_
    intro v1
    refine x_iconst (pc := 45) (v := 1) (by decide) dX10_snap_45 ?_
    refine x_isub (pc := 46) dX10_snap_46 ?_
    refine x_pI (pc := 47) fi_X10_192 (fun z => absurd z (by decide)) dX10_snap_47 ?_
    intro h2
    refine Sim.lv [0] rfl ?_
    exact w_M_snap_j50 h2 this
  · refine x_aload_nR (pc := 18) (a := this) 0 rfl rfl dX10_snap_18 ?_
    refine x_getQ (pc := 19) fi_X10_107 dX10_snap_19 ?_
    intro v3
    refine x_iload_n (pc := 22) 1 rfl rfl dX10_snap_22 ?_
    refine x_aload_nR (pc := 23) (a := this) 0 rfl rfl dX10_snap_23 ?_
    refine x_getQ (pc := 24) fi_X10_107 dX10_snap_24 ?_
    intro v4
    refine x_iload_n (pc := 27) 1 rfl rfl dX10_snap_27 ?_
    refine x_sipush (pc := 28) (v := 3213) (by decide) dX10_snap_28 ?_
    refine x_iadd (pc := 31) dX10_snap_31 ?_
    refine x_nn (fun a5 e6 => ?_)
    subst e6
    refine x_iald (pc := 32) dX10_snap_32 ?_
    intro v7
    refine x_nn (fun a8 e9 => ?_)
    subst e9
    refine x_iast (pc := 33) dX10_snap_33 ?_
    intro h10
    refine x_iinc (pc := 34) (v := (1 : Int32)) (lv' := [(1, .int (x1 + (1 : Int32))), (0, .ref this)]) 1 rfl (by decide) (by decide) rfl dX10_snap_34 ?_
    refine x_goto (pc := 37) 11 (by decide) dX10_snap_37 ?_
    refine Sim.lv [1, 0] rfl ?_
    exact hr11 h10 this (x1 + (1 : Int32))
set_option maxHeartbeats 4000000 in
theorem v_M_snap_l11 : ∀ (n : Nat) (h : PH) (this : Nat) (x1 : Int32), Sim Y_M_snap h 11 [(0, .ref this), (1, .int x1)] [] (itr (c_M_snap_l11) (fun _ _ _ => none) n h this x1)
  | 0, h, this, x1 => Sim.none
  | n + 1, h, this, x1 => w_M_snap_l11 _ (v_M_snap_l11 n) h this x1
set_option maxHeartbeats 4000000 in
theorem m_M_snap (h : PH) (this : Nat) : MM yX10_snap (ws_ yX10_snap cX10_snap 2 none) 2 [.ref this] h (c_M_snap h this) := by
  refine MM.of (by decide) rfl (by decide) (Nat.le_of_ble_eq_true rfl) (own := RX10) (cc := cX10_snap) (maxL := 2) (lev := 2) (rt := none) (ini := false) ?_
  show Sim Y_M_snap h 0 [(0, .ref this)] [] _
  unfold c_M_snap
  refine x_grd ?_
  refine x_aload_nR (pc := 0) (a := this) 0 rfl rfl dX10_snap_0 ?_
  refine x_getI (pc := 1) fi_X10_192 dX10_snap_1 ?_
  intro v1
  refine x_bipush (pc := 4) (v := 8) (by decide) dX10_snap_4 ?_
  refine x_icmp_ne (pc := 6) 50 (by decide) dX10_snap_6 ?_ ?_
  · exact w_M_snap_j50 h this
  · refine x_iconst (pc := 9) (v := 0) (by decide) dX10_snap_9 ?_
    refine x_istore_n (pc := 10) (lv' := [(1, .int (0 : Int32)), (0, .ref this)]) rfl (by decide) rfl dX10_snap_10 ?_
    refine Sim.lv [1, 0] rfl ?_
    exact v_M_snap_l11 FU h this (0 : Int32)
abbrev Y_M_joinLeaves : Yx := (RX10, cX10_joinLeaves, 4, 3, none, [], false)
def c_M_joinLeaves_l45 (r45 : PH → Nat → Int32 → Int32 → Int32 → Option RH) (h : PH) (this : Nat) (x1 : Int32) (x2 : Int32) (x3 : Int32) : Option RH :=
  gQ h this [8] 14 fun v1 =>
  nn v1 fun a2 =>
  ldI h a2 0 ((2611 : Int32) + x1) fun v4 =>
  if v4 ≤ x3 then
    gQ h this [8] 14 fun v5 =>
    gQ h this [8] 14 fun v6 =>
    nn v6 fun a7 =>
    ldI h a7 0 ((2611 : Int32) + x1) fun v9 =>
    hI (c_M_leafAt h this x1 v9) noX fun v11 h10 =>
    nn v5 fun a12 =>
    stI h10 a12 v11 (0 : Int32) fun h14 =>
    gQ h14 this [8] 14 fun v15 =>
    hI (c_M_leafAt h14 this x1 x2) noX fun v17 h16 =>
    nn v15 fun a18 =>
    ldI h16 a18 0 v17 fun v20 =>
    gQ h16 this [8] 14 fun v21 =>
    nn v21 fun a22 =>
    ldI h16 a22 0 (1 : Int32) fun v24 =>
    if v20 ≤ ((2 : Int32) * v24) then
      rV h16
    else
      hV (c_M_splitLeaf h16 this x1 x2) noX fun h25 =>
      rV h25
  else
    gQ h this [8] 14 fun v26 =>
    hI (c_M_leafAt h this x1 x3) noX fun v28 h27 =>
    gQ h27 this [8] 14 fun v29 =>
    hI (c_M_leafAt h27 this x1 (x3 + (1 : Int32))) noX fun v31 h30 =>
    nn v29 fun a32 =>
    ldI h30 a32 0 v31 fun v34 =>
    nn v26 fun a35 =>
    stI h30 a35 v28 v34 fun h37 =>
    r45 h37 this x1 x2 (x3 + (1 : Int32))
def c_M_joinLeaves (h : PH) (this : Nat) (x1 : Int32) (x2 : Int32) : Option RH :=
  grd h this [8] (
  gQ h this [8] 14 fun v1 =>
  hI (c_M_leafAt h this x1 x2) noX fun v3 h2 =>
  nn v1 fun a4 =>
  ldI h2 a4 0 v3 fun v6 =>
  gQ h2 this [8] 14 fun v7 =>
  hI (c_M_leafAt h2 this x1 (x2 + (1 : Int32))) noX fun v9 h8 =>
  nn v7 fun a10 =>
  ldI h8 a10 0 v9 fun v12 =>
  stI h8 a4 v3 (v6 + v12) fun h13 =>
  gQ h13 this [8] 14 fun v14 =>
  nn v14 fun a15 =>
  ldI h13 a15 0 ((2611 : Int32) + x1) fun v17 =>
  stI h13 a15 ((2611 : Int32) + x1) (v17 - (1 : Int32)) fun h18 =>
  nm (x2 + (1 : Int32)) fun y19 =>
  itr (c_M_joinLeaves_l45) (fun _ _ _ _ _ => none) FU h18 this x1 x2 y19)
set_option maxHeartbeats 4000000 in
theorem w_M_joinLeaves_l45 (r45 : PH → Nat → Int32 → Int32 → Int32 → Option RH) (hr45 : ∀ (h : PH) (this : Nat) (x1 : Int32) (x2 : Int32) (x3 : Int32), Sim Y_M_joinLeaves h 45 [(0, .ref this), (1, .int x1), (2, .int x2), (3, .int x3)] [] (r45 h this x1 x2 x3)) (h : PH) (this : Nat) (x1 : Int32) (x2 : Int32) (x3 : Int32) : Sim Y_M_joinLeaves h 45 [(0, .ref this), (1, .int x1), (2, .int x2), (3, .int x3)] [] (c_M_joinLeaves_l45 r45 h this x1 x2 x3) := by
  unfold c_M_joinLeaves_l45
  refine x_iload_n (pc := 45) 3 rfl rfl dX10_joinLeaves_45 ?_
  refine x_aload_nR (pc := 46) (a := this) 0 rfl rfl dX10_joinLeaves_46 ?_
  refine x_getQ (pc := 47) fi_X10_98 dX10_joinLeaves_47 ?_
  intro v1
  refine x_sipush (pc := 50) (v := 2611) (by decide) dX10_joinLeaves_50 ?_
  refine x_iload_n (pc := 53) 1 rfl rfl dX10_joinLeaves_53 ?_
  refine x_iadd (pc := 54) dX10_joinLeaves_54 ?_
  refine x_nn (fun a2 e3 => ?_)
  subst e3
  refine x_iald (pc := 55) dX10_joinLeaves_55 ?_
  intro v4
  refine x_icmp_ge (pc := 56) 89 (by decide) dX10_joinLeaves_56 ?_ ?_
  · refine x_aload_nR (pc := 89) (a := this) 0 rfl rfl dX10_joinLeaves_89 ?_
    refine x_getQ (pc := 90) fi_X10_98 dX10_joinLeaves_90 ?_
    intro v5
    refine x_aload_nR (pc := 93) (a := this) 0 rfl rfl dX10_joinLeaves_93 ?_
    refine x_iload_n (pc := 94) 1 rfl rfl dX10_joinLeaves_94 ?_
    refine x_aload_nR (pc := 95) (a := this) 0 rfl rfl dX10_joinLeaves_95 ?_
    refine x_getQ (pc := 96) fi_X10_98 dX10_joinLeaves_96 ?_
    intro v6
    refine x_sipush (pc := 99) (v := 2611) (by decide) dX10_joinLeaves_99 ?_
    refine x_iload_n (pc := 102) 1 rfl rfl dX10_joinLeaves_102 ?_
    refine x_iadd (pc := 103) dX10_joinLeaves_103 ?_
    refine x_nn (fun a7 e8 => ?_)
    subst e8
    refine x_iald (pc := 104) dX10_joinLeaves_104 ?_
    intro v9
    refine x_callV (pc := 105) (As := [.int x1, .int v9]) (rest := [va_rf v5]) (lev' := 1) si_X10_195 (m_M_leafAt h this x1 v9) (fun z e => grd1 e) rfl rfl (by decide) (cat4 (Nat.le_of_ble_eq_true rfl)) dX10_joinLeaves_105 (kI (fun v11 h10 => ?_)) xNo
    refine x_iconst (pc := 108) (v := 0) (by decide) dX10_joinLeaves_108 ?_
    refine x_nn (fun a12 e13 => ?_)
    subst e13
    refine x_iast (pc := 109) dX10_joinLeaves_109 ?_
    intro h14
    refine x_aload_nR (pc := 110) (a := this) 0 rfl rfl dX10_joinLeaves_110 ?_
    refine x_getQ (pc := 111) fi_X10_98 dX10_joinLeaves_111 ?_
    intro v15
    refine x_aload_nR (pc := 114) (a := this) 0 rfl rfl dX10_joinLeaves_114 ?_
    refine x_iload_n (pc := 115) 1 rfl rfl dX10_joinLeaves_115 ?_
    refine x_iload_n (pc := 116) 2 rfl rfl dX10_joinLeaves_116 ?_
    refine x_callV (pc := 117) (As := [.int x1, .int x2]) (rest := [va_rf v15]) (lev' := 1) si_X10_195 (m_M_leafAt h14 this x1 x2) (fun z e => grd1 e) rfl rfl (by decide) (cat4 (Nat.le_of_ble_eq_true rfl)) dX10_joinLeaves_117 (kI (fun v17 h16 => ?_)) xNo
    refine x_nn (fun a18 e19 => ?_)
    subst e19
    refine x_iald (pc := 120) dX10_joinLeaves_120 ?_
    intro v20
    refine x_iconst (pc := 121) (v := 2) (by decide) dX10_joinLeaves_121 ?_
    refine x_aload_nR (pc := 122) (a := this) 0 rfl rfl dX10_joinLeaves_122 ?_
    refine x_getQ (pc := 123) fi_X10_98 dX10_joinLeaves_123 ?_
    intro v21
    refine x_iconst (pc := 126) (v := 1) (by decide) dX10_joinLeaves_126 ?_
    refine x_nn (fun a22 e23 => ?_)
    subst e23
    refine x_iald (pc := 127) dX10_joinLeaves_127 ?_
    intro v24
    refine x_imul (pc := 128) dX10_joinLeaves_128 ?_
    refine x_icmp_le (pc := 129) 138 (by decide) dX10_joinLeaves_129 ?_ ?_
    · exact x_vret (pc := 138) dX10_joinLeaves_138
    · refine x_aload_nR (pc := 132) (a := this) 0 rfl rfl dX10_joinLeaves_132 ?_
      refine x_iload_n (pc := 133) 1 rfl rfl dX10_joinLeaves_133 ?_
      refine x_iload_n (pc := 134) 2 rfl rfl dX10_joinLeaves_134 ?_
      refine x_callV (pc := 135) (As := [.int x1, .int x2]) (rest := []) (lev' := 2) si_X10_205 (m_M_splitLeaf h16 this x1 x2) (fun z e => grd1 e) rfl rfl (by decide) (cat4 (Nat.le_of_ble_eq_true rfl)) dX10_joinLeaves_135 (kV (fun h25 => ?_)) xNo
      exact x_vret (pc := 138) dX10_joinLeaves_138
  · refine x_aload_nR (pc := 59) (a := this) 0 rfl rfl dX10_joinLeaves_59 ?_
    refine x_getQ (pc := 60) fi_X10_98 dX10_joinLeaves_60 ?_
    intro v26
    refine x_aload_nR (pc := 63) (a := this) 0 rfl rfl dX10_joinLeaves_63 ?_
    refine x_iload_n (pc := 64) 1 rfl rfl dX10_joinLeaves_64 ?_
    refine x_iload_n (pc := 65) 3 rfl rfl dX10_joinLeaves_65 ?_
    refine x_callV (pc := 66) (As := [.int x1, .int x3]) (rest := [va_rf v26]) (lev' := 1) si_X10_195 (m_M_leafAt h this x1 x3) (fun z e => grd1 e) rfl rfl (by decide) (cat4 (Nat.le_of_ble_eq_true rfl)) dX10_joinLeaves_66 (kI (fun v28 h27 => ?_)) xNo
    refine x_aload_nR (pc := 69) (a := this) 0 rfl rfl dX10_joinLeaves_69 ?_
    refine x_getQ (pc := 70) fi_X10_98 dX10_joinLeaves_70 ?_
    intro v29
    refine x_aload_nR (pc := 73) (a := this) 0 rfl rfl dX10_joinLeaves_73 ?_
    refine x_iload_n (pc := 74) 1 rfl rfl dX10_joinLeaves_74 ?_
    refine x_iload_n (pc := 75) 3 rfl rfl dX10_joinLeaves_75 ?_
    refine x_iconst (pc := 76) (v := 1) (by decide) dX10_joinLeaves_76 ?_
    refine x_iadd (pc := 77) dX10_joinLeaves_77 ?_
    refine x_callV (pc := 78) (As := [.int x1, .int (x3 + (1 : Int32))]) (rest := [va_rf v29, .int v28, va_rf v26]) (lev' := 1) si_X10_195 (m_M_leafAt h27 this x1 (x3 + (1 : Int32))) (fun z e => grd1 e) rfl rfl (by decide) (cat4 (Nat.le_of_ble_eq_true rfl)) dX10_joinLeaves_78 (kI (fun v31 h30 => ?_)) xNo
    refine x_nn (fun a32 e33 => ?_)
    subst e33
    refine x_iald (pc := 81) dX10_joinLeaves_81 ?_
    intro v34
    refine x_nn (fun a35 e36 => ?_)
    subst e36
    refine x_iast (pc := 82) dX10_joinLeaves_82 ?_
    intro h37
    refine x_iinc (pc := 83) (v := (1 : Int32)) (lv' := [(3, .int (x3 + (1 : Int32))), (0, .ref this), (1, .int x1), (2, .int x2)]) 3 rfl (by decide) (by decide) rfl dX10_joinLeaves_83 ?_
    refine x_goto (pc := 86) 45 (by decide) dX10_joinLeaves_86 ?_
    refine Sim.lv [1, 2, 3, 0] rfl ?_
    exact hr45 h37 this x1 x2 (x3 + (1 : Int32))
set_option maxHeartbeats 4000000 in
theorem v_M_joinLeaves_l45 : ∀ (n : Nat) (h : PH) (this : Nat) (x1 : Int32) (x2 : Int32) (x3 : Int32), Sim Y_M_joinLeaves h 45 [(0, .ref this), (1, .int x1), (2, .int x2), (3, .int x3)] [] (itr (c_M_joinLeaves_l45) (fun _ _ _ _ _ => none) n h this x1 x2 x3)
  | 0, h, this, x1, x2, x3 => Sim.none
  | n + 1, h, this, x1, x2, x3 => w_M_joinLeaves_l45 _ (v_M_joinLeaves_l45 n) h this x1 x2 x3
set_option maxHeartbeats 4000000 in
theorem m_M_joinLeaves (h : PH) (this : Nat) (x1 : Int32) (x2 : Int32) : MM yX10_joinLeaves (ws_ yX10_joinLeaves cX10_joinLeaves 4 none) 3 [.ref this, .int x1, .int x2] h (c_M_joinLeaves h this x1 x2) := by
  refine MM.of (by decide) rfl (by decide) (Nat.le_of_ble_eq_true rfl) (own := RX10) (cc := cX10_joinLeaves) (maxL := 4) (lev := 3) (rt := none) (ini := false) ?_
  show Sim Y_M_joinLeaves h 0 [(0, .ref this), (1, .int x1), (2, .int x2)] [] _
  unfold c_M_joinLeaves
  refine x_grd ?_
  refine x_aload_nR (pc := 0) (a := this) 0 rfl rfl dX10_joinLeaves_0 ?_
  refine x_getQ (pc := 1) fi_X10_98 dX10_joinLeaves_1 ?_
  intro v1
  refine x_aload_nR (pc := 4) (a := this) 0 rfl rfl dX10_joinLeaves_4 ?_
  refine x_iload_n (pc := 5) 1 rfl rfl dX10_joinLeaves_5 ?_
  refine x_iload_n (pc := 6) 2 rfl rfl dX10_joinLeaves_6 ?_
  refine x_callV (pc := 7) (As := [.int x1, .int x2]) (rest := [va_rf v1]) (lev' := 1) si_X10_195 (m_M_leafAt h this x1 x2) (fun z e => grd1 e) rfl rfl (by decide) (cat4 (Nat.le_of_ble_eq_true rfl)) dX10_joinLeaves_7 (kI (fun v3 h2 => ?_)) xNo
  refine x_dup2 (pc := 10) rfl (rf_cat v1) dX10_joinLeaves_10 ?_
  refine x_nn (fun a4 e5 => ?_)
  subst e5
  refine x_iald (pc := 11) dX10_joinLeaves_11 ?_
  intro v6
  refine x_aload_nR (pc := 12) (a := this) 0 rfl rfl dX10_joinLeaves_12 ?_
  refine x_getQ (pc := 13) fi_X10_98 dX10_joinLeaves_13 ?_
  intro v7
  refine x_aload_nR (pc := 16) (a := this) 0 rfl rfl dX10_joinLeaves_16 ?_
  refine x_iload_n (pc := 17) 1 rfl rfl dX10_joinLeaves_17 ?_
  refine x_iload_n (pc := 18) 2 rfl rfl dX10_joinLeaves_18 ?_
  refine x_iconst (pc := 19) (v := 1) (by decide) dX10_joinLeaves_19 ?_
  refine x_iadd (pc := 20) dX10_joinLeaves_20 ?_
  refine x_callV (pc := 21) (As := [.int x1, .int (x2 + (1 : Int32))]) (rest := [va_rf v7, .int v6, .int v3, .ref a4]) (lev' := 1) si_X10_195 (m_M_leafAt h2 this x1 (x2 + (1 : Int32))) (fun z e => grd1 e) rfl rfl (by decide) (cat4 (Nat.le_of_ble_eq_true rfl)) dX10_joinLeaves_21 (kI (fun v9 h8 => ?_)) xNo
  refine x_nn (fun a10 e11 => ?_)
  subst e11
  refine x_iald (pc := 24) dX10_joinLeaves_24 ?_
  intro v12
  refine x_iadd (pc := 25) dX10_joinLeaves_25 ?_
  refine x_iast (pc := 26) dX10_joinLeaves_26 ?_
  intro h13
  refine x_aload_nR (pc := 27) (a := this) 0 rfl rfl dX10_joinLeaves_27 ?_
  refine x_getQ (pc := 28) fi_X10_98 dX10_joinLeaves_28 ?_
  intro v14
  refine x_sipush (pc := 31) (v := 2611) (by decide) dX10_joinLeaves_31 ?_
  refine x_iload_n (pc := 34) 1 rfl rfl dX10_joinLeaves_34 ?_
  refine x_iadd (pc := 35) dX10_joinLeaves_35 ?_
  refine x_dup2 (pc := 36) rfl (rf_cat v14) dX10_joinLeaves_36 ?_
  refine x_nn (fun a15 e16 => ?_)
  subst e16
  refine x_iald (pc := 37) dX10_joinLeaves_37 ?_
  intro v17
  refine x_iconst (pc := 38) (v := 1) (by decide) dX10_joinLeaves_38 ?_
  refine x_isub (pc := 39) dX10_joinLeaves_39 ?_
  refine x_iast (pc := 40) dX10_joinLeaves_40 ?_
  intro h18
  refine x_iload_n (pc := 41) 2 rfl rfl dX10_joinLeaves_41 ?_
  refine x_iconst (pc := 42) (v := 1) (by decide) dX10_joinLeaves_42 ?_
  refine x_iadd (pc := 43) dX10_joinLeaves_43 ?_
  refine x_nmI (fun y19 => ?_)
  refine x_istore_n (pc := 44) (lv' := [(3, .int y19), (0, .ref this), (1, .int x1), (2, .int x2)]) rfl (by decide) rfl dX10_joinLeaves_44 ?_
  refine Sim.lv [1, 2, 3, 0] rfl ?_
  exact v_M_joinLeaves_l45 FU h18 this x1 x2 y19
theorem si_X10_209 : SiV RX10 209 8 yX10_joinLeaves cX10_joinLeaves 4 none 2 := ⟨_, _, _, ci_8.1, by decide, lw_V q2132 q2134 qs84 q121 q2135, ⟨rfl, by decide, by decide, by decide +kernel⟩, by decide⟩
abbrev Y_M_takeBit : Yx := (RX10, cX10_takeBit, 6, 4, none, [], false)
def c_M_takeBit_l35 (r35 : PH → Nat → Int32 → Int32 → Int32 → Int32 → Option RH) (h : PH) (this : Nat) (x1 : Int32) (x3 : Int32) (x4 : Int32) (x5 : Int32) : Option RH :=
  hI (c_M_sizeOf h this x1) noX fun v2 h1 =>
  if v2 ≤ x5 then
    gQ h1 this [8] 14 fun v3 =>
    hI (c_M_sizeOf h1 this x1) noX fun v5 h4 =>
    nn v3 fun a6 =>
    stI h4 a6 (x3 + v5) (0 : Int32) fun h8 =>
    gQ h8 this [8] 14 fun v9 =>
    hI (c_M_leafAt h8 this x1 x4) noX fun v11 h10 =>
    nn v9 fun a12 =>
    ldI h10 a12 0 v11 fun v14 =>
    stI h10 a12 v11 (v14 - (1 : Int32)) fun h15 =>
    gQ h15 this [8] 14 fun v16 =>
    nn v16 fun a17 =>
    ldI h15 a17 0 ((2611 : Int32) + x1) fun v19 =>
    if v19 = (1 : Int32) then
      gQ h15 this [8] 14 fun v36 =>
      hI (c_M_leafAt h15 this x1 x4) noX fun v38 h37 =>
      nn v36 fun a39 =>
      ldI h37 a39 0 v38 fun v41 =>
      if v41 = 0 then
        gQ h37 this [8] 14 fun v42 =>
        nn v42 fun a43 =>
        stI h37 a43 ((2611 : Int32) + x1) (0 : Int32) fun h45 =>
        rV h45
      else
        rV h37
    else
      gQ h15 this [8] 14 fun v20 =>
      hI (c_M_leafAt h15 this x1 x4) noX fun v22 h21 =>
      nn v20 fun a23 =>
      ldI h21 a23 0 v22 fun v25 =>
      gQ h21 this [8] 14 fun v26 =>
      nn v26 fun a27 =>
      ldI h21 a27 0 (1 : Int32) fun v29 =>
      if v29 ≤ v25 then
        rV h21
      else
        gQ h21 this [8] 14 fun v30 =>
        nn v30 fun a31 =>
        ldI h21 a31 0 ((2611 : Int32) + x1) fun v33 =>
        if (v33 - (1 : Int32)) ≤ x4 then
          hV (c_M_joinLeaves h21 this x1 (x4 - (1 : Int32))) noX fun h34 =>
          rV h34
        else
          hV (c_M_joinLeaves h21 this x1 x4) noX fun h35 =>
          rV h35
  else
    gQ h1 this [8] 14 fun v46 =>
    gQ h1 this [8] 14 fun v47 =>
    nn v47 fun a48 =>
    ldI h1 a48 0 ((x3 + x5) + (1 : Int32)) fun v50 =>
    nn v46 fun a51 =>
    stI h1 a51 (x3 + x5) v50 fun h53 =>
    r35 h53 this x1 x3 x4 (x5 + (1 : Int32))
def c_M_takeBit (h : PH) (this : Nat) (x1 : Int32) (x2 : Int32) : Option RH :=
  grd h this [8] (
  nm ((3420 : Int32) + ((600 : Int32) * x1)) fun y1 =>
  hI (c_M_leafOf h this x1 x2) noX fun v3 h2 =>
  gQ h2 this [8] 14 fun v4 =>
  nn v4 fun a5 =>
  ldI h2 a5 0 ((2607 : Int32) + x1) fun v7 =>
  stI h2 a5 ((2607 : Int32) + x1) (v7 - (1 : Int32)) fun h8 =>
  itr (c_M_takeBit_l35) (fun _ _ _ _ _ _ => none) FU h8 this x1 y1 v3 x2)
set_option maxHeartbeats 4000000 in
theorem w_M_takeBit_l35 (r35 : PH → Nat → Int32 → Int32 → Int32 → Int32 → Option RH) (hr35 : ∀ (h : PH) (this : Nat) (x1 : Int32) (x3 : Int32) (x4 : Int32) (x5 : Int32), Sim Y_M_takeBit h 35 [(0, .ref this), (1, .int x1), (3, .int x3), (4, .int x4), (5, .int x5)] [] (r35 h this x1 x3 x4 x5)) (h : PH) (this : Nat) (x1 : Int32) (x3 : Int32) (x4 : Int32) (x5 : Int32) : Sim Y_M_takeBit h 35 [(0, .ref this), (1, .int x1), (3, .int x3), (4, .int x4), (5, .int x5)] [] (c_M_takeBit_l35 r35 h this x1 x3 x4 x5) := by
  unfold c_M_takeBit_l35
  refine x_iload (pc := 35) 4 rfl dX10_takeBit_35 ?_
  refine x_aload_nR (pc := 37) (a := this) 0 rfl rfl dX10_takeBit_37 ?_
  refine x_iload_n (pc := 38) 1 rfl rfl dX10_takeBit_38 ?_
  refine x_callV (pc := 39) (As := [.int x1]) (rest := [.int x5]) (lev' := 1) si_X10_199 (m_M_sizeOf h this x1) (fun z e => grd1 e) rfl rfl (by decide) (cat4 (Nat.le_of_ble_eq_true rfl)) dX10_takeBit_39 (kI (fun v2 h1 => ?_)) xNo
  refine x_icmp_ge (pc := 42) 71 (by decide) dX10_takeBit_42 ?_ ?_
  · refine x_aload_nR (pc := 71) (a := this) 0 rfl rfl dX10_takeBit_71 ?_
    refine x_getQ (pc := 72) fi_X10_98 dX10_takeBit_72 ?_
    intro v3
    refine x_iload_n (pc := 75) 2 rfl rfl dX10_takeBit_75 ?_
    refine x_aload_nR (pc := 76) (a := this) 0 rfl rfl dX10_takeBit_76 ?_
    refine x_iload_n (pc := 77) 1 rfl rfl dX10_takeBit_77 ?_
    refine x_callV (pc := 78) (As := [.int x1]) (rest := [.int x3, va_rf v3]) (lev' := 1) si_X10_199 (m_M_sizeOf h1 this x1) (fun z e => grd1 e) rfl rfl (by decide) (cat4 (Nat.le_of_ble_eq_true rfl)) dX10_takeBit_78 (kI (fun v5 h4 => ?_)) xNo
    refine x_iadd (pc := 81) dX10_takeBit_81 ?_
    refine x_iconst (pc := 82) (v := 0) (by decide) dX10_takeBit_82 ?_
    refine x_nn (fun a6 e7 => ?_)
    subst e7
    refine x_iast (pc := 83) dX10_takeBit_83 ?_
    intro h8
    refine x_aload_nR (pc := 84) (a := this) 0 rfl rfl dX10_takeBit_84 ?_
    refine x_getQ (pc := 85) fi_X10_98 dX10_takeBit_85 ?_
    intro v9
    refine x_aload_nR (pc := 88) (a := this) 0 rfl rfl dX10_takeBit_88 ?_
    refine x_iload_n (pc := 89) 1 rfl rfl dX10_takeBit_89 ?_
    refine x_iload (pc := 90) 3 rfl dX10_takeBit_90 ?_
    refine x_callV (pc := 92) (As := [.int x1, .int x4]) (rest := [va_rf v9]) (lev' := 1) si_X10_195 (m_M_leafAt h8 this x1 x4) (fun z e => grd1 e) rfl rfl (by decide) (cat4 (Nat.le_of_ble_eq_true rfl)) dX10_takeBit_92 (kI (fun v11 h10 => ?_)) xNo
    refine x_dup2 (pc := 95) rfl (rf_cat v9) dX10_takeBit_95 ?_
    refine x_nn (fun a12 e13 => ?_)
    subst e13
    refine x_iald (pc := 96) dX10_takeBit_96 ?_
    intro v14
    refine x_iconst (pc := 97) (v := 1) (by decide) dX10_takeBit_97 ?_
    refine x_isub (pc := 98) dX10_takeBit_98 ?_
    refine x_iast (pc := 99) dX10_takeBit_99 ?_
    intro h15
    refine x_aload_nR (pc := 100) (a := this) 0 rfl rfl dX10_takeBit_100 ?_
    refine x_getQ (pc := 101) fi_X10_98 dX10_takeBit_101 ?_
    intro v16
    refine x_sipush (pc := 104) (v := 2611) (by decide) dX10_takeBit_104 ?_
    refine x_iload_n (pc := 107) 1 rfl rfl dX10_takeBit_107 ?_
    refine x_iadd (pc := 108) dX10_takeBit_108 ?_
    refine x_nn (fun a17 e18 => ?_)
    subst e18
    refine x_iald (pc := 109) dX10_takeBit_109 ?_
    intro v19
    refine x_iconst (pc := 110) (v := 1) (by decide) dX10_takeBit_110 ?_
    refine x_icmp_ne (pc := 111) 141 (by decide) dX10_takeBit_111 ?_ ?_
    · refine x_aload_nR (pc := 141) (a := this) 0 rfl rfl dX10_takeBit_141 ?_
      refine x_getQ (pc := 142) fi_X10_98 dX10_takeBit_142 ?_
      intro v20
      refine x_aload_nR (pc := 145) (a := this) 0 rfl rfl dX10_takeBit_145 ?_
      refine x_iload_n (pc := 146) 1 rfl rfl dX10_takeBit_146 ?_
      refine x_iload (pc := 147) 3 rfl dX10_takeBit_147 ?_
      refine x_callV (pc := 149) (As := [.int x1, .int x4]) (rest := [va_rf v20]) (lev' := 1) si_X10_195 (m_M_leafAt h15 this x1 x4) (fun z e => grd1 e) rfl rfl (by decide) (cat4 (Nat.le_of_ble_eq_true rfl)) dX10_takeBit_149 (kI (fun v22 h21 => ?_)) xNo
      refine x_nn (fun a23 e24 => ?_)
      subst e24
      refine x_iald (pc := 152) dX10_takeBit_152 ?_
      intro v25
      refine x_aload_nR (pc := 153) (a := this) 0 rfl rfl dX10_takeBit_153 ?_
      refine x_getQ (pc := 154) fi_X10_98 dX10_takeBit_154 ?_
      intro v26
      refine x_iconst (pc := 157) (v := 1) (by decide) dX10_takeBit_157 ?_
      refine x_nn (fun a27 e28 => ?_)
      subst e28
      refine x_iald (pc := 158) dX10_takeBit_158 ?_
      intro v29
      refine x_icmp_ge (pc := 159) 193 (by decide) dX10_takeBit_159 ?_ ?_
      · exact x_vret (pc := 193) dX10_takeBit_193
      · refine x_aload_nR (pc := 162) (a := this) 0 rfl rfl dX10_takeBit_162 ?_
        refine x_iload_n (pc := 163) 1 rfl rfl dX10_takeBit_163 ?_
        refine x_iload (pc := 164) 3 rfl dX10_takeBit_164 ?_
        refine x_aload_nR (pc := 166) (a := this) 0 rfl rfl dX10_takeBit_166 ?_
        refine x_getQ (pc := 167) fi_X10_98 dX10_takeBit_167 ?_
        intro v30
        refine x_sipush (pc := 170) (v := 2611) (by decide) dX10_takeBit_170 ?_
        refine x_iload_n (pc := 173) 1 rfl rfl dX10_takeBit_173 ?_
        refine x_iadd (pc := 174) dX10_takeBit_174 ?_
        refine x_nn (fun a31 e32 => ?_)
        subst e32
        refine x_iald (pc := 175) dX10_takeBit_175 ?_
        intro v33
        refine x_iconst (pc := 176) (v := 1) (by decide) dX10_takeBit_176 ?_
        refine x_isub (pc := 177) dX10_takeBit_177 ?_
        refine x_icmp_ge (pc := 178) 186 (by decide) dX10_takeBit_178 ?_ ?_
        · refine x_iload (pc := 186) 3 rfl dX10_takeBit_186 ?_
          refine x_iconst (pc := 188) (v := 1) (by decide) dX10_takeBit_188 ?_
          refine x_isub (pc := 189) dX10_takeBit_189 ?_
          refine x_callV (pc := 190) (As := [.int x1, .int (x4 - (1 : Int32))]) (rest := []) (lev' := 3) si_X10_209 (m_M_joinLeaves h21 this x1 (x4 - (1 : Int32))) (fun z e => grd1 e) rfl rfl (by decide) (cat4 (Nat.le_of_ble_eq_true rfl)) dX10_takeBit_190 (kV (fun h34 => ?_)) xNo
          exact x_vret (pc := 193) dX10_takeBit_193
        · refine x_iload (pc := 181) 3 rfl dX10_takeBit_181 ?_
          refine x_goto (pc := 183) 190 (by decide) dX10_takeBit_183 ?_
          refine x_callV (pc := 190) (As := [.int x1, .int x4]) (rest := []) (lev' := 3) si_X10_209 (m_M_joinLeaves h21 this x1 x4) (fun z e => grd1 e) rfl rfl (by decide) (cat4 (Nat.le_of_ble_eq_true rfl)) dX10_takeBit_190 (kV (fun h35 => ?_)) xNo
          exact x_vret (pc := 193) dX10_takeBit_193
    · refine x_aload_nR (pc := 114) (a := this) 0 rfl rfl dX10_takeBit_114 ?_
      refine x_getQ (pc := 115) fi_X10_98 dX10_takeBit_115 ?_
      intro v36
      refine x_aload_nR (pc := 118) (a := this) 0 rfl rfl dX10_takeBit_118 ?_
      refine x_iload_n (pc := 119) 1 rfl rfl dX10_takeBit_119 ?_
      refine x_iload (pc := 120) 3 rfl dX10_takeBit_120 ?_
      refine x_callV (pc := 122) (As := [.int x1, .int x4]) (rest := [va_rf v36]) (lev' := 1) si_X10_195 (m_M_leafAt h15 this x1 x4) (fun z e => grd1 e) rfl rfl (by decide) (cat4 (Nat.le_of_ble_eq_true rfl)) dX10_takeBit_122 (kI (fun v38 h37 => ?_)) xNo
      refine x_nn (fun a39 e40 => ?_)
      subst e40
      refine x_iald (pc := 125) dX10_takeBit_125 ?_
      intro v41
      refine x_if_ne (pc := 126) 140 (by decide) dX10_takeBit_126 ?_ ?_
      · exact x_vret (pc := 140) dX10_takeBit_140
      · refine x_aload_nR (pc := 129) (a := this) 0 rfl rfl dX10_takeBit_129 ?_
        refine x_getQ (pc := 130) fi_X10_98 dX10_takeBit_130 ?_
        intro v42
        refine x_sipush (pc := 133) (v := 2611) (by decide) dX10_takeBit_133 ?_
        refine x_iload_n (pc := 136) 1 rfl rfl dX10_takeBit_136 ?_
        refine x_iadd (pc := 137) dX10_takeBit_137 ?_
        refine x_iconst (pc := 138) (v := 0) (by decide) dX10_takeBit_138 ?_
        refine x_nn (fun a43 e44 => ?_)
        subst e44
        refine x_iast (pc := 139) dX10_takeBit_139 ?_
        intro h45
        exact x_vret (pc := 140) dX10_takeBit_140
  · refine x_aload_nR (pc := 45) (a := this) 0 rfl rfl dX10_takeBit_45 ?_
    refine x_getQ (pc := 46) fi_X10_98 dX10_takeBit_46 ?_
    intro v46
    refine x_iload_n (pc := 49) 2 rfl rfl dX10_takeBit_49 ?_
    refine x_iload (pc := 50) 4 rfl dX10_takeBit_50 ?_
    refine x_iadd (pc := 52) dX10_takeBit_52 ?_
    refine x_aload_nR (pc := 53) (a := this) 0 rfl rfl dX10_takeBit_53 ?_
    refine x_getQ (pc := 54) fi_X10_98 dX10_takeBit_54 ?_
    intro v47
    refine x_iload_n (pc := 57) 2 rfl rfl dX10_takeBit_57 ?_
    refine x_iload (pc := 58) 4 rfl dX10_takeBit_58 ?_
    refine x_iadd (pc := 60) dX10_takeBit_60 ?_
    refine x_iconst (pc := 61) (v := 1) (by decide) dX10_takeBit_61 ?_
    refine x_iadd (pc := 62) dX10_takeBit_62 ?_
    refine x_nn (fun a48 e49 => ?_)
    subst e49
    refine x_iald (pc := 63) dX10_takeBit_63 ?_
    intro v50
    refine x_nn (fun a51 e52 => ?_)
    subst e52
    refine x_iast (pc := 64) dX10_takeBit_64 ?_
    intro h53
    refine x_iinc (pc := 65) (v := (1 : Int32)) (lv' := [(5, .int (x5 + (1 : Int32))), (0, .ref this), (1, .int x1), (3, .int x3), (4, .int x4)]) 4 rfl (by decide) (by decide) rfl dX10_takeBit_65 ?_
    refine x_goto (pc := 68) 35 (by decide) dX10_takeBit_68 ?_
    refine Sim.lv [1, 2, 3, 4, 0] rfl ?_
    exact hr35 h53 this x1 x3 x4 (x5 + (1 : Int32))
set_option maxHeartbeats 4000000 in
theorem v_M_takeBit_l35 : ∀ (n : Nat) (h : PH) (this : Nat) (x1 : Int32) (x3 : Int32) (x4 : Int32) (x5 : Int32), Sim Y_M_takeBit h 35 [(0, .ref this), (1, .int x1), (3, .int x3), (4, .int x4), (5, .int x5)] [] (itr (c_M_takeBit_l35) (fun _ _ _ _ _ _ => none) n h this x1 x3 x4 x5)
  | 0, h, this, x1, x3, x4, x5 => Sim.none
  | n + 1, h, this, x1, x3, x4, x5 => w_M_takeBit_l35 _ (v_M_takeBit_l35 n) h this x1 x3 x4 x5
set_option maxHeartbeats 4000000 in
theorem m_M_takeBit (h : PH) (this : Nat) (x1 : Int32) (x2 : Int32) : MM yX10_takeBit (ws_ yX10_takeBit cX10_takeBit 6 none) 4 [.ref this, .int x1, .int x2] h (c_M_takeBit h this x1 x2) := by
  refine MM.of (by decide) rfl (by decide) (Nat.le_of_ble_eq_true rfl) (own := RX10) (cc := cX10_takeBit) (maxL := 6) (lev := 4) (rt := none) (ini := false) ?_
  show Sim Y_M_takeBit h 0 [(0, .ref this), (1, .int x1), (2, .int x2)] [] _
  unfold c_M_takeBit
  refine x_grd ?_
  refine x_sipush (pc := 0) (v := 3420) (by decide) dX10_takeBit_0 ?_
  refine x_sipush (pc := 3) (v := 600) (by decide) dX10_takeBit_3 ?_
  refine x_iload_n (pc := 6) 1 rfl rfl dX10_takeBit_6 ?_
  refine x_imul (pc := 7) dX10_takeBit_7 ?_
  refine x_iadd (pc := 8) dX10_takeBit_8 ?_
  refine x_nmI (fun y1 => ?_)
  refine x_istore_n (pc := 9) (lv' := [(3, .int y1), (0, .ref this), (1, .int x1), (2, .int x2)]) rfl (by decide) rfl dX10_takeBit_9 ?_
  refine x_aload_nR (pc := 10) (a := this) 1 rfl rfl dX10_takeBit_10 ?_
  refine x_iload_n (pc := 11) 2 rfl rfl dX10_takeBit_11 ?_
  refine x_iload_n (pc := 12) 3 rfl rfl dX10_takeBit_12 ?_
  refine x_callV (pc := 13) (As := [.int x1, .int x2]) (rest := []) (lev' := 2) si_X10_202 (m_M_leafOf h this x1 x2) (fun z e => grd1 e) rfl rfl (by decide) (cat4 (Nat.le_of_ble_eq_true rfl)) dX10_takeBit_13 (kI (fun v3 h2 => ?_)) xNo
  refine x_istore (pc := 16) (lv' := [(4, .int v3), (3, .int y1), (0, .ref this), (1, .int x1), (2, .int x2)]) (by decide) rfl dX10_takeBit_16 ?_
  refine x_aload_nR (pc := 18) (a := this) 2 rfl rfl dX10_takeBit_18 ?_
  refine x_getQ (pc := 19) fi_X10_98 dX10_takeBit_19 ?_
  intro v4
  refine x_sipush (pc := 22) (v := 2607) (by decide) dX10_takeBit_22 ?_
  refine x_iload_n (pc := 25) 3 rfl rfl dX10_takeBit_25 ?_
  refine x_iadd (pc := 26) dX10_takeBit_26 ?_
  refine x_dup2 (pc := 27) rfl (rf_cat v4) dX10_takeBit_27 ?_
  refine x_nn (fun a5 e6 => ?_)
  subst e6
  refine x_iald (pc := 28) dX10_takeBit_28 ?_
  intro v7
  refine x_iconst (pc := 29) (v := 1) (by decide) dX10_takeBit_29 ?_
  refine x_isub (pc := 30) dX10_takeBit_30 ?_
  refine x_iast (pc := 31) dX10_takeBit_31 ?_
  intro h8
  refine x_iload_n (pc := 32) 4 rfl rfl dX10_takeBit_32 ?_
  refine x_istore (pc := 33) (lv' := [(5, .int x2), (4, .int v3), (3, .int y1), (0, .ref this), (1, .int x1), (2, .int x2)]) (by decide) rfl dX10_takeBit_33 ?_
  refine Sim.lv [3, 4, 2, 1, 0] rfl ?_
  exact v_M_takeBit_l35 FU h8 this x1 y1 v3 x2
theorem si_X10_298 : SiV RX10 298 8 yX10_takeBit cX10_takeBit 6 none 2 := ⟨_, _, _, ci_8.1, by decide, lw_V q2128 q2130 qs83 q121 q2131, ⟨rfl, by decide, by decide, by decide +kernel⟩, by decide⟩
abbrev Y_M_moves : Yx := (RX10, cX10_moves, 6, 5, none, [], false)
def c_M_moves_l47 (r47 : PH → Nat → Int32 → Int32 → Int32 → Int32 → Option RH) (h : PH) (this : Nat) (x1 : Int32) (x2 : Int32) (x4 : Int32) (x5 : Int32) : Option RH :=
  if x4 ≤ x5 then
    rV h
  else
    hV (c_M_takeBit h this x1 x2) noX fun h1 =>
    r47 h1 this x1 x2 x4 (x5 + (1 : Int32))
def c_M_moves_l12 (r12 : PH → Nat → Int32 → Int32 → Int32 → Int32 → Int32 → Option RH) (h : PH) (this : Nat) (x1 : Int32) (x2 : Int32) (x3 : Int32) (x4 : Int32) (x5 : Int32) : Option RH :=
  if x4 ≤ x5 then
    itr (c_M_moves_l47) (fun _ _ _ _ _ _ => none) FU h this x1 x2 x4 (0 : Int32)
  else
    hI (c_M_sizeOf h this x3) noX fun v2 h1 =>
    hI (c_M_bitOf h1 this x1 (x2 + x5)) noX fun v4 h3 =>
    hV (c_M_putBit h3 this x3 v2 v4) noX fun h5 =>
    r12 h5 this x1 x2 x3 x4 (x5 + (1 : Int32))
def c_M_moves (h : PH) (this : Nat) (x1 : Int32) (x2 : Int32) (x3 : Int32) : Option RH :=
  grd h this [8] (
  hI (c_M_sizeOf h this x1) noX fun v2 h1 =>
  nm (v2 - x2) fun y3 =>
  itr (c_M_moves_l12) (fun _ _ _ _ _ _ _ => none) FU h1 this x1 x2 x3 y3 (0 : Int32))
set_option maxHeartbeats 4000000 in
theorem w_M_moves_l47 (r47 : PH → Nat → Int32 → Int32 → Int32 → Int32 → Option RH) (hr47 : ∀ (h : PH) (this : Nat) (x1 : Int32) (x2 : Int32) (x4 : Int32) (x5 : Int32), Sim Y_M_moves h 47 [(0, .ref this), (1, .int x1), (2, .int x2), (4, .int x4), (5, .int x5)] [] (r47 h this x1 x2 x4 x5)) (h : PH) (this : Nat) (x1 : Int32) (x2 : Int32) (x4 : Int32) (x5 : Int32) : Sim Y_M_moves h 47 [(0, .ref this), (1, .int x1), (2, .int x2), (4, .int x4), (5, .int x5)] [] (c_M_moves_l47 r47 h this x1 x2 x4 x5) := by
  unfold c_M_moves_l47
  refine x_iload (pc := 47) 4 rfl dX10_moves_47 ?_
  refine x_iload (pc := 49) 3 rfl dX10_moves_49 ?_
  refine x_icmp_ge (pc := 51) 66 (by decide) dX10_moves_51 ?_ ?_
  · exact x_vret (pc := 66) dX10_moves_66
  · refine x_aload_nR (pc := 54) (a := this) 0 rfl rfl dX10_moves_54 ?_
    refine x_iload_n (pc := 55) 1 rfl rfl dX10_moves_55 ?_
    refine x_iload_n (pc := 56) 2 rfl rfl dX10_moves_56 ?_
    refine x_callV (pc := 57) (As := [.int x1, .int x2]) (rest := []) (lev' := 4) si_X10_298 (m_M_takeBit h this x1 x2) (fun z e => grd1 e) rfl rfl (by decide) (cat4 (Nat.le_of_ble_eq_true rfl)) dX10_moves_57 (kV (fun h1 => ?_)) xNo
    refine x_iinc (pc := 60) (v := (1 : Int32)) (lv' := [(5, .int (x5 + (1 : Int32))), (0, .ref this), (1, .int x1), (2, .int x2), (4, .int x4)]) 4 rfl (by decide) (by decide) rfl dX10_moves_60 ?_
    refine x_goto (pc := 63) 47 (by decide) dX10_moves_63 ?_
    refine Sim.lv [1, 2, 3, 4, 0] rfl ?_
    exact hr47 h1 this x1 x2 x4 (x5 + (1 : Int32))
set_option maxHeartbeats 4000000 in
theorem v_M_moves_l47 : ∀ (n : Nat) (h : PH) (this : Nat) (x1 : Int32) (x2 : Int32) (x4 : Int32) (x5 : Int32), Sim Y_M_moves h 47 [(0, .ref this), (1, .int x1), (2, .int x2), (4, .int x4), (5, .int x5)] [] (itr (c_M_moves_l47) (fun _ _ _ _ _ _ => none) n h this x1 x2 x4 x5)
  | 0, h, this, x1, x2, x4, x5 => Sim.none
  | n + 1, h, this, x1, x2, x4, x5 => w_M_moves_l47 _ (v_M_moves_l47 n) h this x1 x2 x4 x5
set_option maxHeartbeats 4000000 in
theorem w_M_moves_l12 (r12 : PH → Nat → Int32 → Int32 → Int32 → Int32 → Int32 → Option RH) (hr12 : ∀ (h : PH) (this : Nat) (x1 : Int32) (x2 : Int32) (x3 : Int32) (x4 : Int32) (x5 : Int32), Sim Y_M_moves h 12 [(0, .ref this), (1, .int x1), (2, .int x2), (3, .int x3), (4, .int x4), (5, .int x5)] [] (r12 h this x1 x2 x3 x4 x5)) (h : PH) (this : Nat) (x1 : Int32) (x2 : Int32) (x3 : Int32) (x4 : Int32) (x5 : Int32) : Sim Y_M_moves h 12 [(0, .ref this), (1, .int x1), (2, .int x2), (3, .int x3), (4, .int x4), (5, .int x5)] [] (c_M_moves_l12 r12 h this x1 x2 x3 x4 x5) := by
  unfold c_M_moves_l12
  refine x_iload (pc := 12) 5 rfl dX10_moves_12 ?_
  refine x_iload (pc := 14) 4 rfl dX10_moves_14 ?_
  refine x_icmp_ge (pc := 16) 44 (by decide) dX10_moves_16 ?_ ?_
  · refine x_iconst (pc := 44) (v := 0) (by decide) dX10_moves_44 ?_
    refine x_istore (pc := 45) (lv' := [(5, .int (0 : Int32)), (0, .ref this), (1, .int x1), (2, .int x2), (3, .int x3), (4, .int x4)]) (by decide) rfl dX10_moves_45 ?_
    refine Sim.lv [1, 2, 3, 5, 0] rfl ?_
    exact v_M_moves_l47 FU h this x1 x2 x4 (0 : Int32)
  · refine x_aload_nR (pc := 19) (a := this) 0 rfl rfl dX10_moves_19 ?_
    refine x_iload_n (pc := 20) 3 rfl rfl dX10_moves_20 ?_
    refine x_aload_nR (pc := 21) (a := this) 0 rfl rfl dX10_moves_21 ?_
    refine x_iload_n (pc := 22) 3 rfl rfl dX10_moves_22 ?_
    refine x_callV (pc := 23) (As := [.int x3]) (rest := [.int x3, .ref this]) (lev' := 1) si_X10_199 (m_M_sizeOf h this x3) (fun z e => grd1 e) rfl rfl (by decide) (cat4 (Nat.le_of_ble_eq_true rfl)) dX10_moves_23 (kI (fun v2 h1 => ?_)) xNo
    refine x_aload_nR (pc := 26) (a := this) 0 rfl rfl dX10_moves_26 ?_
    refine x_iload_n (pc := 27) 1 rfl rfl dX10_moves_27 ?_
    refine x_iload_n (pc := 28) 2 rfl rfl dX10_moves_28 ?_
    refine x_iload (pc := 29) 5 rfl dX10_moves_29 ?_
    refine x_iadd (pc := 31) dX10_moves_31 ?_
    refine x_callV (pc := 32) (As := [.int x1, .int (x2 + x5)]) (rest := [.int v2, .int x3, .ref this]) (lev' := 1) si_X10_212 (m_M_bitOf h1 this x1 (x2 + x5)) (fun z e => grd1 e) rfl rfl (by decide) (cat4 (Nat.le_of_ble_eq_true rfl)) dX10_moves_32 (kI (fun v4 h3 => ?_)) xNo
    refine x_callV (pc := 35) (As := [.int x3, .int v2, .int v4]) (rest := []) (lev' := 3) si_X10_142 (m_M_putBit h3 this x3 v2 v4) (fun z e => grd1 e) rfl rfl (by decide) (cat4 (Nat.le_of_ble_eq_true rfl)) dX10_moves_35 (kV (fun h5 => ?_)) xNo
    refine x_iinc (pc := 38) (v := (1 : Int32)) (lv' := [(5, .int (x5 + (1 : Int32))), (0, .ref this), (1, .int x1), (2, .int x2), (3, .int x3), (4, .int x4)]) 5 rfl (by decide) (by decide) rfl dX10_moves_38 ?_
    refine x_goto (pc := 41) 12 (by decide) dX10_moves_41 ?_
    refine Sim.lv [1, 2, 3, 4, 5, 0] rfl ?_
    exact hr12 h5 this x1 x2 x3 x4 (x5 + (1 : Int32))
set_option maxHeartbeats 4000000 in
theorem v_M_moves_l12 : ∀ (n : Nat) (h : PH) (this : Nat) (x1 : Int32) (x2 : Int32) (x3 : Int32) (x4 : Int32) (x5 : Int32), Sim Y_M_moves h 12 [(0, .ref this), (1, .int x1), (2, .int x2), (3, .int x3), (4, .int x4), (5, .int x5)] [] (itr (c_M_moves_l12) (fun _ _ _ _ _ _ _ => none) n h this x1 x2 x3 x4 x5)
  | 0, h, this, x1, x2, x3, x4, x5 => Sim.none
  | n + 1, h, this, x1, x2, x3, x4, x5 => w_M_moves_l12 _ (v_M_moves_l12 n) h this x1 x2 x3 x4 x5
set_option maxHeartbeats 4000000 in
theorem m_M_moves (h : PH) (this : Nat) (x1 : Int32) (x2 : Int32) (x3 : Int32) : MM yX10_moves (ws_ yX10_moves cX10_moves 6 none) 5 [.ref this, .int x1, .int x2, .int x3] h (c_M_moves h this x1 x2 x3) := by
  refine MM.of (by decide) rfl (by decide) (Nat.le_of_ble_eq_true rfl) (own := RX10) (cc := cX10_moves) (maxL := 6) (lev := 5) (rt := none) (ini := false) ?_
  show Sim Y_M_moves h 0 [(0, .ref this), (1, .int x1), (2, .int x2), (3, .int x3)] [] _
  unfold c_M_moves
  refine x_grd ?_
  refine x_aload_nR (pc := 0) (a := this) 0 rfl rfl dX10_moves_0 ?_
  refine x_iload_n (pc := 1) 1 rfl rfl dX10_moves_1 ?_
  refine x_callV (pc := 2) (As := [.int x1]) (rest := []) (lev' := 1) si_X10_199 (m_M_sizeOf h this x1) (fun z e => grd1 e) rfl rfl (by decide) (cat4 (Nat.le_of_ble_eq_true rfl)) dX10_moves_2 (kI (fun v2 h1 => ?_)) xNo
  refine x_iload_n (pc := 5) 2 rfl rfl dX10_moves_5 ?_
  refine x_isub (pc := 6) dX10_moves_6 ?_
  refine x_nmI (fun y3 => ?_)
  refine x_istore (pc := 7) (lv' := [(4, .int y3), (0, .ref this), (1, .int x1), (2, .int x2), (3, .int x3)]) (by decide) rfl dX10_moves_7 ?_
  refine x_iconst (pc := 9) (v := 0) (by decide) dX10_moves_9 ?_
  refine x_istore (pc := 10) (lv' := [(5, .int (0 : Int32)), (4, .int y3), (0, .ref this), (1, .int x1), (2, .int x2), (3, .int x3)]) (by decide) rfl dX10_moves_10 ?_
  refine Sim.lv [2, 3, 4, 5, 1, 0] rfl ?_
  exact v_M_moves_l12 FU h1 this x1 x2 x3 y3 (0 : Int32)
theorem si_X10_301 : SiV RX10 301 8 yX10_moves cX10_moves 6 none 3 := ⟨_, _, _, ci_8.1, by decide, lw_V q2136 q2138 qs85 q121 q2139, ⟨rfl, by decide, by decide, by decide +kernel⟩, by decide⟩
abbrev Y_M_live : Yx := (RX10, cX10_live, 6, 6, none, [], false)
def c_M_live_l75 (r75 : PH → Nat → Int32 → Int32 → Int32 → Int32 → Option RH) (h : PH) (this : Nat) (x2 : Int32) (x3 : Int32) (x4 : Int32) (x5 : Int32) : Option RH :=
  if x4 ≤ x5 then
    rV h
  else
    hV (c_M_takeBit h this x2 x3) noX fun h1 =>
    r75 h1 this x2 x3 x4 (x5 + (1 : Int32))
def c_M_live_l98 (r98 : PH → Nat → Int32 → Int32 → Int32 → Int32 → Option RH) (h : PH) (this : Nat) (x2 : Int32) (x3 : Int32) (x4 : Int32) (x5 : Int32) : Option RH :=
  if (x3 + x4) ≤ x5 then
    rV h
  else
    gQ h this [8] 14 fun v1 =>
    hI (c_M_bitOf h this x2 x5) noX fun v3 h2 =>
    nn v1 fun a4 =>
    stI h2 a4 (((3420 : Int32) + ((600 : Int32) * x2)) + x5) ((1 : Int32) - v3) fun h6 =>
    r98 h6 this x2 x3 x4 (x5 + (1 : Int32))
def c_M_live_l168 (r168 : PH → Nat → Int32 → Int32 → Int32 → Option RH) (h : PH) (this : Nat) (x3 : Int32) (x4 : Int32) (x5 : Int32) : Option RH :=
  if x5 ≤ x3 then
    gQ h this [8] 14 fun v1 =>
    nn v1 fun a2 =>
    stI h a2 ((2616 : Int32) + x3) x4 fun h4 =>
    gQ h4 this [8] 14 fun v5 =>
    nn v5 fun a6 =>
    ldI h4 a6 0 (2615 : Int32) fun v8 =>
    stI h4 a6 (2615 : Int32) (v8 + (1 : Int32)) fun h9 =>
    rV h9
  else
    gQ h this [8] 14 fun v10 =>
    gQ h this [8] 14 fun v11 =>
    nn v11 fun a12 =>
    ldI h a12 0 (((2616 : Int32) + x5) - (1 : Int32)) fun v14 =>
    nn v10 fun a15 =>
    stI h a15 ((2616 : Int32) + x5) v14 fun h17 =>
    r168 h17 this x3 x4 (x5 + (-1 : Int32))
def c_M_live_l245 (r245 : PH → Nat → Int32 → Int32 → Option RH) (h : PH) (this : Nat) (x4 : Int32) (x5 : Int32) : Option RH :=
  if (200 : Int32) ≤ x5 then
    rV h
  else
    gQ h this [8] 14 fun v1 =>
    gQ h this [8] 14 fun v2 =>
    nn v2 fun a3 =>
    ldI h a3 0 (2615 : Int32) fun v5 =>
    if v5 ≤ x5 then
      nn v1 fun a6 =>
      stI h a6 ((2616 : Int32) + x5) (0 : Int32) fun h8 =>
      r245 h8 this x4 (x5 + (1 : Int32))
    else
      gQ h this [8] 14 fun v9 =>
      nn v9 fun a10 =>
      ldI h a10 0 (((2616 : Int32) + x5) + x4) fun v12 =>
      nn v1 fun a13 =>
      stI h a13 ((2616 : Int32) + x5) v12 fun h15 =>
      r245 h15 this x4 (x5 + (1 : Int32))
def c_M_live (h : PH) (this : Nat) (x1 : Int32) (x2 : Int32) (x3 : Int32) (x4 : Int32) : Option RH :=
  grd h this [8] (
  if x1 = 0 then
    hV (c_M_putBit h this x2 x3 x4) noX fun h1 =>
    rV h1
  else
  if x1 = 1 then
    gQ h this [8] 14 fun v2 =>
    nn v2 fun a3 =>
    stI h a3 (((3420 : Int32) + ((600 : Int32) * x2)) + x3) x4 fun h5 =>
    rV h5
  else
  if x1 = 2 then
    itr (c_M_live_l75) (fun _ _ _ _ _ _ => none) FU h this x2 x3 x4 (0 : Int32)
  else
  if x1 = 3 then
    itr (c_M_live_l98) (fun _ _ _ _ _ _ => none) FU h this x2 x3 x4 x3
  else
  if x1 = 4 then
    hV (c_M_moves h this x4 (0 : Int32) x2) noX fun h6 =>
    rV h6
  else
  if x1 = 5 then
    hV (c_M_moves h this x2 x3 x4) noX fun h7 =>
    rV h7
  else
  if x1 = 6 then
    gQ h this [8] 14 fun v8 =>
    nn v8 fun a9 =>
    ldI h a9 0 (2615 : Int32) fun v11 =>
    itr (c_M_live_l168) (fun _ _ _ _ _ => none) FU h this x3 x4 v11
  else
  gQ h this [8] 14 fun v12 =>
  nn v12 fun a13 =>
  ldI h a13 0 (2615 : Int32) fun v15 =>
  stI h a13 (2615 : Int32) (v15 - x4) fun h16 =>
  itr (c_M_live_l245) (fun _ _ _ _ => none) FU h16 this x4 x3)
set_option maxHeartbeats 4000000 in
theorem w_M_live_l75 (r75 : PH → Nat → Int32 → Int32 → Int32 → Int32 → Option RH) (hr75 : ∀ (h : PH) (this : Nat) (x2 : Int32) (x3 : Int32) (x4 : Int32) (x5 : Int32), Sim Y_M_live h 75 [(0, .ref this), (2, .int x2), (3, .int x3), (4, .int x4), (5, .int x5)] [] (r75 h this x2 x3 x4 x5)) (h : PH) (this : Nat) (x2 : Int32) (x3 : Int32) (x4 : Int32) (x5 : Int32) : Sim Y_M_live h 75 [(0, .ref this), (2, .int x2), (3, .int x3), (4, .int x4), (5, .int x5)] [] (c_M_live_l75 r75 h this x2 x3 x4 x5) := by
  unfold c_M_live_l75
  refine x_iload (pc := 75) 4 rfl dX10_live_75 ?_
  refine x_iload (pc := 77) 3 rfl dX10_live_77 ?_
  refine x_icmp_ge (pc := 79) 94 (by decide) dX10_live_79 ?_ ?_
  · exact x_vret (pc := 94) dX10_live_94
  · refine x_aload_nR (pc := 82) (a := this) 0 rfl rfl dX10_live_82 ?_
    refine x_iload_n (pc := 83) 1 rfl rfl dX10_live_83 ?_
    refine x_iload_n (pc := 84) 2 rfl rfl dX10_live_84 ?_
    refine x_callV (pc := 85) (As := [.int x2, .int x3]) (rest := []) (lev' := 4) si_X10_298 (m_M_takeBit h this x2 x3) (fun z e => grd1 e) rfl rfl (by decide) (cat4 (Nat.le_of_ble_eq_true rfl)) dX10_live_85 (kV (fun h1 => ?_)) xNo
    refine x_iinc (pc := 88) (v := (1 : Int32)) (lv' := [(5, .int (x5 + (1 : Int32))), (0, .ref this), (2, .int x2), (3, .int x3), (4, .int x4)]) 4 rfl (by decide) (by decide) rfl dX10_live_88 ?_
    refine x_goto (pc := 91) 75 (by decide) dX10_live_91 ?_
    refine Sim.lv [1, 2, 3, 4, 0] rfl ?_
    exact hr75 h1 this x2 x3 x4 (x5 + (1 : Int32))
set_option maxHeartbeats 4000000 in
theorem v_M_live_l75 : ∀ (n : Nat) (h : PH) (this : Nat) (x2 : Int32) (x3 : Int32) (x4 : Int32) (x5 : Int32), Sim Y_M_live h 75 [(0, .ref this), (2, .int x2), (3, .int x3), (4, .int x4), (5, .int x5)] [] (itr (c_M_live_l75) (fun _ _ _ _ _ _ => none) n h this x2 x3 x4 x5)
  | 0, h, this, x2, x3, x4, x5 => Sim.none
  | n + 1, h, this, x2, x3, x4, x5 => w_M_live_l75 _ (v_M_live_l75 n) h this x2 x3 x4 x5
set_option maxHeartbeats 4000000 in
theorem w_M_live_l98 (r98 : PH → Nat → Int32 → Int32 → Int32 → Int32 → Option RH) (hr98 : ∀ (h : PH) (this : Nat) (x2 : Int32) (x3 : Int32) (x4 : Int32) (x5 : Int32), Sim Y_M_live h 98 [(0, .ref this), (2, .int x2), (3, .int x3), (4, .int x4), (5, .int x5)] [] (r98 h this x2 x3 x4 x5)) (h : PH) (this : Nat) (x2 : Int32) (x3 : Int32) (x4 : Int32) (x5 : Int32) : Sim Y_M_live h 98 [(0, .ref this), (2, .int x2), (3, .int x3), (4, .int x4), (5, .int x5)] [] (c_M_live_l98 r98 h this x2 x3 x4 x5) := by
  unfold c_M_live_l98
  refine x_iload (pc := 98) 4 rfl dX10_live_98 ?_
  refine x_iload_n (pc := 100) 2 rfl rfl dX10_live_100 ?_
  refine x_iload (pc := 101) 3 rfl dX10_live_101 ?_
  refine x_iadd (pc := 103) dX10_live_103 ?_
  refine x_icmp_ge (pc := 104) 139 (by decide) dX10_live_104 ?_ ?_
  · exact x_vret (pc := 139) dX10_live_139
  · refine x_aload_nR (pc := 107) (a := this) 0 rfl rfl dX10_live_107 ?_
    refine x_getQ (pc := 108) fi_X10_98 dX10_live_108 ?_
    intro v1
    refine x_sipush (pc := 111) (v := 3420) (by decide) dX10_live_111 ?_
    refine x_sipush (pc := 114) (v := 600) (by decide) dX10_live_114 ?_
    refine x_iload_n (pc := 117) 1 rfl rfl dX10_live_117 ?_
    refine x_imul (pc := 118) dX10_live_118 ?_
    refine x_iadd (pc := 119) dX10_live_119 ?_
    refine x_iload (pc := 120) 4 rfl dX10_live_120 ?_
    refine x_iadd (pc := 122) dX10_live_122 ?_
    refine x_iconst (pc := 123) (v := 1) (by decide) dX10_live_123 ?_
    refine x_aload_nR (pc := 124) (a := this) 0 rfl rfl dX10_live_124 ?_
    refine x_iload_n (pc := 125) 1 rfl rfl dX10_live_125 ?_
    refine x_iload (pc := 126) 4 rfl dX10_live_126 ?_
    refine x_callV (pc := 128) (As := [.int x2, .int x5]) (rest := [.int (1 : Int32), .int (((3420 : Int32) + ((600 : Int32) * x2)) + x5), va_rf v1]) (lev' := 1) si_X10_212 (m_M_bitOf h this x2 x5) (fun z e => grd1 e) rfl rfl (by decide) (cat4 (Nat.le_of_ble_eq_true rfl)) dX10_live_128 (kI (fun v3 h2 => ?_)) xNo
    refine x_isub (pc := 131) dX10_live_131 ?_
    refine x_nn (fun a4 e5 => ?_)
    subst e5
    refine x_iast (pc := 132) dX10_live_132 ?_
    intro h6
    refine x_iinc (pc := 133) (v := (1 : Int32)) (lv' := [(5, .int (x5 + (1 : Int32))), (0, .ref this), (2, .int x2), (3, .int x3), (4, .int x4)]) 4 rfl (by decide) (by decide) rfl dX10_live_133 ?_
    refine x_goto (pc := 136) 98 (by decide) dX10_live_136 ?_
    refine Sim.lv [1, 2, 3, 4, 0] rfl ?_
    exact hr98 h6 this x2 x3 x4 (x5 + (1 : Int32))
set_option maxHeartbeats 4000000 in
theorem v_M_live_l98 : ∀ (n : Nat) (h : PH) (this : Nat) (x2 : Int32) (x3 : Int32) (x4 : Int32) (x5 : Int32), Sim Y_M_live h 98 [(0, .ref this), (2, .int x2), (3, .int x3), (4, .int x4), (5, .int x5)] [] (itr (c_M_live_l98) (fun _ _ _ _ _ _ => none) n h this x2 x3 x4 x5)
  | 0, h, this, x2, x3, x4, x5 => Sim.none
  | n + 1, h, this, x2, x3, x4, x5 => w_M_live_l98 _ (v_M_live_l98 n) h this x2 x3 x4 x5
set_option maxHeartbeats 4000000 in
theorem w_M_live_l168 (r168 : PH → Nat → Int32 → Int32 → Int32 → Option RH) (hr168 : ∀ (h : PH) (this : Nat) (x3 : Int32) (x4 : Int32) (x5 : Int32), Sim Y_M_live h 168 [(0, .ref this), (3, .int x3), (4, .int x4), (5, .int x5)] [] (r168 h this x3 x4 x5)) (h : PH) (this : Nat) (x3 : Int32) (x4 : Int32) (x5 : Int32) : Sim Y_M_live h 168 [(0, .ref this), (3, .int x3), (4, .int x4), (5, .int x5)] [] (c_M_live_l168 r168 h this x3 x4 x5) := by
  unfold c_M_live_l168
  refine x_iload (pc := 168) 3 rfl dX10_live_168 ?_
  refine x_iload_n (pc := 170) 1 rfl rfl dX10_live_170 ?_
  refine x_icmp_le (pc := 171) 204 (by decide) dX10_live_171 ?_ ?_
  · refine x_aload_nR (pc := 204) (a := this) 0 rfl rfl dX10_live_204 ?_
    refine x_getQ (pc := 205) fi_X10_98 dX10_live_205 ?_
    intro v1
    refine x_sipush (pc := 208) (v := 2616) (by decide) dX10_live_208 ?_
    refine x_iload_n (pc := 211) 1 rfl rfl dX10_live_211 ?_
    refine x_iadd (pc := 212) dX10_live_212 ?_
    refine x_iload (pc := 213) 2 rfl dX10_live_213 ?_
    refine x_nn (fun a2 e3 => ?_)
    subst e3
    refine x_iast (pc := 215) dX10_live_215 ?_
    intro h4
    refine x_aload_nR (pc := 216) (a := this) 0 rfl rfl dX10_live_216 ?_
    refine x_getQ (pc := 217) fi_X10_98 dX10_live_217 ?_
    intro v5
    refine x_sipush (pc := 220) (v := 2615) (by decide) dX10_live_220 ?_
    refine x_dup2 (pc := 223) rfl (rf_cat v5) dX10_live_223 ?_
    refine x_nn (fun a6 e7 => ?_)
    subst e7
    refine x_iald (pc := 224) dX10_live_224 ?_
    intro v8
    refine x_iconst (pc := 225) (v := 1) (by decide) dX10_live_225 ?_
    refine x_iadd (pc := 226) dX10_live_226 ?_
    refine x_iast (pc := 227) dX10_live_227 ?_
    intro h9
    exact x_vret (pc := 228) dX10_live_228
  · refine x_aload_nR (pc := 174) (a := this) 0 rfl rfl dX10_live_174 ?_
    refine x_getQ (pc := 175) fi_X10_98 dX10_live_175 ?_
    intro v10
    refine x_sipush (pc := 178) (v := 2616) (by decide) dX10_live_178 ?_
    refine x_iload (pc := 181) 3 rfl dX10_live_181 ?_
    refine x_iadd (pc := 183) dX10_live_183 ?_
    refine x_aload_nR (pc := 184) (a := this) 0 rfl rfl dX10_live_184 ?_
    refine x_getQ (pc := 185) fi_X10_98 dX10_live_185 ?_
    intro v11
    refine x_sipush (pc := 188) (v := 2616) (by decide) dX10_live_188 ?_
    refine x_iload (pc := 191) 3 rfl dX10_live_191 ?_
    refine x_iadd (pc := 193) dX10_live_193 ?_
    refine x_iconst (pc := 194) (v := 1) (by decide) dX10_live_194 ?_
    refine x_isub (pc := 195) dX10_live_195 ?_
    refine x_nn (fun a12 e13 => ?_)
    subst e13
    refine x_iald (pc := 196) dX10_live_196 ?_
    intro v14
    refine x_nn (fun a15 e16 => ?_)
    subst e16
    refine x_iast (pc := 197) dX10_live_197 ?_
    intro h17
    refine x_iinc (pc := 198) (v := (-1 : Int32)) (lv' := [(5, .int (x5 + (-1 : Int32))), (0, .ref this), (3, .int x3), (4, .int x4)]) 3 rfl (by decide) (by decide) rfl dX10_live_198 ?_
    refine x_goto (pc := 201) 168 (by decide) dX10_live_201 ?_
    refine Sim.lv [1, 2, 3, 0] rfl ?_
    exact hr168 h17 this x3 x4 (x5 + (-1 : Int32))
set_option maxHeartbeats 4000000 in
theorem v_M_live_l168 : ∀ (n : Nat) (h : PH) (this : Nat) (x3 : Int32) (x4 : Int32) (x5 : Int32), Sim Y_M_live h 168 [(0, .ref this), (3, .int x3), (4, .int x4), (5, .int x5)] [] (itr (c_M_live_l168) (fun _ _ _ _ _ => none) n h this x3 x4 x5)
  | 0, h, this, x3, x4, x5 => Sim.none
  | n + 1, h, this, x3, x4, x5 => w_M_live_l168 _ (v_M_live_l168 n) h this x3 x4 x5
set_option maxHeartbeats 4000000 in
theorem w_M_live_l245 (r245 : PH → Nat → Int32 → Int32 → Option RH) (hr245 : ∀ (h : PH) (this : Nat) (x4 : Int32) (x5 : Int32), Sim Y_M_live h 245 [(0, .ref this), (4, .int x4), (5, .int x5)] [] (r245 h this x4 x5)) (h : PH) (this : Nat) (x4 : Int32) (x5 : Int32) : Sim Y_M_live h 245 [(0, .ref this), (4, .int x4), (5, .int x5)] [] (c_M_live_l245 r245 h this x4 x5) := by
  unfold c_M_live_l245
  refine x_iload (pc := 245) 2 rfl dX10_live_245 ?_
  refine x_sipush (pc := 247) (v := 200) (by decide) dX10_live_247 ?_
  refine x_icmp_ge (pc := 250) 301 (by decide) dX10_live_250 ?_ ?_
  · exact x_vret (pc := 301) dX10_live_301
  · refine x_aload_nR (pc := 253) (a := this) 0 rfl rfl dX10_live_253 ?_
    refine x_getQ (pc := 254) fi_X10_98 dX10_live_254 ?_
    intro v1
    refine x_sipush (pc := 257) (v := 2616) (by decide) dX10_live_257 ?_
    refine x_iload (pc := 260) 2 rfl dX10_live_260 ?_
    refine x_iadd (pc := 262) dX10_live_262 ?_
    refine x_iload (pc := 263) 2 rfl dX10_live_263 ?_
    refine x_aload_nR (pc := 265) (a := this) 0 rfl rfl dX10_live_265 ?_
    refine x_getQ (pc := 266) fi_X10_98 dX10_live_266 ?_
    intro v2
    refine x_sipush (pc := 269) (v := 2615) (by decide) dX10_live_269 ?_
    refine x_nn (fun a3 e4 => ?_)
    subst e4
    refine x_iald (pc := 272) dX10_live_272 ?_
    intro v5
    refine x_icmp_ge (pc := 273) 293 (by decide) dX10_live_273 ?_ ?_
    · refine x_iconst (pc := 293) (v := 0) (by decide) dX10_live_293 ?_
      refine x_nn (fun a6 e7 => ?_)
      subst e7
      refine x_iast (pc := 294) dX10_live_294 ?_
      intro h8
      refine x_iinc (pc := 295) (v := (1 : Int32)) (lv' := [(5, .int (x5 + (1 : Int32))), (0, .ref this), (4, .int x4)]) 2 rfl (by decide) (by decide) rfl dX10_live_295 ?_
      refine x_goto (pc := 298) 245 (by decide) dX10_live_298 ?_
      refine Sim.lv [1, 2, 0] rfl ?_
      exact hr245 h8 this x4 (x5 + (1 : Int32))
    · refine x_aload_nR (pc := 276) (a := this) 0 rfl rfl dX10_live_276 ?_
      refine x_getQ (pc := 277) fi_X10_98 dX10_live_277 ?_
      intro v9
      refine x_sipush (pc := 280) (v := 2616) (by decide) dX10_live_280 ?_
      refine x_iload (pc := 283) 2 rfl dX10_live_283 ?_
      refine x_iadd (pc := 285) dX10_live_285 ?_
      refine x_iload (pc := 286) 1 rfl dX10_live_286 ?_
      refine x_iadd (pc := 288) dX10_live_288 ?_
      refine x_nn (fun a10 e11 => ?_)
      subst e11
      refine x_iald (pc := 289) dX10_live_289 ?_
      intro v12
      refine x_goto (pc := 290) 294 (by decide) dX10_live_290 ?_
      refine x_nn (fun a13 e14 => ?_)
      subst e14
      refine x_iast (pc := 294) dX10_live_294 ?_
      intro h15
      refine x_iinc (pc := 295) (v := (1 : Int32)) (lv' := [(5, .int (x5 + (1 : Int32))), (0, .ref this), (4, .int x4)]) 2 rfl (by decide) (by decide) rfl dX10_live_295 ?_
      refine x_goto (pc := 298) 245 (by decide) dX10_live_298 ?_
      refine Sim.lv [1, 2, 0] rfl ?_
      exact hr245 h15 this x4 (x5 + (1 : Int32))
set_option maxHeartbeats 4000000 in
theorem v_M_live_l245 : ∀ (n : Nat) (h : PH) (this : Nat) (x4 : Int32) (x5 : Int32), Sim Y_M_live h 245 [(0, .ref this), (4, .int x4), (5, .int x5)] [] (itr (c_M_live_l245) (fun _ _ _ _ => none) n h this x4 x5)
  | 0, h, this, x4, x5 => Sim.none
  | n + 1, h, this, x4, x5 => w_M_live_l245 _ (v_M_live_l245 n) h this x4 x5
set_option maxHeartbeats 4000000 in
theorem m_M_live (h : PH) (this : Nat) (x1 : Int32) (x2 : Int32) (x3 : Int32) (x4 : Int32) : MM yX10_live (ws_ yX10_live cX10_live 6 none) 6 [.ref this, .int x1, .int x2, .int x3, .int x4] h (c_M_live h this x1 x2 x3 x4) := by
  refine MM.of (by decide) rfl (by decide) (Nat.le_of_ble_eq_true rfl) (own := RX10) (cc := cX10_live) (maxL := 6) (lev := 6) (rt := none) (ini := false) ?_
  show Sim Y_M_live h 0 [(0, .ref this), (1, .int x1), (2, .int x2), (3, .int x3), (4, .int x4)] [] _
  unfold c_M_live
  refine x_grd ?_
  refine x_iload_n (pc := 0) 1 rfl rfl dX10_live_0 ?_
  refine x_sw0 (pc := 1) (lo := 0) ?_
  refine x_sw (pc := 1) (v := 0) 44 dX10_live_1 rfl (by decide) (by decide) rfl (by decide) ?_ ?_
  · refine x_aload_nR (pc := 44) (a := this) 0 rfl rfl dX10_live_44 ?_
    refine x_iload_n (pc := 45) 2 rfl rfl dX10_live_45 ?_
    refine x_iload_n (pc := 46) 3 rfl rfl dX10_live_46 ?_
    refine x_iload (pc := 47) 4 rfl dX10_live_47 ?_
    refine x_callV (pc := 49) (As := [.int x2, .int x3, .int x4]) (rest := []) (lev' := 3) si_X10_142 (m_M_putBit h this x2 x3 x4) (fun z e => grd1 e) rfl rfl (by decide) (cat4 (Nat.le_of_ble_eq_true rfl)) dX10_live_49 (kV (fun h1 => ?_)) xNo
    exact x_vret (pc := 52) dX10_live_52
  refine x_sw (pc := 1) (v := 1) 53 dX10_live_1 rfl (by decide) (by decide) rfl (by decide) ?_ ?_
  · refine x_aload_nR (pc := 53) (a := this) 0 rfl rfl dX10_live_53 ?_
    refine x_getQ (pc := 54) fi_X10_98 dX10_live_54 ?_
    intro v2
    refine x_sipush (pc := 57) (v := 3420) (by decide) dX10_live_57 ?_
    refine x_sipush (pc := 60) (v := 600) (by decide) dX10_live_60 ?_
    refine x_iload_n (pc := 63) 2 rfl rfl dX10_live_63 ?_
    refine x_imul (pc := 64) dX10_live_64 ?_
    refine x_iadd (pc := 65) dX10_live_65 ?_
    refine x_iload_n (pc := 66) 3 rfl rfl dX10_live_66 ?_
    refine x_iadd (pc := 67) dX10_live_67 ?_
    refine x_iload (pc := 68) 4 rfl dX10_live_68 ?_
    refine x_nn (fun a3 e4 => ?_)
    subst e4
    refine x_iast (pc := 70) dX10_live_70 ?_
    intro h5
    exact x_vret (pc := 71) dX10_live_71
  refine x_sw (pc := 1) (v := 2) 72 dX10_live_1 rfl (by decide) (by decide) rfl (by decide) ?_ ?_
  · refine x_iconst (pc := 72) (v := 0) (by decide) dX10_live_72 ?_
    refine x_istore (pc := 73) (lv' := [(5, .int (0 : Int32)), (0, .ref this), (1, .int x1), (2, .int x2), (3, .int x3), (4, .int x4)]) (by decide) rfl dX10_live_73 ?_
    refine Sim.lv [1, 3, 4, 5, 0] rfl ?_
    exact v_M_live_l75 FU h this x2 x3 x4 (0 : Int32)
  refine x_sw (pc := 1) (v := 3) 95 dX10_live_1 rfl (by decide) (by decide) rfl (by decide) ?_ ?_
  · refine x_iload_n (pc := 95) 3 rfl rfl dX10_live_95 ?_
    refine x_istore (pc := 96) (lv' := [(5, .int x3), (0, .ref this), (1, .int x1), (2, .int x2), (3, .int x3), (4, .int x4)]) (by decide) rfl dX10_live_96 ?_
    refine Sim.lv [1, 3, 4, 5, 0] rfl ?_
    exact v_M_live_l98 FU h this x2 x3 x4 x3
  refine x_sw (pc := 1) (v := 4) 140 dX10_live_1 rfl (by decide) (by decide) rfl (by decide) ?_ ?_
  · refine x_aload_nR (pc := 140) (a := this) 0 rfl rfl dX10_live_140 ?_
    refine x_iload (pc := 141) 4 rfl dX10_live_141 ?_
    refine x_iconst (pc := 143) (v := 0) (by decide) dX10_live_143 ?_
    refine x_iload_n (pc := 144) 2 rfl rfl dX10_live_144 ?_
    refine x_callV (pc := 145) (As := [.int x4, .int (0 : Int32), .int x2]) (rest := []) (lev' := 5) si_X10_301 (m_M_moves h this x4 (0 : Int32) x2) (fun z e => grd1 e) rfl rfl (by decide) (cat4 (Nat.le_of_ble_eq_true rfl)) dX10_live_145 (kV (fun h6 => ?_)) xNo
    exact x_vret (pc := 148) dX10_live_148
  refine x_sw (pc := 1) (v := 5) 149 dX10_live_1 rfl (by decide) (by decide) rfl (by decide) ?_ ?_
  · refine x_aload_nR (pc := 149) (a := this) 0 rfl rfl dX10_live_149 ?_
    refine x_iload_n (pc := 150) 2 rfl rfl dX10_live_150 ?_
    refine x_iload_n (pc := 151) 3 rfl rfl dX10_live_151 ?_
    refine x_iload (pc := 152) 4 rfl dX10_live_152 ?_
    refine x_callV (pc := 154) (As := [.int x2, .int x3, .int x4]) (rest := []) (lev' := 5) si_X10_301 (m_M_moves h this x2 x3 x4) (fun z e => grd1 e) rfl rfl (by decide) (cat4 (Nat.le_of_ble_eq_true rfl)) dX10_live_154 (kV (fun h7 => ?_)) xNo
    exact x_vret (pc := 157) dX10_live_157
  refine x_sw (pc := 1) (v := 6) 158 dX10_live_1 rfl (by decide) (by decide) rfl (by decide) ?_ ?_
  · refine x_aload_nR (pc := 158) (a := this) 0 rfl rfl dX10_live_158 ?_
    refine x_getQ (pc := 159) fi_X10_98 dX10_live_159 ?_
    intro v8
    refine x_sipush (pc := 162) (v := 2615) (by decide) dX10_live_162 ?_
    refine x_nn (fun a9 e10 => ?_)
    subst e10
    refine x_iald (pc := 165) dX10_live_165 ?_
    intro v11
    refine x_istore (pc := 166) (lv' := [(5, .int v11), (0, .ref this), (1, .int x1), (2, .int x2), (3, .int x3), (4, .int x4)]) (by decide) rfl dX10_live_166 ?_
    refine Sim.lv [1, 4, 5, 0] rfl ?_
    exact v_M_live_l168 FU h this x3 x4 v11
  refine x_swD (pc := 1) 229 dX10_live_1 (by decide) (by decide) ?_
  refine x_aload_nR (pc := 229) (a := this) 0 rfl rfl dX10_live_229 ?_
  refine x_getQ (pc := 230) fi_X10_98 dX10_live_230 ?_
  intro v12
  refine x_sipush (pc := 233) (v := 2615) (by decide) dX10_live_233 ?_
  refine x_dup2 (pc := 236) rfl (rf_cat v12) dX10_live_236 ?_
  refine x_nn (fun a13 e14 => ?_)
  subst e14
  refine x_iald (pc := 237) dX10_live_237 ?_
  intro v15
  refine x_iload (pc := 238) 4 rfl dX10_live_238 ?_
  refine x_isub (pc := 240) dX10_live_240 ?_
  refine x_iast (pc := 241) dX10_live_241 ?_
  intro h16
  refine x_iload_n (pc := 242) 3 rfl rfl dX10_live_242 ?_
  refine x_istore (pc := 243) (lv' := [(5, .int x3), (0, .ref this), (1, .int x1), (2, .int x2), (3, .int x3), (4, .int x4)]) (by decide) rfl dX10_live_243 ?_
  refine Sim.lv [1, 5, 0] rfl ?_
  exact v_M_live_l245 FU h16 this x4 x3
theorem si_X10_304 : SiV RX10 304 8 yX10_refusal cX10_refusal 5 (some .int) 4 := ⟨_, _, _, ci_8.1, by decide, lw_V q2105 q2107 qs78 q121 q2108, ⟨rfl, by decide, by decide, by decide +kernel⟩, by decide⟩
theorem si_X10_308 : SiV RX10 308 8 yX10_snap cX10_snap 2 none 0 := ⟨_, _, _, ci_8.1, by decide, lw_V q2116 q2118 qs80 q121 q2119, ⟨rfl, by decide, by decide, by decide +kernel⟩, by decide⟩
theorem si_X10_311 : SiV RX10 311 8 yX10_live cX10_live 6 none 4 := ⟨_, _, _, ci_8.1, by decide, lw_V q2124 q2126 qs82 q121 q2127, ⟨rfl, by decide, by decide, by decide +kernel⟩, by decide⟩
abbrev Y_M_act : Yx := (RX10, cX10_act, 7, 7, (some .int), [], false)
def c_M_act (h : PH) (this : Nat) (x1 : Int32) (x2 : Int32) (x3 : Int32) (x4 : Int32) (x5 : Int32) : Option RH :=
  grd h this [8] (
  if x5 = 0 then
    rI (-1 : Int32) h
  else
    hI (c_M_refusal h this x1 x2 x3 x4) noX fun v2 h1 =>
    if v2 = 0 then
      hV (c_M_snap h1 this) noX fun h3 =>
      hV (c_M_live h3 this x1 x2 x3 x4) noX fun h4 =>
      rI (0 : Int32) h4
    else
      rI v2 h1)
set_option maxHeartbeats 4000000 in
theorem m_M_act (h : PH) (this : Nat) (x1 : Int32) (x2 : Int32) (x3 : Int32) (x4 : Int32) (x5 : Int32) : MM yX10_act (ws_ yX10_act cX10_act 7 (some .int)) 7 [.ref this, .int x1, .int x2, .int x3, .int x4, .int x5] h (c_M_act h this x1 x2 x3 x4 x5) := by
  refine MM.of (by decide) rfl (by decide) (Nat.le_of_ble_eq_true rfl) (own := RX10) (cc := cX10_act) (maxL := 7) (lev := 7) (rt := (some .int)) (ini := false) ?_
  show Sim Y_M_act h 0 [(0, .ref this), (1, .int x1), (2, .int x2), (3, .int x3), (4, .int x4), (5, .int x5)] [] _
  unfold c_M_act
  refine x_grd ?_
  refine x_iload (pc := 0) 5 rfl dX10_act_0 ?_
  refine x_if_ne (pc := 2) 7 (by decide) dX10_act_2 ?_ ?_
  · refine x_aload_nR (pc := 7) (a := this) 0 rfl rfl dX10_act_7 ?_
    refine x_iload_n (pc := 8) 1 rfl rfl dX10_act_8 ?_
    refine x_iload_n (pc := 9) 2 rfl rfl dX10_act_9 ?_
    refine x_iload_n (pc := 10) 3 rfl rfl dX10_act_10 ?_
    refine x_iload (pc := 11) 4 rfl dX10_act_11 ?_
    refine x_callV (pc := 13) (As := [.int x1, .int x2, .int x3, .int x4]) (rest := []) (lev' := 3) si_X10_304 (m_M_refusal h this x1 x2 x3 x4) (fun z e => grd1 e) rfl rfl (by decide) (cat4 (Nat.le_of_ble_eq_true rfl)) dX10_act_13 (kI (fun v2 h1 => ?_)) xNo
    refine x_istore (pc := 16) (lv' := [(6, .int v2), (0, .ref this), (1, .int x1), (2, .int x2), (3, .int x3), (4, .int x4), (5, .int x5)]) (by decide) rfl dX10_act_16 ?_
    refine x_iload (pc := 18) 0 rfl dX10_act_18 ?_
    refine x_if_eq (pc := 20) 26 (by decide) dX10_act_20 ?_ ?_
    · refine x_aload_nR (pc := 26) (a := this) 1 rfl rfl dX10_act_26 ?_
      refine x_callV (pc := 27) (As := []) (rest := []) (lev' := 2) si_X10_308 (m_M_snap h1 this) (fun z e => grd1 e) rfl rfl (by decide) (cat4 (Nat.le_of_ble_eq_true rfl)) dX10_act_27 (kV (fun h3 => ?_)) xNo
      refine x_aload_nR (pc := 30) (a := this) 1 rfl rfl dX10_act_30 ?_
      refine x_iload_n (pc := 31) 2 rfl rfl dX10_act_31 ?_
      refine x_iload_n (pc := 32) 3 rfl rfl dX10_act_32 ?_
      refine x_iload_n (pc := 33) 4 rfl rfl dX10_act_33 ?_
      refine x_iload (pc := 34) 5 rfl dX10_act_34 ?_
      refine x_callV (pc := 36) (As := [.int x1, .int x2, .int x3, .int x4]) (rest := []) (lev' := 6) si_X10_311 (m_M_live h3 this x1 x2 x3 x4) (fun z e => grd1 e) rfl rfl (by decide) (cat4 (Nat.le_of_ble_eq_true rfl)) dX10_act_36 (kV (fun h4 => ?_)) xNo
      refine x_iconst (pc := 39) (v := 0) (by decide) dX10_act_39 ?_
      exact x_iret (pc := 40) dX10_act_40
    · refine x_iload (pc := 23) 0 rfl dX10_act_23 ?_
      exact x_iret (pc := 25) dX10_act_25
  · refine x_iconst (pc := 5) (v := (-1)) (by decide) dX10_act_5 ?_
    exact x_iret (pc := 6) dX10_act_6
theorem si_X10_315 : SiV RX10 315 8 yX10_act cX10_act 7 (some .int) 5 := ⟨_, _, _, ci_8.1, by decide, lw_V q2101 q2103 qs77 q121 q2104, ⟨rfl, by decide, by decide, by decide +kernel⟩, by decide⟩
abbrev Y_M_put : Yx := (RX10, cX10_put, 4, 8, (some .int), [], false)
def c_M_put (h : PH) (this : Nat) (x1 : Int32) (x2 : Int32) (x3 : Int32) : Option RH :=
  grd h this [8] (
  pI h this [8] 0 (0 : Int32) fun h1 =>
  hI (c_M_isRow h1 this x1) noX fun v3 h2 =>
  if v3 = 0 then
    hI (c_M_act h2 this (0 : Int32) x1 x2 x3 (0 : Int32)) noX fun v5 h4 =>
    rI v5 h4
  else
    hI (c_M_isBit h2 this x3) noX fun v7 h6 =>
    if v7 = 0 then
      hI (c_M_act h6 this (0 : Int32) x1 x2 x3 (0 : Int32)) noX fun v9 h8 =>
      rI v9 h8
    else
      hI (c_M_act h6 this (0 : Int32) x1 x2 x3 (1 : Int32)) noX fun v11 h10 =>
      rI v11 h10)
set_option maxHeartbeats 4000000 in
theorem m_M_put (h : PH) (this : Nat) (x1 : Int32) (x2 : Int32) (x3 : Int32) : MM yX10_put (ws_ yX10_put cX10_put 4 (some .int)) 8 [.ref this, .int x1, .int x2, .int x3] h (c_M_put h this x1 x2 x3) := by
  refine MM.of (by decide) rfl (by decide) (Nat.le_of_ble_eq_true rfl) (own := RX10) (cc := cX10_put) (maxL := 4) (lev := 8) (rt := (some .int)) (ini := false) ?_
  show Sim Y_M_put h 0 [(0, .ref this), (1, .int x1), (2, .int x2), (3, .int x3)] [] _
  unfold c_M_put
  refine x_grd ?_
  refine x_aload_nR (pc := 0) (a := this) 0 rfl rfl dX10_put_0 ?_
  refine x_iconst (pc := 1) (v := 0) (by decide) dX10_put_1 ?_
  refine x_pI (pc := 2) fi_X10_1 (fun z => absurd z (by decide)) dX10_put_2 ?_
  intro h1
  refine x_aload_nR (pc := 5) (a := this) 0 rfl rfl dX10_put_5 ?_
  refine x_iconst (pc := 6) (v := 0) (by decide) dX10_put_6 ?_
  refine x_iload_n (pc := 7) 1 rfl rfl dX10_put_7 ?_
  refine x_iload_n (pc := 8) 2 rfl rfl dX10_put_8 ?_
  refine x_iload_n (pc := 9) 3 rfl rfl dX10_put_9 ?_
  refine x_aload_nR (pc := 10) (a := this) 0 rfl rfl dX10_put_10 ?_
  refine x_iload_n (pc := 11) 1 rfl rfl dX10_put_11 ?_
  refine x_callV (pc := 12) (As := [.int x1]) (rest := [.int x3, .int x2, .int x1, .int (0 : Int32), .ref this]) (lev' := 2) si_X10_215 (m_M_isRow h1 this x1) (fun z e => grd1 e) rfl rfl (by decide) (Nat.le_of_ble_eq_true rfl) dX10_put_12 (kI (fun v3 h2 => ?_)) xNo
  refine x_if_eq (pc := 15) 30 (by decide) dX10_put_15 ?_ ?_
  · refine x_iconst (pc := 30) (v := 0) (by decide) dX10_put_30 ?_
    refine x_callV (pc := 31) (As := [.int (0 : Int32), .int x1, .int x2, .int x3, .int (0 : Int32)]) (rest := []) (lev' := 7) si_X10_315 (m_M_act h2 this (0 : Int32) x1 x2 x3 (0 : Int32)) (fun z e => grd1 e) rfl rfl (by decide) (cat4 (Nat.le_of_ble_eq_true rfl)) dX10_put_31 (kI (fun v5 h4 => ?_)) xNo
    exact x_iret (pc := 34) dX10_put_34
  · refine x_aload_nR (pc := 18) (a := this) 0 rfl rfl dX10_put_18 ?_
    refine x_iload_n (pc := 19) 3 rfl rfl dX10_put_19 ?_
    refine x_callV (pc := 20) (As := [.int x3]) (rest := [.int x3, .int x2, .int x1, .int (0 : Int32), .ref this]) (lev' := 2) si_X10_221 (m_M_isBit h2 this x3) (fun z e => grd1 e) rfl rfl (by decide) (Nat.le_of_ble_eq_true rfl) dX10_put_20 (kI (fun v7 h6 => ?_)) xNo
    refine x_if_eq (pc := 23) 30 (by decide) dX10_put_23 ?_ ?_
    · refine x_iconst (pc := 30) (v := 0) (by decide) dX10_put_30 ?_
      refine x_callV (pc := 31) (As := [.int (0 : Int32), .int x1, .int x2, .int x3, .int (0 : Int32)]) (rest := []) (lev' := 7) si_X10_315 (m_M_act h6 this (0 : Int32) x1 x2 x3 (0 : Int32)) (fun z e => grd1 e) rfl rfl (by decide) (cat4 (Nat.le_of_ble_eq_true rfl)) dX10_put_31 (kI (fun v9 h8 => ?_)) xNo
      exact x_iret (pc := 34) dX10_put_34
    · refine x_iconst (pc := 26) (v := 1) (by decide) dX10_put_26 ?_
      refine x_goto (pc := 27) 31 (by decide) dX10_put_27 ?_
      refine x_callV (pc := 31) (As := [.int (0 : Int32), .int x1, .int x2, .int x3, .int (1 : Int32)]) (rest := []) (lev' := 7) si_X10_315 (m_M_act h6 this (0 : Int32) x1 x2 x3 (1 : Int32)) (fun z e => grd1 e) rfl rfl (by decide) (cat4 (Nat.le_of_ble_eq_true rfl)) dX10_put_31 (kI (fun v11 h10 => ?_)) xNo
      exact x_iret (pc := 34) dX10_put_34
abbrev Y_M_set : Yx := (RX10, cX10_set, 4, 8, (some .int), [], false)
def c_M_set (h : PH) (this : Nat) (x1 : Int32) (x2 : Int32) (x3 : Int32) : Option RH :=
  grd h this [8] (
  pI h this [8] 0 (0 : Int32) fun h1 =>
  hI (c_M_isRow h1 this x1) noX fun v3 h2 =>
  if v3 = 0 then
    hI (c_M_act h2 this (1 : Int32) x1 x2 x3 (0 : Int32)) noX fun v5 h4 =>
    rI v5 h4
  else
    hI (c_M_isBit h2 this x3) noX fun v7 h6 =>
    if v7 = 0 then
      hI (c_M_act h6 this (1 : Int32) x1 x2 x3 (0 : Int32)) noX fun v9 h8 =>
      rI v9 h8
    else
      hI (c_M_act h6 this (1 : Int32) x1 x2 x3 (1 : Int32)) noX fun v11 h10 =>
      rI v11 h10)
set_option maxHeartbeats 4000000 in
theorem m_M_set (h : PH) (this : Nat) (x1 : Int32) (x2 : Int32) (x3 : Int32) : MM yX10_set (ws_ yX10_set cX10_set 4 (some .int)) 8 [.ref this, .int x1, .int x2, .int x3] h (c_M_set h this x1 x2 x3) := by
  refine MM.of (by decide) rfl (by decide) (Nat.le_of_ble_eq_true rfl) (own := RX10) (cc := cX10_set) (maxL := 4) (lev := 8) (rt := (some .int)) (ini := false) ?_
  show Sim Y_M_set h 0 [(0, .ref this), (1, .int x1), (2, .int x2), (3, .int x3)] [] _
  unfold c_M_set
  refine x_grd ?_
  refine x_aload_nR (pc := 0) (a := this) 0 rfl rfl dX10_set_0 ?_
  refine x_iconst (pc := 1) (v := 0) (by decide) dX10_set_1 ?_
  refine x_pI (pc := 2) fi_X10_1 (fun z => absurd z (by decide)) dX10_set_2 ?_
  intro h1
  refine x_aload_nR (pc := 5) (a := this) 0 rfl rfl dX10_set_5 ?_
  refine x_iconst (pc := 6) (v := 1) (by decide) dX10_set_6 ?_
  refine x_iload_n (pc := 7) 1 rfl rfl dX10_set_7 ?_
  refine x_iload_n (pc := 8) 2 rfl rfl dX10_set_8 ?_
  refine x_iload_n (pc := 9) 3 rfl rfl dX10_set_9 ?_
  refine x_aload_nR (pc := 10) (a := this) 0 rfl rfl dX10_set_10 ?_
  refine x_iload_n (pc := 11) 1 rfl rfl dX10_set_11 ?_
  refine x_callV (pc := 12) (As := [.int x1]) (rest := [.int x3, .int x2, .int x1, .int (1 : Int32), .ref this]) (lev' := 2) si_X10_215 (m_M_isRow h1 this x1) (fun z e => grd1 e) rfl rfl (by decide) (Nat.le_of_ble_eq_true rfl) dX10_set_12 (kI (fun v3 h2 => ?_)) xNo
  refine x_if_eq (pc := 15) 30 (by decide) dX10_set_15 ?_ ?_
  · refine x_iconst (pc := 30) (v := 0) (by decide) dX10_set_30 ?_
    refine x_callV (pc := 31) (As := [.int (1 : Int32), .int x1, .int x2, .int x3, .int (0 : Int32)]) (rest := []) (lev' := 7) si_X10_315 (m_M_act h2 this (1 : Int32) x1 x2 x3 (0 : Int32)) (fun z e => grd1 e) rfl rfl (by decide) (cat4 (Nat.le_of_ble_eq_true rfl)) dX10_set_31 (kI (fun v5 h4 => ?_)) xNo
    exact x_iret (pc := 34) dX10_set_34
  · refine x_aload_nR (pc := 18) (a := this) 0 rfl rfl dX10_set_18 ?_
    refine x_iload_n (pc := 19) 3 rfl rfl dX10_set_19 ?_
    refine x_callV (pc := 20) (As := [.int x3]) (rest := [.int x3, .int x2, .int x1, .int (1 : Int32), .ref this]) (lev' := 2) si_X10_221 (m_M_isBit h2 this x3) (fun z e => grd1 e) rfl rfl (by decide) (Nat.le_of_ble_eq_true rfl) dX10_set_20 (kI (fun v7 h6 => ?_)) xNo
    refine x_if_eq (pc := 23) 30 (by decide) dX10_set_23 ?_ ?_
    · refine x_iconst (pc := 30) (v := 0) (by decide) dX10_set_30 ?_
      refine x_callV (pc := 31) (As := [.int (1 : Int32), .int x1, .int x2, .int x3, .int (0 : Int32)]) (rest := []) (lev' := 7) si_X10_315 (m_M_act h6 this (1 : Int32) x1 x2 x3 (0 : Int32)) (fun z e => grd1 e) rfl rfl (by decide) (cat4 (Nat.le_of_ble_eq_true rfl)) dX10_set_31 (kI (fun v9 h8 => ?_)) xNo
      exact x_iret (pc := 34) dX10_set_34
    · refine x_iconst (pc := 26) (v := 1) (by decide) dX10_set_26 ?_
      refine x_goto (pc := 27) 31 (by decide) dX10_set_27 ?_
      refine x_callV (pc := 31) (As := [.int (1 : Int32), .int x1, .int x2, .int x3, .int (1 : Int32)]) (rest := []) (lev' := 7) si_X10_315 (m_M_act h6 this (1 : Int32) x1 x2 x3 (1 : Int32)) (fun z e => grd1 e) rfl rfl (by decide) (cat4 (Nat.le_of_ble_eq_true rfl)) dX10_set_31 (kI (fun v11 h10 => ?_)) xNo
      exact x_iret (pc := 34) dX10_set_34
abbrev Y_M_cut : Yx := (RX10, cX10_cut, 4, 8, (some .int), [], false)
def c_M_cut (h : PH) (this : Nat) (x1 : Int32) (x2 : Int32) (x3 : Int32) : Option RH :=
  grd h this [8] (
  pI h this [8] 0 (0 : Int32) fun h1 =>
  hI (c_M_isRow h1 this x1) noX fun v3 h2 =>
  if v3 = 0 then
    hI (c_M_act h2 this (2 : Int32) x1 x2 x3 (0 : Int32)) noX fun v5 h4 =>
    rI v5 h4
  else
    hI (c_M_isIn h2 x3 (1 : Int32) (600 : Int32)) noX fun v7 h6 =>
    if v7 = 0 then
      hI (c_M_act h6 this (2 : Int32) x1 x2 x3 (0 : Int32)) noX fun v9 h8 =>
      rI v9 h8
    else
      hI (c_M_act h6 this (2 : Int32) x1 x2 x3 (1 : Int32)) noX fun v11 h10 =>
      rI v11 h10)
set_option maxHeartbeats 4000000 in
theorem m_M_cut (h : PH) (this : Nat) (x1 : Int32) (x2 : Int32) (x3 : Int32) : MM yX10_cut (ws_ yX10_cut cX10_cut 4 (some .int)) 8 [.ref this, .int x1, .int x2, .int x3] h (c_M_cut h this x1 x2 x3) := by
  refine MM.of (by decide) rfl (by decide) (Nat.le_of_ble_eq_true rfl) (own := RX10) (cc := cX10_cut) (maxL := 4) (lev := 8) (rt := (some .int)) (ini := false) ?_
  show Sim Y_M_cut h 0 [(0, .ref this), (1, .int x1), (2, .int x2), (3, .int x3)] [] _
  unfold c_M_cut
  refine x_grd ?_
  refine x_aload_nR (pc := 0) (a := this) 0 rfl rfl dX10_cut_0 ?_
  refine x_iconst (pc := 1) (v := 0) (by decide) dX10_cut_1 ?_
  refine x_pI (pc := 2) fi_X10_1 (fun z => absurd z (by decide)) dX10_cut_2 ?_
  intro h1
  refine x_aload_nR (pc := 5) (a := this) 0 rfl rfl dX10_cut_5 ?_
  refine x_iconst (pc := 6) (v := 2) (by decide) dX10_cut_6 ?_
  refine x_iload_n (pc := 7) 1 rfl rfl dX10_cut_7 ?_
  refine x_iload_n (pc := 8) 2 rfl rfl dX10_cut_8 ?_
  refine x_iload_n (pc := 9) 3 rfl rfl dX10_cut_9 ?_
  refine x_aload_nR (pc := 10) (a := this) 0 rfl rfl dX10_cut_10 ?_
  refine x_iload_n (pc := 11) 1 rfl rfl dX10_cut_11 ?_
  refine x_callV (pc := 12) (As := [.int x1]) (rest := [.int x3, .int x2, .int x1, .int (2 : Int32), .ref this]) (lev' := 2) si_X10_215 (m_M_isRow h1 this x1) (fun z e => grd1 e) rfl rfl (by decide) (Nat.le_of_ble_eq_true rfl) dX10_cut_12 (kI (fun v3 h2 => ?_)) xNo
  refine x_if_eq (pc := 15) 33 (by decide) dX10_cut_15 ?_ ?_
  · refine x_iconst (pc := 33) (v := 0) (by decide) dX10_cut_33 ?_
    refine x_callV (pc := 34) (As := [.int (2 : Int32), .int x1, .int x2, .int x3, .int (0 : Int32)]) (rest := []) (lev' := 7) si_X10_315 (m_M_act h2 this (2 : Int32) x1 x2 x3 (0 : Int32)) (fun z e => grd1 e) rfl rfl (by decide) (cat4 (Nat.le_of_ble_eq_true rfl)) dX10_cut_34 (kI (fun v5 h4 => ?_)) xNo
    exact x_iret (pc := 37) dX10_cut_37
  · refine x_iload_n (pc := 18) 3 rfl rfl dX10_cut_18 ?_
    refine x_iconst (pc := 19) (v := 1) (by decide) dX10_cut_19 ?_
    refine x_sipush (pc := 20) (v := 600) (by decide) dX10_cut_20 ?_
    refine x_callS (pc := 23) (As := [.int x3, .int (1 : Int32), .int (600 : Int32)]) (rest := [.int x3, .int x2, .int x1, .int (2 : Int32), .ref this]) (lev' := 1) si_X10_75 (m_M_isIn h2 x3 (1 : Int32) (600 : Int32)) rfl rfl (by decide) (Nat.le_of_ble_eq_true rfl) dX10_cut_23 (kI (fun v7 h6 => ?_)) xNo
    refine x_if_eq (pc := 26) 33 (by decide) dX10_cut_26 ?_ ?_
    · refine x_iconst (pc := 33) (v := 0) (by decide) dX10_cut_33 ?_
      refine x_callV (pc := 34) (As := [.int (2 : Int32), .int x1, .int x2, .int x3, .int (0 : Int32)]) (rest := []) (lev' := 7) si_X10_315 (m_M_act h6 this (2 : Int32) x1 x2 x3 (0 : Int32)) (fun z e => grd1 e) rfl rfl (by decide) (cat4 (Nat.le_of_ble_eq_true rfl)) dX10_cut_34 (kI (fun v9 h8 => ?_)) xNo
      exact x_iret (pc := 37) dX10_cut_37
    · refine x_iconst (pc := 29) (v := 1) (by decide) dX10_cut_29 ?_
      refine x_goto (pc := 30) 34 (by decide) dX10_cut_30 ?_
      refine x_callV (pc := 34) (As := [.int (2 : Int32), .int x1, .int x2, .int x3, .int (1 : Int32)]) (rest := []) (lev' := 7) si_X10_315 (m_M_act h6 this (2 : Int32) x1 x2 x3 (1 : Int32)) (fun z e => grd1 e) rfl rfl (by decide) (cat4 (Nat.le_of_ble_eq_true rfl)) dX10_cut_34 (kI (fun v11 h10 => ?_)) xNo
      exact x_iret (pc := 37) dX10_cut_37
abbrev Y_M_turn : Yx := (RX10, cX10_turn, 4, 8, (some .int), [], false)
def c_M_turn (h : PH) (this : Nat) (x1 : Int32) (x2 : Int32) (x3 : Int32) : Option RH :=
  grd h this [8] (
  pI h this [8] 0 (0 : Int32) fun h1 =>
  hI (c_M_isRow h1 this x1) noX fun v3 h2 =>
  if v3 = 0 then
    hI (c_M_act h2 this (3 : Int32) x1 x2 x3 (0 : Int32)) noX fun v5 h4 =>
    rI v5 h4
  else
    hI (c_M_isIn h2 x3 (1 : Int32) (600 : Int32)) noX fun v7 h6 =>
    if v7 = 0 then
      hI (c_M_act h6 this (3 : Int32) x1 x2 x3 (0 : Int32)) noX fun v9 h8 =>
      rI v9 h8
    else
      hI (c_M_act h6 this (3 : Int32) x1 x2 x3 (1 : Int32)) noX fun v11 h10 =>
      rI v11 h10)
set_option maxHeartbeats 4000000 in
theorem m_M_turn (h : PH) (this : Nat) (x1 : Int32) (x2 : Int32) (x3 : Int32) : MM yX10_turn (ws_ yX10_turn cX10_turn 4 (some .int)) 8 [.ref this, .int x1, .int x2, .int x3] h (c_M_turn h this x1 x2 x3) := by
  refine MM.of (by decide) rfl (by decide) (Nat.le_of_ble_eq_true rfl) (own := RX10) (cc := cX10_turn) (maxL := 4) (lev := 8) (rt := (some .int)) (ini := false) ?_
  show Sim Y_M_turn h 0 [(0, .ref this), (1, .int x1), (2, .int x2), (3, .int x3)] [] _
  unfold c_M_turn
  refine x_grd ?_
  refine x_aload_nR (pc := 0) (a := this) 0 rfl rfl dX10_turn_0 ?_
  refine x_iconst (pc := 1) (v := 0) (by decide) dX10_turn_1 ?_
  refine x_pI (pc := 2) fi_X10_1 (fun z => absurd z (by decide)) dX10_turn_2 ?_
  intro h1
  refine x_aload_nR (pc := 5) (a := this) 0 rfl rfl dX10_turn_5 ?_
  refine x_iconst (pc := 6) (v := 3) (by decide) dX10_turn_6 ?_
  refine x_iload_n (pc := 7) 1 rfl rfl dX10_turn_7 ?_
  refine x_iload_n (pc := 8) 2 rfl rfl dX10_turn_8 ?_
  refine x_iload_n (pc := 9) 3 rfl rfl dX10_turn_9 ?_
  refine x_aload_nR (pc := 10) (a := this) 0 rfl rfl dX10_turn_10 ?_
  refine x_iload_n (pc := 11) 1 rfl rfl dX10_turn_11 ?_
  refine x_callV (pc := 12) (As := [.int x1]) (rest := [.int x3, .int x2, .int x1, .int (3 : Int32), .ref this]) (lev' := 2) si_X10_215 (m_M_isRow h1 this x1) (fun z e => grd1 e) rfl rfl (by decide) (Nat.le_of_ble_eq_true rfl) dX10_turn_12 (kI (fun v3 h2 => ?_)) xNo
  refine x_if_eq (pc := 15) 33 (by decide) dX10_turn_15 ?_ ?_
  · refine x_iconst (pc := 33) (v := 0) (by decide) dX10_turn_33 ?_
    refine x_callV (pc := 34) (As := [.int (3 : Int32), .int x1, .int x2, .int x3, .int (0 : Int32)]) (rest := []) (lev' := 7) si_X10_315 (m_M_act h2 this (3 : Int32) x1 x2 x3 (0 : Int32)) (fun z e => grd1 e) rfl rfl (by decide) (cat4 (Nat.le_of_ble_eq_true rfl)) dX10_turn_34 (kI (fun v5 h4 => ?_)) xNo
    exact x_iret (pc := 37) dX10_turn_37
  · refine x_iload_n (pc := 18) 3 rfl rfl dX10_turn_18 ?_
    refine x_iconst (pc := 19) (v := 1) (by decide) dX10_turn_19 ?_
    refine x_sipush (pc := 20) (v := 600) (by decide) dX10_turn_20 ?_
    refine x_callS (pc := 23) (As := [.int x3, .int (1 : Int32), .int (600 : Int32)]) (rest := [.int x3, .int x2, .int x1, .int (3 : Int32), .ref this]) (lev' := 1) si_X10_75 (m_M_isIn h2 x3 (1 : Int32) (600 : Int32)) rfl rfl (by decide) (Nat.le_of_ble_eq_true rfl) dX10_turn_23 (kI (fun v7 h6 => ?_)) xNo
    refine x_if_eq (pc := 26) 33 (by decide) dX10_turn_26 ?_ ?_
    · refine x_iconst (pc := 33) (v := 0) (by decide) dX10_turn_33 ?_
      refine x_callV (pc := 34) (As := [.int (3 : Int32), .int x1, .int x2, .int x3, .int (0 : Int32)]) (rest := []) (lev' := 7) si_X10_315 (m_M_act h6 this (3 : Int32) x1 x2 x3 (0 : Int32)) (fun z e => grd1 e) rfl rfl (by decide) (cat4 (Nat.le_of_ble_eq_true rfl)) dX10_turn_34 (kI (fun v9 h8 => ?_)) xNo
      exact x_iret (pc := 37) dX10_turn_37
    · refine x_iconst (pc := 29) (v := 1) (by decide) dX10_turn_29 ?_
      refine x_goto (pc := 30) 34 (by decide) dX10_turn_30 ?_
      refine x_callV (pc := 34) (As := [.int (3 : Int32), .int x1, .int x2, .int x3, .int (1 : Int32)]) (rest := []) (lev' := 7) si_X10_315 (m_M_act h6 this (3 : Int32) x1 x2 x3 (1 : Int32)) (fun z e => grd1 e) rfl rfl (by decide) (cat4 (Nat.le_of_ble_eq_true rfl)) dX10_turn_34 (kI (fun v11 h10 => ?_)) xNo
      exact x_iret (pc := 37) dX10_turn_37
