set_option maxRecDepth 100000
theorem si_X10_158 : SiV RX10 158 8 yX10_areBits cX10_areBits 2 (some .boolean) 0 := ⟨_, _, _, ci_8.1, by decide, lw_V q1873 q1875 qs50 q121 q1876, ⟨rfl, by decide, by decide, by decide +kernel⟩, by decide⟩
theorem si_X10_150 : SiV RX10 150 8 yX10_isName cX10_isName 2 (some .boolean) 0 := ⟨_, _, _, ci_8.1, by decide, lw_V q1866 q1868 qs49 q121 q1869, ⟨rfl, by decide, by decide, by decide +kernel⟩, by decide⟩
theorem si_X10_154 : SiS RX10 154 yX10_findIn cX10_findIn 5 (some .int) 3 := ⟨lw_S q1870 q1871 q121 q1872, ⟨by decide, by decide, by decide +kernel⟩, by decide⟩
abbrev Y_M_readRow : Yx := (RX10, cX10_readRow, 3, 4, (some .boolean), [], false)
def c_M_readRow_j188 (r86 : PH → Nat → Int32 → Option RH) (r142 : PH → Nat → Int32 → Int32 → Option RH) (h : PH) (this : Nat) (x1 : Int32) (x2 : Int32) (s0 : Int32) (s1 : Int32) (s2 : Option Nat) : Option RH :=
  nn s2 fun a1 =>
  stI h a1 s1 s0 fun h3 =>
  gQ h3 this [8] 15 fun v4 =>
  nn v4 fun a5 =>
  ldI h3 a5 0 ((2 : Int32) + x1) fun v7 =>
  stI h3 a5 ((2 : Int32) + x1) (v7 + (1 : Int32)) fun h8 =>
  r142 h8 this x1 (x2 + (1 : Int32))
def c_M_readRow_l142 (r86 : PH → Nat → Int32 → Option RH) (r142 : PH → Nat → Int32 → Int32 → Option RH) (h : PH) (this : Nat) (x1 : Int32) (x2 : Int32) : Option RH :=
  gI h this [8] 5 fun v1 =>
  if v1 ≤ x2 then
    hV (c_M_go h this) noX fun h2 =>
    r86 h2 this x1
  else
    gQ h this [8] 15 fun v3 =>
    gQ h this [8] 15 fun v4 =>
    nn v4 fun a5 =>
    ldI h a5 0 ((2 : Int32) + x1) fun v7 =>
    gQ h this [8] 1 fun v8 =>
    nn v8 fun a9 =>
    ldI h a9 0 x2 fun v11 =>
    if v11 = (105 : Int32) then
      c_M_readRow_j188 r86 r142 h this x1 x2 (1 : Int32) (((207 : Int32) + ((600 : Int32) * x1)) + v7) v3
    else
      c_M_readRow_j188 r86 r142 h this x1 x2 (0 : Int32) (((207 : Int32) + ((600 : Int32) * x1)) + v7) v3
def c_M_readRow_l86 (r86 : PH → Nat → Int32 → Option RH) (h : PH) (this : Nat) (x1 : Int32) : Option RH :=
  gI h this [8] 7 fun v1 =>
  if v1 = (2 : Int32) then
    hI (c_M_areBits h this) noX fun v3 h2 =>
    if v3 = 0 then
      hI (c_M_bad h2 this (2 : Int32)) noX fun v14 h13 =>
      rZ v14 h13
    else
      gQ h2 this [8] 15 fun v4 =>
      nn v4 fun a5 =>
      ldI h2 a5 0 ((2 : Int32) + x1) fun v7 =>
      gI h2 this [8] 5 fun v8 =>
      gI h2 this [8] 6 fun v9 =>
      if ((v7 + v8) - v9) ≤ (600 : Int32) then
        gI h2 this [8] 6 fun v10 =>
        itr (c_M_readRow_l142 r86) (fun _ _ _ _ => none) FU h2 this x1 v10
      else
        hI (c_M_bad h2 this (4 : Int32)) noX fun v12 h11 =>
        rZ v12 h11
  else
    rZ (1 : Int32) h
def c_M_readRow (h : PH) (this : Nat) : Option RH :=
  grd h this [8] (
  gQ h this [8] 15 fun v1 =>
  nn v1 fun a2 =>
  ldI h a2 0 (0 : Int32) fun v4 =>
  if v4 = (4 : Int32) then
    hI (c_M_bad h this (4 : Int32)) noX fun v34 h33 =>
    rZ v34 h33
  else
    gQ h this [8] 15 fun v5 =>
    nn v5 fun a6 =>
    ldI h a6 0 (0 : Int32) fun v8 =>
    hV (c_M_go h this) noX fun h9 =>
    hI (c_M_isName h9 this) noX fun v11 h10 =>
    if v11 = 0 then
      hI (c_M_bad h10 this (1 : Int32)) noX fun v32 h31 =>
      rZ v32 h31
    else
      gQ h10 this [8] 21 fun v12 =>
      gL h10 this [8] 12 fun v13 =>
      nn v12 fun a14 =>
      hI (c_M_findIn h10 a14 v8 v13) noX fun v17 h16 =>
      if v17 = (-1 : Int32) then
        gQ h16 this [8] 21 fun v18 =>
        gL h16 this [8] 12 fun v19 =>
        nn v18 fun a20 =>
        stL h16 a20 v8 v19 fun h22 =>
        gQ h22 this [8] 15 fun v23 =>
        nn v23 fun a24 =>
        ldI h22 a24 0 (0 : Int32) fun v26 =>
        stI h22 a24 (0 : Int32) (v26 + (1 : Int32)) fun h27 =>
        hV (c_M_go h27 this) noX fun h28 =>
        itr (c_M_readRow_l86) (fun _ _ _ => none) FU h28 this v8
      else
        hI (c_M_bad h16 this (3 : Int32)) noX fun v30 h29 =>
        rZ v30 h29)
set_option maxHeartbeats 4000000 in
theorem w_M_readRow_j188 (r86 : PH → Nat → Int32 → Option RH) (r142 : PH → Nat → Int32 → Int32 → Option RH) (hr86 : ∀ (h : PH) (this : Nat) (x1 : Int32), Sim Y_M_readRow h 86 [(0, .ref this), (1, .int x1)] [] (r86 h this x1)) (hr142 : ∀ (h : PH) (this : Nat) (x1 : Int32) (x2 : Int32), Sim Y_M_readRow h 142 [(0, .ref this), (1, .int x1), (2, .int x2)] [] (r142 h this x1 x2)) (h : PH) (this : Nat) (x1 : Int32) (x2 : Int32) (s0 : Int32) (s1 : Int32) (s2 : Option Nat) : Sim Y_M_readRow h 188 [(0, .ref this), (1, .int x1), (2, .int x2)] [.int s0, .int s1, va_rf s2] (c_M_readRow_j188 r86 r142 h this x1 x2 s0 s1 s2) := by
  unfold c_M_readRow_j188
  refine x_nn (fun a1 e2 => ?_)
  subst e2
  refine x_iast (pc := 188) dX10_readRow_188 ?_
  intro h3
  refine x_aload_nR (pc := 189) (a := this) 0 rfl rfl dX10_readRow_189 ?_
  refine x_getQ (pc := 190) fi_X10_101 dX10_readRow_190 ?_
  intro v4
  refine x_iconst (pc := 193) (v := 2) (by decide) dX10_readRow_193 ?_
  refine x_iload_n (pc := 194) 1 rfl rfl dX10_readRow_194 ?_
  refine x_iadd (pc := 195) dX10_readRow_195 ?_
  refine x_dup2 (pc := 196) rfl (rf_cat v4) dX10_readRow_196 ?_
  refine x_nn (fun a5 e6 => ?_)
  subst e6
  refine x_iald (pc := 197) dX10_readRow_197 ?_
  intro v7
  refine x_iconst (pc := 198) (v := 1) (by decide) dX10_readRow_198 ?_
  refine x_iadd (pc := 199) dX10_readRow_199 ?_
  refine x_iast (pc := 200) dX10_readRow_200 ?_
  intro h8
  refine x_iinc (pc := 201) (v := (1 : Int32)) (lv' := [(2, .int (x2 + (1 : Int32))), (0, .ref this), (1, .int x1)]) 2 rfl (by decide) (by decide) rfl dX10_readRow_201 ?_
  refine x_goto (pc := 204) 142 (by decide) dX10_readRow_204 ?_
  refine Sim.lv [1, 2, 0] rfl ?_
  exact hr142 h8 this x1 (x2 + (1 : Int32))
set_option maxHeartbeats 4000000 in
theorem w_M_readRow_l142 (r86 : PH → Nat → Int32 → Option RH) (r142 : PH → Nat → Int32 → Int32 → Option RH) (hr86 : ∀ (h : PH) (this : Nat) (x1 : Int32), Sim Y_M_readRow h 86 [(0, .ref this), (1, .int x1)] [] (r86 h this x1)) (hr142 : ∀ (h : PH) (this : Nat) (x1 : Int32) (x2 : Int32), Sim Y_M_readRow h 142 [(0, .ref this), (1, .int x1), (2, .int x2)] [] (r142 h this x1 x2)) (h : PH) (this : Nat) (x1 : Int32) (x2 : Int32) : Sim Y_M_readRow h 142 [(0, .ref this), (1, .int x1), (2, .int x2)] [] (c_M_readRow_l142 r86 r142 h this x1 x2) := by
  unfold c_M_readRow_l142
  refine x_iload_n (pc := 142) 2 rfl rfl dX10_readRow_142 ?_
  refine x_aload_nR (pc := 143) (a := this) 0 rfl rfl dX10_readRow_143 ?_
  refine x_getI (pc := 144) fi_X10_21 dX10_readRow_144 ?_
  intro v1
  refine x_icmp_ge (pc := 147) 207 (by decide) dX10_readRow_147 ?_ ?_
  · refine x_aload_nR (pc := 207) (a := this) 0 rfl rfl dX10_readRow_207 ?_
    refine x_callV (pc := 208) (As := []) (rest := []) (lev' := 2) si_X10_82 (m_M_go h this) (fun z e => grd1 e) rfl rfl (by decide) (cat4 (Nat.le_of_ble_eq_true rfl)) dX10_readRow_208 (kV (fun h2 => ?_)) xNo
    refine x_goto (pc := 211) 86 (by decide) dX10_readRow_211 ?_
    refine Sim.lv [0, 1] rfl ?_
    exact hr86 h2 this x1
  · refine x_aload_nR (pc := 150) (a := this) 0 rfl rfl dX10_readRow_150 ?_
    refine x_getQ (pc := 151) fi_X10_101 dX10_readRow_151 ?_
    intro v3
    refine x_sipush (pc := 154) (v := 207) (by decide) dX10_readRow_154 ?_
    refine x_sipush (pc := 157) (v := 600) (by decide) dX10_readRow_157 ?_
    refine x_iload_n (pc := 160) 1 rfl rfl dX10_readRow_160 ?_
    refine x_imul (pc := 161) dX10_readRow_161 ?_
    refine x_iadd (pc := 162) dX10_readRow_162 ?_
    refine x_aload_nR (pc := 163) (a := this) 0 rfl rfl dX10_readRow_163 ?_
    refine x_getQ (pc := 164) fi_X10_101 dX10_readRow_164 ?_
    intro v4
    refine x_iconst (pc := 167) (v := 2) (by decide) dX10_readRow_167 ?_
    refine x_iload_n (pc := 168) 1 rfl rfl dX10_readRow_168 ?_
    refine x_iadd (pc := 169) dX10_readRow_169 ?_
    refine x_nn (fun a5 e6 => ?_)
    subst e6
    refine x_iald (pc := 170) dX10_readRow_170 ?_
    intro v7
    refine x_iadd (pc := 171) dX10_readRow_171 ?_
    refine x_aload_nR (pc := 172) (a := this) 0 rfl rfl dX10_readRow_172 ?_
    refine x_getQ (pc := 173) fi_X10_7 dX10_readRow_173 ?_
    intro v8
    refine x_iload_n (pc := 176) 2 rfl rfl dX10_readRow_176 ?_
    refine x_nn (fun a9 e10 => ?_)
    subst e10
    refine x_iald (pc := 177) dX10_readRow_177 ?_
    intro v11
    refine x_bipush (pc := 178) (v := 105) (by decide) dX10_readRow_178 ?_
    refine x_icmp_ne (pc := 180) 187 (by decide) dX10_readRow_180 ?_ ?_
    · refine x_iconst (pc := 187) (v := 0) (by decide) dX10_readRow_187 ?_
      exact w_M_readRow_j188 r86 r142 hr86 hr142 h this x1 x2 (0 : Int32) (((207 : Int32) + ((600 : Int32) * x1)) + v7) v3
    · refine x_iconst (pc := 183) (v := 1) (by decide) dX10_readRow_183 ?_
      refine x_goto (pc := 184) 188 (by decide) dX10_readRow_184 ?_
      exact w_M_readRow_j188 r86 r142 hr86 hr142 h this x1 x2 (1 : Int32) (((207 : Int32) + ((600 : Int32) * x1)) + v7) v3
set_option maxHeartbeats 4000000 in
theorem v_M_readRow_l142 (r86 : PH → Nat → Int32 → Option RH) (hr86 : ∀ (h : PH) (this : Nat) (x1 : Int32), Sim Y_M_readRow h 86 [(0, .ref this), (1, .int x1)] [] (r86 h this x1)) : ∀ (n : Nat) (h : PH) (this : Nat) (x1 : Int32) (x2 : Int32), Sim Y_M_readRow h 142 [(0, .ref this), (1, .int x1), (2, .int x2)] [] (itr (c_M_readRow_l142 r86) (fun _ _ _ _ => none) n h this x1 x2)
  | 0, h, this, x1, x2 => Sim.none
  | n + 1, h, this, x1, x2 => w_M_readRow_l142 r86 _ hr86 (v_M_readRow_l142 r86 hr86 n) h this x1 x2
set_option maxHeartbeats 4000000 in
theorem w_M_readRow_l86 (r86 : PH → Nat → Int32 → Option RH) (hr86 : ∀ (h : PH) (this : Nat) (x1 : Int32), Sim Y_M_readRow h 86 [(0, .ref this), (1, .int x1)] [] (r86 h this x1)) (h : PH) (this : Nat) (x1 : Int32) : Sim Y_M_readRow h 86 [(0, .ref this), (1, .int x1)] [] (c_M_readRow_l86 r86 h this x1) := by
  unfold c_M_readRow_l86
  refine x_aload_nR (pc := 86) (a := this) 0 rfl rfl dX10_readRow_86 ?_
  refine x_getI (pc := 87) fi_X10_30 dX10_readRow_87 ?_
  intro v1
  refine x_iconst (pc := 90) (v := 2) (by decide) dX10_readRow_90 ?_
  refine x_icmp_ne (pc := 91) 214 (by decide) dX10_readRow_91 ?_ ?_
  · refine x_iconst (pc := 214) (v := 1) (by decide) dX10_readRow_214 ?_
    exact x_zret (pc := 215) dX10_readRow_215
  · refine x_aload_nR (pc := 94) (a := this) 0 rfl rfl dX10_readRow_94 ?_
    refine x_callV (pc := 95) (As := []) (rest := []) (lev' := 1) si_X10_158 (m_M_areBits h this) (fun z e => grd1 e) rfl rfl (by decide) (cat4 (Nat.le_of_ble_eq_true rfl)) dX10_readRow_95 (kI (fun v3 h2 => ?_)) xNo
    refine x_if_ne (pc := 98) 107 (by decide) dX10_readRow_98 ?_ ?_
    · refine x_aload_nR (pc := 107) (a := this) 0 rfl rfl dX10_readRow_107 ?_
      refine x_getQ (pc := 108) fi_X10_101 dX10_readRow_108 ?_
      intro v4
      refine x_iconst (pc := 111) (v := 2) (by decide) dX10_readRow_111 ?_
      refine x_iload_n (pc := 112) 1 rfl rfl dX10_readRow_112 ?_
      refine x_iadd (pc := 113) dX10_readRow_113 ?_
      refine x_nn (fun a5 e6 => ?_)
      subst e6
      refine x_iald (pc := 114) dX10_readRow_114 ?_
      intro v7
      refine x_aload_nR (pc := 115) (a := this) 0 rfl rfl dX10_readRow_115 ?_
      refine x_getI (pc := 116) fi_X10_21 dX10_readRow_116 ?_
      intro v8
      refine x_iadd (pc := 119) dX10_readRow_119 ?_
      refine x_aload_nR (pc := 120) (a := this) 0 rfl rfl dX10_readRow_120 ?_
      refine x_getI (pc := 121) fi_X10_24 dX10_readRow_121 ?_
      intro v9
      refine x_isub (pc := 124) dX10_readRow_124 ?_
      refine x_sipush (pc := 125) (v := 600) (by decide) dX10_readRow_125 ?_
      refine x_icmp_le (pc := 128) 137 (by decide) dX10_readRow_128 ?_ ?_
      · refine x_aload_nR (pc := 137) (a := this) 0 rfl rfl dX10_readRow_137 ?_
        refine x_getI (pc := 138) fi_X10_24 dX10_readRow_138 ?_
        intro v10
        refine x_istore_n (pc := 141) (lv' := [(2, .int v10), (0, .ref this), (1, .int x1)]) rfl (by decide) rfl dX10_readRow_141 ?_
        refine Sim.lv [1, 2, 0] rfl ?_
        exact v_M_readRow_l142 r86 hr86 FU h2 this x1 v10
      · refine x_aload_nR (pc := 131) (a := this) 0 rfl rfl dX10_readRow_131 ?_
        refine x_iconst (pc := 132) (v := 4) (by decide) dX10_readRow_132 ?_
        refine x_callV (pc := 133) (As := [.int (4 : Int32)]) (rest := []) (lev' := 1) si_X10_72 (m_M_bad h2 this (4 : Int32)) (fun z e => grd1 e) rfl rfl (by decide) (cat4 (Nat.le_of_ble_eq_true rfl)) dX10_readRow_133 (kI (fun v12 h11 => ?_)) xNo
        exact x_zret (pc := 136) dX10_readRow_136
    · refine x_aload_nR (pc := 101) (a := this) 0 rfl rfl dX10_readRow_101 ?_
      refine x_iconst (pc := 102) (v := 2) (by decide) dX10_readRow_102 ?_
      refine x_callV (pc := 103) (As := [.int (2 : Int32)]) (rest := []) (lev' := 1) si_X10_72 (m_M_bad h2 this (2 : Int32)) (fun z e => grd1 e) rfl rfl (by decide) (cat4 (Nat.le_of_ble_eq_true rfl)) dX10_readRow_103 (kI (fun v14 h13 => ?_)) xNo
      exact x_zret (pc := 106) dX10_readRow_106
set_option maxHeartbeats 4000000 in
theorem v_M_readRow_l86 : ∀ (n : Nat) (h : PH) (this : Nat) (x1 : Int32), Sim Y_M_readRow h 86 [(0, .ref this), (1, .int x1)] [] (itr (c_M_readRow_l86) (fun _ _ _ => none) n h this x1)
  | 0, h, this, x1 => Sim.none
  | n + 1, h, this, x1 => w_M_readRow_l86 _ (v_M_readRow_l86 n) h this x1
set_option maxHeartbeats 4000000 in
theorem m_M_readRow (h : PH) (this : Nat) : MM yX10_readRow (ws_ yX10_readRow cX10_readRow 3 (some .boolean)) 4 [.ref this] h (c_M_readRow h this) := by
  refine MM.of (by decide) rfl (by decide) (Nat.le_of_ble_eq_true rfl) (own := RX10) (cc := cX10_readRow) (maxL := 3) (lev := 4) (rt := (some .boolean)) (ini := false) ?_
  show Sim Y_M_readRow h 0 [(0, .ref this)] [] _
  unfold c_M_readRow
  refine x_grd ?_
  refine x_aload_nR (pc := 0) (a := this) 0 rfl rfl dX10_readRow_0 ?_
  refine x_getQ (pc := 1) fi_X10_101 dX10_readRow_1 ?_
  intro v1
  refine x_iconst (pc := 4) (v := 0) (by decide) dX10_readRow_4 ?_
  refine x_nn (fun a2 e3 => ?_)
  subst e3
  refine x_iald (pc := 5) dX10_readRow_5 ?_
  intro v4
  refine x_iconst (pc := 6) (v := 4) (by decide) dX10_readRow_6 ?_
  refine x_icmp_ne (pc := 7) 16 (by decide) dX10_readRow_7 ?_ ?_
  · refine x_aload_nR (pc := 16) (a := this) 0 rfl rfl dX10_readRow_16 ?_
    refine x_getQ (pc := 17) fi_X10_101 dX10_readRow_17 ?_
    intro v5
    refine x_iconst (pc := 20) (v := 0) (by decide) dX10_readRow_20 ?_
    refine x_nn (fun a6 e7 => ?_)
    subst e7
    refine x_iald (pc := 21) dX10_readRow_21 ?_
    intro v8
    refine x_istore_n (pc := 22) (lv' := [(1, .int v8), (0, .ref this)]) rfl (by decide) rfl dX10_readRow_22 ?_
    refine x_aload_nR (pc := 23) (a := this) 1 rfl rfl dX10_readRow_23 ?_
    refine x_callV (pc := 24) (As := []) (rest := []) (lev' := 2) si_X10_82 (m_M_go h this) (fun z e => grd1 e) rfl rfl (by decide) (cat4 (Nat.le_of_ble_eq_true rfl)) dX10_readRow_24 (kV (fun h9 => ?_)) xNo
    refine x_aload_nR (pc := 27) (a := this) 1 rfl rfl dX10_readRow_27 ?_
    refine x_callV (pc := 28) (As := []) (rest := []) (lev' := 3) si_X10_150 (m_M_isName h9 this) (fun z e => grd1 e) rfl rfl (by decide) (cat4 (Nat.le_of_ble_eq_true rfl)) dX10_readRow_28 (kI (fun v11 h10 => ?_)) xNo
    refine x_if_ne (pc := 31) 40 (by decide) dX10_readRow_31 ?_ ?_
    · refine x_aload_nR (pc := 40) (a := this) 1 rfl rfl dX10_readRow_40 ?_
      refine x_getQ (pc := 41) fi_X10_120 dX10_readRow_41 ?_
      intro v12
      refine x_iload_n (pc := 44) 0 rfl rfl dX10_readRow_44 ?_
      refine x_aload_nR (pc := 45) (a := this) 1 rfl rfl dX10_readRow_45 ?_
      refine x_getL (pc := 46) fi_X10_43 dX10_readRow_46 ?_
      intro v13
      refine x_nn (fun a14 e15 => ?_)
      subst e15
      refine x_callS (pc := 49) (As := [.ref a14, .int v8, .long v13]) (rest := []) (lev' := 1) si_X10_154 (m_M_findIn h10 a14 v8 v13) rfl rfl (by decide) (cat4 (Nat.le_of_ble_eq_true rfl)) dX10_readRow_49 (kI (fun v17 h16 => ?_)) xNo
      refine x_iconst (pc := 52) (v := (-1)) (by decide) dX10_readRow_52 ?_
      refine x_icmp_eq (pc := 53) 62 (by decide) dX10_readRow_53 ?_ ?_
      · refine x_aload_nR (pc := 62) (a := this) 1 rfl rfl dX10_readRow_62 ?_
        refine x_getQ (pc := 63) fi_X10_120 dX10_readRow_63 ?_
        intro v18
        refine x_iload_n (pc := 66) 0 rfl rfl dX10_readRow_66 ?_
        refine x_aload_nR (pc := 67) (a := this) 1 rfl rfl dX10_readRow_67 ?_
        refine x_getL (pc := 68) fi_X10_43 dX10_readRow_68 ?_
        intro v19
        refine x_nn (fun a20 e21 => ?_)
        subst e21
        refine x_last (pc := 71) dX10_readRow_71 ?_
        intro h22
        refine x_aload_nR (pc := 72) (a := this) 1 rfl rfl dX10_readRow_72 ?_
        refine x_getQ (pc := 73) fi_X10_101 dX10_readRow_73 ?_
        intro v23
        refine x_iconst (pc := 76) (v := 0) (by decide) dX10_readRow_76 ?_
        refine x_dup2 (pc := 77) rfl (rf_cat v23) dX10_readRow_77 ?_
        refine x_nn (fun a24 e25 => ?_)
        subst e25
        refine x_iald (pc := 78) dX10_readRow_78 ?_
        intro v26
        refine x_iconst (pc := 79) (v := 1) (by decide) dX10_readRow_79 ?_
        refine x_iadd (pc := 80) dX10_readRow_80 ?_
        refine x_iast (pc := 81) dX10_readRow_81 ?_
        intro h27
        refine x_aload_nR (pc := 82) (a := this) 1 rfl rfl dX10_readRow_82 ?_
        refine x_callV (pc := 83) (As := []) (rest := []) (lev' := 2) si_X10_82 (m_M_go h27 this) (fun z e => grd1 e) rfl rfl (by decide) (cat4 (Nat.le_of_ble_eq_true rfl)) dX10_readRow_83 (kV (fun h28 => ?_)) xNo
        refine Sim.lv [1, 0] rfl ?_
        exact v_M_readRow_l86 FU h28 this v8
      · refine x_aload_nR (pc := 56) (a := this) 1 rfl rfl dX10_readRow_56 ?_
        refine x_iconst (pc := 57) (v := 3) (by decide) dX10_readRow_57 ?_
        refine x_callV (pc := 58) (As := [.int (3 : Int32)]) (rest := []) (lev' := 1) si_X10_72 (m_M_bad h16 this (3 : Int32)) (fun z e => grd1 e) rfl rfl (by decide) (cat4 (Nat.le_of_ble_eq_true rfl)) dX10_readRow_58 (kI (fun v30 h29 => ?_)) xNo
        exact x_zret (pc := 61) dX10_readRow_61
    · refine x_aload_nR (pc := 34) (a := this) 1 rfl rfl dX10_readRow_34 ?_
      refine x_iconst (pc := 35) (v := 1) (by decide) dX10_readRow_35 ?_
      refine x_callV (pc := 36) (As := [.int (1 : Int32)]) (rest := []) (lev' := 1) si_X10_72 (m_M_bad h10 this (1 : Int32)) (fun z e => grd1 e) rfl rfl (by decide) (cat4 (Nat.le_of_ble_eq_true rfl)) dX10_readRow_36 (kI (fun v32 h31 => ?_)) xNo
      exact x_zret (pc := 39) dX10_readRow_39
  · refine x_aload_nR (pc := 10) (a := this) 0 rfl rfl dX10_readRow_10 ?_
    refine x_iconst (pc := 11) (v := 4) (by decide) dX10_readRow_11 ?_
    refine x_callV (pc := 12) (As := [.int (4 : Int32)]) (rest := []) (lev' := 1) si_X10_72 (m_M_bad h this (4 : Int32)) (fun z e => grd1 e) rfl rfl (by decide) (cat4 (Nat.le_of_ble_eq_true rfl)) dX10_readRow_12 (kI (fun v34 h33 => ?_)) xNo
    exact x_zret (pc := 15) dX10_readRow_15
abbrev Y_M_areOf : Yx := (RX10, cX10_areOf, 3, 1, (some .boolean), [], false)
def c_M_areOf_l5 (r5 : PH → Nat → Int32 → Int32 → Option RH) (h : PH) (this : Nat) (x1 : Int32) (x2 : Int32) : Option RH :=
  gI h this [8] 5 fun v1 =>
  if v1 ≤ x2 then
    rZ (1 : Int32) h
  else
    gQ h this [8] 1 fun v2 =>
    nn v2 fun a3 =>
    ldI h a3 0 x2 fun v5 =>
    if v5 ≤ x1 then
      r5 h this x1 (x2 + (1 : Int32))
    else
      rZ (0 : Int32) h
def c_M_areOf (h : PH) (this : Nat) (x1 : Int32) : Option RH :=
  grd h this [8] (
  gI h this [8] 6 fun v1 =>
  itr (c_M_areOf_l5) (fun _ _ _ _ => none) FU h this x1 v1)
set_option maxHeartbeats 4000000 in
theorem w_M_areOf_l5 (r5 : PH → Nat → Int32 → Int32 → Option RH) (hr5 : ∀ (h : PH) (this : Nat) (x1 : Int32) (x2 : Int32), Sim Y_M_areOf h 5 [(0, .ref this), (1, .int x1), (2, .int x2)] [] (r5 h this x1 x2)) (h : PH) (this : Nat) (x1 : Int32) (x2 : Int32) : Sim Y_M_areOf h 5 [(0, .ref this), (1, .int x1), (2, .int x2)] [] (c_M_areOf_l5 r5 h this x1 x2) := by
  unfold c_M_areOf_l5
  refine x_iload_n (pc := 5) 2 rfl rfl dX10_areOf_5 ?_
  refine x_aload_nR (pc := 6) (a := this) 0 rfl rfl dX10_areOf_6 ?_
  refine x_getI (pc := 7) fi_X10_21 dX10_areOf_7 ?_
  intro v1
  refine x_icmp_ge (pc := 10) 31 (by decide) dX10_areOf_10 ?_ ?_
  · refine x_iconst (pc := 31) (v := 1) (by decide) dX10_areOf_31 ?_
    exact x_zret (pc := 32) dX10_areOf_32
  · refine x_aload_nR (pc := 13) (a := this) 0 rfl rfl dX10_areOf_13 ?_
    refine x_getQ (pc := 14) fi_X10_7 dX10_areOf_14 ?_
    intro v2
    refine x_iload_n (pc := 17) 2 rfl rfl dX10_areOf_17 ?_
    refine x_nn (fun a3 e4 => ?_)
    subst e4
    refine x_iald (pc := 18) dX10_areOf_18 ?_
    intro v5
    refine x_iload_n (pc := 19) 1 rfl rfl dX10_areOf_19 ?_
    refine x_icmp_le (pc := 20) 25 (by decide) dX10_areOf_20 ?_ ?_
    · refine x_iinc (pc := 25) (v := (1 : Int32)) (lv' := [(2, .int (x2 + (1 : Int32))), (0, .ref this), (1, .int x1)]) 2 rfl (by decide) (by decide) rfl dX10_areOf_25 ?_
      refine x_goto (pc := 28) 5 (by decide) dX10_areOf_28 ?_
      refine Sim.lv [1, 2, 0] rfl ?_
      exact hr5 h this x1 (x2 + (1 : Int32))
    · refine x_iconst (pc := 23) (v := 0) (by decide) dX10_areOf_23 ?_
      exact x_zret (pc := 24) dX10_areOf_24
set_option maxHeartbeats 4000000 in
theorem v_M_areOf_l5 : ∀ (n : Nat) (h : PH) (this : Nat) (x1 : Int32) (x2 : Int32), Sim Y_M_areOf h 5 [(0, .ref this), (1, .int x1), (2, .int x2)] [] (itr (c_M_areOf_l5) (fun _ _ _ _ => none) n h this x1 x2)
  | 0, h, this, x1, x2 => Sim.none
  | n + 1, h, this, x1, x2 => w_M_areOf_l5 _ (v_M_areOf_l5 n) h this x1 x2
set_option maxHeartbeats 4000000 in
theorem m_M_areOf (h : PH) (this : Nat) (x1 : Int32) : MM yX10_areOf (ws_ yX10_areOf cX10_areOf 3 (some .boolean)) 1 [.ref this, .int x1] h (c_M_areOf h this x1) := by
  refine MM.of (by decide) rfl (by decide) (Nat.le_of_ble_eq_true rfl) (own := RX10) (cc := cX10_areOf) (maxL := 3) (lev := 1) (rt := (some .boolean)) (ini := false) ?_
  show Sim Y_M_areOf h 0 [(0, .ref this), (1, .int x1)] [] _
  unfold c_M_areOf
  refine x_grd ?_
  refine x_aload_nR (pc := 0) (a := this) 0 rfl rfl dX10_areOf_0 ?_
  refine x_getI (pc := 1) fi_X10_24 dX10_areOf_1 ?_
  intro v1
  refine x_istore_n (pc := 4) (lv' := [(2, .int v1), (0, .ref this), (1, .int x1)]) rfl (by decide) rfl dX10_areOf_4 ?_
  refine Sim.lv [1, 2, 0] rfl ?_
  exact v_M_areOf_l5 FU h this x1 v1
theorem si_X10_165 : SiV RX10 165 8 yX10_areOf cX10_areOf 3 (some .boolean) 1 := ⟨_, _, _, ci_8.1, by decide, lw_V q1881 q1883 qs52 q121 q1884, ⟨rfl, by decide, by decide, by decide +kernel⟩, by decide⟩
theorem fi_X10_161 : FI RX10 161 [8] 25 .boolean false true := (fi_c ci_8 (by decide) rfl rfl (Or.inl q1711) (Or.inl rfl) (fun h => absurd h (by decide)) fi_n)
abbrev Y_M_readLetters : Yx := (RX10, cX10_readLetters, 2, 3, (some .boolean), [], false)
def c_M_readLetters_l79 (r22 : PH → Nat → Option RH) (r79 : PH → Nat → Int32 → Option RH) (h : PH) (this : Nat) (x1 : Int32) : Option RH :=
  gI h this [8] 5 fun v1 =>
  if v1 ≤ x1 then
    hV (c_M_go h this) noX fun h2 =>
    r22 h2 this
  else
    gQ h this [8] 15 fun v3 =>
    gQ h this [8] 15 fun v4 =>
    nn v4 fun a5 =>
    ldI h a5 0 (6 : Int32) fun v7 =>
    gQ h this [8] 1 fun v8 =>
    nn v8 fun a9 =>
    ldI h a9 0 x1 fun v11 =>
    nn v3 fun a12 =>
    stI h a12 ((7 : Int32) + v7) (v11 - (97 : Int32)) fun h14 =>
    gQ h14 this [8] 15 fun v15 =>
    nn v15 fun a16 =>
    ldI h14 a16 0 (6 : Int32) fun v18 =>
    stI h14 a16 (6 : Int32) (v18 + (1 : Int32)) fun h19 =>
    r79 h19 this (x1 + (1 : Int32))
def c_M_readLetters_l22 (r22 : PH → Nat → Option RH) (h : PH) (this : Nat) : Option RH :=
  gI h this [8] 7 fun v1 =>
  if v1 = (2 : Int32) then
    hI (c_M_areOf h this (104 : Int32)) noX fun v3 h2 =>
    if v3 = 0 then
      hI (c_M_bad h2 this (2 : Int32)) noX fun v14 h13 =>
      rZ v14 h13
    else
      gQ h2 this [8] 15 fun v4 =>
      nn v4 fun a5 =>
      ldI h2 a5 0 (6 : Int32) fun v7 =>
      gI h2 this [8] 5 fun v8 =>
      gI h2 this [8] 6 fun v9 =>
      if ((v7 + v8) - v9) ≤ (200 : Int32) then
        gI h2 this [8] 6 fun v10 =>
        itr (c_M_readLetters_l79 r22) (fun _ _ _ => none) FU h2 this v10
      else
        hI (c_M_bad h2 this (4 : Int32)) noX fun v12 h11 =>
        rZ v12 h11
  else
    rZ (1 : Int32) h
def c_M_readLetters (h : PH) (this : Nat) : Option RH :=
  grd h this [8] (
  gI h this [8] 25 fun v1 =>
  if v1 = 0 then
    pZ h this [8] 25 (1 : Int32) fun h2 =>
    hV (c_M_go h2 this) noX fun h3 =>
    itr (c_M_readLetters_l22) (fun _ _ => none) FU h3 this
  else
    hI (c_M_bad h this (3 : Int32)) noX fun v5 h4 =>
    rZ v5 h4)
set_option maxHeartbeats 4000000 in
theorem w_M_readLetters_l79 (r22 : PH → Nat → Option RH) (r79 : PH → Nat → Int32 → Option RH) (hr22 : ∀ (h : PH) (this : Nat), Sim Y_M_readLetters h 22 [(0, .ref this)] [] (r22 h this)) (hr79 : ∀ (h : PH) (this : Nat) (x1 : Int32), Sim Y_M_readLetters h 79 [(0, .ref this), (1, .int x1)] [] (r79 h this x1)) (h : PH) (this : Nat) (x1 : Int32) : Sim Y_M_readLetters h 79 [(0, .ref this), (1, .int x1)] [] (c_M_readLetters_l79 r22 r79 h this x1) := by
  unfold c_M_readLetters_l79
  refine x_iload_n (pc := 79) 1 rfl rfl dX10_readLetters_79 ?_
  refine x_aload_nR (pc := 80) (a := this) 0 rfl rfl dX10_readLetters_80 ?_
  refine x_getI (pc := 81) fi_X10_21 dX10_readLetters_81 ?_
  intro v1
  refine x_icmp_ge (pc := 84) 128 (by decide) dX10_readLetters_84 ?_ ?_
  · refine x_aload_nR (pc := 128) (a := this) 0 rfl rfl dX10_readLetters_128 ?_
    refine x_callV (pc := 129) (As := []) (rest := []) (lev' := 2) si_X10_82 (m_M_go h this) (fun z e => grd1 e) rfl rfl (by decide) (cat4 (Nat.le_of_ble_eq_true rfl)) dX10_readLetters_129 (kV (fun h2 => ?_)) xNo
    refine x_goto (pc := 132) 22 (by decide) dX10_readLetters_132 ?_
    refine Sim.lv [0] rfl ?_
    exact hr22 h2 this
  · refine x_aload_nR (pc := 87) (a := this) 0 rfl rfl dX10_readLetters_87 ?_
    refine x_getQ (pc := 88) fi_X10_101 dX10_readLetters_88 ?_
    intro v3
    refine x_bipush (pc := 91) (v := 7) (by decide) dX10_readLetters_91 ?_
    refine x_aload_nR (pc := 93) (a := this) 0 rfl rfl dX10_readLetters_93 ?_
    refine x_getQ (pc := 94) fi_X10_101 dX10_readLetters_94 ?_
    intro v4
    refine x_bipush (pc := 97) (v := 6) (by decide) dX10_readLetters_97 ?_
    refine x_nn (fun a5 e6 => ?_)
    subst e6
    refine x_iald (pc := 99) dX10_readLetters_99 ?_
    intro v7
    refine x_iadd (pc := 100) dX10_readLetters_100 ?_
    refine x_aload_nR (pc := 101) (a := this) 0 rfl rfl dX10_readLetters_101 ?_
    refine x_getQ (pc := 102) fi_X10_7 dX10_readLetters_102 ?_
    intro v8
    refine x_iload_n (pc := 105) 1 rfl rfl dX10_readLetters_105 ?_
    refine x_nn (fun a9 e10 => ?_)
    subst e10
    refine x_iald (pc := 106) dX10_readLetters_106 ?_
    intro v11
    refine x_bipush (pc := 107) (v := 97) (by decide) dX10_readLetters_107 ?_
    refine x_isub (pc := 109) dX10_readLetters_109 ?_
    refine x_nn (fun a12 e13 => ?_)
    subst e13
    refine x_iast (pc := 110) dX10_readLetters_110 ?_
    intro h14
    refine x_aload_nR (pc := 111) (a := this) 0 rfl rfl dX10_readLetters_111 ?_
    refine x_getQ (pc := 112) fi_X10_101 dX10_readLetters_112 ?_
    intro v15
    refine x_bipush (pc := 115) (v := 6) (by decide) dX10_readLetters_115 ?_
    refine x_dup2 (pc := 117) rfl (rf_cat v15) dX10_readLetters_117 ?_
    refine x_nn (fun a16 e17 => ?_)
    subst e17
    refine x_iald (pc := 118) dX10_readLetters_118 ?_
    intro v18
    refine x_iconst (pc := 119) (v := 1) (by decide) dX10_readLetters_119 ?_
    refine x_iadd (pc := 120) dX10_readLetters_120 ?_
    refine x_iast (pc := 121) dX10_readLetters_121 ?_
    intro h19
    refine x_iinc (pc := 122) (v := (1 : Int32)) (lv' := [(1, .int (x1 + (1 : Int32))), (0, .ref this)]) 1 rfl (by decide) (by decide) rfl dX10_readLetters_122 ?_
    refine x_goto (pc := 125) 79 (by decide) dX10_readLetters_125 ?_
    refine Sim.lv [1, 0] rfl ?_
    exact hr79 h19 this (x1 + (1 : Int32))
set_option maxHeartbeats 4000000 in
theorem v_M_readLetters_l79 (r22 : PH → Nat → Option RH) (hr22 : ∀ (h : PH) (this : Nat), Sim Y_M_readLetters h 22 [(0, .ref this)] [] (r22 h this)) : ∀ (n : Nat) (h : PH) (this : Nat) (x1 : Int32), Sim Y_M_readLetters h 79 [(0, .ref this), (1, .int x1)] [] (itr (c_M_readLetters_l79 r22) (fun _ _ _ => none) n h this x1)
  | 0, h, this, x1 => Sim.none
  | n + 1, h, this, x1 => w_M_readLetters_l79 r22 _ hr22 (v_M_readLetters_l79 r22 hr22 n) h this x1
set_option maxHeartbeats 4000000 in
theorem w_M_readLetters_l22 (r22 : PH → Nat → Option RH) (hr22 : ∀ (h : PH) (this : Nat), Sim Y_M_readLetters h 22 [(0, .ref this)] [] (r22 h this)) (h : PH) (this : Nat) : Sim Y_M_readLetters h 22 [(0, .ref this)] [] (c_M_readLetters_l22 r22 h this) := by
  unfold c_M_readLetters_l22
  refine x_aload_nR (pc := 22) (a := this) 0 rfl rfl dX10_readLetters_22 ?_
  refine x_getI (pc := 23) fi_X10_30 dX10_readLetters_23 ?_
  intro v1
  refine x_iconst (pc := 26) (v := 2) (by decide) dX10_readLetters_26 ?_
  refine x_icmp_ne (pc := 27) 135 (by decide) dX10_readLetters_27 ?_ ?_
  · refine x_iconst (pc := 135) (v := 1) (by decide) dX10_readLetters_135 ?_
    exact x_zret (pc := 136) dX10_readLetters_136
  · refine x_aload_nR (pc := 30) (a := this) 0 rfl rfl dX10_readLetters_30 ?_
    refine x_bipush (pc := 31) (v := 104) (by decide) dX10_readLetters_31 ?_
    refine x_callV (pc := 33) (As := [.int (104 : Int32)]) (rest := []) (lev' := 1) si_X10_165 (m_M_areOf h this (104 : Int32)) (fun z e => grd1 e) rfl rfl (by decide) (cat4 (Nat.le_of_ble_eq_true rfl)) dX10_readLetters_33 (kI (fun v3 h2 => ?_)) xNo
    refine x_if_ne (pc := 36) 45 (by decide) dX10_readLetters_36 ?_ ?_
    · refine x_aload_nR (pc := 45) (a := this) 0 rfl rfl dX10_readLetters_45 ?_
      refine x_getQ (pc := 46) fi_X10_101 dX10_readLetters_46 ?_
      intro v4
      refine x_bipush (pc := 49) (v := 6) (by decide) dX10_readLetters_49 ?_
      refine x_nn (fun a5 e6 => ?_)
      subst e6
      refine x_iald (pc := 51) dX10_readLetters_51 ?_
      intro v7
      refine x_aload_nR (pc := 52) (a := this) 0 rfl rfl dX10_readLetters_52 ?_
      refine x_getI (pc := 53) fi_X10_21 dX10_readLetters_53 ?_
      intro v8
      refine x_iadd (pc := 56) dX10_readLetters_56 ?_
      refine x_aload_nR (pc := 57) (a := this) 0 rfl rfl dX10_readLetters_57 ?_
      refine x_getI (pc := 58) fi_X10_24 dX10_readLetters_58 ?_
      intro v9
      refine x_isub (pc := 61) dX10_readLetters_61 ?_
      refine x_sipush (pc := 62) (v := 200) (by decide) dX10_readLetters_62 ?_
      refine x_icmp_le (pc := 65) 74 (by decide) dX10_readLetters_65 ?_ ?_
      · refine x_aload_nR (pc := 74) (a := this) 0 rfl rfl dX10_readLetters_74 ?_
        refine x_getI (pc := 75) fi_X10_24 dX10_readLetters_75 ?_
        intro v10
        refine x_istore_n (pc := 78) (lv' := [(1, .int v10), (0, .ref this)]) rfl (by decide) rfl dX10_readLetters_78 ?_
        refine Sim.lv [1, 0] rfl ?_
        exact v_M_readLetters_l79 r22 hr22 FU h2 this v10
      · refine x_aload_nR (pc := 68) (a := this) 0 rfl rfl dX10_readLetters_68 ?_
        refine x_iconst (pc := 69) (v := 4) (by decide) dX10_readLetters_69 ?_
        refine x_callV (pc := 70) (As := [.int (4 : Int32)]) (rest := []) (lev' := 1) si_X10_72 (m_M_bad h2 this (4 : Int32)) (fun z e => grd1 e) rfl rfl (by decide) (cat4 (Nat.le_of_ble_eq_true rfl)) dX10_readLetters_70 (kI (fun v12 h11 => ?_)) xNo
        exact x_zret (pc := 73) dX10_readLetters_73
    · refine x_aload_nR (pc := 39) (a := this) 0 rfl rfl dX10_readLetters_39 ?_
      refine x_iconst (pc := 40) (v := 2) (by decide) dX10_readLetters_40 ?_
      refine x_callV (pc := 41) (As := [.int (2 : Int32)]) (rest := []) (lev' := 1) si_X10_72 (m_M_bad h2 this (2 : Int32)) (fun z e => grd1 e) rfl rfl (by decide) (cat4 (Nat.le_of_ble_eq_true rfl)) dX10_readLetters_41 (kI (fun v14 h13 => ?_)) xNo
      exact x_zret (pc := 44) dX10_readLetters_44
set_option maxHeartbeats 4000000 in
theorem v_M_readLetters_l22 : ∀ (n : Nat) (h : PH) (this : Nat), Sim Y_M_readLetters h 22 [(0, .ref this)] [] (itr (c_M_readLetters_l22) (fun _ _ => none) n h this)
  | 0, h, this => Sim.none
  | n + 1, h, this => w_M_readLetters_l22 _ (v_M_readLetters_l22 n) h this
set_option maxHeartbeats 4000000 in
theorem m_M_readLetters (h : PH) (this : Nat) : MM yX10_readLetters (ws_ yX10_readLetters cX10_readLetters 2 (some .boolean)) 3 [.ref this] h (c_M_readLetters h this) := by
  refine MM.of (by decide) rfl (by decide) (Nat.le_of_ble_eq_true rfl) (own := RX10) (cc := cX10_readLetters) (maxL := 2) (lev := 3) (rt := (some .boolean)) (ini := false) ?_
  show Sim Y_M_readLetters h 0 [(0, .ref this)] [] _
  unfold c_M_readLetters
  refine x_grd ?_
  refine x_aload_nR (pc := 0) (a := this) 0 rfl rfl dX10_readLetters_0 ?_
  refine x_getI (pc := 1) fi_X10_161 dX10_readLetters_1 ?_
  intro v1
  refine x_if_eq (pc := 4) 13 (by decide) dX10_readLetters_4 ?_ ?_
  · refine x_aload_nR (pc := 13) (a := this) 0 rfl rfl dX10_readLetters_13 ?_
    refine x_iconst (pc := 14) (v := 1) (by decide) dX10_readLetters_14 ?_
    refine x_pZ (pc := 15) fi_X10_161 (fun z => absurd z (by decide)) dX10_readLetters_15 ?_
    intro h2
    refine x_aload_nR (pc := 18) (a := this) 0 rfl rfl dX10_readLetters_18 ?_
    refine x_callV (pc := 19) (As := []) (rest := []) (lev' := 2) si_X10_82 (m_M_go h2 this) (fun z e => grd1 e) rfl rfl (by decide) (cat4 (Nat.le_of_ble_eq_true rfl)) dX10_readLetters_19 (kV (fun h3 => ?_)) xNo
    exact v_M_readLetters_l22 FU h3 this
  · refine x_aload_nR (pc := 7) (a := this) 0 rfl rfl dX10_readLetters_7 ?_
    refine x_iconst (pc := 8) (v := 3) (by decide) dX10_readLetters_8 ?_
    refine x_callV (pc := 9) (As := [.int (3 : Int32)]) (rest := []) (lev' := 1) si_X10_72 (m_M_bad h this (3 : Int32)) (fun z e => grd1 e) rfl rfl (by decide) (cat4 (Nat.le_of_ble_eq_true rfl)) dX10_readLetters_9 (kI (fun v5 h4 => ?_)) xNo
    exact x_zret (pc := 12) dX10_readLetters_12
theorem si_X10_168 : SiV RX10 168 8 yX10_isWord cX10_isWord 2 (some .boolean) 1 := ⟨_, _, _, ci_8.1, by decide, lw_V q1837 q1839 qs44 q121 q1840, ⟨rfl, by decide, by decide, by decide +kernel⟩, by decide⟩
theorem si_X10_177 : SiV RX10 177 8 yX10_readLetters cX10_readLetters 2 (some .boolean) 0 := ⟨_, _, _, ci_8.1, by decide, lw_V q1877 q1879 qs51 q121 q1880, ⟨rfl, by decide, by decide, by decide +kernel⟩, by decide⟩
theorem si_X10_174 : SiV RX10 174 8 yX10_readRow cX10_readRow 3 (some .boolean) 0 := ⟨_, _, _, ci_8.1, by decide, lw_V q1862 q1864 qs48 q121 q1865, ⟨rfl, by decide, by decide, by decide +kernel⟩, by decide⟩
theorem si_X10_171 : SiV RX10 171 8 yX10_readLeaf cX10_readLeaf 2 (some .boolean) 1 := ⟨_, _, _, ci_8.1, by decide, lw_V q1847 q1849 qs45 q121 q1850, ⟨rfl, by decide, by decide, by decide +kernel⟩, by decide⟩
abbrev Y_M_readLine : Yx := (RX10, cX10_readLine, 2, 5, (some .boolean), [], false)
def c_M_readLine (h : PH) (this : Nat) (x1 : Int32) : Option RH :=
  grd h this [8] (
  hI (c_M_isWord h this (0 : Int32)) noX fun v2 h1 =>
  if v2 = 0 then
    hI (c_M_isWord h1 this (1 : Int32)) noX fun v4 h3 =>
    if v4 = 0 then
      hI (c_M_isWord h3 this (2 : Int32)) noX fun v6 h5 =>
      if v6 = 0 then
        hI (c_M_bad h5 this (1 : Int32)) noX fun v8 h7 =>
        rZ v8 h7
      else
        hI (c_M_readLetters h5 this) noX fun v10 h9 =>
        rZ v10 h9
    else
      hI (c_M_readRow h3 this) noX fun v12 h11 =>
      rZ v12 h11
  else
    hI (c_M_readLeaf h1 this x1) noX fun v14 h13 =>
    rZ v14 h13)
set_option maxHeartbeats 4000000 in
theorem m_M_readLine (h : PH) (this : Nat) (x1 : Int32) : MM yX10_readLine (ws_ yX10_readLine cX10_readLine 2 (some .boolean)) 5 [.ref this, .int x1] h (c_M_readLine h this x1) := by
  refine MM.of (by decide) rfl (by decide) (Nat.le_of_ble_eq_true rfl) (own := RX10) (cc := cX10_readLine) (maxL := 2) (lev := 5) (rt := (some .boolean)) (ini := false) ?_
  show Sim Y_M_readLine h 0 [(0, .ref this), (1, .int x1)] [] _
  unfold c_M_readLine
  refine x_grd ?_
  refine x_aload_nR (pc := 0) (a := this) 0 rfl rfl dX10_readLine_0 ?_
  refine x_iconst (pc := 1) (v := 0) (by decide) dX10_readLine_1 ?_
  refine x_callV (pc := 2) (As := [.int (0 : Int32)]) (rest := []) (lev' := 3) si_X10_168 (m_M_isWord h this (0 : Int32)) (fun z e => grd1 e) rfl rfl (by decide) (cat4 (Nat.le_of_ble_eq_true rfl)) dX10_readLine_2 (kI (fun v2 h1 => ?_)) xNo
  refine x_if_eq (pc := 5) 14 (by decide) dX10_readLine_5 ?_ ?_
  · refine x_aload_nR (pc := 14) (a := this) 0 rfl rfl dX10_readLine_14 ?_
    refine x_iconst (pc := 15) (v := 1) (by decide) dX10_readLine_15 ?_
    refine x_callV (pc := 16) (As := [.int (1 : Int32)]) (rest := []) (lev' := 3) si_X10_168 (m_M_isWord h1 this (1 : Int32)) (fun z e => grd1 e) rfl rfl (by decide) (cat4 (Nat.le_of_ble_eq_true rfl)) dX10_readLine_16 (kI (fun v4 h3 => ?_)) xNo
    refine x_if_eq (pc := 19) 27 (by decide) dX10_readLine_19 ?_ ?_
    · refine x_aload_nR (pc := 27) (a := this) 0 rfl rfl dX10_readLine_27 ?_
      refine x_iconst (pc := 28) (v := 2) (by decide) dX10_readLine_28 ?_
      refine x_callV (pc := 29) (As := [.int (2 : Int32)]) (rest := []) (lev' := 3) si_X10_168 (m_M_isWord h3 this (2 : Int32)) (fun z e => grd1 e) rfl rfl (by decide) (cat4 (Nat.le_of_ble_eq_true rfl)) dX10_readLine_29 (kI (fun v6 h5 => ?_)) xNo
      refine x_if_eq (pc := 32) 42 (by decide) dX10_readLine_32 ?_ ?_
      · refine x_aload_nR (pc := 42) (a := this) 0 rfl rfl dX10_readLine_42 ?_
        refine x_iconst (pc := 43) (v := 1) (by decide) dX10_readLine_43 ?_
        refine x_callV (pc := 44) (As := [.int (1 : Int32)]) (rest := []) (lev' := 1) si_X10_72 (m_M_bad h5 this (1 : Int32)) (fun z e => grd1 e) rfl rfl (by decide) (cat4 (Nat.le_of_ble_eq_true rfl)) dX10_readLine_44 (kI (fun v8 h7 => ?_)) xNo
        exact x_zret (pc := 47) dX10_readLine_47
      · refine x_aload_nR (pc := 35) (a := this) 0 rfl rfl dX10_readLine_35 ?_
        refine x_callV (pc := 36) (As := []) (rest := []) (lev' := 3) si_X10_177 (m_M_readLetters h5 this) (fun z e => grd1 e) rfl rfl (by decide) (cat4 (Nat.le_of_ble_eq_true rfl)) dX10_readLine_36 (kI (fun v10 h9 => ?_)) xNo
        refine x_goto (pc := 39) 47 (by decide) dX10_readLine_39 ?_
        exact x_zret (pc := 47) dX10_readLine_47
    · refine x_aload_nR (pc := 22) (a := this) 0 rfl rfl dX10_readLine_22 ?_
      refine x_callV (pc := 23) (As := []) (rest := []) (lev' := 4) si_X10_174 (m_M_readRow h3 this) (fun z e => grd1 e) rfl rfl (by decide) (cat4 (Nat.le_of_ble_eq_true rfl)) dX10_readLine_23 (kI (fun v12 h11 => ?_)) xNo
      exact x_zret (pc := 26) dX10_readLine_26
  · refine x_aload_nR (pc := 8) (a := this) 0 rfl rfl dX10_readLine_8 ?_
    refine x_iload_n (pc := 9) 1 rfl rfl dX10_readLine_9 ?_
    refine x_callV (pc := 10) (As := [.int x1]) (rest := []) (lev' := 4) si_X10_171 (m_M_readLeaf h1 this x1) (fun z e => grd1 e) rfl rfl (by decide) (cat4 (Nat.le_of_ble_eq_true rfl)) dX10_readLine_10 (kI (fun v14 h13 => ?_)) xNo
    exact x_zret (pc := 13) dX10_readLine_13
abbrev Y_M_isSign : Yx := (RX10, cX10_isSign, 2, 1, (some .boolean), [], false)
def c_M_isSign (h : PH) (this : Nat) (x1 : Int32) : Option RH :=
  grd h this [8] (
  gI h this [8] 7 fun v1 =>
  if v1 = (4 : Int32) then
    gI h this [8] 9 fun v2 =>
    if v2 = x1 then
      rZ (1 : Int32) h
    else
      rZ (0 : Int32) h
  else
    rZ (0 : Int32) h)
set_option maxHeartbeats 4000000 in
theorem m_M_isSign (h : PH) (this : Nat) (x1 : Int32) : MM yX10_isSign (ws_ yX10_isSign cX10_isSign 2 (some .boolean)) 1 [.ref this, .int x1] h (c_M_isSign h this x1) := by
  refine MM.of (by decide) rfl (by decide) (Nat.le_of_ble_eq_true rfl) (own := RX10) (cc := cX10_isSign) (maxL := 2) (lev := 1) (rt := (some .boolean)) (ini := false) ?_
  show Sim Y_M_isSign h 0 [(0, .ref this), (1, .int x1)] [] _
  unfold c_M_isSign
  refine x_grd ?_
  refine x_aload_nR (pc := 0) (a := this) 0 rfl rfl dX10_isSign_0 ?_
  refine x_getI (pc := 1) fi_X10_30 dX10_isSign_1 ?_
  intro v1
  refine x_iconst (pc := 4) (v := 4) (by decide) dX10_isSign_4 ?_
  refine x_icmp_ne (pc := 5) 20 (by decide) dX10_isSign_5 ?_ ?_
  · refine x_iconst (pc := 20) (v := 0) (by decide) dX10_isSign_20 ?_
    exact x_zret (pc := 21) dX10_isSign_21
  · refine x_aload_nR (pc := 8) (a := this) 0 rfl rfl dX10_isSign_8 ?_
    refine x_getI (pc := 9) fi_X10_40 dX10_isSign_9 ?_
    intro v2
    refine x_iload_n (pc := 12) 1 rfl rfl dX10_isSign_12 ?_
    refine x_icmp_ne (pc := 13) 20 (by decide) dX10_isSign_13 ?_ ?_
    · refine x_iconst (pc := 20) (v := 0) (by decide) dX10_isSign_20 ?_
      exact x_zret (pc := 21) dX10_isSign_21
    · refine x_iconst (pc := 16) (v := 1) (by decide) dX10_isSign_16 ?_
      refine x_goto (pc := 17) 21 (by decide) dX10_isSign_17 ?_
      exact x_zret (pc := 21) dX10_isSign_21
theorem si_X10_86 : SiV RX10 86 8 yX10_isSign cX10_isSign 2 (some .boolean) 1 := ⟨_, _, _, ci_8.1, by decide, lw_V q1889 q1891 qs54 q121 q1892, ⟨rfl, by decide, by decide, by decide +kernel⟩, by decide⟩
abbrev Y_M_readEnd : Yx := (RX10, cX10_readEnd, 1, 3, (some .boolean), [], false)
def c_M_readEnd (h : PH) (this : Nat) : Option RH :=
  grd h this [8] (
  hI (c_M_isSign h this (59 : Int32)) noX fun v2 h1 =>
  if v2 = 0 then
    hI (c_M_bad h1 this (1 : Int32)) noX fun v5 h4 =>
    rZ v5 h4
  else
    hV (c_M_go h1 this) noX fun h3 =>
    rZ (1 : Int32) h3)
set_option maxHeartbeats 4000000 in
theorem m_M_readEnd (h : PH) (this : Nat) : MM yX10_readEnd (ws_ yX10_readEnd cX10_readEnd 1 (some .boolean)) 3 [.ref this] h (c_M_readEnd h this) := by
  refine MM.of (by decide) rfl (by decide) (Nat.le_of_ble_eq_true rfl) (own := RX10) (cc := cX10_readEnd) (maxL := 1) (lev := 3) (rt := (some .boolean)) (ini := false) ?_
  show Sim Y_M_readEnd h 0 [(0, .ref this)] [] _
  unfold c_M_readEnd
  refine x_grd ?_
  refine x_aload_nR (pc := 0) (a := this) 0 rfl rfl dX10_readEnd_0 ?_
  refine x_bipush (pc := 1) (v := 59) (by decide) dX10_readEnd_1 ?_
  refine x_callV (pc := 3) (As := [.int (59 : Int32)]) (rest := []) (lev' := 1) si_X10_86 (m_M_isSign h this (59 : Int32)) (fun z e => grd1 e) rfl rfl (by decide) (cat4 (Nat.le_of_ble_eq_true rfl)) dX10_readEnd_3 (kI (fun v2 h1 => ?_)) xNo
  refine x_if_ne (pc := 6) 15 (by decide) dX10_readEnd_6 ?_ ?_
  · refine x_aload_nR (pc := 15) (a := this) 0 rfl rfl dX10_readEnd_15 ?_
    refine x_callV (pc := 16) (As := []) (rest := []) (lev' := 2) si_X10_82 (m_M_go h1 this) (fun z e => grd1 e) rfl rfl (by decide) (cat4 (Nat.le_of_ble_eq_true rfl)) dX10_readEnd_16 (kV (fun h3 => ?_)) xNo
    refine x_iconst (pc := 19) (v := 1) (by decide) dX10_readEnd_19 ?_
    exact x_zret (pc := 20) dX10_readEnd_20
  · refine x_aload_nR (pc := 9) (a := this) 0 rfl rfl dX10_readEnd_9 ?_
    refine x_iconst (pc := 10) (v := 1) (by decide) dX10_readEnd_10 ?_
    refine x_callV (pc := 11) (As := [.int (1 : Int32)]) (rest := []) (lev' := 1) si_X10_72 (m_M_bad h1 this (1 : Int32)) (fun z e => grd1 e) rfl rfl (by decide) (cat4 (Nat.le_of_ble_eq_true rfl)) dX10_readEnd_11 (kI (fun v5 h4 => ?_)) xNo
    exact x_zret (pc := 14) dX10_readEnd_14
abbrev Y_M_sizeOf : Yx := (RX10, cX10_sizeOf, 2, 1, (some .int), [], false)
def c_M_sizeOf (h : PH) (this : Nat) (x1 : Int32) : Option RH :=
  grd h this [8] (
  gQ h this [8] 14 fun v1 =>
  nn v1 fun a2 =>
  ldI h a2 0 ((2607 : Int32) + x1) fun v4 =>
  rI v4 h)
set_option maxHeartbeats 4000000 in
theorem m_M_sizeOf (h : PH) (this : Nat) (x1 : Int32) : MM yX10_sizeOf (ws_ yX10_sizeOf cX10_sizeOf 2 (some .int)) 1 [.ref this, .int x1] h (c_M_sizeOf h this x1) := by
  refine MM.of (by decide) rfl (by decide) (Nat.le_of_ble_eq_true rfl) (own := RX10) (cc := cX10_sizeOf) (maxL := 2) (lev := 1) (rt := (some .int)) (ini := false) ?_
  show Sim Y_M_sizeOf h 0 [(0, .ref this), (1, .int x1)] [] _
  unfold c_M_sizeOf
  refine x_grd ?_
  refine x_aload_nR (pc := 0) (a := this) 0 rfl rfl dX10_sizeOf_0 ?_
  refine x_getQ (pc := 1) fi_X10_98 dX10_sizeOf_1 ?_
  intro v1
  refine x_sipush (pc := 4) (v := 2607) (by decide) dX10_sizeOf_4 ?_
  refine x_iload_n (pc := 7) 1 rfl rfl dX10_sizeOf_7 ?_
  refine x_iadd (pc := 8) dX10_sizeOf_8 ?_
  refine x_nn (fun a2 e3 => ?_)
  subst e3
  refine x_iald (pc := 9) dX10_sizeOf_9 ?_
  intro v4
  exact x_iret (pc := 10) dX10_sizeOf_10
abbrev Y_M_leafAt : Yx := (RX10, cX10_leafAt, 3, 1, (some .int), [], false)
def c_M_leafAt (h : PH) (this : Nat) (x1 : Int32) (x2 : Int32) : Option RH :=
  grd h this [8] (
  rI (((2816 : Int32) + ((151 : Int32) * x1)) + x2) h)
set_option maxHeartbeats 4000000 in
theorem m_M_leafAt (h : PH) (this : Nat) (x1 : Int32) (x2 : Int32) : MM yX10_leafAt (ws_ yX10_leafAt cX10_leafAt 3 (some .int)) 1 [.ref this, .int x1, .int x2] h (c_M_leafAt h this x1 x2) := by
  refine MM.of (by decide) rfl (by decide) (Nat.le_of_ble_eq_true rfl) (own := RX10) (cc := cX10_leafAt) (maxL := 3) (lev := 1) (rt := (some .int)) (ini := false) ?_
  show Sim Y_M_leafAt h 0 [(0, .ref this), (1, .int x1), (2, .int x2)] [] _
  unfold c_M_leafAt
  refine x_grd ?_
  refine x_sipush (pc := 0) (v := 2816) (by decide) dX10_leafAt_0 ?_
  refine x_sipush (pc := 3) (v := 151) (by decide) dX10_leafAt_3 ?_
  refine x_iload_n (pc := 6) 1 rfl rfl dX10_leafAt_6 ?_
  refine x_imul (pc := 7) dX10_leafAt_7 ?_
  refine x_iadd (pc := 8) dX10_leafAt_8 ?_
  refine x_iload_n (pc := 9) 2 rfl rfl dX10_leafAt_9 ?_
  refine x_iadd (pc := 10) dX10_leafAt_10 ?_
  exact x_iret (pc := 11) dX10_leafAt_11
theorem si_X10_195 : SiV RX10 195 8 yX10_leafAt cX10_leafAt 3 (some .int) 2 := ⟨_, _, _, ci_8.1, by decide, lw_V q1909 q1911 qs59 q121 q1912, ⟨rfl, by decide, by decide, by decide +kernel⟩, by decide⟩
abbrev Y_M_leafOf : Yx := (RX10, cX10_leafOf, 5, 2, (some .int), [], false)
def c_M_leafOf_l15 (r15 : PH → Nat → Int32 → Int32 → Int32 → Int32 → Option RH) (h : PH) (this : Nat) (x1 : Int32) (x2 : Int32) (x3 : Int32) (x4 : Int32) : Option RH :=
  if x2 < x4 then
    rI x3 h
  else
    gQ h this [8] 14 fun v1 =>
    hI (c_M_leafAt h this x1 (x3 + (1 : Int32))) noX fun v3 h2 =>
    nn v1 fun a4 =>
    ldI h2 a4 0 v3 fun v6 =>
    nm (x4 + v6) fun y7 =>
    r15 h2 this x1 x2 (x3 + (1 : Int32)) y7
def c_M_leafOf (h : PH) (this : Nat) (x1 : Int32) (x2 : Int32) : Option RH :=
  grd h this [8] (
  gQ h this [8] 14 fun v1 =>
  hI (c_M_leafAt h this x1 (0 : Int32)) noX fun v3 h2 =>
  nn v1 fun a4 =>
  ldI h2 a4 0 v3 fun v6 =>
  itr (c_M_leafOf_l15) (fun _ _ _ _ _ _ => none) FU h2 this x1 x2 (0 : Int32) v6)
set_option maxHeartbeats 4000000 in
theorem w_M_leafOf_l15 (r15 : PH → Nat → Int32 → Int32 → Int32 → Int32 → Option RH) (hr15 : ∀ (h : PH) (this : Nat) (x1 : Int32) (x2 : Int32) (x3 : Int32) (x4 : Int32), Sim Y_M_leafOf h 15 [(0, .ref this), (1, .int x1), (2, .int x2), (3, .int x3), (4, .int x4)] [] (r15 h this x1 x2 x3 x4)) (h : PH) (this : Nat) (x1 : Int32) (x2 : Int32) (x3 : Int32) (x4 : Int32) : Sim Y_M_leafOf h 15 [(0, .ref this), (1, .int x1), (2, .int x2), (3, .int x3), (4, .int x4)] [] (c_M_leafOf_l15 r15 h this x1 x2 x3 x4) := by
  unfold c_M_leafOf_l15
  refine x_iload_n (pc := 15) 2 rfl rfl dX10_leafOf_15 ?_
  refine x_iload (pc := 16) 4 rfl dX10_leafOf_16 ?_
  refine x_icmp_lt (pc := 18) 43 (by decide) dX10_leafOf_18 ?_ ?_
  · refine x_iload_n (pc := 43) 3 rfl rfl dX10_leafOf_43 ?_
    exact x_iret (pc := 44) dX10_leafOf_44
  · refine x_iinc (pc := 21) (v := (1 : Int32)) (lv' := [(3, .int (x3 + (1 : Int32))), (0, .ref this), (1, .int x1), (2, .int x2), (4, .int x4)]) 3 rfl (by decide) (by decide) rfl dX10_leafOf_21 ?_
    refine x_iload (pc := 24) 4 rfl dX10_leafOf_24 ?_
    refine x_aload_nR (pc := 26) (a := this) 1 rfl rfl dX10_leafOf_26 ?_
    refine x_getQ (pc := 27) fi_X10_98 dX10_leafOf_27 ?_
    intro v1
    refine x_aload_nR (pc := 30) (a := this) 1 rfl rfl dX10_leafOf_30 ?_
    refine x_iload_n (pc := 31) 2 rfl rfl dX10_leafOf_31 ?_
    refine x_iload_n (pc := 32) 0 rfl rfl dX10_leafOf_32 ?_
    refine x_callV (pc := 33) (As := [.int x1, .int (x3 + (1 : Int32))]) (rest := [va_rf v1, .int x4]) (lev' := 1) si_X10_195 (m_M_leafAt h this x1 (x3 + (1 : Int32))) (fun z e => grd1 e) rfl rfl (by decide) (cat4 (Nat.le_of_ble_eq_true rfl)) dX10_leafOf_33 (kI (fun v3 h2 => ?_)) xNo
    refine x_nn (fun a4 e5 => ?_)
    subst e5
    refine x_iald (pc := 36) dX10_leafOf_36 ?_
    intro v6
    refine x_iadd (pc := 37) dX10_leafOf_37 ?_
    refine x_nmI (fun y7 => ?_)
    refine x_istore (pc := 38) (lv' := [(4, .int y7), (3, .int (x3 + (1 : Int32))), (0, .ref this), (1, .int x1), (2, .int x2)]) (by decide) rfl dX10_leafOf_38 ?_
    refine x_goto (pc := 40) 15 (by decide) dX10_leafOf_40 ?_
    refine Sim.lv [2, 3, 4, 1, 0] rfl ?_
    exact hr15 h2 this x1 x2 (x3 + (1 : Int32)) y7
set_option maxHeartbeats 4000000 in
theorem v_M_leafOf_l15 : ∀ (n : Nat) (h : PH) (this : Nat) (x1 : Int32) (x2 : Int32) (x3 : Int32) (x4 : Int32), Sim Y_M_leafOf h 15 [(0, .ref this), (1, .int x1), (2, .int x2), (3, .int x3), (4, .int x4)] [] (itr (c_M_leafOf_l15) (fun _ _ _ _ _ _ => none) n h this x1 x2 x3 x4)
  | 0, h, this, x1, x2, x3, x4 => Sim.none
  | n + 1, h, this, x1, x2, x3, x4 => w_M_leafOf_l15 _ (v_M_leafOf_l15 n) h this x1 x2 x3 x4
set_option maxHeartbeats 4000000 in
theorem m_M_leafOf (h : PH) (this : Nat) (x1 : Int32) (x2 : Int32) : MM yX10_leafOf (ws_ yX10_leafOf cX10_leafOf 5 (some .int)) 2 [.ref this, .int x1, .int x2] h (c_M_leafOf h this x1 x2) := by
  refine MM.of (by decide) rfl (by decide) (Nat.le_of_ble_eq_true rfl) (own := RX10) (cc := cX10_leafOf) (maxL := 5) (lev := 2) (rt := (some .int)) (ini := false) ?_
  show Sim Y_M_leafOf h 0 [(0, .ref this), (1, .int x1), (2, .int x2)] [] _
  unfold c_M_leafOf
  refine x_grd ?_
  refine x_iconst (pc := 0) (v := 0) (by decide) dX10_leafOf_0 ?_
  refine x_istore_n (pc := 1) (lv' := [(3, .int (0 : Int32)), (0, .ref this), (1, .int x1), (2, .int x2)]) rfl (by decide) rfl dX10_leafOf_1 ?_
  refine x_aload_nR (pc := 2) (a := this) 1 rfl rfl dX10_leafOf_2 ?_
  refine x_getQ (pc := 3) fi_X10_98 dX10_leafOf_3 ?_
  intro v1
  refine x_aload_nR (pc := 6) (a := this) 1 rfl rfl dX10_leafOf_6 ?_
  refine x_iload_n (pc := 7) 2 rfl rfl dX10_leafOf_7 ?_
  refine x_iconst (pc := 8) (v := 0) (by decide) dX10_leafOf_8 ?_
  refine x_callV (pc := 9) (As := [.int x1, .int (0 : Int32)]) (rest := [va_rf v1]) (lev' := 1) si_X10_195 (m_M_leafAt h this x1 (0 : Int32)) (fun z e => grd1 e) rfl rfl (by decide) (cat4 (Nat.le_of_ble_eq_true rfl)) dX10_leafOf_9 (kI (fun v3 h2 => ?_)) xNo
  refine x_nn (fun a4 e5 => ?_)
  subst e5
  refine x_iald (pc := 12) dX10_leafOf_12 ?_
  intro v6
  refine x_istore (pc := 13) (lv' := [(4, .int v6), (3, .int (0 : Int32)), (0, .ref this), (1, .int x1), (2, .int x2)]) (by decide) rfl dX10_leafOf_13 ?_
  refine Sim.lv [2, 3, 4, 1, 0] rfl ?_
  exact v_M_leafOf_l15 FU h2 this x1 x2 (0 : Int32) v6
abbrev Y_M_splitLeaf : Yx := (RX10, cX10_splitLeaf, 5, 2, none, [], false)
def c_M_splitLeaf_l24 (r24 : PH → Nat → Int32 → Int32 → Int32 → Int32 → Option RH) (h : PH) (this : Nat) (x1 : Int32) (x2 : Int32) (x3 : Int32) (x4 : Int32) : Option RH :=
  if x4 ≤ (x2 + (1 : Int32)) then
    gQ h this [8] 14 fun v1 =>
    hI (c_M_leafAt h this x1 x2) noX fun v3 h2 =>
    nz (2 : Int32) <|
    nn v1 fun a4 =>
    stI h2 a4 v3 ((x3 + (1 : Int32)) / (2 : Int32)) fun h6 =>
    gQ h6 this [8] 14 fun v7 =>
    hI (c_M_leafAt h6 this x1 (x2 + (1 : Int32))) noX fun v9 h8 =>
    nz (2 : Int32) <|
    nn v7 fun a10 =>
    stI h8 a10 v9 (x3 / (2 : Int32)) fun h12 =>
    gQ h12 this [8] 14 fun v13 =>
    nn v13 fun a14 =>
    ldI h12 a14 0 ((2611 : Int32) + x1) fun v16 =>
    stI h12 a14 ((2611 : Int32) + x1) (v16 + (1 : Int32)) fun h17 =>
    rV h17
  else
    gQ h this [8] 14 fun v18 =>
    hI (c_M_leafAt h this x1 x4) noX fun v20 h19 =>
    gQ h19 this [8] 14 fun v21 =>
    hI (c_M_leafAt h19 this x1 (x4 - (1 : Int32))) noX fun v23 h22 =>
    nn v21 fun a24 =>
    ldI h22 a24 0 v23 fun v26 =>
    nn v18 fun a27 =>
    stI h22 a27 v20 v26 fun h29 =>
    r24 h29 this x1 x2 x3 (x4 + (-1 : Int32))
def c_M_splitLeaf (h : PH) (this : Nat) (x1 : Int32) (x2 : Int32) : Option RH :=
  grd h this [8] (
  gQ h this [8] 14 fun v1 =>
  hI (c_M_leafAt h this x1 x2) noX fun v3 h2 =>
  nn v1 fun a4 =>
  ldI h2 a4 0 v3 fun v6 =>
  gQ h2 this [8] 14 fun v7 =>
  nn v7 fun a8 =>
  ldI h2 a8 0 ((2611 : Int32) + x1) fun v10 =>
  itr (c_M_splitLeaf_l24) (fun _ _ _ _ _ _ => none) FU h2 this x1 x2 v6 v10)
set_option maxHeartbeats 4000000 in
theorem w_M_splitLeaf_l24 (r24 : PH → Nat → Int32 → Int32 → Int32 → Int32 → Option RH) (hr24 : ∀ (h : PH) (this : Nat) (x1 : Int32) (x2 : Int32) (x3 : Int32) (x4 : Int32), Sim Y_M_splitLeaf h 24 [(0, .ref this), (1, .int x1), (2, .int x2), (3, .int x3), (4, .int x4)] [] (r24 h this x1 x2 x3 x4)) (h : PH) (this : Nat) (x1 : Int32) (x2 : Int32) (x3 : Int32) (x4 : Int32) : Sim Y_M_splitLeaf h 24 [(0, .ref this), (1, .int x1), (2, .int x2), (3, .int x3), (4, .int x4)] [] (c_M_splitLeaf_l24 r24 h this x1 x2 x3 x4) := by
  unfold c_M_splitLeaf_l24
  refine x_iload (pc := 24) 4 rfl dX10_splitLeaf_24 ?_
  refine x_iload_n (pc := 26) 2 rfl rfl dX10_splitLeaf_26 ?_
  refine x_iconst (pc := 27) (v := 1) (by decide) dX10_splitLeaf_27 ?_
  refine x_iadd (pc := 28) dX10_splitLeaf_28 ?_
  refine x_icmp_le (pc := 29) 64 (by decide) dX10_splitLeaf_29 ?_ ?_
  · refine x_aload_nR (pc := 64) (a := this) 0 rfl rfl dX10_splitLeaf_64 ?_
    refine x_getQ (pc := 65) fi_X10_98 dX10_splitLeaf_65 ?_
    intro v1
    refine x_aload_nR (pc := 68) (a := this) 0 rfl rfl dX10_splitLeaf_68 ?_
    refine x_iload_n (pc := 69) 1 rfl rfl dX10_splitLeaf_69 ?_
    refine x_iload_n (pc := 70) 2 rfl rfl dX10_splitLeaf_70 ?_
    refine x_callV (pc := 71) (As := [.int x1, .int x2]) (rest := [va_rf v1]) (lev' := 1) si_X10_195 (m_M_leafAt h this x1 x2) (fun z e => grd1 e) rfl rfl (by decide) (cat4 (Nat.le_of_ble_eq_true rfl)) dX10_splitLeaf_71 (kI (fun v3 h2 => ?_)) xNo
    refine x_iload_n (pc := 74) 3 rfl rfl dX10_splitLeaf_74 ?_
    refine x_iconst (pc := 75) (v := 1) (by decide) dX10_splitLeaf_75 ?_
    refine x_iadd (pc := 76) dX10_splitLeaf_76 ?_
    refine x_iconst (pc := 77) (v := 2) (by decide) dX10_splitLeaf_77 ?_
    refine x_idiv (pc := 78) dX10_splitLeaf_78 ?_
    refine x_nn (fun a4 e5 => ?_)
    subst e5
    refine x_iast (pc := 79) dX10_splitLeaf_79 ?_
    intro h6
    refine x_aload_nR (pc := 80) (a := this) 0 rfl rfl dX10_splitLeaf_80 ?_
    refine x_getQ (pc := 81) fi_X10_98 dX10_splitLeaf_81 ?_
    intro v7
    refine x_aload_nR (pc := 84) (a := this) 0 rfl rfl dX10_splitLeaf_84 ?_
    refine x_iload_n (pc := 85) 1 rfl rfl dX10_splitLeaf_85 ?_
    refine x_iload_n (pc := 86) 2 rfl rfl dX10_splitLeaf_86 ?_
    refine x_iconst (pc := 87) (v := 1) (by decide) dX10_splitLeaf_87 ?_
    refine x_iadd (pc := 88) dX10_splitLeaf_88 ?_
    refine x_callV (pc := 89) (As := [.int x1, .int (x2 + (1 : Int32))]) (rest := [va_rf v7]) (lev' := 1) si_X10_195 (m_M_leafAt h6 this x1 (x2 + (1 : Int32))) (fun z e => grd1 e) rfl rfl (by decide) (cat4 (Nat.le_of_ble_eq_true rfl)) dX10_splitLeaf_89 (kI (fun v9 h8 => ?_)) xNo
    refine x_iload_n (pc := 92) 3 rfl rfl dX10_splitLeaf_92 ?_
    refine x_iconst (pc := 93) (v := 2) (by decide) dX10_splitLeaf_93 ?_
    refine x_idiv (pc := 94) dX10_splitLeaf_94 ?_
    refine x_nn (fun a10 e11 => ?_)
    subst e11
    refine x_iast (pc := 95) dX10_splitLeaf_95 ?_
    intro h12
    refine x_aload_nR (pc := 96) (a := this) 0 rfl rfl dX10_splitLeaf_96 ?_
    refine x_getQ (pc := 97) fi_X10_98 dX10_splitLeaf_97 ?_
    intro v13
    refine x_sipush (pc := 100) (v := 2611) (by decide) dX10_splitLeaf_100 ?_
    refine x_iload_n (pc := 103) 1 rfl rfl dX10_splitLeaf_103 ?_
    refine x_iadd (pc := 104) dX10_splitLeaf_104 ?_
    refine x_dup2 (pc := 105) rfl (rf_cat v13) dX10_splitLeaf_105 ?_
    refine x_nn (fun a14 e15 => ?_)
    subst e15
    refine x_iald (pc := 106) dX10_splitLeaf_106 ?_
    intro v16
    refine x_iconst (pc := 107) (v := 1) (by decide) dX10_splitLeaf_107 ?_
    refine x_iadd (pc := 108) dX10_splitLeaf_108 ?_
    refine x_iast (pc := 109) dX10_splitLeaf_109 ?_
    intro h17
    exact x_vret (pc := 110) dX10_splitLeaf_110
  · refine x_aload_nR (pc := 32) (a := this) 0 rfl rfl dX10_splitLeaf_32 ?_
    refine x_getQ (pc := 33) fi_X10_98 dX10_splitLeaf_33 ?_
    intro v18
    refine x_aload_nR (pc := 36) (a := this) 0 rfl rfl dX10_splitLeaf_36 ?_
    refine x_iload_n (pc := 37) 1 rfl rfl dX10_splitLeaf_37 ?_
    refine x_iload (pc := 38) 4 rfl dX10_splitLeaf_38 ?_
    refine x_callV (pc := 40) (As := [.int x1, .int x4]) (rest := [va_rf v18]) (lev' := 1) si_X10_195 (m_M_leafAt h this x1 x4) (fun z e => grd1 e) rfl rfl (by decide) (cat4 (Nat.le_of_ble_eq_true rfl)) dX10_splitLeaf_40 (kI (fun v20 h19 => ?_)) xNo
    refine x_aload_nR (pc := 43) (a := this) 0 rfl rfl dX10_splitLeaf_43 ?_
    refine x_getQ (pc := 44) fi_X10_98 dX10_splitLeaf_44 ?_
    intro v21
    refine x_aload_nR (pc := 47) (a := this) 0 rfl rfl dX10_splitLeaf_47 ?_
    refine x_iload_n (pc := 48) 1 rfl rfl dX10_splitLeaf_48 ?_
    refine x_iload (pc := 49) 4 rfl dX10_splitLeaf_49 ?_
    refine x_iconst (pc := 51) (v := 1) (by decide) dX10_splitLeaf_51 ?_
    refine x_isub (pc := 52) dX10_splitLeaf_52 ?_
    refine x_callV (pc := 53) (As := [.int x1, .int (x4 - (1 : Int32))]) (rest := [va_rf v21, .int v20, va_rf v18]) (lev' := 1) si_X10_195 (m_M_leafAt h19 this x1 (x4 - (1 : Int32))) (fun z e => grd1 e) rfl rfl (by decide) (cat4 (Nat.le_of_ble_eq_true rfl)) dX10_splitLeaf_53 (kI (fun v23 h22 => ?_)) xNo
    refine x_nn (fun a24 e25 => ?_)
    subst e25
    refine x_iald (pc := 56) dX10_splitLeaf_56 ?_
    intro v26
    refine x_nn (fun a27 e28 => ?_)
    subst e28
    refine x_iast (pc := 57) dX10_splitLeaf_57 ?_
    intro h29
    refine x_iinc (pc := 58) (v := (-1 : Int32)) (lv' := [(4, .int (x4 + (-1 : Int32))), (0, .ref this), (1, .int x1), (2, .int x2), (3, .int x3)]) 4 rfl (by decide) (by decide) rfl dX10_splitLeaf_58 ?_
    refine x_goto (pc := 61) 24 (by decide) dX10_splitLeaf_61 ?_
    refine Sim.lv [1, 2, 3, 4, 0] rfl ?_
    exact hr24 h29 this x1 x2 x3 (x4 + (-1 : Int32))
set_option maxHeartbeats 4000000 in
theorem v_M_splitLeaf_l24 : ∀ (n : Nat) (h : PH) (this : Nat) (x1 : Int32) (x2 : Int32) (x3 : Int32) (x4 : Int32), Sim Y_M_splitLeaf h 24 [(0, .ref this), (1, .int x1), (2, .int x2), (3, .int x3), (4, .int x4)] [] (itr (c_M_splitLeaf_l24) (fun _ _ _ _ _ _ => none) n h this x1 x2 x3 x4)
  | 0, h, this, x1, x2, x3, x4 => Sim.none
  | n + 1, h, this, x1, x2, x3, x4 => w_M_splitLeaf_l24 _ (v_M_splitLeaf_l24 n) h this x1 x2 x3 x4
set_option maxHeartbeats 4000000 in
theorem m_M_splitLeaf (h : PH) (this : Nat) (x1 : Int32) (x2 : Int32) : MM yX10_splitLeaf (ws_ yX10_splitLeaf cX10_splitLeaf 5 none) 2 [.ref this, .int x1, .int x2] h (c_M_splitLeaf h this x1 x2) := by
  refine MM.of (by decide) rfl (by decide) (Nat.le_of_ble_eq_true rfl) (own := RX10) (cc := cX10_splitLeaf) (maxL := 5) (lev := 2) (rt := none) (ini := false) ?_
  show Sim Y_M_splitLeaf h 0 [(0, .ref this), (1, .int x1), (2, .int x2)] [] _
  unfold c_M_splitLeaf
  refine x_grd ?_
  refine x_aload_nR (pc := 0) (a := this) 0 rfl rfl dX10_splitLeaf_0 ?_
  refine x_getQ (pc := 1) fi_X10_98 dX10_splitLeaf_1 ?_
  intro v1
  refine x_aload_nR (pc := 4) (a := this) 0 rfl rfl dX10_splitLeaf_4 ?_
  refine x_iload_n (pc := 5) 1 rfl rfl dX10_splitLeaf_5 ?_
  refine x_iload_n (pc := 6) 2 rfl rfl dX10_splitLeaf_6 ?_
  refine x_callV (pc := 7) (As := [.int x1, .int x2]) (rest := [va_rf v1]) (lev' := 1) si_X10_195 (m_M_leafAt h this x1 x2) (fun z e => grd1 e) rfl rfl (by decide) (cat4 (Nat.le_of_ble_eq_true rfl)) dX10_splitLeaf_7 (kI (fun v3 h2 => ?_)) xNo
  refine x_nn (fun a4 e5 => ?_)
  subst e5
  refine x_iald (pc := 10) dX10_splitLeaf_10 ?_
  intro v6
  refine x_istore_n (pc := 11) (lv' := [(3, .int v6), (0, .ref this), (1, .int x1), (2, .int x2)]) rfl (by decide) rfl dX10_splitLeaf_11 ?_
  refine x_aload_nR (pc := 12) (a := this) 1 rfl rfl dX10_splitLeaf_12 ?_
  refine x_getQ (pc := 13) fi_X10_98 dX10_splitLeaf_13 ?_
  intro v7
  refine x_sipush (pc := 16) (v := 2611) (by decide) dX10_splitLeaf_16 ?_
  refine x_iload_n (pc := 19) 2 rfl rfl dX10_splitLeaf_19 ?_
  refine x_iadd (pc := 20) dX10_splitLeaf_20 ?_
  refine x_nn (fun a8 e9 => ?_)
  subst e9
  refine x_iald (pc := 21) dX10_splitLeaf_21 ?_
  intro v10
  refine x_istore (pc := 22) (lv' := [(4, .int v10), (3, .int v6), (0, .ref this), (1, .int x1), (2, .int x2)]) (by decide) rfl dX10_splitLeaf_22 ?_
  refine Sim.lv [2, 3, 4, 1, 0] rfl ?_
  exact v_M_splitLeaf_l24 FU h2 this x1 x2 v6 v10
theorem si_X10_205 : SiV RX10 205 8 yX10_splitLeaf cX10_splitLeaf 5 none 2 := ⟨_, _, _, ci_8.1, by decide, lw_V q1913 q1915 qs60 q121 q1916, ⟨rfl, by decide, by decide, by decide +kernel⟩, by decide⟩
theorem si_X10_202 : SiV RX10 202 8 yX10_leafOf cX10_leafOf 5 (some .int) 2 := ⟨_, _, _, ci_8.1, by decide, lw_V q1905 q1907 qs58 q121 q1908, ⟨rfl, by decide, by decide, by decide +kernel⟩, by decide⟩
theorem si_X10_199 : SiV RX10 199 8 yX10_sizeOf cX10_sizeOf 2 (some .int) 1 := ⟨_, _, _, ci_8.1, by decide, lw_V q1901 q1903 qs57 q121 q1904, ⟨rfl, by decide, by decide, by decide +kernel⟩, by decide⟩
abbrev Y_M_putBit : Yx := (RX10, cX10_putBit, 6, 3, none, [], false)
def c_M_putBit_j102 (h : PH) (this : Nat) (x1 : Int32) (s0 : Int32) : Option RH :=
  gQ h this [8] 14 fun v1 =>
  nn v1 fun a2 =>
  ldI h a2 0 ((2607 : Int32) + x1) fun v4 =>
  stI h a2 ((2607 : Int32) + x1) (v4 + (1 : Int32)) fun h5 =>
  gQ h5 this [8] 14 fun v6 =>
  hI (c_M_leafAt h5 this x1 s0) noX fun v8 h7 =>
  nn v6 fun a9 =>
  ldI h7 a9 0 v8 fun v11 =>
  stI h7 a9 v8 (v11 + (1 : Int32)) fun h12 =>
  gQ h12 this [8] 14 fun v13 =>
  hI (c_M_leafAt h12 this x1 s0) noX fun v15 h14 =>
  nn v13 fun a16 =>
  ldI h14 a16 0 v15 fun v18 =>
  gQ h14 this [8] 14 fun v19 =>
  nn v19 fun a20 =>
  ldI h14 a20 0 (1 : Int32) fun v22 =>
  if v18 ≤ ((2 : Int32) * v22) then
    rV h14
  else
    hV (c_M_splitLeaf h14 this x1 s0) noX fun h23 =>
    rV h23
def c_M_putBit_j86 (h : PH) (this : Nat) (x1 : Int32) (x2 : Int32) : Option RH :=
  if x2 = 0 then
    c_M_putBit_j102 h this x1 (0 : Int32)
  else
    hI (c_M_leafOf h this x1 (x2 - (1 : Int32))) noX fun v2 h1 =>
    c_M_putBit_j102 h1 this x1 v2
def c_M_putBit_l18 (r18 : PH → Nat → Int32 → Int32 → Int32 → Int32 → Int32 → Option RH) (h : PH) (this : Nat) (x1 : Int32) (x2 : Int32) (x3 : Int32) (x4 : Int32) (x5 : Int32) : Option RH :=
  if x5 ≤ x2 then
    gQ h this [8] 14 fun v1 =>
    nn v1 fun a2 =>
    stI h a2 (x4 + x2) x3 fun h4 =>
    gQ h4 this [8] 14 fun v5 =>
    nn v5 fun a6 =>
    ldI h4 a6 0 ((2611 : Int32) + x1) fun v8 =>
    if v8 = 0 then
      gQ h4 this [8] 14 fun v9 =>
      nn v9 fun a10 =>
      stI h4 a10 ((2611 : Int32) + x1) (1 : Int32) fun h12 =>
      c_M_putBit_j86 h12 this x1 x2
    else
      c_M_putBit_j86 h4 this x1 x2
  else
    gQ h this [8] 14 fun v13 =>
    gQ h this [8] 14 fun v14 =>
    nn v14 fun a15 =>
    ldI h a15 0 ((x4 + x5) - (1 : Int32)) fun v17 =>
    nn v13 fun a18 =>
    stI h a18 (x4 + x5) v17 fun h20 =>
    r18 h20 this x1 x2 x3 x4 (x5 + (-1 : Int32))
def c_M_putBit (h : PH) (this : Nat) (x1 : Int32) (x2 : Int32) (x3 : Int32) : Option RH :=
  grd h this [8] (
  nm ((3420 : Int32) + ((600 : Int32) * x1)) fun y1 =>
  hI (c_M_sizeOf h this x1) noX fun v3 h2 =>
  itr (c_M_putBit_l18) (fun _ _ _ _ _ _ _ => none) FU h2 this x1 x2 x3 y1 v3)
set_option maxHeartbeats 4000000 in
theorem w_M_putBit_j102 (h : PH) (this : Nat) (x1 : Int32) (s0 : Int32) : Sim Y_M_putBit h 102 [(0, .ref this), (1, .int x1)] [.int s0] (c_M_putBit_j102 h this x1 s0) := by
  unfold c_M_putBit_j102
  refine x_istore (pc := 102) (lv' := [(5, .int s0), (0, .ref this), (1, .int x1)]) (by decide) rfl dX10_putBit_102 ?_
  refine x_aload_nR (pc := 104) (a := this) 1 rfl rfl dX10_putBit_104 ?_
  refine x_getQ (pc := 105) fi_X10_98 dX10_putBit_105 ?_
  intro v1
  refine x_sipush (pc := 108) (v := 2607) (by decide) dX10_putBit_108 ?_
  refine x_iload_n (pc := 111) 2 rfl rfl dX10_putBit_111 ?_
  refine x_iadd (pc := 112) dX10_putBit_112 ?_
  refine x_dup2 (pc := 113) rfl (rf_cat v1) dX10_putBit_113 ?_
  refine x_nn (fun a2 e3 => ?_)
  subst e3
  refine x_iald (pc := 114) dX10_putBit_114 ?_
  intro v4
  refine x_iconst (pc := 115) (v := 1) (by decide) dX10_putBit_115 ?_
  refine x_iadd (pc := 116) dX10_putBit_116 ?_
  refine x_iast (pc := 117) dX10_putBit_117 ?_
  intro h5
  refine x_aload_nR (pc := 118) (a := this) 1 rfl rfl dX10_putBit_118 ?_
  refine x_getQ (pc := 119) fi_X10_98 dX10_putBit_119 ?_
  intro v6
  refine x_aload_nR (pc := 122) (a := this) 1 rfl rfl dX10_putBit_122 ?_
  refine x_iload_n (pc := 123) 2 rfl rfl dX10_putBit_123 ?_
  refine x_iload (pc := 124) 0 rfl dX10_putBit_124 ?_
  refine x_callV (pc := 126) (As := [.int x1, .int s0]) (rest := [va_rf v6]) (lev' := 1) si_X10_195 (m_M_leafAt h5 this x1 s0) (fun z e => grd1 e) rfl rfl (by decide) (cat4 (Nat.le_of_ble_eq_true rfl)) dX10_putBit_126 (kI (fun v8 h7 => ?_)) xNo
  refine x_dup2 (pc := 129) rfl (rf_cat v6) dX10_putBit_129 ?_
  refine x_nn (fun a9 e10 => ?_)
  subst e10
  refine x_iald (pc := 130) dX10_putBit_130 ?_
  intro v11
  refine x_iconst (pc := 131) (v := 1) (by decide) dX10_putBit_131 ?_
  refine x_iadd (pc := 132) dX10_putBit_132 ?_
  refine x_iast (pc := 133) dX10_putBit_133 ?_
  intro h12
  refine x_aload_nR (pc := 134) (a := this) 1 rfl rfl dX10_putBit_134 ?_
  refine x_getQ (pc := 135) fi_X10_98 dX10_putBit_135 ?_
  intro v13
  refine x_aload_nR (pc := 138) (a := this) 1 rfl rfl dX10_putBit_138 ?_
  refine x_iload_n (pc := 139) 2 rfl rfl dX10_putBit_139 ?_
  refine x_iload (pc := 140) 0 rfl dX10_putBit_140 ?_
  refine x_callV (pc := 142) (As := [.int x1, .int s0]) (rest := [va_rf v13]) (lev' := 1) si_X10_195 (m_M_leafAt h12 this x1 s0) (fun z e => grd1 e) rfl rfl (by decide) (cat4 (Nat.le_of_ble_eq_true rfl)) dX10_putBit_142 (kI (fun v15 h14 => ?_)) xNo
  refine x_nn (fun a16 e17 => ?_)
  subst e17
  refine x_iald (pc := 145) dX10_putBit_145 ?_
  intro v18
  refine x_iconst (pc := 146) (v := 2) (by decide) dX10_putBit_146 ?_
  refine x_aload_nR (pc := 147) (a := this) 1 rfl rfl dX10_putBit_147 ?_
  refine x_getQ (pc := 148) fi_X10_98 dX10_putBit_148 ?_
  intro v19
  refine x_iconst (pc := 151) (v := 1) (by decide) dX10_putBit_151 ?_
  refine x_nn (fun a20 e21 => ?_)
  subst e21
  refine x_iald (pc := 152) dX10_putBit_152 ?_
  intro v22
  refine x_imul (pc := 153) dX10_putBit_153 ?_
  refine x_icmp_le (pc := 154) 164 (by decide) dX10_putBit_154 ?_ ?_
  · exact x_vret (pc := 164) dX10_putBit_164
  · refine x_aload_nR (pc := 157) (a := this) 1 rfl rfl dX10_putBit_157 ?_
    refine x_iload_n (pc := 158) 2 rfl rfl dX10_putBit_158 ?_
    refine x_iload (pc := 159) 0 rfl dX10_putBit_159 ?_
    refine x_callV (pc := 161) (As := [.int x1, .int s0]) (rest := []) (lev' := 2) si_X10_205 (m_M_splitLeaf h14 this x1 s0) (fun z e => grd1 e) rfl rfl (by decide) (cat4 (Nat.le_of_ble_eq_true rfl)) dX10_putBit_161 (kV (fun h23 => ?_)) xNo
    exact x_vret (pc := 164) dX10_putBit_164
set_option maxHeartbeats 4000000 in
theorem w_M_putBit_j86 (h : PH) (this : Nat) (x1 : Int32) (x2 : Int32) : Sim Y_M_putBit h 86 [(0, .ref this), (1, .int x1), (2, .int x2)] [] (c_M_putBit_j86 h this x1 x2) := by
  unfold c_M_putBit_j86
  refine x_iload_n (pc := 86) 2 rfl rfl dX10_putBit_86 ?_
  refine x_if_ne (pc := 87) 94 (by decide) dX10_putBit_87 ?_ ?_
  · refine x_aload_nR (pc := 94) (a := this) 0 rfl rfl dX10_putBit_94 ?_
    refine x_iload_n (pc := 95) 1 rfl rfl dX10_putBit_95 ?_
    refine x_iload_n (pc := 96) 2 rfl rfl dX10_putBit_96 ?_
    refine x_iconst (pc := 97) (v := 1) (by decide) dX10_putBit_97 ?_
    refine x_isub (pc := 98) dX10_putBit_98 ?_
    refine x_callV (pc := 99) (As := [.int x1, .int (x2 - (1 : Int32))]) (rest := []) (lev' := 2) si_X10_202 (m_M_leafOf h this x1 (x2 - (1 : Int32))) (fun z e => grd1 e) rfl rfl (by decide) (cat4 (Nat.le_of_ble_eq_true rfl)) dX10_putBit_99 (kI (fun v2 h1 => ?_)) xNo
    refine Sim.lv [0, 1] rfl ?_
    exact w_M_putBit_j102 h1 this x1 v2
  · refine x_iconst (pc := 90) (v := 0) (by decide) dX10_putBit_90 ?_
    refine x_goto (pc := 91) 102 (by decide) dX10_putBit_91 ?_
    refine Sim.lv [0, 1] rfl ?_
    exact w_M_putBit_j102 h this x1 (0 : Int32)
set_option maxHeartbeats 4000000 in
theorem w_M_putBit_l18 (r18 : PH → Nat → Int32 → Int32 → Int32 → Int32 → Int32 → Option RH) (hr18 : ∀ (h : PH) (this : Nat) (x1 : Int32) (x2 : Int32) (x3 : Int32) (x4 : Int32) (x5 : Int32), Sim Y_M_putBit h 18 [(0, .ref this), (1, .int x1), (2, .int x2), (3, .int x3), (4, .int x4), (5, .int x5)] [] (r18 h this x1 x2 x3 x4 x5)) (h : PH) (this : Nat) (x1 : Int32) (x2 : Int32) (x3 : Int32) (x4 : Int32) (x5 : Int32) : Sim Y_M_putBit h 18 [(0, .ref this), (1, .int x1), (2, .int x2), (3, .int x3), (4, .int x4), (5, .int x5)] [] (c_M_putBit_l18 r18 h this x1 x2 x3 x4 x5) := by
  unfold c_M_putBit_l18
  refine x_iload (pc := 18) 5 rfl dX10_putBit_18 ?_
  refine x_iload_n (pc := 20) 2 rfl rfl dX10_putBit_20 ?_
  refine x_icmp_le (pc := 21) 52 (by decide) dX10_putBit_21 ?_ ?_
  · refine x_aload_nR (pc := 52) (a := this) 0 rfl rfl dX10_putBit_52 ?_
    refine x_getQ (pc := 53) fi_X10_98 dX10_putBit_53 ?_
    intro v1
    refine x_iload (pc := 56) 4 rfl dX10_putBit_56 ?_
    refine x_iload_n (pc := 58) 2 rfl rfl dX10_putBit_58 ?_
    refine x_iadd (pc := 59) dX10_putBit_59 ?_
    refine x_iload_n (pc := 60) 3 rfl rfl dX10_putBit_60 ?_
    refine x_nn (fun a2 e3 => ?_)
    subst e3
    refine x_iast (pc := 61) dX10_putBit_61 ?_
    intro h4
    refine x_aload_nR (pc := 62) (a := this) 0 rfl rfl dX10_putBit_62 ?_
    refine x_getQ (pc := 63) fi_X10_98 dX10_putBit_63 ?_
    intro v5
    refine x_sipush (pc := 66) (v := 2611) (by decide) dX10_putBit_66 ?_
    refine x_iload_n (pc := 69) 1 rfl rfl dX10_putBit_69 ?_
    refine x_iadd (pc := 70) dX10_putBit_70 ?_
    refine x_nn (fun a6 e7 => ?_)
    subst e7
    refine x_iald (pc := 71) dX10_putBit_71 ?_
    intro v8
    refine x_if_ne (pc := 72) 86 (by decide) dX10_putBit_72 ?_ ?_
    · refine Sim.lv [0, 1, 2] rfl ?_
      exact w_M_putBit_j86 h4 this x1 x2
    · refine x_aload_nR (pc := 75) (a := this) 0 rfl rfl dX10_putBit_75 ?_
      refine x_getQ (pc := 76) fi_X10_98 dX10_putBit_76 ?_
      intro v9
      refine x_sipush (pc := 79) (v := 2611) (by decide) dX10_putBit_79 ?_
      refine x_iload_n (pc := 82) 1 rfl rfl dX10_putBit_82 ?_
      refine x_iadd (pc := 83) dX10_putBit_83 ?_
      refine x_iconst (pc := 84) (v := 1) (by decide) dX10_putBit_84 ?_
      refine x_nn (fun a10 e11 => ?_)
      subst e11
      refine x_iast (pc := 85) dX10_putBit_85 ?_
      intro h12
      refine Sim.lv [0, 1, 2] rfl ?_
      exact w_M_putBit_j86 h12 this x1 x2
  · refine x_aload_nR (pc := 24) (a := this) 0 rfl rfl dX10_putBit_24 ?_
    refine x_getQ (pc := 25) fi_X10_98 dX10_putBit_25 ?_
    intro v13
    refine x_iload (pc := 28) 4 rfl dX10_putBit_28 ?_
    refine x_iload (pc := 30) 5 rfl dX10_putBit_30 ?_
    refine x_iadd (pc := 32) dX10_putBit_32 ?_
    refine x_aload_nR (pc := 33) (a := this) 0 rfl rfl dX10_putBit_33 ?_
    refine x_getQ (pc := 34) fi_X10_98 dX10_putBit_34 ?_
    intro v14
    refine x_iload (pc := 37) 4 rfl dX10_putBit_37 ?_
    refine x_iload (pc := 39) 5 rfl dX10_putBit_39 ?_
    refine x_iadd (pc := 41) dX10_putBit_41 ?_
    refine x_iconst (pc := 42) (v := 1) (by decide) dX10_putBit_42 ?_
    refine x_isub (pc := 43) dX10_putBit_43 ?_
    refine x_nn (fun a15 e16 => ?_)
    subst e16
    refine x_iald (pc := 44) dX10_putBit_44 ?_
    intro v17
    refine x_nn (fun a18 e19 => ?_)
    subst e19
    refine x_iast (pc := 45) dX10_putBit_45 ?_
    intro h20
    refine x_iinc (pc := 46) (v := (-1 : Int32)) (lv' := [(5, .int (x5 + (-1 : Int32))), (0, .ref this), (1, .int x1), (2, .int x2), (3, .int x3), (4, .int x4)]) 5 rfl (by decide) (by decide) rfl dX10_putBit_46 ?_
    refine x_goto (pc := 49) 18 (by decide) dX10_putBit_49 ?_
    refine Sim.lv [1, 2, 3, 4, 5, 0] rfl ?_
    exact hr18 h20 this x1 x2 x3 x4 (x5 + (-1 : Int32))
set_option maxHeartbeats 4000000 in
theorem v_M_putBit_l18 : ∀ (n : Nat) (h : PH) (this : Nat) (x1 : Int32) (x2 : Int32) (x3 : Int32) (x4 : Int32) (x5 : Int32), Sim Y_M_putBit h 18 [(0, .ref this), (1, .int x1), (2, .int x2), (3, .int x3), (4, .int x4), (5, .int x5)] [] (itr (c_M_putBit_l18) (fun _ _ _ _ _ _ _ => none) n h this x1 x2 x3 x4 x5)
  | 0, h, this, x1, x2, x3, x4, x5 => Sim.none
  | n + 1, h, this, x1, x2, x3, x4, x5 => w_M_putBit_l18 _ (v_M_putBit_l18 n) h this x1 x2 x3 x4 x5
set_option maxHeartbeats 4000000 in
theorem m_M_putBit (h : PH) (this : Nat) (x1 : Int32) (x2 : Int32) (x3 : Int32) : MM yX10_putBit (ws_ yX10_putBit cX10_putBit 6 none) 3 [.ref this, .int x1, .int x2, .int x3] h (c_M_putBit h this x1 x2 x3) := by
  refine MM.of (by decide) rfl (by decide) (Nat.le_of_ble_eq_true rfl) (own := RX10) (cc := cX10_putBit) (maxL := 6) (lev := 3) (rt := none) (ini := false) ?_
  show Sim Y_M_putBit h 0 [(0, .ref this), (1, .int x1), (2, .int x2), (3, .int x3)] [] _
  unfold c_M_putBit
  refine x_grd ?_
  refine x_sipush (pc := 0) (v := 3420) (by decide) dX10_putBit_0 ?_
  refine x_sipush (pc := 3) (v := 600) (by decide) dX10_putBit_3 ?_
  refine x_iload_n (pc := 6) 1 rfl rfl dX10_putBit_6 ?_
  refine x_imul (pc := 7) dX10_putBit_7 ?_
  refine x_iadd (pc := 8) dX10_putBit_8 ?_
  refine x_nmI (fun y1 => ?_)
  refine x_istore (pc := 9) (lv' := [(4, .int y1), (0, .ref this), (1, .int x1), (2, .int x2), (3, .int x3)]) (by decide) rfl dX10_putBit_9 ?_
  refine x_aload_nR (pc := 11) (a := this) 1 rfl rfl dX10_putBit_11 ?_
  refine x_iload_n (pc := 12) 2 rfl rfl dX10_putBit_12 ?_
  refine x_callV (pc := 13) (As := [.int x1]) (rest := []) (lev' := 1) si_X10_199 (m_M_sizeOf h this x1) (fun z e => grd1 e) rfl rfl (by decide) (cat4 (Nat.le_of_ble_eq_true rfl)) dX10_putBit_13 (kI (fun v3 h2 => ?_)) xNo
  refine x_istore (pc := 16) (lv' := [(5, .int v3), (4, .int y1), (0, .ref this), (1, .int x1), (2, .int x2), (3, .int x3)]) (by decide) rfl dX10_putBit_16 ?_
  refine Sim.lv [2, 3, 4, 5, 1, 0] rfl ?_
  exact v_M_putBit_l18 FU h2 this x1 x2 x3 y1 v3
theorem si_X10_142 : SiV RX10 142 8 yX10_putBit cX10_putBit 6 none 3 := ⟨_, _, _, ci_8.1, by decide, lw_V q1897 q1899 qs56 q121 q1900, ⟨rfl, by decide, by decide, by decide +kernel⟩, by decide⟩
abbrev Y_M_startSo : Yx := (RX10, cX10_startSo, 3, 4, none, [], false)
def c_M_startSo_l38 (r26 : PH → Nat → Int32 → Option RH) (r38 : PH → Nat → Int32 → Int32 → Option RH) (h : PH) (this : Nat) (x1 : Int32) (x2 : Int32) : Option RH :=
  gQ h this [8] 14 fun v1 =>
  nn v1 fun a2 =>
  ldI h a2 0 ((2 : Int32) + x1) fun v4 =>
  if v4 ≤ x2 then
    r26 h this (x1 + (1 : Int32))
  else
    gQ h this [8] 14 fun v5 =>
    nn v5 fun a6 =>
    ldI h a6 0 (((207 : Int32) + ((600 : Int32) * x1)) + x2) fun v8 =>
    hV (c_M_putBit h this x1 x2 v8) noX fun h9 =>
    r38 h9 this x1 (x2 + (1 : Int32))
def c_M_startSo_l101 (r101 : PH → Nat → Int32 → Option RH) (h : PH) (this : Nat) (x1 : Int32) : Option RH :=
  if (200 : Int32) ≤ x1 then
    rV h
  else
    gQ h this [8] 14 fun v1 =>
    gQ h this [8] 14 fun v2 =>
    nn v2 fun a3 =>
    ldI h a3 0 ((7 : Int32) + x1) fun v5 =>
    nn v1 fun a6 =>
    stI h a6 ((2616 : Int32) + x1) v5 fun h8 =>
    r101 h8 this (x1 + (1 : Int32))
def c_M_startSo_l26 (r26 : PH → Nat → Int32 → Option RH) (h : PH) (this : Nat) (x1 : Int32) : Option RH :=
  gQ h this [8] 14 fun v1 =>
  nn v1 fun a2 =>
  ldI h a2 0 (0 : Int32) fun v4 =>
  if v4 ≤ x1 then
    gQ h this [8] 14 fun v5 =>
    gQ h this [8] 14 fun v6 =>
    nn v6 fun a7 =>
    ldI h a7 0 (6 : Int32) fun v9 =>
    nn v5 fun a10 =>
    stI h a10 (2615 : Int32) v9 fun h12 =>
    itr (c_M_startSo_l101) (fun _ _ _ => none) FU h12 this (0 : Int32)
  else
    itr (c_M_startSo_l38 r26) (fun _ _ _ _ => none) FU h this x1 (0 : Int32)
def c_M_startSo_l4 (r4 : PH → Nat → Int32 → Option RH) (h : PH) (this : Nat) (x1 : Int32) : Option RH :=
  if (6062 : Int32) ≤ x1 then
    itr (c_M_startSo_l26) (fun _ _ _ => none) FU h this (0 : Int32)
  else
    gQ h this [8] 14 fun v1 =>
    nn v1 fun a2 =>
    stI h a2 x1 (0 : Int32) fun h4 =>
    r4 h4 this (x1 + (1 : Int32))
def c_M_startSo (h : PH) (this : Nat) : Option RH :=
  grd h this [8] (
  itr (c_M_startSo_l4) (fun _ _ _ => none) FU h this (2607 : Int32))
set_option maxHeartbeats 4000000 in
theorem w_M_startSo_l38 (r26 : PH → Nat → Int32 → Option RH) (r38 : PH → Nat → Int32 → Int32 → Option RH) (hr26 : ∀ (h : PH) (this : Nat) (x1 : Int32), Sim Y_M_startSo h 26 [(0, .ref this), (1, .int x1)] [] (r26 h this x1)) (hr38 : ∀ (h : PH) (this : Nat) (x1 : Int32) (x2 : Int32), Sim Y_M_startSo h 38 [(0, .ref this), (1, .int x1), (2, .int x2)] [] (r38 h this x1 x2)) (h : PH) (this : Nat) (x1 : Int32) (x2 : Int32) : Sim Y_M_startSo h 38 [(0, .ref this), (1, .int x1), (2, .int x2)] [] (c_M_startSo_l38 r26 r38 h this x1 x2) := by
  unfold c_M_startSo_l38
  refine x_iload_n (pc := 38) 2 rfl rfl dX10_startSo_38 ?_
  refine x_aload_nR (pc := 39) (a := this) 0 rfl rfl dX10_startSo_39 ?_
  refine x_getQ (pc := 40) fi_X10_98 dX10_startSo_40 ?_
  intro v1
  refine x_iconst (pc := 43) (v := 2) (by decide) dX10_startSo_43 ?_
  refine x_iload_n (pc := 44) 1 rfl rfl dX10_startSo_44 ?_
  refine x_iadd (pc := 45) dX10_startSo_45 ?_
  refine x_nn (fun a2 e3 => ?_)
  subst e3
  refine x_iald (pc := 46) dX10_startSo_46 ?_
  intro v4
  refine x_icmp_ge (pc := 47) 78 (by decide) dX10_startSo_47 ?_ ?_
  · refine x_iinc (pc := 78) (v := (1 : Int32)) (lv' := [(1, .int (x1 + (1 : Int32))), (0, .ref this), (2, .int x2)]) 1 rfl (by decide) (by decide) rfl dX10_startSo_78 ?_
    refine x_goto (pc := 81) 26 (by decide) dX10_startSo_81 ?_
    refine Sim.lv [1, 0] rfl ?_
    exact hr26 h this (x1 + (1 : Int32))
  · refine x_aload_nR (pc := 50) (a := this) 0 rfl rfl dX10_startSo_50 ?_
    refine x_iload_n (pc := 51) 1 rfl rfl dX10_startSo_51 ?_
    refine x_iload_n (pc := 52) 2 rfl rfl dX10_startSo_52 ?_
    refine x_aload_nR (pc := 53) (a := this) 0 rfl rfl dX10_startSo_53 ?_
    refine x_getQ (pc := 54) fi_X10_98 dX10_startSo_54 ?_
    intro v5
    refine x_sipush (pc := 57) (v := 207) (by decide) dX10_startSo_57 ?_
    refine x_sipush (pc := 60) (v := 600) (by decide) dX10_startSo_60 ?_
    refine x_iload_n (pc := 63) 1 rfl rfl dX10_startSo_63 ?_
    refine x_imul (pc := 64) dX10_startSo_64 ?_
    refine x_iadd (pc := 65) dX10_startSo_65 ?_
    refine x_iload_n (pc := 66) 2 rfl rfl dX10_startSo_66 ?_
    refine x_iadd (pc := 67) dX10_startSo_67 ?_
    refine x_nn (fun a6 e7 => ?_)
    subst e7
    refine x_iald (pc := 68) dX10_startSo_68 ?_
    intro v8
    refine x_callV (pc := 69) (As := [.int x1, .int x2, .int v8]) (rest := []) (lev' := 3) si_X10_142 (m_M_putBit h this x1 x2 v8) (fun z e => grd1 e) rfl rfl (by decide) (cat4 (Nat.le_of_ble_eq_true rfl)) dX10_startSo_69 (kV (fun h9 => ?_)) xNo
    refine x_iinc (pc := 72) (v := (1 : Int32)) (lv' := [(2, .int (x2 + (1 : Int32))), (0, .ref this), (1, .int x1)]) 2 rfl (by decide) (by decide) rfl dX10_startSo_72 ?_
    refine x_goto (pc := 75) 38 (by decide) dX10_startSo_75 ?_
    refine Sim.lv [1, 2, 0] rfl ?_
    exact hr38 h9 this x1 (x2 + (1 : Int32))
set_option maxHeartbeats 4000000 in
theorem v_M_startSo_l38 (r26 : PH → Nat → Int32 → Option RH) (hr26 : ∀ (h : PH) (this : Nat) (x1 : Int32), Sim Y_M_startSo h 26 [(0, .ref this), (1, .int x1)] [] (r26 h this x1)) : ∀ (n : Nat) (h : PH) (this : Nat) (x1 : Int32) (x2 : Int32), Sim Y_M_startSo h 38 [(0, .ref this), (1, .int x1), (2, .int x2)] [] (itr (c_M_startSo_l38 r26) (fun _ _ _ _ => none) n h this x1 x2)
  | 0, h, this, x1, x2 => Sim.none
  | n + 1, h, this, x1, x2 => w_M_startSo_l38 r26 _ hr26 (v_M_startSo_l38 r26 hr26 n) h this x1 x2
set_option maxHeartbeats 4000000 in
theorem w_M_startSo_l101 (r101 : PH → Nat → Int32 → Option RH) (hr101 : ∀ (h : PH) (this : Nat) (x1 : Int32), Sim Y_M_startSo h 101 [(0, .ref this), (1, .int x1)] [] (r101 h this x1)) (h : PH) (this : Nat) (x1 : Int32) : Sim Y_M_startSo h 101 [(0, .ref this), (1, .int x1)] [] (c_M_startSo_l101 r101 h this x1) := by
  unfold c_M_startSo_l101
  refine x_iload_n (pc := 101) 1 rfl rfl dX10_startSo_101 ?_
  refine x_sipush (pc := 102) (v := 200) (by decide) dX10_startSo_102 ?_
  refine x_icmp_ge (pc := 105) 133 (by decide) dX10_startSo_105 ?_ ?_
  · exact x_vret (pc := 133) dX10_startSo_133
  · refine x_aload_nR (pc := 108) (a := this) 0 rfl rfl dX10_startSo_108 ?_
    refine x_getQ (pc := 109) fi_X10_98 dX10_startSo_109 ?_
    intro v1
    refine x_sipush (pc := 112) (v := 2616) (by decide) dX10_startSo_112 ?_
    refine x_iload_n (pc := 115) 1 rfl rfl dX10_startSo_115 ?_
    refine x_iadd (pc := 116) dX10_startSo_116 ?_
    refine x_aload_nR (pc := 117) (a := this) 0 rfl rfl dX10_startSo_117 ?_
    refine x_getQ (pc := 118) fi_X10_98 dX10_startSo_118 ?_
    intro v2
    refine x_bipush (pc := 121) (v := 7) (by decide) dX10_startSo_121 ?_
    refine x_iload_n (pc := 123) 1 rfl rfl dX10_startSo_123 ?_
    refine x_iadd (pc := 124) dX10_startSo_124 ?_
    refine x_nn (fun a3 e4 => ?_)
    subst e4
    refine x_iald (pc := 125) dX10_startSo_125 ?_
    intro v5
    refine x_nn (fun a6 e7 => ?_)
    subst e7
    refine x_iast (pc := 126) dX10_startSo_126 ?_
    intro h8
    refine x_iinc (pc := 127) (v := (1 : Int32)) (lv' := [(1, .int (x1 + (1 : Int32))), (0, .ref this)]) 1 rfl (by decide) (by decide) rfl dX10_startSo_127 ?_
    refine x_goto (pc := 130) 101 (by decide) dX10_startSo_130 ?_
    refine Sim.lv [1, 0] rfl ?_
    exact hr101 h8 this (x1 + (1 : Int32))
set_option maxHeartbeats 4000000 in
theorem v_M_startSo_l101 : ∀ (n : Nat) (h : PH) (this : Nat) (x1 : Int32), Sim Y_M_startSo h 101 [(0, .ref this), (1, .int x1)] [] (itr (c_M_startSo_l101) (fun _ _ _ => none) n h this x1)
  | 0, h, this, x1 => Sim.none
  | n + 1, h, this, x1 => w_M_startSo_l101 _ (v_M_startSo_l101 n) h this x1
set_option maxHeartbeats 4000000 in
theorem w_M_startSo_l26 (r26 : PH → Nat → Int32 → Option RH) (hr26 : ∀ (h : PH) (this : Nat) (x1 : Int32), Sim Y_M_startSo h 26 [(0, .ref this), (1, .int x1)] [] (r26 h this x1)) (h : PH) (this : Nat) (x1 : Int32) : Sim Y_M_startSo h 26 [(0, .ref this), (1, .int x1)] [] (c_M_startSo_l26 r26 h this x1) := by
  unfold c_M_startSo_l26
  refine x_iload_n (pc := 26) 1 rfl rfl dX10_startSo_26 ?_
  refine x_aload_nR (pc := 27) (a := this) 0 rfl rfl dX10_startSo_27 ?_
  refine x_getQ (pc := 28) fi_X10_98 dX10_startSo_28 ?_
  intro v1
  refine x_iconst (pc := 31) (v := 0) (by decide) dX10_startSo_31 ?_
  refine x_nn (fun a2 e3 => ?_)
  subst e3
  refine x_iald (pc := 32) dX10_startSo_32 ?_
  intro v4
  refine x_icmp_ge (pc := 33) 84 (by decide) dX10_startSo_33 ?_ ?_
  · refine x_aload_nR (pc := 84) (a := this) 0 rfl rfl dX10_startSo_84 ?_
    refine x_getQ (pc := 85) fi_X10_98 dX10_startSo_85 ?_
    intro v5
    refine x_sipush (pc := 88) (v := 2615) (by decide) dX10_startSo_88 ?_
    refine x_aload_nR (pc := 91) (a := this) 0 rfl rfl dX10_startSo_91 ?_
    refine x_getQ (pc := 92) fi_X10_98 dX10_startSo_92 ?_
    intro v6
    refine x_bipush (pc := 95) (v := 6) (by decide) dX10_startSo_95 ?_
    refine x_nn (fun a7 e8 => ?_)
    subst e8
    refine x_iald (pc := 97) dX10_startSo_97 ?_
    intro v9
    refine x_nn (fun a10 e11 => ?_)
    subst e11
    refine x_iast (pc := 98) dX10_startSo_98 ?_
    intro h12
    refine x_iconst (pc := 99) (v := 0) (by decide) dX10_startSo_99 ?_
    refine x_istore_n (pc := 100) (lv' := [(1, .int (0 : Int32)), (0, .ref this)]) rfl (by decide) rfl dX10_startSo_100 ?_
    refine Sim.lv [1, 0] rfl ?_
    exact v_M_startSo_l101 FU h12 this (0 : Int32)
  · refine x_iconst (pc := 36) (v := 0) (by decide) dX10_startSo_36 ?_
    refine x_istore_n (pc := 37) (lv' := [(2, .int (0 : Int32)), (0, .ref this), (1, .int x1)]) rfl (by decide) rfl dX10_startSo_37 ?_
    refine Sim.lv [1, 2, 0] rfl ?_
    exact v_M_startSo_l38 r26 hr26 FU h this x1 (0 : Int32)
set_option maxHeartbeats 4000000 in
theorem v_M_startSo_l26 : ∀ (n : Nat) (h : PH) (this : Nat) (x1 : Int32), Sim Y_M_startSo h 26 [(0, .ref this), (1, .int x1)] [] (itr (c_M_startSo_l26) (fun _ _ _ => none) n h this x1)
  | 0, h, this, x1 => Sim.none
  | n + 1, h, this, x1 => w_M_startSo_l26 _ (v_M_startSo_l26 n) h this x1
set_option maxHeartbeats 4000000 in
theorem w_M_startSo_l4 (r4 : PH → Nat → Int32 → Option RH) (hr4 : ∀ (h : PH) (this : Nat) (x1 : Int32), Sim Y_M_startSo h 4 [(0, .ref this), (1, .int x1)] [] (r4 h this x1)) (h : PH) (this : Nat) (x1 : Int32) : Sim Y_M_startSo h 4 [(0, .ref this), (1, .int x1)] [] (c_M_startSo_l4 r4 h this x1) := by
  unfold c_M_startSo_l4
  refine x_iload_n (pc := 4) 1 rfl rfl dX10_startSo_4 ?_
  refine x_sipush (pc := 5) (v := 6062) (by decide) dX10_startSo_5 ?_
  refine x_icmp_ge (pc := 8) 24 (by decide) dX10_startSo_8 ?_ ?_
  · refine x_iconst (pc := 24) (v := 0) (by decide) dX10_startSo_24 ?_
    refine x_istore_n (pc := 25) (lv' := [(1, .int (0 : Int32)), (0, .ref this)]) rfl (by decide) rfl dX10_startSo_25 ?_
    refine Sim.lv [1, 0] rfl ?_
    exact v_M_startSo_l26 FU h this (0 : Int32)
  · refine x_aload_nR (pc := 11) (a := this) 0 rfl rfl dX10_startSo_11 ?_
    refine x_getQ (pc := 12) fi_X10_98 dX10_startSo_12 ?_
    intro v1
    refine x_iload_n (pc := 15) 1 rfl rfl dX10_startSo_15 ?_
    refine x_iconst (pc := 16) (v := 0) (by decide) dX10_startSo_16 ?_
    refine x_nn (fun a2 e3 => ?_)
    subst e3
    refine x_iast (pc := 17) dX10_startSo_17 ?_
    intro h4
    refine x_iinc (pc := 18) (v := (1 : Int32)) (lv' := [(1, .int (x1 + (1 : Int32))), (0, .ref this)]) 1 rfl (by decide) (by decide) rfl dX10_startSo_18 ?_
    refine x_goto (pc := 21) 4 (by decide) dX10_startSo_21 ?_
    refine Sim.lv [1, 0] rfl ?_
    exact hr4 h4 this (x1 + (1 : Int32))
set_option maxHeartbeats 4000000 in
theorem v_M_startSo_l4 : ∀ (n : Nat) (h : PH) (this : Nat) (x1 : Int32), Sim Y_M_startSo h 4 [(0, .ref this), (1, .int x1)] [] (itr (c_M_startSo_l4) (fun _ _ _ => none) n h this x1)
  | 0, h, this, x1 => Sim.none
  | n + 1, h, this, x1 => w_M_startSo_l4 _ (v_M_startSo_l4 n) h this x1
set_option maxHeartbeats 4000000 in
theorem m_M_startSo (h : PH) (this : Nat) : MM yX10_startSo (ws_ yX10_startSo cX10_startSo 3 none) 4 [.ref this] h (c_M_startSo h this) := by
  refine MM.of (by decide) rfl (by decide) (Nat.le_of_ble_eq_true rfl) (own := RX10) (cc := cX10_startSo) (maxL := 3) (lev := 4) (rt := none) (ini := false) ?_
  show Sim Y_M_startSo h 0 [(0, .ref this)] [] _
  unfold c_M_startSo
  refine x_grd ?_
  refine x_sipush (pc := 0) (v := 2607) (by decide) dX10_startSo_0 ?_
  refine x_istore_n (pc := 3) (lv' := [(1, .int (2607 : Int32)), (0, .ref this)]) rfl (by decide) rfl dX10_startSo_3 ?_
  refine Sim.lv [1, 0] rfl ?_
  exact v_M_startSo_l4 FU h this (2607 : Int32)
theorem si_X10_189 : SiV RX10 189 8 yX10_startSo cX10_startSo 3 none 0 := ⟨_, _, _, ci_8.1, by decide, lw_V q1893 q1895 qs55 q121 q1896, ⟨rfl, by decide, by decide, by decide +kernel⟩, by decide⟩
theorem fi_X10_192 : FI RX10 192 [8] 24 .int false true := (fi_c ci_8 (by decide) rfl rfl (Or.inl q1710) (Or.inl rfl) (fun h => absurd h (by decide)) fi_n)
theorem si_X10_183 : SiV RX10 183 8 yX10_readLine cX10_readLine 2 (some .boolean) 1 := ⟨_, _, _, ci_8.1, by decide, lw_V q1833 q1835 qs43 q121 q1836, ⟨rfl, by decide, by decide, by decide +kernel⟩, by decide⟩
theorem si_X10_186 : SiV RX10 186 8 yX10_readEnd cX10_readEnd 1 (some .boolean) 0 := ⟨_, _, _, ci_8.1, by decide, lw_V q1885 q1887 qs53 q121 q1888, ⟨rfl, by decide, by decide, by decide +kernel⟩, by decide⟩
theorem si_X10_180 : SiV RX10 180 8 yX10_begin cX10_begin 2 none 1 := ⟨_, _, _, ci_8.1, by decide, lw_V q1809 q1811 qs39 q121 q1812, ⟨rfl, by decide, by decide, by decide +kernel⟩, by decide⟩
abbrev Y_M_room : Yx := (RX10, cX10_room, 3, 6, (some .int), [], false)
def c_M_room_l108 (r108 : PH → Nat → Int32 → Int32 → Option RH) (h : PH) (this : Nat) (x1 : Int32) (x2 : Int32) : Option RH :=
  if (4 : Int32) ≤ x2 then
    hV (c_M_startSo h this) noX fun h1 =>
    pI h1 this [8] 24 (0 : Int32) fun h2 =>
    rI x1 h2
  else
    gQ h this [8] 20 fun v3 =>
    gQ h this [8] 21 fun v4 =>
    nn v4 fun a5 =>
    ldL h a5 x2 fun v7 =>
    nn v3 fun a8 =>
    stL h a8 x2 v7 fun h10 =>
    r108 h10 this x1 (x2 + (1 : Int32))
def c_M_room_l81 (r81 : PH → Nat → Int32 → Int32 → Option RH) (h : PH) (this : Nat) (x1 : Int32) (x2 : Int32) : Option RH :=
  if (2607 : Int32) ≤ x2 then
    itr (c_M_room_l108) (fun _ _ _ _ => none) FU h this x1 (0 : Int32)
  else
    gQ h this [8] 14 fun v1 =>
    gQ h this [8] 15 fun v2 =>
    nn v2 fun a3 =>
    ldI h a3 0 x2 fun v5 =>
    nn v1 fun a6 =>
    stI h a6 x2 v5 fun h8 =>
    r81 h8 this x1 (x2 + (1 : Int32))
def c_M_room_l44 (r44 : PH → Nat → Int32 → Option RH) (h : PH) (this : Nat) (x1 : Int32) : Option RH :=
  gI h this [8] 7 fun v1 =>
  if v1 = 0 then
    itr (c_M_room_l81) (fun _ _ _ _ => none) FU h this x1 (0 : Int32)
  else
    hI (c_M_readLine h this x1) noX fun v3 h2 =>
    if v3 = 0 then
      gI h2 this [8] 11 fun v4 =>
      rI ((-1 : Int32) - v4) h2
    else
      hI (c_M_readEnd h2 this) noX fun v6 h5 =>
      if v6 = 0 then
        gI h5 this [8] 11 fun v7 =>
        rI ((-1 : Int32) - v7) h5
      else
        r44 h5 this (x1 + (1 : Int32))
def c_M_room_l9 (r9 : PH → Nat → Int32 → Option RH) (h : PH) (this : Nat) (x1 : Int32) : Option RH :=
  if (2607 : Int32) ≤ x1 then
    gQ h this [8] 15 fun v1 =>
    nn v1 fun a2 =>
    stI h a2 (1 : Int32) (8 : Int32) fun h4 =>
    pZ h4 this [8] 25 (0 : Int32) fun h5 =>
    itr (c_M_room_l44) (fun _ _ _ => none) FU h5 this (0 : Int32)
  else
    gQ h this [8] 15 fun v6 =>
    nn v6 fun a7 =>
    stI h a7 x1 (0 : Int32) fun h9 =>
    r9 h9 this (x1 + (1 : Int32))
def c_M_room (h : PH) (this : Nat) : Option RH :=
  grd h this [8] (
  hV (c_M_begin h this (900 : Int32)) noX fun h1 =>
  itr (c_M_room_l9) (fun _ _ _ => none) FU h1 this (0 : Int32))
set_option maxHeartbeats 4000000 in
theorem w_M_room_l108 (r108 : PH → Nat → Int32 → Int32 → Option RH) (hr108 : ∀ (h : PH) (this : Nat) (x1 : Int32) (x2 : Int32), Sim Y_M_room h 108 [(0, .ref this), (1, .int x1), (2, .int x2)] [] (r108 h this x1 x2)) (h : PH) (this : Nat) (x1 : Int32) (x2 : Int32) : Sim Y_M_room h 108 [(0, .ref this), (1, .int x1), (2, .int x2)] [] (c_M_room_l108 r108 h this x1 x2) := by
  unfold c_M_room_l108
  refine x_iload_n (pc := 108) 2 rfl rfl dX10_room_108 ?_
  refine x_iconst (pc := 109) (v := 4) (by decide) dX10_room_109 ?_
  refine x_icmp_ge (pc := 110) 131 (by decide) dX10_room_110 ?_ ?_
  · refine x_aload_nR (pc := 131) (a := this) 0 rfl rfl dX10_room_131 ?_
    refine x_callV (pc := 132) (As := []) (rest := []) (lev' := 4) si_X10_189 (m_M_startSo h this) (fun z e => grd1 e) rfl rfl (by decide) (cat4 (Nat.le_of_ble_eq_true rfl)) dX10_room_132 (kV (fun h1 => ?_)) xNo
    refine x_aload_nR (pc := 135) (a := this) 0 rfl rfl dX10_room_135 ?_
    refine x_iconst (pc := 136) (v := 0) (by decide) dX10_room_136 ?_
    refine x_pI (pc := 137) fi_X10_192 (fun z => absurd z (by decide)) dX10_room_137 ?_
    intro h2
    refine x_iload_n (pc := 140) 1 rfl rfl dX10_room_140 ?_
    exact x_iret (pc := 141) dX10_room_141
  · refine x_aload_nR (pc := 113) (a := this) 0 rfl rfl dX10_room_113 ?_
    refine x_getQ (pc := 114) fi_X10_116 dX10_room_114 ?_
    intro v3
    refine x_iload_n (pc := 117) 2 rfl rfl dX10_room_117 ?_
    refine x_aload_nR (pc := 118) (a := this) 0 rfl rfl dX10_room_118 ?_
    refine x_getQ (pc := 119) fi_X10_120 dX10_room_119 ?_
    intro v4
    refine x_iload_n (pc := 122) 2 rfl rfl dX10_room_122 ?_
    refine x_nn (fun a5 e6 => ?_)
    subst e6
    refine x_lald (pc := 123) dX10_room_123 ?_
    intro v7
    refine x_nn (fun a8 e9 => ?_)
    subst e9
    refine x_last (pc := 124) dX10_room_124 ?_
    intro h10
    refine x_iinc (pc := 125) (v := (1 : Int32)) (lv' := [(2, .int (x2 + (1 : Int32))), (0, .ref this), (1, .int x1)]) 2 rfl (by decide) (by decide) rfl dX10_room_125 ?_
    refine x_goto (pc := 128) 108 (by decide) dX10_room_128 ?_
    refine Sim.lv [1, 2, 0] rfl ?_
    exact hr108 h10 this x1 (x2 + (1 : Int32))
set_option maxHeartbeats 4000000 in
theorem v_M_room_l108 : ∀ (n : Nat) (h : PH) (this : Nat) (x1 : Int32) (x2 : Int32), Sim Y_M_room h 108 [(0, .ref this), (1, .int x1), (2, .int x2)] [] (itr (c_M_room_l108) (fun _ _ _ _ => none) n h this x1 x2)
  | 0, h, this, x1, x2 => Sim.none
  | n + 1, h, this, x1, x2 => w_M_room_l108 _ (v_M_room_l108 n) h this x1 x2
set_option maxHeartbeats 4000000 in
theorem w_M_room_l81 (r81 : PH → Nat → Int32 → Int32 → Option RH) (hr81 : ∀ (h : PH) (this : Nat) (x1 : Int32) (x2 : Int32), Sim Y_M_room h 81 [(0, .ref this), (1, .int x1), (2, .int x2)] [] (r81 h this x1 x2)) (h : PH) (this : Nat) (x1 : Int32) (x2 : Int32) : Sim Y_M_room h 81 [(0, .ref this), (1, .int x1), (2, .int x2)] [] (c_M_room_l81 r81 h this x1 x2) := by
  unfold c_M_room_l81
  refine x_iload_n (pc := 81) 2 rfl rfl dX10_room_81 ?_
  refine x_sipush (pc := 82) (v := 2607) (by decide) dX10_room_82 ?_
  refine x_icmp_ge (pc := 85) 106 (by decide) dX10_room_85 ?_ ?_
  · refine x_iconst (pc := 106) (v := 0) (by decide) dX10_room_106 ?_
    refine x_istore_n (pc := 107) (lv' := [(2, .int (0 : Int32)), (0, .ref this), (1, .int x1)]) rfl (by decide) rfl dX10_room_107 ?_
    refine Sim.lv [1, 2, 0] rfl ?_
    exact v_M_room_l108 FU h this x1 (0 : Int32)
  · refine x_aload_nR (pc := 88) (a := this) 0 rfl rfl dX10_room_88 ?_
    refine x_getQ (pc := 89) fi_X10_98 dX10_room_89 ?_
    intro v1
    refine x_iload_n (pc := 92) 2 rfl rfl dX10_room_92 ?_
    refine x_aload_nR (pc := 93) (a := this) 0 rfl rfl dX10_room_93 ?_
    refine x_getQ (pc := 94) fi_X10_101 dX10_room_94 ?_
    intro v2
    refine x_iload_n (pc := 97) 2 rfl rfl dX10_room_97 ?_
    refine x_nn (fun a3 e4 => ?_)
    subst e4
    refine x_iald (pc := 98) dX10_room_98 ?_
    intro v5
    refine x_nn (fun a6 e7 => ?_)
    subst e7
    refine x_iast (pc := 99) dX10_room_99 ?_
    intro h8
    refine x_iinc (pc := 100) (v := (1 : Int32)) (lv' := [(2, .int (x2 + (1 : Int32))), (0, .ref this), (1, .int x1)]) 2 rfl (by decide) (by decide) rfl dX10_room_100 ?_
    refine x_goto (pc := 103) 81 (by decide) dX10_room_103 ?_
    refine Sim.lv [1, 2, 0] rfl ?_
    exact hr81 h8 this x1 (x2 + (1 : Int32))
set_option maxHeartbeats 4000000 in
theorem v_M_room_l81 : ∀ (n : Nat) (h : PH) (this : Nat) (x1 : Int32) (x2 : Int32), Sim Y_M_room h 81 [(0, .ref this), (1, .int x1), (2, .int x2)] [] (itr (c_M_room_l81) (fun _ _ _ _ => none) n h this x1 x2)
  | 0, h, this, x1, x2 => Sim.none
  | n + 1, h, this, x1, x2 => w_M_room_l81 _ (v_M_room_l81 n) h this x1 x2
set_option maxHeartbeats 4000000 in
theorem w_M_room_l44 (r44 : PH → Nat → Int32 → Option RH) (hr44 : ∀ (h : PH) (this : Nat) (x1 : Int32), Sim Y_M_room h 44 [(0, .ref this), (1, .int x1)] [] (r44 h this x1)) (h : PH) (this : Nat) (x1 : Int32) : Sim Y_M_room h 44 [(0, .ref this), (1, .int x1)] [] (c_M_room_l44 r44 h this x1) := by
  unfold c_M_room_l44
  refine x_aload_nR (pc := 44) (a := this) 0 rfl rfl dX10_room_44 ?_
  refine x_getI (pc := 45) fi_X10_30 dX10_room_45 ?_
  intro v1
  refine x_if_eq (pc := 48) 79 (by decide) dX10_room_48 ?_ ?_
  · refine x_iconst (pc := 79) (v := 0) (by decide) dX10_room_79 ?_
    refine x_istore_n (pc := 80) (lv' := [(2, .int (0 : Int32)), (0, .ref this), (1, .int x1)]) rfl (by decide) rfl dX10_room_80 ?_
    refine Sim.lv [1, 2, 0] rfl ?_
    exact v_M_room_l81 FU h this x1 (0 : Int32)
  · refine x_aload_nR (pc := 51) (a := this) 0 rfl rfl dX10_room_51 ?_
    refine x_iload_n (pc := 52) 1 rfl rfl dX10_room_52 ?_
    refine x_callV (pc := 53) (As := [.int x1]) (rest := []) (lev' := 5) si_X10_183 (m_M_readLine h this x1) (fun z e => grd1 e) rfl rfl (by decide) (cat4 (Nat.le_of_ble_eq_true rfl)) dX10_room_53 (kI (fun v3 h2 => ?_)) xNo
    refine x_if_eq (pc := 56) 66 (by decide) dX10_room_56 ?_ ?_
    · refine x_iconst (pc := 66) (v := (-1)) (by decide) dX10_room_66 ?_
      refine x_aload_nR (pc := 67) (a := this) 0 rfl rfl dX10_room_67 ?_
      refine x_getI (pc := 68) fi_X10_69 dX10_room_68 ?_
      intro v4
      refine x_isub (pc := 71) dX10_room_71 ?_
      exact x_iret (pc := 72) dX10_room_72
    · refine x_aload_nR (pc := 59) (a := this) 0 rfl rfl dX10_room_59 ?_
      refine x_callV (pc := 60) (As := []) (rest := []) (lev' := 3) si_X10_186 (m_M_readEnd h2 this) (fun z e => grd1 e) rfl rfl (by decide) (cat4 (Nat.le_of_ble_eq_true rfl)) dX10_room_60 (kI (fun v6 h5 => ?_)) xNo
      refine x_if_ne (pc := 63) 73 (by decide) dX10_room_63 ?_ ?_
      · refine x_iinc (pc := 73) (v := (1 : Int32)) (lv' := [(1, .int (x1 + (1 : Int32))), (0, .ref this)]) 1 rfl (by decide) (by decide) rfl dX10_room_73 ?_
        refine x_goto (pc := 76) 44 (by decide) dX10_room_76 ?_
        refine Sim.lv [1, 0] rfl ?_
        exact hr44 h5 this (x1 + (1 : Int32))
      · refine x_iconst (pc := 66) (v := (-1)) (by decide) dX10_room_66 ?_
        refine x_aload_nR (pc := 67) (a := this) 0 rfl rfl dX10_room_67 ?_
        refine x_getI (pc := 68) fi_X10_69 dX10_room_68 ?_
        intro v7
        refine x_isub (pc := 71) dX10_room_71 ?_
        exact x_iret (pc := 72) dX10_room_72
set_option maxHeartbeats 4000000 in
theorem v_M_room_l44 : ∀ (n : Nat) (h : PH) (this : Nat) (x1 : Int32), Sim Y_M_room h 44 [(0, .ref this), (1, .int x1)] [] (itr (c_M_room_l44) (fun _ _ _ => none) n h this x1)
  | 0, h, this, x1 => Sim.none
  | n + 1, h, this, x1 => w_M_room_l44 _ (v_M_room_l44 n) h this x1
set_option maxHeartbeats 4000000 in
theorem w_M_room_l9 (r9 : PH → Nat → Int32 → Option RH) (hr9 : ∀ (h : PH) (this : Nat) (x1 : Int32), Sim Y_M_room h 9 [(0, .ref this), (1, .int x1)] [] (r9 h this x1)) (h : PH) (this : Nat) (x1 : Int32) : Sim Y_M_room h 9 [(0, .ref this), (1, .int x1)] [] (c_M_room_l9 r9 h this x1) := by
  unfold c_M_room_l9
  refine x_iload_n (pc := 9) 1 rfl rfl dX10_room_9 ?_
  refine x_sipush (pc := 10) (v := 2607) (by decide) dX10_room_10 ?_
  refine x_icmp_ge (pc := 13) 29 (by decide) dX10_room_13 ?_ ?_
  · refine x_aload_nR (pc := 29) (a := this) 0 rfl rfl dX10_room_29 ?_
    refine x_getQ (pc := 30) fi_X10_101 dX10_room_30 ?_
    intro v1
    refine x_iconst (pc := 33) (v := 1) (by decide) dX10_room_33 ?_
    refine x_bipush (pc := 34) (v := 8) (by decide) dX10_room_34 ?_
    refine x_nn (fun a2 e3 => ?_)
    subst e3
    refine x_iast (pc := 36) dX10_room_36 ?_
    intro h4
    refine x_aload_nR (pc := 37) (a := this) 0 rfl rfl dX10_room_37 ?_
    refine x_iconst (pc := 38) (v := 0) (by decide) dX10_room_38 ?_
    refine x_pZ (pc := 39) fi_X10_161 (fun z => absurd z (by decide)) dX10_room_39 ?_
    intro h5
    refine x_iconst (pc := 42) (v := 0) (by decide) dX10_room_42 ?_
    refine x_istore_n (pc := 43) (lv' := [(1, .int (0 : Int32)), (0, .ref this)]) rfl (by decide) rfl dX10_room_43 ?_
    refine Sim.lv [1, 0] rfl ?_
    exact v_M_room_l44 FU h5 this (0 : Int32)
  · refine x_aload_nR (pc := 16) (a := this) 0 rfl rfl dX10_room_16 ?_
    refine x_getQ (pc := 17) fi_X10_101 dX10_room_17 ?_
    intro v6
    refine x_iload_n (pc := 20) 1 rfl rfl dX10_room_20 ?_
    refine x_iconst (pc := 21) (v := 0) (by decide) dX10_room_21 ?_
    refine x_nn (fun a7 e8 => ?_)
    subst e8
    refine x_iast (pc := 22) dX10_room_22 ?_
    intro h9
    refine x_iinc (pc := 23) (v := (1 : Int32)) (lv' := [(1, .int (x1 + (1 : Int32))), (0, .ref this)]) 1 rfl (by decide) (by decide) rfl dX10_room_23 ?_
    refine x_goto (pc := 26) 9 (by decide) dX10_room_26 ?_
    refine Sim.lv [1, 0] rfl ?_
    exact hr9 h9 this (x1 + (1 : Int32))
set_option maxHeartbeats 4000000 in
theorem v_M_room_l9 : ∀ (n : Nat) (h : PH) (this : Nat) (x1 : Int32), Sim Y_M_room h 9 [(0, .ref this), (1, .int x1)] [] (itr (c_M_room_l9) (fun _ _ _ => none) n h this x1)
  | 0, h, this, x1 => Sim.none
  | n + 1, h, this, x1 => w_M_room_l9 _ (v_M_room_l9 n) h this x1
set_option maxHeartbeats 4000000 in
theorem m_M_room (h : PH) (this : Nat) : MM yX10_room (ws_ yX10_room cX10_room 3 (some .int)) 6 [.ref this] h (c_M_room h this) := by
  refine MM.of (by decide) rfl (by decide) (Nat.le_of_ble_eq_true rfl) (own := RX10) (cc := cX10_room) (maxL := 3) (lev := 6) (rt := (some .int)) (ini := false) ?_
  show Sim Y_M_room h 0 [(0, .ref this)] [] _
  unfold c_M_room
  refine x_grd ?_
  refine x_aload_nR (pc := 0) (a := this) 0 rfl rfl dX10_room_0 ?_
  refine x_sipush (pc := 1) (v := 900) (by decide) dX10_room_1 ?_
  refine x_callV (pc := 4) (As := [.int (900 : Int32)]) (rest := []) (lev' := 3) si_X10_180 (m_M_begin h this (900 : Int32)) (fun z e => grd1 e) rfl rfl (by decide) (cat4 (Nat.le_of_ble_eq_true rfl)) dX10_room_4 (kV (fun h1 => ?_)) xNo
  refine x_iconst (pc := 7) (v := 0) (by decide) dX10_room_7 ?_
  refine x_istore_n (pc := 8) (lv' := [(1, .int (0 : Int32)), (0, .ref this)]) rfl (by decide) rfl dX10_room_8 ?_
  refine Sim.lv [1, 0] rfl ?_
  exact v_M_room_l9 FU h1 this (0 : Int32)
abbrev Y_M_fault : Yx := (RX10, cX10_fault, 1, 1, (some .int), [], false)
def c_M_fault (h : PH) (this : Nat) : Option RH :=
  grd h this [8] (
  pI h this [8] 0 (0 : Int32) fun h1 =>
  gI h1 this [8] 10 fun v2 =>
  rI v2 h1)
set_option maxHeartbeats 4000000 in
theorem m_M_fault (h : PH) (this : Nat) : MM yX10_fault (ws_ yX10_fault cX10_fault 1 (some .int)) 1 [.ref this] h (c_M_fault h this) := by
  refine MM.of (by decide) rfl (by decide) (Nat.le_of_ble_eq_true rfl) (own := RX10) (cc := cX10_fault) (maxL := 1) (lev := 1) (rt := (some .int)) (ini := false) ?_
  show Sim Y_M_fault h 0 [(0, .ref this)] [] _
  unfold c_M_fault
  refine x_grd ?_
  refine x_aload_nR (pc := 0) (a := this) 0 rfl rfl dX10_fault_0 ?_
  refine x_iconst (pc := 1) (v := 0) (by decide) dX10_fault_1 ?_
  refine x_pI (pc := 2) fi_X10_1 (fun z => absurd z (by decide)) dX10_fault_2 ?_
  intro h1
  refine x_aload_nR (pc := 5) (a := this) 0 rfl rfl dX10_fault_5 ?_
  refine x_getI (pc := 6) fi_X10_66 dX10_fault_6 ?_
  intro v2
  exact x_iret (pc := 9) dX10_fault_9
abbrev Y_M_isRow : Yx := (RX10, cX10_isRow, 2, 2, (some .boolean), [], false)
def c_M_isRow (h : PH) (this : Nat) (x1 : Int32) : Option RH :=
  grd h this [8] (
  gQ h this [8] 14 fun v1 =>
  nn v1 fun a2 =>
  ldI h a2 0 (0 : Int32) fun v4 =>
  hI (c_M_isIn h x1 (0 : Int32) (v4 - (1 : Int32))) noX fun v6 h5 =>
  rZ v6 h5)
set_option maxHeartbeats 4000000 in
theorem m_M_isRow (h : PH) (this : Nat) (x1 : Int32) : MM yX10_isRow (ws_ yX10_isRow cX10_isRow 2 (some .boolean)) 2 [.ref this, .int x1] h (c_M_isRow h this x1) := by
  refine MM.of (by decide) rfl (by decide) (Nat.le_of_ble_eq_true rfl) (own := RX10) (cc := cX10_isRow) (maxL := 2) (lev := 2) (rt := (some .boolean)) (ini := false) ?_
  show Sim Y_M_isRow h 0 [(0, .ref this), (1, .int x1)] [] _
  unfold c_M_isRow
  refine x_grd ?_
  refine x_iload_n (pc := 0) 1 rfl rfl dX10_isRow_0 ?_
  refine x_iconst (pc := 1) (v := 0) (by decide) dX10_isRow_1 ?_
  refine x_aload_nR (pc := 2) (a := this) 0 rfl rfl dX10_isRow_2 ?_
  refine x_getQ (pc := 3) fi_X10_98 dX10_isRow_3 ?_
  intro v1
  refine x_iconst (pc := 6) (v := 0) (by decide) dX10_isRow_6 ?_
  refine x_nn (fun a2 e3 => ?_)
  subst e3
  refine x_iald (pc := 7) dX10_isRow_7 ?_
  intro v4
  refine x_iconst (pc := 8) (v := 1) (by decide) dX10_isRow_8 ?_
  refine x_isub (pc := 9) dX10_isRow_9 ?_
  refine x_callS (pc := 10) (As := [.int x1, .int (0 : Int32), .int (v4 - (1 : Int32))]) (rest := []) (lev' := 1) si_X10_75 (m_M_isIn h x1 (0 : Int32) (v4 - (1 : Int32))) rfl rfl (by decide) (cat4 (Nat.le_of_ble_eq_true rfl)) dX10_isRow_10 (kI (fun v6 h5 => ?_)) xNo
  exact x_zret (pc := 13) dX10_isRow_13
theorem si_X10_215 : SiV RX10 215 8 yX10_isRow cX10_isRow 2 (some .boolean) 1 := ⟨_, _, _, ci_8.1, by decide, lw_V q1925 q1927 qs61 q121 q1928, ⟨rfl, by decide, by decide, by decide +kernel⟩, by decide⟩
abbrev Y_M_size : Yx := (RX10, cX10_size, 2, 3, (some .int), [], false)
def c_M_size (h : PH) (this : Nat) (x1 : Int32) : Option RH :=
  grd h this [8] (
  pI h this [8] 0 (0 : Int32) fun h1 =>
  hI (c_M_isRow h1 this x1) noX fun v3 h2 =>
  if v3 = 0 then
    rI (-1 : Int32) h2
  else
    hI (c_M_sizeOf h2 this x1) noX fun v5 h4 =>
    rI v5 h4)
set_option maxHeartbeats 4000000 in
theorem m_M_size (h : PH) (this : Nat) (x1 : Int32) : MM yX10_size (ws_ yX10_size cX10_size 2 (some .int)) 3 [.ref this, .int x1] h (c_M_size h this x1) := by
  refine MM.of (by decide) rfl (by decide) (Nat.le_of_ble_eq_true rfl) (own := RX10) (cc := cX10_size) (maxL := 2) (lev := 3) (rt := (some .int)) (ini := false) ?_
  show Sim Y_M_size h 0 [(0, .ref this), (1, .int x1)] [] _
  unfold c_M_size
  refine x_grd ?_
  refine x_aload_nR (pc := 0) (a := this) 0 rfl rfl dX10_size_0 ?_
  refine x_iconst (pc := 1) (v := 0) (by decide) dX10_size_1 ?_
  refine x_pI (pc := 2) fi_X10_1 (fun z => absurd z (by decide)) dX10_size_2 ?_
  intro h1
  refine x_aload_nR (pc := 5) (a := this) 0 rfl rfl dX10_size_5 ?_
  refine x_iload_n (pc := 6) 1 rfl rfl dX10_size_6 ?_
  refine x_callV (pc := 7) (As := [.int x1]) (rest := []) (lev' := 2) si_X10_215 (m_M_isRow h1 this x1) (fun z e => grd1 e) rfl rfl (by decide) (cat4 (Nat.le_of_ble_eq_true rfl)) dX10_size_7 (kI (fun v3 h2 => ?_)) xNo
  refine x_if_eq (pc := 10) 21 (by decide) dX10_size_10 ?_ ?_
  · refine x_iconst (pc := 21) (v := (-1)) (by decide) dX10_size_21 ?_
    exact x_iret (pc := 22) dX10_size_22
  · refine x_aload_nR (pc := 13) (a := this) 0 rfl rfl dX10_size_13 ?_
    refine x_iload_n (pc := 14) 1 rfl rfl dX10_size_14 ?_
    refine x_callV (pc := 15) (As := [.int x1]) (rest := []) (lev' := 1) si_X10_199 (m_M_sizeOf h2 this x1) (fun z e => grd1 e) rfl rfl (by decide) (cat4 (Nat.le_of_ble_eq_true rfl)) dX10_size_15 (kI (fun v5 h4 => ?_)) xNo
    refine x_goto (pc := 18) 22 (by decide) dX10_size_18 ?_
    exact x_iret (pc := 22) dX10_size_22
abbrev Y_M_isThere : Yx := (RX10, cX10_isThere, 3, 2, (some .boolean), [], false)
def c_M_isThere (h : PH) (this : Nat) (x1 : Int32) (x2 : Int32) : Option RH :=
  grd h this [8] (
  hI (c_M_sizeOf h this x1) noX fun v2 h1 =>
  hI (c_M_isIn h1 x2 (0 : Int32) (v2 - (1 : Int32))) noX fun v4 h3 =>
  rZ v4 h3)
set_option maxHeartbeats 4000000 in
theorem m_M_isThere (h : PH) (this : Nat) (x1 : Int32) (x2 : Int32) : MM yX10_isThere (ws_ yX10_isThere cX10_isThere 3 (some .boolean)) 2 [.ref this, .int x1, .int x2] h (c_M_isThere h this x1 x2) := by
  refine MM.of (by decide) rfl (by decide) (Nat.le_of_ble_eq_true rfl) (own := RX10) (cc := cX10_isThere) (maxL := 3) (lev := 2) (rt := (some .boolean)) (ini := false) ?_
  show Sim Y_M_isThere h 0 [(0, .ref this), (1, .int x1), (2, .int x2)] [] _
  unfold c_M_isThere
  refine x_grd ?_
  refine x_iload_n (pc := 0) 2 rfl rfl dX10_isThere_0 ?_
  refine x_iconst (pc := 1) (v := 0) (by decide) dX10_isThere_1 ?_
  refine x_aload_nR (pc := 2) (a := this) 0 rfl rfl dX10_isThere_2 ?_
  refine x_iload_n (pc := 3) 1 rfl rfl dX10_isThere_3 ?_
  refine x_callV (pc := 4) (As := [.int x1]) (rest := [.int (0 : Int32), .int x2]) (lev' := 1) si_X10_199 (m_M_sizeOf h this x1) (fun z e => grd1 e) rfl rfl (by decide) (cat4 (Nat.le_of_ble_eq_true rfl)) dX10_isThere_4 (kI (fun v2 h1 => ?_)) xNo
  refine x_iconst (pc := 7) (v := 1) (by decide) dX10_isThere_7 ?_
  refine x_isub (pc := 8) dX10_isThere_8 ?_
  refine x_callS (pc := 9) (As := [.int x2, .int (0 : Int32), .int (v2 - (1 : Int32))]) (rest := []) (lev' := 1) si_X10_75 (m_M_isIn h1 x2 (0 : Int32) (v2 - (1 : Int32))) rfl rfl (by decide) (cat4 (Nat.le_of_ble_eq_true rfl)) dX10_isThere_9 (kI (fun v4 h3 => ?_)) xNo
  exact x_zret (pc := 12) dX10_isThere_12
abbrev Y_M_bitOf : Yx := (RX10, cX10_bitOf, 3, 1, (some .int), [], false)
def c_M_bitOf (h : PH) (this : Nat) (x1 : Int32) (x2 : Int32) : Option RH :=
  grd h this [8] (
  gQ h this [8] 14 fun v1 =>
  nn v1 fun a2 =>
  ldI h a2 0 (((3420 : Int32) + ((600 : Int32) * x1)) + x2) fun v4 =>
  rI v4 h)
set_option maxHeartbeats 4000000 in
theorem m_M_bitOf (h : PH) (this : Nat) (x1 : Int32) (x2 : Int32) : MM yX10_bitOf (ws_ yX10_bitOf cX10_bitOf 3 (some .int)) 1 [.ref this, .int x1, .int x2] h (c_M_bitOf h this x1 x2) := by
  refine MM.of (by decide) rfl (by decide) (Nat.le_of_ble_eq_true rfl) (own := RX10) (cc := cX10_bitOf) (maxL := 3) (lev := 1) (rt := (some .int)) (ini := false) ?_
  show Sim Y_M_bitOf h 0 [(0, .ref this), (1, .int x1), (2, .int x2)] [] _
  unfold c_M_bitOf
  refine x_grd ?_
  refine x_aload_nR (pc := 0) (a := this) 0 rfl rfl dX10_bitOf_0 ?_
  refine x_getQ (pc := 1) fi_X10_98 dX10_bitOf_1 ?_
  intro v1
  refine x_sipush (pc := 4) (v := 3420) (by decide) dX10_bitOf_4 ?_
  refine x_sipush (pc := 7) (v := 600) (by decide) dX10_bitOf_7 ?_
  refine x_iload_n (pc := 10) 1 rfl rfl dX10_bitOf_10 ?_
  refine x_imul (pc := 11) dX10_bitOf_11 ?_
  refine x_iadd (pc := 12) dX10_bitOf_12 ?_
  refine x_iload_n (pc := 13) 2 rfl rfl dX10_bitOf_13 ?_
  refine x_iadd (pc := 14) dX10_bitOf_14 ?_
  refine x_nn (fun a2 e3 => ?_)
  subst e3
  refine x_iald (pc := 15) dX10_bitOf_15 ?_
  intro v4
  exact x_iret (pc := 16) dX10_bitOf_16
