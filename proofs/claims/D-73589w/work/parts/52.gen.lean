set_option maxRecDepth 100000
theorem si_X7_52 : SiU RX7 52 [5] ⟨RX7, "next", "()V"⟩ yX6_next cX6_next 2 none 0 := (siU_c (c := 5) (owner := "BitRopes$Reade\x72") rfl (by decide) ⟨q697, q698, (Or.inl q700), q598, q117, q603⟩ (Or.inl rfl) ⟨by decide, by decide, by decide +kernel⟩ (siU_n (by decide)))
theorem fi_X7_19 : FI RX7 19 [5] 9 (.object "BitRopes$State") false true := (fi_c ci_5 (by decide) rfl rfl (Or.inl q348) (Or.inl rfl) (fun h => absurd h (by decide)) fi_n)
theorem fi_X7_118 : FI RX7 118 [3] 0 (.array (.object "BitRopes$Rope")) true false := (fi_c ci_3 (by decide) rfl rfl (Or.inr ⟨_, q322⟩) (Or.inl rfl) (fun _ h => absurd h (by decide)) fi_n)
theorem si_X7_122 : SiV RX7 122 4 yX5_wide cX5_wide 1 (some .int) 0 := ⟨_, _, _, ci_4.1, by decide, lw_V q735 q736 q737 q116 q738, ⟨rfl, by decide, by decide, by decide +kernel⟩, by decide⟩
theorem si_X7_127 : SiV RX7 127 4 yX5_insert cX5_insert 5 none 2 := ⟨_, _, _, ci_4.1, by decide, lw_V q739 q740 q741 q116 q742, ⟨rfl, by decide, by decide, by decide +kernel⟩, by decide⟩
theorem fi_X7_31 : FI RX7 31 [5] 3 .int false true := (fi_c ci_5 (by decide) rfl rfl (Or.inl q360) (Or.inr q361) (fun h => absurd h (by decide)) fi_n)
theorem fi_X7_15 : FI RX7 15 [5] 8 (.object "BitRopes$Room") false true := (fi_c ci_5 (by decide) rfl rfl (Or.inl q347) (Or.inl rfl) (fun h => absurd h (by decide)) fi_n)
theorem fi_X7_47 : FI RX7 47 [2] 1 .int false true := (fi_c ci_2 (by decide) rfl rfl (Or.inr ⟨_, q259⟩) (Or.inl rfl) (fun h => absurd h (by decide)) fi_n)
theorem si_X7_77 : SiV RX7 77 5 yX7_isOf cX7_isOf 5 (some .boolean) 3 := ⟨_, _, _, ci_5.1, by decide, lw_V q730 q732 qs6 q118 q733, ⟨rfl, by decide, by decide, by decide +kernel⟩, by decide⟩
theorem si_X7_43 : SiU RX7 43 [5] ⟨RX7, "must", "(ZI)V"⟩ yX6_must cX6_must 3 none 2 := (siU_c (c := 5) (owner := "BitRopes$Reade\x72") rfl (by decide) ⟨q684, q685, (Or.inl q687), q688, q117, q689⟩ (Or.inl rfl) ⟨by decide, by decide, by decide +kernel⟩ (siU_n (by decide)))
theorem fi_X7_106 : FI RX7 106 [2] 0 (.array .long) true false := (fi_c ci_2 (by decide) rfl rfl (Or.inr ⟨_, q256⟩) (Or.inl rfl) (fun _ h => absurd h (by decide)) fi_n)
theorem fi_X7_114 : FI RX7 114 [5] 6 .long false true := (fi_c ci_5 (by decide) rfl rfl (Or.inl q369) (Or.inr q370) (fun h => absurd h (by decide)) fi_n)
theorem si_X7_102 : SiU RX7 102 [5] ⟨RX7, "isName", "()Z"⟩ yX6_isName cX6_isName 1 (some .boolean) 0 := (siU_c (c := 5) (owner := "BitRopes$Reade\x72") rfl (by decide) ⟨q717, q718, (Or.inl q720), q721, q117, q722⟩ (Or.inl rfl) ⟨by decide, by decide, by decide +kernel⟩ (siU_n (by decide)))
theorem si_X7_110 : SiU RX7 110 [5] ⟨RX7, "of", "([JI)I"⟩ yX6_of cX6_of 4 (some .int) 2 := (siU_c (c := 5) (owner := "BitRopes$Reade\x72") rfl (by decide) ⟨q724, q725, (Or.inl q727), q728, q117, q729⟩ (Or.inl rfl) ⟨by decide, by decide, by decide +kernel⟩ (siU_n (by decide)))
abbrev Y_DR_readRow : Yx := (RX7, cX7_readRow, 3, 18, none, [], false)
def c_DR_readRow_l124 (r66 : PH → Nat → Int32 → Option RH) (r124 : PH → Nat → Int32 → Int32 → Option RH) (h : PH) (this : Nat) (x1 : Int32) (x2 : Int32) : Option RH :=
  gI h this [5] 5 fun v1 =>
  if v1 ≤ x2 then
    hV (grd h this [5] (c_D_next h this)) noX fun h2 =>
    r66 h2 this x1
  else
    gQ h this [5] 9 fun v3 =>
    nn v3 fun a4 =>
    gQ h a4 [3] 0 fun v6 =>
    nn v6 fun a7 =>
    ldQ h a7 x1 fun v9 =>
    gQ h this [5] 9 fun v10 =>
    nn v10 fun a11 =>
    gQ h a11 [3] 0 fun v13 =>
    nn v13 fun a14 =>
    ldQ h a14 x1 fun v16 =>
    nn v16 fun a17 =>
    hI (c_R_wide h a17) noX fun v20 h19 =>
    gQ h19 this [5] 11 fun v21 =>
    nn v21 fun a22 =>
    gQ h19 a22 [0] 0 fun v24 =>
    gI h19 this [5] 2 fun v25 =>
    nn v24 fun a26 =>
    ldI h19 a26 2 (v25 + x2) fun v28 =>
    if v28 = (105 : Int32) then
      nn v9 fun a32 =>
      hV (c_R_insert h19 a32 v20 (1 : Int32)) noX fun h34 =>
      r124 h34 this x1 (x2 + (1 : Int32))
    else
      nn v9 fun a29 =>
      hV (c_R_insert h19 a29 v20 (0 : Int32)) noX fun h31 =>
      r124 h31 this x1 (x2 + (1 : Int32))
def c_DR_readRow_l66 (r66 : PH → Nat → Int32 → Option RH) (h : PH) (this : Nat) (x1 : Int32) : Option RH :=
  gI h this [5] 3 fun v1 =>
  if v1 = (1 : Int32) then
    hI (c_DR_isOf h this (105 : Int32) (105 : Int32) (111 : Int32)) noX fun v8 h7 =>
    hV (grd h7 this [5] (c_D_must h7 this v8 (2 : Int32))) rX fun h9 =>
    gQ h9 this [5] 9 fun v10 =>
    nn v10 fun a11 =>
    gQ h9 a11 [3] 0 fun v13 =>
    nn v13 fun a14 =>
    ldQ h9 a14 x1 fun v16 =>
    nn v16 fun a17 =>
    hI (c_R_wide h9 a17) noX fun v20 h19 =>
    gI h19 this [5] 5 fun v21 =>
    if (600 : Int32) < (v20 + v21) then
      hV (grd h19 this [5] (c_D_must h19 this (0 : Int32) (4 : Int32))) rX fun h22 =>
      itr (c_DR_readRow_l124 r66) (fun _ _ _ _ => none) FU h22 this x1 (0 : Int32)
    else
      hV (grd h19 this [5] (c_D_must h19 this (1 : Int32) (4 : Int32))) rX fun h23 =>
      itr (c_DR_readRow_l124 r66) (fun _ _ _ _ => none) FU h23 this x1 (0 : Int32)
  else
    gQ h this [5] 8 fun v2 =>
    nn v2 fun a3 =>
    gI h a3 [2] 1 fun v5 =>
    pI h a3 [2] 1 (v5 + (1 : Int32)) fun h6 =>
    rV h6
def c_DR_readRow_j37 (h : PH) (this : Nat) (s0 : Int32) (s1 : Nat) : Option RH :=
  hV (grd h s1 [5] (c_D_must h s1 s0 (3 : Int32))) rX fun h1 =>
  gQ h1 this [5] 8 fun v2 =>
  nn v2 fun a3 =>
  gI h1 a3 [2] 1 fun v5 =>
  gQ h1 this [5] 8 fun v6 =>
  nn v6 fun a7 =>
  gQ h1 a7 [2] 0 fun v9 =>
  gL h1 this [5] 6 fun v10 =>
  nn v9 fun a11 =>
  stL h1 a11 v5 v10 fun h13 =>
  hV (grd h13 this [5] (c_D_next h13 this)) noX fun h14 =>
  itr (c_DR_readRow_l66) (fun _ _ _ => none) FU h14 this v5
def c_DR_readRow (h : PH) (this : Nat) : Option RH :=
  grd h this [5] (
  hI (grd h this [5] (c_D_isName h this)) noX fun v2 h1 =>
  hV (grd h1 this [5] (c_D_must h1 this v2 (1 : Int32))) rX fun h3 =>
  gQ h3 this [5] 8 fun v4 =>
  nn v4 fun a5 =>
  gQ h3 a5 [2] 0 fun v7 =>
  gQ h3 this [5] 8 fun v8 =>
  nn v8 fun a9 =>
  gI h3 a9 [2] 1 fun v11 =>
  nn v7 fun a12 =>
  hI (grd h3 this [5] (c_D_of h3 this a12 v11)) noX fun v15 h14 =>
  if v15 = (-1 : Int32) then
    c_DR_readRow_j37 h14 this (1 : Int32) this
  else
    c_DR_readRow_j37 h14 this (0 : Int32) this)
set_option maxHeartbeats 4000000 in
theorem w_DR_readRow_l124 (r66 : PH → Nat → Int32 → Option RH) (r124 : PH → Nat → Int32 → Int32 → Option RH) (hr66 : ∀ (h : PH) (this : Nat) (x1 : Int32), Sim Y_DR_readRow h 66 [(0, .ref this), (1, .int x1)] [] (r66 h this x1)) (hr124 : ∀ (h : PH) (this : Nat) (x1 : Int32) (x2 : Int32), Sim Y_DR_readRow h 124 [(0, .ref this), (1, .int x1), (2, .int x2)] [] (r124 h this x1 x2)) (h : PH) (this : Nat) (x1 : Int32) (x2 : Int32) : Sim Y_DR_readRow h 124 [(0, .ref this), (1, .int x1), (2, .int x2)] [] (c_DR_readRow_l124 r66 r124 h this x1 x2) := by
  unfold c_DR_readRow_l124
  refine x_iload_n (pc := 124) 2 rfl rfl dX7_readRow_124 ?_
  refine x_aload_nR (pc := 125) (a := this) 0 rfl rfl dX7_readRow_125 ?_
  refine x_getI (pc := 126) fi_X7_85 dX7_readRow_126 ?_
  intro v1
  refine x_icmp_ge (pc := 129) 186 (by decide) dX7_readRow_129 ?_ ?_
  · refine x_aload_nR (pc := 186) (a := this) 0 rfl rfl dX7_readRow_186 ?_
    refine x_callU (pc := 187) (As := []) (rest := []) (lev' := 4) si_X7_52 (MM.grd (m_D_next h this)) (fun z e => grdN e) rfl rfl (by decide) (cat4 (Nat.le_of_ble_eq_true rfl)) dX7_readRow_187 (kV (fun h2 => ?_)) xNo
    refine x_goto (pc := 190) 66 (by decide) dX7_readRow_190 ?_
    refine Sim.lv [0, 1] rfl ?_
    exact hr66 h2 this x1
  · refine x_aload_nR (pc := 132) (a := this) 0 rfl rfl dX7_readRow_132 ?_
    refine x_getQ (pc := 133) fi_X7_19 dX7_readRow_133 ?_
    intro v3
    refine x_nn (fun a4 e5 => ?_)
    subst e5
    refine x_getQ (pc := 136) fi_X7_118 dX7_readRow_136 ?_
    intro v6
    refine x_iload_n (pc := 139) 1 rfl rfl dX7_readRow_139 ?_
    refine x_nn (fun a7 e8 => ?_)
    subst e8
    refine x_aald (pc := 140) dX7_readRow_140 ?_
    intro v9
    refine x_aload_nR (pc := 141) (a := this) 0 rfl rfl dX7_readRow_141 ?_
    refine x_getQ (pc := 142) fi_X7_19 dX7_readRow_142 ?_
    intro v10
    refine x_nn (fun a11 e12 => ?_)
    subst e12
    refine x_getQ (pc := 145) fi_X7_118 dX7_readRow_145 ?_
    intro v13
    refine x_iload_n (pc := 148) 1 rfl rfl dX7_readRow_148 ?_
    refine x_nn (fun a14 e15 => ?_)
    subst e15
    refine x_aald (pc := 149) dX7_readRow_149 ?_
    intro v16
    refine x_nn (fun a17 e18 => ?_)
    subst e18
    refine x_callV (pc := 150) (As := []) (rest := [va_rf v9]) (lev' := 1) si_X7_122 (m_R_wide h a17) (fun z e => grd1 e) rfl rfl (by decide) (cat4 (Nat.le_of_ble_eq_true rfl)) dX7_readRow_150 (kI (fun v20 h19 => ?_)) xNo
    refine x_aload_nR (pc := 153) (a := this) 0 rfl rfl dX7_readRow_153 ?_
    refine x_getQ (pc := 154) fi_X7_3 dX7_readRow_154 ?_
    intro v21
    refine x_nn (fun a22 e23 => ?_)
    subst e23
    refine x_getQ (pc := 157) fi_X7_88 dX7_readRow_157 ?_
    intro v24
    refine x_aload_nR (pc := 160) (a := this) 0 rfl rfl dX7_readRow_160 ?_
    refine x_getI (pc := 161) fi_X7_92 dX7_readRow_161 ?_
    intro v25
    refine x_iload_n (pc := 164) 2 rfl rfl dX7_readRow_164 ?_
    refine x_iadd (pc := 165) dX7_readRow_165 ?_
    refine x_nn (fun a26 e27 => ?_)
    subst e27
    refine x_bald (pc := 166) dX7_readRow_166 ?_
    intro v28
    refine x_bipush (pc := 167) (v := 105) (by decide) dX7_readRow_167 ?_
    refine x_icmp_ne (pc := 169) 176 (by decide) dX7_readRow_169 ?_ ?_
    · refine x_iconst (pc := 176) (v := 0) (by decide) dX7_readRow_176 ?_
      refine x_nn (fun a29 e30 => ?_)
      subst e30
      refine x_callV (pc := 177) (As := [.int v20, .int (0 : Int32)]) (rest := []) (lev' := 17) si_X7_127 (m_R_insert h19 a29 v20 (0 : Int32)) (fun z e => grd1 e) rfl rfl (by decide) (cat4 (Nat.le_of_ble_eq_true rfl)) dX7_readRow_177 (kV (fun h31 => ?_)) xNo
      refine x_iinc (pc := 180) (v := (1 : Int32)) (lv' := [(2, .int (x2 + (1 : Int32))), (0, .ref this), (1, .int x1)]) 2 rfl (by decide) (by decide) rfl dX7_readRow_180 ?_
      refine x_goto (pc := 183) 124 (by decide) dX7_readRow_183 ?_
      refine Sim.lv [1, 2, 0] rfl ?_
      exact hr124 h31 this x1 (x2 + (1 : Int32))
    · refine x_iconst (pc := 172) (v := 1) (by decide) dX7_readRow_172 ?_
      refine x_goto (pc := 173) 177 (by decide) dX7_readRow_173 ?_
      refine x_nn (fun a32 e33 => ?_)
      subst e33
      refine x_callV (pc := 177) (As := [.int v20, .int (1 : Int32)]) (rest := []) (lev' := 17) si_X7_127 (m_R_insert h19 a32 v20 (1 : Int32)) (fun z e => grd1 e) rfl rfl (by decide) (cat4 (Nat.le_of_ble_eq_true rfl)) dX7_readRow_177 (kV (fun h34 => ?_)) xNo
      refine x_iinc (pc := 180) (v := (1 : Int32)) (lv' := [(2, .int (x2 + (1 : Int32))), (0, .ref this), (1, .int x1)]) 2 rfl (by decide) (by decide) rfl dX7_readRow_180 ?_
      refine x_goto (pc := 183) 124 (by decide) dX7_readRow_183 ?_
      refine Sim.lv [1, 2, 0] rfl ?_
      exact hr124 h34 this x1 (x2 + (1 : Int32))
set_option maxHeartbeats 4000000 in
theorem v_DR_readRow_l124 (r66 : PH → Nat → Int32 → Option RH) (hr66 : ∀ (h : PH) (this : Nat) (x1 : Int32), Sim Y_DR_readRow h 66 [(0, .ref this), (1, .int x1)] [] (r66 h this x1)) : ∀ (n : Nat) (h : PH) (this : Nat) (x1 : Int32) (x2 : Int32), Sim Y_DR_readRow h 124 [(0, .ref this), (1, .int x1), (2, .int x2)] [] (itr (c_DR_readRow_l124 r66) (fun _ _ _ _ => none) n h this x1 x2)
  | 0, h, this, x1, x2 => Sim.none
  | n + 1, h, this, x1, x2 => w_DR_readRow_l124 r66 _ hr66 (v_DR_readRow_l124 r66 hr66 n) h this x1 x2
set_option maxHeartbeats 4000000 in
theorem w_DR_readRow_l66 (r66 : PH → Nat → Int32 → Option RH) (hr66 : ∀ (h : PH) (this : Nat) (x1 : Int32), Sim Y_DR_readRow h 66 [(0, .ref this), (1, .int x1)] [] (r66 h this x1)) (h : PH) (this : Nat) (x1 : Int32) : Sim Y_DR_readRow h 66 [(0, .ref this), (1, .int x1)] [] (c_DR_readRow_l66 r66 h this x1) := by
  unfold c_DR_readRow_l66
  refine x_aload_nR (pc := 66) (a := this) 0 rfl rfl dX7_readRow_66 ?_
  refine x_getI (pc := 67) fi_X7_31 dX7_readRow_67 ?_
  intro v1
  refine x_iconst (pc := 70) (v := 1) (by decide) dX7_readRow_70 ?_
  refine x_icmp_ne (pc := 71) 193 (by decide) dX7_readRow_71 ?_ ?_
  · refine x_aload_nR (pc := 193) (a := this) 0 rfl rfl dX7_readRow_193 ?_
    refine x_getQ (pc := 194) fi_X7_15 dX7_readRow_194 ?_
    intro v2
    refine x_dup (pc := 197) (rf_cat v2) dX7_readRow_197 ?_
    refine x_nn (fun a3 e4 => ?_)
    subst e4
    refine x_getI (pc := 198) fi_X7_47 dX7_readRow_198 ?_
    intro v5
    refine x_iconst (pc := 201) (v := 1) (by decide) dX7_readRow_201 ?_
    refine x_iadd (pc := 202) dX7_readRow_202 ?_
    refine x_pI (pc := 203) fi_X7_47 (fun z => absurd z (by decide)) dX7_readRow_203 ?_
    intro h6
    exact x_vret (pc := 206) dX7_readRow_206
  · refine x_aload_nR (pc := 74) (a := this) 0 rfl rfl dX7_readRow_74 ?_
    refine x_aload_nR (pc := 75) (a := this) 0 rfl rfl dX7_readRow_75 ?_
    refine x_bipush (pc := 76) (v := 105) (by decide) dX7_readRow_76 ?_
    refine x_bipush (pc := 78) (v := 105) (by decide) dX7_readRow_78 ?_
    refine x_bipush (pc := 80) (v := 111) (by decide) dX7_readRow_80 ?_
    refine x_callV (pc := 82) (As := [.int (105 : Int32), .int (105 : Int32), .int (111 : Int32)]) (rest := [.ref this]) (lev' := 2) si_X7_77 (m_DR_isOf h this (105 : Int32) (105 : Int32) (111 : Int32)) (fun z e => grd1 e) rfl rfl (by decide) (cat4 (Nat.le_of_ble_eq_true rfl)) dX7_readRow_82 (kI (fun v8 h7 => ?_)) xNo
    refine x_iconst (pc := 85) (v := 2) (by decide) dX7_readRow_85 ?_
    refine x_callU (pc := 86) (As := [.int v8, .int (2 : Int32)]) (rest := []) (lev' := 2) si_X7_43 (MM.grd (m_D_must h7 this v8 (2 : Int32))) (fun z e => grdN e) rfl rfl (by decide) (cat4 (Nat.le_of_ble_eq_true rfl)) dX7_readRow_86 (kV (fun h9 => ?_)) (xOut (by decide))
    refine x_aload_nR (pc := 89) (a := this) 0 rfl rfl dX7_readRow_89 ?_
    refine x_aload_nR (pc := 90) (a := this) 0 rfl rfl dX7_readRow_90 ?_
    refine x_getQ (pc := 91) fi_X7_19 dX7_readRow_91 ?_
    intro v10
    refine x_nn (fun a11 e12 => ?_)
    subst e12
    refine x_getQ (pc := 94) fi_X7_118 dX7_readRow_94 ?_
    intro v13
    refine x_iload_n (pc := 97) 1 rfl rfl dX7_readRow_97 ?_
    refine x_nn (fun a14 e15 => ?_)
    subst e15
    refine x_aald (pc := 98) dX7_readRow_98 ?_
    intro v16
    refine x_nn (fun a17 e18 => ?_)
    subst e18
    refine x_callV (pc := 99) (As := []) (rest := [.ref this]) (lev' := 1) si_X7_122 (m_R_wide h9 a17) (fun z e => grd1 e) rfl rfl (by decide) (cat4 (Nat.le_of_ble_eq_true rfl)) dX7_readRow_99 (kI (fun v20 h19 => ?_)) xNo
    refine x_aload_nR (pc := 102) (a := this) 0 rfl rfl dX7_readRow_102 ?_
    refine x_getI (pc := 103) fi_X7_85 dX7_readRow_103 ?_
    intro v21
    refine x_iadd (pc := 106) dX7_readRow_106 ?_
    refine x_sipush (pc := 107) (v := 600) (by decide) dX7_readRow_107 ?_
    refine x_icmp_gt (pc := 110) 117 (by decide) dX7_readRow_110 ?_ ?_
    · refine x_iconst (pc := 117) (v := 0) (by decide) dX7_readRow_117 ?_
      refine x_iconst (pc := 118) (v := 4) (by decide) dX7_readRow_118 ?_
      refine x_callU (pc := 119) (As := [.int (0 : Int32), .int (4 : Int32)]) (rest := []) (lev' := 2) si_X7_43 (MM.grd (m_D_must h19 this (0 : Int32) (4 : Int32))) (fun z e => grdN e) rfl rfl (by decide) (cat4 (Nat.le_of_ble_eq_true rfl)) dX7_readRow_119 (kV (fun h22 => ?_)) (xOut (by decide))
      refine x_iconst (pc := 122) (v := 0) (by decide) dX7_readRow_122 ?_
      refine x_istore_n (pc := 123) (lv' := [(2, .int (0 : Int32)), (0, .ref this), (1, .int x1)]) rfl (by decide) rfl dX7_readRow_123 ?_
      refine Sim.lv [1, 2, 0] rfl ?_
      exact v_DR_readRow_l124 r66 hr66 FU h22 this x1 (0 : Int32)
    · refine x_iconst (pc := 113) (v := 1) (by decide) dX7_readRow_113 ?_
      refine x_goto (pc := 114) 118 (by decide) dX7_readRow_114 ?_
      refine x_iconst (pc := 118) (v := 4) (by decide) dX7_readRow_118 ?_
      refine x_callU (pc := 119) (As := [.int (1 : Int32), .int (4 : Int32)]) (rest := []) (lev' := 2) si_X7_43 (MM.grd (m_D_must h19 this (1 : Int32) (4 : Int32))) (fun z e => grdN e) rfl rfl (by decide) (cat4 (Nat.le_of_ble_eq_true rfl)) dX7_readRow_119 (kV (fun h23 => ?_)) (xOut (by decide))
      refine x_iconst (pc := 122) (v := 0) (by decide) dX7_readRow_122 ?_
      refine x_istore_n (pc := 123) (lv' := [(2, .int (0 : Int32)), (0, .ref this), (1, .int x1)]) rfl (by decide) rfl dX7_readRow_123 ?_
      refine Sim.lv [1, 2, 0] rfl ?_
      exact v_DR_readRow_l124 r66 hr66 FU h23 this x1 (0 : Int32)
set_option maxHeartbeats 4000000 in
theorem v_DR_readRow_l66 : ∀ (n : Nat) (h : PH) (this : Nat) (x1 : Int32), Sim Y_DR_readRow h 66 [(0, .ref this), (1, .int x1)] [] (itr (c_DR_readRow_l66) (fun _ _ _ => none) n h this x1)
  | 0, h, this, x1 => Sim.none
  | n + 1, h, this, x1 => w_DR_readRow_l66 _ (v_DR_readRow_l66 n) h this x1
set_option maxHeartbeats 4000000 in
theorem w_DR_readRow_j37 (h : PH) (this : Nat) (s0 : Int32) (s1 : Nat) : Sim Y_DR_readRow h 37 [(0, .ref this)] [.int s0, .ref s1] (c_DR_readRow_j37 h this s0 s1) := by
  unfold c_DR_readRow_j37
  refine x_iconst (pc := 37) (v := 3) (by decide) dX7_readRow_37 ?_
  refine x_callU (pc := 38) (As := [.int s0, .int (3 : Int32)]) (rest := []) (lev' := 2) si_X7_43 (MM.grd (m_D_must h s1 s0 (3 : Int32))) (fun z e => grdN e) rfl rfl (by decide) (cat4 (Nat.le_of_ble_eq_true rfl)) dX7_readRow_38 (kV (fun h1 => ?_)) (xOut (by decide))
  refine x_aload_nR (pc := 41) (a := this) 0 rfl rfl dX7_readRow_41 ?_
  refine x_getQ (pc := 42) fi_X7_15 dX7_readRow_42 ?_
  intro v2
  refine x_nn (fun a3 e4 => ?_)
  subst e4
  refine x_getI (pc := 45) fi_X7_47 dX7_readRow_45 ?_
  intro v5
  refine x_istore_n (pc := 48) (lv' := [(1, .int v5), (0, .ref this)]) rfl (by decide) rfl dX7_readRow_48 ?_
  refine x_aload_nR (pc := 49) (a := this) 1 rfl rfl dX7_readRow_49 ?_
  refine x_getQ (pc := 50) fi_X7_15 dX7_readRow_50 ?_
  intro v6
  refine x_nn (fun a7 e8 => ?_)
  subst e8
  refine x_getQ (pc := 53) fi_X7_106 dX7_readRow_53 ?_
  intro v9
  refine x_iload_n (pc := 56) 0 rfl rfl dX7_readRow_56 ?_
  refine x_aload_nR (pc := 57) (a := this) 1 rfl rfl dX7_readRow_57 ?_
  refine x_getL (pc := 58) fi_X7_114 dX7_readRow_58 ?_
  intro v10
  refine x_nn (fun a11 e12 => ?_)
  subst e12
  refine x_last (pc := 61) dX7_readRow_61 ?_
  intro h13
  refine x_aload_nR (pc := 62) (a := this) 1 rfl rfl dX7_readRow_62 ?_
  refine x_callU (pc := 63) (As := []) (rest := []) (lev' := 4) si_X7_52 (MM.grd (m_D_next h13 this)) (fun z e => grdN e) rfl rfl (by decide) (cat4 (Nat.le_of_ble_eq_true rfl)) dX7_readRow_63 (kV (fun h14 => ?_)) xNo
  refine Sim.lv [1, 0] rfl ?_
  exact v_DR_readRow_l66 FU h14 this v5
set_option maxHeartbeats 4000000 in
theorem m_DR_readRow (h : PH) (this : Nat) : MM yX7_readRow (ws_ yX7_readRow cX7_readRow 3 none) 18 [.ref this] h (c_DR_readRow h this) := by
  refine MM.of (by decide) rfl (by decide) (Nat.le_of_ble_eq_true rfl) (own := RX7) (cc := cX7_readRow) (maxL := 3) (lev := 18) (rt := none) (ini := false) ?_
  show Sim Y_DR_readRow h 0 [(0, .ref this)] [] _
  unfold c_DR_readRow
  refine x_grd ?_
  refine x_aload_nR (pc := 0) (a := this) 0 rfl rfl dX7_readRow_0 ?_
  refine x_aload_nR (pc := 1) (a := this) 0 rfl rfl dX7_readRow_1 ?_
  refine x_callU (pc := 2) (As := []) (rest := [.ref this]) (lev' := 11) si_X7_102 (MM.grd (m_D_isName h this)) (fun z e => grdN e) rfl rfl (by decide) (cat4 (Nat.le_of_ble_eq_true rfl)) dX7_readRow_2 (kI (fun v2 h1 => ?_)) xNo
  refine x_iconst (pc := 5) (v := 1) (by decide) dX7_readRow_5 ?_
  refine x_callU (pc := 6) (As := [.int v2, .int (1 : Int32)]) (rest := []) (lev' := 2) si_X7_43 (MM.grd (m_D_must h1 this v2 (1 : Int32))) (fun z e => grdN e) rfl rfl (by decide) (cat4 (Nat.le_of_ble_eq_true rfl)) dX7_readRow_6 (kV (fun h3 => ?_)) (xOut (by decide))
  refine x_aload_nR (pc := 9) (a := this) 0 rfl rfl dX7_readRow_9 ?_
  refine x_aload_nR (pc := 10) (a := this) 0 rfl rfl dX7_readRow_10 ?_
  refine x_aload_nR (pc := 11) (a := this) 0 rfl rfl dX7_readRow_11 ?_
  refine x_getQ (pc := 12) fi_X7_15 dX7_readRow_12 ?_
  intro v4
  refine x_nn (fun a5 e6 => ?_)
  subst e6
  refine x_getQ (pc := 15) fi_X7_106 dX7_readRow_15 ?_
  intro v7
  refine x_aload_nR (pc := 18) (a := this) 0 rfl rfl dX7_readRow_18 ?_
  refine x_getQ (pc := 19) fi_X7_15 dX7_readRow_19 ?_
  intro v8
  refine x_nn (fun a9 e10 => ?_)
  subst e10
  refine x_getI (pc := 22) fi_X7_47 dX7_readRow_22 ?_
  intro v11
  refine x_nn (fun a12 e13 => ?_)
  subst e13
  refine x_callU (pc := 25) (As := [.ref a12, .int v11]) (rest := [.ref this]) (lev' := 1) si_X7_110 (MM.grd (m_D_of h3 this a12 v11)) (fun z e => grdN e) rfl rfl (by decide) (cat4 (Nat.le_of_ble_eq_true rfl)) dX7_readRow_25 (kI (fun v15 h14 => ?_)) xNo
  refine x_iconst (pc := 28) (v := (-1)) (by decide) dX7_readRow_28 ?_
  refine x_icmp_ne (pc := 29) 36 (by decide) dX7_readRow_29 ?_ ?_
  · refine x_iconst (pc := 36) (v := 0) (by decide) dX7_readRow_36 ?_
    exact w_DR_readRow_j37 h14 this (0 : Int32) this
  · refine x_iconst (pc := 32) (v := 1) (by decide) dX7_readRow_32 ?_
    refine x_goto (pc := 33) 37 (by decide) dX7_readRow_33 ?_
    exact w_DR_readRow_j37 h14 this (1 : Int32) this
theorem si_X7_81 : SiV RX7 81 3 yX4_typed cX4_typed 1 (some .int) 0 := ⟨_, _, _, ci_3.1, by decide, lw_V q852 q853 q854 q115 q855, ⟨rfl, by decide, by decide, by decide +kernel⟩, by decide⟩
theorem si_X7_95 : SiVN RX7 95 3 "BitRopes" yX4_types cX4_types 8 none 2 := ⟨_, _, _, ci_3.1, by decide, q860, q115, q857, q859, qs13, ⟨by decide, by decide, by decide +kernel⟩, by decide⟩
theorem si_X7_62 : SiU RX7 62 [5] ⟨RX7, "numbe\x72", "(II)I"⟩ yX6_number cX6_number 4 (some .int) 2 := (siU_c (c := 5) (owner := "BitRopes$Reade\x72") rfl (by decide) ⟨q705, q706, (Or.inl q708), q709, q117, q710⟩ (Or.inl rfl) ⟨by decide, by decide, by decide +kernel⟩ (siU_n (by decide)))
theorem fi_X7_66 : FI RX7 66 [2] 2 .int false true := (fi_c ci_2 (by decide) rfl rfl (Or.inr ⟨_, q265⟩) (Or.inl rfl) (fun h => absurd h (by decide)) fi_n)
theorem si_X7_69 : SiV RX7 69 3 yX4_begin cX4_begin 6 none 1 := ⟨_, _, _, ci_3.1, by decide, lw_V q712 q439 q440 q115 q441, ⟨rfl, by decide, by decide, by decide +kernel⟩, by decide⟩
theorem si_X7_74 : SiV RX7 74 5 yX7_readRow cX7_readRow 3 none 0 := ⟨_, _, _, ci_5.1, by decide, lw_V q713 q715 qs5 q118 q716, ⟨rfl, by decide, by decide, by decide +kernel⟩, by decide⟩
theorem fi_X7_23 : FI RX7 23 [5] 10 .boolean false true := (fi_c ci_5 (by decide) rfl rfl (Or.inl q349) (Or.inl rfl) (fun h => absurd h (by decide)) fi_n)
abbrev Y_DR_readLine : Yx := (RX7, cX7_readLine, 3, 19, none, [], false)
def c_DR_readLine_l121 (r68 : PH → Nat → Option RH) (r121 : PH → Nat → Int32 → Option RH) (h : PH) (this : Nat) (x2 : Int32) : Option RH :=
  gI h this [5] 5 fun v1 =>
  if v1 ≤ x2 then
    hV (grd h this [5] (c_D_next h this)) noX fun h2 =>
    r68 h2 this
  else
    gQ h this [5] 9 fun v3 =>
    gQ h this [5] 9 fun v4 =>
    nn v4 fun a5 =>
    hI (c_S_typed h a5) noX fun v8 h7 =>
    gQ h7 this [5] 11 fun v9 =>
    nn v9 fun a10 =>
    gQ h7 a10 [0] 0 fun v12 =>
    gI h7 this [5] 2 fun v13 =>
    nn v12 fun a14 =>
    ldI h7 a14 2 (v13 + x2) fun v16 =>
    nn v3 fun a17 =>
    hV (c_S_types h7 a17 v8 (v16 - (97 : Int32))) noX fun h19 =>
    r121 h19 this (x2 + (1 : Int32))
def c_DR_readLine_l68 (r68 : PH → Nat → Option RH) (h : PH) (this : Nat) : Option RH :=
  gI h this [5] 3 fun v1 =>
  if v1 = (1 : Int32) then
    hI (c_DR_isOf h this (97 : Int32) (104 : Int32) (97 : Int32)) noX fun v3 h2 =>
    hV (grd h2 this [5] (c_D_must h2 this v3 (2 : Int32))) rX fun h4 =>
    gQ h4 this [5] 9 fun v5 =>
    nn v5 fun a6 =>
    hI (c_S_typed h4 a6) noX fun v9 h8 =>
    gI h8 this [5] 5 fun v10 =>
    if (200 : Int32) < (v9 + v10) then
      hV (grd h8 this [5] (c_D_must h8 this (0 : Int32) (4 : Int32))) rX fun h11 =>
      itr (c_DR_readLine_l121 r68) (fun _ _ _ => none) FU h11 this (0 : Int32)
    else
      hV (grd h8 this [5] (c_D_must h8 this (1 : Int32) (4 : Int32))) rX fun h12 =>
      itr (c_DR_readLine_l121 r68) (fun _ _ _ => none) FU h12 this (0 : Int32)
  else
    rV h
def c_DR_readLine (h : PH) (this : Nat) (x1 : Int32) : Option RH :=
  grd h this [5] (
  if x1 = 0 then
    gQ h this [5] 8 fun v1 =>
    hI (grd h this [5] (c_D_number h this (4 : Int32) (32 : Int32))) rX fun v3 h2 =>
    nn v1 fun a4 =>
    pI h2 a4 [2] 2 v3 fun h6 =>
    gQ h6 this [5] 9 fun v7 =>
    gQ h6 this [5] 8 fun v8 =>
    nn v8 fun a9 =>
    nn v7 fun a11 =>
    hV (c_S_begin h6 a11 a9) noX fun h13 =>
    rV h13
  else
  if x1 = 1 then
    hV (c_DR_readRow h this) rX fun h14 =>
    rV h14
  else
  pZ h this [5] 10 (1 : Int32) fun h15 =>
  itr (c_DR_readLine_l68) (fun _ _ => none) FU h15 this)
set_option maxHeartbeats 4000000 in
theorem w_DR_readLine_l121 (r68 : PH → Nat → Option RH) (r121 : PH → Nat → Int32 → Option RH) (hr68 : ∀ (h : PH) (this : Nat), Sim Y_DR_readLine h 68 [(0, .ref this)] [] (r68 h this)) (hr121 : ∀ (h : PH) (this : Nat) (x2 : Int32), Sim Y_DR_readLine h 121 [(0, .ref this), (2, .int x2)] [] (r121 h this x2)) (h : PH) (this : Nat) (x2 : Int32) : Sim Y_DR_readLine h 121 [(0, .ref this), (2, .int x2)] [] (c_DR_readLine_l121 r68 r121 h this x2) := by
  unfold c_DR_readLine_l121
  refine x_iload_n (pc := 121) 1 rfl rfl dX7_readLine_121 ?_
  refine x_aload_nR (pc := 122) (a := this) 0 rfl rfl dX7_readLine_122 ?_
  refine x_getI (pc := 123) fi_X7_85 dX7_readLine_123 ?_
  intro v1
  refine x_icmp_ge (pc := 126) 166 (by decide) dX7_readLine_126 ?_ ?_
  · refine x_aload_nR (pc := 166) (a := this) 0 rfl rfl dX7_readLine_166 ?_
    refine x_callU (pc := 167) (As := []) (rest := []) (lev' := 4) si_X7_52 (MM.grd (m_D_next h this)) (fun z e => grdN e) rfl rfl (by decide) (cat4 (Nat.le_of_ble_eq_true rfl)) dX7_readLine_167 (kV (fun h2 => ?_)) xNo
    refine x_goto (pc := 170) 68 (by decide) dX7_readLine_170 ?_
    refine Sim.lv [0] rfl ?_
    exact hr68 h2 this
  · refine x_aload_nR (pc := 129) (a := this) 0 rfl rfl dX7_readLine_129 ?_
    refine x_getQ (pc := 130) fi_X7_19 dX7_readLine_130 ?_
    intro v3
    refine x_aload_nR (pc := 133) (a := this) 0 rfl rfl dX7_readLine_133 ?_
    refine x_getQ (pc := 134) fi_X7_19 dX7_readLine_134 ?_
    intro v4
    refine x_nn (fun a5 e6 => ?_)
    subst e6
    refine x_callV (pc := 137) (As := []) (rest := [va_rf v3]) (lev' := 2) si_X7_81 (m_S_typed h a5) (fun z e => grd1 e) rfl rfl (by decide) (cat4 (Nat.le_of_ble_eq_true rfl)) dX7_readLine_137 (kI (fun v8 h7 => ?_)) xNo
    refine x_aload_nR (pc := 140) (a := this) 0 rfl rfl dX7_readLine_140 ?_
    refine x_getQ (pc := 141) fi_X7_3 dX7_readLine_141 ?_
    intro v9
    refine x_nn (fun a10 e11 => ?_)
    subst e11
    refine x_getQ (pc := 144) fi_X7_88 dX7_readLine_144 ?_
    intro v12
    refine x_aload_nR (pc := 147) (a := this) 0 rfl rfl dX7_readLine_147 ?_
    refine x_getI (pc := 148) fi_X7_92 dX7_readLine_148 ?_
    intro v13
    refine x_iload_n (pc := 151) 1 rfl rfl dX7_readLine_151 ?_
    refine x_iadd (pc := 152) dX7_readLine_152 ?_
    refine x_nn (fun a14 e15 => ?_)
    subst e15
    refine x_bald (pc := 153) dX7_readLine_153 ?_
    intro v16
    refine x_bipush (pc := 154) (v := 97) (by decide) dX7_readLine_154 ?_
    refine x_isub (pc := 156) dX7_readLine_156 ?_
    refine x_nn (fun a17 e18 => ?_)
    subst e18
    refine x_callVN (pc := 157) (As := [.int v8, .int (v16 - (97 : Int32))]) (rest := []) (lev' := 18) si_X7_95 (m_S_types h7 a17 v8 (v16 - (97 : Int32))) (fun z e => grd1 e) rfl rfl (by decide) (cat4 (Nat.le_of_ble_eq_true rfl)) dX7_readLine_157 (kV (fun h19 => ?_)) xNo
    refine x_iinc (pc := 160) (v := (1 : Int32)) (lv' := [(2, .int (x2 + (1 : Int32))), (0, .ref this)]) 1 rfl (by decide) (by decide) rfl dX7_readLine_160 ?_
    refine x_goto (pc := 163) 121 (by decide) dX7_readLine_163 ?_
    refine Sim.lv [1, 0] rfl ?_
    exact hr121 h19 this (x2 + (1 : Int32))
set_option maxHeartbeats 4000000 in
theorem v_DR_readLine_l121 (r68 : PH → Nat → Option RH) (hr68 : ∀ (h : PH) (this : Nat), Sim Y_DR_readLine h 68 [(0, .ref this)] [] (r68 h this)) : ∀ (n : Nat) (h : PH) (this : Nat) (x2 : Int32), Sim Y_DR_readLine h 121 [(0, .ref this), (2, .int x2)] [] (itr (c_DR_readLine_l121 r68) (fun _ _ _ => none) n h this x2)
  | 0, h, this, x2 => Sim.none
  | n + 1, h, this, x2 => w_DR_readLine_l121 r68 _ hr68 (v_DR_readLine_l121 r68 hr68 n) h this x2
set_option maxHeartbeats 4000000 in
theorem w_DR_readLine_l68 (r68 : PH → Nat → Option RH) (hr68 : ∀ (h : PH) (this : Nat), Sim Y_DR_readLine h 68 [(0, .ref this)] [] (r68 h this)) (h : PH) (this : Nat) : Sim Y_DR_readLine h 68 [(0, .ref this)] [] (c_DR_readLine_l68 r68 h this) := by
  unfold c_DR_readLine_l68
  refine x_aload_nR (pc := 68) (a := this) 0 rfl rfl dX7_readLine_68 ?_
  refine x_getI (pc := 69) fi_X7_31 dX7_readLine_69 ?_
  intro v1
  refine x_iconst (pc := 72) (v := 1) (by decide) dX7_readLine_72 ?_
  refine x_icmp_ne (pc := 73) 173 (by decide) dX7_readLine_73 ?_ ?_
  · exact x_vret (pc := 173) dX7_readLine_173
  · refine x_aload_nR (pc := 76) (a := this) 0 rfl rfl dX7_readLine_76 ?_
    refine x_aload_nR (pc := 77) (a := this) 0 rfl rfl dX7_readLine_77 ?_
    refine x_bipush (pc := 78) (v := 97) (by decide) dX7_readLine_78 ?_
    refine x_bipush (pc := 80) (v := 104) (by decide) dX7_readLine_80 ?_
    refine x_bipush (pc := 82) (v := 97) (by decide) dX7_readLine_82 ?_
    refine x_callV (pc := 84) (As := [.int (97 : Int32), .int (104 : Int32), .int (97 : Int32)]) (rest := [.ref this]) (lev' := 2) si_X7_77 (m_DR_isOf h this (97 : Int32) (104 : Int32) (97 : Int32)) (fun z e => grd1 e) rfl rfl (by decide) (cat4 (Nat.le_of_ble_eq_true rfl)) dX7_readLine_84 (kI (fun v3 h2 => ?_)) xNo
    refine x_iconst (pc := 87) (v := 2) (by decide) dX7_readLine_87 ?_
    refine x_callU (pc := 88) (As := [.int v3, .int (2 : Int32)]) (rest := []) (lev' := 2) si_X7_43 (MM.grd (m_D_must h2 this v3 (2 : Int32))) (fun z e => grdN e) rfl rfl (by decide) (cat4 (Nat.le_of_ble_eq_true rfl)) dX7_readLine_88 (kV (fun h4 => ?_)) (xOut (by decide))
    refine x_aload_nR (pc := 91) (a := this) 0 rfl rfl dX7_readLine_91 ?_
    refine x_aload_nR (pc := 92) (a := this) 0 rfl rfl dX7_readLine_92 ?_
    refine x_getQ (pc := 93) fi_X7_19 dX7_readLine_93 ?_
    intro v5
    refine x_nn (fun a6 e7 => ?_)
    subst e7
    refine x_callV (pc := 96) (As := []) (rest := [.ref this]) (lev' := 2) si_X7_81 (m_S_typed h4 a6) (fun z e => grd1 e) rfl rfl (by decide) (cat4 (Nat.le_of_ble_eq_true rfl)) dX7_readLine_96 (kI (fun v9 h8 => ?_)) xNo
    refine x_aload_nR (pc := 99) (a := this) 0 rfl rfl dX7_readLine_99 ?_
    refine x_getI (pc := 100) fi_X7_85 dX7_readLine_100 ?_
    intro v10
    refine x_iadd (pc := 103) dX7_readLine_103 ?_
    refine x_sipush (pc := 104) (v := 200) (by decide) dX7_readLine_104 ?_
    refine x_icmp_gt (pc := 107) 114 (by decide) dX7_readLine_107 ?_ ?_
    · refine x_iconst (pc := 114) (v := 0) (by decide) dX7_readLine_114 ?_
      refine x_iconst (pc := 115) (v := 4) (by decide) dX7_readLine_115 ?_
      refine x_callU (pc := 116) (As := [.int (0 : Int32), .int (4 : Int32)]) (rest := []) (lev' := 2) si_X7_43 (MM.grd (m_D_must h8 this (0 : Int32) (4 : Int32))) (fun z e => grdN e) rfl rfl (by decide) (cat4 (Nat.le_of_ble_eq_true rfl)) dX7_readLine_116 (kV (fun h11 => ?_)) (xOut (by decide))
      refine x_iconst (pc := 119) (v := 0) (by decide) dX7_readLine_119 ?_
      refine x_istore_n (pc := 120) (lv' := [(2, .int (0 : Int32)), (0, .ref this)]) rfl (by decide) rfl dX7_readLine_120 ?_
      refine Sim.lv [1, 0] rfl ?_
      exact v_DR_readLine_l121 r68 hr68 FU h11 this (0 : Int32)
    · refine x_iconst (pc := 110) (v := 1) (by decide) dX7_readLine_110 ?_
      refine x_goto (pc := 111) 115 (by decide) dX7_readLine_111 ?_
      refine x_iconst (pc := 115) (v := 4) (by decide) dX7_readLine_115 ?_
      refine x_callU (pc := 116) (As := [.int (1 : Int32), .int (4 : Int32)]) (rest := []) (lev' := 2) si_X7_43 (MM.grd (m_D_must h8 this (1 : Int32) (4 : Int32))) (fun z e => grdN e) rfl rfl (by decide) (cat4 (Nat.le_of_ble_eq_true rfl)) dX7_readLine_116 (kV (fun h12 => ?_)) (xOut (by decide))
      refine x_iconst (pc := 119) (v := 0) (by decide) dX7_readLine_119 ?_
      refine x_istore_n (pc := 120) (lv' := [(2, .int (0 : Int32)), (0, .ref this)]) rfl (by decide) rfl dX7_readLine_120 ?_
      refine Sim.lv [1, 0] rfl ?_
      exact v_DR_readLine_l121 r68 hr68 FU h12 this (0 : Int32)
set_option maxHeartbeats 4000000 in
theorem v_DR_readLine_l68 : ∀ (n : Nat) (h : PH) (this : Nat), Sim Y_DR_readLine h 68 [(0, .ref this)] [] (itr (c_DR_readLine_l68) (fun _ _ => none) n h this)
  | 0, h, this => Sim.none
  | n + 1, h, this => w_DR_readLine_l68 _ (v_DR_readLine_l68 n) h this
set_option maxHeartbeats 4000000 in
theorem m_DR_readLine (h : PH) (this : Nat) (x1 : Int32) : MM yX7_readLine (ws_ yX7_readLine cX7_readLine 3 none) 19 [.ref this, .int x1] h (c_DR_readLine h this x1) := by
  refine MM.of (by decide) rfl (by decide) (Nat.le_of_ble_eq_true rfl) (own := RX7) (cc := cX7_readLine) (maxL := 3) (lev := 19) (rt := none) (ini := false) ?_
  show Sim Y_DR_readLine h 0 [(0, .ref this), (1, .int x1)] [] _
  unfold c_DR_readLine
  refine x_grd ?_
  refine x_iload_n (pc := 0) 1 rfl rfl dX7_readLine_0 ?_
  refine x_lk0 (pc := 1) dX7_readLine_1 ?_
  refine x_lk (pc := 1) (v := 0) 28 dX7_readLine_1 (by decide) rfl (by decide) ?_ ?_
  · refine x_aload_nR (pc := 28) (a := this) 0 rfl rfl dX7_readLine_28 ?_
    refine x_getQ (pc := 29) fi_X7_15 dX7_readLine_29 ?_
    intro v1
    refine x_aload_nR (pc := 32) (a := this) 0 rfl rfl dX7_readLine_32 ?_
    refine x_iconst (pc := 33) (v := 4) (by decide) dX7_readLine_33 ?_
    refine x_bipush (pc := 34) (v := 32) (by decide) dX7_readLine_34 ?_
    refine x_callU (pc := 36) (As := [.int (4 : Int32), .int (32 : Int32)]) (rest := [va_rf v1]) (lev' := 5) si_X7_62 (MM.grd (m_D_number h this (4 : Int32) (32 : Int32))) (fun z e => grdN e) rfl rfl (by decide) (cat4 (Nat.le_of_ble_eq_true rfl)) dX7_readLine_36 (kI (fun v3 h2 => ?_)) (xOut (by decide))
    refine x_nn (fun a4 e5 => ?_)
    subst e5
    refine x_pI (pc := 39) fi_X7_66 (fun z => absurd z (by decide)) dX7_readLine_39 ?_
    intro h6
    refine x_aload_nR (pc := 42) (a := this) 0 rfl rfl dX7_readLine_42 ?_
    refine x_getQ (pc := 43) fi_X7_19 dX7_readLine_43 ?_
    intro v7
    refine x_aload_nR (pc := 46) (a := this) 0 rfl rfl dX7_readLine_46 ?_
    refine x_getQ (pc := 47) fi_X7_15 dX7_readLine_47 ?_
    intro v8
    refine x_nn (fun a9 e10 => ?_)
    subst e10
    refine x_nn (fun a11 e12 => ?_)
    subst e12
    refine x_callV (pc := 50) (As := [.ref a9]) (rest := []) (lev' := 3) si_X7_69 (m_S_begin h6 a11 a9) (fun z e => grd1 e) rfl rfl (by decide) (cat4 (Nat.le_of_ble_eq_true rfl)) dX7_readLine_50 (kV (fun h13 => ?_)) xNo
    refine x_goto (pc := 53) 173 (by decide) dX7_readLine_53 ?_
    exact x_vret (pc := 173) dX7_readLine_173
  refine x_lk (pc := 1) (v := 1) 56 dX7_readLine_1 (by decide) rfl (by decide) ?_ ?_
  · refine x_aload_nR (pc := 56) (a := this) 0 rfl rfl dX7_readLine_56 ?_
    refine x_callV (pc := 57) (As := []) (rest := []) (lev' := 18) si_X7_74 (m_DR_readRow h this) (fun z e => grd1 e) rfl rfl (by decide) (cat4 (Nat.le_of_ble_eq_true rfl)) dX7_readLine_57 (kV (fun h14 => ?_)) (xOut (by decide))
    refine x_goto (pc := 60) 173 (by decide) dX7_readLine_60 ?_
    exact x_vret (pc := 173) dX7_readLine_173
  refine x_lkD (pc := 1) 63 dX7_readLine_1 (by decide) (by decide) ?_
  refine x_aload_nR (pc := 63) (a := this) 0 rfl rfl dX7_readLine_63 ?_
  refine x_iconst (pc := 64) (v := 1) (by decide) dX7_readLine_64 ?_
  refine x_pZ (pc := 65) fi_X7_23 (fun z => absurd z (by decide)) dX7_readLine_65 ?_
  intro h15
  refine Sim.lv [0] rfl ?_
  exact v_DR_readLine_l68 FU h15 this
theorem si_X7_55 : SiV RX7 55 5 yX7_readLine cX7_readLine 3 none 1 := ⟨_, _, _, ci_5.1, by decide, lw_V q701 q703 qs4 q118 q704, ⟨rfl, by decide, by decide, by decide +kernel⟩, by decide⟩
theorem si_X7_59 : SiU RX7 59 [5] ⟨RX7, "sign", "(I)V"⟩ yX6_sign cX6_sign 2 none 1 := (siU_c (c := 5) (owner := "BitRopes$Reade\x72") rfl (by decide) ⟨q875, q876, (Or.inl q878), q879, q117, q880⟩ (Or.inl rfl) ⟨by decide, by decide, by decide +kernel⟩ (siU_n (by decide)))
theorem fi_X7_35 : FI RX7 35 [0] 4 (.array (.object "java/lang/String")) true false := (fi_c ci_0 (by decide) rfl rfl (Or.inr ⟨_, q503⟩) (Or.inl rfl) (fun _ h => absurd h (by decide)) fi_n)
theorem si_X7_39 : SiU RX7 39 [5] ⟨RX7, "find", "([Ljava/lang/String;)I"⟩ yX6_find cX6_find 3 (some .int) 1 := (siU_c (c := 5) (owner := "BitRopes$Reade\x72") rfl (by decide) ⟨q623, q624, (Or.inl q626), q627, q117, q628⟩ (Or.inl rfl) ⟨by decide, by decide, by decide +kernel⟩ (siU_n (by decide)))
theorem si_X7_27 : SiU RX7 27 [5] ⟨RX7, "begin", "()V"⟩ yX6_begin cX6_begin 1 none 0 := (siU_c (c := 5) (owner := "BitRopes$Reade\x72") rfl (by decide) ⟨q591, q592, (Or.inl q594), q595, q117, q596⟩ (Or.inl rfl) ⟨by decide, by decide, by decide +kernel⟩ (siU_n (by decide)))
abbrev Y_DR_read : Yx := (RX7, cX7_read, 5, 20, (some .int), [], false)
def c_DR_read_j122 (r21 : PH → Nat → Int32 → Option RH) (h : PH) (this : Nat) (x3 : Int32) (x4 : Int32) (s0 : Int32) (s1 : Nat) : Option RH :=
  hV (grd h s1 [5] (c_D_must h s1 s0 (4 : Int32))) rX fun h1 =>
  hV (grd h1 this [5] (c_D_next h1 this)) noX fun h2 =>
  hV (c_DR_readLine h2 this x4) rX fun h3 =>
  hV (grd h3 this [5] (c_D_sign h3 this (59 : Int32))) rX fun h4 =>
  r21 h4 this (x3 + (1 : Int32))
def c_DR_read_j117 (r21 : PH → Nat → Int32 → Option RH) (h : PH) (this : Nat) (x3 : Int32) (x4 : Int32) (s0 : Nat) : Option RH :=
  c_DR_read_j122 r21 h this x3 x4 (1 : Int32) s0
def c_DR_read_j95 (r21 : PH → Nat → Int32 → Option RH) (h : PH) (this : Nat) (x3 : Int32) (x4 : Int32) (s0 : Int32) (s1 : Nat) : Option RH :=
  hV (grd h s1 [5] (c_D_must h s1 s0 (3 : Int32))) rX fun h1 =>
  if x4 = (1 : Int32) then
    gQ h1 this [5] 8 fun v2 =>
    nn v2 fun a3 =>
    gI h1 a3 [2] 1 fun v5 =>
    if (4 : Int32) ≤ v5 then
      c_DR_read_j122 r21 h1 this x3 x4 (0 : Int32) this
    else
      c_DR_read_j117 r21 h1 this x3 x4 this
  else
    c_DR_read_j117 r21 h1 this x3 x4 this
def c_DR_read_j90 (r21 : PH → Nat → Int32 → Option RH) (h : PH) (this : Nat) (x3 : Int32) (x4 : Int32) (s0 : Nat) : Option RH :=
  c_DR_read_j95 r21 h this x3 x4 (1 : Int32) s0
def c_DR_read_j72 (r21 : PH → Nat → Int32 → Option RH) (h : PH) (this : Nat) (x3 : Int32) (x4 : Int32) (s0 : Int32) (s1 : Nat) : Option RH :=
  hV (grd h s1 [5] (c_D_must h s1 s0 (3 : Int32))) rX fun h1 =>
  if x4 = (2 : Int32) then
    gI h1 this [5] 10 fun v2 =>
    if v2 = 0 then
      c_DR_read_j90 r21 h1 this x3 x4 this
    else
      c_DR_read_j95 r21 h1 this x3 x4 (0 : Int32) this
  else
    c_DR_read_j90 r21 h1 this x3 x4 this
def c_DR_read_j67 (r21 : PH → Nat → Int32 → Option RH) (h : PH) (this : Nat) (x3 : Int32) (x4 : Int32) (s0 : Nat) : Option RH :=
  c_DR_read_j72 r21 h this x3 x4 (1 : Int32) s0
def c_DR_read_j53 (r21 : PH → Nat → Int32 → Option RH) (h : PH) (this : Nat) (x3 : Int32) (x4 : Int32) (s0 : Int32) (s1 : Nat) : Option RH :=
  hV (grd h s1 [5] (c_D_must h s1 s0 (1 : Int32))) rX fun h1 =>
  if x4 = 0 then
    if x3 = 0 then
      c_DR_read_j67 r21 h1 this x3 x4 this
    else
      c_DR_read_j72 r21 h1 this x3 x4 (0 : Int32) this
  else
    c_DR_read_j67 r21 h1 this x3 x4 this
def c_DR_read_l21 (r21 : PH → Nat → Int32 → Option RH) (h : PH) (this : Nat) (x3 : Int32) : Option RH :=
  gI h this [5] 3 fun v1 =>
  if v1 = 0 then
    rI x3 h
  else
    gQ h this [5] 11 fun v2 =>
    nn v2 fun a3 =>
    gQ h a3 [0] 4 fun v5 =>
    nn v5 fun a6 =>
    hI (grd h this [5] (c_D_find h this a6)) noX fun v9 h8 =>
    if v9 = (-1 : Int32) then
      c_DR_read_j53 r21 h8 this x3 v9 (0 : Int32) this
    else
      c_DR_read_j53 r21 h8 this x3 v9 (1 : Int32) this
def c_DR_read (h : PH) (this : Nat) (x1 : Nat) (x2 : Nat) : Option RH :=
  grd h this [5] (
  pQ h this [5] 8 (some x1) fun h1 =>
  pQ h1 this [5] 9 (some x2) fun h2 =>
  pZ h2 this [5] 10 (0 : Int32) fun h3 =>
  hV (grd h3 this [5] (c_D_begin h3 this)) noX fun h4 =>
  itr (c_DR_read_l21) (fun _ _ _ => none) FU h4 this (0 : Int32))
set_option maxHeartbeats 4000000 in
theorem w_DR_read_j122 (r21 : PH → Nat → Int32 → Option RH) (hr21 : ∀ (h : PH) (this : Nat) (x3 : Int32), Sim Y_DR_read h 21 [(0, .ref this), (3, .int x3)] [] (r21 h this x3)) (h : PH) (this : Nat) (x3 : Int32) (x4 : Int32) (s0 : Int32) (s1 : Nat) : Sim Y_DR_read h 122 [(0, .ref this), (3, .int x3), (4, .int x4)] [.int s0, .ref s1] (c_DR_read_j122 r21 h this x3 x4 s0 s1) := by
  unfold c_DR_read_j122
  refine x_iconst (pc := 122) (v := 4) (by decide) dX7_read_122 ?_
  refine x_callU (pc := 123) (As := [.int s0, .int (4 : Int32)]) (rest := []) (lev' := 2) si_X7_43 (MM.grd (m_D_must h s1 s0 (4 : Int32))) (fun z e => grdN e) rfl rfl (by decide) (cat4 (Nat.le_of_ble_eq_true rfl)) dX7_read_123 (kV (fun h1 => ?_)) (xOut (by decide))
  refine x_aload_nR (pc := 126) (a := this) 0 rfl rfl dX7_read_126 ?_
  refine x_callU (pc := 127) (As := []) (rest := []) (lev' := 4) si_X7_52 (MM.grd (m_D_next h1 this)) (fun z e => grdN e) rfl rfl (by decide) (cat4 (Nat.le_of_ble_eq_true rfl)) dX7_read_127 (kV (fun h2 => ?_)) xNo
  refine x_aload_nR (pc := 130) (a := this) 0 rfl rfl dX7_read_130 ?_
  refine x_iload (pc := 131) 2 rfl dX7_read_131 ?_
  refine x_callV (pc := 133) (As := [.int x4]) (rest := []) (lev' := 19) si_X7_55 (m_DR_readLine h2 this x4) (fun z e => grd1 e) rfl rfl (by decide) (cat4 (Nat.le_of_ble_eq_true rfl)) dX7_read_133 (kV (fun h3 => ?_)) (xOut (by decide))
  refine x_aload_nR (pc := 136) (a := this) 0 rfl rfl dX7_read_136 ?_
  refine x_bipush (pc := 137) (v := 59) (by decide) dX7_read_137 ?_
  refine x_callU (pc := 139) (As := [.int (59 : Int32)]) (rest := []) (lev' := 5) si_X7_59 (MM.grd (m_D_sign h3 this (59 : Int32))) (fun z e => grdN e) rfl rfl (by decide) (cat4 (Nat.le_of_ble_eq_true rfl)) dX7_read_139 (kV (fun h4 => ?_)) (xOut (by decide))
  refine x_iinc (pc := 142) (v := (1 : Int32)) (lv' := [(3, .int (x3 + (1 : Int32))), (0, .ref this), (4, .int x4)]) 1 rfl (by decide) (by decide) rfl dX7_read_142 ?_
  refine x_goto (pc := 145) 21 (by decide) dX7_read_145 ?_
  refine Sim.lv [1, 0] rfl ?_
  exact hr21 h4 this (x3 + (1 : Int32))
set_option maxHeartbeats 4000000 in
theorem w_DR_read_j117 (r21 : PH → Nat → Int32 → Option RH) (hr21 : ∀ (h : PH) (this : Nat) (x3 : Int32), Sim Y_DR_read h 21 [(0, .ref this), (3, .int x3)] [] (r21 h this x3)) (h : PH) (this : Nat) (x3 : Int32) (x4 : Int32) (s0 : Nat) : Sim Y_DR_read h 117 [(0, .ref this), (3, .int x3), (4, .int x4)] [.ref s0] (c_DR_read_j117 r21 h this x3 x4 s0) := by
  unfold c_DR_read_j117
  refine x_iconst (pc := 117) (v := 1) (by decide) dX7_read_117 ?_
  refine x_goto (pc := 118) 122 (by decide) dX7_read_118 ?_
  exact w_DR_read_j122 r21 hr21 h this x3 x4 (1 : Int32) s0
set_option maxHeartbeats 4000000 in
theorem w_DR_read_j95 (r21 : PH → Nat → Int32 → Option RH) (hr21 : ∀ (h : PH) (this : Nat) (x3 : Int32), Sim Y_DR_read h 21 [(0, .ref this), (3, .int x3)] [] (r21 h this x3)) (h : PH) (this : Nat) (x3 : Int32) (x4 : Int32) (s0 : Int32) (s1 : Nat) : Sim Y_DR_read h 95 [(0, .ref this), (3, .int x3), (4, .int x4)] [.int s0, .ref s1] (c_DR_read_j95 r21 h this x3 x4 s0 s1) := by
  unfold c_DR_read_j95
  refine x_iconst (pc := 95) (v := 3) (by decide) dX7_read_95 ?_
  refine x_callU (pc := 96) (As := [.int s0, .int (3 : Int32)]) (rest := []) (lev' := 2) si_X7_43 (MM.grd (m_D_must h s1 s0 (3 : Int32))) (fun z e => grdN e) rfl rfl (by decide) (cat4 (Nat.le_of_ble_eq_true rfl)) dX7_read_96 (kV (fun h1 => ?_)) (xOut (by decide))
  refine x_aload_nR (pc := 99) (a := this) 0 rfl rfl dX7_read_99 ?_
  refine x_iload (pc := 100) 2 rfl dX7_read_100 ?_
  refine x_iconst (pc := 102) (v := 1) (by decide) dX7_read_102 ?_
  refine x_icmp_ne (pc := 103) 117 (by decide) dX7_read_103 ?_ ?_
  · exact w_DR_read_j117 r21 hr21 h1 this x3 x4 this
  · refine x_aload_nR (pc := 106) (a := this) 0 rfl rfl dX7_read_106 ?_
    refine x_getQ (pc := 107) fi_X7_15 dX7_read_107 ?_
    intro v2
    refine x_nn (fun a3 e4 => ?_)
    subst e4
    refine x_getI (pc := 110) fi_X7_47 dX7_read_110 ?_
    intro v5
    refine x_iconst (pc := 113) (v := 4) (by decide) dX7_read_113 ?_
    refine x_icmp_ge (pc := 114) 121 (by decide) dX7_read_114 ?_ ?_
    · refine x_iconst (pc := 121) (v := 0) (by decide) dX7_read_121 ?_
      exact w_DR_read_j122 r21 hr21 h1 this x3 x4 (0 : Int32) this
    · exact w_DR_read_j117 r21 hr21 h1 this x3 x4 this
set_option maxHeartbeats 4000000 in
theorem w_DR_read_j90 (r21 : PH → Nat → Int32 → Option RH) (hr21 : ∀ (h : PH) (this : Nat) (x3 : Int32), Sim Y_DR_read h 21 [(0, .ref this), (3, .int x3)] [] (r21 h this x3)) (h : PH) (this : Nat) (x3 : Int32) (x4 : Int32) (s0 : Nat) : Sim Y_DR_read h 90 [(0, .ref this), (3, .int x3), (4, .int x4)] [.ref s0] (c_DR_read_j90 r21 h this x3 x4 s0) := by
  unfold c_DR_read_j90
  refine x_iconst (pc := 90) (v := 1) (by decide) dX7_read_90 ?_
  refine x_goto (pc := 91) 95 (by decide) dX7_read_91 ?_
  exact w_DR_read_j95 r21 hr21 h this x3 x4 (1 : Int32) s0
set_option maxHeartbeats 4000000 in
theorem w_DR_read_j72 (r21 : PH → Nat → Int32 → Option RH) (hr21 : ∀ (h : PH) (this : Nat) (x3 : Int32), Sim Y_DR_read h 21 [(0, .ref this), (3, .int x3)] [] (r21 h this x3)) (h : PH) (this : Nat) (x3 : Int32) (x4 : Int32) (s0 : Int32) (s1 : Nat) : Sim Y_DR_read h 72 [(0, .ref this), (3, .int x3), (4, .int x4)] [.int s0, .ref s1] (c_DR_read_j72 r21 h this x3 x4 s0 s1) := by
  unfold c_DR_read_j72
  refine x_iconst (pc := 72) (v := 3) (by decide) dX7_read_72 ?_
  refine x_callU (pc := 73) (As := [.int s0, .int (3 : Int32)]) (rest := []) (lev' := 2) si_X7_43 (MM.grd (m_D_must h s1 s0 (3 : Int32))) (fun z e => grdN e) rfl rfl (by decide) (cat4 (Nat.le_of_ble_eq_true rfl)) dX7_read_73 (kV (fun h1 => ?_)) (xOut (by decide))
  refine x_aload_nR (pc := 76) (a := this) 0 rfl rfl dX7_read_76 ?_
  refine x_iload (pc := 77) 2 rfl dX7_read_77 ?_
  refine x_iconst (pc := 79) (v := 2) (by decide) dX7_read_79 ?_
  refine x_icmp_ne (pc := 80) 90 (by decide) dX7_read_80 ?_ ?_
  · exact w_DR_read_j90 r21 hr21 h1 this x3 x4 this
  · refine x_aload_nR (pc := 83) (a := this) 0 rfl rfl dX7_read_83 ?_
    refine x_getI (pc := 84) fi_X7_23 dX7_read_84 ?_
    intro v2
    refine x_if_ne (pc := 87) 94 (by decide) dX7_read_87 ?_ ?_
    · refine x_iconst (pc := 94) (v := 0) (by decide) dX7_read_94 ?_
      exact w_DR_read_j95 r21 hr21 h1 this x3 x4 (0 : Int32) this
    · exact w_DR_read_j90 r21 hr21 h1 this x3 x4 this
set_option maxHeartbeats 4000000 in
theorem w_DR_read_j67 (r21 : PH → Nat → Int32 → Option RH) (hr21 : ∀ (h : PH) (this : Nat) (x3 : Int32), Sim Y_DR_read h 21 [(0, .ref this), (3, .int x3)] [] (r21 h this x3)) (h : PH) (this : Nat) (x3 : Int32) (x4 : Int32) (s0 : Nat) : Sim Y_DR_read h 67 [(0, .ref this), (3, .int x3), (4, .int x4)] [.ref s0] (c_DR_read_j67 r21 h this x3 x4 s0) := by
  unfold c_DR_read_j67
  refine x_iconst (pc := 67) (v := 1) (by decide) dX7_read_67 ?_
  refine x_goto (pc := 68) 72 (by decide) dX7_read_68 ?_
  exact w_DR_read_j72 r21 hr21 h this x3 x4 (1 : Int32) s0
set_option maxHeartbeats 4000000 in
theorem w_DR_read_j53 (r21 : PH → Nat → Int32 → Option RH) (hr21 : ∀ (h : PH) (this : Nat) (x3 : Int32), Sim Y_DR_read h 21 [(0, .ref this), (3, .int x3)] [] (r21 h this x3)) (h : PH) (this : Nat) (x3 : Int32) (x4 : Int32) (s0 : Int32) (s1 : Nat) : Sim Y_DR_read h 53 [(0, .ref this), (3, .int x3), (4, .int x4)] [.int s0, .ref s1] (c_DR_read_j53 r21 h this x3 x4 s0 s1) := by
  unfold c_DR_read_j53
  refine x_iconst (pc := 53) (v := 1) (by decide) dX7_read_53 ?_
  refine x_callU (pc := 54) (As := [.int s0, .int (1 : Int32)]) (rest := []) (lev' := 2) si_X7_43 (MM.grd (m_D_must h s1 s0 (1 : Int32))) (fun z e => grdN e) rfl rfl (by decide) (cat4 (Nat.le_of_ble_eq_true rfl)) dX7_read_54 (kV (fun h1 => ?_)) (xOut (by decide))
  refine x_aload_nR (pc := 57) (a := this) 0 rfl rfl dX7_read_57 ?_
  refine x_iload (pc := 58) 2 rfl dX7_read_58 ?_
  refine x_if_ne (pc := 60) 67 (by decide) dX7_read_60 ?_ ?_
  · exact w_DR_read_j67 r21 hr21 h1 this x3 x4 this
  · refine x_iload_n (pc := 63) 1 rfl rfl dX7_read_63 ?_
    refine x_if_ne (pc := 64) 71 (by decide) dX7_read_64 ?_ ?_
    · refine x_iconst (pc := 71) (v := 0) (by decide) dX7_read_71 ?_
      exact w_DR_read_j72 r21 hr21 h1 this x3 x4 (0 : Int32) this
    · exact w_DR_read_j67 r21 hr21 h1 this x3 x4 this
set_option maxHeartbeats 4000000 in
theorem w_DR_read_l21 (r21 : PH → Nat → Int32 → Option RH) (hr21 : ∀ (h : PH) (this : Nat) (x3 : Int32), Sim Y_DR_read h 21 [(0, .ref this), (3, .int x3)] [] (r21 h this x3)) (h : PH) (this : Nat) (x3 : Int32) : Sim Y_DR_read h 21 [(0, .ref this), (3, .int x3)] [] (c_DR_read_l21 r21 h this x3) := by
  unfold c_DR_read_l21
  refine x_aload_nR (pc := 21) (a := this) 0 rfl rfl dX7_read_21 ?_
  refine x_getI (pc := 22) fi_X7_31 dX7_read_22 ?_
  intro v1
  refine x_if_eq (pc := 25) 148 (by decide) dX7_read_25 ?_ ?_
  · refine x_iload_n (pc := 148) 1 rfl rfl dX7_read_148 ?_
    exact x_iret (pc := 149) dX7_read_149
  · refine x_aload_nR (pc := 28) (a := this) 0 rfl rfl dX7_read_28 ?_
    refine x_aload_nR (pc := 29) (a := this) 0 rfl rfl dX7_read_29 ?_
    refine x_getQ (pc := 30) fi_X7_3 dX7_read_30 ?_
    intro v2
    refine x_nn (fun a3 e4 => ?_)
    subst e4
    refine x_getQ (pc := 33) fi_X7_35 dX7_read_33 ?_
    intro v5
    refine x_nn (fun a6 e7 => ?_)
    subst e7
    refine x_callU (pc := 36) (As := [.ref a6]) (rest := []) (lev' := 10) si_X7_39 (MM.grd (m_D_find h this a6)) (fun z e => grdN e) rfl rfl (by decide) (cat4 (Nat.le_of_ble_eq_true rfl)) dX7_read_36 (kI (fun v9 h8 => ?_)) xNo
    refine x_istore (pc := 39) (lv' := [(4, .int v9), (0, .ref this), (3, .int x3)]) (by decide) rfl dX7_read_39 ?_
    refine x_aload_nR (pc := 41) (a := this) 1 rfl rfl dX7_read_41 ?_
    refine x_iload (pc := 42) 0 rfl dX7_read_42 ?_
    refine x_iconst (pc := 44) (v := (-1)) (by decide) dX7_read_44 ?_
    refine x_icmp_eq (pc := 45) 52 (by decide) dX7_read_45 ?_ ?_
    · refine x_iconst (pc := 52) (v := 0) (by decide) dX7_read_52 ?_
      refine Sim.lv [1, 2, 0] rfl ?_
      exact w_DR_read_j53 r21 hr21 h8 this x3 v9 (0 : Int32) this
    · refine x_iconst (pc := 48) (v := 1) (by decide) dX7_read_48 ?_
      refine x_goto (pc := 49) 53 (by decide) dX7_read_49 ?_
      refine Sim.lv [1, 2, 0] rfl ?_
      exact w_DR_read_j53 r21 hr21 h8 this x3 v9 (1 : Int32) this
set_option maxHeartbeats 4000000 in
theorem v_DR_read_l21 : ∀ (n : Nat) (h : PH) (this : Nat) (x3 : Int32), Sim Y_DR_read h 21 [(0, .ref this), (3, .int x3)] [] (itr (c_DR_read_l21) (fun _ _ _ => none) n h this x3)
  | 0, h, this, x3 => Sim.none
  | n + 1, h, this, x3 => w_DR_read_l21 _ (v_DR_read_l21 n) h this x3
set_option maxHeartbeats 4000000 in
theorem m_DR_read (h : PH) (this : Nat) (x1 : Nat) (x2 : Nat) : MM yX7_read (ws_ yX7_read cX7_read 5 (some .int)) 20 [.ref this, .ref x1, .ref x2] h (c_DR_read h this x1 x2) := by
  refine MM.of (by decide) rfl (by decide) (Nat.le_of_ble_eq_true rfl) (own := RX7) (cc := cX7_read) (maxL := 5) (lev := 20) (rt := (some .int)) (ini := false) ?_
  show Sim Y_DR_read h 0 [(0, .ref this), (1, .ref x1), (2, .ref x2)] [] _
  unfold c_DR_read
  refine x_grd ?_
  refine x_aload_nR (pc := 0) (a := this) 0 rfl rfl dX7_read_0 ?_
  refine x_aload_nR (pc := 1) (a := x1) 1 rfl rfl dX7_read_1 ?_
  refine x_pQ (pc := 2) (v := (some x1)) fi_X7_15 (fun z => absurd z (by decide)) dX7_read_2 ?_
  intro h1
  refine x_aload_nR (pc := 5) (a := this) 0 rfl rfl dX7_read_5 ?_
  refine x_aload_nR (pc := 6) (a := x2) 2 rfl rfl dX7_read_6 ?_
  refine x_pQ (pc := 7) (v := (some x2)) fi_X7_19 (fun z => absurd z (by decide)) dX7_read_7 ?_
  intro h2
  refine x_aload_nR (pc := 10) (a := this) 0 rfl rfl dX7_read_10 ?_
  refine x_iconst (pc := 11) (v := 0) (by decide) dX7_read_11 ?_
  refine x_pZ (pc := 12) fi_X7_23 (fun z => absurd z (by decide)) dX7_read_12 ?_
  intro h3
  refine x_iconst (pc := 15) (v := 0) (by decide) dX7_read_15 ?_
  refine x_istore_n (pc := 16) (lv' := [(3, .int (0 : Int32)), (0, .ref this), (1, .ref x1), (2, .ref x2)]) rfl (by decide) rfl dX7_read_16 ?_
  refine x_aload_nR (pc := 17) (a := this) 1 rfl rfl dX7_read_17 ?_
  refine x_callU (pc := 18) (As := []) (rest := []) (lev' := 5) si_X7_27 (MM.grd (m_D_begin h3 this)) (fun z e => grdN e) rfl rfl (by decide) (cat4 (Nat.le_of_ble_eq_true rfl)) dX7_read_18 (kV (fun h4 => ?_)) xNo
  refine Sim.lv [1, 0] rfl ?_
  exact v_DR_read_l21 FU h4 this (0 : Int32)
theorem fi_X8_3 : FI RX8 3 [6] 11 (.object "BitRopes") true true := (fi_c ci_6 (by decide) rfl rfl (Or.inl q420) (Or.inl rfl) (fun _ _ => rfl) fi_n)
theorem si_X8_9 : SiI RX8 9 yX6_init cX6_init 3 2 := ⟨q345, q117, q403, q344, rfl, ⟨by decide, by decide, by decide +kernel⟩, by decide⟩
theorem fi_X8_33 : FI RX8 33 [6] 8 (.array (.object "java/lang/String")) true true := (fi_c ci_6 (by decide) rfl rfl (Or.inl q415) (Or.inl rfl) (fun _ _ => rfl) fi_n)
theorem fi_X8_39 : FI RX8 39 [6] 9 (.array (.object "BitRopes$Deed")) true true := (fi_c ci_6 (by decide) rfl rfl (Or.inl q416) (Or.inl rfl) (fun _ _ => rfl) fi_n)
abbrev Y_DB_init : Yx := (RX8, cX8_init, 2, 2, none, [], true)
def c_DB_init (h : PH) (this : Nat) (x1 : Nat) : Option RH :=
  grd h this [6] (
  pQ h this [6] 11 (some x1) fun h1 =>
  hV (c_D_init h1 this x1 (400 : Int32)) noX fun h2 =>
  newA h2 12 (8 : Int32) (.inr (.inr (.inr (.inr (fun _ => none))))) fun a3 h4 =>
  stQ h4 a3 (0 : Int32) (some (h4.2.2 3)) fun h5 =>
  stQ h5 a3 (1 : Int32) (some (h5.2.2 4)) fun h6 =>
  stQ h6 a3 (2 : Int32) (some (h6.2.2 5)) fun h7 =>
  stQ h7 a3 (3 : Int32) (some (h7.2.2 6)) fun h8 =>
  stQ h8 a3 (4 : Int32) (some (h8.2.2 7)) fun h9 =>
  stQ h9 a3 (5 : Int32) (some (h9.2.2 8)) fun h10 =>
  stQ h10 a3 (6 : Int32) (some (h10.2.2 9)) fun h11 =>
  stQ h11 a3 (7 : Int32) (some (h11.2.2 10)) fun h12 =>
  pQ h12 this [6] 8 (some a3) fun h13 =>
  newA h13 10 (40 : Int32) (.inr (.inr (.inr (.inr (fun _ => none))))) fun a14 h15 =>
  pQ h15 this [6] 9 (some a14) fun h16 =>
  rV h16)
set_option maxHeartbeats 4000000 in
theorem m_DB_init (h : PH) (this : Nat) (x1 : Nat) : MM yX8_init (ws_ yX8_init cX8_init 2 none) 2 [.ref this, .ref x1] h (c_DB_init h this x1) := by
  refine MM.of (by decide) rfl (by decide) (Nat.le_of_ble_eq_true rfl) (own := RX8) (cc := cX8_init) (maxL := 2) (lev := 2) (rt := none) (ini := true) ?_
  show Sim Y_DB_init h 0 [(0, .ref this), (1, .ref x1)] [] _
  unfold c_DB_init
  refine x_grd ?_
  refine x_aload_nR (pc := 0) (a := this) 0 rfl rfl dX8_init_0 ?_
  refine x_aload_nR (pc := 1) (a := x1) 1 rfl rfl dX8_init_1 ?_
  refine x_pQ (pc := 2) (v := (some x1)) fi_X8_3 (fun _ => rfl) dX8_init_2 ?_
  intro h1
  refine x_aload_nR (pc := 5) (a := this) 0 rfl rfl dX8_init_5 ?_
  refine x_aload_nR (pc := 6) (a := x1) 1 rfl rfl dX8_init_6 ?_
  refine x_sipush (pc := 7) (v := 400) (by decide) dX8_init_7 ?_
  refine x_callI (pc := 10) (As := [.ref x1, .int (400 : Int32)]) (rest := []) (lev' := 1) si_X8_9 (m_D_init h1 this x1 (400 : Int32)) rfl rfl (by decide) (cat4 (Nat.le_of_ble_eq_true rfl)) dX8_init_10 (kV (fun h2 => ?_)) xNo
  refine x_aload_nR (pc := 13) (a := this) 0 rfl rfl dX8_init_13 ?_
  refine x_bipush (pc := 14) (v := 8) (by decide) dX8_init_14 ?_
  refine x_newaQ (pc := 16) (C := RJ2) (t := 12) (by decide +kernel) q404 (fun G s hk => (hk.1.2 12 _ rfl).2.choose_spec.choose_spec.2.2.2) dX8_init_16 ?_
  intro a3 h4
  refine x_dup (pc := 19) rfl dX8_init_19 ?_
  refine x_iconst (pc := 20) (v := 0) (by decide) dX8_init_20 ?_
  refine x_ldcS (pc := 21) (k := 3) (tx := "put") (by decide +kernel) dX8_init_21 ?_
  refine x_aast (pc := 23) (r := (some (h4.2.2 3))) dX8_init_23 ?_
  intro h5
  refine x_dup (pc := 24) rfl dX8_init_24 ?_
  refine x_iconst (pc := 25) (v := 1) (by decide) dX8_init_25 ?_
  refine x_ldcS (pc := 26) (k := 4) (tx := "set") (by decide +kernel) dX8_init_26 ?_
  refine x_aast (pc := 28) (r := (some (h5.2.2 4))) dX8_init_28 ?_
  intro h6
  refine x_dup (pc := 29) rfl dX8_init_29 ?_
  refine x_iconst (pc := 30) (v := 2) (by decide) dX8_init_30 ?_
  refine x_ldcS (pc := 31) (k := 5) (tx := "cut") (by decide +kernel) dX8_init_31 ?_
  refine x_aast (pc := 33) (r := (some (h6.2.2 5))) dX8_init_33 ?_
  intro h7
  refine x_dup (pc := 34) rfl dX8_init_34 ?_
  refine x_iconst (pc := 35) (v := 3) (by decide) dX8_init_35 ?_
  refine x_ldcS (pc := 36) (k := 6) (tx := "turn") (by decide +kernel) dX8_init_36 ?_
  refine x_aast (pc := 38) (r := (some (h7.2.2 6))) dX8_init_38 ?_
  intro h8
  refine x_dup (pc := 39) rfl dX8_init_39 ?_
  refine x_iconst (pc := 40) (v := 4) (by decide) dX8_init_40 ?_
  refine x_ldcS (pc := 41) (k := 7) (tx := "join") (by decide +kernel) dX8_init_41 ?_
  refine x_aast (pc := 43) (r := (some (h8.2.2 7))) dX8_init_43 ?_
  intro h9
  refine x_dup (pc := 44) rfl dX8_init_44 ?_
  refine x_iconst (pc := 45) (v := 5) (by decide) dX8_init_45 ?_
  refine x_ldcS (pc := 46) (k := 8) (tx := "split") (by decide +kernel) dX8_init_46 ?_
  refine x_aast (pc := 48) (r := (some (h9.2.2 8))) dX8_init_48 ?_
  intro h10
  refine x_dup (pc := 49) rfl dX8_init_49 ?_
  refine x_bipush (pc := 50) (v := 6) (by decide) dX8_init_50 ?_
  refine x_ldcS (pc := 52) (k := 9) (tx := "type") (by decide +kernel) dX8_init_52 ?_
  refine x_aast (pc := 54) (r := (some (h10.2.2 9))) dX8_init_54 ?_
  intro h11
  refine x_dup (pc := 55) rfl dX8_init_55 ?_
  refine x_bipush (pc := 56) (v := 7) (by decide) dX8_init_56 ?_
  refine x_ldcS (pc := 58) (k := 10) (tx := "erase") (by decide +kernel) dX8_init_58 ?_
  refine x_aast (pc := 60) (r := (some (h11.2.2 10))) dX8_init_60 ?_
  intro h12
  refine x_pQA (pc := 61) (v := (some a3)) fi_X8_33 (fun _ => rfl) dX8_init_61 ?_
  intro h13
  refine x_aload_nR (pc := 64) (a := this) 0 rfl rfl dX8_init_64 ?_
  refine x_bipush (pc := 65) (v := 40) (by decide) dX8_init_65 ?_
  refine x_newaQ (pc := 67) (C := RX15) (t := 10) (by decide +kernel) q413 (fun G s hk => (hk.1.2 10 _ rfl).2.choose_spec.choose_spec.2.2.2) dX8_init_67 ?_
  intro a14 h15
  refine x_pQA (pc := 70) (v := (some a14)) fi_X8_39 (fun _ => rfl) dX8_init_70 ?_
  intro h16
  exact x_vret (pc := 73) dX8_init_73
theorem si_X8_66 : SiU RX8 66 [6] ⟨RX8, "must", "(ZI)V"⟩ yX6_must cX6_must 3 none 2 := (siU_c (c := 6) (owner := "BitRopes$Reade\x72") rfl (by decide) ⟨q1315, q1316, (Or.inl q1317), q688, q117, q689⟩ (Or.inl rfl) ⟨by decide, by decide, by decide +kernel⟩ (siU_n (by decide)))
theorem si_X8_70 : SiU RX8 70 [6] ⟨RX8, "next", "()V"⟩ yX6_next cX6_next 2 none 0 := (siU_c (c := 6) (owner := "BitRopes$Reade\x72") rfl (by decide) ⟨q1318, q1319, (Or.inl q1320), q598, q117, q603⟩ (Or.inl rfl) ⟨by decide, by decide, by decide +kernel⟩ (siU_n (by decide)))
theorem ni_X8_37 : NI RX8 37 12 [.int 0, .int 0, .int 0, .int 0] := ⟨_, _, _, _, ci_12, q413, q1343, q138, by decide +kernel, rfl⟩
theorem si_X8_97 : SiI RX8 97 yX15_init cX15_init 5 4 := ⟨q1346, q138, q1344, q1345, rfl, ⟨by decide, by decide, by decide +kernel⟩, by decide⟩
theorem fi_X8_73 : FI RX8 73 [0] 6 (.object "BitRopes$Room") false true := (fi_c ci_0 (by decide) rfl rfl (Or.inr ⟨_, q508⟩) (Or.inl rfl) (fun h => absurd h (by decide)) fi_n)
theorem fi_X8_77 : FI RX8 77 [2] 0 (.array .long) true false := (fi_c ci_2 (by decide) rfl rfl (Or.inr ⟨_, q255⟩) (Or.inl rfl) (fun _ h => absurd h (by decide)) fi_n)
theorem fi_X8_83 : FI RX8 83 [2] 1 .int false true := (fi_c ci_2 (by decide) rfl rfl (Or.inr ⟨_, q260⟩) (Or.inl rfl) (fun h => absurd h (by decide)) fi_n)
theorem si_X8_94 : SiU RX8 94 [6] ⟨RX8, "look", "([JI)I"⟩ yX6_look cX6_look 4 (some .int) 2 := (siU_c (c := 6) (owner := "BitRopes$Reade\x72") rfl (by decide) ⟨q1339, q1340, (Or.inl q1342), q1328, q117, q1333⟩ (Or.inl rfl) ⟨by decide, by decide, by decide +kernel⟩ (siU_n (by decide)))
theorem si_X8_90 : SiU RX8 90 [6] ⟨RX8, "numbe\x72", "(II)I"⟩ yX6_number cX6_number 4 (some .int) 2 := (siU_c (c := 6) (owner := "BitRopes$Reade\x72") rfl (by decide) ⟨q1336, q1337, (Or.inl q1338), q709, q117, q710⟩ (Or.inl rfl) ⟨by decide, by decide, by decide +kernel⟩ (siU_n (by decide)))
theorem si_X8_86 : SiU RX8 86 [6] ⟨RX8, "known", "([JI)I"⟩ yX6_known cX6_known 4 (some .int) 2 := (siU_c (c := 6) (owner := "BitRopes$Reade\x72") rfl (by decide) ⟨q1321, q1322, (Or.inl q1324), q1325, q117, q1326⟩ (Or.inl rfl) ⟨by decide, by decide, by decide +kernel⟩ (siU_n (by decide)))
theorem fi_X8_43 : FI RX8 43 [6] 10 .int false true := (fi_c ci_6 (by decide) rfl rfl (Or.inl q418) (Or.inl rfl) (fun h => absurd h (by decide)) fi_n)
theorem si_X8_62 : SiU RX8 62 [6] ⟨RX8, "find", "([Ljava/lang/String;)I"⟩ yX6_find cX6_find 3 (some .int) 1 := (siU_c (c := 6) (owner := "BitRopes$Reade\x72") rfl (by decide) ⟨q1312, q1313, (Or.inl q1314), q627, q117, q628⟩ (Or.inl rfl) ⟨by decide, by decide, by decide +kernel⟩ (siU_n (by decide)))
abbrev Y_DB_readLine : Yx := (RX8, cX8_readLine, 6, 14, (some (.object "BitRopes$Deed")), [], false)
def c_DB_readLine_j147 (h : PH) (this : Nat) (x1 : Int32) (x2 : Int32) (x3 : Int32) (x4 : Int32) (s0 : Int32) (s1 : Nat) : Option RH :=
  hV (grd h s1 [6] (c_D_must h s1 s0 (3 : Int32))) rX fun h1 =>
  hV (grd h1 this [6] (c_D_next h1 this)) noX fun h2 =>
  newO h2 12 [.int 0, .int 0, .int 0, .int 0] fun a3 h4 =>
  hV (c_E_init h4 a3 x1 x2 x3 x4) noX fun h5 =>
  rQ (some a3) h5
def c_DB_readLine_j109 (h : PH) (this : Nat) (x1 : Int32) (x2 : Int32) (x3 : Int32) : Option RH :=
  gQ h this [6] 11 fun v1 =>
  nn v1 fun a2 =>
  gQ h a2 [0] 6 fun v4 =>
  nn v4 fun a5 =>
  gQ h a5 [2] 0 fun v7 =>
  gQ h this [6] 11 fun v8 =>
  nn v8 fun a9 =>
  gQ h a9 [0] 6 fun v11 =>
  nn v11 fun a12 =>
  gI h a12 [2] 1 fun v14 =>
  nn v7 fun a15 =>
  hI (grd h this [6] (c_D_look h this a15 v14)) rX fun v18 h17 =>
  if v18 = x2 then
    c_DB_readLine_j147 h17 this x1 x2 x3 v18 (0 : Int32) this
  else
    c_DB_readLine_j147 h17 this x1 x2 x3 v18 (1 : Int32) this
def c_DB_readLine_j214 (h : PH) (this : Nat) (x1 : Int32) (x2 : Int32) (x3 : Int32) (x4 : Int32) (s0 : Int32) : Option RH :=
  newO h 12 [.int 0, .int 0, .int 0, .int 0] fun a1 h2 =>
  hI (grd h2 this [6] (c_D_number h2 this x4 s0)) rX fun v4 h3 =>
  hV (c_E_init h3 a1 x1 x2 x3 v4) noX fun h5 =>
  rQ (some a1) h5
def c_DB_readLine_j189 (h : PH) (this : Nat) (x1 : Int32) (x2 : Int32) (x3 : Int32) (s0 : Int32) : Option RH :=
  if (2 : Int32) ≤ x1 then
    if x1 = (6 : Int32) then
      c_DB_readLine_j214 h this x1 x2 x3 s0 (7 : Int32)
    else
      c_DB_readLine_j214 h this x1 x2 x3 s0 (600 : Int32)
  else
    c_DB_readLine_j214 h this x1 x2 x3 s0 (1 : Int32)
def c_DB_readLine_j184 (h : PH) (this : Nat) (x1 : Int32) (x2 : Int32) (x3 : Int32) : Option RH :=
  c_DB_readLine_j189 h this x1 x2 x3 (1 : Int32)
def c_DB_readLine_j98 (h : PH) (this : Nat) (x1 : Int32) (x2 : Int32) (s0 : Int32) : Option RH :=
  if x1 = (4 : Int32) then
    c_DB_readLine_j109 h this x1 x2 s0
  else
    if x1 = (5 : Int32) then
      c_DB_readLine_j109 h this x1 x2 s0
    else
      if x1 = (2 : Int32) then
        c_DB_readLine_j184 h this x1 x2 s0
      else
        if x1 = (3 : Int32) then
          c_DB_readLine_j184 h this x1 x2 s0
        else
          if x1 = (7 : Int32) then
            c_DB_readLine_j184 h this x1 x2 s0
          else
            c_DB_readLine_j189 h this x1 x2 s0 (0 : Int32)
def c_DB_readLine_j80 (h : PH) (this : Nat) (x1 : Int32) (s0 : Int32) : Option RH :=
  if x1 = (4 : Int32) then
    c_DB_readLine_j98 h this x1 s0 (0 : Int32)
  else
    hI (grd h this [6] (c_D_number h this (0 : Int32) (999 : Int32))) rX fun v2 h1 =>
    c_DB_readLine_j98 h1 this x1 s0 v2
def c_DB_readLine_j39 (h : PH) (this : Nat) (x1 : Int32) (s0 : Int32) (s1 : Nat) : Option RH :=
  hV (grd h s1 [6] (c_D_must h s1 s0 (4 : Int32))) rX fun h1 =>
  hV (grd h1 this [6] (c_D_next h1 this)) noX fun h2 =>
  if x1 ≤ (5 : Int32) then
    gQ h2 this [6] 11 fun v3 =>
    nn v3 fun a4 =>
    gQ h2 a4 [0] 6 fun v6 =>
    nn v6 fun a7 =>
    gQ h2 a7 [2] 0 fun v9 =>
    gQ h2 this [6] 11 fun v10 =>
    nn v10 fun a11 =>
    gQ h2 a11 [0] 6 fun v13 =>
    nn v13 fun a14 =>
    gI h2 a14 [2] 1 fun v16 =>
    nn v9 fun a17 =>
    hI (grd h2 this [6] (c_D_known h2 this a17 v16)) rX fun v20 h19 =>
    c_DB_readLine_j80 h19 this x1 v20
  else
    c_DB_readLine_j80 h2 this x1 (0 : Int32)
def c_DB_readLine_j20 (h : PH) (this : Nat) (x1 : Int32) (s0 : Int32) (s1 : Nat) : Option RH :=
  hV (grd h s1 [6] (c_D_must h s1 s0 (1 : Int32))) rX fun h1 =>
  gI h1 this [6] 10 fun v2 =>
  if (40 : Int32) ≤ v2 then
    c_DB_readLine_j39 h1 this x1 (0 : Int32) this
  else
    c_DB_readLine_j39 h1 this x1 (1 : Int32) this
def c_DB_readLine (h : PH) (this : Nat) : Option RH :=
  grd h this [6] (
  gQ h this [6] 8 fun v1 =>
  nn v1 fun a2 =>
  hI (grd h this [6] (c_D_find h this a2)) noX fun v5 h4 =>
  if v5 = (-1 : Int32) then
    c_DB_readLine_j20 h4 this v5 (0 : Int32) this
  else
    c_DB_readLine_j20 h4 this v5 (1 : Int32) this)
set_option maxHeartbeats 4000000 in
theorem w_DB_readLine_j147 (h : PH) (this : Nat) (x1 : Int32) (x2 : Int32) (x3 : Int32) (x4 : Int32) (s0 : Int32) (s1 : Nat) : Sim Y_DB_readLine h 147 [(0, .ref this), (1, .int x1), (2, .int x2), (3, .int x3), (4, .int x4)] [.int s0, .ref s1] (c_DB_readLine_j147 h this x1 x2 x3 x4 s0 s1) := by
  unfold c_DB_readLine_j147
  refine x_iconst (pc := 147) (v := 3) (by decide) dX8_readLine_147 ?_
  refine x_callU (pc := 148) (As := [.int s0, .int (3 : Int32)]) (rest := []) (lev' := 2) si_X8_66 (MM.grd (m_D_must h s1 s0 (3 : Int32))) (fun z e => grdN e) rfl rfl (by decide) (cat4 (Nat.le_of_ble_eq_true rfl)) dX8_readLine_148 (kV (fun h1 => ?_)) (xOut (by decide))
  refine x_aload_nR (pc := 151) (a := this) 0 rfl rfl dX8_readLine_151 ?_
  refine x_callU (pc := 152) (As := []) (rest := []) (lev' := 4) si_X8_70 (MM.grd (m_D_next h1 this)) (fun z e => grdN e) rfl rfl (by decide) (cat4 (Nat.le_of_ble_eq_true rfl)) dX8_readLine_152 (kV (fun h2 => ?_)) xNo
  refine x_new (pc := 155) ni_X8_37 dX8_readLine_155 ?_
  intro a3 h4
  refine x_dup (pc := 158) rfl dX8_readLine_158 ?_
  refine x_iload_n (pc := 159) 1 rfl rfl dX8_readLine_159 ?_
  refine x_iload_n (pc := 160) 2 rfl rfl dX8_readLine_160 ?_
  refine x_iload_n (pc := 161) 3 rfl rfl dX8_readLine_161 ?_
  refine x_iload (pc := 162) 4 rfl dX8_readLine_162 ?_
  refine x_callI (pc := 164) (As := [.int x1, .int x2, .int x3, .int x4]) (rest := [.ref a3]) (lev' := 1) si_X8_97 (m_E_init h4 a3 x1 x2 x3 x4) rfl rfl (by decide) (cat4 (Nat.le_of_ble_eq_true rfl)) dX8_readLine_164 (kV (fun h5 => ?_)) xNo
  exact x_aret (pc := 167) (v := (some a3)) (Or.inl ⟨_, rfl⟩) dX8_readLine_167
set_option maxHeartbeats 4000000 in
theorem w_DB_readLine_j109 (h : PH) (this : Nat) (x1 : Int32) (x2 : Int32) (x3 : Int32) : Sim Y_DB_readLine h 109 [(0, .ref this), (1, .int x1), (2, .int x2), (3, .int x3)] [] (c_DB_readLine_j109 h this x1 x2 x3) := by
  unfold c_DB_readLine_j109
  refine x_aload_nR (pc := 109) (a := this) 0 rfl rfl dX8_readLine_109 ?_
  refine x_aload_nR (pc := 110) (a := this) 0 rfl rfl dX8_readLine_110 ?_
  refine x_getQ (pc := 111) fi_X8_3 dX8_readLine_111 ?_
  intro v1
  refine x_nn (fun a2 e3 => ?_)
  subst e3
  refine x_getQ (pc := 114) fi_X8_73 dX8_readLine_114 ?_
  intro v4
  refine x_nn (fun a5 e6 => ?_)
  subst e6
  refine x_getQ (pc := 117) fi_X8_77 dX8_readLine_117 ?_
  intro v7
  refine x_aload_nR (pc := 120) (a := this) 0 rfl rfl dX8_readLine_120 ?_
  refine x_getQ (pc := 121) fi_X8_3 dX8_readLine_121 ?_
  intro v8
  refine x_nn (fun a9 e10 => ?_)
  subst e10
  refine x_getQ (pc := 124) fi_X8_73 dX8_readLine_124 ?_
  intro v11
  refine x_nn (fun a12 e13 => ?_)
  subst e13
  refine x_getI (pc := 127) fi_X8_83 dX8_readLine_127 ?_
  intro v14
  refine x_nn (fun a15 e16 => ?_)
  subst e16
  refine x_callU (pc := 130) (As := [.ref a15, .int v14]) (rest := []) (lev' := 12) si_X8_94 (MM.grd (m_D_look h this a15 v14)) (fun z e => grdN e) rfl rfl (by decide) (cat4 (Nat.le_of_ble_eq_true rfl)) dX8_readLine_130 (kI (fun v18 h17 => ?_)) (xOut (by decide))
  refine x_istore (pc := 133) (lv' := [(4, .int v18), (0, .ref this), (1, .int x1), (2, .int x2), (3, .int x3)]) (by decide) rfl dX8_readLine_133 ?_
  refine x_aload_nR (pc := 135) (a := this) 1 rfl rfl dX8_readLine_135 ?_
  refine x_iload (pc := 136) 0 rfl dX8_readLine_136 ?_
  refine x_iload_n (pc := 138) 3 rfl rfl dX8_readLine_138 ?_
  refine x_icmp_eq (pc := 139) 146 (by decide) dX8_readLine_139 ?_ ?_
  · refine x_iconst (pc := 146) (v := 0) (by decide) dX8_readLine_146 ?_
    refine Sim.lv [1, 2, 3, 4, 0] rfl ?_
    exact w_DB_readLine_j147 h17 this x1 x2 x3 v18 (0 : Int32) this
  · refine x_iconst (pc := 142) (v := 1) (by decide) dX8_readLine_142 ?_
    refine x_goto (pc := 143) 147 (by decide) dX8_readLine_143 ?_
    refine Sim.lv [1, 2, 3, 4, 0] rfl ?_
    exact w_DB_readLine_j147 h17 this x1 x2 x3 v18 (1 : Int32) this
set_option maxHeartbeats 4000000 in
theorem w_DB_readLine_j214 (h : PH) (this : Nat) (x1 : Int32) (x2 : Int32) (x3 : Int32) (x4 : Int32) (s0 : Int32) : Sim Y_DB_readLine h 214 [(0, .ref this), (1, .int x1), (2, .int x2), (3, .int x3), (4, .int x4)] [.int s0] (c_DB_readLine_j214 h this x1 x2 x3 x4 s0) := by
  unfold c_DB_readLine_j214
  refine x_istore (pc := 214) (lv' := [(5, .int s0), (0, .ref this), (1, .int x1), (2, .int x2), (3, .int x3), (4, .int x4)]) (by decide) rfl dX8_readLine_214 ?_
  refine x_new (pc := 216) ni_X8_37 dX8_readLine_216 ?_
  intro a1 h2
  refine x_dup (pc := 219) rfl dX8_readLine_219 ?_
  refine x_iload_n (pc := 220) 2 rfl rfl dX8_readLine_220 ?_
  refine x_iload_n (pc := 221) 3 rfl rfl dX8_readLine_221 ?_
  refine x_iload_n (pc := 222) 4 rfl rfl dX8_readLine_222 ?_
  refine x_aload_nR (pc := 223) (a := this) 1 rfl rfl dX8_readLine_223 ?_
  refine x_iload (pc := 224) 5 rfl dX8_readLine_224 ?_
  refine x_iload (pc := 226) 0 rfl dX8_readLine_226 ?_
  refine x_callU (pc := 228) (As := [.int x4, .int s0]) (rest := [.int x3, .int x2, .int x1, .ref a1, .ref a1]) (lev' := 5) si_X8_90 (MM.grd (m_D_number h2 this x4 s0)) (fun z e => grdN e) rfl rfl (by decide) (Nat.le_of_ble_eq_true rfl) dX8_readLine_228 (kI (fun v4 h3 => ?_)) (xOut (by decide))
  refine x_callI (pc := 231) (As := [.int x1, .int x2, .int x3, .int v4]) (rest := [.ref a1]) (lev' := 1) si_X8_97 (m_E_init h3 a1 x1 x2 x3 v4) rfl rfl (by decide) (cat4 (Nat.le_of_ble_eq_true rfl)) dX8_readLine_231 (kV (fun h5 => ?_)) xNo
  exact x_aret (pc := 234) (v := (some a1)) (Or.inl ⟨_, rfl⟩) dX8_readLine_234
set_option maxHeartbeats 4000000 in
theorem w_DB_readLine_j189 (h : PH) (this : Nat) (x1 : Int32) (x2 : Int32) (x3 : Int32) (s0 : Int32) : Sim Y_DB_readLine h 189 [(0, .ref this), (1, .int x1), (2, .int x2), (3, .int x3)] [.int s0] (c_DB_readLine_j189 h this x1 x2 x3 s0) := by
  unfold c_DB_readLine_j189
  refine x_istore (pc := 189) (lv' := [(4, .int s0), (0, .ref this), (1, .int x1), (2, .int x2), (3, .int x3)]) (by decide) rfl dX8_readLine_189 ?_
  refine x_iload_n (pc := 191) 2 rfl rfl dX8_readLine_191 ?_
  refine x_iconst (pc := 192) (v := 2) (by decide) dX8_readLine_192 ?_
  refine x_icmp_ge (pc := 193) 200 (by decide) dX8_readLine_193 ?_ ?_
  · refine x_iload_n (pc := 200) 2 rfl rfl dX8_readLine_200 ?_
    refine x_bipush (pc := 201) (v := 6) (by decide) dX8_readLine_201 ?_
    refine x_icmp_ne (pc := 203) 211 (by decide) dX8_readLine_203 ?_ ?_
    · refine x_sipush (pc := 211) (v := 600) (by decide) dX8_readLine_211 ?_
      refine Sim.lv [1, 2, 3, 4, 0] rfl ?_
      exact w_DB_readLine_j214 h this x1 x2 x3 s0 (600 : Int32)
    · refine x_bipush (pc := 206) (v := 7) (by decide) dX8_readLine_206 ?_
      refine x_goto (pc := 208) 214 (by decide) dX8_readLine_208 ?_
      refine Sim.lv [1, 2, 3, 4, 0] rfl ?_
      exact w_DB_readLine_j214 h this x1 x2 x3 s0 (7 : Int32)
  · refine x_iconst (pc := 196) (v := 1) (by decide) dX8_readLine_196 ?_
    refine x_goto (pc := 197) 214 (by decide) dX8_readLine_197 ?_
    refine Sim.lv [1, 2, 3, 4, 0] rfl ?_
    exact w_DB_readLine_j214 h this x1 x2 x3 s0 (1 : Int32)
set_option maxHeartbeats 4000000 in
theorem w_DB_readLine_j184 (h : PH) (this : Nat) (x1 : Int32) (x2 : Int32) (x3 : Int32) : Sim Y_DB_readLine h 184 [(0, .ref this), (1, .int x1), (2, .int x2), (3, .int x3)] [] (c_DB_readLine_j184 h this x1 x2 x3) := by
  unfold c_DB_readLine_j184
  refine x_iconst (pc := 184) (v := 1) (by decide) dX8_readLine_184 ?_
  refine x_goto (pc := 185) 189 (by decide) dX8_readLine_185 ?_
  exact w_DB_readLine_j189 h this x1 x2 x3 (1 : Int32)
set_option maxHeartbeats 4000000 in
theorem w_DB_readLine_j98 (h : PH) (this : Nat) (x1 : Int32) (x2 : Int32) (s0 : Int32) : Sim Y_DB_readLine h 98 [(0, .ref this), (1, .int x1), (2, .int x2)] [.int s0] (c_DB_readLine_j98 h this x1 x2 s0) := by
  unfold c_DB_readLine_j98
  refine x_istore_n (pc := 98) (lv' := [(3, .int s0), (0, .ref this), (1, .int x1), (2, .int x2)]) rfl (by decide) rfl dX8_readLine_98 ?_
  refine x_iload_n (pc := 99) 2 rfl rfl dX8_readLine_99 ?_
  refine x_iconst (pc := 100) (v := 4) (by decide) dX8_readLine_100 ?_
  refine x_icmp_eq (pc := 101) 109 (by decide) dX8_readLine_101 ?_ ?_
  · refine Sim.lv [1, 2, 3, 0] rfl ?_
    exact w_DB_readLine_j109 h this x1 x2 s0
  · refine x_iload_n (pc := 104) 2 rfl rfl dX8_readLine_104 ?_
    refine x_iconst (pc := 105) (v := 5) (by decide) dX8_readLine_105 ?_
    refine x_icmp_ne (pc := 106) 168 (by decide) dX8_readLine_106 ?_ ?_
    · refine x_iload_n (pc := 168) 2 rfl rfl dX8_readLine_168 ?_
      refine x_iconst (pc := 169) (v := 2) (by decide) dX8_readLine_169 ?_
      refine x_icmp_eq (pc := 170) 184 (by decide) dX8_readLine_170 ?_ ?_
      · refine Sim.lv [1, 2, 3, 0] rfl ?_
        exact w_DB_readLine_j184 h this x1 x2 s0
      · refine x_iload_n (pc := 173) 2 rfl rfl dX8_readLine_173 ?_
        refine x_iconst (pc := 174) (v := 3) (by decide) dX8_readLine_174 ?_
        refine x_icmp_eq (pc := 175) 184 (by decide) dX8_readLine_175 ?_ ?_
        · refine Sim.lv [1, 2, 3, 0] rfl ?_
          exact w_DB_readLine_j184 h this x1 x2 s0
        · refine x_iload_n (pc := 178) 2 rfl rfl dX8_readLine_178 ?_
          refine x_bipush (pc := 179) (v := 7) (by decide) dX8_readLine_179 ?_
          refine x_icmp_ne (pc := 181) 188 (by decide) dX8_readLine_181 ?_ ?_
          · refine x_iconst (pc := 188) (v := 0) (by decide) dX8_readLine_188 ?_
            refine Sim.lv [1, 2, 3, 0] rfl ?_
            exact w_DB_readLine_j189 h this x1 x2 s0 (0 : Int32)
          · refine Sim.lv [1, 2, 3, 0] rfl ?_
            exact w_DB_readLine_j184 h this x1 x2 s0
    · refine Sim.lv [1, 2, 3, 0] rfl ?_
      exact w_DB_readLine_j109 h this x1 x2 s0
set_option maxHeartbeats 4000000 in
theorem w_DB_readLine_j80 (h : PH) (this : Nat) (x1 : Int32) (s0 : Int32) : Sim Y_DB_readLine h 80 [(0, .ref this), (1, .int x1)] [.int s0] (c_DB_readLine_j80 h this x1 s0) := by
  unfold c_DB_readLine_j80
  refine x_istore_n (pc := 80) (lv' := [(2, .int s0), (0, .ref this), (1, .int x1)]) rfl (by decide) rfl dX8_readLine_80 ?_
  refine x_iload_n (pc := 81) 2 rfl rfl dX8_readLine_81 ?_
  refine x_iconst (pc := 82) (v := 4) (by decide) dX8_readLine_82 ?_
  refine x_icmp_ne (pc := 83) 90 (by decide) dX8_readLine_83 ?_ ?_
  · refine x_aload_nR (pc := 90) (a := this) 1 rfl rfl dX8_readLine_90 ?_
    refine x_iconst (pc := 91) (v := 0) (by decide) dX8_readLine_91 ?_
    refine x_sipush (pc := 92) (v := 999) (by decide) dX8_readLine_92 ?_
    refine x_callU (pc := 95) (As := [.int (0 : Int32), .int (999 : Int32)]) (rest := []) (lev' := 5) si_X8_90 (MM.grd (m_D_number h this (0 : Int32) (999 : Int32))) (fun z e => grdN e) rfl rfl (by decide) (cat4 (Nat.le_of_ble_eq_true rfl)) dX8_readLine_95 (kI (fun v2 h1 => ?_)) (xOut (by decide))
    refine Sim.lv [1, 2, 0] rfl ?_
    exact w_DB_readLine_j98 h1 this x1 s0 v2
  · refine x_iconst (pc := 86) (v := 0) (by decide) dX8_readLine_86 ?_
    refine x_goto (pc := 87) 98 (by decide) dX8_readLine_87 ?_
    refine Sim.lv [1, 2, 0] rfl ?_
    exact w_DB_readLine_j98 h this x1 s0 (0 : Int32)
set_option maxHeartbeats 4000000 in
theorem w_DB_readLine_j39 (h : PH) (this : Nat) (x1 : Int32) (s0 : Int32) (s1 : Nat) : Sim Y_DB_readLine h 39 [(0, .ref this), (1, .int x1)] [.int s0, .ref s1] (c_DB_readLine_j39 h this x1 s0 s1) := by
  unfold c_DB_readLine_j39
  refine x_iconst (pc := 39) (v := 4) (by decide) dX8_readLine_39 ?_
  refine x_callU (pc := 40) (As := [.int s0, .int (4 : Int32)]) (rest := []) (lev' := 2) si_X8_66 (MM.grd (m_D_must h s1 s0 (4 : Int32))) (fun z e => grdN e) rfl rfl (by decide) (cat4 (Nat.le_of_ble_eq_true rfl)) dX8_readLine_40 (kV (fun h1 => ?_)) (xOut (by decide))
  refine x_aload_nR (pc := 43) (a := this) 0 rfl rfl dX8_readLine_43 ?_
  refine x_callU (pc := 44) (As := []) (rest := []) (lev' := 4) si_X8_70 (MM.grd (m_D_next h1 this)) (fun z e => grdN e) rfl rfl (by decide) (cat4 (Nat.le_of_ble_eq_true rfl)) dX8_readLine_44 (kV (fun h2 => ?_)) xNo
  refine x_iload_n (pc := 47) 1 rfl rfl dX8_readLine_47 ?_
  refine x_iconst (pc := 48) (v := 5) (by decide) dX8_readLine_48 ?_
  refine x_icmp_le (pc := 49) 56 (by decide) dX8_readLine_49 ?_ ?_
  · refine x_aload_nR (pc := 56) (a := this) 0 rfl rfl dX8_readLine_56 ?_
    refine x_aload_nR (pc := 57) (a := this) 0 rfl rfl dX8_readLine_57 ?_
    refine x_getQ (pc := 58) fi_X8_3 dX8_readLine_58 ?_
    intro v3
    refine x_nn (fun a4 e5 => ?_)
    subst e5
    refine x_getQ (pc := 61) fi_X8_73 dX8_readLine_61 ?_
    intro v6
    refine x_nn (fun a7 e8 => ?_)
    subst e8
    refine x_getQ (pc := 64) fi_X8_77 dX8_readLine_64 ?_
    intro v9
    refine x_aload_nR (pc := 67) (a := this) 0 rfl rfl dX8_readLine_67 ?_
    refine x_getQ (pc := 68) fi_X8_3 dX8_readLine_68 ?_
    intro v10
    refine x_nn (fun a11 e12 => ?_)
    subst e12
    refine x_getQ (pc := 71) fi_X8_73 dX8_readLine_71 ?_
    intro v13
    refine x_nn (fun a14 e15 => ?_)
    subst e15
    refine x_getI (pc := 74) fi_X8_83 dX8_readLine_74 ?_
    intro v16
    refine x_nn (fun a17 e18 => ?_)
    subst e18
    refine x_callU (pc := 77) (As := [.ref a17, .int v16]) (rest := []) (lev' := 13) si_X8_86 (MM.grd (m_D_known h2 this a17 v16)) (fun z e => grdN e) rfl rfl (by decide) (cat4 (Nat.le_of_ble_eq_true rfl)) dX8_readLine_77 (kI (fun v20 h19 => ?_)) (xOut (by decide))
    exact w_DB_readLine_j80 h19 this x1 v20
  · refine x_iconst (pc := 52) (v := 0) (by decide) dX8_readLine_52 ?_
    refine x_goto (pc := 53) 80 (by decide) dX8_readLine_53 ?_
    exact w_DB_readLine_j80 h2 this x1 (0 : Int32)
set_option maxHeartbeats 4000000 in
theorem w_DB_readLine_j20 (h : PH) (this : Nat) (x1 : Int32) (s0 : Int32) (s1 : Nat) : Sim Y_DB_readLine h 20 [(0, .ref this), (1, .int x1)] [.int s0, .ref s1] (c_DB_readLine_j20 h this x1 s0 s1) := by
  unfold c_DB_readLine_j20
  refine x_iconst (pc := 20) (v := 1) (by decide) dX8_readLine_20 ?_
  refine x_callU (pc := 21) (As := [.int s0, .int (1 : Int32)]) (rest := []) (lev' := 2) si_X8_66 (MM.grd (m_D_must h s1 s0 (1 : Int32))) (fun z e => grdN e) rfl rfl (by decide) (cat4 (Nat.le_of_ble_eq_true rfl)) dX8_readLine_21 (kV (fun h1 => ?_)) (xOut (by decide))
  refine x_aload_nR (pc := 24) (a := this) 0 rfl rfl dX8_readLine_24 ?_
  refine x_aload_nR (pc := 25) (a := this) 0 rfl rfl dX8_readLine_25 ?_
  refine x_getI (pc := 26) fi_X8_43 dX8_readLine_26 ?_
  intro v2
  refine x_bipush (pc := 29) (v := 40) (by decide) dX8_readLine_29 ?_
  refine x_icmp_ge (pc := 31) 38 (by decide) dX8_readLine_31 ?_ ?_
  · refine x_iconst (pc := 38) (v := 0) (by decide) dX8_readLine_38 ?_
    exact w_DB_readLine_j39 h1 this x1 (0 : Int32) this
  · refine x_iconst (pc := 34) (v := 1) (by decide) dX8_readLine_34 ?_
    refine x_goto (pc := 35) 39 (by decide) dX8_readLine_35 ?_
    exact w_DB_readLine_j39 h1 this x1 (1 : Int32) this
set_option maxHeartbeats 4000000 in
theorem m_DB_readLine (h : PH) (this : Nat) : MM yX8_readLine (ws_ yX8_readLine cX8_readLine 6 (some (.object "BitRopes$Deed"))) 14 [.ref this] h (c_DB_readLine h this) := by
  refine MM.of (by decide) rfl (by decide) (Nat.le_of_ble_eq_true rfl) (own := RX8) (cc := cX8_readLine) (maxL := 6) (lev := 14) (rt := (some (.object "BitRopes$Deed"))) (ini := false) ?_
  show Sim Y_DB_readLine h 0 [(0, .ref this)] [] _
  unfold c_DB_readLine
  refine x_grd ?_
  refine x_aload_nR (pc := 0) (a := this) 0 rfl rfl dX8_readLine_0 ?_
  refine x_aload_nR (pc := 1) (a := this) 0 rfl rfl dX8_readLine_1 ?_
  refine x_getQ (pc := 2) fi_X8_33 dX8_readLine_2 ?_
  intro v1
  refine x_nn (fun a2 e3 => ?_)
  subst e3
  refine x_callU (pc := 5) (As := [.ref a2]) (rest := []) (lev' := 10) si_X8_62 (MM.grd (m_D_find h this a2)) (fun z e => grdN e) rfl rfl (by decide) (cat4 (Nat.le_of_ble_eq_true rfl)) dX8_readLine_5 (kI (fun v5 h4 => ?_)) xNo
  refine x_istore_n (pc := 8) (lv' := [(1, .int v5), (0, .ref this)]) rfl (by decide) rfl dX8_readLine_8 ?_
  refine x_aload_nR (pc := 9) (a := this) 1 rfl rfl dX8_readLine_9 ?_
  refine x_iload_n (pc := 10) 0 rfl rfl dX8_readLine_10 ?_
  refine x_iconst (pc := 11) (v := (-1)) (by decide) dX8_readLine_11 ?_
  refine x_icmp_eq (pc := 12) 19 (by decide) dX8_readLine_12 ?_ ?_
  · refine x_iconst (pc := 19) (v := 0) (by decide) dX8_readLine_19 ?_
    refine Sim.lv [1, 0] rfl ?_
    exact w_DB_readLine_j20 h4 this v5 (0 : Int32) this
  · refine x_iconst (pc := 15) (v := 1) (by decide) dX8_readLine_15 ?_
    refine x_goto (pc := 16) 20 (by decide) dX8_readLine_16 ?_
    refine Sim.lv [1, 0] rfl ?_
    exact w_DB_readLine_j20 h4 this v5 (1 : Int32) this
theorem fi_X8_51 : FI RX8 51 [6] 3 .int false true := (fi_c ci_6 (by decide) rfl rfl (Or.inl q356) (Or.inr q357) (fun h => absurd h (by decide)) fi_n)
theorem si_X8_54 : SiV RX8 54 6 yX8_readLine cX8_readLine 6 (some (.object "BitRopes$Deed")) 0 := ⟨_, _, _, ci_6.1, by decide, lw_V q1308 q1310 qs34 q119 q1311, ⟨rfl, by decide, by decide, by decide +kernel⟩, by decide⟩
theorem si_X8_58 : SiU RX8 58 [6] ⟨RX8, "sign", "(I)V"⟩ yX6_sign cX6_sign 2 none 1 := (siU_c (c := 6) (owner := "BitRopes$Reade\x72") rfl (by decide) ⟨q1365, q1366, (Or.inl q1367), q879, q117, q880⟩ (Or.inl rfl) ⟨by decide, by decide, by decide +kernel⟩ (siU_n (by decide)))
theorem si_X8_47 : SiU RX8 47 [6] ⟨RX8, "begin", "()V"⟩ yX6_begin cX6_begin 1 none 0 := (siU_c (c := 6) (owner := "BitRopes$Reade\x72") rfl (by decide) ⟨q1305, q1306, (Or.inl q1307), q595, q117, q596⟩ (Or.inl rfl) ⟨by decide, by decide, by decide +kernel⟩ (siU_n (by decide)))
abbrev Y_DB_read : Yx := (RX8, cX8_read, 2, 15, none, [], false)
def c_DB_read_l9 (r9 : PH → Nat → Option RH) (h : PH) (this : Nat) : Option RH :=
  gI h this [6] 3 fun v1 =>
  if v1 = 0 then
    rV h
  else
    hQ (c_DB_readLine h this) rX fun v3 h2 =>
    hV (grd h2 this [6] (c_D_sign h2 this (59 : Int32))) rX fun h4 =>
    gQ h4 this [6] 9 fun v5 =>
    gI h4 this [6] 10 fun v6 =>
    nn v5 fun a7 =>
    stQ h4 a7 v6 v3 fun h9 =>
    gI h9 this [6] 10 fun v10 =>
    pI h9 this [6] 10 (v10 + (1 : Int32)) fun h11 =>
    r9 h11 this
def c_DB_read (h : PH) (this : Nat) : Option RH :=
  grd h this [6] (
  pI h this [6] 10 (0 : Int32) fun h1 =>
  hV (grd h1 this [6] (c_D_begin h1 this)) noX fun h2 =>
  itr (c_DB_read_l9) (fun _ _ => none) FU h2 this)
set_option maxHeartbeats 4000000 in
theorem w_DB_read_l9 (r9 : PH → Nat → Option RH) (hr9 : ∀ (h : PH) (this : Nat), Sim Y_DB_read h 9 [(0, .ref this)] [] (r9 h this)) (h : PH) (this : Nat) : Sim Y_DB_read h 9 [(0, .ref this)] [] (c_DB_read_l9 r9 h this) := by
  unfold c_DB_read_l9
  refine x_aload_nR (pc := 9) (a := this) 0 rfl rfl dX8_read_9 ?_
  refine x_getI (pc := 10) fi_X8_51 dX8_read_10 ?_
  intro v1
  refine x_if_eq (pc := 13) 50 (by decide) dX8_read_13 ?_ ?_
  · exact x_vret (pc := 50) dX8_read_50
  · refine x_aload_nR (pc := 16) (a := this) 0 rfl rfl dX8_read_16 ?_
    refine x_callV (pc := 17) (As := []) (rest := []) (lev' := 14) si_X8_54 (m_DB_readLine h this) (fun z e => grd1 e) rfl rfl (by decide) (cat4 (Nat.le_of_ble_eq_true rfl)) dX8_read_17 (kQ (fun v3 h2 => ?_)) (xOut (by decide))
    refine x_astore_n (pc := 20) (r := v3) (lv' := [(1, va_rf v3), (0, .ref this)]) rfl (by decide) rfl dX8_read_20 ?_
    refine x_aload_nR (pc := 21) (a := this) 1 rfl rfl dX8_read_21 ?_
    refine x_bipush (pc := 22) (v := 59) (by decide) dX8_read_22 ?_
    refine x_callU (pc := 24) (As := [.int (59 : Int32)]) (rest := []) (lev' := 5) si_X8_58 (MM.grd (m_D_sign h2 this (59 : Int32))) (fun z e => grdN e) rfl rfl (by decide) (cat4 (Nat.le_of_ble_eq_true rfl)) dX8_read_24 (kV (fun h4 => ?_)) (xOut (by decide))
    refine x_aload_nR (pc := 27) (a := this) 1 rfl rfl dX8_read_27 ?_
    refine x_getQ (pc := 28) fi_X8_39 dX8_read_28 ?_
    intro v5
    refine x_aload_nR (pc := 31) (a := this) 1 rfl rfl dX8_read_31 ?_
    refine x_getI (pc := 32) fi_X8_43 dX8_read_32 ?_
    intro v6
    refine x_aload_n (pc := 35) (r := v3) 0 rfl rfl dX8_read_35 ?_
    refine x_nn (fun a7 e8 => ?_)
    subst e8
    refine x_aast (pc := 36) (r := v3) dX8_read_36 ?_
    intro h9
    refine x_aload_nR (pc := 37) (a := this) 1 rfl rfl dX8_read_37 ?_
    refine x_dup (pc := 38) rfl dX8_read_38 ?_
    refine x_getI (pc := 39) fi_X8_43 dX8_read_39 ?_
    intro v10
    refine x_iconst (pc := 42) (v := 1) (by decide) dX8_read_42 ?_
    refine x_iadd (pc := 43) dX8_read_43 ?_
    refine x_pI (pc := 44) fi_X8_43 (fun z => absurd z (by decide)) dX8_read_44 ?_
    intro h11
    refine x_goto (pc := 47) 9 (by decide) dX8_read_47 ?_
    refine Sim.lv [1] rfl ?_
    exact hr9 h11 this
set_option maxHeartbeats 4000000 in
theorem v_DB_read_l9 : ∀ (n : Nat) (h : PH) (this : Nat), Sim Y_DB_read h 9 [(0, .ref this)] [] (itr (c_DB_read_l9) (fun _ _ => none) n h this)
  | 0, h, this => Sim.none
  | n + 1, h, this => w_DB_read_l9 _ (v_DB_read_l9 n) h this
set_option maxHeartbeats 4000000 in
theorem m_DB_read (h : PH) (this : Nat) : MM yX8_read (ws_ yX8_read cX8_read 2 none) 15 [.ref this] h (c_DB_read h this) := by
  refine MM.of (by decide) rfl (by decide) (Nat.le_of_ble_eq_true rfl) (own := RX8) (cc := cX8_read) (maxL := 2) (lev := 15) (rt := none) (ini := false) ?_
  show Sim Y_DB_read h 0 [(0, .ref this)] [] _
  unfold c_DB_read
  refine x_grd ?_
  refine x_aload_nR (pc := 0) (a := this) 0 rfl rfl dX8_read_0 ?_
  refine x_iconst (pc := 1) (v := 0) (by decide) dX8_read_1 ?_
  refine x_pI (pc := 2) fi_X8_43 (fun z => absurd z (by decide)) dX8_read_2 ?_
  intro h1
  refine x_aload_nR (pc := 5) (a := this) 0 rfl rfl dX8_read_5 ?_
  refine x_callU (pc := 6) (As := []) (rest := []) (lev' := 5) si_X8_47 (MM.grd (m_D_begin h1 this)) (fun z e => grdN e) rfl rfl (by decide) (cat4 (Nat.le_of_ble_eq_true rfl)) dX8_read_6 (kV (fun h2 => ?_)) xNo
  exact v_DB_read_l9 FU h2 this
theorem fi_X9_3 : FI RX9 3 [7] 11 (.object "BitRopes") true true := (fi_c ci_7 (by decide) rfl rfl (Or.inl q473) (Or.inl rfl) (fun _ _ => rfl) fi_n)
theorem si_X9_9 : SiI RX9 9 yX6_init cX6_init 3 2 := ⟨q345, q117, q458, q344, rfl, ⟨by decide, by decide, by decide +kernel⟩, by decide⟩
theorem fi_X9_25 : FI RX9 25 [7] 8 (.array (.object "java/lang/String")) true true := (fi_c ci_7 (by decide) rfl rfl (Or.inl q469) (Or.inl rfl) (fun _ _ => rfl) fi_n)
theorem fi_X9_39 : FI RX9 39 [7] 9 (.array (.object "java/lang/String")) true true := (fi_c ci_7 (by decide) rfl rfl (Or.inl q470) (Or.inl rfl) (fun _ _ => rfl) fi_n)
abbrev Y_DS_init : Yx := (RX9, cX9_init, 2, 2, none, [], true)
def c_DS_init (h : PH) (this : Nat) (x1 : Nat) : Option RH :=
  grd h this [7] (
  pQ h this [7] 11 (some x1) fun h1 =>
  hV (c_D_init h1 this x1 (200 : Int32)) noX fun h2 =>
  newA h2 12 (4 : Int32) (.inr (.inr (.inr (.inr (fun _ => none))))) fun a3 h4 =>
  stQ h4 a3 (0 : Int32) (some (h4.2.2 14)) fun h5 =>
  stQ h5 a3 (1 : Int32) (some (h5.2.2 15)) fun h6 =>
  stQ h6 a3 (2 : Int32) (some (h6.2.2 16)) fun h7 =>
  stQ h7 a3 (3 : Int32) (some (h7.2.2 17)) fun h8 =>
  pQ h8 this [7] 8 (some a3) fun h9 =>
  newA h9 12 (5 : Int32) (.inr (.inr (.inr (.inr (fun _ => none))))) fun a10 h11 =>
  stQ h11 a10 (0 : Int32) (some (h11.2.2 18)) fun h12 =>
  stQ h12 a10 (1 : Int32) (some (h12.2.2 19)) fun h13 =>
  stQ h13 a10 (2 : Int32) (some (h13.2.2 20)) fun h14 =>
  stQ h14 a10 (3 : Int32) (some (h14.2.2 21)) fun h15 =>
  stQ h15 a10 (4 : Int32) (some (h15.2.2 22)) fun h16 =>
  pQ h16 this [7] 9 (some a10) fun h17 =>
  rV h17)
set_option maxHeartbeats 4000000 in
theorem m_DS_init (h : PH) (this : Nat) (x1 : Nat) : MM yX9_init (ws_ yX9_init cX9_init 2 none) 2 [.ref this, .ref x1] h (c_DS_init h this x1) := by
  refine MM.of (by decide) rfl (by decide) (Nat.le_of_ble_eq_true rfl) (own := RX9) (cc := cX9_init) (maxL := 2) (lev := 2) (rt := none) (ini := true) ?_
  show Sim Y_DS_init h 0 [(0, .ref this), (1, .ref x1)] [] _
  unfold c_DS_init
  refine x_grd ?_
  refine x_aload_nR (pc := 0) (a := this) 0 rfl rfl dX9_init_0 ?_
  refine x_aload_nR (pc := 1) (a := x1) 1 rfl rfl dX9_init_1 ?_
  refine x_pQ (pc := 2) (v := (some x1)) fi_X9_3 (fun _ => rfl) dX9_init_2 ?_
  intro h1
  refine x_aload_nR (pc := 5) (a := this) 0 rfl rfl dX9_init_5 ?_
  refine x_aload_nR (pc := 6) (a := x1) 1 rfl rfl dX9_init_6 ?_
  refine x_sipush (pc := 7) (v := 200) (by decide) dX9_init_7 ?_
  refine x_callI (pc := 10) (As := [.ref x1, .int (200 : Int32)]) (rest := []) (lev' := 1) si_X9_9 (m_D_init h1 this x1 (200 : Int32)) rfl rfl (by decide) (cat4 (Nat.le_of_ble_eq_true rfl)) dX9_init_10 (kV (fun h2 => ?_)) xNo
  refine x_aload_nR (pc := 13) (a := this) 0 rfl rfl dX9_init_13 ?_
  refine x_iconst (pc := 14) (v := 4) (by decide) dX9_init_14 ?_
  refine x_newaQ (pc := 15) (C := RJ2) (t := 12) (by decide +kernel) q459 (fun G s hk => (hk.1.2 12 _ rfl).2.choose_spec.choose_spec.2.2.2) dX9_init_15 ?_
  intro a3 h4
  refine x_dup (pc := 18) rfl dX9_init_18 ?_
  refine x_iconst (pc := 19) (v := 0) (by decide) dX9_init_19 ?_
  refine x_ldcS (pc := 20) (k := 14) (tx := "empty") (by decide +kernel) dX9_init_20 ?_
  refine x_aast (pc := 22) (r := (some (h4.2.2 14))) dX9_init_22 ?_
  intro h5
  refine x_dup (pc := 23) rfl dX9_init_23 ?_
  refine x_iconst (pc := 24) (v := 1) (by decide) dX9_init_24 ?_
  refine x_ldcS (pc := 25) (k := 15) (tx := "even") (by decide +kernel) dX9_init_25 ?_
  refine x_aast (pc := 27) (r := (some (h5.2.2 15))) dX9_init_27 ?_
  intro h6
  refine x_dup (pc := 28) rfl dX9_init_28 ?_
  refine x_iconst (pc := 29) (v := 2) (by decide) dX9_init_29 ?_
  refine x_ldcS (pc := 30) (k := 16) (tx := "like") (by decide +kernel) dX9_init_30 ?_
  refine x_aast (pc := 32) (r := (some (h6.2.2 16))) dX9_init_32 ?_
  intro h7
  refine x_dup (pc := 33) rfl dX9_init_33 ?_
  refine x_iconst (pc := 34) (v := 3) (by decide) dX9_init_34 ?_
  refine x_ldcS (pc := 35) (k := 17) (tx := "begins") (by decide +kernel) dX9_init_35 ?_
  refine x_aast (pc := 37) (r := (some (h7.2.2 17))) dX9_init_37 ?_
  intro h8
  refine x_pQA (pc := 38) (v := (some a3)) fi_X9_25 (fun _ => rfl) dX9_init_38 ?_
  intro h9
  refine x_aload_nR (pc := 41) (a := this) 0 rfl rfl dX9_init_41 ?_
  refine x_iconst (pc := 42) (v := 5) (by decide) dX9_init_42 ?_
  refine x_newaQ (pc := 43) (C := RJ2) (t := 12) (by decide +kernel) q459 (fun G s hk => (hk.1.2 12 _ rfl).2.choose_spec.choose_spec.2.2.2) dX9_init_43 ?_
  intro a10 h11
  refine x_dup (pc := 46) rfl dX9_init_46 ?_
  refine x_iconst (pc := 47) (v := 0) (by decide) dX9_init_47 ?_
  refine x_ldcS (pc := 48) (k := 18) (tx := "size") (by decide +kernel) dX9_init_48 ?_
  refine x_aast (pc := 50) (r := (some (h11.2.2 18))) dX9_init_50 ?_
  intro h12
  refine x_dup (pc := 51) rfl dX9_init_51 ?_
  refine x_iconst (pc := 52) (v := 1) (by decide) dX9_init_52 ?_
  refine x_ldcS (pc := 53) (k := 19) (tx := "ones") (by decide +kernel) dX9_init_53 ?_
  refine x_aast (pc := 55) (r := (some (h12.2.2 19))) dX9_init_55 ?_
  intro h13
  refine x_dup (pc := 56) rfl dX9_init_56 ?_
  refine x_iconst (pc := 57) (v := 2) (by decide) dX9_init_57 ?_
  refine x_ldcS (pc := 58) (k := 20) (tx := "runs") (by decide +kernel) dX9_init_58 ?_
  refine x_aast (pc := 60) (r := (some (h13.2.2 20))) dX9_init_60 ?_
  intro h14
  refine x_dup (pc := 61) rfl dX9_init_61 ?_
  refine x_iconst (pc := 62) (v := 3) (by decide) dX9_init_62 ?_
  refine x_ldcS (pc := 63) (k := 21) (tx := "leaves") (by decide +kernel) dX9_init_63 ?_
  refine x_aast (pc := 65) (r := (some (h14.2.2 21))) dX9_init_65 ?_
  intro h15
  refine x_dup (pc := 66) rfl dX9_init_66 ?_
  refine x_iconst (pc := 67) (v := 4) (by decide) dX9_init_67 ?_
  refine x_ldcS (pc := 68) (k := 22) (tx := "numbe\x72") (by decide +kernel) dX9_init_68 ?_
  refine x_aast (pc := 70) (r := (some (h15.2.2 22))) dX9_init_70 ?_
  intro h16
  refine x_pQA (pc := 71) (v := (some a10)) fi_X9_39 (fun _ => rfl) dX9_init_71 ?_
  intro h17
  exact x_vret (pc := 74) dX9_init_74
theorem fi_X16_7 : FI RX16 7 [13] 0 (.object "BitRopes$Cond") true true := (fi_c ci_13 (by decide) rfl rfl (Or.inl q1423) (Or.inl rfl) (fun _ _ => rfl) fi_n)
abbrev Y_CN_init : Yx := (RX16, cX16_init, 2, 1, none, [], true)
def c_CN_init (h : PH) (this : Nat) (x1 : Nat) : Option RH :=
  grd h this [13] (
  pQ h this [13] 0 (some x1) fun h1 =>
  rV h1)
set_option maxHeartbeats 4000000 in
theorem m_CN_init (h : PH) (this : Nat) (x1 : Nat) : MM yX16_init (ws_ yX16_init cX16_init 2 none) 1 [.ref this, .ref x1] h (c_CN_init h this x1) := by
  refine MM.of (by decide) rfl (by decide) (Nat.le_of_ble_eq_true rfl) (own := RX16) (cc := cX16_init) (maxL := 2) (lev := 1) (rt := none) (ini := true) ?_
  show Sim Y_CN_init h 0 [(0, .ref this), (1, .ref x1)] [] _
  unfold c_CN_init
  refine x_grd ?_
  refine x_aload_nR (pc := 0) (a := this) 0 rfl rfl dX16_init_0 ?_
  refine x_objInit (pc := 1) q1422 (by omega) (by decide) dX16_init_1 ?_
  refine x_aload_nR (pc := 4) (a := this) 0 rfl rfl dX16_init_4 ?_
  refine x_aload_nR (pc := 5) (a := x1) 1 rfl rfl dX16_init_5 ?_
  refine x_pQ (pc := 6) (v := (some x1)) fi_X16_7 (fun _ => rfl) dX16_init_6 ?_
  intro h1
  exact x_vret (pc := 9) dX16_init_9
theorem fi_X17_9 : FI RX17 9 [14] 0 .int true true := (fi_c ci_14 (by decide) rfl rfl (Or.inl q1439) (Or.inl rfl) (fun _ _ => rfl) fi_n)
theorem fi_X17_15 : FI RX17 15 [14] 1 .int true true := (fi_c ci_14 (by decide) rfl rfl (Or.inl q1440) (Or.inl rfl) (fun _ _ => rfl) fi_n)
abbrev Y_CM_init : Yx := (RX17, cX17_init, 3, 1, none, [], true)
def c_CM_init (h : PH) (this : Nat) (x1 : Int32) (x2 : Int32) : Option RH :=
  grd h this [14] (
  pI h this [14] 0 x1 fun h1 =>
  pI h1 this [14] 1 x2 fun h2 =>
  rV h2)
set_option maxHeartbeats 4000000 in
theorem m_CM_init (h : PH) (this : Nat) (x1 : Int32) (x2 : Int32) : MM yX17_init (ws_ yX17_init cX17_init 3 none) 1 [.ref this, .int x1, .int x2] h (c_CM_init h this x1 x2) := by
  refine MM.of (by decide) rfl (by decide) (Nat.le_of_ble_eq_true rfl) (own := RX17) (cc := cX17_init) (maxL := 3) (lev := 1) (rt := none) (ini := true) ?_
  show Sim Y_CM_init h 0 [(0, .ref this), (1, .int x1), (2, .int x2)] [] _
  unfold c_CM_init
  refine x_grd ?_
  refine x_aload_nR (pc := 0) (a := this) 0 rfl rfl dX17_init_0 ?_
  refine x_objInit (pc := 1) q1438 (by omega) (by decide) dX17_init_1 ?_
  refine x_aload_nR (pc := 4) (a := this) 0 rfl rfl dX17_init_4 ?_
  refine x_iload_n (pc := 5) 1 rfl rfl dX17_init_5 ?_
  refine x_pI (pc := 6) fi_X17_9 (fun _ => rfl) dX17_init_6 ?_
  intro h1
  refine x_aload_nR (pc := 9) (a := this) 0 rfl rfl dX17_init_9 ?_
  refine x_iload_n (pc := 10) 2 rfl rfl dX17_init_10 ?_
  refine x_pI (pc := 11) fi_X17_15 (fun _ => rfl) dX17_init_11 ?_
  intro h2
  exact x_vret (pc := 14) dX17_init_14
theorem fi_X18_7 : FI RX18 7 [15] 0 .int true true := (fi_c ci_15 (by decide) rfl rfl (Or.inl q1452) (Or.inl rfl) (fun _ _ => rfl) fi_n)
theorem fi_X18_13 : FI RX18 13 [15] 1 .int true true := (fi_c ci_15 (by decide) rfl rfl (Or.inl q1453) (Or.inl rfl) (fun _ _ => rfl) fi_n)
theorem fi_X18_16 : FI RX18 16 [15] 2 .int true true := (fi_c ci_15 (by decide) rfl rfl (Or.inl q1454) (Or.inl rfl) (fun _ _ => rfl) fi_n)
abbrev Y_CC_init : Yx := (RX18, cX18_init, 4, 1, none, [], true)
def c_CC_init (h : PH) (this : Nat) (x1 : Int32) (x2 : Int32) (x3 : Int32) : Option RH :=
  grd h this [15] (
  pI h this [15] 0 x1 fun h1 =>
  pI h1 this [15] 1 x2 fun h2 =>
  pI h2 this [15] 2 x3 fun h3 =>
  rV h3)
set_option maxHeartbeats 4000000 in
theorem m_CC_init (h : PH) (this : Nat) (x1 : Int32) (x2 : Int32) (x3 : Int32) : MM yX18_init (ws_ yX18_init cX18_init 4 none) 1 [.ref this, .int x1, .int x2, .int x3] h (c_CC_init h this x1 x2 x3) := by
  refine MM.of (by decide) rfl (by decide) (Nat.le_of_ble_eq_true rfl) (own := RX18) (cc := cX18_init) (maxL := 4) (lev := 1) (rt := none) (ini := true) ?_
  show Sim Y_CC_init h 0 [(0, .ref this), (1, .int x1), (2, .int x2), (3, .int x3)] [] _
  unfold c_CC_init
  refine x_grd ?_
  refine x_aload_nR (pc := 0) (a := this) 0 rfl rfl dX18_init_0 ?_
  refine x_objInit (pc := 1) q1451 (by omega) (by decide) dX18_init_1 ?_
  refine x_aload_nR (pc := 4) (a := this) 0 rfl rfl dX18_init_4 ?_
  refine x_iload_n (pc := 5) 1 rfl rfl dX18_init_5 ?_
  refine x_pI (pc := 6) fi_X18_7 (fun _ => rfl) dX18_init_6 ?_
  intro h1
  refine x_aload_nR (pc := 9) (a := this) 0 rfl rfl dX18_init_9 ?_
  refine x_iload_n (pc := 10) 2 rfl rfl dX18_init_10 ?_
  refine x_pI (pc := 11) fi_X18_13 (fun _ => rfl) dX18_init_11 ?_
  intro h2
  refine x_aload_nR (pc := 14) (a := this) 0 rfl rfl dX18_init_14 ?_
  refine x_iload_n (pc := 15) 3 rfl rfl dX18_init_15 ?_
  refine x_pI (pc := 16) fi_X18_16 (fun _ => rfl) dX18_init_16 ?_
  intro h3
  exact x_vret (pc := 19) dX18_init_19
theorem si_X9_57 : SiU RX9 57 [7] ⟨RX9, "must", "(ZI)V"⟩ yX6_must cX6_must 3 none 2 := (siU_c (c := 7) (owner := "BitRopes$Reade\x72") rfl (by decide) ⟨q1411, q1412, (Or.inl q1413), q688, q117, q689⟩ (Or.inl rfl) ⟨by decide, by decide, by decide +kernel⟩ (siU_n (by decide)))
theorem fi_X9_126 : FI RX9 126 [7] 4 .int false true := (fi_c ci_7 (by decide) rfl rfl (Or.inl q363) (Or.inr q364) (fun h => absurd h (by decide)) fi_n)
theorem si_X9_70 : SiU RX9 70 [7] ⟨RX9, "next", "()V"⟩ yX6_next cX6_next 2 none 0 := (siU_c (c := 7) (owner := "BitRopes$Reade\x72") rfl (by decide) ⟨q1414, q1415, (Or.inl q1416), q598, q117, q603⟩ (Or.inl rfl) ⟨by decide, by decide, by decide +kernel⟩ (siU_n (by decide)))
theorem ni_X9_129 : NI RX9 129 15 [.int 0, .int 0, .int 0] := ⟨_, _, _, _, ci_15, q1446, q1447, q141, by decide +kernel, rfl⟩
theorem si_X9_131 : SiI RX9 131 yX18_init cX18_init 4 3 := ⟨q1450, q141, q1448, q1449, rfl, ⟨by decide, by decide, by decide +kernel⟩, by decide⟩
theorem fi_X9_54 : FI RX9 54 [7] 3 .int false true := (fi_c ci_7 (by decide) rfl rfl (Or.inl q358) (Or.inr q359) (fun h => absurd h (by decide)) fi_n)
theorem fi_X9_42 : FI RX9 42 [7] 10 .int false true := (fi_c ci_7 (by decide) rfl rfl (Or.inl q471) (Or.inl rfl) (fun h => absurd h (by decide)) fi_n)
theorem si_X9_88 : SiU RX9 88 [7] ⟨RX9, "is", "(I)Z"⟩ yX6_is_2 cX6_is_2 2 (some .boolean) 1 := (siU_c (c := 7) (owner := "BitRopes$Reade\x72") rfl (by decide) ⟨q1404, q1405, (Or.inl q1407), q882, q117, q887⟩ (Or.inl rfl) ⟨by decide, by decide, by decide +kernel⟩ (siU_n (by decide)))
theorem ni_X9_104 : NI RX9 104 14 [.int 0, .int 0] := ⟨_, _, _, _, ci_14, q1430, q1431, q140, by decide +kernel, rfl⟩
theorem fi_X9_106 : FI RX9 106 [0] 6 (.object "BitRopes$Room") false true := (fi_c ci_0 (by decide) rfl rfl (Or.inr ⟨_, q509⟩) (Or.inl rfl) (fun h => absurd h (by decide)) fi_n)
theorem fi_X9_110 : FI RX9 110 [2] 0 (.array .long) true false := (fi_c ci_2 (by decide) rfl rfl (Or.inr ⟨_, q257⟩) (Or.inl rfl) (fun _ h => absurd h (by decide)) fi_n)
theorem fi_X9_116 : FI RX9 116 [2] 1 .int false true := (fi_c ci_2 (by decide) rfl rfl (Or.inr ⟨_, q261⟩) (Or.inl rfl) (fun h => absurd h (by decide)) fi_n)
theorem si_X9_119 : SiU RX9 119 [7] ⟨RX9, "known", "([JI)I"⟩ yX6_known cX6_known 4 (some .int) 2 := (siU_c (c := 7) (owner := "BitRopes$Reade\x72") rfl (by decide) ⟨q1432, q1433, (Or.inl q1434), q1325, q117, q1326⟩ (Or.inl rfl) ⟨by decide, by decide, by decide +kernel⟩ (siU_n (by decide)))
theorem si_X9_123 : SiI RX9 123 yX17_init cX17_init 3 2 := ⟨q1437, q140, q1435, q1436, rfl, ⟨by decide, by decide, by decide +kernel⟩, by decide⟩
theorem si_X9_50 : SiV RX9 50 7 yX9_any cX9_any 3 (some (.object "BitRopes$Cond")) 1 := ⟨_, _, _, ci_7.1, by decide, lw_V q1387 q1389 qs35 q120 q1390, ⟨rfl, by decide, by decide, by decide +kernel⟩, by decide⟩
theorem si_X9_100 : SiU RX9 100 [7] ⟨RX9, "sign", "(I)V"⟩ yX6_sign cX6_sign 2 none 1 := (siU_c (c := 7) (owner := "BitRopes$Reade\x72") rfl (by decide) ⟨q1427, q1428, (Or.inl q1429), q879, q117, q880⟩ (Or.inl rfl) ⟨by decide, by decide, by decide +kernel⟩ (siU_n (by decide)))
theorem ni_X9_95 : NI RX9 95 13 [.null] := ⟨_, _, _, _, ci_13, q1417, q1418, q139, by decide +kernel, rfl⟩
theorem si_X9_78 : SiV RX9 78 7 yX9_single cX9_single 8 (some (.object "BitRopes$Cond")) 1 := ⟨_, _, _, ci_7.1, by decide, lw_V q1395 q1397 qs37 q120 q1398, ⟨rfl, by decide, by decide, by decide +kernel⟩, by decide⟩
theorem si_X9_97 : SiI RX9 97 yX16_init cX16_init 2 1 := ⟨q1421, q139, q1419, q1420, rfl, ⟨by decide, by decide, by decide +kernel⟩, by decide⟩
theorem si_X9_66 : SiU RX9 66 [7] ⟨RX9, "is", "(Ljava/lang/String;)Z"⟩ yX6_is cX6_is 3 (some .boolean) 1 := (siU_c (c := 7) (owner := "BitRopes$Reade\x72") rfl (by decide) ⟨q1400, q1401, (Or.inl q1403), q630, q117, q635⟩ (Or.inl rfl) ⟨by decide, by decide, by decide +kernel⟩ (siU_n (by decide)))
theorem si_X9_91 : SiU RX9 91 [7] ⟨RX9, "find", "([Ljava/lang/String;)I"⟩ yX6_find cX6_find 3 (some .int) 1 := (siU_c (c := 7) (owner := "BitRopes$Reade\x72") rfl (by decide) ⟨q1408, q1409, (Or.inl q1410), q627, q117, q628⟩ (Or.inl rfl) ⟨by decide, by decide, by decide +kernel⟩ (siU_n (by decide)))
abbrev Y_DS_single (d : Nat) : Yx := (RX9, cX9_single, 8, (14 + d + 1), (some (.object "BitRopes$Cond")), [], false)
def c_DS_single_j255 (rg : Nat → PH → Nat → Int32 → Option RH) (h : PH) (this : Nat) (x5 : Int32) (x6 : Int32) (s0 : Int32) (s1 : Nat) : Option RH :=
  hV (grd h s1 [7] (c_D_must h s1 s0 (1 : Int32))) rX fun h1 =>
  gI h1 this [7] 4 fun v2 =>
  hV (grd h1 this [7] (c_D_next h1 this)) noX fun h3 =>
  newO h3 15 [.int 0, .int 0, .int 0] fun a4 h5 =>
  hV (c_CC_init h5 a4 x5 x6 v2) noX fun h6 =>
  rQ (some a4) h6
def c_DS_single_j227 (rg : Nat → PH → Nat → Int32 → Option RH) (h : PH) (this : Nat) (x5 : Int32) (s0 : Int32) (s1 : Nat) : Option RH :=
  hV (grd h s1 [7] (c_D_must h s1 s0 (1 : Int32))) rX fun h1 =>
  gI h1 this [7] 4 fun v2 =>
  hV (grd h1 this [7] (c_D_next h1 this)) noX fun h3 =>
  gI h3 this [7] 3 fun v4 =>
  if v4 = (2 : Int32) then
    c_DS_single_j255 rg h3 this x5 v2 (1 : Int32) this
  else
    c_DS_single_j255 rg h3 this x5 v2 (0 : Int32) this
def c_DS_single_j222 (rg : Nat → PH → Nat → Int32 → Option RH) (h : PH) (this : Nat) (x5 : Int32) (s0 : Nat) : Option RH :=
  c_DS_single_j227 rg h this x5 (1 : Int32) s0
def c_DS_single_j85 (rg : Nat → PH → Nat → Int32 → Option RH) (h : PH) (this : Nat) (x1 : Int32) (x2 : Int32) (x3 : Int32) (x4 : Int32) (x5 : Int32) (s0 : Int32) (s1 : Nat) : Option RH :=
  hV (grd h s1 [7] (c_D_must h s1 s0 (4 : Int32))) rX fun h1 =>
  gI h1 this [7] 10 fun v2 =>
  pI h1 this [7] 10 (v2 + (1 : Int32)) fun h3 =>
  hV (grd h3 this [7] (c_D_next h3 this)) noX fun h4 =>
  if x2 = 0 then
    if x3 = 0 then
      if x4 = (-1 : Int32) then
        hI (grd h4 this [7] (c_D_is_2 h4 this (60 : Int32))) noX fun v6 h5 =>
        if v6 = 0 then
          hI (grd h5 this [7] (c_D_is_2 h5 this (61 : Int32))) noX fun v8 h7 =>
          if v8 = 0 then
            hI (grd h7 this [7] (c_D_is_2 h7 this (62 : Int32))) noX fun v10 h9 =>
            if v10 = 0 then
              c_DS_single_j227 rg h9 this x5 (0 : Int32) this
            else
              c_DS_single_j222 rg h9 this x5 this
          else
            c_DS_single_j222 rg h7 this x5 this
        else
          c_DS_single_j222 rg h5 this x5 this
      else
        newO h4 14 [.int 0, .int 0] fun a11 h12 =>
        if (2 : Int32) ≤ x4 then
          gQ h12 this [7] 11 fun v13 =>
          nn v13 fun a14 =>
          gQ h12 a14 [0] 6 fun v16 =>
          nn v16 fun a17 =>
          gQ h12 a17 [2] 0 fun v19 =>
          gQ h12 this [7] 11 fun v20 =>
          nn v20 fun a21 =>
          gQ h12 a21 [0] 6 fun v23 =>
          nn v23 fun a24 =>
          gI h12 a24 [2] 1 fun v26 =>
          nn v19 fun a27 =>
          hI (grd h12 this [7] (c_D_known h12 this a27 v26)) rX fun v30 h29 =>
          hV (c_CM_init h29 a11 x4 v30) noX fun h31 =>
          rQ (some a11) h31
        else
          hV (c_CM_init h12 a11 x4 (-1 : Int32)) noX fun h32 =>
          rQ (some a11) h32
    else
      hQ (grd h4 this [7] (rg 0 h4 this (x1 + (1 : Int32)))) rX fun v34 h33 =>
      hV (grd h33 this [7] (c_D_sign h33 this (41 : Int32))) rX fun h35 =>
      rQ v34 h35
  else
    newO h4 13 [.null] fun a36 h37 =>
    hQ (grd h37 this [7] (rg 2 h37 this (x1 + (1 : Int32)))) rX fun v39 h38 =>
    nn v39 fun a40 =>
    hV (c_CN_init h38 a36 a40) noX fun h42 =>
    rQ (some a36) h42
def c_DS_single_j84 (rg : Nat → PH → Nat → Int32 → Option RH) (h : PH) (this : Nat) (x1 : Int32) (x2 : Int32) (x3 : Int32) (x4 : Int32) (x5 : Int32) (s0 : Nat) : Option RH :=
  c_DS_single_j85 rg h this x1 x2 x3 x4 x5 (0 : Int32) s0
def c_DS_single_j60 (rg : Nat → PH → Nat → Int32 → Option RH) (h : PH) (this : Nat) (x1 : Int32) (x2 : Int32) (x3 : Int32) (x4 : Int32) (x5 : Int32) (s0 : Int32) (s1 : Nat) : Option RH :=
  hV (grd h s1 [7] (c_D_must h s1 s0 (1 : Int32))) rX fun h1 =>
  gI h1 this [7] 10 fun v2 =>
  if (20 : Int32) ≤ v2 then
    c_DS_single_j84 rg h1 this x1 x2 x3 x4 x5 this
  else
    if (8 : Int32) < x1 then
      c_DS_single_j84 rg h1 this x1 x2 x3 x4 x5 this
    else
      c_DS_single_j85 rg h1 this x1 x2 x3 x4 x5 (1 : Int32) this
def c_DS_single_j55 (rg : Nat → PH → Nat → Int32 → Option RH) (h : PH) (this : Nat) (x1 : Int32) (x2 : Int32) (x3 : Int32) (x4 : Int32) (x5 : Int32) (s0 : Nat) : Option RH :=
  c_DS_single_j60 rg h this x1 x2 x3 x4 x5 (1 : Int32) s0
def b_DS_single (rg : Nat → PH → Nat → Int32 → Option RH) (h : PH) (this : Nat) (x1 : Int32) : Option RH :=
  grd h this [7] (
  hI (grd h this [7] (c_D_is h this (h.2.2 13))) noX fun v2 h1 =>
  hI (grd h1 this [7] (c_D_is_2 h1 this (40 : Int32))) noX fun v4 h3 =>
  gQ h3 this [7] 8 fun v5 =>
  nn v5 fun a6 =>
  hI (grd h3 this [7] (c_D_find h3 this a6)) noX fun v9 h8 =>
  gQ h8 this [7] 9 fun v10 =>
  nn v10 fun a11 =>
  hI (grd h8 this [7] (c_D_find h8 this a11)) noX fun v14 h13 =>
  if v2 = 0 then
    if v4 = 0 then
      if v9 = (-1 : Int32) then
        if v14 = (-1 : Int32) then
          c_DS_single_j60 rg h13 this x1 v2 v4 v9 v14 (0 : Int32) this
        else
          c_DS_single_j55 rg h13 this x1 v2 v4 v9 v14 this
      else
        c_DS_single_j55 rg h13 this x1 v2 v4 v9 v14 this
    else
      c_DS_single_j55 rg h13 this x1 v2 v4 v9 v14 this
  else
    c_DS_single_j55 rg h13 this x1 v2 v4 v9 v14 this)
set_option maxHeartbeats 4000000 in
theorem w_DS_single_j255 (rg : Nat → PH → Nat → Int32 → Option RH) {d : Nat} (hrg : (∀ (h : PH) (this : Nat) (x1 : Int32), MM yX9_any (ws_ yX9_any cX9_any 3 (some (.object "BitRopes$Cond"))) (14 + d) [.ref this, .int x1] h (rg 0 h this x1)) ∧ (∀ (h : PH) (this : Nat) (x1 : Int32), MM yX9_both (ws_ yX9_both cX9_both 3 (some (.object "BitRopes$Cond"))) (14 + d) [.ref this, .int x1] h (rg 1 h this x1)) ∧ (∀ (h : PH) (this : Nat) (x1 : Int32), MM yX9_single (ws_ yX9_single cX9_single 8 (some (.object "BitRopes$Cond"))) (14 + d) [.ref this, .int x1] h (rg 2 h this x1))) (h : PH) (this : Nat) (x5 : Int32) (x6 : Int32) (s0 : Int32) (s1 : Nat) : Sim (Y_DS_single d) h 255 [(0, .ref this), (5, .int x5), (6, .int x6)] [.int s0, .ref s1] (c_DS_single_j255 rg h this x5 x6 s0 s1) := by
  unfold c_DS_single_j255
  refine x_iconst (pc := 255) (v := 1) (by decide) dX9_single_255 ?_
  refine x_callU (pc := 256) (As := [.int s0, .int (1 : Int32)]) (rest := []) (lev' := 2) si_X9_57 (MM.grd (m_D_must h s1 s0 (1 : Int32))) (fun z e => grdN e) rfl rfl (by omega) (cat4 (Nat.le_of_ble_eq_true rfl)) dX9_single_256 (kV (fun h1 => ?_)) (xOut (by decide))
  refine x_aload_nR (pc := 259) (a := this) 0 rfl rfl dX9_single_259 ?_
  refine x_getI (pc := 260) fi_X9_126 dX9_single_260 ?_
  intro v2
  refine x_istore (pc := 263) (lv' := [(7, .int v2), (0, .ref this), (5, .int x5), (6, .int x6)]) (by decide) rfl dX9_single_263 ?_
  refine x_aload_nR (pc := 265) (a := this) 1 rfl rfl dX9_single_265 ?_
  refine x_callU (pc := 266) (As := []) (rest := []) (lev' := 4) si_X9_70 (MM.grd (m_D_next h1 this)) (fun z e => grdN e) rfl rfl (by omega) (cat4 (Nat.le_of_ble_eq_true rfl)) dX9_single_266 (kV (fun h3 => ?_)) xNo
  refine x_new (pc := 269) ni_X9_129 dX9_single_269 ?_
  intro a4 h5
  refine x_dup (pc := 272) rfl dX9_single_272 ?_
  refine x_iload (pc := 273) 2 rfl dX9_single_273 ?_
  refine x_iload (pc := 275) 3 rfl dX9_single_275 ?_
  refine x_iload (pc := 277) 0 rfl dX9_single_277 ?_
  refine x_callI (pc := 279) (As := [.int x5, .int x6, .int v2]) (rest := [.ref a4]) (lev' := 1) si_X9_131 (m_CC_init h5 a4 x5 x6 v2) rfl rfl (by omega) (cat4 (Nat.le_of_ble_eq_true rfl)) dX9_single_279 (kV (fun h6 => ?_)) xNo
  exact x_aret (pc := 282) (v := (some a4)) (Or.inl ⟨_, rfl⟩) dX9_single_282
set_option maxHeartbeats 4000000 in
theorem w_DS_single_j227 (rg : Nat → PH → Nat → Int32 → Option RH) {d : Nat} (hrg : (∀ (h : PH) (this : Nat) (x1 : Int32), MM yX9_any (ws_ yX9_any cX9_any 3 (some (.object "BitRopes$Cond"))) (14 + d) [.ref this, .int x1] h (rg 0 h this x1)) ∧ (∀ (h : PH) (this : Nat) (x1 : Int32), MM yX9_both (ws_ yX9_both cX9_both 3 (some (.object "BitRopes$Cond"))) (14 + d) [.ref this, .int x1] h (rg 1 h this x1)) ∧ (∀ (h : PH) (this : Nat) (x1 : Int32), MM yX9_single (ws_ yX9_single cX9_single 8 (some (.object "BitRopes$Cond"))) (14 + d) [.ref this, .int x1] h (rg 2 h this x1))) (h : PH) (this : Nat) (x5 : Int32) (s0 : Int32) (s1 : Nat) : Sim (Y_DS_single d) h 227 [(0, .ref this), (5, .int x5)] [.int s0, .ref s1] (c_DS_single_j227 rg h this x5 s0 s1) := by
  unfold c_DS_single_j227
  refine x_iconst (pc := 227) (v := 1) (by decide) dX9_single_227 ?_
  refine x_callU (pc := 228) (As := [.int s0, .int (1 : Int32)]) (rest := []) (lev' := 2) si_X9_57 (MM.grd (m_D_must h s1 s0 (1 : Int32))) (fun z e => grdN e) rfl rfl (by omega) (cat4 (Nat.le_of_ble_eq_true rfl)) dX9_single_228 (kV (fun h1 => ?_)) (xOut (by decide))
  refine x_aload_nR (pc := 231) (a := this) 0 rfl rfl dX9_single_231 ?_
  refine x_getI (pc := 232) fi_X9_126 dX9_single_232 ?_
  intro v2
  refine x_istore (pc := 235) (lv' := [(6, .int v2), (0, .ref this), (5, .int x5)]) (by decide) rfl dX9_single_235 ?_
  refine x_aload_nR (pc := 237) (a := this) 1 rfl rfl dX9_single_237 ?_
  refine x_callU (pc := 238) (As := []) (rest := []) (lev' := 4) si_X9_70 (MM.grd (m_D_next h1 this)) (fun z e => grdN e) rfl rfl (by omega) (cat4 (Nat.le_of_ble_eq_true rfl)) dX9_single_238 (kV (fun h3 => ?_)) xNo
  refine x_aload_nR (pc := 241) (a := this) 1 rfl rfl dX9_single_241 ?_
  refine x_aload_nR (pc := 242) (a := this) 1 rfl rfl dX9_single_242 ?_
  refine x_getI (pc := 243) fi_X9_54 dX9_single_243 ?_
  intro v4
  refine x_iconst (pc := 246) (v := 2) (by decide) dX9_single_246 ?_
  refine x_icmp_ne (pc := 247) 254 (by decide) dX9_single_247 ?_ ?_
  · refine x_iconst (pc := 254) (v := 0) (by decide) dX9_single_254 ?_
    refine Sim.lv [1, 2, 0] rfl ?_
    exact w_DS_single_j255 rg hrg h3 this x5 v2 (0 : Int32) this
  · refine x_iconst (pc := 250) (v := 1) (by decide) dX9_single_250 ?_
    refine x_goto (pc := 251) 255 (by decide) dX9_single_251 ?_
    refine Sim.lv [1, 2, 0] rfl ?_
    exact w_DS_single_j255 rg hrg h3 this x5 v2 (1 : Int32) this
set_option maxHeartbeats 4000000 in
theorem w_DS_single_j222 (rg : Nat → PH → Nat → Int32 → Option RH) {d : Nat} (hrg : (∀ (h : PH) (this : Nat) (x1 : Int32), MM yX9_any (ws_ yX9_any cX9_any 3 (some (.object "BitRopes$Cond"))) (14 + d) [.ref this, .int x1] h (rg 0 h this x1)) ∧ (∀ (h : PH) (this : Nat) (x1 : Int32), MM yX9_both (ws_ yX9_both cX9_both 3 (some (.object "BitRopes$Cond"))) (14 + d) [.ref this, .int x1] h (rg 1 h this x1)) ∧ (∀ (h : PH) (this : Nat) (x1 : Int32), MM yX9_single (ws_ yX9_single cX9_single 8 (some (.object "BitRopes$Cond"))) (14 + d) [.ref this, .int x1] h (rg 2 h this x1))) (h : PH) (this : Nat) (x5 : Int32) (s0 : Nat) : Sim (Y_DS_single d) h 222 [(0, .ref this), (5, .int x5)] [.ref s0] (c_DS_single_j222 rg h this x5 s0) := by
  unfold c_DS_single_j222
  refine x_iconst (pc := 222) (v := 1) (by decide) dX9_single_222 ?_
  refine x_goto (pc := 223) 227 (by decide) dX9_single_223 ?_
  exact w_DS_single_j227 rg hrg h this x5 (1 : Int32) s0
set_option maxHeartbeats 4000000 in
theorem w_DS_single_j85 (rg : Nat → PH → Nat → Int32 → Option RH) {d : Nat} (hrg : (∀ (h : PH) (this : Nat) (x1 : Int32), MM yX9_any (ws_ yX9_any cX9_any 3 (some (.object "BitRopes$Cond"))) (14 + d) [.ref this, .int x1] h (rg 0 h this x1)) ∧ (∀ (h : PH) (this : Nat) (x1 : Int32), MM yX9_both (ws_ yX9_both cX9_both 3 (some (.object "BitRopes$Cond"))) (14 + d) [.ref this, .int x1] h (rg 1 h this x1)) ∧ (∀ (h : PH) (this : Nat) (x1 : Int32), MM yX9_single (ws_ yX9_single cX9_single 8 (some (.object "BitRopes$Cond"))) (14 + d) [.ref this, .int x1] h (rg 2 h this x1))) (h : PH) (this : Nat) (x1 : Int32) (x2 : Int32) (x3 : Int32) (x4 : Int32) (x5 : Int32) (s0 : Int32) (s1 : Nat) : Sim (Y_DS_single d) h 85 [(0, .ref this), (1, .int x1), (2, .int x2), (3, .int x3), (4, .int x4), (5, .int x5)] [.int s0, .ref s1] (c_DS_single_j85 rg h this x1 x2 x3 x4 x5 s0 s1) := by
  unfold c_DS_single_j85
  refine x_iconst (pc := 85) (v := 4) (by decide) dX9_single_85 ?_
  refine x_callU (pc := 86) (As := [.int s0, .int (4 : Int32)]) (rest := []) (lev' := 2) si_X9_57 (MM.grd (m_D_must h s1 s0 (4 : Int32))) (fun z e => grdN e) rfl rfl (by omega) (cat4 (Nat.le_of_ble_eq_true rfl)) dX9_single_86 (kV (fun h1 => ?_)) (xOut (by decide))
  refine x_aload_nR (pc := 89) (a := this) 0 rfl rfl dX9_single_89 ?_
  refine x_dup (pc := 90) rfl dX9_single_90 ?_
  refine x_getI (pc := 91) fi_X9_42 dX9_single_91 ?_
  intro v2
  refine x_iconst (pc := 94) (v := 1) (by decide) dX9_single_94 ?_
  refine x_iadd (pc := 95) dX9_single_95 ?_
  refine x_pI (pc := 96) fi_X9_42 (fun z => absurd z (by decide)) dX9_single_96 ?_
  intro h3
  refine x_aload_nR (pc := 99) (a := this) 0 rfl rfl dX9_single_99 ?_
  refine x_callU (pc := 100) (As := []) (rest := []) (lev' := 4) si_X9_70 (MM.grd (m_D_next h3 this)) (fun z e => grdN e) rfl rfl (by omega) (cat4 (Nat.le_of_ble_eq_true rfl)) dX9_single_100 (kV (fun h4 => ?_)) xNo
  refine x_iload_n (pc := 103) 2 rfl rfl dX9_single_103 ?_
  refine x_if_eq (pc := 104) 122 (by decide) dX9_single_104 ?_ ?_
  · refine x_iload_n (pc := 122) 3 rfl rfl dX9_single_122 ?_
    refine x_if_eq (pc := 123) 144 (by decide) dX9_single_123 ?_ ?_
    · refine x_iload (pc := 144) 4 rfl dX9_single_144 ?_
      refine x_iconst (pc := 146) (v := (-1)) (by decide) dX9_single_146 ?_
      refine x_icmp_eq (pc := 147) 194 (by decide) dX9_single_147 ?_ ?_
      · refine x_aload_nR (pc := 194) (a := this) 0 rfl rfl dX9_single_194 ?_
        refine x_aload_nR (pc := 195) (a := this) 0 rfl rfl dX9_single_195 ?_
        refine x_bipush (pc := 196) (v := 60) (by decide) dX9_single_196 ?_
        refine x_callU (pc := 198) (As := [.int (60 : Int32)]) (rest := [.ref this]) (lev' := 1) si_X9_88 (MM.grd (m_D_is_2 h4 this (60 : Int32))) (fun z e => grdN e) rfl rfl (by omega) (cat4 (Nat.le_of_ble_eq_true rfl)) dX9_single_198 (kI (fun v6 h5 => ?_)) xNo
        refine x_if_ne (pc := 201) 222 (by decide) dX9_single_201 ?_ ?_
        · refine Sim.lv [0, 5] rfl ?_
          exact w_DS_single_j222 rg hrg h5 this x5 this
        · refine x_aload_nR (pc := 204) (a := this) 0 rfl rfl dX9_single_204 ?_
          refine x_bipush (pc := 205) (v := 61) (by decide) dX9_single_205 ?_
          refine x_callU (pc := 207) (As := [.int (61 : Int32)]) (rest := [.ref this]) (lev' := 1) si_X9_88 (MM.grd (m_D_is_2 h5 this (61 : Int32))) (fun z e => grdN e) rfl rfl (by omega) (cat4 (Nat.le_of_ble_eq_true rfl)) dX9_single_207 (kI (fun v8 h7 => ?_)) xNo
          refine x_if_ne (pc := 210) 222 (by decide) dX9_single_210 ?_ ?_
          · refine Sim.lv [0, 5] rfl ?_
            exact w_DS_single_j222 rg hrg h7 this x5 this
          · refine x_aload_nR (pc := 213) (a := this) 0 rfl rfl dX9_single_213 ?_
            refine x_bipush (pc := 214) (v := 62) (by decide) dX9_single_214 ?_
            refine x_callU (pc := 216) (As := [.int (62 : Int32)]) (rest := [.ref this]) (lev' := 1) si_X9_88 (MM.grd (m_D_is_2 h7 this (62 : Int32))) (fun z e => grdN e) rfl rfl (by omega) (cat4 (Nat.le_of_ble_eq_true rfl)) dX9_single_216 (kI (fun v10 h9 => ?_)) xNo
            refine x_if_eq (pc := 219) 226 (by decide) dX9_single_219 ?_ ?_
            · refine x_iconst (pc := 226) (v := 0) (by decide) dX9_single_226 ?_
              refine Sim.lv [0, 5] rfl ?_
              exact w_DS_single_j227 rg hrg h9 this x5 (0 : Int32) this
            · refine Sim.lv [0, 5] rfl ?_
              exact w_DS_single_j222 rg hrg h9 this x5 this
      · refine x_new (pc := 150) ni_X9_104 dX9_single_150 ?_
        intro a11 h12
        refine x_dup (pc := 153) rfl dX9_single_153 ?_
        refine x_iload (pc := 154) 4 rfl dX9_single_154 ?_
        refine x_iload (pc := 156) 4 rfl dX9_single_156 ?_
        refine x_iconst (pc := 158) (v := 2) (by decide) dX9_single_158 ?_
        refine x_icmp_ge (pc := 159) 166 (by decide) dX9_single_159 ?_ ?_
        · refine x_aload_nR (pc := 166) (a := this) 0 rfl rfl dX9_single_166 ?_
          refine x_aload_nR (pc := 167) (a := this) 0 rfl rfl dX9_single_167 ?_
          refine x_getQ (pc := 168) fi_X9_3 dX9_single_168 ?_
          intro v13
          refine x_nn (fun a14 e15 => ?_)
          subst e15
          refine x_getQ (pc := 171) fi_X9_106 dX9_single_171 ?_
          intro v16
          refine x_nn (fun a17 e18 => ?_)
          subst e18
          refine x_getQ (pc := 174) fi_X9_110 dX9_single_174 ?_
          intro v19
          refine x_aload_nR (pc := 177) (a := this) 0 rfl rfl dX9_single_177 ?_
          refine x_getQ (pc := 178) fi_X9_3 dX9_single_178 ?_
          intro v20
          refine x_nn (fun a21 e22 => ?_)
          subst e22
          refine x_getQ (pc := 181) fi_X9_106 dX9_single_181 ?_
          intro v23
          refine x_nn (fun a24 e25 => ?_)
          subst e25
          refine x_getI (pc := 184) fi_X9_116 dX9_single_184 ?_
          intro v26
          refine x_nn (fun a27 e28 => ?_)
          subst e28
          refine x_callU (pc := 187) (As := [.ref a27, .int v26]) (rest := [.int x4, .ref a11, .ref a11]) (lev' := 13) si_X9_119 (MM.grd (m_D_known h12 this a27 v26)) (fun z e => grdN e) rfl rfl (by omega) (cat4 (Nat.le_of_ble_eq_true rfl)) dX9_single_187 (kI (fun v30 h29 => ?_)) (xOut (by decide))
          refine x_callI (pc := 190) (As := [.int x4, .int v30]) (rest := [.ref a11]) (lev' := 1) si_X9_123 (m_CM_init h29 a11 x4 v30) rfl rfl (by omega) (cat4 (Nat.le_of_ble_eq_true rfl)) dX9_single_190 (kV (fun h31 => ?_)) xNo
          exact x_aret (pc := 193) (v := (some a11)) (Or.inl ⟨_, rfl⟩) dX9_single_193
        · refine x_iconst (pc := 162) (v := (-1)) (by decide) dX9_single_162 ?_
          refine x_goto (pc := 163) 190 (by decide) dX9_single_163 ?_
          refine x_callI (pc := 190) (As := [.int x4, .int (-1 : Int32)]) (rest := [.ref a11]) (lev' := 1) si_X9_123 (m_CM_init h12 a11 x4 (-1 : Int32)) rfl rfl (by omega) (cat4 (Nat.le_of_ble_eq_true rfl)) dX9_single_190 (kV (fun h32 => ?_)) xNo
          exact x_aret (pc := 193) (v := (some a11)) (Or.inl ⟨_, rfl⟩) dX9_single_193
    · refine x_aload_nR (pc := 126) (a := this) 0 rfl rfl dX9_single_126 ?_
      refine x_iload_n (pc := 127) 1 rfl rfl dX9_single_127 ?_
      refine x_iconst (pc := 128) (v := 1) (by decide) dX9_single_128 ?_
      refine x_iadd (pc := 129) dX9_single_129 ?_
      refine x_callV (pc := 130) (As := [.int (x1 + (1 : Int32))]) (rest := []) (lev' := (14 + d)) si_X9_50 (MM.grd (hrg.1 h4 this (x1 + (1 : Int32)))) (fun z e => grd1 e) rfl rfl (by omega) (cat4 (Nat.le_of_ble_eq_true rfl)) dX9_single_130 (kQ (fun v34 h33 => ?_)) (xOut (by decide))
      refine x_astore (pc := 133) (r := v34) (lv' := [(6, va_rf v34), (0, .ref this), (1, .int x1), (2, .int x2), (3, .int x3), (4, .int x4), (5, .int x5)]) (by decide) rfl dX9_single_133 ?_
      refine x_aload_nR (pc := 135) (a := this) 1 rfl rfl dX9_single_135 ?_
      refine x_bipush (pc := 136) (v := 41) (by decide) dX9_single_136 ?_
      refine x_callU (pc := 138) (As := [.int (41 : Int32)]) (rest := []) (lev' := 5) si_X9_100 (MM.grd (m_D_sign h33 this (41 : Int32))) (fun z e => grdN e) rfl rfl (by omega) (cat4 (Nat.le_of_ble_eq_true rfl)) dX9_single_138 (kV (fun h35 => ?_)) (xOut (by decide))
      refine x_aload (pc := 141) (r := v34) 0 rfl dX9_single_141 ?_
      exact x_aret (pc := 143) (v := v34) (Or.inl ⟨_, rfl⟩) dX9_single_143
  · refine x_new (pc := 107) ni_X9_95 dX9_single_107 ?_
    intro a36 h37
    refine x_dup (pc := 110) rfl dX9_single_110 ?_
    refine x_aload_nR (pc := 111) (a := this) 0 rfl rfl dX9_single_111 ?_
    refine x_iload_n (pc := 112) 1 rfl rfl dX9_single_112 ?_
    refine x_iconst (pc := 113) (v := 1) (by decide) dX9_single_113 ?_
    refine x_iadd (pc := 114) dX9_single_114 ?_
    refine x_callV (pc := 115) (As := [.int (x1 + (1 : Int32))]) (rest := [.ref a36, .ref a36]) (lev' := (14 + d)) si_X9_78 (MM.grd (hrg.2.2 h37 this (x1 + (1 : Int32)))) (fun z e => grd1 e) rfl rfl (by omega) (cat4 (Nat.le_of_ble_eq_true rfl)) dX9_single_115 (kQ (fun v39 h38 => ?_)) (xOut (by decide))
    refine x_nn (fun a40 e41 => ?_)
    subst e41
    refine x_callI (pc := 118) (As := [.ref a40]) (rest := [.ref a36]) (lev' := 1) si_X9_97 (m_CN_init h38 a36 a40) rfl rfl (by omega) (cat4 (Nat.le_of_ble_eq_true rfl)) dX9_single_118 (kV (fun h42 => ?_)) xNo
    exact x_aret (pc := 121) (v := (some a36)) (Or.inl ⟨_, rfl⟩) dX9_single_121
set_option maxHeartbeats 4000000 in
theorem w_DS_single_j84 (rg : Nat → PH → Nat → Int32 → Option RH) {d : Nat} (hrg : (∀ (h : PH) (this : Nat) (x1 : Int32), MM yX9_any (ws_ yX9_any cX9_any 3 (some (.object "BitRopes$Cond"))) (14 + d) [.ref this, .int x1] h (rg 0 h this x1)) ∧ (∀ (h : PH) (this : Nat) (x1 : Int32), MM yX9_both (ws_ yX9_both cX9_both 3 (some (.object "BitRopes$Cond"))) (14 + d) [.ref this, .int x1] h (rg 1 h this x1)) ∧ (∀ (h : PH) (this : Nat) (x1 : Int32), MM yX9_single (ws_ yX9_single cX9_single 8 (some (.object "BitRopes$Cond"))) (14 + d) [.ref this, .int x1] h (rg 2 h this x1))) (h : PH) (this : Nat) (x1 : Int32) (x2 : Int32) (x3 : Int32) (x4 : Int32) (x5 : Int32) (s0 : Nat) : Sim (Y_DS_single d) h 84 [(0, .ref this), (1, .int x1), (2, .int x2), (3, .int x3), (4, .int x4), (5, .int x5)] [.ref s0] (c_DS_single_j84 rg h this x1 x2 x3 x4 x5 s0) := by
  unfold c_DS_single_j84
  refine x_iconst (pc := 84) (v := 0) (by decide) dX9_single_84 ?_
  exact w_DS_single_j85 rg hrg h this x1 x2 x3 x4 x5 (0 : Int32) s0
set_option maxHeartbeats 4000000 in
theorem w_DS_single_j60 (rg : Nat → PH → Nat → Int32 → Option RH) {d : Nat} (hrg : (∀ (h : PH) (this : Nat) (x1 : Int32), MM yX9_any (ws_ yX9_any cX9_any 3 (some (.object "BitRopes$Cond"))) (14 + d) [.ref this, .int x1] h (rg 0 h this x1)) ∧ (∀ (h : PH) (this : Nat) (x1 : Int32), MM yX9_both (ws_ yX9_both cX9_both 3 (some (.object "BitRopes$Cond"))) (14 + d) [.ref this, .int x1] h (rg 1 h this x1)) ∧ (∀ (h : PH) (this : Nat) (x1 : Int32), MM yX9_single (ws_ yX9_single cX9_single 8 (some (.object "BitRopes$Cond"))) (14 + d) [.ref this, .int x1] h (rg 2 h this x1))) (h : PH) (this : Nat) (x1 : Int32) (x2 : Int32) (x3 : Int32) (x4 : Int32) (x5 : Int32) (s0 : Int32) (s1 : Nat) : Sim (Y_DS_single d) h 60 [(0, .ref this), (1, .int x1), (2, .int x2), (3, .int x3), (4, .int x4), (5, .int x5)] [.int s0, .ref s1] (c_DS_single_j60 rg h this x1 x2 x3 x4 x5 s0 s1) := by
  unfold c_DS_single_j60
  refine x_iconst (pc := 60) (v := 1) (by decide) dX9_single_60 ?_
  refine x_callU (pc := 61) (As := [.int s0, .int (1 : Int32)]) (rest := []) (lev' := 2) si_X9_57 (MM.grd (m_D_must h s1 s0 (1 : Int32))) (fun z e => grdN e) rfl rfl (by omega) (cat4 (Nat.le_of_ble_eq_true rfl)) dX9_single_61 (kV (fun h1 => ?_)) (xOut (by decide))
  refine x_aload_nR (pc := 64) (a := this) 0 rfl rfl dX9_single_64 ?_
  refine x_aload_nR (pc := 65) (a := this) 0 rfl rfl dX9_single_65 ?_
  refine x_getI (pc := 66) fi_X9_42 dX9_single_66 ?_
  intro v2
  refine x_bipush (pc := 69) (v := 20) (by decide) dX9_single_69 ?_
  refine x_icmp_ge (pc := 71) 84 (by decide) dX9_single_71 ?_ ?_
  · exact w_DS_single_j84 rg hrg h1 this x1 x2 x3 x4 x5 this
  · refine x_iload_n (pc := 74) 1 rfl rfl dX9_single_74 ?_
    refine x_bipush (pc := 75) (v := 8) (by decide) dX9_single_75 ?_
    refine x_icmp_gt (pc := 77) 84 (by decide) dX9_single_77 ?_ ?_
    · exact w_DS_single_j84 rg hrg h1 this x1 x2 x3 x4 x5 this
    · refine x_iconst (pc := 80) (v := 1) (by decide) dX9_single_80 ?_
      refine x_goto (pc := 81) 85 (by decide) dX9_single_81 ?_
      exact w_DS_single_j85 rg hrg h1 this x1 x2 x3 x4 x5 (1 : Int32) this
set_option maxHeartbeats 4000000 in
theorem w_DS_single_j55 (rg : Nat → PH → Nat → Int32 → Option RH) {d : Nat} (hrg : (∀ (h : PH) (this : Nat) (x1 : Int32), MM yX9_any (ws_ yX9_any cX9_any 3 (some (.object "BitRopes$Cond"))) (14 + d) [.ref this, .int x1] h (rg 0 h this x1)) ∧ (∀ (h : PH) (this : Nat) (x1 : Int32), MM yX9_both (ws_ yX9_both cX9_both 3 (some (.object "BitRopes$Cond"))) (14 + d) [.ref this, .int x1] h (rg 1 h this x1)) ∧ (∀ (h : PH) (this : Nat) (x1 : Int32), MM yX9_single (ws_ yX9_single cX9_single 8 (some (.object "BitRopes$Cond"))) (14 + d) [.ref this, .int x1] h (rg 2 h this x1))) (h : PH) (this : Nat) (x1 : Int32) (x2 : Int32) (x3 : Int32) (x4 : Int32) (x5 : Int32) (s0 : Nat) : Sim (Y_DS_single d) h 55 [(0, .ref this), (1, .int x1), (2, .int x2), (3, .int x3), (4, .int x4), (5, .int x5)] [.ref s0] (c_DS_single_j55 rg h this x1 x2 x3 x4 x5 s0) := by
  unfold c_DS_single_j55
  refine x_iconst (pc := 55) (v := 1) (by decide) dX9_single_55 ?_
  refine x_goto (pc := 56) 60 (by decide) dX9_single_56 ?_
  exact w_DS_single_j60 rg hrg h this x1 x2 x3 x4 x5 (1 : Int32) s0
set_option maxHeartbeats 4000000 in
theorem t_DS_single (rg : Nat → PH → Nat → Int32 → Option RH) {d : Nat} (hrg : (∀ (h : PH) (this : Nat) (x1 : Int32), MM yX9_any (ws_ yX9_any cX9_any 3 (some (.object "BitRopes$Cond"))) (14 + d) [.ref this, .int x1] h (rg 0 h this x1)) ∧ (∀ (h : PH) (this : Nat) (x1 : Int32), MM yX9_both (ws_ yX9_both cX9_both 3 (some (.object "BitRopes$Cond"))) (14 + d) [.ref this, .int x1] h (rg 1 h this x1)) ∧ (∀ (h : PH) (this : Nat) (x1 : Int32), MM yX9_single (ws_ yX9_single cX9_single 8 (some (.object "BitRopes$Cond"))) (14 + d) [.ref this, .int x1] h (rg 2 h this x1))) (h : PH) (this : Nat) (x1 : Int32) : MM yX9_single (ws_ yX9_single cX9_single 8 (some (.object "BitRopes$Cond"))) (14 + d + 1) [.ref this, .int x1] h (b_DS_single rg h this x1) := by
  refine MM.of (by decide) rfl (by decide) (Nat.le_of_ble_eq_true rfl) (own := RX9) (cc := cX9_single) (maxL := 8) (lev := (14 + d + 1)) (rt := (some (.object "BitRopes$Cond"))) (ini := false) ?_
  show Sim (Y_DS_single d) h 0 [(0, .ref this), (1, .int x1)] [] _
  unfold b_DS_single
  refine x_grd ?_
  refine x_aload_nR (pc := 0) (a := this) 0 rfl rfl dX9_single_0 ?_
  refine x_ldcS (pc := 1) (k := 13) (tx := "not") (by decide +kernel) dX9_single_1 ?_
  refine x_callU (pc := 3) (As := [.ref (h.2.2 13)]) (rest := []) (lev' := 9) si_X9_66 (MM.grd (m_D_is h this (h.2.2 13))) (fun z e => grdN e) rfl rfl (by omega) (cat4 (Nat.le_of_ble_eq_true rfl)) dX9_single_3 (kI (fun v2 h1 => ?_)) xNo
  refine x_istore_n (pc := 6) (lv' := [(2, .int v2), (0, .ref this), (1, .int x1)]) rfl (by decide) rfl dX9_single_6 ?_
  refine x_aload_nR (pc := 7) (a := this) 1 rfl rfl dX9_single_7 ?_
  refine x_bipush (pc := 8) (v := 40) (by decide) dX9_single_8 ?_
  refine x_callU (pc := 10) (As := [.int (40 : Int32)]) (rest := []) (lev' := 1) si_X9_88 (MM.grd (m_D_is_2 h1 this (40 : Int32))) (fun z e => grdN e) rfl rfl (by omega) (cat4 (Nat.le_of_ble_eq_true rfl)) dX9_single_10 (kI (fun v4 h3 => ?_)) xNo
  refine x_istore_n (pc := 13) (lv' := [(3, .int v4), (2, .int v2), (0, .ref this), (1, .int x1)]) rfl (by decide) rfl dX9_single_13 ?_
  refine x_aload_nR (pc := 14) (a := this) 2 rfl rfl dX9_single_14 ?_
  refine x_aload_nR (pc := 15) (a := this) 2 rfl rfl dX9_single_15 ?_
  refine x_getQ (pc := 16) fi_X9_25 dX9_single_16 ?_
  intro v5
  refine x_nn (fun a6 e7 => ?_)
  subst e7
  refine x_callU (pc := 19) (As := [.ref a6]) (rest := []) (lev' := 10) si_X9_91 (MM.grd (m_D_find h3 this a6)) (fun z e => grdN e) rfl rfl (by omega) (cat4 (Nat.le_of_ble_eq_true rfl)) dX9_single_19 (kI (fun v9 h8 => ?_)) xNo
  refine x_istore (pc := 22) (lv' := [(4, .int v9), (3, .int v4), (2, .int v2), (0, .ref this), (1, .int x1)]) (by decide) rfl dX9_single_22 ?_
  refine x_aload_nR (pc := 24) (a := this) 3 rfl rfl dX9_single_24 ?_
  refine x_aload_nR (pc := 25) (a := this) 3 rfl rfl dX9_single_25 ?_
  refine x_getQ (pc := 26) fi_X9_39 dX9_single_26 ?_
  intro v10
  refine x_nn (fun a11 e12 => ?_)
  subst e12
  refine x_callU (pc := 29) (As := [.ref a11]) (rest := []) (lev' := 10) si_X9_91 (MM.grd (m_D_find h8 this a11)) (fun z e => grdN e) rfl rfl (by omega) (cat4 (Nat.le_of_ble_eq_true rfl)) dX9_single_29 (kI (fun v14 h13 => ?_)) xNo
  refine x_istore (pc := 32) (lv' := [(5, .int v14), (4, .int v9), (3, .int v4), (2, .int v2), (0, .ref this), (1, .int x1)]) (by decide) rfl dX9_single_32 ?_
  refine x_aload_nR (pc := 34) (a := this) 4 rfl rfl dX9_single_34 ?_
  refine x_iload_n (pc := 35) 3 rfl rfl dX9_single_35 ?_
  refine x_if_ne (pc := 36) 55 (by decide) dX9_single_36 ?_ ?_
  · refine Sim.lv [4, 5, 3, 2, 1, 0] rfl ?_
    exact w_DS_single_j55 rg hrg h13 this x1 v2 v4 v9 v14 this
  · refine x_iload_n (pc := 39) 2 rfl rfl dX9_single_39 ?_
    refine x_if_ne (pc := 40) 55 (by decide) dX9_single_40 ?_ ?_
    · refine Sim.lv [4, 5, 3, 2, 1, 0] rfl ?_
      exact w_DS_single_j55 rg hrg h13 this x1 v2 v4 v9 v14 this
    · refine x_iload (pc := 43) 1 rfl dX9_single_43 ?_
      refine x_iconst (pc := 45) (v := (-1)) (by decide) dX9_single_45 ?_
      refine x_icmp_ne (pc := 46) 55 (by decide) dX9_single_46 ?_ ?_
      · refine Sim.lv [4, 5, 3, 2, 1, 0] rfl ?_
        exact w_DS_single_j55 rg hrg h13 this x1 v2 v4 v9 v14 this
      · refine x_iload (pc := 49) 0 rfl dX9_single_49 ?_
        refine x_iconst (pc := 51) (v := (-1)) (by decide) dX9_single_51 ?_
        refine x_icmp_eq (pc := 52) 59 (by decide) dX9_single_52 ?_ ?_
        · refine x_iconst (pc := 59) (v := 0) (by decide) dX9_single_59 ?_
          refine Sim.lv [4, 5, 3, 2, 1, 0] rfl ?_
          exact w_DS_single_j60 rg hrg h13 this x1 v2 v4 v9 v14 (0 : Int32) this
        · refine Sim.lv [4, 5, 3, 2, 1, 0] rfl ?_
          exact w_DS_single_j55 rg hrg h13 this x1 v2 v4 v9 v14 this
theorem fi_X19_7 : FI RX19 7 [16] 0 (.object "BitRopes$Cond") true true := (fi_c ci_16 (by decide) rfl rfl (Or.inl q1469) (Or.inl rfl) (fun _ _ => rfl) fi_n)
theorem fi_X19_13 : FI RX19 13 [16] 1 (.object "BitRopes$Cond") true true := (fi_c ci_16 (by decide) rfl rfl (Or.inl q1470) (Or.inl rfl) (fun _ _ => rfl) fi_n)
abbrev Y_CB_init : Yx := (RX19, cX19_init, 3, 1, none, [], true)
def c_CB_init (h : PH) (this : Nat) (x1 : Nat) (x2 : Nat) : Option RH :=
  grd h this [16] (
  pQ h this [16] 0 (some x1) fun h1 =>
  pQ h1 this [16] 1 (some x2) fun h2 =>
  rV h2)
set_option maxHeartbeats 4000000 in
theorem m_CB_init (h : PH) (this : Nat) (x1 : Nat) (x2 : Nat) : MM yX19_init (ws_ yX19_init cX19_init 3 none) 1 [.ref this, .ref x1, .ref x2] h (c_CB_init h this x1 x2) := by
  refine MM.of (by decide) rfl (by decide) (Nat.le_of_ble_eq_true rfl) (own := RX19) (cc := cX19_init) (maxL := 3) (lev := 1) (rt := none) (ini := true) ?_
  show Sim Y_CB_init h 0 [(0, .ref this), (1, .ref x1), (2, .ref x2)] [] _
  unfold c_CB_init
  refine x_grd ?_
  refine x_aload_nR (pc := 0) (a := this) 0 rfl rfl dX19_init_0 ?_
  refine x_objInit (pc := 1) q1468 (by omega) (by decide) dX19_init_1 ?_
  refine x_aload_nR (pc := 4) (a := this) 0 rfl rfl dX19_init_4 ?_
  refine x_aload_nR (pc := 5) (a := x1) 1 rfl rfl dX19_init_5 ?_
  refine x_pQ (pc := 6) (v := (some x1)) fi_X19_7 (fun _ => rfl) dX19_init_6 ?_
  intro h1
  refine x_aload_nR (pc := 9) (a := this) 0 rfl rfl dX19_init_9 ?_
  refine x_aload_nR (pc := 10) (a := x2) 2 rfl rfl dX19_init_10 ?_
  refine x_pQ (pc := 11) (v := (some x2)) fi_X19_13 (fun _ => rfl) dX19_init_11 ?_
  intro h2
  exact x_vret (pc := 14) dX19_init_14
