set_option maxRecDepth 100000
theorem si_X10_362 : SiV RX10 362 8 yX10_allBits cX10_allBits 3 (some .int) 0 := ⟨_, _, _, ci_8.1, by decide, lw_V q2229 q2231 qs97 q121 q2232, ⟨rfl, by decide, by decide, by decide +kernel⟩, by decide⟩
theorem fi_X10_365 : FI RX10 365 [8] 33 .boolean false true := (fi_c ci_8 (by decide) rfl rfl (Or.inl q1719) (Or.inl rfl) (fun h => absurd h (by decide)) fi_n)
theorem si_X10_359 : SiV RX10 359 8 yX10_goBy cX10_goBy 4 (some .int) 1 := ⟨_, _, _, ci_8.1, by decide, lw_V q2225 q2227 qs96 q121 q2228, ⟨rfl, by decide, by decide, by decide +kernel⟩, by decide⟩
theorem si_X10_356 : SiV RX10 356 8 yX10_readBookLine cX10_readBookLine 4 (some .boolean) 0 := ⟨_, _, _, ci_8.1, by decide, lw_V q2209 q2211 qs92 q121 q2212, ⟨rfl, by decide, by decide, by decide +kernel⟩, by decide⟩
abbrev Y_M_book : Yx := (RX10, cX10_book, 4, 8, (some .int), [], false)
def c_M_book_j166 (h : PH) (x2 : Int32) (x3 : Int32) (s0 : Int32) (s1 : Nat) : Option RH :=
  hV (c_M_stay h s1 s0) noX fun h1 =>
  if x3 = 0 then
    rI (-1 : Int32) h1
  else
    rI x2 h1
def c_M_book_j165 (h : PH) (x2 : Int32) (x3 : Int32) (s0 : Nat) : Option RH :=
  c_M_book_j166 h x2 x3 (0 : Int32) s0
def c_M_book_j108 (h : PH) (this : Nat) (x1 : Int32) (x2 : Int32) (x3 : Int32) : Option RH :=
  gQ h this [8] 31 fun v1 =>
  nn v1 fun a2 =>
  stI h a2 (0 : Int32) x3 fun h4 =>
  gQ h4 this [8] 31 fun v5 =>
  nn v5 fun a6 =>
  stI h4 a6 (1 : Int32) x2 fun h8 =>
  gQ h8 this [8] 31 fun v9 =>
  hI (c_M_allBits h8 this) noX fun v11 h10 =>
  nn v9 fun a12 =>
  stI h10 a12 (2 : Int32) v11 fun h14 =>
  gQ h14 this [8] 31 fun v15 =>
  gQ h14 this [8] 14 fun v16 =>
  nn v16 fun a17 =>
  ldI h14 a17 0 (2615 : Int32) fun v19 =>
  nn v15 fun a20 =>
  stI h14 a20 (3 : Int32) v19 fun h22 =>
  pZ h22 this [8] 33 (1 : Int32) fun h23 =>
  if x1 = (1 : Int32) then
    if x2 ≤ 0 then
      c_M_book_j165 h23 x2 x3 this
    else
      c_M_book_j166 h23 x2 x3 (1 : Int32) this
  else
    c_M_book_j165 h23 x2 x3 this
def c_M_book_l78 (r78 : PH → Nat → Int32 → Int32 → Int32 → Option RH) (h : PH) (this : Nat) (x1 : Int32) (x2 : Int32) (x3 : Int32) : Option RH :=
  gI h this [8] 32 fun v1 =>
  if v1 ≤ x2 then
    c_M_book_j108 h this x1 x2 x3
  else
    if x3 = 0 then
      hI (c_M_goBy h this ((4 : Int32) * x2)) noX fun v3 h2 =>
      if v3 = 0 then
        r78 h2 this x1 (x2 + (1 : Int32)) v3
      else
        r78 h2 this x1 x2 v3
    else
      c_M_book_j108 h this x1 x2 x3
def c_M_book_l30 (r30 : PH → Nat → Int32 → Option RH) (h : PH) (this : Nat) (x1 : Int32) : Option RH :=
  gI h this [8] 7 fun v1 =>
  if v1 = 0 then
    gQ h this [8] 19 fun v2 =>
    nn v2 fun a3 =>
    hV (c_M_save h this a3 (0 : Int32)) noX fun h5 =>
    itr (c_M_book_l78) (fun _ _ _ _ _ => none) FU h5 this x1 (0 : Int32) (0 : Int32)
  else
    hI (c_M_readBookLine h this) noX fun v7 h6 =>
    if v7 = 0 then
      gI h6 this [8] 11 fun v10 =>
      rI ((-2 : Int32) - v10) h6
    else
      gI h6 this [8] 32 fun v8 =>
      pI h6 this [8] 32 (v8 + (1 : Int32)) fun h9 =>
      r30 h9 this x1
def c_M_book (h : PH) (this : Nat) (x1 : Int32) : Option RH :=
  grd h this [8] (
  pI h this [8] 0 (0 : Int32) fun h1 =>
  hI (c_M_isIn h1 x1 (0 : Int32) (1 : Int32)) noX fun v3 h2 =>
  if v3 = 0 then
    rI (-1000 : Int32) h2
  else
    hV (c_M_begin h2 this (400 : Int32)) noX fun h4 =>
    pI h4 this [8] 32 (0 : Int32) fun h5 =>
    itr (c_M_book_l30) (fun _ _ _ => none) FU h5 this x1)
set_option maxHeartbeats 4000000 in
theorem w_M_book_j166 (h : PH) (x2 : Int32) (x3 : Int32) (s0 : Int32) (s1 : Nat) : Sim Y_M_book h 166 [(2, .int x2), (3, .int x3)] [.int s0, .ref s1] (c_M_book_j166 h x2 x3 s0 s1) := by
  unfold c_M_book_j166
  refine x_callV (pc := 166) (As := [.int s0]) (rest := []) (lev' := 3) si_X10_339 (m_M_stay h s1 s0) (fun z e => grd1 e) rfl rfl (by decide) (cat4 (Nat.le_of_ble_eq_true rfl)) dX10_book_166 (kV (fun h1 => ?_)) xNo
  refine x_iload_n (pc := 169) 1 rfl rfl dX10_book_169 ?_
  refine x_if_ne (pc := 170) 177 (by decide) dX10_book_170 ?_ ?_
  · refine x_iload_n (pc := 177) 0 rfl rfl dX10_book_177 ?_
    exact x_iret (pc := 178) dX10_book_178
  · refine x_iconst (pc := 173) (v := (-1)) (by decide) dX10_book_173 ?_
    refine x_goto (pc := 174) 178 (by decide) dX10_book_174 ?_
    exact x_iret (pc := 178) dX10_book_178
set_option maxHeartbeats 4000000 in
theorem w_M_book_j165 (h : PH) (x2 : Int32) (x3 : Int32) (s0 : Nat) : Sim Y_M_book h 165 [(2, .int x2), (3, .int x3)] [.ref s0] (c_M_book_j165 h x2 x3 s0) := by
  unfold c_M_book_j165
  refine x_iconst (pc := 165) (v := 0) (by decide) dX10_book_165 ?_
  exact w_M_book_j166 h x2 x3 (0 : Int32) s0
set_option maxHeartbeats 4000000 in
theorem w_M_book_j108 (h : PH) (this : Nat) (x1 : Int32) (x2 : Int32) (x3 : Int32) : Sim Y_M_book h 108 [(0, .ref this), (1, .int x1), (2, .int x2), (3, .int x3)] [] (c_M_book_j108 h this x1 x2 x3) := by
  unfold c_M_book_j108
  refine x_aload_nR (pc := 108) (a := this) 0 rfl rfl dX10_book_108 ?_
  refine x_getQ (pc := 109) fi_X10_136 dX10_book_109 ?_
  intro v1
  refine x_iconst (pc := 112) (v := 0) (by decide) dX10_book_112 ?_
  refine x_iload_n (pc := 113) 3 rfl rfl dX10_book_113 ?_
  refine x_nn (fun a2 e3 => ?_)
  subst e3
  refine x_iast (pc := 114) dX10_book_114 ?_
  intro h4
  refine x_aload_nR (pc := 115) (a := this) 0 rfl rfl dX10_book_115 ?_
  refine x_getQ (pc := 116) fi_X10_136 dX10_book_116 ?_
  intro v5
  refine x_iconst (pc := 119) (v := 1) (by decide) dX10_book_119 ?_
  refine x_iload_n (pc := 120) 2 rfl rfl dX10_book_120 ?_
  refine x_nn (fun a6 e7 => ?_)
  subst e7
  refine x_iast (pc := 121) dX10_book_121 ?_
  intro h8
  refine x_aload_nR (pc := 122) (a := this) 0 rfl rfl dX10_book_122 ?_
  refine x_getQ (pc := 123) fi_X10_136 dX10_book_123 ?_
  intro v9
  refine x_iconst (pc := 126) (v := 2) (by decide) dX10_book_126 ?_
  refine x_aload_nR (pc := 127) (a := this) 0 rfl rfl dX10_book_127 ?_
  refine x_callV (pc := 128) (As := []) (rest := [.int (2 : Int32), va_rf v9]) (lev' := 2) si_X10_362 (m_M_allBits h8 this) (fun z e => grd1 e) rfl rfl (by decide) (cat4 (Nat.le_of_ble_eq_true rfl)) dX10_book_128 (kI (fun v11 h10 => ?_)) xNo
  refine x_nn (fun a12 e13 => ?_)
  subst e13
  refine x_iast (pc := 131) dX10_book_131 ?_
  intro h14
  refine x_aload_nR (pc := 132) (a := this) 0 rfl rfl dX10_book_132 ?_
  refine x_getQ (pc := 133) fi_X10_136 dX10_book_133 ?_
  intro v15
  refine x_iconst (pc := 136) (v := 3) (by decide) dX10_book_136 ?_
  refine x_aload_nR (pc := 137) (a := this) 0 rfl rfl dX10_book_137 ?_
  refine x_getQ (pc := 138) fi_X10_98 dX10_book_138 ?_
  intro v16
  refine x_sipush (pc := 141) (v := 2615) (by decide) dX10_book_141 ?_
  refine x_nn (fun a17 e18 => ?_)
  subst e18
  refine x_iald (pc := 144) dX10_book_144 ?_
  intro v19
  refine x_nn (fun a20 e21 => ?_)
  subst e21
  refine x_iast (pc := 145) dX10_book_145 ?_
  intro h22
  refine x_aload_nR (pc := 146) (a := this) 0 rfl rfl dX10_book_146 ?_
  refine x_iconst (pc := 147) (v := 1) (by decide) dX10_book_147 ?_
  refine x_pZ (pc := 148) fi_X10_365 (fun z => absurd z (by decide)) dX10_book_148 ?_
  intro h23
  refine x_aload_nR (pc := 151) (a := this) 0 rfl rfl dX10_book_151 ?_
  refine x_iload_n (pc := 152) 1 rfl rfl dX10_book_152 ?_
  refine x_iconst (pc := 153) (v := 1) (by decide) dX10_book_153 ?_
  refine x_icmp_ne (pc := 154) 165 (by decide) dX10_book_154 ?_ ?_
  · refine Sim.lv [2, 3] rfl ?_
    exact w_M_book_j165 h23 x2 x3 this
  · refine x_iload_n (pc := 157) 2 rfl rfl dX10_book_157 ?_
    refine x_if_le (pc := 158) 165 (by decide) dX10_book_158 ?_ ?_
    · refine Sim.lv [2, 3] rfl ?_
      exact w_M_book_j165 h23 x2 x3 this
    · refine x_iconst (pc := 161) (v := 1) (by decide) dX10_book_161 ?_
      refine x_goto (pc := 162) 166 (by decide) dX10_book_162 ?_
      refine Sim.lv [2, 3] rfl ?_
      exact w_M_book_j166 h23 x2 x3 (1 : Int32) this
set_option maxHeartbeats 4000000 in
theorem w_M_book_l78 (r78 : PH → Nat → Int32 → Int32 → Int32 → Option RH) (hr78 : ∀ (h : PH) (this : Nat) (x1 : Int32) (x2 : Int32) (x3 : Int32), Sim Y_M_book h 78 [(0, .ref this), (1, .int x1), (2, .int x2), (3, .int x3)] [] (r78 h this x1 x2 x3)) (h : PH) (this : Nat) (x1 : Int32) (x2 : Int32) (x3 : Int32) : Sim Y_M_book h 78 [(0, .ref this), (1, .int x1), (2, .int x2), (3, .int x3)] [] (c_M_book_l78 r78 h this x1 x2 x3) := by
  unfold c_M_book_l78
  refine x_iload_n (pc := 78) 2 rfl rfl dX10_book_78 ?_
  refine x_aload_nR (pc := 79) (a := this) 0 rfl rfl dX10_book_79 ?_
  refine x_getI (pc := 80) fi_X10_343 dX10_book_80 ?_
  intro v1
  refine x_icmp_ge (pc := 83) 108 (by decide) dX10_book_83 ?_ ?_
  · exact w_M_book_j108 h this x1 x2 x3
  · refine x_iload_n (pc := 86) 3 rfl rfl dX10_book_86 ?_
    refine x_if_ne (pc := 87) 108 (by decide) dX10_book_87 ?_ ?_
    · exact w_M_book_j108 h this x1 x2 x3
    · refine x_aload_nR (pc := 90) (a := this) 0 rfl rfl dX10_book_90 ?_
      refine x_iconst (pc := 91) (v := 4) (by decide) dX10_book_91 ?_
      refine x_iload_n (pc := 92) 2 rfl rfl dX10_book_92 ?_
      refine x_imul (pc := 93) dX10_book_93 ?_
      refine x_callV (pc := 94) (As := [.int ((4 : Int32) * x2)]) (rest := []) (lev' := 7) si_X10_359 (m_M_goBy h this ((4 : Int32) * x2)) (fun z e => grd1 e) rfl rfl (by decide) (cat4 (Nat.le_of_ble_eq_true rfl)) dX10_book_94 (kI (fun v3 h2 => ?_)) xNo
      refine x_istore_n (pc := 97) (lv' := [(3, .int v3), (0, .ref this), (1, .int x1), (2, .int x2)]) rfl (by decide) rfl dX10_book_97 ?_
      refine x_iload_n (pc := 98) 0 rfl rfl dX10_book_98 ?_
      refine x_if_ne (pc := 99) 78 (by decide) dX10_book_99 ?_ ?_
      · refine Sim.lv [1, 2, 3, 0] rfl ?_
        exact hr78 h2 this x1 x2 v3
      · refine x_iinc (pc := 102) (v := (1 : Int32)) (lv' := [(2, .int (x2 + (1 : Int32))), (3, .int v3), (0, .ref this), (1, .int x1)]) 3 rfl (by decide) (by decide) rfl dX10_book_102 ?_
        refine x_goto (pc := 105) 78 (by decide) dX10_book_105 ?_
        refine Sim.lv [2, 3, 0, 1] rfl ?_
        exact hr78 h2 this x1 (x2 + (1 : Int32)) v3
set_option maxHeartbeats 4000000 in
theorem v_M_book_l78 : ∀ (n : Nat) (h : PH) (this : Nat) (x1 : Int32) (x2 : Int32) (x3 : Int32), Sim Y_M_book h 78 [(0, .ref this), (1, .int x1), (2, .int x2), (3, .int x3)] [] (itr (c_M_book_l78) (fun _ _ _ _ _ => none) n h this x1 x2 x3)
  | 0, h, this, x1, x2, x3 => Sim.none
  | n + 1, h, this, x1, x2, x3 => w_M_book_l78 _ (v_M_book_l78 n) h this x1 x2 x3
set_option maxHeartbeats 4000000 in
theorem w_M_book_l30 (r30 : PH → Nat → Int32 → Option RH) (hr30 : ∀ (h : PH) (this : Nat) (x1 : Int32), Sim Y_M_book h 30 [(0, .ref this), (1, .int x1)] [] (r30 h this x1)) (h : PH) (this : Nat) (x1 : Int32) : Sim Y_M_book h 30 [(0, .ref this), (1, .int x1)] [] (c_M_book_l30 r30 h this x1) := by
  unfold c_M_book_l30
  refine x_aload_nR (pc := 30) (a := this) 0 rfl rfl dX10_book_30 ?_
  refine x_getI (pc := 31) fi_X10_30 dX10_book_31 ?_
  intro v1
  refine x_if_eq (pc := 34) 65 (by decide) dX10_book_34 ?_ ?_
  · refine x_aload_nR (pc := 65) (a := this) 0 rfl rfl dX10_book_65 ?_
    refine x_aload_nR (pc := 66) (a := this) 0 rfl rfl dX10_book_66 ?_
    refine x_getQ (pc := 67) fi_X10_113 dX10_book_67 ?_
    intro v2
    refine x_iconst (pc := 70) (v := 0) (by decide) dX10_book_70 ?_
    refine x_nn (fun a3 e4 => ?_)
    subst e4
    refine x_callV (pc := 71) (As := [.ref a3, .int (0 : Int32)]) (rest := []) (lev' := 1) si_X10_288 (m_M_save h this a3 (0 : Int32)) (fun z e => grd1 e) rfl rfl (by decide) (cat4 (Nat.le_of_ble_eq_true rfl)) dX10_book_71 (kV (fun h5 => ?_)) xNo
    refine x_iconst (pc := 74) (v := 0) (by decide) dX10_book_74 ?_
    refine x_istore_n (pc := 75) (lv' := [(2, .int (0 : Int32)), (0, .ref this), (1, .int x1)]) rfl (by decide) rfl dX10_book_75 ?_
    refine x_iconst (pc := 76) (v := 0) (by decide) dX10_book_76 ?_
    refine x_istore_n (pc := 77) (lv' := [(3, .int (0 : Int32)), (2, .int (0 : Int32)), (0, .ref this), (1, .int x1)]) rfl (by decide) rfl dX10_book_77 ?_
    refine Sim.lv [2, 3, 1, 0] rfl ?_
    exact v_M_book_l78 FU h5 this x1 (0 : Int32) (0 : Int32)
  · refine x_aload_nR (pc := 37) (a := this) 0 rfl rfl dX10_book_37 ?_
    refine x_callV (pc := 38) (As := []) (rest := []) (lev' := 5) si_X10_356 (m_M_readBookLine h this) (fun z e => grd1 e) rfl rfl (by decide) (cat4 (Nat.le_of_ble_eq_true rfl)) dX10_book_38 (kI (fun v7 h6 => ?_)) xNo
    refine x_if_ne (pc := 41) 52 (by decide) dX10_book_41 ?_ ?_
    · refine x_aload_nR (pc := 52) (a := this) 0 rfl rfl dX10_book_52 ?_
      refine x_dup (pc := 53) rfl dX10_book_53 ?_
      refine x_getI (pc := 54) fi_X10_343 dX10_book_54 ?_
      intro v8
      refine x_iconst (pc := 57) (v := 1) (by decide) dX10_book_57 ?_
      refine x_iadd (pc := 58) dX10_book_58 ?_
      refine x_pI (pc := 59) fi_X10_343 (fun z => absurd z (by decide)) dX10_book_59 ?_
      intro h9
      refine x_goto (pc := 62) 30 (by decide) dX10_book_62 ?_
      exact hr30 h9 this x1
    · refine x_bipush (pc := 44) (v := (-2)) (by decide) dX10_book_44 ?_
      refine x_aload_nR (pc := 46) (a := this) 0 rfl rfl dX10_book_46 ?_
      refine x_getI (pc := 47) fi_X10_69 dX10_book_47 ?_
      intro v10
      refine x_isub (pc := 50) dX10_book_50 ?_
      exact x_iret (pc := 51) dX10_book_51
set_option maxHeartbeats 4000000 in
theorem v_M_book_l30 : ∀ (n : Nat) (h : PH) (this : Nat) (x1 : Int32), Sim Y_M_book h 30 [(0, .ref this), (1, .int x1)] [] (itr (c_M_book_l30) (fun _ _ _ => none) n h this x1)
  | 0, h, this, x1 => Sim.none
  | n + 1, h, this, x1 => w_M_book_l30 _ (v_M_book_l30 n) h this x1
set_option maxHeartbeats 4000000 in
theorem m_M_book (h : PH) (this : Nat) (x1 : Int32) : MM yX10_book (ws_ yX10_book cX10_book 4 (some .int)) 8 [.ref this, .int x1] h (c_M_book h this x1) := by
  refine MM.of (by decide) rfl (by decide) (Nat.le_of_ble_eq_true rfl) (own := RX10) (cc := cX10_book) (maxL := 4) (lev := 8) (rt := (some .int)) (ini := false) ?_
  show Sim Y_M_book h 0 [(0, .ref this), (1, .int x1)] [] _
  unfold c_M_book
  refine x_grd ?_
  refine x_aload_nR (pc := 0) (a := this) 0 rfl rfl dX10_book_0 ?_
  refine x_iconst (pc := 1) (v := 0) (by decide) dX10_book_1 ?_
  refine x_pI (pc := 2) fi_X10_1 (fun z => absurd z (by decide)) dX10_book_2 ?_
  intro h1
  refine x_iload_n (pc := 5) 1 rfl rfl dX10_book_5 ?_
  refine x_iconst (pc := 6) (v := 0) (by decide) dX10_book_6 ?_
  refine x_iconst (pc := 7) (v := 1) (by decide) dX10_book_7 ?_
  refine x_callS (pc := 8) (As := [.int x1, .int (0 : Int32), .int (1 : Int32)]) (rest := []) (lev' := 1) si_X10_75 (m_M_isIn h1 x1 (0 : Int32) (1 : Int32)) rfl rfl (by decide) (cat4 (Nat.le_of_ble_eq_true rfl)) dX10_book_8 (kI (fun v3 h2 => ?_)) xNo
  refine x_if_ne (pc := 11) 18 (by decide) dX10_book_11 ?_ ?_
  · refine x_aload_nR (pc := 18) (a := this) 0 rfl rfl dX10_book_18 ?_
    refine x_sipush (pc := 19) (v := 400) (by decide) dX10_book_19 ?_
    refine x_callV (pc := 22) (As := [.int (400 : Int32)]) (rest := []) (lev' := 3) si_X10_180 (m_M_begin h2 this (400 : Int32)) (fun z e => grd1 e) rfl rfl (by decide) (cat4 (Nat.le_of_ble_eq_true rfl)) dX10_book_22 (kV (fun h4 => ?_)) xNo
    refine x_aload_nR (pc := 25) (a := this) 0 rfl rfl dX10_book_25 ?_
    refine x_iconst (pc := 26) (v := 0) (by decide) dX10_book_26 ?_
    refine x_pI (pc := 27) fi_X10_343 (fun z => absurd z (by decide)) dX10_book_27 ?_
    intro h5
    exact v_M_book_l30 FU h5 this x1
  · refine x_sipush (pc := 14) (v := (-1000)) (by decide) dX10_book_14 ?_
    exact x_iret (pc := 17) dX10_book_17
abbrev Y_M_told : Yx := (RX10, cX10_told, 2, 2, (some .int), [], false)
def c_M_told (h : PH) (this : Nat) (x1 : Int32) : Option RH :=
  grd h this [8] (
  pI h this [8] 0 (0 : Int32) fun h1 =>
  gI h1 this [8] 33 fun v2 =>
  if v2 = 0 then
    rI (-1 : Int32) h1
  else
    hI (c_M_isIn h1 x1 (0 : Int32) (3 : Int32)) noX fun v4 h3 =>
    if v4 = 0 then
      rI (-1 : Int32) h3
    else
      gQ h3 this [8] 31 fun v5 =>
      nn v5 fun a6 =>
      ldI h3 a6 0 x1 fun v8 =>
      rI v8 h3)
set_option maxHeartbeats 4000000 in
theorem m_M_told (h : PH) (this : Nat) (x1 : Int32) : MM yX10_told (ws_ yX10_told cX10_told 2 (some .int)) 2 [.ref this, .int x1] h (c_M_told h this x1) := by
  refine MM.of (by decide) rfl (by decide) (Nat.le_of_ble_eq_true rfl) (own := RX10) (cc := cX10_told) (maxL := 2) (lev := 2) (rt := (some .int)) (ini := false) ?_
  show Sim Y_M_told h 0 [(0, .ref this), (1, .int x1)] [] _
  unfold c_M_told
  refine x_grd ?_
  refine x_aload_nR (pc := 0) (a := this) 0 rfl rfl dX10_told_0 ?_
  refine x_iconst (pc := 1) (v := 0) (by decide) dX10_told_1 ?_
  refine x_pI (pc := 2) fi_X10_1 (fun z => absurd z (by decide)) dX10_told_2 ?_
  intro h1
  refine x_aload_nR (pc := 5) (a := this) 0 rfl rfl dX10_told_5 ?_
  refine x_getI (pc := 6) fi_X10_365 dX10_told_6 ?_
  intro v2
  refine x_if_eq (pc := 9) 30 (by decide) dX10_told_9 ?_ ?_
  · refine x_iconst (pc := 30) (v := (-1)) (by decide) dX10_told_30 ?_
    exact x_iret (pc := 31) dX10_told_31
  · refine x_iload_n (pc := 12) 1 rfl rfl dX10_told_12 ?_
    refine x_iconst (pc := 13) (v := 0) (by decide) dX10_told_13 ?_
    refine x_iconst (pc := 14) (v := 3) (by decide) dX10_told_14 ?_
    refine x_callS (pc := 15) (As := [.int x1, .int (0 : Int32), .int (3 : Int32)]) (rest := []) (lev' := 1) si_X10_75 (m_M_isIn h1 x1 (0 : Int32) (3 : Int32)) rfl rfl (by decide) (cat4 (Nat.le_of_ble_eq_true rfl)) dX10_told_15 (kI (fun v4 h3 => ?_)) xNo
    refine x_if_eq (pc := 18) 30 (by decide) dX10_told_18 ?_ ?_
    · refine x_iconst (pc := 30) (v := (-1)) (by decide) dX10_told_30 ?_
      exact x_iret (pc := 31) dX10_told_31
    · refine x_aload_nR (pc := 21) (a := this) 0 rfl rfl dX10_told_21 ?_
      refine x_getQ (pc := 22) fi_X10_136 dX10_told_22 ?_
      intro v5
      refine x_iload_n (pc := 25) 1 rfl rfl dX10_told_25 ?_
      refine x_nn (fun a6 e7 => ?_)
      subst e7
      refine x_iald (pc := 26) dX10_told_26 ?_
      intro v8
      refine x_goto (pc := 27) 31 (by decide) dX10_told_27 ?_
      exact x_iret (pc := 31) dX10_told_31
theorem si_X10_401 : SiV RX10 401 8 yX10_readOr cX10_readOr 2 (some .boolean) 0 := ⟨_, _, _, ci_8.1, by decide, lw_V q2241 q2243 qs98 q121 q2244, ⟨rfl, by decide, by decide, by decide +kernel⟩, by decide⟩
abbrev Y_M_readBracket (d : Nat) : Yx := (RX10, cX10_readBracket, 1, (6 + d + 1), (some .boolean), [], false)
def b_M_readBracket (rg : Nat → PH → Nat → Option RH) (h : PH) (this : Nat) : Option RH :=
  grd h this [8] (
  hI (grd h this [8] (rg 0 h this)) noX fun v2 h1 =>
  if v2 = 0 then
    rZ (0 : Int32) h1
  else
    hI (c_M_isSign h1 this (41 : Int32)) noX fun v4 h3 =>
    if v4 = 0 then
      hI (c_M_bad h3 this (1 : Int32)) noX fun v7 h6 =>
      rZ v7 h6
    else
      hV (c_M_go h3 this) noX fun h5 =>
      rZ (1 : Int32) h5)
set_option maxHeartbeats 4000000 in
theorem t_M_readBracket (rg : Nat → PH → Nat → Option RH) {d : Nat} (hrg : (∀ (h : PH) (this : Nat), MM yX10_readOr (ws_ yX10_readOr cX10_readOr 2 (some .boolean)) (6 + d) [.ref this] h (rg 0 h this)) ∧ (∀ (h : PH) (this : Nat), MM yX10_readAnd (ws_ yX10_readAnd cX10_readAnd 2 (some .boolean)) (6 + d) [.ref this] h (rg 1 h this)) ∧ (∀ (h : PH) (this : Nat), MM yX10_readSaid (ws_ yX10_readSaid cX10_readSaid 4 (some .boolean)) (6 + d) [.ref this] h (rg 2 h this)) ∧ (∀ (h : PH) (this : Nat), MM yX10_readNot (ws_ yX10_readNot cX10_readNot 1 (some .boolean)) (6 + d) [.ref this] h (rg 3 h this)) ∧ (∀ (h : PH) (this : Nat), MM yX10_readBracket (ws_ yX10_readBracket cX10_readBracket 1 (some .boolean)) (6 + d) [.ref this] h (rg 4 h this))) (h : PH) (this : Nat) : MM yX10_readBracket (ws_ yX10_readBracket cX10_readBracket 1 (some .boolean)) (6 + d + 1) [.ref this] h (b_M_readBracket rg h this) := by
  refine MM.of (by decide) rfl (by decide) (Nat.le_of_ble_eq_true rfl) (own := RX10) (cc := cX10_readBracket) (maxL := 1) (lev := (6 + d + 1)) (rt := (some .boolean)) (ini := false) ?_
  show Sim (Y_M_readBracket d) h 0 [(0, .ref this)] [] _
  unfold b_M_readBracket
  refine x_grd ?_
  refine x_aload_nR (pc := 0) (a := this) 0 rfl rfl dX10_readBracket_0 ?_
  refine x_callV (pc := 1) (As := []) (rest := []) (lev' := (6 + d)) si_X10_401 (MM.grd (hrg.1 h this)) (fun z e => grd1 e) rfl rfl (by omega) (cat4 (Nat.le_of_ble_eq_true rfl)) dX10_readBracket_1 (kI (fun v2 h1 => ?_)) xNo
  refine x_if_ne (pc := 4) 9 (by decide) dX10_readBracket_4 ?_ ?_
  · refine x_aload_nR (pc := 9) (a := this) 0 rfl rfl dX10_readBracket_9 ?_
    refine x_bipush (pc := 10) (v := 41) (by decide) dX10_readBracket_10 ?_
    refine x_callV (pc := 12) (As := [.int (41 : Int32)]) (rest := []) (lev' := 1) si_X10_86 (m_M_isSign h1 this (41 : Int32)) (fun z e => grd1 e) rfl rfl (by omega) (cat4 (Nat.le_of_ble_eq_true rfl)) dX10_readBracket_12 (kI (fun v4 h3 => ?_)) xNo
    refine x_if_ne (pc := 15) 24 (by decide) dX10_readBracket_15 ?_ ?_
    · refine x_aload_nR (pc := 24) (a := this) 0 rfl rfl dX10_readBracket_24 ?_
      refine x_callV (pc := 25) (As := []) (rest := []) (lev' := 2) si_X10_82 (m_M_go h3 this) (fun z e => grd1 e) rfl rfl (by omega) (cat4 (Nat.le_of_ble_eq_true rfl)) dX10_readBracket_25 (kV (fun h5 => ?_)) xNo
      refine x_iconst (pc := 28) (v := 1) (by decide) dX10_readBracket_28 ?_
      exact x_zret (pc := 29) dX10_readBracket_29
    · refine x_aload_nR (pc := 18) (a := this) 0 rfl rfl dX10_readBracket_18 ?_
      refine x_iconst (pc := 19) (v := 1) (by decide) dX10_readBracket_19 ?_
      refine x_callV (pc := 20) (As := [.int (1 : Int32)]) (rest := []) (lev' := 1) si_X10_72 (m_M_bad h3 this (1 : Int32)) (fun z e => grd1 e) rfl rfl (by omega) (cat4 (Nat.le_of_ble_eq_true rfl)) dX10_readBracket_20 (kI (fun v7 h6 => ?_)) xNo
      exact x_zret (pc := 23) dX10_readBracket_23
  · refine x_iconst (pc := 7) (v := 0) (by decide) dX10_readBracket_7 ?_
    exact x_zret (pc := 8) dX10_readBracket_8
theorem fi_X10_368 : FI RX10 368 [8] 35 .int false true := (fi_c ci_8 (by decide) rfl rfl (Or.inl q1721) (Or.inl rfl) (fun h => absurd h (by decide)) fi_n)
abbrev Y_M_saysOne : Yx := (RX10, cX10_saysOne, 6, 1, (some .int), [], false)
def c_M_saysOne (h : PH) (this : Nat) (x1 : Int32) (x2 : Int32) (x3 : Int32) (x4 : Int32) : Option RH :=
  grd h this [8] (
  gI h this [8] 35 fun v1 =>
  nm ((4 : Int32) * v1) fun y2 =>
  gQ h this [8] 34 fun v3 =>
  nn v3 fun a4 =>
  stI h a4 y2 x1 fun h6 =>
  gQ h6 this [8] 34 fun v7 =>
  nn v7 fun a8 =>
  stI h6 a8 (y2 + (1 : Int32)) x2 fun h10 =>
  gQ h10 this [8] 34 fun v11 =>
  nn v11 fun a12 =>
  stI h10 a12 (y2 + (2 : Int32)) x3 fun h14 =>
  gQ h14 this [8] 34 fun v15 =>
  nn v15 fun a16 =>
  stI h14 a16 (y2 + (3 : Int32)) x4 fun h18 =>
  gI h18 this [8] 35 fun v19 =>
  pI h18 this [8] 35 (v19 + (1 : Int32)) fun h20 =>
  gI h20 this [8] 35 fun v21 =>
  rI (v21 - (1 : Int32)) h20)
set_option maxHeartbeats 4000000 in
theorem m_M_saysOne (h : PH) (this : Nat) (x1 : Int32) (x2 : Int32) (x3 : Int32) (x4 : Int32) : MM yX10_saysOne (ws_ yX10_saysOne cX10_saysOne 6 (some .int)) 1 [.ref this, .int x1, .int x2, .int x3, .int x4] h (c_M_saysOne h this x1 x2 x3 x4) := by
  refine MM.of (by decide) rfl (by decide) (Nat.le_of_ble_eq_true rfl) (own := RX10) (cc := cX10_saysOne) (maxL := 6) (lev := 1) (rt := (some .int)) (ini := false) ?_
  show Sim Y_M_saysOne h 0 [(0, .ref this), (1, .int x1), (2, .int x2), (3, .int x3), (4, .int x4)] [] _
  unfold c_M_saysOne
  refine x_grd ?_
  refine x_iconst (pc := 0) (v := 4) (by decide) dX10_saysOne_0 ?_
  refine x_aload_nR (pc := 1) (a := this) 0 rfl rfl dX10_saysOne_1 ?_
  refine x_getI (pc := 2) fi_X10_368 dX10_saysOne_2 ?_
  intro v1
  refine x_imul (pc := 5) dX10_saysOne_5 ?_
  refine x_nmI (fun y2 => ?_)
  refine x_istore (pc := 6) (lv' := [(5, .int y2), (0, .ref this), (1, .int x1), (2, .int x2), (3, .int x3), (4, .int x4)]) (by decide) rfl dX10_saysOne_6 ?_
  refine x_aload_nR (pc := 8) (a := this) 1 rfl rfl dX10_saysOne_8 ?_
  refine x_getQ (pc := 9) fi_X10_139 dX10_saysOne_9 ?_
  intro v3
  refine x_iload (pc := 12) 0 rfl dX10_saysOne_12 ?_
  refine x_iload_n (pc := 14) 2 rfl rfl dX10_saysOne_14 ?_
  refine x_nn (fun a4 e5 => ?_)
  subst e5
  refine x_iast (pc := 15) dX10_saysOne_15 ?_
  intro h6
  refine x_aload_nR (pc := 16) (a := this) 1 rfl rfl dX10_saysOne_16 ?_
  refine x_getQ (pc := 17) fi_X10_139 dX10_saysOne_17 ?_
  intro v7
  refine x_iload (pc := 20) 0 rfl dX10_saysOne_20 ?_
  refine x_iconst (pc := 22) (v := 1) (by decide) dX10_saysOne_22 ?_
  refine x_iadd (pc := 23) dX10_saysOne_23 ?_
  refine x_iload_n (pc := 24) 3 rfl rfl dX10_saysOne_24 ?_
  refine x_nn (fun a8 e9 => ?_)
  subst e9
  refine x_iast (pc := 25) dX10_saysOne_25 ?_
  intro h10
  refine x_aload_nR (pc := 26) (a := this) 1 rfl rfl dX10_saysOne_26 ?_
  refine x_getQ (pc := 27) fi_X10_139 dX10_saysOne_27 ?_
  intro v11
  refine x_iload (pc := 30) 0 rfl dX10_saysOne_30 ?_
  refine x_iconst (pc := 32) (v := 2) (by decide) dX10_saysOne_32 ?_
  refine x_iadd (pc := 33) dX10_saysOne_33 ?_
  refine x_iload_n (pc := 34) 4 rfl rfl dX10_saysOne_34 ?_
  refine x_nn (fun a12 e13 => ?_)
  subst e13
  refine x_iast (pc := 35) dX10_saysOne_35 ?_
  intro h14
  refine x_aload_nR (pc := 36) (a := this) 1 rfl rfl dX10_saysOne_36 ?_
  refine x_getQ (pc := 37) fi_X10_139 dX10_saysOne_37 ?_
  intro v15
  refine x_iload (pc := 40) 0 rfl dX10_saysOne_40 ?_
  refine x_iconst (pc := 42) (v := 3) (by decide) dX10_saysOne_42 ?_
  refine x_iadd (pc := 43) dX10_saysOne_43 ?_
  refine x_iload (pc := 44) 5 rfl dX10_saysOne_44 ?_
  refine x_nn (fun a16 e17 => ?_)
  subst e17
  refine x_iast (pc := 46) dX10_saysOne_46 ?_
  intro h18
  refine x_aload_nR (pc := 47) (a := this) 1 rfl rfl dX10_saysOne_47 ?_
  refine x_dup (pc := 48) rfl dX10_saysOne_48 ?_
  refine x_getI (pc := 49) fi_X10_368 dX10_saysOne_49 ?_
  intro v19
  refine x_iconst (pc := 52) (v := 1) (by decide) dX10_saysOne_52 ?_
  refine x_iadd (pc := 53) dX10_saysOne_53 ?_
  refine x_pI (pc := 54) fi_X10_368 (fun z => absurd z (by decide)) dX10_saysOne_54 ?_
  intro h20
  refine x_aload_nR (pc := 57) (a := this) 1 rfl rfl dX10_saysOne_57 ?_
  refine x_getI (pc := 58) fi_X10_368 dX10_saysOne_58 ?_
  intro v21
  refine x_iconst (pc := 61) (v := 1) (by decide) dX10_saysOne_61 ?_
  refine x_isub (pc := 62) dX10_saysOne_62 ?_
  exact x_iret (pc := 63) dX10_saysOne_63
theorem si_X10_380 : SiV RX10 380 8 yX10_readSaid cX10_readSaid 4 (some .boolean) 0 := ⟨_, _, _, ci_8.1, by decide, lw_V q2249 q2251 qs100 q121 q2252, ⟨rfl, by decide, by decide, by decide +kernel⟩, by decide⟩
theorem fi_X10_374 : FI RX10 374 [8] 38 .int false true := (fi_c ci_8 (by decide) rfl rfl (Or.inl q1724) (Or.inl rfl) (fun h => absurd h (by decide)) fi_n)
theorem si_X10_377 : SiV RX10 377 8 yX10_saysOne cX10_saysOne 6 (some .int) 4 := ⟨_, _, _, ci_8.1, by decide, lw_V q2261 q2263 qs103 q121 q2264, ⟨rfl, by decide, by decide, by decide +kernel⟩, by decide⟩
abbrev Y_M_readNot (d : Nat) : Yx := (RX10, cX10_readNot, 1, (6 + d + 1), (some .boolean), [], false)
def b_M_readNot (rg : Nat → PH → Nat → Option RH) (h : PH) (this : Nat) : Option RH :=
  grd h this [8] (
  hI (grd h this [8] (rg 2 h this)) noX fun v2 h1 =>
  if v2 = 0 then
    rZ (0 : Int32) h1
  else
    gI h1 this [8] 38 fun v3 =>
    hI (c_M_saysOne h1 this (1 : Int32) v3 (0 : Int32) (0 : Int32)) noX fun v5 h4 =>
    pI h4 this [8] 38 v5 fun h6 =>
    rZ (1 : Int32) h6)
set_option maxHeartbeats 4000000 in
theorem t_M_readNot (rg : Nat → PH → Nat → Option RH) {d : Nat} (hrg : (∀ (h : PH) (this : Nat), MM yX10_readOr (ws_ yX10_readOr cX10_readOr 2 (some .boolean)) (6 + d) [.ref this] h (rg 0 h this)) ∧ (∀ (h : PH) (this : Nat), MM yX10_readAnd (ws_ yX10_readAnd cX10_readAnd 2 (some .boolean)) (6 + d) [.ref this] h (rg 1 h this)) ∧ (∀ (h : PH) (this : Nat), MM yX10_readSaid (ws_ yX10_readSaid cX10_readSaid 4 (some .boolean)) (6 + d) [.ref this] h (rg 2 h this)) ∧ (∀ (h : PH) (this : Nat), MM yX10_readNot (ws_ yX10_readNot cX10_readNot 1 (some .boolean)) (6 + d) [.ref this] h (rg 3 h this)) ∧ (∀ (h : PH) (this : Nat), MM yX10_readBracket (ws_ yX10_readBracket cX10_readBracket 1 (some .boolean)) (6 + d) [.ref this] h (rg 4 h this))) (h : PH) (this : Nat) : MM yX10_readNot (ws_ yX10_readNot cX10_readNot 1 (some .boolean)) (6 + d + 1) [.ref this] h (b_M_readNot rg h this) := by
  refine MM.of (by decide) rfl (by decide) (Nat.le_of_ble_eq_true rfl) (own := RX10) (cc := cX10_readNot) (maxL := 1) (lev := (6 + d + 1)) (rt := (some .boolean)) (ini := false) ?_
  show Sim (Y_M_readNot d) h 0 [(0, .ref this)] [] _
  unfold b_M_readNot
  refine x_grd ?_
  refine x_aload_nR (pc := 0) (a := this) 0 rfl rfl dX10_readNot_0 ?_
  refine x_callV (pc := 1) (As := []) (rest := []) (lev' := (6 + d)) si_X10_380 (MM.grd (hrg.2.2.1 h this)) (fun z e => grd1 e) rfl rfl (by omega) (cat4 (Nat.le_of_ble_eq_true rfl)) dX10_readNot_1 (kI (fun v2 h1 => ?_)) xNo
  refine x_if_ne (pc := 4) 9 (by decide) dX10_readNot_4 ?_ ?_
  · refine x_aload_nR (pc := 9) (a := this) 0 rfl rfl dX10_readNot_9 ?_
    refine x_aload_nR (pc := 10) (a := this) 0 rfl rfl dX10_readNot_10 ?_
    refine x_iconst (pc := 11) (v := 1) (by decide) dX10_readNot_11 ?_
    refine x_aload_nR (pc := 12) (a := this) 0 rfl rfl dX10_readNot_12 ?_
    refine x_getI (pc := 13) fi_X10_374 dX10_readNot_13 ?_
    intro v3
    refine x_iconst (pc := 16) (v := 0) (by decide) dX10_readNot_16 ?_
    refine x_iconst (pc := 17) (v := 0) (by decide) dX10_readNot_17 ?_
    refine x_callV (pc := 18) (As := [.int (1 : Int32), .int v3, .int (0 : Int32), .int (0 : Int32)]) (rest := [.ref this]) (lev' := 1) si_X10_377 (m_M_saysOne h1 this (1 : Int32) v3 (0 : Int32) (0 : Int32)) (fun z e => grd1 e) rfl rfl (by omega) (cat4 (Nat.le_of_ble_eq_true rfl)) dX10_readNot_18 (kI (fun v5 h4 => ?_)) xNo
    refine x_pI (pc := 21) fi_X10_374 (fun z => absurd z (by decide)) dX10_readNot_21 ?_
    intro h6
    refine x_iconst (pc := 24) (v := 1) (by decide) dX10_readNot_24 ?_
    exact x_zret (pc := 25) dX10_readNot_25
  · refine x_iconst (pc := 7) (v := 0) (by decide) dX10_readNot_7 ?_
    exact x_zret (pc := 8) dX10_readNot_8
abbrev Y_M_readOf : Yx := (RX10, cX10_readOf, 2, 5, (some .boolean), [], false)
def c_M_readOf (h : PH) (this : Nat) (x1 : Int32) : Option RH :=
  grd h this [8] (
  hI (c_M_readRowName h this) noX fun v2 h1 =>
  if v2 = 0 then
    rZ (0 : Int32) h1
  else
    gI h1 this [8] 13 fun v3 =>
    hI (c_M_saysOne h1 this ((50 : Int32) + x1) v3 (0 : Int32) (0 : Int32)) noX fun v5 h4 =>
    pI h4 this [8] 38 v5 fun h6 =>
    rZ (1 : Int32) h6)
set_option maxHeartbeats 4000000 in
theorem m_M_readOf (h : PH) (this : Nat) (x1 : Int32) : MM yX10_readOf (ws_ yX10_readOf cX10_readOf 2 (some .boolean)) 5 [.ref this, .int x1] h (c_M_readOf h this x1) := by
  refine MM.of (by decide) rfl (by decide) (Nat.le_of_ble_eq_true rfl) (own := RX10) (cc := cX10_readOf) (maxL := 2) (lev := 5) (rt := (some .boolean)) (ini := false) ?_
  show Sim Y_M_readOf h 0 [(0, .ref this), (1, .int x1)] [] _
  unfold c_M_readOf
  refine x_grd ?_
  refine x_aload_nR (pc := 0) (a := this) 0 rfl rfl dX10_readOf_0 ?_
  refine x_callV (pc := 1) (As := []) (rest := []) (lev' := 4) si_X10_346 (m_M_readRowName h this) (fun z e => grd1 e) rfl rfl (by decide) (cat4 (Nat.le_of_ble_eq_true rfl)) dX10_readOf_1 (kI (fun v2 h1 => ?_)) xNo
  refine x_if_ne (pc := 4) 9 (by decide) dX10_readOf_4 ?_ ?_
  · refine x_aload_nR (pc := 9) (a := this) 0 rfl rfl dX10_readOf_9 ?_
    refine x_aload_nR (pc := 10) (a := this) 0 rfl rfl dX10_readOf_10 ?_
    refine x_bipush (pc := 11) (v := 50) (by decide) dX10_readOf_11 ?_
    refine x_iload_n (pc := 13) 1 rfl rfl dX10_readOf_13 ?_
    refine x_iadd (pc := 14) dX10_readOf_14 ?_
    refine x_aload_nR (pc := 15) (a := this) 0 rfl rfl dX10_readOf_15 ?_
    refine x_getI (pc := 16) fi_X10_79 dX10_readOf_16 ?_
    intro v3
    refine x_iconst (pc := 19) (v := 0) (by decide) dX10_readOf_19 ?_
    refine x_iconst (pc := 20) (v := 0) (by decide) dX10_readOf_20 ?_
    refine x_callV (pc := 21) (As := [.int ((50 : Int32) + x1), .int v3, .int (0 : Int32), .int (0 : Int32)]) (rest := [.ref this]) (lev' := 1) si_X10_377 (m_M_saysOne h1 this ((50 : Int32) + x1) v3 (0 : Int32) (0 : Int32)) (fun z e => grd1 e) rfl rfl (by decide) (cat4 (Nat.le_of_ble_eq_true rfl)) dX10_readOf_21 (kI (fun v5 h4 => ?_)) xNo
    refine x_pI (pc := 24) fi_X10_374 (fun z => absurd z (by decide)) dX10_readOf_24 ?_
    intro h6
    refine x_iconst (pc := 27) (v := 1) (by decide) dX10_readOf_27 ?_
    exact x_zret (pc := 28) dX10_readOf_28
  · refine x_iconst (pc := 7) (v := 0) (by decide) dX10_readOf_7 ?_
    exact x_zret (pc := 8) dX10_readOf_8
abbrev Y_M_readCompare : Yx := (RX10, cX10_readCompare, 3, 4, (some .boolean), [], false)
def c_M_readCompare_j33 (h : PH) (this : Nat) (x1 : Int32) : Option RH :=
  gI h this [8] 9 fun v1 =>
  hV (c_M_go h this) noX fun h2 =>
  hI (c_M_readNumber h2 this (0 : Int32) (999 : Int32)) noX fun v4 h3 =>
  if v4 = 0 then
    rZ (0 : Int32) h3
  else
    gI h3 this [8] 13 fun v5 =>
    hI (c_M_saysOne h3 this ((50 : Int32) + x1) (0 : Int32) v5 v1) noX fun v7 h6 =>
    pI h6 this [8] 38 v7 fun h8 =>
    rZ (1 : Int32) h8
def c_M_readCompare (h : PH) (this : Nat) (x1 : Int32) : Option RH :=
  grd h this [8] (
  hI (c_M_isSign h this (60 : Int32)) noX fun v2 h1 =>
  if v2 = 0 then
    hI (c_M_isSign h1 this (61 : Int32)) noX fun v4 h3 =>
    if v4 = 0 then
      hI (c_M_isSign h3 this (62 : Int32)) noX fun v6 h5 =>
      if v6 = 0 then
        hI (c_M_bad h5 this (1 : Int32)) noX fun v8 h7 =>
        rZ v8 h7
      else
        c_M_readCompare_j33 h5 this x1
    else
      c_M_readCompare_j33 h3 this x1
  else
    c_M_readCompare_j33 h1 this x1)
set_option maxHeartbeats 4000000 in
theorem w_M_readCompare_j33 (h : PH) (this : Nat) (x1 : Int32) : Sim Y_M_readCompare h 33 [(0, .ref this), (1, .int x1)] [] (c_M_readCompare_j33 h this x1) := by
  unfold c_M_readCompare_j33
  refine x_aload_nR (pc := 33) (a := this) 0 rfl rfl dX10_readCompare_33 ?_
  refine x_getI (pc := 34) fi_X10_40 dX10_readCompare_34 ?_
  intro v1
  refine x_istore_n (pc := 37) (lv' := [(2, .int v1), (0, .ref this), (1, .int x1)]) rfl (by decide) rfl dX10_readCompare_37 ?_
  refine x_aload_nR (pc := 38) (a := this) 1 rfl rfl dX10_readCompare_38 ?_
  refine x_callV (pc := 39) (As := []) (rest := []) (lev' := 2) si_X10_82 (m_M_go h this) (fun z e => grd1 e) rfl rfl (by decide) (cat4 (Nat.le_of_ble_eq_true rfl)) dX10_readCompare_39 (kV (fun h2 => ?_)) xNo
  refine x_aload_nR (pc := 42) (a := this) 1 rfl rfl dX10_readCompare_42 ?_
  refine x_iconst (pc := 43) (v := 0) (by decide) dX10_readCompare_43 ?_
  refine x_sipush (pc := 44) (v := 999) (by decide) dX10_readCompare_44 ?_
  refine x_callV (pc := 47) (As := [.int (0 : Int32), .int (999 : Int32)]) (rest := []) (lev' := 3) si_X10_146 (m_M_readNumber h2 this (0 : Int32) (999 : Int32)) (fun z e => grd1 e) rfl rfl (by decide) (cat4 (Nat.le_of_ble_eq_true rfl)) dX10_readCompare_47 (kI (fun v4 h3 => ?_)) xNo
  refine x_if_ne (pc := 50) 55 (by decide) dX10_readCompare_50 ?_ ?_
  · refine x_aload_nR (pc := 55) (a := this) 1 rfl rfl dX10_readCompare_55 ?_
    refine x_aload_nR (pc := 56) (a := this) 1 rfl rfl dX10_readCompare_56 ?_
    refine x_bipush (pc := 57) (v := 50) (by decide) dX10_readCompare_57 ?_
    refine x_iload_n (pc := 59) 2 rfl rfl dX10_readCompare_59 ?_
    refine x_iadd (pc := 60) dX10_readCompare_60 ?_
    refine x_iconst (pc := 61) (v := 0) (by decide) dX10_readCompare_61 ?_
    refine x_aload_nR (pc := 62) (a := this) 1 rfl rfl dX10_readCompare_62 ?_
    refine x_getI (pc := 63) fi_X10_79 dX10_readCompare_63 ?_
    intro v5
    refine x_iload_n (pc := 66) 0 rfl rfl dX10_readCompare_66 ?_
    refine x_callV (pc := 67) (As := [.int ((50 : Int32) + x1), .int (0 : Int32), .int v5, .int v1]) (rest := [.ref this]) (lev' := 1) si_X10_377 (m_M_saysOne h3 this ((50 : Int32) + x1) (0 : Int32) v5 v1) (fun z e => grd1 e) rfl rfl (by decide) (cat4 (Nat.le_of_ble_eq_true rfl)) dX10_readCompare_67 (kI (fun v7 h6 => ?_)) xNo
    refine x_pI (pc := 70) fi_X10_374 (fun z => absurd z (by decide)) dX10_readCompare_70 ?_
    intro h8
    refine x_iconst (pc := 73) (v := 1) (by decide) dX10_readCompare_73 ?_
    exact x_zret (pc := 74) dX10_readCompare_74
  · refine x_iconst (pc := 53) (v := 0) (by decide) dX10_readCompare_53 ?_
    exact x_zret (pc := 54) dX10_readCompare_54
set_option maxHeartbeats 4000000 in
theorem m_M_readCompare (h : PH) (this : Nat) (x1 : Int32) : MM yX10_readCompare (ws_ yX10_readCompare cX10_readCompare 3 (some .boolean)) 4 [.ref this, .int x1] h (c_M_readCompare h this x1) := by
  refine MM.of (by decide) rfl (by decide) (Nat.le_of_ble_eq_true rfl) (own := RX10) (cc := cX10_readCompare) (maxL := 3) (lev := 4) (rt := (some .boolean)) (ini := false) ?_
  show Sim Y_M_readCompare h 0 [(0, .ref this), (1, .int x1)] [] _
  unfold c_M_readCompare
  refine x_grd ?_
  refine x_aload_nR (pc := 0) (a := this) 0 rfl rfl dX10_readCompare_0 ?_
  refine x_bipush (pc := 1) (v := 60) (by decide) dX10_readCompare_1 ?_
  refine x_callV (pc := 3) (As := [.int (60 : Int32)]) (rest := []) (lev' := 1) si_X10_86 (m_M_isSign h this (60 : Int32)) (fun z e => grd1 e) rfl rfl (by decide) (cat4 (Nat.le_of_ble_eq_true rfl)) dX10_readCompare_3 (kI (fun v2 h1 => ?_)) xNo
  refine x_if_ne (pc := 6) 33 (by decide) dX10_readCompare_6 ?_ ?_
  · exact w_M_readCompare_j33 h1 this x1
  · refine x_aload_nR (pc := 9) (a := this) 0 rfl rfl dX10_readCompare_9 ?_
    refine x_bipush (pc := 10) (v := 61) (by decide) dX10_readCompare_10 ?_
    refine x_callV (pc := 12) (As := [.int (61 : Int32)]) (rest := []) (lev' := 1) si_X10_86 (m_M_isSign h1 this (61 : Int32)) (fun z e => grd1 e) rfl rfl (by decide) (cat4 (Nat.le_of_ble_eq_true rfl)) dX10_readCompare_12 (kI (fun v4 h3 => ?_)) xNo
    refine x_if_ne (pc := 15) 33 (by decide) dX10_readCompare_15 ?_ ?_
    · exact w_M_readCompare_j33 h3 this x1
    · refine x_aload_nR (pc := 18) (a := this) 0 rfl rfl dX10_readCompare_18 ?_
      refine x_bipush (pc := 19) (v := 62) (by decide) dX10_readCompare_19 ?_
      refine x_callV (pc := 21) (As := [.int (62 : Int32)]) (rest := []) (lev' := 1) si_X10_86 (m_M_isSign h3 this (62 : Int32)) (fun z e => grd1 e) rfl rfl (by decide) (cat4 (Nat.le_of_ble_eq_true rfl)) dX10_readCompare_21 (kI (fun v6 h5 => ?_)) xNo
      refine x_if_ne (pc := 24) 33 (by decide) dX10_readCompare_24 ?_ ?_
      · exact w_M_readCompare_j33 h5 this x1
      · refine x_aload_nR (pc := 27) (a := this) 0 rfl rfl dX10_readCompare_27 ?_
        refine x_iconst (pc := 28) (v := 1) (by decide) dX10_readCompare_28 ?_
        refine x_callV (pc := 29) (As := [.int (1 : Int32)]) (rest := []) (lev' := 1) si_X10_72 (m_M_bad h5 this (1 : Int32)) (fun z e => grd1 e) rfl rfl (by decide) (cat4 (Nat.le_of_ble_eq_true rfl)) dX10_readCompare_29 (kI (fun v8 h7 => ?_)) xNo
        exact x_zret (pc := 32) dX10_readCompare_32
theorem fi_X10_386 : FI RX10 386 [8] 37 .int false true := (fi_c ci_8 (by decide) rfl rfl (Or.inl q1723) (Or.inl rfl) (fun h => absurd h (by decide)) fi_n)
theorem fi_X10_383 : FI RX10 383 [8] 36 .int false true := (fi_c ci_8 (by decide) rfl rfl (Or.inl q1722) (Or.inl rfl) (fun h => absurd h (by decide)) fi_n)
theorem si_X10_398 : SiV RX10 398 8 yX10_readCompare cX10_readCompare 3 (some .boolean) 1 := ⟨_, _, _, ci_8.1, by decide, lw_V q2269 q2271 qs105 q121 q2272, ⟨rfl, by decide, by decide, by decide +kernel⟩, by decide⟩
theorem si_X10_395 : SiV RX10 395 8 yX10_readOf cX10_readOf 2 (some .boolean) 1 := ⟨_, _, _, ci_8.1, by decide, lw_V q2265 q2267 qs104 q121 q2268, ⟨rfl, by decide, by decide, by decide +kernel⟩, by decide⟩
theorem si_X10_392 : SiV RX10 392 8 yX10_readNot cX10_readNot 1 (some .boolean) 0 := ⟨_, _, _, ci_8.1, by decide, lw_V q2257 q2259 qs102 q121 q2260, ⟨rfl, by decide, by decide, by decide +kernel⟩, by decide⟩
theorem si_X10_389 : SiV RX10 389 8 yX10_readBracket cX10_readBracket 1 (some .boolean) 0 := ⟨_, _, _, ci_8.1, by decide, lw_V q2253 q2255 qs101 q121 q2256, ⟨rfl, by decide, by decide, by decide +kernel⟩, by decide⟩
abbrev Y_M_readSaid (d : Nat) : Yx := (RX10, cX10_readSaid, 4, (6 + d + 1), (some .boolean), [], false)
def c_M_readSaid_j166 (rg : Nat → PH → Nat → Option RH) (h : PH) (this : Nat) (x3 : Int32) : Option RH :=
  gI h this [8] 37 fun v1 =>
  pI h this [8] 37 (v1 - (1 : Int32)) fun h2 =>
  rZ x3 h2
def c_M_readSaid_j165 (rg : Nat → PH → Nat → Option RH) (h : PH) (this : Nat) (s0 : Int32) : Option RH :=
  c_M_readSaid_j166 rg h this s0
def c_M_readSaid_j46 (rg : Nat → PH → Nat → Option RH) (h : PH) (this : Nat) (x1 : Int32) (x2 : Int32) : Option RH :=
  gI h this [8] 36 fun v1 =>
  if v1 = (20 : Int32) then
    hI (c_M_bad h this (4 : Int32)) noX fun v3 h2 =>
    rZ v3 h2
  else
    gI h this [8] 37 fun v4 =>
    if v4 = (8 : Int32) then
      hI (c_M_bad h this (4 : Int32)) noX fun v22 h21 =>
      rZ v22 h21
    else
      gI h this [8] 36 fun v5 =>
      pI h this [8] 36 (v5 + (1 : Int32)) fun h6 =>
      gI h6 this [8] 37 fun v7 =>
      pI h6 this [8] 37 (v7 + (1 : Int32)) fun h8 =>
      hV (c_M_go h8 this) noX fun h9 =>
      if x1 = 0 then
        if x2 = (13 : Int32) then
          hI (grd h9 this [8] (rg 3 h9 this)) noX fun v18 h17 =>
          c_M_readSaid_j166 rg h17 this v18
        else
          if (16 : Int32) ≤ x2 then
            if (18 : Int32) ≤ x2 then
              hI (c_M_readCompare h9 this x2) noX fun v11 h10 =>
              c_M_readSaid_j165 rg h10 this v11
            else
              hI (c_M_readOf h9 this x2) noX fun v13 h12 =>
              c_M_readSaid_j165 rg h12 this v13
          else
            hI (c_M_saysOne h9 this ((50 : Int32) + x2) (0 : Int32) (0 : Int32) (0 : Int32)) noX fun v15 h14 =>
            pI h14 this [8] 38 v15 fun h16 =>
            c_M_readSaid_j166 rg h16 this (1 : Int32)
      else
        hI (grd h9 this [8] (rg 4 h9 this)) noX fun v20 h19 =>
        c_M_readSaid_j166 rg h19 this v20
def c_M_readSaid_j30 (rg : Nat → PH → Nat → Option RH) (h : PH) (this : Nat) (x1 : Int32) (x2 : Int32) : Option RH :=
  if x1 = 0 then
    if x2 ≤ (22 : Int32) then
      c_M_readSaid_j46 rg h this x1 x2
    else
      hI (c_M_bad h this (1 : Int32)) noX fun v2 h1 =>
      rZ v2 h1
  else
    c_M_readSaid_j46 rg h this x1 x2
def c_M_readSaid_l10 (rg : Nat → PH → Nat → Option RH) (r10 : PH → Nat → Int32 → Int32 → Option RH) (h : PH) (this : Nat) (x1 : Int32) (x2 : Int32) : Option RH :=
  if (22 : Int32) < x2 then
    c_M_readSaid_j30 rg h this x1 x2
  else
    hI (c_M_isWord h this x2) noX fun v2 h1 =>
    if v2 = 0 then
      r10 h1 this x1 (x2 + (1 : Int32))
    else
      c_M_readSaid_j30 rg h1 this x1 x2
def b_M_readSaid (rg : Nat → PH → Nat → Option RH) (h : PH) (this : Nat) : Option RH :=
  grd h this [8] (
  hI (c_M_isSign h this (40 : Int32)) noX fun v2 h1 =>
  itr (c_M_readSaid_l10 rg) (fun _ _ _ _ => none) FU h1 this v2 (13 : Int32))
set_option maxHeartbeats 4000000 in
theorem w_M_readSaid_j166 (rg : Nat → PH → Nat → Option RH) {d : Nat} (hrg : (∀ (h : PH) (this : Nat), MM yX10_readOr (ws_ yX10_readOr cX10_readOr 2 (some .boolean)) (6 + d) [.ref this] h (rg 0 h this)) ∧ (∀ (h : PH) (this : Nat), MM yX10_readAnd (ws_ yX10_readAnd cX10_readAnd 2 (some .boolean)) (6 + d) [.ref this] h (rg 1 h this)) ∧ (∀ (h : PH) (this : Nat), MM yX10_readSaid (ws_ yX10_readSaid cX10_readSaid 4 (some .boolean)) (6 + d) [.ref this] h (rg 2 h this)) ∧ (∀ (h : PH) (this : Nat), MM yX10_readNot (ws_ yX10_readNot cX10_readNot 1 (some .boolean)) (6 + d) [.ref this] h (rg 3 h this)) ∧ (∀ (h : PH) (this : Nat), MM yX10_readBracket (ws_ yX10_readBracket cX10_readBracket 1 (some .boolean)) (6 + d) [.ref this] h (rg 4 h this))) (h : PH) (this : Nat) (x3 : Int32) : Sim (Y_M_readSaid d) h 166 [(0, .ref this), (3, .int x3)] [] (c_M_readSaid_j166 rg h this x3) := by
  unfold c_M_readSaid_j166
  refine x_aload_nR (pc := 166) (a := this) 0 rfl rfl dX10_readSaid_166 ?_
  refine x_dup (pc := 167) rfl dX10_readSaid_167 ?_
  refine x_getI (pc := 168) fi_X10_386 dX10_readSaid_168 ?_
  intro v1
  refine x_iconst (pc := 171) (v := 1) (by decide) dX10_readSaid_171 ?_
  refine x_isub (pc := 172) dX10_readSaid_172 ?_
  refine x_pI (pc := 173) fi_X10_386 (fun z => absurd z (by decide)) dX10_readSaid_173 ?_
  intro h2
  refine x_iload_n (pc := 176) 1 rfl rfl dX10_readSaid_176 ?_
  exact x_zret (pc := 177) dX10_readSaid_177
set_option maxHeartbeats 4000000 in
theorem w_M_readSaid_j165 (rg : Nat → PH → Nat → Option RH) {d : Nat} (hrg : (∀ (h : PH) (this : Nat), MM yX10_readOr (ws_ yX10_readOr cX10_readOr 2 (some .boolean)) (6 + d) [.ref this] h (rg 0 h this)) ∧ (∀ (h : PH) (this : Nat), MM yX10_readAnd (ws_ yX10_readAnd cX10_readAnd 2 (some .boolean)) (6 + d) [.ref this] h (rg 1 h this)) ∧ (∀ (h : PH) (this : Nat), MM yX10_readSaid (ws_ yX10_readSaid cX10_readSaid 4 (some .boolean)) (6 + d) [.ref this] h (rg 2 h this)) ∧ (∀ (h : PH) (this : Nat), MM yX10_readNot (ws_ yX10_readNot cX10_readNot 1 (some .boolean)) (6 + d) [.ref this] h (rg 3 h this)) ∧ (∀ (h : PH) (this : Nat), MM yX10_readBracket (ws_ yX10_readBracket cX10_readBracket 1 (some .boolean)) (6 + d) [.ref this] h (rg 4 h this))) (h : PH) (this : Nat) (s0 : Int32) : Sim (Y_M_readSaid d) h 165 [(0, .ref this)] [.int s0] (c_M_readSaid_j165 rg h this s0) := by
  unfold c_M_readSaid_j165
  refine x_istore_n (pc := 165) (lv' := [(3, .int s0), (0, .ref this)]) rfl (by decide) rfl dX10_readSaid_165 ?_
  refine Sim.lv [1, 0] rfl ?_
  exact w_M_readSaid_j166 rg hrg h this s0
set_option maxHeartbeats 4000000 in
theorem w_M_readSaid_j46 (rg : Nat → PH → Nat → Option RH) {d : Nat} (hrg : (∀ (h : PH) (this : Nat), MM yX10_readOr (ws_ yX10_readOr cX10_readOr 2 (some .boolean)) (6 + d) [.ref this] h (rg 0 h this)) ∧ (∀ (h : PH) (this : Nat), MM yX10_readAnd (ws_ yX10_readAnd cX10_readAnd 2 (some .boolean)) (6 + d) [.ref this] h (rg 1 h this)) ∧ (∀ (h : PH) (this : Nat), MM yX10_readSaid (ws_ yX10_readSaid cX10_readSaid 4 (some .boolean)) (6 + d) [.ref this] h (rg 2 h this)) ∧ (∀ (h : PH) (this : Nat), MM yX10_readNot (ws_ yX10_readNot cX10_readNot 1 (some .boolean)) (6 + d) [.ref this] h (rg 3 h this)) ∧ (∀ (h : PH) (this : Nat), MM yX10_readBracket (ws_ yX10_readBracket cX10_readBracket 1 (some .boolean)) (6 + d) [.ref this] h (rg 4 h this))) (h : PH) (this : Nat) (x1 : Int32) (x2 : Int32) : Sim (Y_M_readSaid d) h 46 [(0, .ref this), (1, .int x1), (2, .int x2)] [] (c_M_readSaid_j46 rg h this x1 x2) := by
  unfold c_M_readSaid_j46
  refine x_aload_nR (pc := 46) (a := this) 0 rfl rfl dX10_readSaid_46 ?_
  refine x_getI (pc := 47) fi_X10_383 dX10_readSaid_47 ?_
  intro v1
  refine x_bipush (pc := 50) (v := 20) (by decide) dX10_readSaid_50 ?_
  refine x_icmp_eq (pc := 52) 64 (by decide) dX10_readSaid_52 ?_ ?_
  · refine x_aload_nR (pc := 64) (a := this) 0 rfl rfl dX10_readSaid_64 ?_
    refine x_iconst (pc := 65) (v := 4) (by decide) dX10_readSaid_65 ?_
    refine x_callV (pc := 66) (As := [.int (4 : Int32)]) (rest := []) (lev' := 1) si_X10_72 (m_M_bad h this (4 : Int32)) (fun z e => grd1 e) rfl rfl (by omega) (cat4 (Nat.le_of_ble_eq_true rfl)) dX10_readSaid_66 (kI (fun v3 h2 => ?_)) xNo
    exact x_zret (pc := 69) dX10_readSaid_69
  · refine x_aload_nR (pc := 55) (a := this) 0 rfl rfl dX10_readSaid_55 ?_
    refine x_getI (pc := 56) fi_X10_386 dX10_readSaid_56 ?_
    intro v4
    refine x_bipush (pc := 59) (v := 8) (by decide) dX10_readSaid_59 ?_
    refine x_icmp_ne (pc := 61) 70 (by decide) dX10_readSaid_61 ?_ ?_
    · refine x_aload_nR (pc := 70) (a := this) 0 rfl rfl dX10_readSaid_70 ?_
      refine x_dup (pc := 71) rfl dX10_readSaid_71 ?_
      refine x_getI (pc := 72) fi_X10_383 dX10_readSaid_72 ?_
      intro v5
      refine x_iconst (pc := 75) (v := 1) (by decide) dX10_readSaid_75 ?_
      refine x_iadd (pc := 76) dX10_readSaid_76 ?_
      refine x_pI (pc := 77) fi_X10_383 (fun z => absurd z (by decide)) dX10_readSaid_77 ?_
      intro h6
      refine x_aload_nR (pc := 80) (a := this) 0 rfl rfl dX10_readSaid_80 ?_
      refine x_dup (pc := 81) rfl dX10_readSaid_81 ?_
      refine x_getI (pc := 82) fi_X10_386 dX10_readSaid_82 ?_
      intro v7
      refine x_iconst (pc := 85) (v := 1) (by decide) dX10_readSaid_85 ?_
      refine x_iadd (pc := 86) dX10_readSaid_86 ?_
      refine x_pI (pc := 87) fi_X10_386 (fun z => absurd z (by decide)) dX10_readSaid_87 ?_
      intro h8
      refine x_aload_nR (pc := 90) (a := this) 0 rfl rfl dX10_readSaid_90 ?_
      refine x_callV (pc := 91) (As := []) (rest := []) (lev' := 2) si_X10_82 (m_M_go h8 this) (fun z e => grd1 e) rfl rfl (by omega) (cat4 (Nat.le_of_ble_eq_true rfl)) dX10_readSaid_91 (kV (fun h9 => ?_)) xNo
      refine x_iconst (pc := 94) (v := 1) (by decide) dX10_readSaid_94 ?_
      refine x_istore_n (pc := 95) (lv' := [(3, .int (1 : Int32)), (0, .ref this), (1, .int x1), (2, .int x2)]) rfl (by decide) rfl dX10_readSaid_95 ?_
      refine x_iload_n (pc := 96) 2 rfl rfl dX10_readSaid_96 ?_
      refine x_if_eq (pc := 97) 108 (by decide) dX10_readSaid_97 ?_ ?_
      · refine x_iload_n (pc := 108) 3 rfl rfl dX10_readSaid_108 ?_
        refine x_bipush (pc := 109) (v := 13) (by decide) dX10_readSaid_109 ?_
        refine x_icmp_ne (pc := 111) 122 (by decide) dX10_readSaid_111 ?_ ?_
        · refine x_iload_n (pc := 122) 3 rfl rfl dX10_readSaid_122 ?_
          refine x_bipush (pc := 123) (v := 16) (by decide) dX10_readSaid_123 ?_
          refine x_icmp_ge (pc := 125) 146 (by decide) dX10_readSaid_125 ?_ ?_
          · refine x_iload_n (pc := 146) 3 rfl rfl dX10_readSaid_146 ?_
            refine x_bipush (pc := 147) (v := 18) (by decide) dX10_readSaid_147 ?_
            refine x_icmp_ge (pc := 149) 160 (by decide) dX10_readSaid_149 ?_ ?_
            · refine x_aload_nR (pc := 160) (a := this) 1 rfl rfl dX10_readSaid_160 ?_
              refine x_iload_n (pc := 161) 3 rfl rfl dX10_readSaid_161 ?_
              refine x_callV (pc := 162) (As := [.int x2]) (rest := []) (lev' := 4) si_X10_398 (m_M_readCompare h9 this x2) (fun z e => grd1 e) rfl rfl (by omega) (cat4 (Nat.le_of_ble_eq_true rfl)) dX10_readSaid_162 (kI (fun v11 h10 => ?_)) xNo
              refine Sim.lv [1] rfl ?_
              exact w_M_readSaid_j165 rg hrg h10 this v11
            · refine x_aload_nR (pc := 152) (a := this) 1 rfl rfl dX10_readSaid_152 ?_
              refine x_iload_n (pc := 153) 3 rfl rfl dX10_readSaid_153 ?_
              refine x_callV (pc := 154) (As := [.int x2]) (rest := []) (lev' := 5) si_X10_395 (m_M_readOf h9 this x2) (fun z e => grd1 e) rfl rfl (by omega) (cat4 (Nat.le_of_ble_eq_true rfl)) dX10_readSaid_154 (kI (fun v13 h12 => ?_)) xNo
              refine x_goto (pc := 157) 165 (by decide) dX10_readSaid_157 ?_
              refine Sim.lv [1] rfl ?_
              exact w_M_readSaid_j165 rg hrg h12 this v13
          · refine x_aload_nR (pc := 128) (a := this) 1 rfl rfl dX10_readSaid_128 ?_
            refine x_aload_nR (pc := 129) (a := this) 1 rfl rfl dX10_readSaid_129 ?_
            refine x_bipush (pc := 130) (v := 50) (by decide) dX10_readSaid_130 ?_
            refine x_iload_n (pc := 132) 3 rfl rfl dX10_readSaid_132 ?_
            refine x_iadd (pc := 133) dX10_readSaid_133 ?_
            refine x_iconst (pc := 134) (v := 0) (by decide) dX10_readSaid_134 ?_
            refine x_iconst (pc := 135) (v := 0) (by decide) dX10_readSaid_135 ?_
            refine x_iconst (pc := 136) (v := 0) (by decide) dX10_readSaid_136 ?_
            refine x_callV (pc := 137) (As := [.int ((50 : Int32) + x2), .int (0 : Int32), .int (0 : Int32), .int (0 : Int32)]) (rest := [.ref this]) (lev' := 1) si_X10_377 (m_M_saysOne h9 this ((50 : Int32) + x2) (0 : Int32) (0 : Int32) (0 : Int32)) (fun z e => grd1 e) rfl rfl (by omega) (cat4 (Nat.le_of_ble_eq_true rfl)) dX10_readSaid_137 (kI (fun v15 h14 => ?_)) xNo
            refine x_pI (pc := 140) fi_X10_374 (fun z => absurd z (by decide)) dX10_readSaid_140 ?_
            intro h16
            refine x_goto (pc := 143) 166 (by decide) dX10_readSaid_143 ?_
            refine Sim.lv [1, 0] rfl ?_
            exact w_M_readSaid_j166 rg hrg h16 this (1 : Int32)
        · refine x_aload_nR (pc := 114) (a := this) 1 rfl rfl dX10_readSaid_114 ?_
          refine x_callV (pc := 115) (As := []) (rest := []) (lev' := (6 + d)) si_X10_392 (MM.grd (hrg.2.2.2.1 h9 this)) (fun z e => grd1 e) rfl rfl (by omega) (cat4 (Nat.le_of_ble_eq_true rfl)) dX10_readSaid_115 (kI (fun v18 h17 => ?_)) xNo
          refine x_istore_n (pc := 118) (lv' := [(3, .int v18), (0, .ref this), (1, .int x1), (2, .int x2)]) rfl (by decide) rfl dX10_readSaid_118 ?_
          refine x_goto (pc := 119) 166 (by decide) dX10_readSaid_119 ?_
          refine Sim.lv [1, 0] rfl ?_
          exact w_M_readSaid_j166 rg hrg h17 this v18
      · refine x_aload_nR (pc := 100) (a := this) 1 rfl rfl dX10_readSaid_100 ?_
        refine x_callV (pc := 101) (As := []) (rest := []) (lev' := (6 + d)) si_X10_389 (MM.grd (hrg.2.2.2.2 h9 this)) (fun z e => grd1 e) rfl rfl (by omega) (cat4 (Nat.le_of_ble_eq_true rfl)) dX10_readSaid_101 (kI (fun v20 h19 => ?_)) xNo
        refine x_istore_n (pc := 104) (lv' := [(3, .int v20), (0, .ref this), (1, .int x1), (2, .int x2)]) rfl (by decide) rfl dX10_readSaid_104 ?_
        refine x_goto (pc := 105) 166 (by decide) dX10_readSaid_105 ?_
        refine Sim.lv [1, 0] rfl ?_
        exact w_M_readSaid_j166 rg hrg h19 this v20
    · refine x_aload_nR (pc := 64) (a := this) 0 rfl rfl dX10_readSaid_64 ?_
      refine x_iconst (pc := 65) (v := 4) (by decide) dX10_readSaid_65 ?_
      refine x_callV (pc := 66) (As := [.int (4 : Int32)]) (rest := []) (lev' := 1) si_X10_72 (m_M_bad h this (4 : Int32)) (fun z e => grd1 e) rfl rfl (by omega) (cat4 (Nat.le_of_ble_eq_true rfl)) dX10_readSaid_66 (kI (fun v22 h21 => ?_)) xNo
      exact x_zret (pc := 69) dX10_readSaid_69
set_option maxHeartbeats 4000000 in
theorem w_M_readSaid_j30 (rg : Nat → PH → Nat → Option RH) {d : Nat} (hrg : (∀ (h : PH) (this : Nat), MM yX10_readOr (ws_ yX10_readOr cX10_readOr 2 (some .boolean)) (6 + d) [.ref this] h (rg 0 h this)) ∧ (∀ (h : PH) (this : Nat), MM yX10_readAnd (ws_ yX10_readAnd cX10_readAnd 2 (some .boolean)) (6 + d) [.ref this] h (rg 1 h this)) ∧ (∀ (h : PH) (this : Nat), MM yX10_readSaid (ws_ yX10_readSaid cX10_readSaid 4 (some .boolean)) (6 + d) [.ref this] h (rg 2 h this)) ∧ (∀ (h : PH) (this : Nat), MM yX10_readNot (ws_ yX10_readNot cX10_readNot 1 (some .boolean)) (6 + d) [.ref this] h (rg 3 h this)) ∧ (∀ (h : PH) (this : Nat), MM yX10_readBracket (ws_ yX10_readBracket cX10_readBracket 1 (some .boolean)) (6 + d) [.ref this] h (rg 4 h this))) (h : PH) (this : Nat) (x1 : Int32) (x2 : Int32) : Sim (Y_M_readSaid d) h 30 [(0, .ref this), (1, .int x1), (2, .int x2)] [] (c_M_readSaid_j30 rg h this x1 x2) := by
  unfold c_M_readSaid_j30
  refine x_iload_n (pc := 30) 1 rfl rfl dX10_readSaid_30 ?_
  refine x_if_ne (pc := 31) 46 (by decide) dX10_readSaid_31 ?_ ?_
  · exact w_M_readSaid_j46 rg hrg h this x1 x2
  · refine x_iload_n (pc := 34) 2 rfl rfl dX10_readSaid_34 ?_
    refine x_bipush (pc := 35) (v := 22) (by decide) dX10_readSaid_35 ?_
    refine x_icmp_le (pc := 37) 46 (by decide) dX10_readSaid_37 ?_ ?_
    · exact w_M_readSaid_j46 rg hrg h this x1 x2
    · refine x_aload_nR (pc := 40) (a := this) 0 rfl rfl dX10_readSaid_40 ?_
      refine x_iconst (pc := 41) (v := 1) (by decide) dX10_readSaid_41 ?_
      refine x_callV (pc := 42) (As := [.int (1 : Int32)]) (rest := []) (lev' := 1) si_X10_72 (m_M_bad h this (1 : Int32)) (fun z e => grd1 e) rfl rfl (by omega) (cat4 (Nat.le_of_ble_eq_true rfl)) dX10_readSaid_42 (kI (fun v2 h1 => ?_)) xNo
      exact x_zret (pc := 45) dX10_readSaid_45
set_option maxHeartbeats 4000000 in
theorem w_M_readSaid_l10 (rg : Nat → PH → Nat → Option RH) (r10 : PH → Nat → Int32 → Int32 → Option RH) {d : Nat} (hrg : (∀ (h : PH) (this : Nat), MM yX10_readOr (ws_ yX10_readOr cX10_readOr 2 (some .boolean)) (6 + d) [.ref this] h (rg 0 h this)) ∧ (∀ (h : PH) (this : Nat), MM yX10_readAnd (ws_ yX10_readAnd cX10_readAnd 2 (some .boolean)) (6 + d) [.ref this] h (rg 1 h this)) ∧ (∀ (h : PH) (this : Nat), MM yX10_readSaid (ws_ yX10_readSaid cX10_readSaid 4 (some .boolean)) (6 + d) [.ref this] h (rg 2 h this)) ∧ (∀ (h : PH) (this : Nat), MM yX10_readNot (ws_ yX10_readNot cX10_readNot 1 (some .boolean)) (6 + d) [.ref this] h (rg 3 h this)) ∧ (∀ (h : PH) (this : Nat), MM yX10_readBracket (ws_ yX10_readBracket cX10_readBracket 1 (some .boolean)) (6 + d) [.ref this] h (rg 4 h this))) (hr10 : ∀ (h : PH) (this : Nat) (x1 : Int32) (x2 : Int32), Sim (Y_M_readSaid d) h 10 [(0, .ref this), (1, .int x1), (2, .int x2)] [] (r10 h this x1 x2)) (h : PH) (this : Nat) (x1 : Int32) (x2 : Int32) : Sim (Y_M_readSaid d) h 10 [(0, .ref this), (1, .int x1), (2, .int x2)] [] (c_M_readSaid_l10 rg r10 h this x1 x2) := by
  unfold c_M_readSaid_l10
  refine x_iload_n (pc := 10) 2 rfl rfl dX10_readSaid_10 ?_
  refine x_bipush (pc := 11) (v := 22) (by decide) dX10_readSaid_11 ?_
  refine x_icmp_gt (pc := 13) 30 (by decide) dX10_readSaid_13 ?_ ?_
  · exact w_M_readSaid_j30 rg hrg h this x1 x2
  · refine x_aload_nR (pc := 16) (a := this) 0 rfl rfl dX10_readSaid_16 ?_
    refine x_iload_n (pc := 17) 2 rfl rfl dX10_readSaid_17 ?_
    refine x_callV (pc := 18) (As := [.int x2]) (rest := []) (lev' := 3) si_X10_168 (m_M_isWord h this x2) (fun z e => grd1 e) rfl rfl (by omega) (cat4 (Nat.le_of_ble_eq_true rfl)) dX10_readSaid_18 (kI (fun v2 h1 => ?_)) xNo
    refine x_if_ne (pc := 21) 30 (by decide) dX10_readSaid_21 ?_ ?_
    · exact w_M_readSaid_j30 rg hrg h1 this x1 x2
    · refine x_iinc (pc := 24) (v := (1 : Int32)) (lv' := [(2, .int (x2 + (1 : Int32))), (0, .ref this), (1, .int x1)]) 2 rfl (by decide) (by decide) rfl dX10_readSaid_24 ?_
      refine x_goto (pc := 27) 10 (by decide) dX10_readSaid_27 ?_
      refine Sim.lv [1, 2, 0] rfl ?_
      exact hr10 h1 this x1 (x2 + (1 : Int32))
set_option maxHeartbeats 4000000 in
theorem v_M_readSaid_l10 (rg : Nat → PH → Nat → Option RH) {d : Nat} (hrg : (∀ (h : PH) (this : Nat), MM yX10_readOr (ws_ yX10_readOr cX10_readOr 2 (some .boolean)) (6 + d) [.ref this] h (rg 0 h this)) ∧ (∀ (h : PH) (this : Nat), MM yX10_readAnd (ws_ yX10_readAnd cX10_readAnd 2 (some .boolean)) (6 + d) [.ref this] h (rg 1 h this)) ∧ (∀ (h : PH) (this : Nat), MM yX10_readSaid (ws_ yX10_readSaid cX10_readSaid 4 (some .boolean)) (6 + d) [.ref this] h (rg 2 h this)) ∧ (∀ (h : PH) (this : Nat), MM yX10_readNot (ws_ yX10_readNot cX10_readNot 1 (some .boolean)) (6 + d) [.ref this] h (rg 3 h this)) ∧ (∀ (h : PH) (this : Nat), MM yX10_readBracket (ws_ yX10_readBracket cX10_readBracket 1 (some .boolean)) (6 + d) [.ref this] h (rg 4 h this))) : ∀ (n : Nat) (h : PH) (this : Nat) (x1 : Int32) (x2 : Int32), Sim (Y_M_readSaid d) h 10 [(0, .ref this), (1, .int x1), (2, .int x2)] [] (itr (c_M_readSaid_l10 rg) (fun _ _ _ _ => none) n h this x1 x2)
  | 0, h, this, x1, x2 => Sim.none
  | n + 1, h, this, x1, x2 => w_M_readSaid_l10 rg _ hrg (v_M_readSaid_l10 rg hrg n) h this x1 x2
set_option maxHeartbeats 4000000 in
theorem t_M_readSaid (rg : Nat → PH → Nat → Option RH) {d : Nat} (hrg : (∀ (h : PH) (this : Nat), MM yX10_readOr (ws_ yX10_readOr cX10_readOr 2 (some .boolean)) (6 + d) [.ref this] h (rg 0 h this)) ∧ (∀ (h : PH) (this : Nat), MM yX10_readAnd (ws_ yX10_readAnd cX10_readAnd 2 (some .boolean)) (6 + d) [.ref this] h (rg 1 h this)) ∧ (∀ (h : PH) (this : Nat), MM yX10_readSaid (ws_ yX10_readSaid cX10_readSaid 4 (some .boolean)) (6 + d) [.ref this] h (rg 2 h this)) ∧ (∀ (h : PH) (this : Nat), MM yX10_readNot (ws_ yX10_readNot cX10_readNot 1 (some .boolean)) (6 + d) [.ref this] h (rg 3 h this)) ∧ (∀ (h : PH) (this : Nat), MM yX10_readBracket (ws_ yX10_readBracket cX10_readBracket 1 (some .boolean)) (6 + d) [.ref this] h (rg 4 h this))) (h : PH) (this : Nat) : MM yX10_readSaid (ws_ yX10_readSaid cX10_readSaid 4 (some .boolean)) (6 + d + 1) [.ref this] h (b_M_readSaid rg h this) := by
  refine MM.of (by decide) rfl (by decide) (Nat.le_of_ble_eq_true rfl) (own := RX10) (cc := cX10_readSaid) (maxL := 4) (lev := (6 + d + 1)) (rt := (some .boolean)) (ini := false) ?_
  show Sim (Y_M_readSaid d) h 0 [(0, .ref this)] [] _
  unfold b_M_readSaid
  refine x_grd ?_
  refine x_aload_nR (pc := 0) (a := this) 0 rfl rfl dX10_readSaid_0 ?_
  refine x_bipush (pc := 1) (v := 40) (by decide) dX10_readSaid_1 ?_
  refine x_callV (pc := 3) (As := [.int (40 : Int32)]) (rest := []) (lev' := 1) si_X10_86 (m_M_isSign h this (40 : Int32)) (fun z e => grd1 e) rfl rfl (by omega) (cat4 (Nat.le_of_ble_eq_true rfl)) dX10_readSaid_3 (kI (fun v2 h1 => ?_)) xNo
  refine x_istore_n (pc := 6) (lv' := [(1, .int v2), (0, .ref this)]) rfl (by decide) rfl dX10_readSaid_6 ?_
  refine x_bipush (pc := 7) (v := 13) (by decide) dX10_readSaid_7 ?_
  refine x_istore_n (pc := 9) (lv' := [(2, .int (13 : Int32)), (1, .int v2), (0, .ref this)]) rfl (by decide) rfl dX10_readSaid_9 ?_
  refine Sim.lv [2, 1, 0] rfl ?_
  exact v_M_readSaid_l10 rg hrg FU h1 this v2 (13 : Int32)
abbrev Y_M_readAnd (d : Nat) : Yx := (RX10, cX10_readAnd, 2, (6 + d + 1), (some .boolean), [], false)
def c_M_readAnd_l14 (rg : Nat → PH → Nat → Option RH) (r14 : PH → Nat → Int32 → Option RH) (h : PH) (this : Nat) (x1 : Int32) : Option RH :=
  hI (c_M_isWord h this (12 : Int32)) noX fun v2 h1 =>
  if v2 = 0 then
    pI h1 this [8] 38 x1 fun h3 =>
    rZ (1 : Int32) h3
  else
    hV (c_M_go h1 this) noX fun h4 =>
    hI (grd h4 this [8] (rg 2 h4 this)) noX fun v6 h5 =>
    if v6 = 0 then
      rZ (0 : Int32) h5
    else
      gI h5 this [8] 38 fun v7 =>
      hI (c_M_saysOne h5 this (2 : Int32) x1 v7 (0 : Int32)) noX fun v9 h8 =>
      r14 h8 this v9
def b_M_readAnd (rg : Nat → PH → Nat → Option RH) (h : PH) (this : Nat) : Option RH :=
  grd h this [8] (
  hI (grd h this [8] (rg 2 h this)) noX fun v2 h1 =>
  if v2 = 0 then
    rZ (0 : Int32) h1
  else
    gI h1 this [8] 38 fun v3 =>
    itr (c_M_readAnd_l14 rg) (fun _ _ _ => none) FU h1 this v3)
set_option maxHeartbeats 4000000 in
theorem w_M_readAnd_l14 (rg : Nat → PH → Nat → Option RH) (r14 : PH → Nat → Int32 → Option RH) {d : Nat} (hrg : (∀ (h : PH) (this : Nat), MM yX10_readOr (ws_ yX10_readOr cX10_readOr 2 (some .boolean)) (6 + d) [.ref this] h (rg 0 h this)) ∧ (∀ (h : PH) (this : Nat), MM yX10_readAnd (ws_ yX10_readAnd cX10_readAnd 2 (some .boolean)) (6 + d) [.ref this] h (rg 1 h this)) ∧ (∀ (h : PH) (this : Nat), MM yX10_readSaid (ws_ yX10_readSaid cX10_readSaid 4 (some .boolean)) (6 + d) [.ref this] h (rg 2 h this)) ∧ (∀ (h : PH) (this : Nat), MM yX10_readNot (ws_ yX10_readNot cX10_readNot 1 (some .boolean)) (6 + d) [.ref this] h (rg 3 h this)) ∧ (∀ (h : PH) (this : Nat), MM yX10_readBracket (ws_ yX10_readBracket cX10_readBracket 1 (some .boolean)) (6 + d) [.ref this] h (rg 4 h this))) (hr14 : ∀ (h : PH) (this : Nat) (x1 : Int32), Sim (Y_M_readAnd d) h 14 [(0, .ref this), (1, .int x1)] [] (r14 h this x1)) (h : PH) (this : Nat) (x1 : Int32) : Sim (Y_M_readAnd d) h 14 [(0, .ref this), (1, .int x1)] [] (c_M_readAnd_l14 rg r14 h this x1) := by
  unfold c_M_readAnd_l14
  refine x_aload_nR (pc := 14) (a := this) 0 rfl rfl dX10_readAnd_14 ?_
  refine x_bipush (pc := 15) (v := 12) (by decide) dX10_readAnd_15 ?_
  refine x_callV (pc := 17) (As := [.int (12 : Int32)]) (rest := []) (lev' := 3) si_X10_168 (m_M_isWord h this (12 : Int32)) (fun z e => grd1 e) rfl rfl (by omega) (cat4 (Nat.le_of_ble_eq_true rfl)) dX10_readAnd_17 (kI (fun v2 h1 => ?_)) xNo
  refine x_if_eq (pc := 20) 51 (by decide) dX10_readAnd_20 ?_ ?_
  · refine x_aload_nR (pc := 51) (a := this) 0 rfl rfl dX10_readAnd_51 ?_
    refine x_iload_n (pc := 52) 1 rfl rfl dX10_readAnd_52 ?_
    refine x_pI (pc := 53) fi_X10_374 (fun z => absurd z (by decide)) dX10_readAnd_53 ?_
    intro h3
    refine x_iconst (pc := 56) (v := 1) (by decide) dX10_readAnd_56 ?_
    exact x_zret (pc := 57) dX10_readAnd_57
  · refine x_aload_nR (pc := 23) (a := this) 0 rfl rfl dX10_readAnd_23 ?_
    refine x_callV (pc := 24) (As := []) (rest := []) (lev' := 2) si_X10_82 (m_M_go h1 this) (fun z e => grd1 e) rfl rfl (by omega) (cat4 (Nat.le_of_ble_eq_true rfl)) dX10_readAnd_24 (kV (fun h4 => ?_)) xNo
    refine x_aload_nR (pc := 27) (a := this) 0 rfl rfl dX10_readAnd_27 ?_
    refine x_callV (pc := 28) (As := []) (rest := []) (lev' := (6 + d)) si_X10_380 (MM.grd (hrg.2.2.1 h4 this)) (fun z e => grd1 e) rfl rfl (by omega) (cat4 (Nat.le_of_ble_eq_true rfl)) dX10_readAnd_28 (kI (fun v6 h5 => ?_)) xNo
    refine x_if_ne (pc := 31) 36 (by decide) dX10_readAnd_31 ?_ ?_
    · refine x_aload_nR (pc := 36) (a := this) 0 rfl rfl dX10_readAnd_36 ?_
      refine x_iconst (pc := 37) (v := 2) (by decide) dX10_readAnd_37 ?_
      refine x_iload_n (pc := 38) 1 rfl rfl dX10_readAnd_38 ?_
      refine x_aload_nR (pc := 39) (a := this) 0 rfl rfl dX10_readAnd_39 ?_
      refine x_getI (pc := 40) fi_X10_374 dX10_readAnd_40 ?_
      intro v7
      refine x_iconst (pc := 43) (v := 0) (by decide) dX10_readAnd_43 ?_
      refine x_callV (pc := 44) (As := [.int (2 : Int32), .int x1, .int v7, .int (0 : Int32)]) (rest := []) (lev' := 1) si_X10_377 (m_M_saysOne h5 this (2 : Int32) x1 v7 (0 : Int32)) (fun z e => grd1 e) rfl rfl (by omega) (cat4 (Nat.le_of_ble_eq_true rfl)) dX10_readAnd_44 (kI (fun v9 h8 => ?_)) xNo
      refine x_istore_n (pc := 47) (lv' := [(1, .int v9), (0, .ref this)]) rfl (by decide) rfl dX10_readAnd_47 ?_
      refine x_goto (pc := 48) 14 (by decide) dX10_readAnd_48 ?_
      refine Sim.lv [1, 0] rfl ?_
      exact hr14 h8 this v9
    · refine x_iconst (pc := 34) (v := 0) (by decide) dX10_readAnd_34 ?_
      exact x_zret (pc := 35) dX10_readAnd_35
set_option maxHeartbeats 4000000 in
theorem v_M_readAnd_l14 (rg : Nat → PH → Nat → Option RH) {d : Nat} (hrg : (∀ (h : PH) (this : Nat), MM yX10_readOr (ws_ yX10_readOr cX10_readOr 2 (some .boolean)) (6 + d) [.ref this] h (rg 0 h this)) ∧ (∀ (h : PH) (this : Nat), MM yX10_readAnd (ws_ yX10_readAnd cX10_readAnd 2 (some .boolean)) (6 + d) [.ref this] h (rg 1 h this)) ∧ (∀ (h : PH) (this : Nat), MM yX10_readSaid (ws_ yX10_readSaid cX10_readSaid 4 (some .boolean)) (6 + d) [.ref this] h (rg 2 h this)) ∧ (∀ (h : PH) (this : Nat), MM yX10_readNot (ws_ yX10_readNot cX10_readNot 1 (some .boolean)) (6 + d) [.ref this] h (rg 3 h this)) ∧ (∀ (h : PH) (this : Nat), MM yX10_readBracket (ws_ yX10_readBracket cX10_readBracket 1 (some .boolean)) (6 + d) [.ref this] h (rg 4 h this))) : ∀ (n : Nat) (h : PH) (this : Nat) (x1 : Int32), Sim (Y_M_readAnd d) h 14 [(0, .ref this), (1, .int x1)] [] (itr (c_M_readAnd_l14 rg) (fun _ _ _ => none) n h this x1)
  | 0, h, this, x1 => Sim.none
  | n + 1, h, this, x1 => w_M_readAnd_l14 rg _ hrg (v_M_readAnd_l14 rg hrg n) h this x1
set_option maxHeartbeats 4000000 in
theorem t_M_readAnd (rg : Nat → PH → Nat → Option RH) {d : Nat} (hrg : (∀ (h : PH) (this : Nat), MM yX10_readOr (ws_ yX10_readOr cX10_readOr 2 (some .boolean)) (6 + d) [.ref this] h (rg 0 h this)) ∧ (∀ (h : PH) (this : Nat), MM yX10_readAnd (ws_ yX10_readAnd cX10_readAnd 2 (some .boolean)) (6 + d) [.ref this] h (rg 1 h this)) ∧ (∀ (h : PH) (this : Nat), MM yX10_readSaid (ws_ yX10_readSaid cX10_readSaid 4 (some .boolean)) (6 + d) [.ref this] h (rg 2 h this)) ∧ (∀ (h : PH) (this : Nat), MM yX10_readNot (ws_ yX10_readNot cX10_readNot 1 (some .boolean)) (6 + d) [.ref this] h (rg 3 h this)) ∧ (∀ (h : PH) (this : Nat), MM yX10_readBracket (ws_ yX10_readBracket cX10_readBracket 1 (some .boolean)) (6 + d) [.ref this] h (rg 4 h this))) (h : PH) (this : Nat) : MM yX10_readAnd (ws_ yX10_readAnd cX10_readAnd 2 (some .boolean)) (6 + d + 1) [.ref this] h (b_M_readAnd rg h this) := by
  refine MM.of (by decide) rfl (by decide) (Nat.le_of_ble_eq_true rfl) (own := RX10) (cc := cX10_readAnd) (maxL := 2) (lev := (6 + d + 1)) (rt := (some .boolean)) (ini := false) ?_
  show Sim (Y_M_readAnd d) h 0 [(0, .ref this)] [] _
  unfold b_M_readAnd
  refine x_grd ?_
  refine x_aload_nR (pc := 0) (a := this) 0 rfl rfl dX10_readAnd_0 ?_
  refine x_callV (pc := 1) (As := []) (rest := []) (lev' := (6 + d)) si_X10_380 (MM.grd (hrg.2.2.1 h this)) (fun z e => grd1 e) rfl rfl (by omega) (cat4 (Nat.le_of_ble_eq_true rfl)) dX10_readAnd_1 (kI (fun v2 h1 => ?_)) xNo
  refine x_if_ne (pc := 4) 9 (by decide) dX10_readAnd_4 ?_ ?_
  · refine x_aload_nR (pc := 9) (a := this) 0 rfl rfl dX10_readAnd_9 ?_
    refine x_getI (pc := 10) fi_X10_374 dX10_readAnd_10 ?_
    intro v3
    refine x_istore_n (pc := 13) (lv' := [(1, .int v3), (0, .ref this)]) rfl (by decide) rfl dX10_readAnd_13 ?_
    refine Sim.lv [1, 0] rfl ?_
    exact v_M_readAnd_l14 rg hrg FU h1 this v3
  · refine x_iconst (pc := 7) (v := 0) (by decide) dX10_readAnd_7 ?_
    exact x_zret (pc := 8) dX10_readAnd_8
theorem si_X10_371 : SiV RX10 371 8 yX10_readAnd cX10_readAnd 2 (some .boolean) 0 := ⟨_, _, _, ci_8.1, by decide, lw_V q2245 q2247 qs99 q121 q2248, ⟨rfl, by decide, by decide, by decide +kernel⟩, by decide⟩
abbrev Y_M_readOr (d : Nat) : Yx := (RX10, cX10_readOr, 2, (6 + d + 1), (some .boolean), [], false)
def c_M_readOr_l14 (rg : Nat → PH → Nat → Option RH) (r14 : PH → Nat → Int32 → Option RH) (h : PH) (this : Nat) (x1 : Int32) : Option RH :=
  hI (c_M_isWord h this (11 : Int32)) noX fun v2 h1 =>
  if v2 = 0 then
    pI h1 this [8] 38 x1 fun h3 =>
    rZ (1 : Int32) h3
  else
    hV (c_M_go h1 this) noX fun h4 =>
    hI (grd h4 this [8] (rg 1 h4 this)) noX fun v6 h5 =>
    if v6 = 0 then
      rZ (0 : Int32) h5
    else
      gI h5 this [8] 38 fun v7 =>
      hI (c_M_saysOne h5 this (3 : Int32) x1 v7 (0 : Int32)) noX fun v9 h8 =>
      r14 h8 this v9
def b_M_readOr (rg : Nat → PH → Nat → Option RH) (h : PH) (this : Nat) : Option RH :=
  grd h this [8] (
  hI (grd h this [8] (rg 1 h this)) noX fun v2 h1 =>
  if v2 = 0 then
    rZ (0 : Int32) h1
  else
    gI h1 this [8] 38 fun v3 =>
    itr (c_M_readOr_l14 rg) (fun _ _ _ => none) FU h1 this v3)
set_option maxHeartbeats 4000000 in
theorem w_M_readOr_l14 (rg : Nat → PH → Nat → Option RH) (r14 : PH → Nat → Int32 → Option RH) {d : Nat} (hrg : (∀ (h : PH) (this : Nat), MM yX10_readOr (ws_ yX10_readOr cX10_readOr 2 (some .boolean)) (6 + d) [.ref this] h (rg 0 h this)) ∧ (∀ (h : PH) (this : Nat), MM yX10_readAnd (ws_ yX10_readAnd cX10_readAnd 2 (some .boolean)) (6 + d) [.ref this] h (rg 1 h this)) ∧ (∀ (h : PH) (this : Nat), MM yX10_readSaid (ws_ yX10_readSaid cX10_readSaid 4 (some .boolean)) (6 + d) [.ref this] h (rg 2 h this)) ∧ (∀ (h : PH) (this : Nat), MM yX10_readNot (ws_ yX10_readNot cX10_readNot 1 (some .boolean)) (6 + d) [.ref this] h (rg 3 h this)) ∧ (∀ (h : PH) (this : Nat), MM yX10_readBracket (ws_ yX10_readBracket cX10_readBracket 1 (some .boolean)) (6 + d) [.ref this] h (rg 4 h this))) (hr14 : ∀ (h : PH) (this : Nat) (x1 : Int32), Sim (Y_M_readOr d) h 14 [(0, .ref this), (1, .int x1)] [] (r14 h this x1)) (h : PH) (this : Nat) (x1 : Int32) : Sim (Y_M_readOr d) h 14 [(0, .ref this), (1, .int x1)] [] (c_M_readOr_l14 rg r14 h this x1) := by
  unfold c_M_readOr_l14
  refine x_aload_nR (pc := 14) (a := this) 0 rfl rfl dX10_readOr_14 ?_
  refine x_bipush (pc := 15) (v := 11) (by decide) dX10_readOr_15 ?_
  refine x_callV (pc := 17) (As := [.int (11 : Int32)]) (rest := []) (lev' := 3) si_X10_168 (m_M_isWord h this (11 : Int32)) (fun z e => grd1 e) rfl rfl (by omega) (cat4 (Nat.le_of_ble_eq_true rfl)) dX10_readOr_17 (kI (fun v2 h1 => ?_)) xNo
  refine x_if_eq (pc := 20) 51 (by decide) dX10_readOr_20 ?_ ?_
  · refine x_aload_nR (pc := 51) (a := this) 0 rfl rfl dX10_readOr_51 ?_
    refine x_iload_n (pc := 52) 1 rfl rfl dX10_readOr_52 ?_
    refine x_pI (pc := 53) fi_X10_374 (fun z => absurd z (by decide)) dX10_readOr_53 ?_
    intro h3
    refine x_iconst (pc := 56) (v := 1) (by decide) dX10_readOr_56 ?_
    exact x_zret (pc := 57) dX10_readOr_57
  · refine x_aload_nR (pc := 23) (a := this) 0 rfl rfl dX10_readOr_23 ?_
    refine x_callV (pc := 24) (As := []) (rest := []) (lev' := 2) si_X10_82 (m_M_go h1 this) (fun z e => grd1 e) rfl rfl (by omega) (cat4 (Nat.le_of_ble_eq_true rfl)) dX10_readOr_24 (kV (fun h4 => ?_)) xNo
    refine x_aload_nR (pc := 27) (a := this) 0 rfl rfl dX10_readOr_27 ?_
    refine x_callV (pc := 28) (As := []) (rest := []) (lev' := (6 + d)) si_X10_371 (MM.grd (hrg.2.1 h4 this)) (fun z e => grd1 e) rfl rfl (by omega) (cat4 (Nat.le_of_ble_eq_true rfl)) dX10_readOr_28 (kI (fun v6 h5 => ?_)) xNo
    refine x_if_ne (pc := 31) 36 (by decide) dX10_readOr_31 ?_ ?_
    · refine x_aload_nR (pc := 36) (a := this) 0 rfl rfl dX10_readOr_36 ?_
      refine x_iconst (pc := 37) (v := 3) (by decide) dX10_readOr_37 ?_
      refine x_iload_n (pc := 38) 1 rfl rfl dX10_readOr_38 ?_
      refine x_aload_nR (pc := 39) (a := this) 0 rfl rfl dX10_readOr_39 ?_
      refine x_getI (pc := 40) fi_X10_374 dX10_readOr_40 ?_
      intro v7
      refine x_iconst (pc := 43) (v := 0) (by decide) dX10_readOr_43 ?_
      refine x_callV (pc := 44) (As := [.int (3 : Int32), .int x1, .int v7, .int (0 : Int32)]) (rest := []) (lev' := 1) si_X10_377 (m_M_saysOne h5 this (3 : Int32) x1 v7 (0 : Int32)) (fun z e => grd1 e) rfl rfl (by omega) (cat4 (Nat.le_of_ble_eq_true rfl)) dX10_readOr_44 (kI (fun v9 h8 => ?_)) xNo
      refine x_istore_n (pc := 47) (lv' := [(1, .int v9), (0, .ref this)]) rfl (by decide) rfl dX10_readOr_47 ?_
      refine x_goto (pc := 48) 14 (by decide) dX10_readOr_48 ?_
      refine Sim.lv [1, 0] rfl ?_
      exact hr14 h8 this v9
    · refine x_iconst (pc := 34) (v := 0) (by decide) dX10_readOr_34 ?_
      exact x_zret (pc := 35) dX10_readOr_35
set_option maxHeartbeats 4000000 in
theorem v_M_readOr_l14 (rg : Nat → PH → Nat → Option RH) {d : Nat} (hrg : (∀ (h : PH) (this : Nat), MM yX10_readOr (ws_ yX10_readOr cX10_readOr 2 (some .boolean)) (6 + d) [.ref this] h (rg 0 h this)) ∧ (∀ (h : PH) (this : Nat), MM yX10_readAnd (ws_ yX10_readAnd cX10_readAnd 2 (some .boolean)) (6 + d) [.ref this] h (rg 1 h this)) ∧ (∀ (h : PH) (this : Nat), MM yX10_readSaid (ws_ yX10_readSaid cX10_readSaid 4 (some .boolean)) (6 + d) [.ref this] h (rg 2 h this)) ∧ (∀ (h : PH) (this : Nat), MM yX10_readNot (ws_ yX10_readNot cX10_readNot 1 (some .boolean)) (6 + d) [.ref this] h (rg 3 h this)) ∧ (∀ (h : PH) (this : Nat), MM yX10_readBracket (ws_ yX10_readBracket cX10_readBracket 1 (some .boolean)) (6 + d) [.ref this] h (rg 4 h this))) : ∀ (n : Nat) (h : PH) (this : Nat) (x1 : Int32), Sim (Y_M_readOr d) h 14 [(0, .ref this), (1, .int x1)] [] (itr (c_M_readOr_l14 rg) (fun _ _ _ => none) n h this x1)
  | 0, h, this, x1 => Sim.none
  | n + 1, h, this, x1 => w_M_readOr_l14 rg _ hrg (v_M_readOr_l14 rg hrg n) h this x1
set_option maxHeartbeats 4000000 in
theorem t_M_readOr (rg : Nat → PH → Nat → Option RH) {d : Nat} (hrg : (∀ (h : PH) (this : Nat), MM yX10_readOr (ws_ yX10_readOr cX10_readOr 2 (some .boolean)) (6 + d) [.ref this] h (rg 0 h this)) ∧ (∀ (h : PH) (this : Nat), MM yX10_readAnd (ws_ yX10_readAnd cX10_readAnd 2 (some .boolean)) (6 + d) [.ref this] h (rg 1 h this)) ∧ (∀ (h : PH) (this : Nat), MM yX10_readSaid (ws_ yX10_readSaid cX10_readSaid 4 (some .boolean)) (6 + d) [.ref this] h (rg 2 h this)) ∧ (∀ (h : PH) (this : Nat), MM yX10_readNot (ws_ yX10_readNot cX10_readNot 1 (some .boolean)) (6 + d) [.ref this] h (rg 3 h this)) ∧ (∀ (h : PH) (this : Nat), MM yX10_readBracket (ws_ yX10_readBracket cX10_readBracket 1 (some .boolean)) (6 + d) [.ref this] h (rg 4 h this))) (h : PH) (this : Nat) : MM yX10_readOr (ws_ yX10_readOr cX10_readOr 2 (some .boolean)) (6 + d + 1) [.ref this] h (b_M_readOr rg h this) := by
  refine MM.of (by decide) rfl (by decide) (Nat.le_of_ble_eq_true rfl) (own := RX10) (cc := cX10_readOr) (maxL := 2) (lev := (6 + d + 1)) (rt := (some .boolean)) (ini := false) ?_
  show Sim (Y_M_readOr d) h 0 [(0, .ref this)] [] _
  unfold b_M_readOr
  refine x_grd ?_
  refine x_aload_nR (pc := 0) (a := this) 0 rfl rfl dX10_readOr_0 ?_
  refine x_callV (pc := 1) (As := []) (rest := []) (lev' := (6 + d)) si_X10_371 (MM.grd (hrg.2.1 h this)) (fun z e => grd1 e) rfl rfl (by omega) (cat4 (Nat.le_of_ble_eq_true rfl)) dX10_readOr_1 (kI (fun v2 h1 => ?_)) xNo
  refine x_if_ne (pc := 4) 9 (by decide) dX10_readOr_4 ?_ ?_
  · refine x_aload_nR (pc := 9) (a := this) 0 rfl rfl dX10_readOr_9 ?_
    refine x_getI (pc := 10) fi_X10_374 dX10_readOr_10 ?_
    intro v3
    refine x_istore_n (pc := 13) (lv' := [(1, .int v3), (0, .ref this)]) rfl (by decide) rfl dX10_readOr_13 ?_
    refine Sim.lv [1, 0] rfl ?_
    exact v_M_readOr_l14 rg hrg FU h1 this v3
  · refine x_iconst (pc := 7) (v := 0) (by decide) dX10_readOr_7 ?_
    exact x_zret (pc := 8) dX10_readOr_8
def b_g_rd (rg : Nat → PH → Nat → Option RH) (sel : Nat) : PH → Nat → Option RH := match sel with
  | 0 => b_M_readOr rg
  | 1 => b_M_readAnd rg
  | 2 => b_M_readSaid rg
  | 3 => b_M_readNot rg
  | _ => b_M_readBracket rg
def c_g_rd : Nat → Nat → PH → Nat → Option RH := itr b_g_rd (fun _ _ _ => none)
theorem m_g_rd : ∀ (d : Nat), (∀ (h : PH) (this : Nat), MM yX10_readOr (ws_ yX10_readOr cX10_readOr 2 (some .boolean)) (6 + d) [.ref this] h (c_g_rd d 0 h this)) ∧ (∀ (h : PH) (this : Nat), MM yX10_readAnd (ws_ yX10_readAnd cX10_readAnd 2 (some .boolean)) (6 + d) [.ref this] h (c_g_rd d 1 h this)) ∧ (∀ (h : PH) (this : Nat), MM yX10_readSaid (ws_ yX10_readSaid cX10_readSaid 4 (some .boolean)) (6 + d) [.ref this] h (c_g_rd d 2 h this)) ∧ (∀ (h : PH) (this : Nat), MM yX10_readNot (ws_ yX10_readNot cX10_readNot 1 (some .boolean)) (6 + d) [.ref this] h (c_g_rd d 3 h this)) ∧ (∀ (h : PH) (this : Nat), MM yX10_readBracket (ws_ yX10_readBracket cX10_readBracket 1 (some .boolean)) (6 + d) [.ref this] h (c_g_rd d 4 h this))
  | 0 => ⟨fun _ _ => MM.none, fun _ _ => MM.none, fun _ _ => MM.none, fun _ _ => MM.none, fun _ _ => MM.none⟩
  | d + 1 => ⟨t_M_readOr (d := d) (c_g_rd d) (m_g_rd d), t_M_readAnd (d := d) (c_g_rd d) (m_g_rd d), t_M_readSaid (d := d) (c_g_rd d) (m_g_rd d), t_M_readNot (d := d) (c_g_rd d) (m_g_rd d), t_M_readBracket (d := d) (c_g_rd d) (m_g_rd d)⟩
def c_M_readOr (d : Nat) (h : PH) (this : Nat) : Option RH := c_g_rd d 0 h this
theorem m_M_readOr (d : Nat) (h : PH) (this : Nat) : MM yX10_readOr (ws_ yX10_readOr cX10_readOr 2 (some .boolean)) (6 + d) [.ref this] h (c_M_readOr d h this) := (m_g_rd d).1 h this
def c_M_readAnd (d : Nat) (h : PH) (this : Nat) : Option RH := c_g_rd d 1 h this
theorem m_M_readAnd (d : Nat) (h : PH) (this : Nat) : MM yX10_readAnd (ws_ yX10_readAnd cX10_readAnd 2 (some .boolean)) (6 + d) [.ref this] h (c_M_readAnd d h this) := (m_g_rd d).2.1 h this
def c_M_readSaid (d : Nat) (h : PH) (this : Nat) : Option RH := c_g_rd d 2 h this
theorem m_M_readSaid (d : Nat) (h : PH) (this : Nat) : MM yX10_readSaid (ws_ yX10_readSaid cX10_readSaid 4 (some .boolean)) (6 + d) [.ref this] h (c_M_readSaid d h this) := (m_g_rd d).2.2.1 h this
def c_M_readNot (d : Nat) (h : PH) (this : Nat) : Option RH := c_g_rd d 3 h this
theorem m_M_readNot (d : Nat) (h : PH) (this : Nat) : MM yX10_readNot (ws_ yX10_readNot cX10_readNot 1 (some .boolean)) (6 + d) [.ref this] h (c_M_readNot d h this) := (m_g_rd d).2.2.2.1 h this
def c_M_readBracket (d : Nat) (h : PH) (this : Nat) : Option RH := c_g_rd d 4 h this
theorem m_M_readBracket (d : Nat) (h : PH) (this : Nat) : MM yX10_readBracket (ws_ yX10_readBracket cX10_readBracket 1 (some .boolean)) (6 + d) [.ref this] h (c_M_readBracket d h this) := (m_g_rd d).2.2.2.2 h this
abbrev Y_M_sentence : Yx := (RX10, cX10_sentence, 2, 71, (some .int), [], false)
def c_M_sentence_l79 (r79 : PH → Nat → Int32 → Option RH) (h : PH) (this : Nat) (x1 : Int32) : Option RH :=
  if (240 : Int32) ≤ x1 then
    gI h this [8] 36 fun v1 =>
    rI v1 h
  else
    gQ h this [8] 14 fun v2 =>
    gQ h this [8] 34 fun v3 =>
    nn v3 fun a4 =>
    ldI h a4 0 x1 fun v6 =>
    nn v2 fun a7 =>
    stI h a7 ((5822 : Int32) + x1) v6 fun h9 =>
    r79 h9 this (x1 + (1 : Int32))
def c_M_sentence (h : PH) (this : Nat) : Option RH :=
  grd h this [8] (
  hV (c_M_begin h this (200 : Int32)) noX fun h1 =>
  pI h1 this [8] 35 (0 : Int32) fun h2 =>
  pI h2 this [8] 36 (0 : Int32) fun h3 =>
  pI h3 this [8] 37 (0 : Int32) fun h4 =>
  hI (grd h4 this [8] (c_M_readOr 64 h4 this)) noX fun v6 h5 =>
  if v6 = 0 then
    gI h5 this [8] 11 fun v20 =>
    rI ((-1 : Int32) - v20) h5
  else
    gI h5 this [8] 7 fun v7 =>
    if v7 = 0 then
      gQ h5 this [8] 14 fun v8 =>
      nn v8 fun a9 =>
      stI h5 a9 (5820 : Int32) (1 : Int32) fun h11 =>
      gQ h11 this [8] 14 fun v12 =>
      gI h11 this [8] 38 fun v13 =>
      nn v12 fun a14 =>
      stI h11 a14 (5821 : Int32) v13 fun h16 =>
      itr (c_M_sentence_l79) (fun _ _ _ => none) FU h16 this (0 : Int32)
    else
      hI (c_M_bad h5 this (1 : Int32)) noX fun v18 h17 =>
      gI h17 this [8] 11 fun v19 =>
      rI ((-1 : Int32) - v19) h17)
set_option maxHeartbeats 4000000 in
theorem w_M_sentence_l79 (r79 : PH → Nat → Int32 → Option RH) (hr79 : ∀ (h : PH) (this : Nat) (x1 : Int32), Sim Y_M_sentence h 79 [(0, .ref this), (1, .int x1)] [] (r79 h this x1)) (h : PH) (this : Nat) (x1 : Int32) : Sim Y_M_sentence h 79 [(0, .ref this), (1, .int x1)] [] (c_M_sentence_l79 r79 h this x1) := by
  unfold c_M_sentence_l79
  refine x_iload_n (pc := 79) 1 rfl rfl dX10_sentence_79 ?_
  refine x_sipush (pc := 80) (v := 240) (by decide) dX10_sentence_80 ?_
  refine x_icmp_ge (pc := 83) 108 (by decide) dX10_sentence_83 ?_ ?_
  · refine x_aload_nR (pc := 108) (a := this) 0 rfl rfl dX10_sentence_108 ?_
    refine x_getI (pc := 109) fi_X10_383 dX10_sentence_109 ?_
    intro v1
    exact x_iret (pc := 112) dX10_sentence_112
  · refine x_aload_nR (pc := 86) (a := this) 0 rfl rfl dX10_sentence_86 ?_
    refine x_getQ (pc := 87) fi_X10_98 dX10_sentence_87 ?_
    intro v2
    refine x_sipush (pc := 90) (v := 5822) (by decide) dX10_sentence_90 ?_
    refine x_iload_n (pc := 93) 1 rfl rfl dX10_sentence_93 ?_
    refine x_iadd (pc := 94) dX10_sentence_94 ?_
    refine x_aload_nR (pc := 95) (a := this) 0 rfl rfl dX10_sentence_95 ?_
    refine x_getQ (pc := 96) fi_X10_139 dX10_sentence_96 ?_
    intro v3
    refine x_iload_n (pc := 99) 1 rfl rfl dX10_sentence_99 ?_
    refine x_nn (fun a4 e5 => ?_)
    subst e5
    refine x_iald (pc := 100) dX10_sentence_100 ?_
    intro v6
    refine x_nn (fun a7 e8 => ?_)
    subst e8
    refine x_iast (pc := 101) dX10_sentence_101 ?_
    intro h9
    refine x_iinc (pc := 102) (v := (1 : Int32)) (lv' := [(1, .int (x1 + (1 : Int32))), (0, .ref this)]) 1 rfl (by decide) (by decide) rfl dX10_sentence_102 ?_
    refine x_goto (pc := 105) 79 (by decide) dX10_sentence_105 ?_
    refine Sim.lv [1, 0] rfl ?_
    exact hr79 h9 this (x1 + (1 : Int32))
set_option maxHeartbeats 4000000 in
theorem v_M_sentence_l79 : ∀ (n : Nat) (h : PH) (this : Nat) (x1 : Int32), Sim Y_M_sentence h 79 [(0, .ref this), (1, .int x1)] [] (itr (c_M_sentence_l79) (fun _ _ _ => none) n h this x1)
  | 0, h, this, x1 => Sim.none
  | n + 1, h, this, x1 => w_M_sentence_l79 _ (v_M_sentence_l79 n) h this x1
set_option maxHeartbeats 4000000 in
theorem m_M_sentence (h : PH) (this : Nat) : MM yX10_sentence (ws_ yX10_sentence cX10_sentence 2 (some .int)) 71 [.ref this] h (c_M_sentence h this) := by
  refine MM.of (by decide) rfl (by decide) (Nat.le_of_ble_eq_true rfl) (own := RX10) (cc := cX10_sentence) (maxL := 2) (lev := 71) (rt := (some .int)) (ini := false) ?_
  show Sim Y_M_sentence h 0 [(0, .ref this)] [] _
  unfold c_M_sentence
  refine x_grd ?_
  refine x_aload_nR (pc := 0) (a := this) 0 rfl rfl dX10_sentence_0 ?_
  refine x_sipush (pc := 1) (v := 200) (by decide) dX10_sentence_1 ?_
  refine x_callV (pc := 4) (As := [.int (200 : Int32)]) (rest := []) (lev' := 3) si_X10_180 (m_M_begin h this (200 : Int32)) (fun z e => grd1 e) rfl rfl (by decide) (cat4 (Nat.le_of_ble_eq_true rfl)) dX10_sentence_4 (kV (fun h1 => ?_)) xNo
  refine x_aload_nR (pc := 7) (a := this) 0 rfl rfl dX10_sentence_7 ?_
  refine x_iconst (pc := 8) (v := 0) (by decide) dX10_sentence_8 ?_
  refine x_pI (pc := 9) fi_X10_368 (fun z => absurd z (by decide)) dX10_sentence_9 ?_
  intro h2
  refine x_aload_nR (pc := 12) (a := this) 0 rfl rfl dX10_sentence_12 ?_
  refine x_iconst (pc := 13) (v := 0) (by decide) dX10_sentence_13 ?_
  refine x_pI (pc := 14) fi_X10_383 (fun z => absurd z (by decide)) dX10_sentence_14 ?_
  intro h3
  refine x_aload_nR (pc := 17) (a := this) 0 rfl rfl dX10_sentence_17 ?_
  refine x_iconst (pc := 18) (v := 0) (by decide) dX10_sentence_18 ?_
  refine x_pI (pc := 19) fi_X10_386 (fun z => absurd z (by decide)) dX10_sentence_19 ?_
  intro h4
  refine x_aload_nR (pc := 22) (a := this) 0 rfl rfl dX10_sentence_22 ?_
  refine x_callV (pc := 23) (As := []) (rest := []) (lev' := (6 + 64)) si_X10_401 (MM.grd (m_M_readOr 64 h4 this)) (fun z e => grd1 e) rfl rfl (by omega) (cat4 (Nat.le_of_ble_eq_true rfl)) dX10_sentence_23 (kI (fun v6 h5 => ?_)) xNo
  refine x_if_ne (pc := 26) 36 (by decide) dX10_sentence_26 ?_ ?_
  · refine x_aload_nR (pc := 36) (a := this) 0 rfl rfl dX10_sentence_36 ?_
    refine x_getI (pc := 37) fi_X10_30 dX10_sentence_37 ?_
    intro v7
    refine x_if_eq (pc := 40) 56 (by decide) dX10_sentence_40 ?_ ?_
    · refine x_aload_nR (pc := 56) (a := this) 0 rfl rfl dX10_sentence_56 ?_
      refine x_getQ (pc := 57) fi_X10_98 dX10_sentence_57 ?_
      intro v8
      refine x_sipush (pc := 60) (v := 5820) (by decide) dX10_sentence_60 ?_
      refine x_iconst (pc := 63) (v := 1) (by decide) dX10_sentence_63 ?_
      refine x_nn (fun a9 e10 => ?_)
      subst e10
      refine x_iast (pc := 64) dX10_sentence_64 ?_
      intro h11
      refine x_aload_nR (pc := 65) (a := this) 0 rfl rfl dX10_sentence_65 ?_
      refine x_getQ (pc := 66) fi_X10_98 dX10_sentence_66 ?_
      intro v12
      refine x_sipush (pc := 69) (v := 5821) (by decide) dX10_sentence_69 ?_
      refine x_aload_nR (pc := 72) (a := this) 0 rfl rfl dX10_sentence_72 ?_
      refine x_getI (pc := 73) fi_X10_374 dX10_sentence_73 ?_
      intro v13
      refine x_nn (fun a14 e15 => ?_)
      subst e15
      refine x_iast (pc := 76) dX10_sentence_76 ?_
      intro h16
      refine x_iconst (pc := 77) (v := 0) (by decide) dX10_sentence_77 ?_
      refine x_istore_n (pc := 78) (lv' := [(1, .int (0 : Int32)), (0, .ref this)]) rfl (by decide) rfl dX10_sentence_78 ?_
      refine Sim.lv [1, 0] rfl ?_
      exact v_M_sentence_l79 FU h16 this (0 : Int32)
    · refine x_aload_nR (pc := 43) (a := this) 0 rfl rfl dX10_sentence_43 ?_
      refine x_iconst (pc := 44) (v := 1) (by decide) dX10_sentence_44 ?_
      refine x_callV (pc := 45) (As := [.int (1 : Int32)]) (rest := []) (lev' := 1) si_X10_72 (m_M_bad h5 this (1 : Int32)) (fun z e => grd1 e) rfl rfl (by decide) (cat4 (Nat.le_of_ble_eq_true rfl)) dX10_sentence_45 (kI (fun v18 h17 => ?_)) xNo
      refine x_pop (pc := 48) rfl dX10_sentence_48 ?_
      refine x_iconst (pc := 49) (v := (-1)) (by decide) dX10_sentence_49 ?_
      refine x_aload_nR (pc := 50) (a := this) 0 rfl rfl dX10_sentence_50 ?_
      refine x_getI (pc := 51) fi_X10_69 dX10_sentence_51 ?_
      intro v19
      refine x_isub (pc := 54) dX10_sentence_54 ?_
      exact x_iret (pc := 55) dX10_sentence_55
  · refine x_iconst (pc := 29) (v := (-1)) (by decide) dX10_sentence_29 ?_
    refine x_aload_nR (pc := 30) (a := this) 0 rfl rfl dX10_sentence_30 ?_
    refine x_getI (pc := 31) fi_X10_69 dX10_sentence_31 ?_
    intro v20
    refine x_isub (pc := 34) dX10_sentence_34 ?_
    exact x_iret (pc := 35) dX10_sentence_35
abbrev Y_M_onesOf : Yx := (RX10, cX10_onesOf, 2, 3, (some .int), [], false)
def c_M_onesOf (h : PH) (this : Nat) (x1 : Int32) : Option RH :=
  grd h this [8] (
  hI (c_M_sizeOf h this x1) noX fun v2 h1 =>
  hI (c_M_onesIn h1 this x1 (0 : Int32) v2) noX fun v4 h3 =>
  rI v4 h3)
set_option maxHeartbeats 4000000 in
theorem m_M_onesOf (h : PH) (this : Nat) (x1 : Int32) : MM yX10_onesOf (ws_ yX10_onesOf cX10_onesOf 2 (some .int)) 3 [.ref this, .int x1] h (c_M_onesOf h this x1) := by
  refine MM.of (by decide) rfl (by decide) (Nat.le_of_ble_eq_true rfl) (own := RX10) (cc := cX10_onesOf) (maxL := 2) (lev := 3) (rt := (some .int)) (ini := false) ?_
  show Sim Y_M_onesOf h 0 [(0, .ref this), (1, .int x1)] [] _
  unfold c_M_onesOf
  refine x_grd ?_
  refine x_aload_nR (pc := 0) (a := this) 0 rfl rfl dX10_onesOf_0 ?_
  refine x_iload_n (pc := 1) 1 rfl rfl dX10_onesOf_1 ?_
  refine x_iconst (pc := 2) (v := 0) (by decide) dX10_onesOf_2 ?_
  refine x_aload_nR (pc := 3) (a := this) 0 rfl rfl dX10_onesOf_3 ?_
  refine x_iload_n (pc := 4) 1 rfl rfl dX10_onesOf_4 ?_
  refine x_callV (pc := 5) (As := [.int x1]) (rest := [.int (0 : Int32), .int x1, .ref this]) (lev' := 1) si_X10_199 (m_M_sizeOf h this x1) (fun z e => grd1 e) rfl rfl (by decide) (cat4 (Nat.le_of_ble_eq_true rfl)) dX10_onesOf_5 (kI (fun v2 h1 => ?_)) xNo
  refine x_callV (pc := 8) (As := [.int x1, .int (0 : Int32), .int v2]) (rest := []) (lev' := 2) si_X10_224 (m_M_onesIn h1 this x1 (0 : Int32) v2) (fun z e => grd1 e) rfl rfl (by decide) (cat4 (Nat.le_of_ble_eq_true rfl)) dX10_onesOf_8 (kI (fun v4 h3 => ?_)) xNo
  exact x_iret (pc := 11) dX10_onesOf_11
abbrev Y_M_beginsWith : Yx := (RX10, cX10_beginsWith, 3, 4, (some .boolean), [], false)
def c_M_beginsWith (h : PH) (this : Nat) (x1 : Int32) (x2 : Int32) : Option RH :=
  grd h this [8] (
  hI (c_M_sizeOf h this x2) noX fun v2 h1 =>
  hI (c_M_sizeOf h1 this x1) noX fun v4 h3 =>
  if v4 < v2 then
    rZ (0 : Int32) h3
  else
    hI (c_M_firstApart h3 this x1 x2) noX fun v6 h5 =>
    hI (c_M_sizeOf h5 this x2) noX fun v8 h7 =>
    if v6 = v8 then
      rZ (1 : Int32) h7
    else
      rZ (0 : Int32) h7)
set_option maxHeartbeats 4000000 in
theorem m_M_beginsWith (h : PH) (this : Nat) (x1 : Int32) (x2 : Int32) : MM yX10_beginsWith (ws_ yX10_beginsWith cX10_beginsWith 3 (some .boolean)) 4 [.ref this, .int x1, .int x2] h (c_M_beginsWith h this x1 x2) := by
  refine MM.of (by decide) rfl (by decide) (Nat.le_of_ble_eq_true rfl) (own := RX10) (cc := cX10_beginsWith) (maxL := 3) (lev := 4) (rt := (some .boolean)) (ini := false) ?_
  show Sim Y_M_beginsWith h 0 [(0, .ref this), (1, .int x1), (2, .int x2)] [] _
  unfold c_M_beginsWith
  refine x_grd ?_
  refine x_aload_nR (pc := 0) (a := this) 0 rfl rfl dX10_beginsWith_0 ?_
  refine x_iload_n (pc := 1) 2 rfl rfl dX10_beginsWith_1 ?_
  refine x_callV (pc := 2) (As := [.int x2]) (rest := []) (lev' := 1) si_X10_199 (m_M_sizeOf h this x2) (fun z e => grd1 e) rfl rfl (by decide) (cat4 (Nat.le_of_ble_eq_true rfl)) dX10_beginsWith_2 (kI (fun v2 h1 => ?_)) xNo
  refine x_aload_nR (pc := 5) (a := this) 0 rfl rfl dX10_beginsWith_5 ?_
  refine x_iload_n (pc := 6) 1 rfl rfl dX10_beginsWith_6 ?_
  refine x_callV (pc := 7) (As := [.int x1]) (rest := [.int v2]) (lev' := 1) si_X10_199 (m_M_sizeOf h1 this x1) (fun z e => grd1 e) rfl rfl (by decide) (cat4 (Nat.le_of_ble_eq_true rfl)) dX10_beginsWith_7 (kI (fun v4 h3 => ?_)) xNo
  refine x_icmp_gt (pc := 10) 31 (by decide) dX10_beginsWith_10 ?_ ?_
  · refine x_iconst (pc := 31) (v := 0) (by decide) dX10_beginsWith_31 ?_
    exact x_zret (pc := 32) dX10_beginsWith_32
  · refine x_aload_nR (pc := 13) (a := this) 0 rfl rfl dX10_beginsWith_13 ?_
    refine x_iload_n (pc := 14) 1 rfl rfl dX10_beginsWith_14 ?_
    refine x_iload_n (pc := 15) 2 rfl rfl dX10_beginsWith_15 ?_
    refine x_callV (pc := 16) (As := [.int x1, .int x2]) (rest := []) (lev' := 3) si_X10_267 (m_M_firstApart h3 this x1 x2) (fun z e => grd1 e) rfl rfl (by decide) (cat4 (Nat.le_of_ble_eq_true rfl)) dX10_beginsWith_16 (kI (fun v6 h5 => ?_)) xNo
    refine x_aload_nR (pc := 19) (a := this) 0 rfl rfl dX10_beginsWith_19 ?_
    refine x_iload_n (pc := 20) 2 rfl rfl dX10_beginsWith_20 ?_
    refine x_callV (pc := 21) (As := [.int x2]) (rest := [.int v6]) (lev' := 1) si_X10_199 (m_M_sizeOf h5 this x2) (fun z e => grd1 e) rfl rfl (by decide) (cat4 (Nat.le_of_ble_eq_true rfl)) dX10_beginsWith_21 (kI (fun v8 h7 => ?_)) xNo
    refine x_icmp_ne (pc := 24) 31 (by decide) dX10_beginsWith_24 ?_ ?_
    · refine x_iconst (pc := 31) (v := 0) (by decide) dX10_beginsWith_31 ?_
      exact x_zret (pc := 32) dX10_beginsWith_32
    · refine x_iconst (pc := 27) (v := 1) (by decide) dX10_beginsWith_27 ?_
      refine x_goto (pc := 28) 32 (by decide) dX10_beginsWith_28 ?_
      exact x_zret (pc := 32) dX10_beginsWith_32
theorem si_X10_404 : SiV RX10 404 8 yX10_holds cX10_holds 8 (some .boolean) 2 := ⟨_, _, _, ci_8.1, by decide, lw_V q2277 q2279 qs106 q121 q2280, ⟨rfl, by decide, by decide, by decide +kernel⟩, by decide⟩
theorem si_X10_407 : SiV RX10 407 8 yX10_onesOf cX10_onesOf 2 (some .int) 1 := ⟨_, _, _, ci_8.1, by decide, lw_V q2281 q2283 qs107 q121 q2284, ⟨rfl, by decide, by decide, by decide +kernel⟩, by decide⟩
theorem si_X10_410 : SiV RX10 410 8 yX10_beginsWith cX10_beginsWith 3 (some .boolean) 2 := ⟨_, _, _, ci_8.1, by decide, lw_V q2285 q2287 qs108 q121 q2288, ⟨rfl, by decide, by decide, by decide +kernel⟩, by decide⟩
abbrev Y_M_holds (d : Nat) : Yx := (RX10, cX10_holds, 8, (5 + d + 1), (some .boolean), [], false)
def c_M_holds_j291 (rg : PH → Nat → Int32 → Int32 → Option RH) (h : PH) (this : Nat) (x3 : Int32) (x5 : Int32) (s0 : Int32) : Option RH :=
  gQ h this [8] 14 fun v1 =>
  nn v1 fun a2 =>
  ldI h a2 0 (x3 + (3 : Int32)) fun v4 =>
  if v4 = (60 : Int32) then
    if x5 ≤ s0 then
      rZ (0 : Int32) h
    else
      rZ (1 : Int32) h
  else
    gQ h this [8] 14 fun v5 =>
    nn v5 fun a6 =>
    ldI h a6 0 (x3 + (3 : Int32)) fun v8 =>
    if v8 = (61 : Int32) then
      if s0 = x5 then
        rZ (1 : Int32) h
      else
        rZ (0 : Int32) h
    else
      if s0 ≤ x5 then
        rZ (0 : Int32) h
      else
        rZ (1 : Int32) h
def b_M_holds (rg : PH → Nat → Int32 → Int32 → Option RH) (h : PH) (this : Nat) (x1 : Int32) (x2 : Int32) : Option RH :=
  grd h this [8] (
  nm ((5822 : Int32) + ((4 : Int32) * x1)) fun y1 =>
  gQ h this [8] 14 fun v2 =>
  nn v2 fun a3 =>
  ldI h a3 0 (y1 + (1 : Int32)) fun v5 =>
  gQ h this [8] 14 fun v6 =>
  nn v6 fun a7 =>
  ldI h a7 0 (y1 + (2 : Int32)) fun v9 =>
  gQ h this [8] 14 fun v10 =>
  nn v10 fun a11 =>
  ldI h a11 0 y1 fun v13 =>
  if v13 = 1 then
    hI (grd h this [8] (rg h this v5 x2)) noX fun v15 h14 =>
    if v15 = 0 then
      rZ (1 : Int32) h14
    else
      rZ (0 : Int32) h14
  else
  if v13 = 2 then
    hI (grd h this [8] (rg h this v5 x2)) noX fun v17 h16 =>
    if v17 = 0 then
      rZ (0 : Int32) h16
    else
      hI (grd h16 this [8] (rg h16 this v9 x2)) noX fun v19 h18 =>
      if v19 = 0 then
        rZ (0 : Int32) h18
      else
        rZ (1 : Int32) h18
  else
  if v13 = 3 then
    hI (grd h this [8] (rg h this v5 x2)) noX fun v21 h20 =>
    if v21 = 0 then
      hI (grd h20 this [8] (rg h20 this v9 x2)) noX fun v23 h22 =>
      if v23 = 0 then
        rZ (0 : Int32) h22
      else
        rZ (1 : Int32) h22
    else
      rZ (1 : Int32) h20
  else
  if v13 = 64 then
    hI (c_M_sizeOf h this x2) noX fun v25 h24 =>
    if v25 = 0 then
      rZ (1 : Int32) h24
    else
      rZ (0 : Int32) h24
  else
  if v13 = 65 then
    hI (c_M_onesOf h this x2) noX fun v27 h26 =>
    nz (2 : Int32) <|
    if (v27 - v27 / (2 : Int32) * (2 : Int32)) = 0 then
      rZ (1 : Int32) h26
    else
      rZ (0 : Int32) h26
  else
  if v13 = 66 then
    hI (c_M_areLike h this x2 v5) noX fun v29 h28 =>
    rZ v29 h28
  else
  if v13 = 67 then
    hI (c_M_beginsWith h this x2 v5) noX fun v31 h30 =>
    rZ v31 h30
  else
  gQ h this [8] 14 fun v32 =>
  nn v32 fun a33 =>
  ldI h a33 0 y1 fun v35 =>
  nm (v35 - (50 : Int32)) fun y36 =>
  if y36 = (18 : Int32) then
    hI (c_M_sizeOf h this x2) noX fun v46 h45 =>
    c_M_holds_j291 rg h45 this y1 v9 v46
  else
    if y36 = (19 : Int32) then
      hI (c_M_onesOf h this x2) noX fun v44 h43 =>
      c_M_holds_j291 rg h43 this y1 v9 v44
    else
      if y36 = (20 : Int32) then
        hI (c_M_runsOf h this x2) noX fun v42 h41 =>
        c_M_holds_j291 rg h41 this y1 v9 v42
      else
        if y36 = (21 : Int32) then
          gQ h this [8] 14 fun v37 =>
          nn v37 fun a38 =>
          ldI h a38 0 ((2611 : Int32) + x2) fun v40 =>
          c_M_holds_j291 rg h this y1 v9 v40
        else
          c_M_holds_j291 rg h this y1 v9 x2)
set_option maxHeartbeats 4000000 in
theorem w_M_holds_j291 (rg : PH → Nat → Int32 → Int32 → Option RH) {d : Nat} (hrg : (∀ (h : PH) (this : Nat) (x1 : Int32) (x2 : Int32), MM yX10_holds (ws_ yX10_holds cX10_holds 8 (some .boolean)) (5 + d) [.ref this, .int x1, .int x2] h (rg h this x1 x2))) (h : PH) (this : Nat) (x3 : Int32) (x5 : Int32) (s0 : Int32) : Sim (Y_M_holds d) h 291 [(0, .ref this), (3, .int x3), (5, .int x5)] [.int s0] (c_M_holds_j291 rg h this x3 x5 s0) := by
  unfold c_M_holds_j291
  refine x_istore (pc := 291) (lv' := [(7, .int s0), (0, .ref this), (3, .int x3), (5, .int x5)]) (by decide) rfl dX10_holds_291 ?_
  refine x_aload_nR (pc := 293) (a := this) 1 rfl rfl dX10_holds_293 ?_
  refine x_getQ (pc := 294) fi_X10_98 dX10_holds_294 ?_
  intro v1
  refine x_iload_n (pc := 297) 2 rfl rfl dX10_holds_297 ?_
  refine x_iconst (pc := 298) (v := 3) (by decide) dX10_holds_298 ?_
  refine x_iadd (pc := 299) dX10_holds_299 ?_
  refine x_nn (fun a2 e3 => ?_)
  subst e3
  refine x_iald (pc := 300) dX10_holds_300 ?_
  intro v4
  refine x_bipush (pc := 301) (v := 60) (by decide) dX10_holds_301 ?_
  refine x_icmp_ne (pc := 303) 321 (by decide) dX10_holds_303 ?_ ?_
  · refine x_aload_nR (pc := 321) (a := this) 1 rfl rfl dX10_holds_321 ?_
    refine x_getQ (pc := 322) fi_X10_98 dX10_holds_322 ?_
    intro v5
    refine x_iload_n (pc := 325) 2 rfl rfl dX10_holds_325 ?_
    refine x_iconst (pc := 326) (v := 3) (by decide) dX10_holds_326 ?_
    refine x_iadd (pc := 327) dX10_holds_327 ?_
    refine x_nn (fun a6 e7 => ?_)
    subst e7
    refine x_iald (pc := 328) dX10_holds_328 ?_
    intro v8
    refine x_bipush (pc := 329) (v := 61) (by decide) dX10_holds_329 ?_
    refine x_icmp_ne (pc := 331) 349 (by decide) dX10_holds_331 ?_ ?_
    · refine x_iload (pc := 349) 0 rfl dX10_holds_349 ?_
      refine x_iload (pc := 351) 3 rfl dX10_holds_351 ?_
      refine x_icmp_le (pc := 353) 360 (by decide) dX10_holds_353 ?_ ?_
      · refine x_iconst (pc := 360) (v := 0) (by decide) dX10_holds_360 ?_
        exact x_zret (pc := 361) dX10_holds_361
      · refine x_iconst (pc := 356) (v := 1) (by decide) dX10_holds_356 ?_
        refine x_goto (pc := 357) 361 (by decide) dX10_holds_357 ?_
        exact x_zret (pc := 361) dX10_holds_361
    · refine x_iload (pc := 334) 0 rfl dX10_holds_334 ?_
      refine x_iload (pc := 336) 3 rfl dX10_holds_336 ?_
      refine x_icmp_ne (pc := 338) 345 (by decide) dX10_holds_338 ?_ ?_
      · refine x_iconst (pc := 345) (v := 0) (by decide) dX10_holds_345 ?_
        refine x_goto (pc := 346) 361 (by decide) dX10_holds_346 ?_
        exact x_zret (pc := 361) dX10_holds_361
      · refine x_iconst (pc := 341) (v := 1) (by decide) dX10_holds_341 ?_
        refine x_goto (pc := 342) 361 (by decide) dX10_holds_342 ?_
        exact x_zret (pc := 361) dX10_holds_361
  · refine x_iload (pc := 306) 0 rfl dX10_holds_306 ?_
    refine x_iload (pc := 308) 3 rfl dX10_holds_308 ?_
    refine x_icmp_ge (pc := 310) 317 (by decide) dX10_holds_310 ?_ ?_
    · refine x_iconst (pc := 317) (v := 0) (by decide) dX10_holds_317 ?_
      refine x_goto (pc := 318) 361 (by decide) dX10_holds_318 ?_
      exact x_zret (pc := 361) dX10_holds_361
    · refine x_iconst (pc := 313) (v := 1) (by decide) dX10_holds_313 ?_
      refine x_goto (pc := 314) 361 (by decide) dX10_holds_314 ?_
      exact x_zret (pc := 361) dX10_holds_361
set_option maxHeartbeats 4000000 in
theorem t_M_holds (rg : PH → Nat → Int32 → Int32 → Option RH) {d : Nat} (hrg : (∀ (h : PH) (this : Nat) (x1 : Int32) (x2 : Int32), MM yX10_holds (ws_ yX10_holds cX10_holds 8 (some .boolean)) (5 + d) [.ref this, .int x1, .int x2] h (rg h this x1 x2))) (h : PH) (this : Nat) (x1 : Int32) (x2 : Int32) : MM yX10_holds (ws_ yX10_holds cX10_holds 8 (some .boolean)) (5 + d + 1) [.ref this, .int x1, .int x2] h (b_M_holds rg h this x1 x2) := by
  refine MM.of (by decide) rfl (by decide) (Nat.le_of_ble_eq_true rfl) (own := RX10) (cc := cX10_holds) (maxL := 8) (lev := (5 + d + 1)) (rt := (some .boolean)) (ini := false) ?_
  show Sim (Y_M_holds d) h 0 [(0, .ref this), (1, .int x1), (2, .int x2)] [] _
  unfold b_M_holds
  refine x_grd ?_
  refine x_sipush (pc := 0) (v := 5822) (by decide) dX10_holds_0 ?_
  refine x_iconst (pc := 3) (v := 4) (by decide) dX10_holds_3 ?_
  refine x_iload_n (pc := 4) 1 rfl rfl dX10_holds_4 ?_
  refine x_imul (pc := 5) dX10_holds_5 ?_
  refine x_iadd (pc := 6) dX10_holds_6 ?_
  refine x_nmI (fun y1 => ?_)
  refine x_istore_n (pc := 7) (lv' := [(3, .int y1), (0, .ref this), (1, .int x1), (2, .int x2)]) rfl (by decide) rfl dX10_holds_7 ?_
  refine x_aload_nR (pc := 8) (a := this) 1 rfl rfl dX10_holds_8 ?_
  refine x_getQ (pc := 9) fi_X10_98 dX10_holds_9 ?_
  intro v2
  refine x_iload_n (pc := 12) 0 rfl rfl dX10_holds_12 ?_
  refine x_iconst (pc := 13) (v := 1) (by decide) dX10_holds_13 ?_
  refine x_iadd (pc := 14) dX10_holds_14 ?_
  refine x_nn (fun a3 e4 => ?_)
  subst e4
  refine x_iald (pc := 15) dX10_holds_15 ?_
  intro v5
  refine x_istore (pc := 16) (lv' := [(4, .int v5), (3, .int y1), (0, .ref this), (1, .int x1), (2, .int x2)]) (by decide) rfl dX10_holds_16 ?_
  refine x_aload_nR (pc := 18) (a := this) 2 rfl rfl dX10_holds_18 ?_
  refine x_getQ (pc := 19) fi_X10_98 dX10_holds_19 ?_
  intro v6
  refine x_iload_n (pc := 22) 1 rfl rfl dX10_holds_22 ?_
  refine x_iconst (pc := 23) (v := 2) (by decide) dX10_holds_23 ?_
  refine x_iadd (pc := 24) dX10_holds_24 ?_
  refine x_nn (fun a7 e8 => ?_)
  subst e8
  refine x_iald (pc := 25) dX10_holds_25 ?_
  intro v9
  refine x_istore (pc := 26) (lv' := [(5, .int v9), (4, .int v5), (3, .int y1), (0, .ref this), (1, .int x1), (2, .int x2)]) (by decide) rfl dX10_holds_26 ?_
  refine x_aload_nR (pc := 28) (a := this) 3 rfl rfl dX10_holds_28 ?_
  refine x_getQ (pc := 29) fi_X10_98 dX10_holds_29 ?_
  intro v10
  refine x_iload_n (pc := 32) 2 rfl rfl dX10_holds_32 ?_
  refine x_nn (fun a11 e12 => ?_)
  subst e12
  refine x_iald (pc := 33) dX10_holds_33 ?_
  intro v13
  refine x_lk0 (pc := 34) dX10_holds_34 ?_
  refine x_lk (pc := 34) (v := 1) 100 dX10_holds_34 (by decide) rfl (by decide) ?_ ?_
  · refine x_aload_nR (pc := 100) (a := this) 3 rfl rfl dX10_holds_100 ?_
    refine x_iload (pc := 101) 1 rfl dX10_holds_101 ?_
    refine x_iload_n (pc := 103) 5 rfl rfl dX10_holds_103 ?_
    refine x_callV (pc := 104) (As := [.int v5, .int x2]) (rest := []) (lev' := (5 + d)) si_X10_404 (MM.grd (hrg h this v5 x2)) (fun z e => grd1 e) rfl rfl (by omega) (cat4 (Nat.le_of_ble_eq_true rfl)) dX10_holds_104 (kI (fun v15 h14 => ?_)) xNo
    refine x_if_ne (pc := 107) 114 (by decide) dX10_holds_107 ?_ ?_
    · refine x_iconst (pc := 114) (v := 0) (by decide) dX10_holds_114 ?_
      exact x_zret (pc := 115) dX10_holds_115
    · refine x_iconst (pc := 110) (v := 1) (by decide) dX10_holds_110 ?_
      refine x_goto (pc := 111) 115 (by decide) dX10_holds_111 ?_
      exact x_zret (pc := 115) dX10_holds_115
  refine x_lk (pc := 34) (v := 2) 116 dX10_holds_34 (by decide) rfl (by decide) ?_ ?_
  · refine x_aload_nR (pc := 116) (a := this) 3 rfl rfl dX10_holds_116 ?_
    refine x_iload (pc := 117) 1 rfl dX10_holds_117 ?_
    refine x_iload_n (pc := 119) 5 rfl rfl dX10_holds_119 ?_
    refine x_callV (pc := 120) (As := [.int v5, .int x2]) (rest := []) (lev' := (5 + d)) si_X10_404 (MM.grd (hrg h this v5 x2)) (fun z e => grd1 e) rfl rfl (by omega) (cat4 (Nat.le_of_ble_eq_true rfl)) dX10_holds_120 (kI (fun v17 h16 => ?_)) xNo
    refine x_if_eq (pc := 123) 140 (by decide) dX10_holds_123 ?_ ?_
    · refine x_iconst (pc := 140) (v := 0) (by decide) dX10_holds_140 ?_
      exact x_zret (pc := 141) dX10_holds_141
    · refine x_aload_nR (pc := 126) (a := this) 3 rfl rfl dX10_holds_126 ?_
      refine x_iload (pc := 127) 0 rfl dX10_holds_127 ?_
      refine x_iload_n (pc := 129) 5 rfl rfl dX10_holds_129 ?_
      refine x_callV (pc := 130) (As := [.int v9, .int x2]) (rest := []) (lev' := (5 + d)) si_X10_404 (MM.grd (hrg h16 this v9 x2)) (fun z e => grd1 e) rfl rfl (by omega) (cat4 (Nat.le_of_ble_eq_true rfl)) dX10_holds_130 (kI (fun v19 h18 => ?_)) xNo
      refine x_if_eq (pc := 133) 140 (by decide) dX10_holds_133 ?_ ?_
      · refine x_iconst (pc := 140) (v := 0) (by decide) dX10_holds_140 ?_
        exact x_zret (pc := 141) dX10_holds_141
      · refine x_iconst (pc := 136) (v := 1) (by decide) dX10_holds_136 ?_
        refine x_goto (pc := 137) 141 (by decide) dX10_holds_137 ?_
        exact x_zret (pc := 141) dX10_holds_141
  refine x_lk (pc := 34) (v := 3) 142 dX10_holds_34 (by decide) rfl (by decide) ?_ ?_
  · refine x_aload_nR (pc := 142) (a := this) 3 rfl rfl dX10_holds_142 ?_
    refine x_iload (pc := 143) 1 rfl dX10_holds_143 ?_
    refine x_iload_n (pc := 145) 5 rfl rfl dX10_holds_145 ?_
    refine x_callV (pc := 146) (As := [.int v5, .int x2]) (rest := []) (lev' := (5 + d)) si_X10_404 (MM.grd (hrg h this v5 x2)) (fun z e => grd1 e) rfl rfl (by omega) (cat4 (Nat.le_of_ble_eq_true rfl)) dX10_holds_146 (kI (fun v21 h20 => ?_)) xNo
    refine x_if_ne (pc := 149) 162 (by decide) dX10_holds_149 ?_ ?_
    · refine x_iconst (pc := 162) (v := 1) (by decide) dX10_holds_162 ?_
      refine x_goto (pc := 163) 167 (by decide) dX10_holds_163 ?_
      exact x_zret (pc := 167) dX10_holds_167
    · refine x_aload_nR (pc := 152) (a := this) 3 rfl rfl dX10_holds_152 ?_
      refine x_iload (pc := 153) 0 rfl dX10_holds_153 ?_
      refine x_iload_n (pc := 155) 5 rfl rfl dX10_holds_155 ?_
      refine x_callV (pc := 156) (As := [.int v9, .int x2]) (rest := []) (lev' := (5 + d)) si_X10_404 (MM.grd (hrg h20 this v9 x2)) (fun z e => grd1 e) rfl rfl (by omega) (cat4 (Nat.le_of_ble_eq_true rfl)) dX10_holds_156 (kI (fun v23 h22 => ?_)) xNo
      refine x_if_eq (pc := 159) 166 (by decide) dX10_holds_159 ?_ ?_
      · refine x_iconst (pc := 166) (v := 0) (by decide) dX10_holds_166 ?_
        exact x_zret (pc := 167) dX10_holds_167
      · refine x_iconst (pc := 162) (v := 1) (by decide) dX10_holds_162 ?_
        refine x_goto (pc := 163) 167 (by decide) dX10_holds_163 ?_
        exact x_zret (pc := 167) dX10_holds_167
  refine x_lk (pc := 34) (v := 64) 168 dX10_holds_34 (by decide) rfl (by decide) ?_ ?_
  · refine x_aload_nR (pc := 168) (a := this) 3 rfl rfl dX10_holds_168 ?_
    refine x_iload_n (pc := 169) 5 rfl rfl dX10_holds_169 ?_
    refine x_callV (pc := 170) (As := [.int x2]) (rest := []) (lev' := 1) si_X10_199 (m_M_sizeOf h this x2) (fun z e => grd1 e) rfl rfl (by omega) (cat4 (Nat.le_of_ble_eq_true rfl)) dX10_holds_170 (kI (fun v25 h24 => ?_)) xNo
    refine x_if_ne (pc := 173) 180 (by decide) dX10_holds_173 ?_ ?_
    · refine x_iconst (pc := 180) (v := 0) (by decide) dX10_holds_180 ?_
      exact x_zret (pc := 181) dX10_holds_181
    · refine x_iconst (pc := 176) (v := 1) (by decide) dX10_holds_176 ?_
      refine x_goto (pc := 177) 181 (by decide) dX10_holds_177 ?_
      exact x_zret (pc := 181) dX10_holds_181
  refine x_lk (pc := 34) (v := 65) 182 dX10_holds_34 (by decide) rfl (by decide) ?_ ?_
  · refine x_aload_nR (pc := 182) (a := this) 3 rfl rfl dX10_holds_182 ?_
    refine x_iload_n (pc := 183) 5 rfl rfl dX10_holds_183 ?_
    refine x_callV (pc := 184) (As := [.int x2]) (rest := []) (lev' := 3) si_X10_407 (m_M_onesOf h this x2) (fun z e => grd1 e) rfl rfl (by omega) (cat4 (Nat.le_of_ble_eq_true rfl)) dX10_holds_184 (kI (fun v27 h26 => ?_)) xNo
    refine x_iconst (pc := 187) (v := 2) (by decide) dX10_holds_187 ?_
    refine x_irem (pc := 188) dX10_holds_188 ?_
    refine x_if_ne (pc := 189) 196 (by decide) dX10_holds_189 ?_ ?_
    · refine x_iconst (pc := 196) (v := 0) (by decide) dX10_holds_196 ?_
      exact x_zret (pc := 197) dX10_holds_197
    · refine x_iconst (pc := 192) (v := 1) (by decide) dX10_holds_192 ?_
      refine x_goto (pc := 193) 197 (by decide) dX10_holds_193 ?_
      exact x_zret (pc := 197) dX10_holds_197
  refine x_lk (pc := 34) (v := 66) 198 dX10_holds_34 (by decide) rfl (by decide) ?_ ?_
  · refine x_aload_nR (pc := 198) (a := this) 3 rfl rfl dX10_holds_198 ?_
    refine x_iload_n (pc := 199) 5 rfl rfl dX10_holds_199 ?_
    refine x_iload (pc := 200) 1 rfl dX10_holds_200 ?_
    refine x_callV (pc := 202) (As := [.int x2, .int v5]) (rest := []) (lev' := 4) si_X10_270 (m_M_areLike h this x2 v5) (fun z e => grd1 e) rfl rfl (by omega) (cat4 (Nat.le_of_ble_eq_true rfl)) dX10_holds_202 (kI (fun v29 h28 => ?_)) xNo
    exact x_zret (pc := 205) dX10_holds_205
  refine x_lk (pc := 34) (v := 67) 206 dX10_holds_34 (by decide) rfl (by decide) ?_ ?_
  · refine x_aload_nR (pc := 206) (a := this) 3 rfl rfl dX10_holds_206 ?_
    refine x_iload_n (pc := 207) 5 rfl rfl dX10_holds_207 ?_
    refine x_iload (pc := 208) 1 rfl dX10_holds_208 ?_
    refine x_callV (pc := 210) (As := [.int x2, .int v5]) (rest := []) (lev' := 4) si_X10_410 (m_M_beginsWith h this x2 v5) (fun z e => grd1 e) rfl rfl (by omega) (cat4 (Nat.le_of_ble_eq_true rfl)) dX10_holds_210 (kI (fun v31 h30 => ?_)) xNo
    exact x_zret (pc := 213) dX10_holds_213
  refine x_lkD (pc := 34) 214 dX10_holds_34 (by decide) (by decide) ?_
  refine x_aload_nR (pc := 214) (a := this) 3 rfl rfl dX10_holds_214 ?_
  refine x_getQ (pc := 215) fi_X10_98 dX10_holds_215 ?_
  intro v32
  refine x_iload_n (pc := 218) 2 rfl rfl dX10_holds_218 ?_
  refine x_nn (fun a33 e34 => ?_)
  subst e34
  refine x_iald (pc := 219) dX10_holds_219 ?_
  intro v35
  refine x_bipush (pc := 220) (v := 50) (by decide) dX10_holds_220 ?_
  refine x_isub (pc := 222) dX10_holds_222 ?_
  refine x_nmI (fun y36 => ?_)
  refine x_istore (pc := 223) (lv' := [(6, .int y36), (5, .int v9), (4, .int v5), (3, .int y1), (0, .ref this), (1, .int x1), (2, .int x2)]) (by decide) rfl dX10_holds_223 ?_
  refine x_iload (pc := 225) 0 rfl dX10_holds_225 ?_
  refine x_bipush (pc := 227) (v := 18) (by decide) dX10_holds_227 ?_
  refine x_icmp_ne (pc := 229) 240 (by decide) dX10_holds_229 ?_ ?_
  · refine x_iload (pc := 240) 0 rfl dX10_holds_240 ?_
    refine x_bipush (pc := 242) (v := 19) (by decide) dX10_holds_242 ?_
    refine x_icmp_ne (pc := 244) 255 (by decide) dX10_holds_244 ?_ ?_
    · refine x_iload (pc := 255) 0 rfl dX10_holds_255 ?_
      refine x_bipush (pc := 257) (v := 20) (by decide) dX10_holds_257 ?_
      refine x_icmp_ne (pc := 259) 270 (by decide) dX10_holds_259 ?_ ?_
      · refine x_iload (pc := 270) 0 rfl dX10_holds_270 ?_
        refine x_bipush (pc := 272) (v := 21) (by decide) dX10_holds_272 ?_
        refine x_icmp_ne (pc := 274) 290 (by decide) dX10_holds_274 ?_ ?_
        · refine x_iload_n (pc := 290) 6 rfl rfl dX10_holds_290 ?_
          refine Sim.lv [4, 3, 1] rfl ?_
          exact w_M_holds_j291 rg hrg h this y1 v9 x2
        · refine x_aload_nR (pc := 277) (a := this) 4 rfl rfl dX10_holds_277 ?_
          refine x_getQ (pc := 278) fi_X10_98 dX10_holds_278 ?_
          intro v37
          refine x_sipush (pc := 281) (v := 2611) (by decide) dX10_holds_281 ?_
          refine x_iload_n (pc := 284) 6 rfl rfl dX10_holds_284 ?_
          refine x_iadd (pc := 285) dX10_holds_285 ?_
          refine x_nn (fun a38 e39 => ?_)
          subst e39
          refine x_iald (pc := 286) dX10_holds_286 ?_
          intro v40
          refine x_goto (pc := 287) 291 (by decide) dX10_holds_287 ?_
          refine Sim.lv [4, 3, 1] rfl ?_
          exact w_M_holds_j291 rg hrg h this y1 v9 v40
      · refine x_aload_nR (pc := 262) (a := this) 4 rfl rfl dX10_holds_262 ?_
        refine x_iload_n (pc := 263) 6 rfl rfl dX10_holds_263 ?_
        refine x_callV (pc := 264) (As := [.int x2]) (rest := []) (lev' := 2) si_X10_228 (m_M_runsOf h this x2) (fun z e => grd1 e) rfl rfl (by omega) (cat4 (Nat.le_of_ble_eq_true rfl)) dX10_holds_264 (kI (fun v42 h41 => ?_)) xNo
        refine x_goto (pc := 267) 291 (by decide) dX10_holds_267 ?_
        refine Sim.lv [4, 3, 1] rfl ?_
        exact w_M_holds_j291 rg hrg h41 this y1 v9 v42
    · refine x_aload_nR (pc := 247) (a := this) 4 rfl rfl dX10_holds_247 ?_
      refine x_iload_n (pc := 248) 6 rfl rfl dX10_holds_248 ?_
      refine x_callV (pc := 249) (As := [.int x2]) (rest := []) (lev' := 3) si_X10_407 (m_M_onesOf h this x2) (fun z e => grd1 e) rfl rfl (by omega) (cat4 (Nat.le_of_ble_eq_true rfl)) dX10_holds_249 (kI (fun v44 h43 => ?_)) xNo
      refine x_goto (pc := 252) 291 (by decide) dX10_holds_252 ?_
      refine Sim.lv [4, 3, 1] rfl ?_
      exact w_M_holds_j291 rg hrg h43 this y1 v9 v44
  · refine x_aload_nR (pc := 232) (a := this) 4 rfl rfl dX10_holds_232 ?_
    refine x_iload_n (pc := 233) 6 rfl rfl dX10_holds_233 ?_
    refine x_callV (pc := 234) (As := [.int x2]) (rest := []) (lev' := 1) si_X10_199 (m_M_sizeOf h this x2) (fun z e => grd1 e) rfl rfl (by omega) (cat4 (Nat.le_of_ble_eq_true rfl)) dX10_holds_234 (kI (fun v46 h45 => ?_)) xNo
    refine x_goto (pc := 237) 291 (by decide) dX10_holds_237 ?_
    refine Sim.lv [4, 3, 1] rfl ?_
    exact w_M_holds_j291 rg hrg h45 this y1 v9 v46
def c_M_holds : Nat → PH → Nat → Int32 → Int32 → Option RH := itr b_M_holds (fun _ _ _ _ => none)
theorem m_M_holds : ∀ (d : Nat) (h : PH) (this : Nat) (x1 : Int32) (x2 : Int32), MM yX10_holds (ws_ yX10_holds cX10_holds 8 (some .boolean)) (5 + d) [.ref this, .int x1, .int x2] h (c_M_holds d h this x1 x2)
  | 0, h, this, x1, x2 => MM.none
  | d + 1, h, this, x1, x2 => t_M_holds (d := d) (c_M_holds d) (m_M_holds d) h this x1 x2
