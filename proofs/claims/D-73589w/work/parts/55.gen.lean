set_option maxRecDepth 100000
theorem si_X1_325 : SiV RX1 325 4 yX5_insert cX5_insert 5 none 2 := ⟨_, _, _, ci_4.1, by decide, lw_V q1230 q740 q741 q116 q742, ⟨rfl, by decide, by decide, by decide +kernel⟩, by decide⟩
abbrev Y_B_paste : Yx := (RX1, cX1_paste, 5, 19, (some .int), [], false)
def c_B_paste_l78 (r78 : PH → Nat → Int32 → Option Nat → Int32 → Option RH) (h : PH) (this : Nat) (x2 : Int32) (x3 : Option Nat) (x4 : Int32) : Option RH :=
  gI h this [0] 2 fun v1 =>
  if v1 ≤ x4 then
    rI (0 : Int32) h
  else
    hI (c_B_one h this x4) noX fun v3 h2 =>
    nn x3 fun a4 =>
    hV (c_R_insert h2 a4 (x2 + x4) v3) noX fun h6 =>
    r78 h6 this x2 (some a4) (x4 + (1 : Int32))
def c_B_paste (h : PH) (this : Nat) (x1 : Int32) (x2 : Int32) : Option RH :=
  grd h this [0] (
  hV (c_B_consume h this) noX fun h1 =>
  hI (c_B_isRow h1 this x1) noX fun v3 h2 =>
  if v3 = 0 then
    rI (-1 : Int32) h2
  else
    hI (c_B_areBits h2 this (64 : Int32)) noX fun v5 h4 =>
    if v5 = 0 then
      rI (-1 : Int32) h4
    else
      gQ h4 this [0] 7 fun v6 =>
      nn v6 fun a7 =>
      gQ h4 a7 [3] 0 fun v9 =>
      nn v9 fun a10 =>
      ldQ h4 a10 x1 fun v12 =>
      nn v12 fun a13 =>
      hI (c_R_wide h4 a13) noX fun v16 h15 =>
      hI (c_B_isIn h15 x2 (0 : Int32) v16) noX fun v18 h17 =>
      if v18 = 0 then
        rI (1 : Int32) h17
      else
        hI (c_R_wide h17 a13) noX fun v20 h19 =>
        gI h19 this [0] 2 fun v21 =>
        if (v20 + v21) ≤ (600 : Int32) then
          gQ h19 this [0] 7 fun v22 =>
          nn v22 fun a23 =>
          hQ (c_S_pack h19 a23) noX fun v26 h25 =>
          nn v26 fun a27 =>
          hV (c_B_keep h25 this a27) noX fun h29 =>
          itr (c_B_paste_l78) (fun _ _ _ _ _ => none) FU h29 this x2 (some a13) (0 : Int32)
        else
          rI (2 : Int32) h19)
set_option maxHeartbeats 4000000 in
theorem w_B_paste_l78 (r78 : PH → Nat → Int32 → Option Nat → Int32 → Option RH) (hr78 : ∀ (h : PH) (this : Nat) (x2 : Int32) (x3 : Option Nat) (x4 : Int32), Sim Y_B_paste h 78 [(0, .ref this), (2, .int x2), (3, va_rf x3), (4, .int x4)] [] (r78 h this x2 x3 x4)) (h : PH) (this : Nat) (x2 : Int32) (x3 : Option Nat) (x4 : Int32) : Sim Y_B_paste h 78 [(0, .ref this), (2, .int x2), (3, va_rf x3), (4, .int x4)] [] (c_B_paste_l78 r78 h this x2 x3 x4) := by
  unfold c_B_paste_l78
  refine x_iload (pc := 78) 3 rfl dX1_paste_78 ?_
  refine x_aload_nR (pc := 80) (a := this) 0 rfl rfl dX1_paste_80 ?_
  refine x_getI (pc := 81) fi_X1_149 dX1_paste_81 ?_
  intro v1
  refine x_icmp_ge (pc := 84) 107 (by decide) dX1_paste_84 ?_ ?_
  · refine x_iconst (pc := 107) (v := 0) (by decide) dX1_paste_107 ?_
    exact x_iret (pc := 108) dX1_paste_108
  · refine x_aload_n (pc := 87) (r := x3) 2 rfl rfl dX1_paste_87 ?_
    refine x_iload_n (pc := 88) 1 rfl rfl dX1_paste_88 ?_
    refine x_iload (pc := 89) 3 rfl dX1_paste_89 ?_
    refine x_iadd (pc := 91) dX1_paste_91 ?_
    refine x_aload_nR (pc := 92) (a := this) 0 rfl rfl dX1_paste_92 ?_
    refine x_iload (pc := 93) 3 rfl dX1_paste_93 ?_
    refine x_callV (pc := 95) (As := [.int x4]) (rest := [.int (x2 + x4), va_rf x3]) (lev' := 1) si_X1_284 (m_B_one h this x4) (fun z e => grd1 e) rfl rfl (by decide) (cat4 (Nat.le_of_ble_eq_true rfl)) dX1_paste_95 (kI (fun v3 h2 => ?_)) xNo
    refine x_nn (fun a4 e5 => ?_)
    subst e5
    refine x_callV (pc := 98) (As := [.int (x2 + x4), .int v3]) (rest := []) (lev' := 17) si_X1_325 (m_R_insert h2 a4 (x2 + x4) v3) (fun z e => grd1 e) rfl rfl (by decide) (cat4 (Nat.le_of_ble_eq_true rfl)) dX1_paste_98 (kV (fun h6 => ?_)) xNo
    refine x_iinc (pc := 101) (v := (1 : Int32)) (lv' := [(4, .int (x4 + (1 : Int32))), (0, .ref this), (2, .int x2), (3, .ref a4)]) 3 rfl (by decide) (by decide) rfl dX1_paste_101 ?_
    refine x_goto (pc := 104) 78 (by decide) dX1_paste_104 ?_
    refine Sim.lv [1, 2, 3, 0] rfl ?_
    exact hr78 h6 this x2 (some a4) (x4 + (1 : Int32))
set_option maxHeartbeats 4000000 in
theorem v_B_paste_l78 : ∀ (n : Nat) (h : PH) (this : Nat) (x2 : Int32) (x3 : Option Nat) (x4 : Int32), Sim Y_B_paste h 78 [(0, .ref this), (2, .int x2), (3, va_rf x3), (4, .int x4)] [] (itr (c_B_paste_l78) (fun _ _ _ _ _ => none) n h this x2 x3 x4)
  | 0, h, this, x2, x3, x4 => Sim.none
  | n + 1, h, this, x2, x3, x4 => w_B_paste_l78 _ (v_B_paste_l78 n) h this x2 x3 x4
set_option maxHeartbeats 4000000 in
theorem m_B_paste (h : PH) (this : Nat) (x1 : Int32) (x2 : Int32) : MM yX1_paste (ws_ yX1_paste cX1_paste 5 (some .int)) 19 [.ref this, .int x1, .int x2] h (c_B_paste h this x1 x2) := by
  refine MM.of (by decide) rfl (by decide) (Nat.le_of_ble_eq_true rfl) (own := RX1) (cc := cX1_paste) (maxL := 5) (lev := 19) (rt := (some .int)) (ini := false) ?_
  show Sim Y_B_paste h 0 [(0, .ref this), (1, .int x1), (2, .int x2)] [] _
  unfold c_B_paste
  refine x_grd ?_
  refine x_aload_nR (pc := 0) (a := this) 0 rfl rfl dX1_paste_0 ?_
  refine x_callV (pc := 1) (As := []) (rest := []) (lev' := 1) si_X1_155 (m_B_consume h this) (fun z e => grd1 e) rfl rfl (by decide) (cat4 (Nat.le_of_ble_eq_true rfl)) dX1_paste_1 (kV (fun h1 => ?_)) xNo
  refine x_aload_nR (pc := 4) (a := this) 0 rfl rfl dX1_paste_4 ?_
  refine x_iload_n (pc := 5) 1 rfl rfl dX1_paste_5 ?_
  refine x_callV (pc := 6) (As := [.int x1]) (rest := []) (lev' := 2) si_X1_186 (m_B_isRow h1 this x1) (fun z e => grd1 e) rfl rfl (by decide) (cat4 (Nat.le_of_ble_eq_true rfl)) dX1_paste_6 (kI (fun v3 h2 => ?_)) xNo
  refine x_if_eq (pc := 9) 21 (by decide) dX1_paste_9 ?_ ?_
  · refine x_iconst (pc := 21) (v := (-1)) (by decide) dX1_paste_21 ?_
    exact x_iret (pc := 22) dX1_paste_22
  · refine x_aload_nR (pc := 12) (a := this) 0 rfl rfl dX1_paste_12 ?_
    refine x_bipush (pc := 13) (v := 64) (by decide) dX1_paste_13 ?_
    refine x_callV (pc := 15) (As := [.int (64 : Int32)]) (rest := []) (lev' := 2) si_X1_287 (m_B_areBits h2 this (64 : Int32)) (fun z e => grd1 e) rfl rfl (by decide) (cat4 (Nat.le_of_ble_eq_true rfl)) dX1_paste_15 (kI (fun v5 h4 => ?_)) xNo
    refine x_if_ne (pc := 18) 23 (by decide) dX1_paste_18 ?_ ?_
    · refine x_aload_nR (pc := 23) (a := this) 0 rfl rfl dX1_paste_23 ?_
      refine x_getQ (pc := 24) fi_X1_85 dX1_paste_24 ?_
      intro v6
      refine x_nn (fun a7 e8 => ?_)
      subst e8
      refine x_getQ (pc := 27) fi_X1_190 dX1_paste_27 ?_
      intro v9
      refine x_iload_n (pc := 30) 1 rfl rfl dX1_paste_30 ?_
      refine x_nn (fun a10 e11 => ?_)
      subst e11
      refine x_aald (pc := 31) dX1_paste_31 ?_
      intro v12
      refine x_astore_n (pc := 32) (r := v12) (lv' := [(3, va_rf v12), (0, .ref this), (1, .int x1), (2, .int x2)]) rfl (by decide) rfl dX1_paste_32 ?_
      refine x_iload_n (pc := 33) 3 rfl rfl dX1_paste_33 ?_
      refine x_iconst (pc := 34) (v := 0) (by decide) dX1_paste_34 ?_
      refine x_aload_n (pc := 35) (r := v12) 0 rfl rfl dX1_paste_35 ?_
      refine x_nn (fun a13 e14 => ?_)
      subst e14
      refine x_callV (pc := 36) (As := []) (rest := [.int (0 : Int32), .int x2]) (lev' := 1) si_X1_194 (m_R_wide h4 a13) (fun z e => grd1 e) rfl rfl (by decide) (cat4 (Nat.le_of_ble_eq_true rfl)) dX1_paste_36 (kI (fun v16 h15 => ?_)) xNo
      refine x_callS (pc := 39) (As := [.int x2, .int (0 : Int32), .int v16]) (rest := []) (lev' := 1) si_X1_182 (m_B_isIn h15 x2 (0 : Int32) v16) rfl rfl (by decide) (cat4 (Nat.le_of_ble_eq_true rfl)) dX1_paste_39 (kI (fun v18 h17 => ?_)) xNo
      refine x_if_ne (pc := 42) 47 (by decide) dX1_paste_42 ?_ ?_
      · refine x_aload_nR (pc := 47) (a := a13) 0 rfl rfl dX1_paste_47 ?_
        refine x_callV (pc := 48) (As := []) (rest := []) (lev' := 1) si_X1_194 (m_R_wide h17 a13) (fun z e => grd1 e) rfl rfl (by decide) (cat4 (Nat.le_of_ble_eq_true rfl)) dX1_paste_48 (kI (fun v20 h19 => ?_)) xNo
        refine x_aload_nR (pc := 51) (a := this) 1 rfl rfl dX1_paste_51 ?_
        refine x_getI (pc := 52) fi_X1_149 dX1_paste_52 ?_
        intro v21
        refine x_iadd (pc := 55) dX1_paste_55 ?_
        refine x_sipush (pc := 56) (v := 600) (by decide) dX1_paste_56 ?_
        refine x_icmp_le (pc := 59) 64 (by decide) dX1_paste_59 ?_ ?_
        · refine x_aload_nR (pc := 64) (a := this) 1 rfl rfl dX1_paste_64 ?_
          refine x_aload_nR (pc := 65) (a := this) 1 rfl rfl dX1_paste_65 ?_
          refine x_getQ (pc := 66) fi_X1_85 dX1_paste_66 ?_
          intro v22
          refine x_nn (fun a23 e24 => ?_)
          subst e24
          refine x_callV (pc := 69) (As := []) (rest := [.ref this]) (lev' := 18) si_X1_304 (m_S_pack h19 a23) (fun z e => grd1 e) rfl rfl (by decide) (cat4 (Nat.le_of_ble_eq_true rfl)) dX1_paste_69 (kQ (fun v26 h25 => ?_)) xNo
          refine x_nn (fun a27 e28 => ?_)
          subst e28
          refine x_callV (pc := 72) (As := [.ref a27]) (rest := []) (lev' := 9) si_X1_308 (m_B_keep h25 this a27) (fun z e => grd1 e) rfl rfl (by decide) (cat4 (Nat.le_of_ble_eq_true rfl)) dX1_paste_72 (kV (fun h29 => ?_)) xNo
          refine x_iconst (pc := 75) (v := 0) (by decide) dX1_paste_75 ?_
          refine x_istore (pc := 76) (lv' := [(4, .int (0 : Int32)), (3, .ref a13), (0, .ref this), (1, .int x1), (2, .int x2)]) (by decide) rfl dX1_paste_76 ?_
          refine Sim.lv [2, 4, 1, 0] rfl ?_
          exact v_B_paste_l78 FU h29 this x2 (some a13) (0 : Int32)
        · refine x_iconst (pc := 62) (v := 2) (by decide) dX1_paste_62 ?_
          exact x_iret (pc := 63) dX1_paste_63
      · refine x_iconst (pc := 45) (v := 1) (by decide) dX1_paste_45 ?_
        exact x_iret (pc := 46) dX1_paste_46
    · refine x_iconst (pc := 21) (v := (-1)) (by decide) dX1_paste_21 ?_
      exact x_iret (pc := 22) dX1_paste_22
theorem si_X1_329 : SiV RX1 329 3 yX4_typed cX4_typed 1 (some .int) 0 := ⟨_, _, _, ci_3.1, by decide, lw_V q1235 q853 q854 q115 q855, ⟨rfl, by decide, by decide, by decide +kernel⟩, by decide⟩
abbrev Y_B_letters : Yx := (RX1, cX1_letters, 1, 3, (some .int), [], false)
def c_B_letters (h : PH) (this : Nat) : Option RH :=
  grd h this [0] (
  gQ h this [0] 7 fun v1 =>
  nn v1 fun a2 =>
  hI (c_S_typed h a2) noX fun v5 h4 =>
  rI v5 h4)
set_option maxHeartbeats 4000000 in
theorem m_B_letters (h : PH) (this : Nat) : MM yX1_letters (ws_ yX1_letters cX1_letters 1 (some .int)) 3 [.ref this] h (c_B_letters h this) := by
  refine MM.of (by decide) rfl (by decide) (Nat.le_of_ble_eq_true rfl) (own := RX1) (cc := cX1_letters) (maxL := 1) (lev := 3) (rt := (some .int)) (ini := false) ?_
  show Sim Y_B_letters h 0 [(0, .ref this)] [] _
  unfold c_B_letters
  refine x_grd ?_
  refine x_aload_nR (pc := 0) (a := this) 0 rfl rfl dX1_letters_0 ?_
  refine x_getQ (pc := 1) fi_X1_85 dX1_letters_1 ?_
  intro v1
  refine x_nn (fun a2 e3 => ?_)
  subst e3
  refine x_callV (pc := 4) (As := []) (rest := []) (lev' := 2) si_X1_329 (m_S_typed h a2) (fun z e => grd1 e) rfl rfl (by decide) (cat4 (Nat.le_of_ble_eq_true rfl)) dX1_letters_4 (kI (fun v5 h4 => ?_)) xNo
  exact x_iret (pc := 7) dX1_letters_7
theorem si_X1_332 : SiV RX1 332 3 yX4_letterAt cX4_letterAt 6 (some .int) 1 := ⟨_, _, _, ci_3.1, by decide, lw_V q1240 q1241 q1242 q115 q1243, ⟨rfl, by decide, by decide, by decide +kernel⟩, by decide⟩
abbrev Y_B_letter : Yx := (RX1, cX1_letter, 2, 6, (some .int), [], false)
def c_B_letter (h : PH) (this : Nat) (x1 : Int32) : Option RH :=
  grd h this [0] (
  gQ h this [0] 7 fun v1 =>
  nn v1 fun a2 =>
  hI (c_S_typed h a2) noX fun v5 h4 =>
  hI (c_B_isIn h4 x1 (0 : Int32) (v5 - (1 : Int32))) noX fun v7 h6 =>
  if v7 = 0 then
    rI (-1 : Int32) h6
  else
    gQ h6 this [0] 7 fun v8 =>
    nn v8 fun a9 =>
    hI (c_S_letterAt h6 a9 x1) noX fun v12 h11 =>
    rI v12 h11)
set_option maxHeartbeats 4000000 in
theorem m_B_letter (h : PH) (this : Nat) (x1 : Int32) : MM yX1_letter (ws_ yX1_letter cX1_letter 2 (some .int)) 6 [.ref this, .int x1] h (c_B_letter h this x1) := by
  refine MM.of (by decide) rfl (by decide) (Nat.le_of_ble_eq_true rfl) (own := RX1) (cc := cX1_letter) (maxL := 2) (lev := 6) (rt := (some .int)) (ini := false) ?_
  show Sim Y_B_letter h 0 [(0, .ref this), (1, .int x1)] [] _
  unfold c_B_letter
  refine x_grd ?_
  refine x_iload_n (pc := 0) 1 rfl rfl dX1_letter_0 ?_
  refine x_iconst (pc := 1) (v := 0) (by decide) dX1_letter_1 ?_
  refine x_aload_nR (pc := 2) (a := this) 0 rfl rfl dX1_letter_2 ?_
  refine x_getQ (pc := 3) fi_X1_85 dX1_letter_3 ?_
  intro v1
  refine x_nn (fun a2 e3 => ?_)
  subst e3
  refine x_callV (pc := 6) (As := []) (rest := [.int (0 : Int32), .int x1]) (lev' := 2) si_X1_329 (m_S_typed h a2) (fun z e => grd1 e) rfl rfl (by decide) (cat4 (Nat.le_of_ble_eq_true rfl)) dX1_letter_6 (kI (fun v5 h4 => ?_)) xNo
  refine x_iconst (pc := 9) (v := 1) (by decide) dX1_letter_9 ?_
  refine x_isub (pc := 10) dX1_letter_10 ?_
  refine x_callS (pc := 11) (As := [.int x1, .int (0 : Int32), .int (v5 - (1 : Int32))]) (rest := []) (lev' := 1) si_X1_182 (m_B_isIn h4 x1 (0 : Int32) (v5 - (1 : Int32))) rfl rfl (by decide) (cat4 (Nat.le_of_ble_eq_true rfl)) dX1_letter_11 (kI (fun v7 h6 => ?_)) xNo
  refine x_if_eq (pc := 14) 28 (by decide) dX1_letter_14 ?_ ?_
  · refine x_iconst (pc := 28) (v := (-1)) (by decide) dX1_letter_28 ?_
    exact x_iret (pc := 29) dX1_letter_29
  · refine x_aload_nR (pc := 17) (a := this) 0 rfl rfl dX1_letter_17 ?_
    refine x_getQ (pc := 18) fi_X1_85 dX1_letter_18 ?_
    intro v8
    refine x_iload_n (pc := 21) 1 rfl rfl dX1_letter_21 ?_
    refine x_nn (fun a9 e10 => ?_)
    subst e10
    refine x_callV (pc := 22) (As := [.int x1]) (rest := []) (lev' := 5) si_X1_332 (m_S_letterAt h6 a9 x1) (fun z e => grd1 e) rfl rfl (by decide) (cat4 (Nat.le_of_ble_eq_true rfl)) dX1_letter_22 (kI (fun v12 h11 => ?_)) xNo
    refine x_goto (pc := 25) 29 (by decide) dX1_letter_25 ?_
    exact x_iret (pc := 29) dX1_letter_29
abbrev Y_B_isLetterNumber : Yx := (RX1, cX1_isLetterNumber, 1, 2, (some .boolean), [], false)
def c_B_isLetterNumber (h : PH) (x0 : Int32) : Option RH :=
  hI (c_B_isIn h x0 (0 : Int32) (7 : Int32)) noX fun v2 h1 =>
  rZ v2 h1
set_option maxHeartbeats 4000000 in
theorem m_B_isLetterNumber (h : PH) (x0 : Int32) : MM yX1_isLetterNumber (ws_ yX1_isLetterNumber cX1_isLetterNumber 1 (some .boolean)) 2 [.int x0] h (c_B_isLetterNumber h x0) := by
  refine MM.of (by decide) rfl (by decide) (Nat.le_of_ble_eq_true rfl) (own := RX1) (cc := cX1_isLetterNumber) (maxL := 1) (lev := 2) (rt := (some .boolean)) (ini := false) ?_
  show Sim Y_B_isLetterNumber h 0 [(0, .int x0)] [] _
  unfold c_B_isLetterNumber
  refine x_iload_n (pc := 0) 0 rfl rfl dX1_isLetterNumber_0 ?_
  refine x_iconst (pc := 1) (v := 0) (by decide) dX1_isLetterNumber_1 ?_
  refine x_bipush (pc := 2) (v := 7) (by decide) dX1_isLetterNumber_2 ?_
  refine x_callS (pc := 4) (As := [.int x0, .int (0 : Int32), .int (7 : Int32)]) (rest := []) (lev' := 1) si_X1_182 (m_B_isIn h x0 (0 : Int32) (7 : Int32)) rfl rfl (by decide) (cat4 (Nat.le_of_ble_eq_true rfl)) dX1_isLetterNumber_4 (kI (fun v2 h1 => ?_)) xNo
  exact x_zret (pc := 7) dX1_isLetterNumber_7
theorem si_X1_335 : SiS RX1 335 yX1_isLetterNumber cX1_isLetterNumber 1 (some .boolean) 1 := ⟨lw_S q1248 q1249 q110 q1250, ⟨by decide, by decide, by decide +kernel⟩, by decide⟩
theorem si_X1_338 : SiV RX1 338 3 yX4_ahead cX4_ahead 7 (some .int) 2 := ⟨_, _, _, ci_3.1, by decide, lw_V q1251 q1252 q1253 q115 q1254, ⟨rfl, by decide, by decide, by decide +kernel⟩, by decide⟩
abbrev Y_B_count : Yx := (RX1, cX1_count, 3, 6, (some .int), [], false)
def c_B_count (h : PH) (this : Nat) (x1 : Int32) (x2 : Int32) : Option RH :=
  grd h this [0] (
  hI (c_B_isLetterNumber h x1) noX fun v2 h1 =>
  if v2 = 0 then
    rI (-1 : Int32) h1
  else
    gQ h1 this [0] 7 fun v3 =>
    nn v3 fun a4 =>
    hI (c_S_typed h1 a4) noX fun v7 h6 =>
    hI (c_B_isIn h6 x2 (0 : Int32) v7) noX fun v9 h8 =>
    if v9 = 0 then
      rI (-1 : Int32) h8
    else
      gQ h8 this [0] 7 fun v10 =>
      nn v10 fun a11 =>
      hI (c_S_ahead h8 a11 x1 x2) noX fun v14 h13 =>
      rI v14 h13)
set_option maxHeartbeats 4000000 in
theorem m_B_count (h : PH) (this : Nat) (x1 : Int32) (x2 : Int32) : MM yX1_count (ws_ yX1_count cX1_count 3 (some .int)) 6 [.ref this, .int x1, .int x2] h (c_B_count h this x1 x2) := by
  refine MM.of (by decide) rfl (by decide) (Nat.le_of_ble_eq_true rfl) (own := RX1) (cc := cX1_count) (maxL := 3) (lev := 6) (rt := (some .int)) (ini := false) ?_
  show Sim Y_B_count h 0 [(0, .ref this), (1, .int x1), (2, .int x2)] [] _
  unfold c_B_count
  refine x_grd ?_
  refine x_iload_n (pc := 0) 1 rfl rfl dX1_count_0 ?_
  refine x_callS (pc := 1) (As := [.int x1]) (rest := []) (lev' := 2) si_X1_335 (m_B_isLetterNumber h x1) rfl rfl (by decide) (cat4 (Nat.le_of_ble_eq_true rfl)) dX1_count_1 (kI (fun v2 h1 => ?_)) xNo
  refine x_if_eq (pc := 4) 34 (by decide) dX1_count_4 ?_ ?_
  · refine x_iconst (pc := 34) (v := (-1)) (by decide) dX1_count_34 ?_
    exact x_iret (pc := 35) dX1_count_35
  · refine x_iload_n (pc := 7) 2 rfl rfl dX1_count_7 ?_
    refine x_iconst (pc := 8) (v := 0) (by decide) dX1_count_8 ?_
    refine x_aload_nR (pc := 9) (a := this) 0 rfl rfl dX1_count_9 ?_
    refine x_getQ (pc := 10) fi_X1_85 dX1_count_10 ?_
    intro v3
    refine x_nn (fun a4 e5 => ?_)
    subst e5
    refine x_callV (pc := 13) (As := []) (rest := [.int (0 : Int32), .int x2]) (lev' := 2) si_X1_329 (m_S_typed h1 a4) (fun z e => grd1 e) rfl rfl (by decide) (cat4 (Nat.le_of_ble_eq_true rfl)) dX1_count_13 (kI (fun v7 h6 => ?_)) xNo
    refine x_callS (pc := 16) (As := [.int x2, .int (0 : Int32), .int v7]) (rest := []) (lev' := 1) si_X1_182 (m_B_isIn h6 x2 (0 : Int32) v7) rfl rfl (by decide) (cat4 (Nat.le_of_ble_eq_true rfl)) dX1_count_16 (kI (fun v9 h8 => ?_)) xNo
    refine x_if_eq (pc := 19) 34 (by decide) dX1_count_19 ?_ ?_
    · refine x_iconst (pc := 34) (v := (-1)) (by decide) dX1_count_34 ?_
      exact x_iret (pc := 35) dX1_count_35
    · refine x_aload_nR (pc := 22) (a := this) 0 rfl rfl dX1_count_22 ?_
      refine x_getQ (pc := 23) fi_X1_85 dX1_count_23 ?_
      intro v10
      refine x_iload_n (pc := 26) 1 rfl rfl dX1_count_26 ?_
      refine x_iload_n (pc := 27) 2 rfl rfl dX1_count_27 ?_
      refine x_nn (fun a11 e12 => ?_)
      subst e12
      refine x_callV (pc := 28) (As := [.int x1, .int x2]) (rest := []) (lev' := 5) si_X1_338 (m_S_ahead h8 a11 x1 x2) (fun z e => grd1 e) rfl rfl (by decide) (cat4 (Nat.le_of_ble_eq_true rfl)) dX1_count_28 (kI (fun v14 h13 => ?_)) xNo
      refine x_goto (pc := 31) 35 (by decide) dX1_count_31 ?_
      exact x_iret (pc := 35) dX1_count_35
theorem si_X1_340 : SiV RX1 340 3 yX4_placeOf cX4_placeOf 7 (some .int) 2 := ⟨_, _, _, ci_3.1, by decide, lw_V q1259 q1260 q1261 q115 q1262, ⟨rfl, by decide, by decide, by decide +kernel⟩, by decide⟩
abbrev Y_B_place : Yx := (RX1, cX1_place, 3, 115, (some .int), [], false)
def c_B_place (h : PH) (this : Nat) (x1 : Int32) (x2 : Int32) : Option RH :=
  grd h this [0] (
  hI (c_B_isLetterNumber h x1) noX fun v2 h1 =>
  if v2 = 0 then
    rI (-1 : Int32) h1
  else
    gQ h1 this [0] 7 fun v3 =>
    nn v3 fun a4 =>
    hI (c_S_placeOf h1 a4 x1 x2) noX fun v7 h6 =>
    rI v7 h6)
set_option maxHeartbeats 4000000 in
theorem m_B_place (h : PH) (this : Nat) (x1 : Int32) (x2 : Int32) : MM yX1_place (ws_ yX1_place cX1_place 3 (some .int)) 115 [.ref this, .int x1, .int x2] h (c_B_place h this x1 x2) := by
  refine MM.of (by decide) rfl (by decide) (Nat.le_of_ble_eq_true rfl) (own := RX1) (cc := cX1_place) (maxL := 3) (lev := 115) (rt := (some .int)) (ini := false) ?_
  show Sim Y_B_place h 0 [(0, .ref this), (1, .int x1), (2, .int x2)] [] _
  unfold c_B_place
  refine x_grd ?_
  refine x_iload_n (pc := 0) 1 rfl rfl dX1_place_0 ?_
  refine x_callS (pc := 1) (As := [.int x1]) (rest := []) (lev' := 2) si_X1_335 (m_B_isLetterNumber h x1) rfl rfl (by decide) (cat4 (Nat.le_of_ble_eq_true rfl)) dX1_place_1 (kI (fun v2 h1 => ?_)) xNo
  refine x_if_eq (pc := 4) 19 (by decide) dX1_place_4 ?_ ?_
  · refine x_iconst (pc := 19) (v := (-1)) (by decide) dX1_place_19 ?_
    exact x_iret (pc := 20) dX1_place_20
  · refine x_aload_nR (pc := 7) (a := this) 0 rfl rfl dX1_place_7 ?_
    refine x_getQ (pc := 8) fi_X1_85 dX1_place_8 ?_
    intro v3
    refine x_iload_n (pc := 11) 1 rfl rfl dX1_place_11 ?_
    refine x_iload_n (pc := 12) 2 rfl rfl dX1_place_12 ?_
    refine x_nn (fun a4 e5 => ?_)
    subst e5
    refine x_callV (pc := 13) (As := [.int x1, .int x2]) (rest := []) (lev' := 114) si_X1_340 (m_S_placeOf h1 a4 x1 x2) (fun z e => grd1 e) rfl rfl (by decide) (cat4 (Nat.le_of_ble_eq_true rfl)) dX1_place_13 (kI (fun v7 h6 => ?_)) xNo
    refine x_goto (pc := 16) 20 (by decide) dX1_place_16 ?_
    exact x_iret (pc := 20) dX1_place_20
theorem si_X1_343 : SiV RX1 343 3 yX4_leastOf cX4_leastOf 11 (some .int) 3 := ⟨_, _, _, ci_3.1, by decide, lw_V q1270 q1271 q1272 q115 q1273, ⟨rfl, by decide, by decide, by decide +kernel⟩, by decide⟩
abbrev Y_B_least : Yx := (RX1, cX1_least, 4, 6, (some .int), [], false)
def c_B_least (h : PH) (this : Nat) (x1 : Int32) (x2 : Int32) (x3 : Int32) : Option RH :=
  grd h this [0] (
  if x1 < 0 then
    rI (-1 : Int32) h
  else
    gQ h this [0] 7 fun v1 =>
    nn v1 fun a2 =>
    hI (c_S_typed h a2) noX fun v5 h4 =>
    if v5 < x2 then
      rI (-1 : Int32) h4
    else
      if x2 ≤ x1 then
        rI (-1 : Int32) h4
      else
        hI (c_B_isIn h4 x3 (0 : Int32) ((x2 - x1) - (1 : Int32))) noX fun v7 h6 =>
        if v7 = 0 then
          rI (-1 : Int32) h6
        else
          gQ h6 this [0] 7 fun v8 =>
          nn v8 fun a9 =>
          hI (c_S_leastOf h6 a9 x1 x2 x3) noX fun v12 h11 =>
          rI v12 h11)
set_option maxHeartbeats 4000000 in
theorem m_B_least (h : PH) (this : Nat) (x1 : Int32) (x2 : Int32) (x3 : Int32) : MM yX1_least (ws_ yX1_least cX1_least 4 (some .int)) 6 [.ref this, .int x1, .int x2, .int x3] h (c_B_least h this x1 x2 x3) := by
  refine MM.of (by decide) rfl (by decide) (Nat.le_of_ble_eq_true rfl) (own := RX1) (cc := cX1_least) (maxL := 4) (lev := 6) (rt := (some .int)) (ini := false) ?_
  show Sim Y_B_least h 0 [(0, .ref this), (1, .int x1), (2, .int x2), (3, .int x3)] [] _
  unfold c_B_least
  refine x_grd ?_
  refine x_iload_n (pc := 0) 1 rfl rfl dX1_least_0 ?_
  refine x_if_lt (pc := 1) 46 (by decide) dX1_least_1 ?_ ?_
  · refine x_iconst (pc := 46) (v := (-1)) (by decide) dX1_least_46 ?_
    exact x_iret (pc := 47) dX1_least_47
  · refine x_iload_n (pc := 4) 2 rfl rfl dX1_least_4 ?_
    refine x_aload_nR (pc := 5) (a := this) 0 rfl rfl dX1_least_5 ?_
    refine x_getQ (pc := 6) fi_X1_85 dX1_least_6 ?_
    intro v1
    refine x_nn (fun a2 e3 => ?_)
    subst e3
    refine x_callV (pc := 9) (As := []) (rest := [.int x2]) (lev' := 2) si_X1_329 (m_S_typed h a2) (fun z e => grd1 e) rfl rfl (by decide) (cat4 (Nat.le_of_ble_eq_true rfl)) dX1_least_9 (kI (fun v5 h4 => ?_)) xNo
    refine x_icmp_gt (pc := 12) 46 (by decide) dX1_least_12 ?_ ?_
    · refine x_iconst (pc := 46) (v := (-1)) (by decide) dX1_least_46 ?_
      exact x_iret (pc := 47) dX1_least_47
    · refine x_iload_n (pc := 15) 1 rfl rfl dX1_least_15 ?_
      refine x_iload_n (pc := 16) 2 rfl rfl dX1_least_16 ?_
      refine x_icmp_ge (pc := 17) 46 (by decide) dX1_least_17 ?_ ?_
      · refine x_iconst (pc := 46) (v := (-1)) (by decide) dX1_least_46 ?_
        exact x_iret (pc := 47) dX1_least_47
      · refine x_iload_n (pc := 20) 3 rfl rfl dX1_least_20 ?_
        refine x_iconst (pc := 21) (v := 0) (by decide) dX1_least_21 ?_
        refine x_iload_n (pc := 22) 2 rfl rfl dX1_least_22 ?_
        refine x_iload_n (pc := 23) 1 rfl rfl dX1_least_23 ?_
        refine x_isub (pc := 24) dX1_least_24 ?_
        refine x_iconst (pc := 25) (v := 1) (by decide) dX1_least_25 ?_
        refine x_isub (pc := 26) dX1_least_26 ?_
        refine x_callS (pc := 27) (As := [.int x3, .int (0 : Int32), .int ((x2 - x1) - (1 : Int32))]) (rest := []) (lev' := 1) si_X1_182 (m_B_isIn h4 x3 (0 : Int32) ((x2 - x1) - (1 : Int32))) rfl rfl (by decide) (cat4 (Nat.le_of_ble_eq_true rfl)) dX1_least_27 (kI (fun v7 h6 => ?_)) xNo
        refine x_if_eq (pc := 30) 46 (by decide) dX1_least_30 ?_ ?_
        · refine x_iconst (pc := 46) (v := (-1)) (by decide) dX1_least_46 ?_
          exact x_iret (pc := 47) dX1_least_47
        · refine x_aload_nR (pc := 33) (a := this) 0 rfl rfl dX1_least_33 ?_
          refine x_getQ (pc := 34) fi_X1_85 dX1_least_34 ?_
          intro v8
          refine x_iload_n (pc := 37) 1 rfl rfl dX1_least_37 ?_
          refine x_iload_n (pc := 38) 2 rfl rfl dX1_least_38 ?_
          refine x_iload_n (pc := 39) 3 rfl rfl dX1_least_39 ?_
          refine x_nn (fun a9 e10 => ?_)
          subst e10
          refine x_callV (pc := 40) (As := [.int x1, .int x2, .int x3]) (rest := []) (lev' := 5) si_X1_343 (m_S_leastOf h6 a9 x1 x2 x3) (fun z e => grd1 e) rfl rfl (by decide) (cat4 (Nat.le_of_ble_eq_true rfl)) dX1_least_40 (kI (fun v12 h11 => ?_)) xNo
          refine x_goto (pc := 43) 47 (by decide) dX1_least_43 ?_
          exact x_iret (pc := 47) dX1_least_47
theorem fi_X1_347 : FI RX1 347 [3] 1 (.array (.object "BitRopes$Rope")) true false := (fi_c ci_3 (by decide) rfl rfl (Or.inr ⟨_, q325⟩) (Or.inl rfl) (fun _ h => absurd h (by decide)) fi_n)
abbrev Y_B_node : Yx := (RX1, cX1_node, 3, 4, (some .int), [], false)
def c_B_node (h : PH) (this : Nat) (x1 : Int32) (x2 : Int32) : Option RH :=
  grd h this [0] (
  hI (c_B_isIn h x1 (0 : Int32) (6 : Int32)) noX fun v2 h1 =>
  if v2 = 0 then
    rI (-1 : Int32) h1
  else
    gQ h1 this [0] 7 fun v3 =>
    nn v3 fun a4 =>
    gQ h1 a4 [3] 1 fun v6 =>
    nn v6 fun a7 =>
    ldQ h1 a7 x1 fun v9 =>
    nn v9 fun a10 =>
    hI (c_R_wide h1 a10) noX fun v13 h12 =>
    hI (c_B_isIn h12 x2 (0 : Int32) (v13 - (1 : Int32))) noX fun v15 h14 =>
    if v15 = 0 then
      rI (-1 : Int32) h14
    else
      gQ h14 this [0] 7 fun v16 =>
      nn v16 fun a17 =>
      gQ h14 a17 [3] 1 fun v19 =>
      nn v19 fun a20 =>
      ldQ h14 a20 x1 fun v22 =>
      nn v22 fun a23 =>
      hI (c_R_get h14 a23 x2) noX fun v26 h25 =>
      rI v26 h25)
set_option maxHeartbeats 4000000 in
theorem m_B_node (h : PH) (this : Nat) (x1 : Int32) (x2 : Int32) : MM yX1_node (ws_ yX1_node cX1_node 3 (some .int)) 4 [.ref this, .int x1, .int x2] h (c_B_node h this x1 x2) := by
  refine MM.of (by decide) rfl (by decide) (Nat.le_of_ble_eq_true rfl) (own := RX1) (cc := cX1_node) (maxL := 3) (lev := 4) (rt := (some .int)) (ini := false) ?_
  show Sim Y_B_node h 0 [(0, .ref this), (1, .int x1), (2, .int x2)] [] _
  unfold c_B_node
  refine x_grd ?_
  refine x_iload_n (pc := 0) 1 rfl rfl dX1_node_0 ?_
  refine x_iconst (pc := 1) (v := 0) (by decide) dX1_node_1 ?_
  refine x_bipush (pc := 2) (v := 6) (by decide) dX1_node_2 ?_
  refine x_callS (pc := 4) (As := [.int x1, .int (0 : Int32), .int (6 : Int32)]) (rest := []) (lev' := 1) si_X1_182 (m_B_isIn h x1 (0 : Int32) (6 : Int32)) rfl rfl (by decide) (cat4 (Nat.le_of_ble_eq_true rfl)) dX1_node_4 (kI (fun v2 h1 => ?_)) xNo
  refine x_if_eq (pc := 7) 48 (by decide) dX1_node_7 ?_ ?_
  · refine x_iconst (pc := 48) (v := (-1)) (by decide) dX1_node_48 ?_
    exact x_iret (pc := 49) dX1_node_49
  · refine x_iload_n (pc := 10) 2 rfl rfl dX1_node_10 ?_
    refine x_iconst (pc := 11) (v := 0) (by decide) dX1_node_11 ?_
    refine x_aload_nR (pc := 12) (a := this) 0 rfl rfl dX1_node_12 ?_
    refine x_getQ (pc := 13) fi_X1_85 dX1_node_13 ?_
    intro v3
    refine x_nn (fun a4 e5 => ?_)
    subst e5
    refine x_getQ (pc := 16) fi_X1_347 dX1_node_16 ?_
    intro v6
    refine x_iload_n (pc := 19) 1 rfl rfl dX1_node_19 ?_
    refine x_nn (fun a7 e8 => ?_)
    subst e8
    refine x_aald (pc := 20) dX1_node_20 ?_
    intro v9
    refine x_nn (fun a10 e11 => ?_)
    subst e11
    refine x_callV (pc := 21) (As := []) (rest := [.int (0 : Int32), .int x2]) (lev' := 1) si_X1_194 (m_R_wide h1 a10) (fun z e => grd1 e) rfl rfl (by decide) (cat4 (Nat.le_of_ble_eq_true rfl)) dX1_node_21 (kI (fun v13 h12 => ?_)) xNo
    refine x_iconst (pc := 24) (v := 1) (by decide) dX1_node_24 ?_
    refine x_isub (pc := 25) dX1_node_25 ?_
    refine x_callS (pc := 26) (As := [.int x2, .int (0 : Int32), .int (v13 - (1 : Int32))]) (rest := []) (lev' := 1) si_X1_182 (m_B_isIn h12 x2 (0 : Int32) (v13 - (1 : Int32))) rfl rfl (by decide) (cat4 (Nat.le_of_ble_eq_true rfl)) dX1_node_26 (kI (fun v15 h14 => ?_)) xNo
    refine x_if_eq (pc := 29) 48 (by decide) dX1_node_29 ?_ ?_
    · refine x_iconst (pc := 48) (v := (-1)) (by decide) dX1_node_48 ?_
      exact x_iret (pc := 49) dX1_node_49
    · refine x_aload_nR (pc := 32) (a := this) 0 rfl rfl dX1_node_32 ?_
      refine x_getQ (pc := 33) fi_X1_85 dX1_node_33 ?_
      intro v16
      refine x_nn (fun a17 e18 => ?_)
      subst e18
      refine x_getQ (pc := 36) fi_X1_347 dX1_node_36 ?_
      intro v19
      refine x_iload_n (pc := 39) 1 rfl rfl dX1_node_39 ?_
      refine x_nn (fun a20 e21 => ?_)
      subst e21
      refine x_aald (pc := 40) dX1_node_40 ?_
      intro v22
      refine x_iload_n (pc := 41) 2 rfl rfl dX1_node_41 ?_
      refine x_nn (fun a23 e24 => ?_)
      subst e24
      refine x_callV (pc := 42) (As := [.int x2]) (rest := []) (lev' := 3) si_X1_207 (m_R_get h14 a23 x2) (fun z e => grd1 e) rfl rfl (by decide) (cat4 (Nat.le_of_ble_eq_true rfl)) dX1_node_42 (kI (fun v26 h25 => ?_)) xNo
      refine x_goto (pc := 45) 49 (by decide) dX1_node_45 ?_
      exact x_iret (pc := 49) dX1_node_49
theorem si_X1_350 : SiV RX1 350 3 yX4_drawDeeds cX4_drawDeeds 5 (some .int) 2 := ⟨_, _, _, ci_3.1, by decide, lw_V q1282 q1283 q1284 q115 q1285, ⟨rfl, by decide, by decide, by decide +kernel⟩, by decide⟩
abbrev Y_B_drawn : Yx := (RX1, cX1_drawn, 5, 26, (some .int), [], false)
def c_B_drawn (h : PH) (this : Nat) (x1 : Int32) (x2 : Int32) : Option RH :=
  grd h this [0] (
  hI (c_B_isIn h x1 (1 : Int32) (60 : Int32)) noX fun v2 h1 =>
  if v2 = 0 then
    rI (-1 : Int32) h1
  else
    gQ h1 this [0] 7 fun v3 =>
    nn v3 fun a4 =>
    hQ (c_S_pack h1 a4) noX fun v7 h6 =>
    gQ h6 this [0] 7 fun v8 =>
    nn v8 fun a9 =>
    hI (c_S_drawDeeds h6 a9 x1 x2) noX fun v12 h11 =>
    if v12 ≤ 0 then
      rI v12 h11
    else
      nn v7 fun a13 =>
      hV (c_B_keep h11 this a13) noX fun h15 =>
      rI v12 h15)
set_option maxHeartbeats 4000000 in
theorem m_B_drawn (h : PH) (this : Nat) (x1 : Int32) (x2 : Int32) : MM yX1_drawn (ws_ yX1_drawn cX1_drawn 5 (some .int)) 26 [.ref this, .int x1, .int x2] h (c_B_drawn h this x1 x2) := by
  refine MM.of (by decide) rfl (by decide) (Nat.le_of_ble_eq_true rfl) (own := RX1) (cc := cX1_drawn) (maxL := 5) (lev := 26) (rt := (some .int)) (ini := false) ?_
  show Sim Y_B_drawn h 0 [(0, .ref this), (1, .int x1), (2, .int x2)] [] _
  unfold c_B_drawn
  refine x_grd ?_
  refine x_iload_n (pc := 0) 1 rfl rfl dX1_drawn_0 ?_
  refine x_iconst (pc := 1) (v := 1) (by decide) dX1_drawn_1 ?_
  refine x_bipush (pc := 2) (v := 60) (by decide) dX1_drawn_2 ?_
  refine x_callS (pc := 4) (As := [.int x1, .int (1 : Int32), .int (60 : Int32)]) (rest := []) (lev' := 1) si_X1_182 (m_B_isIn h x1 (1 : Int32) (60 : Int32)) rfl rfl (by decide) (cat4 (Nat.le_of_ble_eq_true rfl)) dX1_drawn_4 (kI (fun v2 h1 => ?_)) xNo
  refine x_if_ne (pc := 7) 12 (by decide) dX1_drawn_7 ?_ ?_
  · refine x_aload_nR (pc := 12) (a := this) 0 rfl rfl dX1_drawn_12 ?_
    refine x_getQ (pc := 13) fi_X1_85 dX1_drawn_13 ?_
    intro v3
    refine x_nn (fun a4 e5 => ?_)
    subst e5
    refine x_callV (pc := 16) (As := []) (rest := []) (lev' := 18) si_X1_304 (m_S_pack h1 a4) (fun z e => grd1 e) rfl rfl (by decide) (cat4 (Nat.le_of_ble_eq_true rfl)) dX1_drawn_16 (kQ (fun v7 h6 => ?_)) xNo
    refine x_astore_n (pc := 19) (r := v7) (lv' := [(3, va_rf v7), (0, .ref this), (1, .int x1), (2, .int x2)]) rfl (by decide) rfl dX1_drawn_19 ?_
    refine x_aload_nR (pc := 20) (a := this) 1 rfl rfl dX1_drawn_20 ?_
    refine x_getQ (pc := 21) fi_X1_85 dX1_drawn_21 ?_
    intro v8
    refine x_iload_n (pc := 24) 2 rfl rfl dX1_drawn_24 ?_
    refine x_iload_n (pc := 25) 3 rfl rfl dX1_drawn_25 ?_
    refine x_nn (fun a9 e10 => ?_)
    subst e10
    refine x_callV (pc := 26) (As := [.int x1, .int x2]) (rest := []) (lev' := 25) si_X1_350 (m_S_drawDeeds h6 a9 x1 x2) (fun z e => grd1 e) rfl rfl (by decide) (cat4 (Nat.le_of_ble_eq_true rfl)) dX1_drawn_26 (kI (fun v12 h11 => ?_)) xNo
    refine x_istore (pc := 29) (lv' := [(4, .int v12), (3, va_rf v7), (0, .ref this), (1, .int x1), (2, .int x2)]) (by decide) (by simp [rf_cat]) dX1_drawn_29 ?_
    refine x_iload (pc := 31) 0 rfl dX1_drawn_31 ?_
    refine x_if_le (pc := 33) 41 (by decide) dX1_drawn_33 ?_ ?_
    · refine x_iload (pc := 41) 0 rfl dX1_drawn_41 ?_
      exact x_iret (pc := 43) dX1_drawn_43
    · refine x_aload_nR (pc := 36) (a := this) 2 rfl rfl dX1_drawn_36 ?_
      refine x_aload_n (pc := 37) (r := v7) 1 rfl rfl dX1_drawn_37 ?_
      refine x_nn (fun a13 e14 => ?_)
      subst e14
      refine x_callV (pc := 38) (As := [.ref a13]) (rest := []) (lev' := 9) si_X1_308 (m_B_keep h11 this a13) (fun z e => grd1 e) rfl rfl (by decide) (cat4 (Nat.le_of_ble_eq_true rfl)) dX1_drawn_38 (kV (fun h15 => ?_)) xNo
      refine x_iload (pc := 41) 0 rfl dX1_drawn_41 ?_
      exact x_iret (pc := 43) dX1_drawn_43
  · refine x_iconst (pc := 10) (v := (-1)) (by decide) dX1_drawn_10 ?_
    exact x_iret (pc := 11) dX1_drawn_11
theorem si_X1_375 : SiV RX1 375 3 yX4_bits cX4_bits 6 (some .int) 0 := ⟨_, _, _, ci_3.1, by decide, lw_V q1368 q1369 q1370 q115 q1371, ⟨rfl, by decide, by decide, by decide +kernel⟩, by decide⟩
theorem fi_X1_378 : FI RX1 378 [0] 17 .boolean false true := (fi_c ci_0 (by decide) rfl rfl (Or.inl q520) (Or.inl rfl) (fun h => absurd h (by decide)) fi_n)
theorem fi_X1_355 : FI RX1 355 [6] 10 .int false true := (fi_c ci_6 (by decide) rfl rfl (Or.inr ⟨_, q419⟩) (Or.inl rfl) (fun h => absurd h (by decide)) fi_n)
theorem fi_X1_358 : FI RX1 358 [6] 9 (.array (.object "BitRopes$Deed")) true false := (fi_c ci_6 (by decide) rfl rfl (Or.inr ⟨_, q417⟩) (Or.inl rfl) (fun _ h => absurd h (by decide)) fi_n)
theorem fi_X1_361 : FI RX1 361 [12] 0 .int true false := (fi_c ci_12 (by decide) rfl rfl (Or.inr ⟨_, q1349⟩) (Or.inl rfl) (fun _ h => absurd h (by decide)) fi_n)
theorem fi_X1_366 : FI RX1 366 [12] 1 .int true false := (fi_c ci_12 (by decide) rfl rfl (Or.inr ⟨_, q1351⟩) (Or.inl rfl) (fun _ h => absurd h (by decide)) fi_n)
theorem fi_X1_369 : FI RX1 369 [12] 2 .int true false := (fi_c ci_12 (by decide) rfl rfl (Or.inr ⟨_, q1353⟩) (Or.inl rfl) (fun _ h => absurd h (by decide)) fi_n)
theorem fi_X1_372 : FI RX1 372 [12] 3 .int true false := (fi_c ci_12 (by decide) rfl rfl (Or.inr ⟨_, q1355⟩) (Or.inl rfl) (fun _ h => absurd h (by decide)) fi_n)
theorem si_X1_353 : SiV RX1 353 6 yX8_read cX8_read 2 none 0 := ⟨_, _, _, ci_6.1, by decide, lw_V q1301 q1302 q1303 q119 q1304, ⟨rfl, by decide, by decide, by decide +kernel⟩, by decide⟩
abbrev Y_B_book : Yx := (RX1, cX1_book, 8, 24, (some .int), [(22, 29, 32, 13)], false)
def c_B_book_j186 (h : PH) (this : Nat) (x1 : Int32) (x2 : Option Nat) (x3 : Int32) (x4 : Int32) (x5 : Int32) : Option RH :=
  gQ h this [0] 16 fun v1 =>
  nn v1 fun a2 =>
  stI h a2 (0 : Int32) x4 fun h4 =>
  gQ h4 this [0] 16 fun v5 =>
  nn v5 fun a6 =>
  stI h4 a6 (1 : Int32) x5 fun h8 =>
  gQ h8 this [0] 16 fun v9 =>
  gQ h8 this [0] 7 fun v10 =>
  nn v10 fun a11 =>
  hI (c_S_bits h8 a11) noX fun v14 h13 =>
  nn v9 fun a15 =>
  stI h13 a15 (2 : Int32) v14 fun h17 =>
  gQ h17 this [0] 16 fun v18 =>
  gQ h17 this [0] 7 fun v19 =>
  nn v19 fun a20 =>
  hI (c_S_typed h17 a20) noX fun v23 h22 =>
  nn v18 fun a24 =>
  stI h22 a24 (3 : Int32) v23 fun h26 =>
  pZ h26 this [0] 17 (1 : Int32) fun h27 =>
  if x1 = 0 then
    gQ h27 this [0] 7 fun v31 =>
    nn x2 fun a32 =>
    nn v31 fun a34 =>
    hV (c_S_unpack h27 a34 a32) noX fun h36 =>
    rI x3 h36
  else
    if x5 ≤ 0 then
      rI x3 h27
    else
      nn x2 fun a28 =>
      hV (c_B_keep h27 this a28) noX fun h30 =>
      rI x3 h30
def c_B_book_l68 (r68 : PH → Nat → Int32 → Option Nat → Int32 → Int32 → Int32 → Int32 → Option RH) (h : PH) (this : Nat) (x1 : Int32) (x2 : Option Nat) (x3 : Int32) (x4 : Int32) (x5 : Int32) (x6 : Int32) : Option RH :=
  gQ h this [0] 10 fun v1 =>
  nn v1 fun a2 =>
  gI h a2 [6] 10 fun v4 =>
  if v4 ≤ x6 then
    c_B_book_j186 h this x1 x2 x3 x4 x5
  else
    if x3 = (-1 : Int32) then
      gQ h this [0] 10 fun v5 =>
      nn v5 fun a6 =>
      gQ h a6 [6] 9 fun v8 =>
      nn v8 fun a9 =>
      ldQ h a9 x6 fun v11 =>
      gQ h this [0] 7 fun v12 =>
      nn v11 fun a13 =>
      gI h a13 [12] 0 fun v15 =>
      gI h a13 [12] 1 fun v16 =>
      gI h a13 [12] 2 fun v17 =>
      gI h a13 [12] 3 fun v18 =>
      nn v12 fun a19 =>
      hI (c_S_whyNot h a19 v15 v16 v17 v18) noX fun v22 h21 =>
      if v22 = 0 then
        gQ h21 this [0] 7 fun v23 =>
        gI h21 a13 [12] 0 fun v24 =>
        gI h21 a13 [12] 1 fun v25 =>
        gI h21 a13 [12] 2 fun v26 =>
        gI h21 a13 [12] 3 fun v27 =>
        nn v23 fun a28 =>
        hV (c_S_does h21 a28 v24 v25 v26 v27) noX fun h30 =>
        r68 h30 this x1 x2 x3 v22 (x5 + (1 : Int32)) (x6 + (1 : Int32))
      else
        gI h21 a13 [12] 0 fun v31 =>
        nm (v22 + ((10 : Int32) * v31)) fun y32 =>
        r68 h21 this x1 x2 x6 y32 x5 (x6 + (1 : Int32))
    else
      c_B_book_j186 h this x1 x2 x3 x4 x5
def c_B_book (h : PH) (this : Nat) (x1 : Int32) : Option RH :=
  grd h this [0] (
  hI (c_B_isIn h x1 (0 : Int32) (1 : Int32)) noX fun v2 h1 =>
  if v2 = 0 then
    rI (-1000 : Int32) h1
  else
    hV (c_B_consume h1 this) noX fun h3 =>
    pI h3 this [0] 11 (0 : Int32) fun h4 =>
    gQ h4 this [0] 10 fun v5 =>
    nn v5 fun a6 =>
    hV (c_DB_read h4 a6) (fun q9 h10 => if q9.2 = 0 then nm q9.1 fun q9 =>
        gI h10 q9 [1] 6 fun v11 =>
        pI h10 this [0] 11 v11 fun h12 =>
        gI h12 q9 [1] 7 fun v13 =>
        rI ((-2 : Int32) - v13) h12
      else none) fun h8 =>
      gQ h8 this [0] 7 fun v14 =>
      nn v14 fun a15 =>
      hQ (c_S_pack h8 a15) noX fun v18 h17 =>
      itr (c_B_book_l68) (fun _ _ _ _ _ _ _ _ => none) FU h17 this x1 v18 (-1 : Int32) (0 : Int32) (0 : Int32) (0 : Int32))
set_option maxHeartbeats 4000000 in
theorem w_B_book_j186 (h : PH) (this : Nat) (x1 : Int32) (x2 : Option Nat) (x3 : Int32) (x4 : Int32) (x5 : Int32) : Sim Y_B_book h 186 [(0, .ref this), (1, .int x1), (2, va_rf x2), (3, .int x3), (4, .int x4), (5, .int x5)] [] (c_B_book_j186 h this x1 x2 x3 x4 x5) := by
  unfold c_B_book_j186
  refine x_aload_nR (pc := 186) (a := this) 0 rfl rfl dX1_book_186 ?_
  refine x_getQ (pc := 187) fi_X1_126 dX1_book_187 ?_
  intro v1
  refine x_iconst (pc := 190) (v := 0) (by decide) dX1_book_190 ?_
  refine x_iload (pc := 191) 4 rfl dX1_book_191 ?_
  refine x_nn (fun a2 e3 => ?_)
  subst e3
  refine x_iast (pc := 193) dX1_book_193 ?_
  intro h4
  refine x_aload_nR (pc := 194) (a := this) 0 rfl rfl dX1_book_194 ?_
  refine x_getQ (pc := 195) fi_X1_126 dX1_book_195 ?_
  intro v5
  refine x_iconst (pc := 198) (v := 1) (by decide) dX1_book_198 ?_
  refine x_iload (pc := 199) 5 rfl dX1_book_199 ?_
  refine x_nn (fun a6 e7 => ?_)
  subst e7
  refine x_iast (pc := 201) dX1_book_201 ?_
  intro h8
  refine x_aload_nR (pc := 202) (a := this) 0 rfl rfl dX1_book_202 ?_
  refine x_getQ (pc := 203) fi_X1_126 dX1_book_203 ?_
  intro v9
  refine x_iconst (pc := 206) (v := 2) (by decide) dX1_book_206 ?_
  refine x_aload_nR (pc := 207) (a := this) 0 rfl rfl dX1_book_207 ?_
  refine x_getQ (pc := 208) fi_X1_85 dX1_book_208 ?_
  intro v10
  refine x_nn (fun a11 e12 => ?_)
  subst e12
  refine x_callV (pc := 211) (As := []) (rest := [.int (2 : Int32), va_rf v9]) (lev' := 2) si_X1_375 (m_S_bits h8 a11) (fun z e => grd1 e) rfl rfl (by decide) (cat4 (Nat.le_of_ble_eq_true rfl)) dX1_book_211 (kI (fun v14 h13 => ?_)) xNo
  refine x_nn (fun a15 e16 => ?_)
  subst e16
  refine x_iast (pc := 214) dX1_book_214 ?_
  intro h17
  refine x_aload_nR (pc := 215) (a := this) 0 rfl rfl dX1_book_215 ?_
  refine x_getQ (pc := 216) fi_X1_126 dX1_book_216 ?_
  intro v18
  refine x_iconst (pc := 219) (v := 3) (by decide) dX1_book_219 ?_
  refine x_aload_nR (pc := 220) (a := this) 0 rfl rfl dX1_book_220 ?_
  refine x_getQ (pc := 221) fi_X1_85 dX1_book_221 ?_
  intro v19
  refine x_nn (fun a20 e21 => ?_)
  subst e21
  refine x_callV (pc := 224) (As := []) (rest := [.int (3 : Int32), va_rf v18]) (lev' := 2) si_X1_329 (m_S_typed h17 a20) (fun z e => grd1 e) rfl rfl (by decide) (cat4 (Nat.le_of_ble_eq_true rfl)) dX1_book_224 (kI (fun v23 h22 => ?_)) xNo
  refine x_nn (fun a24 e25 => ?_)
  subst e25
  refine x_iast (pc := 227) dX1_book_227 ?_
  intro h26
  refine x_aload_nR (pc := 228) (a := this) 0 rfl rfl dX1_book_228 ?_
  refine x_iconst (pc := 229) (v := 1) (by decide) dX1_book_229 ?_
  refine x_pZ (pc := 230) fi_X1_378 (fun z => absurd z (by decide)) dX1_book_230 ?_
  intro h27
  refine x_iload_n (pc := 233) 1 rfl rfl dX1_book_233 ?_
  refine x_if_ne (pc := 234) 248 (by decide) dX1_book_234 ?_ ?_
  · refine x_iload (pc := 248) 5 rfl dX1_book_248 ?_
    refine x_if_le (pc := 250) 258 (by decide) dX1_book_250 ?_ ?_
    · refine x_iload_n (pc := 258) 3 rfl rfl dX1_book_258 ?_
      exact x_iret (pc := 259) dX1_book_259
    · refine x_aload_nR (pc := 253) (a := this) 0 rfl rfl dX1_book_253 ?_
      refine x_aload_n (pc := 254) (r := x2) 2 rfl rfl dX1_book_254 ?_
      refine x_nn (fun a28 e29 => ?_)
      subst e29
      refine x_callV (pc := 255) (As := [.ref a28]) (rest := []) (lev' := 9) si_X1_308 (m_B_keep h27 this a28) (fun z e => grd1 e) rfl rfl (by decide) (cat4 (Nat.le_of_ble_eq_true rfl)) dX1_book_255 (kV (fun h30 => ?_)) xNo
      refine x_iload_n (pc := 258) 3 rfl rfl dX1_book_258 ?_
      exact x_iret (pc := 259) dX1_book_259
  · refine x_aload_nR (pc := 237) (a := this) 0 rfl rfl dX1_book_237 ?_
    refine x_getQ (pc := 238) fi_X1_85 dX1_book_238 ?_
    intro v31
    refine x_aload_n (pc := 241) (r := x2) 2 rfl rfl dX1_book_241 ?_
    refine x_nn (fun a32 e33 => ?_)
    subst e33
    refine x_nn (fun a34 e35 => ?_)
    subst e35
    refine x_callV (pc := 242) (As := [.ref a32]) (rest := []) (lev' := 5) si_X1_296 (m_S_unpack h27 a34 a32) (fun z e => grd1 e) rfl rfl (by decide) (cat4 (Nat.le_of_ble_eq_true rfl)) dX1_book_242 (kV (fun h36 => ?_)) xNo
    refine x_goto (pc := 245) 258 (by decide) dX1_book_245 ?_
    refine x_iload_n (pc := 258) 3 rfl rfl dX1_book_258 ?_
    exact x_iret (pc := 259) dX1_book_259
set_option maxHeartbeats 4000000 in
theorem w_B_book_l68 (r68 : PH → Nat → Int32 → Option Nat → Int32 → Int32 → Int32 → Int32 → Option RH) (hr68 : ∀ (h : PH) (this : Nat) (x1 : Int32) (x2 : Option Nat) (x3 : Int32) (x4 : Int32) (x5 : Int32) (x6 : Int32), Sim Y_B_book h 68 [(0, .ref this), (1, .int x1), (2, va_rf x2), (3, .int x3), (4, .int x4), (5, .int x5), (6, .int x6)] [] (r68 h this x1 x2 x3 x4 x5 x6)) (h : PH) (this : Nat) (x1 : Int32) (x2 : Option Nat) (x3 : Int32) (x4 : Int32) (x5 : Int32) (x6 : Int32) : Sim Y_B_book h 68 [(0, .ref this), (1, .int x1), (2, va_rf x2), (3, .int x3), (4, .int x4), (5, .int x5), (6, .int x6)] [] (c_B_book_l68 r68 h this x1 x2 x3 x4 x5 x6) := by
  unfold c_B_book_l68
  refine x_iload (pc := 68) 6 rfl dX1_book_68 ?_
  refine x_aload_nR (pc := 70) (a := this) 0 rfl rfl dX1_book_70 ?_
  refine x_getQ (pc := 71) fi_X1_104 dX1_book_71 ?_
  intro v1
  refine x_nn (fun a2 e3 => ?_)
  subst e3
  refine x_getI (pc := 74) fi_X1_355 dX1_book_74 ?_
  intro v4
  refine x_icmp_ge (pc := 77) 186 (by decide) dX1_book_77 ?_ ?_
  · refine Sim.lv [0, 1, 2, 3, 4, 5] rfl ?_
    exact w_B_book_j186 h this x1 x2 x3 x4 x5
  · refine x_iload_n (pc := 80) 3 rfl rfl dX1_book_80 ?_
    refine x_iconst (pc := 81) (v := (-1)) (by decide) dX1_book_81 ?_
    refine x_icmp_ne (pc := 82) 186 (by decide) dX1_book_82 ?_ ?_
    · refine Sim.lv [0, 1, 2, 3, 4, 5] rfl ?_
      exact w_B_book_j186 h this x1 x2 x3 x4 x5
    · refine x_aload_nR (pc := 85) (a := this) 0 rfl rfl dX1_book_85 ?_
      refine x_getQ (pc := 86) fi_X1_104 dX1_book_86 ?_
      intro v5
      refine x_nn (fun a6 e7 => ?_)
      subst e7
      refine x_getQ (pc := 89) fi_X1_358 dX1_book_89 ?_
      intro v8
      refine x_iload (pc := 92) 6 rfl dX1_book_92 ?_
      refine x_nn (fun a9 e10 => ?_)
      subst e10
      refine x_aald (pc := 94) dX1_book_94 ?_
      intro v11
      refine x_astore (pc := 95) (r := v11) (lv' := [(7, va_rf v11), (0, .ref this), (1, .int x1), (2, va_rf x2), (3, .int x3), (4, .int x4), (5, .int x5), (6, .int x6)]) (by decide) rfl dX1_book_95 ?_
      refine x_aload_nR (pc := 97) (a := this) 1 rfl rfl dX1_book_97 ?_
      refine x_getQ (pc := 98) fi_X1_85 dX1_book_98 ?_
      intro v12
      refine x_aload (pc := 101) (r := v11) 0 rfl dX1_book_101 ?_
      refine x_nn (fun a13 e14 => ?_)
      subst e14
      refine x_getI (pc := 103) fi_X1_361 dX1_book_103 ?_
      intro v15
      refine x_aloadR (pc := 106) (a := a13) 0 rfl dX1_book_106 ?_
      refine x_getI (pc := 108) fi_X1_366 dX1_book_108 ?_
      intro v16
      refine x_aloadR (pc := 111) (a := a13) 0 rfl dX1_book_111 ?_
      refine x_getI (pc := 113) fi_X1_369 dX1_book_113 ?_
      intro v17
      refine x_aloadR (pc := 116) (a := a13) 0 rfl dX1_book_116 ?_
      refine x_getI (pc := 118) fi_X1_372 dX1_book_118 ?_
      intro v18
      refine x_nn (fun a19 e20 => ?_)
      subst e20
      refine x_callV (pc := 121) (As := [.int v15, .int v16, .int v17, .int v18]) (rest := []) (lev' := 4) si_X1_300 (m_S_whyNot h a19 v15 v16 v17 v18) (fun z e => grd1 e) rfl rfl (by decide) (cat4 (Nat.le_of_ble_eq_true rfl)) dX1_book_121 (kI (fun v22 h21 => ?_)) xNo
      refine x_istore (pc := 124) (lv' := [(4, .int v22), (7, .ref a13), (0, .ref this), (1, .int x1), (2, va_rf x2), (3, .int x3), (5, .int x5), (6, .int x6)]) (by decide) rfl dX1_book_124 ?_
      refine x_iload (pc := 126) 0 rfl dX1_book_126 ?_
      refine x_if_eq (pc := 128) 150 (by decide) dX1_book_128 ?_ ?_
      · refine x_aload_nR (pc := 150) (a := this) 2 rfl rfl dX1_book_150 ?_
        refine x_getQ (pc := 151) fi_X1_85 dX1_book_151 ?_
        intro v23
        refine x_aloadR (pc := 154) (a := a13) 1 rfl dX1_book_154 ?_
        refine x_getI (pc := 156) fi_X1_361 dX1_book_156 ?_
        intro v24
        refine x_aloadR (pc := 159) (a := a13) 1 rfl dX1_book_159 ?_
        refine x_getI (pc := 161) fi_X1_366 dX1_book_161 ?_
        intro v25
        refine x_aloadR (pc := 164) (a := a13) 1 rfl dX1_book_164 ?_
        refine x_getI (pc := 166) fi_X1_369 dX1_book_166 ?_
        intro v26
        refine x_aloadR (pc := 169) (a := a13) 1 rfl dX1_book_169 ?_
        refine x_getI (pc := 171) fi_X1_372 dX1_book_171 ?_
        intro v27
        refine x_nn (fun a28 e29 => ?_)
        subst e29
        refine x_callV (pc := 174) (As := [.int v24, .int v25, .int v26, .int v27]) (rest := []) (lev' := 23) si_X1_311 (m_S_does h21 a28 v24 v25 v26 v27) (fun z e => grd1 e) rfl rfl (by decide) (cat4 (Nat.le_of_ble_eq_true rfl)) dX1_book_174 (kV (fun h30 => ?_)) xNo
        refine x_iinc (pc := 177) (v := (1 : Int32)) (lv' := [(5, .int (x5 + (1 : Int32))), (4, .int v22), (7, .ref a13), (0, .ref this), (1, .int x1), (2, va_rf x2), (3, .int x3), (6, .int x6)]) 6 rfl (by decide) (by decide) rfl dX1_book_177 ?_
        refine x_iinc (pc := 180) (v := (1 : Int32)) (lv' := [(6, .int (x6 + (1 : Int32))), (5, .int (x5 + (1 : Int32))), (4, .int v22), (7, .ref a13), (0, .ref this), (1, .int x1), (2, va_rf x2), (3, .int x3)]) 7 rfl (by decide) (by decide) rfl dX1_book_180 ?_
        refine x_goto (pc := 183) 68 (by decide) dX1_book_183 ?_
        refine Sim.lv [4, 5, 6, 7, 2, 1, 0] rfl ?_
        exact hr68 h30 this x1 x2 x3 v22 (x5 + (1 : Int32)) (x6 + (1 : Int32))
      · refine x_iload (pc := 131) 7 rfl dX1_book_131 ?_
        refine x_istore_n (pc := 133) (lv' := [(3, .int x6), (4, .int v22), (7, .ref a13), (0, .ref this), (1, .int x1), (2, va_rf x2), (5, .int x5), (6, .int x6)]) (i := 3) rfl (by decide) (by simp [rf_cat]) dX1_book_133 ?_
        refine x_iload (pc := 134) 1 rfl dX1_book_134 ?_
        refine x_bipush (pc := 136) (v := 10) (by decide) dX1_book_136 ?_
        refine x_aloadR (pc := 138) (a := a13) 2 rfl dX1_book_138 ?_
        refine x_getI (pc := 140) fi_X1_361 dX1_book_140 ?_
        intro v31
        refine x_imul (pc := 143) dX1_book_143 ?_
        refine x_iadd (pc := 144) dX1_book_144 ?_
        refine x_nmI (fun y32 => ?_)
        refine x_istore (pc := 145) (lv' := [(4, .int y32), (3, .int x6), (7, .ref a13), (0, .ref this), (1, .int x1), (2, va_rf x2), (5, .int x5), (6, .int x6)]) (by decide) rfl dX1_book_145 ?_
        refine x_goto (pc := 147) 180 (by decide) dX1_book_147 ?_
        refine x_iinc (pc := 180) (v := (1 : Int32)) (lv' := [(6, .int (x6 + (1 : Int32))), (4, .int y32), (3, .int x6), (7, .ref a13), (0, .ref this), (1, .int x1), (2, va_rf x2), (5, .int x5)]) 7 rfl (by decide) (by decide) rfl dX1_book_180 ?_
        refine x_goto (pc := 183) 68 (by decide) dX1_book_183 ?_
        refine Sim.lv [4, 5, 6, 2, 1, 7, 0] rfl ?_
        exact hr68 h21 this x1 x2 x6 y32 x5 (x6 + (1 : Int32))
set_option maxHeartbeats 4000000 in
theorem v_B_book_l68 : ∀ (n : Nat) (h : PH) (this : Nat) (x1 : Int32) (x2 : Option Nat) (x3 : Int32) (x4 : Int32) (x5 : Int32) (x6 : Int32), Sim Y_B_book h 68 [(0, .ref this), (1, .int x1), (2, va_rf x2), (3, .int x3), (4, .int x4), (5, .int x5), (6, .int x6)] [] (itr (c_B_book_l68) (fun _ _ _ _ _ _ _ _ => none) n h this x1 x2 x3 x4 x5 x6)
  | 0, h, this, x1, x2, x3, x4, x5, x6 => Sim.none
  | n + 1, h, this, x1, x2, x3, x4, x5, x6 => w_B_book_l68 _ (v_B_book_l68 n) h this x1 x2 x3 x4 x5 x6
set_option maxHeartbeats 4000000 in
theorem m_B_book (h : PH) (this : Nat) (x1 : Int32) : MM yX1_book (wsW_ yX1_book cX1_book 8 (some .int) [(22, 29, 32, 13)]) 24 [.ref this, .int x1] h (c_B_book h this x1) := by
  refine MM.ofH (by decide) rfl (Nat.le_of_ble_eq_true rfl) (own := RX1) (cc := cX1_book) (maxL := 8) (lev := 24) (rt := (some .int)) (hh := [(22, 29, 32, 13)]) ?_
  show Sim Y_B_book h 0 [(0, .ref this), (1, .int x1)] [] _
  unfold c_B_book
  refine x_grd ?_
  refine x_iload_n (pc := 0) 1 rfl rfl dX1_book_0 ?_
  refine x_iconst (pc := 1) (v := 0) (by decide) dX1_book_1 ?_
  refine x_iconst (pc := 2) (v := 1) (by decide) dX1_book_2 ?_
  refine x_callS (pc := 3) (As := [.int x1, .int (0 : Int32), .int (1 : Int32)]) (rest := []) (lev' := 1) si_X1_182 (m_B_isIn h x1 (0 : Int32) (1 : Int32)) rfl rfl (by decide) (cat4 (Nat.le_of_ble_eq_true rfl)) dX1_book_3 (kI (fun v2 h1 => ?_)) xNo
  refine x_if_ne (pc := 6) 13 (by decide) dX1_book_6 ?_ ?_
  · refine x_aload_nR (pc := 13) (a := this) 0 rfl rfl dX1_book_13 ?_
    refine x_callV (pc := 14) (As := []) (rest := []) (lev' := 1) si_X1_155 (m_B_consume h1 this) (fun z e => grd1 e) rfl rfl (by decide) (cat4 (Nat.le_of_ble_eq_true rfl)) dX1_book_14 (kV (fun h3 => ?_)) xNo
    refine x_aload_nR (pc := 17) (a := this) 0 rfl rfl dX1_book_17 ?_
    refine x_iconst (pc := 18) (v := 0) (by decide) dX1_book_18 ?_
    refine x_pI (pc := 19) fi_X1_158 (fun z => absurd z (by decide)) dX1_book_19 ?_
    intro h4
    refine x_aload_nR (pc := 22) (a := this) 0 rfl rfl dX1_book_22 ?_
    refine x_getQ (pc := 23) fi_X1_104 dX1_book_23 ?_
    intro v5
    refine x_nn (fun a6 e7 => ?_)
    subst e7
    refine x_callV (pc := 26) (As := []) (rest := []) (lev' := 15) si_X1_353 (m_DB_read h4 a6) (fun z e => grd1 e) rfl rfl (by decide) (cat4 (Nat.le_of_ble_eq_true rfl)) dX1_book_26 (kV (fun h8 => ?_)) (xCatch (pc := 26) (hh := [(22, 29, 32, 13)]) (k0 := 0) (E := fun q9 h10 => if q9.2 = 0 then nm q9.1 fun q9 =>
        gI h10 q9 [1] 6 fun v11 =>
        pI h10 this [0] 11 v11 fun h12 =>
        gI h12 q9 [1] 7 fun v13 =>
        rI ((-2 : Int32) - v13) h12
      else none) rfl (by decide) (by decide) rfl q153 q155 (fun q k h9 e => if_neg e) (fun q9 h10 => ?_))
    · refine x_goto (pc := 29) 49 (by decide) dX1_book_29 ?_
      refine x_aload_nR (pc := 49) (a := this) 0 rfl rfl dX1_book_49 ?_
      refine x_getQ (pc := 50) fi_X1_85 dX1_book_50 ?_
      intro v14
      refine x_nn (fun a15 e16 => ?_)
      subst e16
      refine x_callV (pc := 53) (As := []) (rest := []) (lev' := 18) si_X1_304 (m_S_pack h8 a15) (fun z e => grd1 e) rfl rfl (by decide) (cat4 (Nat.le_of_ble_eq_true rfl)) dX1_book_53 (kQ (fun v18 h17 => ?_)) xNo
      refine x_astore_n (pc := 56) (r := v18) (lv' := [(2, va_rf v18), (0, .ref this), (1, .int x1)]) rfl (by decide) rfl dX1_book_56 ?_
      refine x_iconst (pc := 57) (v := (-1)) (by decide) dX1_book_57 ?_
      refine x_istore_n (pc := 58) (lv' := [(3, .int (-1 : Int32)), (2, va_rf v18), (0, .ref this), (1, .int x1)]) (i := 3) rfl (by decide) (by simp [rf_cat]) dX1_book_58 ?_
      refine x_iconst (pc := 59) (v := 0) (by decide) dX1_book_59 ?_
      refine x_istore (pc := 60) (lv' := [(4, .int (0 : Int32)), (3, .int (-1 : Int32)), (2, va_rf v18), (0, .ref this), (1, .int x1)]) (by decide) rfl dX1_book_60 ?_
      refine x_iconst (pc := 62) (v := 0) (by decide) dX1_book_62 ?_
      refine x_istore (pc := 63) (lv' := [(5, .int (0 : Int32)), (4, .int (0 : Int32)), (3, .int (-1 : Int32)), (2, va_rf v18), (0, .ref this), (1, .int x1)]) (by decide) rfl dX1_book_63 ?_
      refine x_iconst (pc := 65) (v := 0) (by decide) dX1_book_65 ?_
      refine x_istore (pc := 66) (lv' := [(6, .int (0 : Int32)), (5, .int (0 : Int32)), (4, .int (0 : Int32)), (3, .int (-1 : Int32)), (2, va_rf v18), (0, .ref this), (1, .int x1)]) (by decide) rfl dX1_book_66 ?_
      refine Sim.lv [5, 6, 4, 3, 2, 1, 0] rfl ?_
      exact v_B_book_l68 FU h17 this x1 v18 (-1 : Int32) (0 : Int32) (0 : Int32) (0 : Int32)
    · show Sim _ _ _ _ _ (if _ then nm _ _ else none)
      rw [if_pos rfl]
      show Sim _ _ _ _ _ _
      refine x_astore_nR (pc := 32) (a := q9) (lv' := [(2, .ref q9), (0, .ref this), (1, .int x1)]) rfl (by decide) rfl dX1_book_32 ?_
      refine x_aload_nR (pc := 33) (a := this) 1 rfl rfl dX1_book_33 ?_
      refine x_aload_nR (pc := 34) (a := q9) 0 rfl rfl dX1_book_34 ?_
      refine x_getI (pc := 35) fi_X1_176 dX1_book_35 ?_
      intro v11
      refine x_pI (pc := 38) fi_X1_158 (fun z => absurd z (by decide)) dX1_book_38 ?_
      intro h12
      refine x_bipush (pc := 41) (v := (-2)) (by decide) dX1_book_41 ?_
      refine x_aload_nR (pc := 43) (a := q9) 0 rfl rfl dX1_book_43 ?_
      refine x_getI (pc := 44) fi_X1_179 dX1_book_44 ?_
      intro v13
      refine x_isub (pc := 47) dX1_book_47 ?_
      exact x_iret (pc := 48) dX1_book_48
  · refine x_sipush (pc := 9) (v := (-1000)) (by decide) dX1_book_9 ?_
    exact x_iret (pc := 12) dX1_book_12
abbrev Y_B_told : Yx := (RX1, cX1_told, 2, 2, (some .int), [], false)
def c_B_told (h : PH) (this : Nat) (x1 : Int32) : Option RH :=
  grd h this [0] (
  gI h this [0] 17 fun v1 =>
  if v1 = 0 then
    rI (-1 : Int32) h
  else
    hI (c_B_isIn h x1 (0 : Int32) (3 : Int32)) noX fun v3 h2 =>
    if v3 = 0 then
      rI (-1 : Int32) h2
    else
      gQ h2 this [0] 16 fun v4 =>
      nn v4 fun a5 =>
      ldI h2 a5 0 x1 fun v7 =>
      rI v7 h2)
set_option maxHeartbeats 4000000 in
theorem m_B_told (h : PH) (this : Nat) (x1 : Int32) : MM yX1_told (ws_ yX1_told cX1_told 2 (some .int)) 2 [.ref this, .int x1] h (c_B_told h this x1) := by
  refine MM.of (by decide) rfl (by decide) (Nat.le_of_ble_eq_true rfl) (own := RX1) (cc := cX1_told) (maxL := 2) (lev := 2) (rt := (some .int)) (ini := false) ?_
  show Sim Y_B_told h 0 [(0, .ref this), (1, .int x1)] [] _
  unfold c_B_told
  refine x_grd ?_
  refine x_aload_nR (pc := 0) (a := this) 0 rfl rfl dX1_told_0 ?_
  refine x_getI (pc := 1) fi_X1_378 dX1_told_1 ?_
  intro v1
  refine x_if_eq (pc := 4) 25 (by decide) dX1_told_4 ?_ ?_
  · refine x_iconst (pc := 25) (v := (-1)) (by decide) dX1_told_25 ?_
    exact x_iret (pc := 26) dX1_told_26
  · refine x_iload_n (pc := 7) 1 rfl rfl dX1_told_7 ?_
    refine x_iconst (pc := 8) (v := 0) (by decide) dX1_told_8 ?_
    refine x_iconst (pc := 9) (v := 3) (by decide) dX1_told_9 ?_
    refine x_callS (pc := 10) (As := [.int x1, .int (0 : Int32), .int (3 : Int32)]) (rest := []) (lev' := 1) si_X1_182 (m_B_isIn h x1 (0 : Int32) (3 : Int32)) rfl rfl (by decide) (cat4 (Nat.le_of_ble_eq_true rfl)) dX1_told_10 (kI (fun v3 h2 => ?_)) xNo
    refine x_if_eq (pc := 13) 25 (by decide) dX1_told_13 ?_ ?_
    · refine x_iconst (pc := 25) (v := (-1)) (by decide) dX1_told_25 ?_
      exact x_iret (pc := 26) dX1_told_26
    · refine x_aload_nR (pc := 16) (a := this) 0 rfl rfl dX1_told_16 ?_
      refine x_getQ (pc := 17) fi_X1_126 dX1_told_17 ?_
      intro v4
      refine x_iload_n (pc := 20) 1 rfl rfl dX1_told_20 ?_
      refine x_nn (fun a5 e6 => ?_)
      subst e6
      refine x_iald (pc := 21) dX1_told_21 ?_
      intro v7
      refine x_goto (pc := 22) 26 (by decide) dX1_told_22 ?_
      exact x_iret (pc := 26) dX1_told_26
theorem si_X1_382 : SiV RX1 382 7 yX9_read cX9_read 2 (some (.object "BitRopes$Cond")) 0 := ⟨_, _, _, ci_7.1, by decide, lw_V q1380 q1381 q1382 q120 q1383, ⟨rfl, by decide, by decide, by decide +kernel⟩, by decide⟩
theorem fi_X1_385 : FI RX1 385 [7] 10 .int false true := (fi_c ci_7 (by decide) rfl rfl (Or.inr ⟨_, q472⟩) (Or.inl rfl) (fun h => absurd h (by decide)) fi_n)
abbrev Y_B_sentence : Yx := (RX1, cX1_sentence, 2, 80, (some .int), [(9, 27, 28, 13)], false)
def c_B_sentence (h : PH) (this : Nat) : Option RH :=
  grd h this [0] (
  hV (c_B_consume h this) noX fun h1 =>
  pI h1 this [0] 11 (0 : Int32) fun h2 =>
  gQ h2 this [0] 18 fun v3 =>
  nn v3 fun a4 =>
  hQ (c_DS_read h2 a4) (fun q9 h9 => if q9.2 = 0 then nm q9.1 fun q8 =>
      gI h9 q8 [1] 6 fun v10 =>
      pI h9 this [0] 11 v10 fun h11 =>
      gI h11 q8 [1] 7 fun v12 =>
      rI ((-1 : Int32) - v12) h11
    else none) fun v7 h6 =>
    pQ h6 this [0] 19 v7 fun h13 =>
    gQ h13 this [0] 18 fun v14 =>
    nn v14 fun a15 =>
    gI h13 a15 [7] 10 fun v17 =>
    rI v17 h13)
set_option maxHeartbeats 4000000 in
theorem m_B_sentence (h : PH) (this : Nat) : MM yX1_sentence (wsW_ yX1_sentence cX1_sentence 2 (some .int) [(9, 27, 28, 13)]) 80 [.ref this] h (c_B_sentence h this) := by
  refine MM.ofH (by decide) rfl (Nat.le_of_ble_eq_true rfl) (own := RX1) (cc := cX1_sentence) (maxL := 2) (lev := 80) (rt := (some .int)) (hh := [(9, 27, 28, 13)]) ?_
  show Sim Y_B_sentence h 0 [(0, .ref this)] [] _
  unfold c_B_sentence
  refine x_grd ?_
  refine x_aload_nR (pc := 0) (a := this) 0 rfl rfl dX1_sentence_0 ?_
  refine x_callV (pc := 1) (As := []) (rest := []) (lev' := 1) si_X1_155 (m_B_consume h this) (fun z e => grd1 e) rfl rfl (by decide) (cat4 (Nat.le_of_ble_eq_true rfl)) dX1_sentence_1 (kV (fun h1 => ?_)) xNo
  refine x_aload_nR (pc := 4) (a := this) 0 rfl rfl dX1_sentence_4 ?_
  refine x_iconst (pc := 5) (v := 0) (by decide) dX1_sentence_5 ?_
  refine x_pI (pc := 6) fi_X1_158 (fun z => absurd z (by decide)) dX1_sentence_6 ?_
  intro h2
  refine x_aload_nR (pc := 9) (a := this) 0 rfl rfl dX1_sentence_9 ?_
  refine x_aload_nR (pc := 10) (a := this) 0 rfl rfl dX1_sentence_10 ?_
  refine x_getQ (pc := 11) fi_X1_132 dX1_sentence_11 ?_
  intro v3
  refine x_nn (fun a4 e5 => ?_)
  subst e5
  refine x_callV (pc := 14) (As := []) (rest := [.ref this]) (lev' := 79) si_X1_382 (m_DS_read h2 a4) (fun z e => grd1 e) rfl rfl (by decide) (cat4 (Nat.le_of_ble_eq_true rfl)) dX1_sentence_14 (kQ (fun v7 h6 => ?_)) (xCatch (pc := 14) (hh := [(9, 27, 28, 13)]) (k0 := 0) (E := fun q9 h9 => if q9.2 = 0 then nm q9.1 fun q8 =>
      gI h9 q8 [1] 6 fun v10 =>
      pI h9 this [0] 11 v10 fun h11 =>
      gI h11 q8 [1] 7 fun v12 =>
      rI ((-1 : Int32) - v12) h11
    else none) rfl (by decide) (by decide) rfl q153 q155 (fun q k h9 e => if_neg e) (fun q8 h9 => ?_))
  · refine x_pQ (pc := 17) (v := v7) fi_X1_172 (fun z => absurd z (by decide)) dX1_sentence_17 ?_
    intro h13
    refine x_aload_nR (pc := 20) (a := this) 0 rfl rfl dX1_sentence_20 ?_
    refine x_getQ (pc := 21) fi_X1_132 dX1_sentence_21 ?_
    intro v14
    refine x_nn (fun a15 e16 => ?_)
    subst e16
    refine x_getI (pc := 24) fi_X1_385 dX1_sentence_24 ?_
    intro v17
    exact x_iret (pc := 27) dX1_sentence_27
  · show Sim _ _ _ _ _ (if _ then nm _ _ else none)
    rw [if_pos rfl]
    show Sim _ _ _ _ _ _
    refine x_astore_nR (pc := 28) (a := q8) (lv' := [(1, .ref q8), (0, .ref this)]) rfl (by decide) rfl dX1_sentence_28 ?_
    refine x_aload_nR (pc := 29) (a := this) 1 rfl rfl dX1_sentence_29 ?_
    refine x_aload_nR (pc := 30) (a := q8) 0 rfl rfl dX1_sentence_30 ?_
    refine x_getI (pc := 31) fi_X1_176 dX1_sentence_31 ?_
    intro v10
    refine x_pI (pc := 34) fi_X1_158 (fun z => absurd z (by decide)) dX1_sentence_34 ?_
    intro h11
    refine x_iconst (pc := 37) (v := (-1)) (by decide) dX1_sentence_37 ?_
    refine x_aload_nR (pc := 38) (a := q8) 0 rfl rfl dX1_sentence_38 ?_
    refine x_getI (pc := 39) fi_X1_179 dX1_sentence_39 ?_
    intro v12
    refine x_isub (pc := 42) dX1_sentence_42 ?_
    exact x_iret (pc := 43) dX1_sentence_43
theorem si_X1_388_0 : SiF RX1 388 13 yX16_is cX16_is 3 := ⟨_, _, _, ci_13.1, by decide, (.head _), lw_F q1495 q1536 q1538 q139 q1540, by decide⟩
theorem si_X1_388_1 : SiF RX1 388 14 yX17_is cX17_is 5 := ⟨_, _, _, ci_14.1, by decide, (.tail _ (.head _)), lw_F q1495 q1526 q1528 q140 q1530, by decide⟩
theorem si_X1_388_2 : SiF RX1 388 15 yX18_is cX18_is 5 := ⟨_, _, _, ci_15.1, by decide, (.tail _ (.tail _ (.head _))), lw_F q1495 q1515 q1517 q141 q1519, by decide⟩
theorem si_X1_388_3 : SiF RX1 388 16 yX19_is cX19_is 3 := ⟨_, _, _, ci_16.1, by decide, (.tail _ (.tail _ (.tail _ (.head _)))), lw_F q1495 q1507 q1509 q142 q1511, by decide⟩
theorem si_X1_388_4 : SiF RX1 388 17 yX20_is cX20_is 3 := ⟨_, _, _, ci_17.1, by decide, (.tail _ (.tail _ (.tail _ (.tail _ (.head _))))), lw_F q1495 q1499 q1501 q143 q1503, by decide⟩
abbrev Y_B_said : Yx := (RX1, cX1_said, 4, 181, (some .int), [], false)
def c_B_said_l18 (r18 : PH → Nat → Int32 → Int32 → Int32 → Option RH) (h : PH) (this : Nat) (x1 : Int32) (x2 : Int32) (x3 : Int32) : Option RH :=
  gQ h this [0] 6 fun v1 =>
  nn v1 fun a2 =>
  gI h a2 [2] 1 fun v4 =>
  if v4 ≤ x3 then
    if x1 = (-1 : Int32) then
      rI x2 h
    else
      rI (-1 : Int32) h
  else
    gQ h this [0] 19 fun v5 =>
    nn v5 fun a6 =>
    hI (dspC h a6 fun i => (c_g_cond 64) i h a6 this x3) noX fun v8 h9 =>
    if v8 = 0 then
      r18 h9 this x1 x2 (x3 + (1 : Int32))
    else
      if x2 = x1 then
        rI x3 h9
      else
        r18 h9 this x1 (x2 + (1 : Int32)) (x3 + (1 : Int32))
def c_B_said (h : PH) (this : Nat) (x1 : Int32) : Option RH :=
  grd h this [0] (
  gQ h this [0] 19 fun v1 =>
  if v1 = none then
    rI (-1 : Int32) h
  else
    if (-1 : Int32) ≤ x1 then
      itr (c_B_said_l18) (fun _ _ _ _ _ => none) FU h this x1 (0 : Int32) (0 : Int32)
    else
      rI (-1 : Int32) h)
set_option maxHeartbeats 4000000 in
theorem w_B_said_l18 (r18 : PH → Nat → Int32 → Int32 → Int32 → Option RH) (hr18 : ∀ (h : PH) (this : Nat) (x1 : Int32) (x2 : Int32) (x3 : Int32), Sim Y_B_said h 18 [(0, .ref this), (1, .int x1), (2, .int x2), (3, .int x3)] [] (r18 h this x1 x2 x3)) (h : PH) (this : Nat) (x1 : Int32) (x2 : Int32) (x3 : Int32) : Sim Y_B_said h 18 [(0, .ref this), (1, .int x1), (2, .int x2), (3, .int x3)] [] (c_B_said_l18 r18 h this x1 x2 x3) := by
  unfold c_B_said_l18
  refine x_iload_n (pc := 18) 3 rfl rfl dX1_said_18 ?_
  refine x_aload_nR (pc := 19) (a := this) 0 rfl rfl dX1_said_19 ?_
  refine x_getQ (pc := 20) fi_X1_78 dX1_said_20 ?_
  intro v1
  refine x_nn (fun a2 e3 => ?_)
  subst e3
  refine x_getI (pc := 23) fi_X1_165 dX1_said_23 ?_
  intro v4
  refine x_icmp_ge (pc := 26) 62 (by decide) dX1_said_26 ?_ ?_
  · refine x_iload_n (pc := 62) 1 rfl rfl dX1_said_62 ?_
    refine x_iconst (pc := 63) (v := (-1)) (by decide) dX1_said_63 ?_
    refine x_icmp_ne (pc := 64) 71 (by decide) dX1_said_64 ?_ ?_
    · refine x_iconst (pc := 71) (v := (-1)) (by decide) dX1_said_71 ?_
      exact x_iret (pc := 72) dX1_said_72
    · refine x_iload_n (pc := 67) 2 rfl rfl dX1_said_67 ?_
      refine x_goto (pc := 68) 72 (by decide) dX1_said_68 ?_
      exact x_iret (pc := 72) dX1_said_72
  · refine x_aload_nR (pc := 29) (a := this) 0 rfl rfl dX1_said_29 ?_
    refine x_getQ (pc := 30) fi_X1_172 dX1_said_30 ?_
    intro v5
    refine x_aload_nR (pc := 33) (a := this) 0 rfl rfl dX1_said_33 ?_
    refine x_iload_n (pc := 34) 3 rfl rfl dX1_said_34 ?_
    refine x_nn (fun a6 e7 => ?_)
    subst e7
    refine x_callFC (pc := 35) (rest := []) (rg := (c_g_cond 64)) (lev' := (116 + 64)) si_X1_388_0 si_X1_388_1 si_X1_388_2 si_X1_388_3 si_X1_388_4 (m_g_cond 64) (by decide) (cat4 (Nat.le_of_ble_eq_true rfl)) dX1_said_35 (fun v8 h9 => ?_)
    refine x_if_ne (pc := 40) 46 (by decide) dX1_said_40 ?_ ?_
    · refine x_iload_n (pc := 46) 2 rfl rfl dX1_said_46 ?_
      refine x_iload_n (pc := 47) 1 rfl rfl dX1_said_47 ?_
      refine x_icmp_ne (pc := 48) 53 (by decide) dX1_said_48 ?_ ?_
      · refine x_iinc (pc := 53) (v := (1 : Int32)) (lv' := [(2, .int (x2 + (1 : Int32))), (0, .ref this), (1, .int x1), (3, .int x3)]) 2 rfl (by decide) (by decide) rfl dX1_said_53 ?_
        refine x_iinc (pc := 56) (v := (1 : Int32)) (lv' := [(3, .int (x3 + (1 : Int32))), (2, .int (x2 + (1 : Int32))), (0, .ref this), (1, .int x1)]) 3 rfl (by decide) (by decide) rfl dX1_said_56 ?_
        refine x_goto (pc := 59) 18 (by decide) dX1_said_59 ?_
        refine Sim.lv [2, 3, 1, 0] rfl ?_
        exact hr18 h9 this x1 (x2 + (1 : Int32)) (x3 + (1 : Int32))
      · refine x_iload_n (pc := 51) 3 rfl rfl dX1_said_51 ?_
        exact x_iret (pc := 52) dX1_said_52
    · refine x_goto (pc := 43) 56 (by decide) dX1_said_43 ?_
      refine x_iinc (pc := 56) (v := (1 : Int32)) (lv' := [(3, .int (x3 + (1 : Int32))), (0, .ref this), (1, .int x1), (2, .int x2)]) 3 rfl (by decide) (by decide) rfl dX1_said_56 ?_
      refine x_goto (pc := 59) 18 (by decide) dX1_said_59 ?_
      refine Sim.lv [1, 2, 3, 0] rfl ?_
      exact hr18 h9 this x1 x2 (x3 + (1 : Int32))
set_option maxHeartbeats 4000000 in
theorem v_B_said_l18 : ∀ (n : Nat) (h : PH) (this : Nat) (x1 : Int32) (x2 : Int32) (x3 : Int32), Sim Y_B_said h 18 [(0, .ref this), (1, .int x1), (2, .int x2), (3, .int x3)] [] (itr (c_B_said_l18) (fun _ _ _ _ _ => none) n h this x1 x2 x3)
  | 0, h, this, x1, x2, x3 => Sim.none
  | n + 1, h, this, x1, x2, x3 => w_B_said_l18 _ (v_B_said_l18 n) h this x1 x2 x3
set_option maxHeartbeats 4000000 in
theorem m_B_said (h : PH) (this : Nat) (x1 : Int32) : MM yX1_said (ws_ yX1_said cX1_said 4 (some .int)) 181 [.ref this, .int x1] h (c_B_said h this x1) := by
  refine MM.of (by decide) rfl (by decide) (Nat.le_of_ble_eq_true rfl) (own := RX1) (cc := cX1_said) (maxL := 4) (lev := 181) (rt := (some .int)) (ini := false) ?_
  show Sim Y_B_said h 0 [(0, .ref this), (1, .int x1)] [] _
  unfold c_B_said
  refine x_grd ?_
  refine x_aload_nR (pc := 0) (a := this) 0 rfl rfl dX1_said_0 ?_
  refine x_getQ (pc := 1) fi_X1_172 dX1_said_1 ?_
  intro v1
  refine x_ifnull (pc := 4) (r := v1) 12 (by decide) dX1_said_4 ?_ ?_
  · refine x_iconst (pc := 12) (v := (-1)) (by decide) dX1_said_12 ?_
    exact x_iret (pc := 13) dX1_said_13
  · refine x_iload_n (pc := 7) 1 rfl rfl dX1_said_7 ?_
    refine x_iconst (pc := 8) (v := (-1)) (by decide) dX1_said_8 ?_
    refine x_icmp_ge (pc := 9) 14 (by decide) dX1_said_9 ?_ ?_
    · refine x_iconst (pc := 14) (v := 0) (by decide) dX1_said_14 ?_
      refine x_istore_n (pc := 15) (lv' := [(2, .int (0 : Int32)), (0, .ref this), (1, .int x1)]) rfl (by decide) rfl dX1_said_15 ?_
      refine x_iconst (pc := 16) (v := 0) (by decide) dX1_said_16 ?_
      refine x_istore_n (pc := 17) (lv' := [(3, .int (0 : Int32)), (2, .int (0 : Int32)), (0, .ref this), (1, .int x1)]) rfl (by decide) rfl dX1_said_17 ?_
      refine Sim.lv [2, 3, 1, 0] rfl ?_
      exact v_B_said_l18 FU h this x1 (0 : Int32) (0 : Int32)
    · refine x_iconst (pc := 12) (v := (-1)) (by decide) dX1_said_12 ?_
      exact x_iret (pc := 13) dX1_said_13
theorem fi_X1_395 : FI RX1 395 [18] 0 (.object "BitRopes$Room") false true := (fi_c ci_18 (by decide) rfl rfl (Or.inr ⟨_, q1552⟩) (Or.inl rfl) (fun h => absurd h (by decide)) fi_n)
theorem fi_X1_396 : FI RX1 396 [18] 1 (.array (.object "BitRopes$Packed")) false true := (fi_c ci_18 (by decide) rfl rfl (Or.inr ⟨_, q1553⟩) (Or.inl rfl) (fun h => absurd h (by decide)) fi_n)
theorem fi_X1_398 : FI RX1 398 [18] 2 (.object "BitRopes$Cond") false true := (fi_c ci_18 (by decide) rfl rfl (Or.inr ⟨_, q1554⟩) (Or.inl rfl) (fun h => absurd h (by decide)) fi_n)
theorem ni_X1_136 : NI RX1 136 18 [.null, .null, .null] := ⟨_, _, _, _, ci_18, q492, q1547, q144, by decide +kernel, rfl⟩
theorem si_X1_394 : SiIN RX1 394 "BitRopes" yX21_init cX21_init 1 0 := ⟨q1550, q144, q1548, q1549, rfl, ⟨by decide, by decide, by decide +kernel⟩, by decide⟩
abbrev Y_B_image : Yx := (RX1, cX1_image, 3, 19, (some .boolean), [], false)
def c_B_image_j33 (h : PH) (this : Nat) (x1 : Int32) : Option RH :=
  gQ h this [0] 20 fun v1 =>
  nn v1 fun a2 =>
  ldQ h a2 x1 fun v4 =>
  gQ h this [0] 6 fun v5 =>
  nn v4 fun a6 =>
  pQ h a6 [18] 0 v5 fun h8 =>
  gQ h8 this [0] 7 fun v9 =>
  nn v9 fun a10 =>
  hQ (c_S_pack h8 a10) noX fun v13 h12 =>
  pQ h12 a6 [18] 1 v13 fun h14 =>
  gQ h14 this [0] 19 fun v15 =>
  pQ h14 a6 [18] 2 v15 fun h16 =>
  rZ (1 : Int32) h16
def c_B_image (h : PH) (this : Nat) (x1 : Int32) : Option RH :=
  grd h this [0] (
  hI (c_B_isIn h x1 (0 : Int32) (1 : Int32)) noX fun v2 h1 =>
  if v2 = 0 then
    rZ (0 : Int32) h1
  else
    gQ h1 this [0] 20 fun v3 =>
    nn v3 fun a4 =>
    ldQ h1 a4 x1 fun v6 =>
    if v6 = none then
      gQ h1 this [0] 20 fun v7 =>
      newO h1 18 [.null, .null, .null] fun a8 h9 =>
      hV (c_K_init h9 a8) noX fun h10 =>
      nn v7 fun a11 =>
      stQ h10 a11 x1 (some a8) fun h13 =>
      c_B_image_j33 h13 this x1
    else
      c_B_image_j33 h1 this x1)
set_option maxHeartbeats 4000000 in
theorem w_B_image_j33 (h : PH) (this : Nat) (x1 : Int32) : Sim Y_B_image h 33 [(0, .ref this), (1, .int x1)] [] (c_B_image_j33 h this x1) := by
  unfold c_B_image_j33
  refine x_aload_nR (pc := 33) (a := this) 0 rfl rfl dX1_image_33 ?_
  refine x_getQ (pc := 34) fi_X1_138 dX1_image_34 ?_
  intro v1
  refine x_iload_n (pc := 37) 1 rfl rfl dX1_image_37 ?_
  refine x_nn (fun a2 e3 => ?_)
  subst e3
  refine x_aald (pc := 38) dX1_image_38 ?_
  intro v4
  refine x_astore_n (pc := 39) (r := v4) (lv' := [(2, va_rf v4), (0, .ref this), (1, .int x1)]) rfl (by decide) rfl dX1_image_39 ?_
  refine x_aload_n (pc := 40) (r := v4) 0 rfl rfl dX1_image_40 ?_
  refine x_aload_nR (pc := 41) (a := this) 1 rfl rfl dX1_image_41 ?_
  refine x_getQ (pc := 42) fi_X1_78 dX1_image_42 ?_
  intro v5
  refine x_nn (fun a6 e7 => ?_)
  subst e7
  refine x_pQ (pc := 45) (v := v5) fi_X1_395 (fun z => absurd z (by decide)) dX1_image_45 ?_
  intro h8
  refine x_aload_nR (pc := 48) (a := a6) 0 rfl rfl dX1_image_48 ?_
  refine x_aload_nR (pc := 49) (a := this) 1 rfl rfl dX1_image_49 ?_
  refine x_getQ (pc := 50) fi_X1_85 dX1_image_50 ?_
  intro v9
  refine x_nn (fun a10 e11 => ?_)
  subst e11
  refine x_callV (pc := 53) (As := []) (rest := [.ref a6]) (lev' := 18) si_X1_304 (m_S_pack h8 a10) (fun z e => grd1 e) rfl rfl (by decide) (cat4 (Nat.le_of_ble_eq_true rfl)) dX1_image_53 (kQ (fun v13 h12 => ?_)) xNo
  refine x_pQA (pc := 56) (v := v13) fi_X1_396 (fun z => absurd z (by decide)) dX1_image_56 ?_
  intro h14
  refine x_aload_nR (pc := 59) (a := a6) 0 rfl rfl dX1_image_59 ?_
  refine x_aload_nR (pc := 60) (a := this) 1 rfl rfl dX1_image_60 ?_
  refine x_getQ (pc := 61) fi_X1_172 dX1_image_61 ?_
  intro v15
  refine x_pQ (pc := 64) (v := v15) fi_X1_398 (fun z => absurd z (by decide)) dX1_image_64 ?_
  intro h16
  refine x_iconst (pc := 67) (v := 1) (by decide) dX1_image_67 ?_
  exact x_zret (pc := 68) dX1_image_68
set_option maxHeartbeats 4000000 in
theorem m_B_image (h : PH) (this : Nat) (x1 : Int32) : MM yX1_image (ws_ yX1_image cX1_image 3 (some .boolean)) 19 [.ref this, .int x1] h (c_B_image h this x1) := by
  refine MM.of (by decide) rfl (by decide) (Nat.le_of_ble_eq_true rfl) (own := RX1) (cc := cX1_image) (maxL := 3) (lev := 19) (rt := (some .boolean)) (ini := false) ?_
  show Sim Y_B_image h 0 [(0, .ref this), (1, .int x1)] [] _
  unfold c_B_image
  refine x_grd ?_
  refine x_iload_n (pc := 0) 1 rfl rfl dX1_image_0 ?_
  refine x_iconst (pc := 1) (v := 0) (by decide) dX1_image_1 ?_
  refine x_iconst (pc := 2) (v := 1) (by decide) dX1_image_2 ?_
  refine x_callS (pc := 3) (As := [.int x1, .int (0 : Int32), .int (1 : Int32)]) (rest := []) (lev' := 1) si_X1_182 (m_B_isIn h x1 (0 : Int32) (1 : Int32)) rfl rfl (by decide) (cat4 (Nat.le_of_ble_eq_true rfl)) dX1_image_3 (kI (fun v2 h1 => ?_)) xNo
  refine x_if_ne (pc := 6) 11 (by decide) dX1_image_6 ?_ ?_
  · refine x_aload_nR (pc := 11) (a := this) 0 rfl rfl dX1_image_11 ?_
    refine x_getQ (pc := 12) fi_X1_138 dX1_image_12 ?_
    intro v3
    refine x_iload_n (pc := 15) 1 rfl rfl dX1_image_15 ?_
    refine x_nn (fun a4 e5 => ?_)
    subst e5
    refine x_aald (pc := 16) dX1_image_16 ?_
    intro v6
    refine x_ifnonnull (pc := 17) (r := v6) 33 (by decide) dX1_image_17 ?_ ?_
    · exact w_B_image_j33 h1 this x1
    · refine x_aload_nR (pc := 20) (a := this) 0 rfl rfl dX1_image_20 ?_
      refine x_getQ (pc := 21) fi_X1_138 dX1_image_21 ?_
      intro v7
      refine x_iload_n (pc := 24) 1 rfl rfl dX1_image_24 ?_
      refine x_new (pc := 25) ni_X1_136 dX1_image_25 ?_
      intro a8 h9
      refine x_dup (pc := 28) rfl dX1_image_28 ?_
      refine x_callIN (pc := 29) (As := []) (rest := [.ref a8, .int x1, va_rf v7]) (lev' := 1) si_X1_394 (m_K_init h9 a8) rfl rfl (by decide) (cat4 (Nat.le_of_ble_eq_true rfl)) dX1_image_29 (kV (fun h10 => ?_)) xNo
      refine x_nn (fun a11 e12 => ?_)
      subst e12
      refine x_aast (pc := 32) (r := (some a8)) dX1_image_32 ?_
      intro h13
      exact w_B_image_j33 h13 this x1
  · refine x_iconst (pc := 9) (v := 0) (by decide) dX1_image_9 ?_
    exact x_zret (pc := 10) dX1_image_10
theorem si_X1_401 : SiV RX1 401 11 yX14_copy cX14_copy 1 (some (.object "BitRopes$Packed")) 0 := ⟨_, _, _, ci_11.1, by decide, lw_V q1567 q1568 q1569 q137 q1570, ⟨rfl, by decide, by decide, by decide +kernel⟩, by decide⟩
abbrev Y_B_restore : Yx := (RX1, cX1_restore, 5, 10, (some .boolean), [], false)
def c_B_restore_l58 (r58 : PH → Nat → Option Nat → Nat → Int32 → Option RH) (h : PH) (this : Nat) (x2 : Option Nat) (x3 : Nat) (x4 : Int32) : Option RH :=
  alen h x3 fun v1 =>
  if v1 ≤ x4 then
    gQ h this [0] 7 fun v2 =>
    nn v2 fun a3 =>
    hV (c_S_unpack h a3 x3) noX fun h5 =>
    nn x2 fun a6 =>
    gQ h5 a6 [18] 2 fun v8 =>
    pQ h5 this [0] 19 v8 fun h9 =>
    pI h9 this [0] 15 (0 : Int32) fun h10 =>
    rZ (1 : Int32) h10
  else
    nn x2 fun a11 =>
    gQ h a11 [18] 1 fun v13 =>
    nn v13 fun a14 =>
    ldQ h a14 x4 fun v16 =>
    nn v16 fun a17 =>
    hQ (c_P_copy h a17) noX fun v20 h19 =>
    stQ h19 x3 x4 v20 fun h21 =>
    r58 h21 this (some a11) x3 (x4 + (1 : Int32))
def c_B_restore (h : PH) (this : Nat) (x1 : Int32) : Option RH :=
  grd h this [0] (
  hI (c_B_isIn h x1 (0 : Int32) (1 : Int32)) noX fun v2 h1 =>
  if v2 = 0 then
    rZ (0 : Int32) h1
  else
    gQ h1 this [0] 20 fun v3 =>
    nn v3 fun a4 =>
    ldQ h1 a4 x1 fun v6 =>
    if v6 = none then
      rZ (0 : Int32) h1
    else
      gQ h1 this [0] 20 fun v7 =>
      nn v7 fun a8 =>
      ldQ h1 a8 x1 fun v10 =>
      nn v10 fun a11 =>
      gQ h1 a11 [18] 0 fun v13 =>
      pQ h1 this [0] 6 v13 fun h14 =>
      gQ h14 this [0] 7 fun v15 =>
      gQ h14 this [0] 6 fun v16 =>
      nn v16 fun a17 =>
      nn v15 fun a19 =>
      hV (c_S_begin h14 a19 a17) noX fun h21 =>
      gQ h21 a11 [18] 1 fun v22 =>
      nn v22 fun a23 =>
      alen h21 a23 fun v25 =>
      newA h21 8 v25 (.inr (.inr (.inr (.inr (fun _ => none))))) fun a26 h27 =>
      itr (c_B_restore_l58) (fun _ _ _ _ _ => none) FU h27 this (some a11) a26 (0 : Int32))
set_option maxHeartbeats 4000000 in
theorem w_B_restore_l58 (r58 : PH → Nat → Option Nat → Nat → Int32 → Option RH) (hr58 : ∀ (h : PH) (this : Nat) (x2 : Option Nat) (x3 : Nat) (x4 : Int32), Sim Y_B_restore h 58 [(0, .ref this), (2, va_rf x2), (3, .ref x3), (4, .int x4)] [] (r58 h this x2 x3 x4)) (h : PH) (this : Nat) (x2 : Option Nat) (x3 : Nat) (x4 : Int32) : Sim Y_B_restore h 58 [(0, .ref this), (2, va_rf x2), (3, .ref x3), (4, .int x4)] [] (c_B_restore_l58 r58 h this x2 x3 x4) := by
  unfold c_B_restore_l58
  refine x_iload (pc := 58) 3 rfl dX1_restore_58 ?_
  refine x_aload_nR (pc := 60) (a := x3) 2 rfl rfl dX1_restore_60 ?_
  refine x_alen (pc := 61) dX1_restore_61 ?_
  intro v1
  refine x_icmp_ge (pc := 62) 85 (by decide) dX1_restore_62 ?_ ?_
  · refine x_aload_nR (pc := 85) (a := this) 0 rfl rfl dX1_restore_85 ?_
    refine x_getQ (pc := 86) fi_X1_85 dX1_restore_86 ?_
    intro v2
    refine x_aload_nR (pc := 89) (a := x3) 2 rfl rfl dX1_restore_89 ?_
    refine x_nn (fun a3 e4 => ?_)
    subst e4
    refine x_callV (pc := 90) (As := [.ref x3]) (rest := []) (lev' := 5) si_X1_296 (m_S_unpack h a3 x3) (fun z e => grd1 e) rfl rfl (by decide) (cat4 (Nat.le_of_ble_eq_true rfl)) dX1_restore_90 (kV (fun h5 => ?_)) xNo
    refine x_aload_nR (pc := 93) (a := this) 0 rfl rfl dX1_restore_93 ?_
    refine x_aload_n (pc := 94) (r := x2) 1 rfl rfl dX1_restore_94 ?_
    refine x_nn (fun a6 e7 => ?_)
    subst e7
    refine x_getQ (pc := 95) fi_X1_398 dX1_restore_95 ?_
    intro v8
    refine x_pQ (pc := 98) (v := v8) fi_X1_172 (fun z => absurd z (by decide)) dX1_restore_98 ?_
    intro h9
    refine x_aload_nR (pc := 101) (a := this) 0 rfl rfl dX1_restore_101 ?_
    refine x_iconst (pc := 102) (v := 0) (by decide) dX1_restore_102 ?_
    refine x_pI (pc := 103) fi_X1_169 (fun z => absurd z (by decide)) dX1_restore_103 ?_
    intro h10
    refine x_iconst (pc := 106) (v := 1) (by decide) dX1_restore_106 ?_
    exact x_zret (pc := 107) dX1_restore_107
  · refine x_aload_nR (pc := 65) (a := x3) 2 rfl rfl dX1_restore_65 ?_
    refine x_iload (pc := 66) 3 rfl dX1_restore_66 ?_
    refine x_aload_n (pc := 68) (r := x2) 1 rfl rfl dX1_restore_68 ?_
    refine x_nn (fun a11 e12 => ?_)
    subst e12
    refine x_getQ (pc := 69) fi_X1_396 dX1_restore_69 ?_
    intro v13
    refine x_iload (pc := 72) 3 rfl dX1_restore_72 ?_
    refine x_nn (fun a14 e15 => ?_)
    subst e15
    refine x_aald (pc := 74) dX1_restore_74 ?_
    intro v16
    refine x_nn (fun a17 e18 => ?_)
    subst e18
    refine x_callV (pc := 75) (As := []) (rest := [.int x4, .ref x3]) (lev' := 9) si_X1_401 (m_P_copy h a17) (fun z e => grd1 e) rfl rfl (by decide) (cat4 (Nat.le_of_ble_eq_true rfl)) dX1_restore_75 (kQ (fun v20 h19 => ?_)) xNo
    refine x_aast (pc := 78) (r := v20) dX1_restore_78 ?_
    intro h21
    refine x_iinc (pc := 79) (v := (1 : Int32)) (lv' := [(4, .int (x4 + (1 : Int32))), (0, .ref this), (2, .ref a11), (3, .ref x3)]) 3 rfl (by decide) (by decide) rfl dX1_restore_79 ?_
    refine x_goto (pc := 82) 58 (by decide) dX1_restore_82 ?_
    refine Sim.lv [1, 2, 3, 0] rfl ?_
    exact hr58 h21 this (some a11) x3 (x4 + (1 : Int32))
set_option maxHeartbeats 4000000 in
theorem v_B_restore_l58 : ∀ (n : Nat) (h : PH) (this : Nat) (x2 : Option Nat) (x3 : Nat) (x4 : Int32), Sim Y_B_restore h 58 [(0, .ref this), (2, va_rf x2), (3, .ref x3), (4, .int x4)] [] (itr (c_B_restore_l58) (fun _ _ _ _ _ => none) n h this x2 x3 x4)
  | 0, h, this, x2, x3, x4 => Sim.none
  | n + 1, h, this, x2, x3, x4 => w_B_restore_l58 _ (v_B_restore_l58 n) h this x2 x3 x4
set_option maxHeartbeats 4000000 in
theorem m_B_restore (h : PH) (this : Nat) (x1 : Int32) : MM yX1_restore (ws_ yX1_restore cX1_restore 5 (some .boolean)) 10 [.ref this, .int x1] h (c_B_restore h this x1) := by
  refine MM.of (by decide) rfl (by decide) (Nat.le_of_ble_eq_true rfl) (own := RX1) (cc := cX1_restore) (maxL := 5) (lev := 10) (rt := (some .boolean)) (ini := false) ?_
  show Sim Y_B_restore h 0 [(0, .ref this), (1, .int x1)] [] _
  unfold c_B_restore
  refine x_grd ?_
  refine x_iload_n (pc := 0) 1 rfl rfl dX1_restore_0 ?_
  refine x_iconst (pc := 1) (v := 0) (by decide) dX1_restore_1 ?_
  refine x_iconst (pc := 2) (v := 1) (by decide) dX1_restore_2 ?_
  refine x_callS (pc := 3) (As := [.int x1, .int (0 : Int32), .int (1 : Int32)]) (rest := []) (lev' := 1) si_X1_182 (m_B_isIn h x1 (0 : Int32) (1 : Int32)) rfl rfl (by decide) (cat4 (Nat.le_of_ble_eq_true rfl)) dX1_restore_3 (kI (fun v2 h1 => ?_)) xNo
  refine x_if_eq (pc := 6) 18 (by decide) dX1_restore_6 ?_ ?_
  · refine x_iconst (pc := 18) (v := 0) (by decide) dX1_restore_18 ?_
    exact x_zret (pc := 19) dX1_restore_19
  · refine x_aload_nR (pc := 9) (a := this) 0 rfl rfl dX1_restore_9 ?_
    refine x_getQ (pc := 10) fi_X1_138 dX1_restore_10 ?_
    intro v3
    refine x_iload_n (pc := 13) 1 rfl rfl dX1_restore_13 ?_
    refine x_nn (fun a4 e5 => ?_)
    subst e5
    refine x_aald (pc := 14) dX1_restore_14 ?_
    intro v6
    refine x_ifnonnull (pc := 15) (r := v6) 20 (by decide) dX1_restore_15 ?_ ?_
    · refine x_aload_nR (pc := 20) (a := this) 0 rfl rfl dX1_restore_20 ?_
      refine x_getQ (pc := 21) fi_X1_138 dX1_restore_21 ?_
      intro v7
      refine x_iload_n (pc := 24) 1 rfl rfl dX1_restore_24 ?_
      refine x_nn (fun a8 e9 => ?_)
      subst e9
      refine x_aald (pc := 25) dX1_restore_25 ?_
      intro v10
      refine x_astore_n (pc := 26) (r := v10) (lv' := [(2, va_rf v10), (0, .ref this), (1, .int x1)]) rfl (by decide) rfl dX1_restore_26 ?_
      refine x_aload_nR (pc := 27) (a := this) 1 rfl rfl dX1_restore_27 ?_
      refine x_aload_n (pc := 28) (r := v10) 0 rfl rfl dX1_restore_28 ?_
      refine x_nn (fun a11 e12 => ?_)
      subst e12
      refine x_getQ (pc := 29) fi_X1_395 dX1_restore_29 ?_
      intro v13
      refine x_pQ (pc := 32) (v := v13) fi_X1_78 (fun z => absurd z (by decide)) dX1_restore_32 ?_
      intro h14
      refine x_aload_nR (pc := 35) (a := this) 1 rfl rfl dX1_restore_35 ?_
      refine x_getQ (pc := 36) fi_X1_85 dX1_restore_36 ?_
      intro v15
      refine x_aload_nR (pc := 39) (a := this) 1 rfl rfl dX1_restore_39 ?_
      refine x_getQ (pc := 40) fi_X1_78 dX1_restore_40 ?_
      intro v16
      refine x_nn (fun a17 e18 => ?_)
      subst e18
      refine x_nn (fun a19 e20 => ?_)
      subst e20
      refine x_callV (pc := 43) (As := [.ref a17]) (rest := []) (lev' := 3) si_X1_108 (m_S_begin h14 a19 a17) (fun z e => grd1 e) rfl rfl (by decide) (cat4 (Nat.le_of_ble_eq_true rfl)) dX1_restore_43 (kV (fun h21 => ?_)) xNo
      refine x_aload_nR (pc := 46) (a := a11) 0 rfl rfl dX1_restore_46 ?_
      refine x_getQ (pc := 47) fi_X1_396 dX1_restore_47 ?_
      intro v22
      refine x_nn (fun a23 e24 => ?_)
      subst e24
      refine x_alen (pc := 50) dX1_restore_50 ?_
      intro v25
      refine x_newaQ (pc := 51) (C := RX14) (t := 8) (by decide +kernel) q1566 (fun G s hk => (hk.1.2 8 _ rfl).2.choose_spec.choose_spec.2.2.2) dX1_restore_51 ?_
      intro a26 h27
      refine x_astore_nR (pc := 54) (a := a26) (lv' := [(3, .ref a26), (2, .ref a11), (0, .ref this), (1, .int x1)]) rfl (by decide) rfl dX1_restore_54 ?_
      refine x_iconst (pc := 55) (v := 0) (by decide) dX1_restore_55 ?_
      refine x_istore (pc := 56) (lv' := [(4, .int (0 : Int32)), (3, .ref a26), (2, .ref a11), (0, .ref this), (1, .int x1)]) (by decide) rfl dX1_restore_56 ?_
      refine Sim.lv [3, 2, 1, 0] rfl ?_
      exact v_B_restore_l58 FU h27 this (some a11) a26 (0 : Int32)
    · refine x_iconst (pc := 18) (v := 0) (by decide) dX1_restore_18 ?_
      exact x_zret (pc := 19) dX1_restore_19
theorem fi_X1_405 : FI RX1 405 [2] 2 .int false true := (fi_c ci_2 (by decide) rfl rfl (Or.inr ⟨_, q266⟩) (Or.inl rfl) (fun h => absurd h (by decide)) fi_n)
abbrev Y_B_total : Yx := (RX1, cX1_total, 2, 3, (some .int), [], false)
def c_B_total (h : PH) (this : Nat) (x1 : Int32) : Option RH :=
  grd h this [0] (
  if x1 = 0 then
    gQ h this [0] 6 fun v1 =>
    nn v1 fun a2 =>
    gI h a2 [2] 1 fun v4 =>
    rI v4 h
  else
  if x1 = 1 then
    gQ h this [0] 6 fun v5 =>
    nn v5 fun a6 =>
    gI h a6 [2] 2 fun v8 =>
    rI v8 h
  else
  if x1 = 2 then
    gQ h this [0] 7 fun v9 =>
    nn v9 fun a10 =>
    hI (c_S_bits h a10) noX fun v13 h12 =>
    rI v13 h12
  else
  if x1 = 3 then
    gI h this [0] 1 fun v14 =>
    rI v14 h
  else
  rI (-1 : Int32) h)
set_option maxHeartbeats 4000000 in
theorem m_B_total (h : PH) (this : Nat) (x1 : Int32) : MM yX1_total (ws_ yX1_total cX1_total 2 (some .int)) 3 [.ref this, .int x1] h (c_B_total h this x1) := by
  refine MM.of (by decide) rfl (by decide) (Nat.le_of_ble_eq_true rfl) (own := RX1) (cc := cX1_total) (maxL := 2) (lev := 3) (rt := (some .int)) (ini := false) ?_
  show Sim Y_B_total h 0 [(0, .ref this), (1, .int x1)] [] _
  unfold c_B_total
  refine x_grd ?_
  refine x_iload_n (pc := 0) 1 rfl rfl dX1_total_0 ?_
  refine x_sw0 (pc := 1) (lo := 0) ?_
  refine x_sw (pc := 1) (v := 0) 32 dX1_total_1 rfl (by decide) (by decide) rfl (by decide) ?_ ?_
  · refine x_aload_nR (pc := 32) (a := this) 0 rfl rfl dX1_total_32 ?_
    refine x_getQ (pc := 33) fi_X1_78 dX1_total_33 ?_
    intro v1
    refine x_nn (fun a2 e3 => ?_)
    subst e3
    refine x_getI (pc := 36) fi_X1_165 dX1_total_36 ?_
    intro v4
    exact x_iret (pc := 39) dX1_total_39
  refine x_sw (pc := 1) (v := 1) 40 dX1_total_1 rfl (by decide) (by decide) rfl (by decide) ?_ ?_
  · refine x_aload_nR (pc := 40) (a := this) 0 rfl rfl dX1_total_40 ?_
    refine x_getQ (pc := 41) fi_X1_78 dX1_total_41 ?_
    intro v5
    refine x_nn (fun a6 e7 => ?_)
    subst e7
    refine x_getI (pc := 44) fi_X1_405 dX1_total_44 ?_
    intro v8
    exact x_iret (pc := 47) dX1_total_47
  refine x_sw (pc := 1) (v := 2) 48 dX1_total_1 rfl (by decide) (by decide) rfl (by decide) ?_ ?_
  · refine x_aload_nR (pc := 48) (a := this) 0 rfl rfl dX1_total_48 ?_
    refine x_getQ (pc := 49) fi_X1_85 dX1_total_49 ?_
    intro v9
    refine x_nn (fun a10 e11 => ?_)
    subst e11
    refine x_callV (pc := 52) (As := []) (rest := []) (lev' := 2) si_X1_375 (m_S_bits h a10) (fun z e => grd1 e) rfl rfl (by decide) (cat4 (Nat.le_of_ble_eq_true rfl)) dX1_total_52 (kI (fun v13 h12 => ?_)) xNo
    exact x_iret (pc := 55) dX1_total_55
  refine x_sw (pc := 1) (v := 3) 56 dX1_total_1 rfl (by decide) (by decide) rfl (by decide) ?_ ?_
  · refine x_aload_nR (pc := 56) (a := this) 0 rfl rfl dX1_total_56 ?_
    refine x_getI (pc := 57) fi_X1_142 dX1_total_57 ?_
    intro v14
    exact x_iret (pc := 60) dX1_total_60
  refine x_swD (pc := 1) 61 dX1_total_1 (by decide) (by decide) ?_
  refine x_iconst (pc := 61) (v := (-1)) (by decide) dX1_total_61 ?_
  exact x_iret (pc := 62) dX1_total_62
abbrev Y_B_must : Yx := (RX1, cX1_must, 1, 12, none, [], false)
def c_B_must (h : PH) (x0 : Int32) : Option RH :=
  if x0 = 0 then
    rX (h.2.1.1, 1) (hbump h 1 6)
  else
    rV h
set_option maxHeartbeats 4000000 in
theorem m_B_must (h : PH) (x0 : Int32) : MM yX1_must (ws_ yX1_must cX1_must 1 none) 12 [.int x0] h (c_B_must h x0) := by
  refine MM.of (by decide) rfl (by decide) (Nat.le_of_ble_eq_true rfl) (own := RX1) (cc := cX1_must) (maxL := 1) (lev := 12) (rt := none) (ini := false) ?_
  show Sim Y_B_must h 0 [(0, .int x0)] [] _
  unfold c_B_must
  refine x_iload_n (pc := 0) 0 rfl rfl dX1_must_0 ?_
  refine x_if_ne (pc := 1) 12 (by decide) dX1_must_1 ?_ ?_
  · exact x_vret (pc := 12) dX1_must_12
  · exact x_throwN (pc := 4) rfl rfl (by decide) dX1_must_4 dX1_must_7 dX1_must_8 dX1_must_11
theorem si_X1_229 : SiS RX1 229 yX1_must cX1_must 1 none 1 := ⟨lw_S q1597 q1598 q110 q1599, ⟨by decide, by decide, by decide +kernel⟩, by decide⟩
abbrev Y_B_word : Yx := (RX1, cX1_word, 5, 115, (some .int), [], false)
def c_B_word_l37 (r37 : PH → Nat → Int32 → Int32 → Int32 → Int32 → Option RH) (h : PH) (this : Nat) (x1 : Int32) (x2 : Int32) (x3 : Int32) (x4 : Int32) : Option RH :=
  if (x2 + (32 : Int32)) ≤ x4 then
    rI x3 h
  else
    hQ (c_B_rope h this x1) noX fun v2 h1 =>
    nn v2 fun a3 =>
    hI (c_R_wide h1 a3) noX fun v6 h5 =>
    if v6 ≤ x4 then
      nm ((x3 <<< ((1 : Int32) &&& 31)) ||| (0 : Int32)) fun y7 =>
      r37 h5 this x1 x2 y7 (x4 + (1 : Int32))
    else
      hQ (c_B_rope h5 this x1) noX fun v9 h8 =>
      nn v9 fun a10 =>
      hI (c_R_get h8 a10 x4) noX fun v13 h12 =>
      nm ((x3 <<< ((1 : Int32) &&& 31)) ||| v13) fun y14 =>
      r37 h12 this x1 x2 y14 (x4 + (1 : Int32))
def c_B_word_j29 (h : PH) (this : Nat) (x1 : Int32) (x2 : Int32) (s0 : Int32) : Option RH :=
  hV (c_B_must h s0) rX fun h1 =>
  itr (c_B_word_l37) (fun _ _ _ _ _ _ => none) FU h1 this x1 x2 (0 : Int32) x2
def c_B_word_j28 (h : PH) (this : Nat) (x1 : Int32) (x2 : Int32) : Option RH :=
  c_B_word_j29 h this x1 x2 (0 : Int32)
def c_B_word (h : PH) (this : Nat) (x1 : Int32) (x2 : Int32) : Option RH :=
  grd h this [0] (
  hI (c_B_isRow h this x1) noX fun v2 h1 =>
  if v2 = 0 then
    c_B_word_j28 h1 this x1 x2
  else
    hQ (c_B_rope h1 this x1) noX fun v4 h3 =>
    nn v4 fun a5 =>
    hI (c_R_wide h3 a5) noX fun v8 h7 =>
    hI (c_B_isIn h7 x2 (0 : Int32) v8) noX fun v10 h9 =>
    if v10 = 0 then
      c_B_word_j28 h9 this x1 x2
    else
      c_B_word_j29 h9 this x1 x2 (1 : Int32))
set_option maxHeartbeats 4000000 in
theorem w_B_word_l37 (r37 : PH → Nat → Int32 → Int32 → Int32 → Int32 → Option RH) (hr37 : ∀ (h : PH) (this : Nat) (x1 : Int32) (x2 : Int32) (x3 : Int32) (x4 : Int32), Sim Y_B_word h 37 [(0, .ref this), (1, .int x1), (2, .int x2), (3, .int x3), (4, .int x4)] [] (r37 h this x1 x2 x3 x4)) (h : PH) (this : Nat) (x1 : Int32) (x2 : Int32) (x3 : Int32) (x4 : Int32) : Sim Y_B_word h 37 [(0, .ref this), (1, .int x1), (2, .int x2), (3, .int x3), (4, .int x4)] [] (c_B_word_l37 r37 h this x1 x2 x3 x4) := by
  unfold c_B_word_l37
  refine x_iload (pc := 37) 4 rfl dX1_word_37 ?_
  refine x_iload_n (pc := 39) 2 rfl rfl dX1_word_39 ?_
  refine x_bipush (pc := 40) (v := 32) (by decide) dX1_word_40 ?_
  refine x_iadd (pc := 42) dX1_word_42 ?_
  refine x_icmp_ge (pc := 43) 84 (by decide) dX1_word_43 ?_ ?_
  · refine x_iload_n (pc := 84) 3 rfl rfl dX1_word_84 ?_
    exact x_iret (pc := 85) dX1_word_85
  · refine x_iload_n (pc := 46) 3 rfl rfl dX1_word_46 ?_
    refine x_iconst (pc := 47) (v := 1) (by decide) dX1_word_47 ?_
    refine x_ishl (pc := 48) dX1_word_48 ?_
    refine x_iload (pc := 49) 4 rfl dX1_word_49 ?_
    refine x_aload_nR (pc := 51) (a := this) 0 rfl rfl dX1_word_51 ?_
    refine x_iload_n (pc := 52) 1 rfl rfl dX1_word_52 ?_
    refine x_callV (pc := 53) (As := [.int x1]) (rest := [.int x4, .int (x3 <<< ((1 : Int32) &&& 31))]) (lev' := 114) si_X1_204 (m_B_rope h this x1) (fun z e => grd1 e) rfl rfl (by decide) (cat4 (Nat.le_of_ble_eq_true rfl)) dX1_word_53 (kQ (fun v2 h1 => ?_)) xNo
    refine x_nn (fun a3 e4 => ?_)
    subst e4
    refine x_callV (pc := 56) (As := []) (rest := [.int x4, .int (x3 <<< ((1 : Int32) &&& 31))]) (lev' := 1) si_X1_194 (m_R_wide h1 a3) (fun z e => grd1 e) rfl rfl (by decide) (cat4 (Nat.le_of_ble_eq_true rfl)) dX1_word_56 (kI (fun v6 h5 => ?_)) xNo
    refine x_icmp_ge (pc := 59) 75 (by decide) dX1_word_59 ?_ ?_
    · refine x_iconst (pc := 75) (v := 0) (by decide) dX1_word_75 ?_
      refine x_ior (pc := 76) dX1_word_76 ?_
      refine x_nmI (fun y7 => ?_)
      refine x_istore_n (pc := 77) (lv' := [(3, .int y7), (0, .ref this), (1, .int x1), (2, .int x2), (4, .int x4)]) rfl (by decide) rfl dX1_word_77 ?_
      refine x_iinc (pc := 78) (v := (1 : Int32)) (lv' := [(4, .int (x4 + (1 : Int32))), (3, .int y7), (0, .ref this), (1, .int x1), (2, .int x2)]) 4 rfl (by decide) (by decide) rfl dX1_word_78 ?_
      refine x_goto (pc := 81) 37 (by decide) dX1_word_81 ?_
      refine Sim.lv [2, 3, 4, 1, 0] rfl ?_
      exact hr37 h5 this x1 x2 y7 (x4 + (1 : Int32))
    · refine x_aload_nR (pc := 62) (a := this) 0 rfl rfl dX1_word_62 ?_
      refine x_iload_n (pc := 63) 1 rfl rfl dX1_word_63 ?_
      refine x_callV (pc := 64) (As := [.int x1]) (rest := [.int (x3 <<< ((1 : Int32) &&& 31))]) (lev' := 114) si_X1_204 (m_B_rope h5 this x1) (fun z e => grd1 e) rfl rfl (by decide) (cat4 (Nat.le_of_ble_eq_true rfl)) dX1_word_64 (kQ (fun v9 h8 => ?_)) xNo
      refine x_iload (pc := 67) 4 rfl dX1_word_67 ?_
      refine x_nn (fun a10 e11 => ?_)
      subst e11
      refine x_callV (pc := 69) (As := [.int x4]) (rest := [.int (x3 <<< ((1 : Int32) &&& 31))]) (lev' := 3) si_X1_207 (m_R_get h8 a10 x4) (fun z e => grd1 e) rfl rfl (by decide) (cat4 (Nat.le_of_ble_eq_true rfl)) dX1_word_69 (kI (fun v13 h12 => ?_)) xNo
      refine x_goto (pc := 72) 76 (by decide) dX1_word_72 ?_
      refine x_ior (pc := 76) dX1_word_76 ?_
      refine x_nmI (fun y14 => ?_)
      refine x_istore_n (pc := 77) (lv' := [(3, .int y14), (0, .ref this), (1, .int x1), (2, .int x2), (4, .int x4)]) rfl (by decide) rfl dX1_word_77 ?_
      refine x_iinc (pc := 78) (v := (1 : Int32)) (lv' := [(4, .int (x4 + (1 : Int32))), (3, .int y14), (0, .ref this), (1, .int x1), (2, .int x2)]) 4 rfl (by decide) (by decide) rfl dX1_word_78 ?_
      refine x_goto (pc := 81) 37 (by decide) dX1_word_81 ?_
      refine Sim.lv [2, 3, 4, 1, 0] rfl ?_
      exact hr37 h12 this x1 x2 y14 (x4 + (1 : Int32))
set_option maxHeartbeats 4000000 in
theorem v_B_word_l37 : ∀ (n : Nat) (h : PH) (this : Nat) (x1 : Int32) (x2 : Int32) (x3 : Int32) (x4 : Int32), Sim Y_B_word h 37 [(0, .ref this), (1, .int x1), (2, .int x2), (3, .int x3), (4, .int x4)] [] (itr (c_B_word_l37) (fun _ _ _ _ _ _ => none) n h this x1 x2 x3 x4)
  | 0, h, this, x1, x2, x3, x4 => Sim.none
  | n + 1, h, this, x1, x2, x3, x4 => w_B_word_l37 _ (v_B_word_l37 n) h this x1 x2 x3 x4
set_option maxHeartbeats 4000000 in
theorem w_B_word_j29 (h : PH) (this : Nat) (x1 : Int32) (x2 : Int32) (s0 : Int32) : Sim Y_B_word h 29 [(0, .ref this), (1, .int x1), (2, .int x2)] [.int s0] (c_B_word_j29 h this x1 x2 s0) := by
  unfold c_B_word_j29
  refine x_callS (pc := 29) (As := [.int s0]) (rest := []) (lev' := 12) si_X1_229 (m_B_must h s0) rfl rfl (by decide) (cat4 (Nat.le_of_ble_eq_true rfl)) dX1_word_29 (kV (fun h1 => ?_)) (xOut (by decide))
  refine x_iconst (pc := 32) (v := 0) (by decide) dX1_word_32 ?_
  refine x_istore_n (pc := 33) (lv' := [(3, .int (0 : Int32)), (0, .ref this), (1, .int x1), (2, .int x2)]) rfl (by decide) rfl dX1_word_33 ?_
  refine x_iload_n (pc := 34) 3 rfl rfl dX1_word_34 ?_
  refine x_istore (pc := 35) (lv' := [(4, .int x2), (3, .int (0 : Int32)), (0, .ref this), (1, .int x1), (2, .int x2)]) (by decide) rfl dX1_word_35 ?_
  refine Sim.lv [2, 3, 4, 1, 0] rfl ?_
  exact v_B_word_l37 FU h1 this x1 x2 (0 : Int32) x2
set_option maxHeartbeats 4000000 in
theorem w_B_word_j28 (h : PH) (this : Nat) (x1 : Int32) (x2 : Int32) : Sim Y_B_word h 28 [(0, .ref this), (1, .int x1), (2, .int x2)] [] (c_B_word_j28 h this x1 x2) := by
  unfold c_B_word_j28
  refine x_iconst (pc := 28) (v := 0) (by decide) dX1_word_28 ?_
  exact w_B_word_j29 h this x1 x2 (0 : Int32)
set_option maxHeartbeats 4000000 in
theorem m_B_word (h : PH) (this : Nat) (x1 : Int32) (x2 : Int32) : MM yX1_word (ws_ yX1_word cX1_word 5 (some .int)) 115 [.ref this, .int x1, .int x2] h (c_B_word h this x1 x2) := by
  refine MM.of (by decide) rfl (by decide) (Nat.le_of_ble_eq_true rfl) (own := RX1) (cc := cX1_word) (maxL := 5) (lev := 115) (rt := (some .int)) (ini := false) ?_
  show Sim Y_B_word h 0 [(0, .ref this), (1, .int x1), (2, .int x2)] [] _
  unfold c_B_word
  refine x_grd ?_
  refine x_aload_nR (pc := 0) (a := this) 0 rfl rfl dX1_word_0 ?_
  refine x_iload_n (pc := 1) 1 rfl rfl dX1_word_1 ?_
  refine x_callV (pc := 2) (As := [.int x1]) (rest := []) (lev' := 2) si_X1_186 (m_B_isRow h this x1) (fun z e => grd1 e) rfl rfl (by decide) (cat4 (Nat.le_of_ble_eq_true rfl)) dX1_word_2 (kI (fun v2 h1 => ?_)) xNo
  refine x_if_eq (pc := 5) 28 (by decide) dX1_word_5 ?_ ?_
  · exact w_B_word_j28 h1 this x1 x2
  · refine x_iload_n (pc := 8) 2 rfl rfl dX1_word_8 ?_
    refine x_iconst (pc := 9) (v := 0) (by decide) dX1_word_9 ?_
    refine x_aload_nR (pc := 10) (a := this) 0 rfl rfl dX1_word_10 ?_
    refine x_iload_n (pc := 11) 1 rfl rfl dX1_word_11 ?_
    refine x_callV (pc := 12) (As := [.int x1]) (rest := [.int (0 : Int32), .int x2]) (lev' := 114) si_X1_204 (m_B_rope h1 this x1) (fun z e => grd1 e) rfl rfl (by decide) (cat4 (Nat.le_of_ble_eq_true rfl)) dX1_word_12 (kQ (fun v4 h3 => ?_)) xNo
    refine x_nn (fun a5 e6 => ?_)
    subst e6
    refine x_callV (pc := 15) (As := []) (rest := [.int (0 : Int32), .int x2]) (lev' := 1) si_X1_194 (m_R_wide h3 a5) (fun z e => grd1 e) rfl rfl (by decide) (cat4 (Nat.le_of_ble_eq_true rfl)) dX1_word_15 (kI (fun v8 h7 => ?_)) xNo
    refine x_callS (pc := 18) (As := [.int x2, .int (0 : Int32), .int v8]) (rest := []) (lev' := 1) si_X1_182 (m_B_isIn h7 x2 (0 : Int32) v8) rfl rfl (by decide) (cat4 (Nat.le_of_ble_eq_true rfl)) dX1_word_18 (kI (fun v10 h9 => ?_)) xNo
    refine x_if_eq (pc := 21) 28 (by decide) dX1_word_21 ?_ ?_
    · exact w_B_word_j28 h9 this x1 x2
    · refine x_iconst (pc := 24) (v := 1) (by decide) dX1_word_24 ?_
      refine x_goto (pc := 25) 29 (by decide) dX1_word_25 ?_
      exact w_B_word_j29 h9 this x1 x2 (1 : Int32)
abbrev Y_J10_isNaN : Yx := (RJ10, cJ10_isNaN, 1, 1, (some .boolean), [], false)
def c_J10_isNaN (h : PH) (x0 : UInt32) : Option RH :=
  if (Op.cmpValue (FP.fcmp x0 x0) .l) = 0 then
    rZ (0 : Int32) h
  else
    rZ (1 : Int32) h
set_option maxHeartbeats 4000000 in
theorem m_J10_isNaN (h : PH) (x0 : UInt32) : MM yJ10_isNaN (ws_ yJ10_isNaN cJ10_isNaN 1 (some .boolean)) 1 [.float x0] h (c_J10_isNaN h x0) := by
  refine MM.ofF (by decide +kernel) rfl (by decide) (Nat.le_of_ble_eq_true rfl) (own := RJ10) (cc := cJ10_isNaN) (maxL := 1) (lev := 1) (rt := (some .boolean)) (ini := false) ?_
  show Sim Y_J10_isNaN h 0 [(0, .float x0)] [] _
  unfold c_J10_isNaN
  refine x_fload_n (pc := 0) 0 rfl rfl dJ10_isNaN_0 ?_
  refine x_fload_n (pc := 1) 0 rfl rfl dJ10_isNaN_1 ?_
  refine x_fcmp (pc := 2) dJ10_isNaN_2 ?_
  refine x_if_eq (pc := 3) 10 (by decide) dJ10_isNaN_3 ?_ ?_
  · refine x_iconst (pc := 10) (v := 0) (by decide) dJ10_isNaN_10 ?_
    exact x_zret (pc := 11) dJ10_isNaN_11
  · refine x_iconst (pc := 6) (v := 1) (by decide) dJ10_isNaN_6 ?_
    refine x_goto (pc := 7) 11 (by decide) dJ10_isNaN_7 ?_
    exact x_zret (pc := 11) dJ10_isNaN_11
theorem si_J10_59 : SiS RJ10 59 yJ10_isNaN cJ10_isNaN 1 (some .boolean) 1 := ⟨lw_S q1632 q1633 q135 q1634, ⟨by decide, by decide, by decide +kernel⟩, by decide⟩
abbrev Y_J10_floatToIntBits : Yx := (RJ10, cJ10_floatToIntBits, 1, 9, (some .int), [], false)
def c_J10_floatToIntBits (h : PH) (x0 : UInt32) : Option RH :=
  hI (c_J10_isNaN h x0) noX fun v2 h1 =>
  if v2 = 0 then
    rI x0.toInt32 h1
  else
    rI (2143289344 : Int32) h1
set_option maxHeartbeats 4000000 in
theorem m_J10_floatToIntBits (h : PH) (x0 : UInt32) : MM yJ10_floatToIntBits (ws_ yJ10_floatToIntBits cJ10_floatToIntBits 1 (some .int)) 9 [.float x0] h (c_J10_floatToIntBits h x0) := by
  refine MM.ofF (by decide +kernel) rfl (by decide) (Nat.le_of_ble_eq_true rfl) (own := RJ10) (cc := cJ10_floatToIntBits) (maxL := 1) (lev := 9) (rt := (some .int)) (ini := false) ?_
  show Sim Y_J10_floatToIntBits h 0 [(0, .float x0)] [] _
  unfold c_J10_floatToIntBits
  refine x_fload_n (pc := 0) 0 rfl rfl dJ10_floatToIntBits_0 ?_
  refine x_callS (pc := 1) (As := [.float x0]) (rest := []) (lev' := 1) si_J10_59 (m_J10_isNaN h x0) rfl rfl (by decide) (cat4 (Nat.le_of_ble_eq_true rfl)) dJ10_floatToIntBits_1 (kI (fun v2 h1 => ?_)) xNo
  refine x_if_ne (pc := 4) 12 (by decide) dJ10_floatToIntBits_4 ?_ ?_
  · refine x_ldc (pc := 12) (v := 2143289344) q1638 dJ10_floatToIntBits_12 ?_
    exact x_iret (pc := 14) dJ10_floatToIntBits_14
  · refine x_fload_n (pc := 7) 0 rfl rfl dJ10_floatToIntBits_7 ?_
    refine x_f2i (pc := 8) q1635 (by decide) (cat4 (Nat.le_of_ble_eq_true rfl)) dJ10_floatToIntBits_8 ?_
    exact x_iret (pc := 11) dJ10_floatToIntBits_11
theorem si_X1_260 : SiV RX1 260 4 yX5_onesAhead cX5_onesAhead 7 (some .int) 1 := ⟨_, _, _, ci_4.1, by decide, lw_V q1628 q866 q867 q116 q868, ⟨rfl, by decide, by decide, by decide +kernel⟩, by decide⟩
theorem si_X1_263 : SiS RX1 263 yJ10_floatToIntBits cJ10_floatToIntBits 1 (some .int) 1 := ⟨lw_S q1629 q1630 q135 q1631, ⟨by decide, by decide, by decide +kernel⟩, by decide⟩
abbrev Y_B_dense : Yx := (RX1, cX1_dense, 5, 115, (some .int), [], false)
def c_B_dense_j47 (h : PH) (this : Nat) (x1 : Int32) (x2 : Int32) (x3 : Int32) (s0 : Int32) : Option RH :=
  hV (c_B_must h s0) rX fun h1 =>
  hQ (c_B_rope h1 this x1) noX fun v3 h2 =>
  nn v3 fun a4 =>
  hI (c_R_onesAhead h2 a4 (x2 + x3)) noX fun v7 h6 =>
  hQ (c_B_rope h6 this x1) noX fun v9 h8 =>
  nn v9 fun a10 =>
  hI (c_R_onesAhead h8 a10 x2) noX fun v13 h12 =>
  nm (FP.i2f (v7 - v13)) fun y14 =>
  nnF (FP.fdiv y14 (FP.i2f x3)) <|
  hI (c_J10_floatToIntBits h12 (FP.fdiv y14 (FP.i2f x3))) noX fun v16 h15 =>
  rI v16 h15
def c_B_dense_j46 (h : PH) (this : Nat) (x1 : Int32) (x2 : Int32) (x3 : Int32) : Option RH :=
  c_B_dense_j47 h this x1 x2 x3 (0 : Int32)
def c_B_dense (h : PH) (this : Nat) (x1 : Int32) (x2 : Int32) (x3 : Int32) : Option RH :=
  grd h this [0] (
  hI (c_B_isRow h this x1) noX fun v2 h1 =>
  if v2 = 0 then
    c_B_dense_j46 h1 this x1 x2 x3
  else
    if x3 ≤ 0 then
      c_B_dense_j46 h1 this x1 x2 x3
    else
      if x2 < 0 then
        c_B_dense_j46 h1 this x1 x2 x3
      else
        hQ (c_B_rope h1 this x1) noX fun v4 h3 =>
        nn v4 fun a5 =>
        hI (c_R_wide h3 a5) noX fun v8 h7 =>
        if v8 < x3 then
          c_B_dense_j46 h7 this x1 x2 x3
        else
          hQ (c_B_rope h7 this x1) noX fun v10 h9 =>
          nn v10 fun a11 =>
          hI (c_R_wide h9 a11) noX fun v14 h13 =>
          if (v14 - x3) < x2 then
            c_B_dense_j46 h13 this x1 x2 x3
          else
            c_B_dense_j47 h13 this x1 x2 x3 (1 : Int32))
set_option maxHeartbeats 4000000 in
theorem w_B_dense_j47 (h : PH) (this : Nat) (x1 : Int32) (x2 : Int32) (x3 : Int32) (s0 : Int32) : Sim Y_B_dense h 47 [(0, .ref this), (1, .int x1), (2, .int x2), (3, .int x3)] [.int s0] (c_B_dense_j47 h this x1 x2 x3 s0) := by
  unfold c_B_dense_j47
  refine x_callS (pc := 47) (As := [.int s0]) (rest := []) (lev' := 12) si_X1_229 (m_B_must h s0) rfl rfl (by decide) (cat4 (Nat.le_of_ble_eq_true rfl)) dX1_dense_47 (kV (fun h1 => ?_)) (xOut (by decide))
  refine x_aload_nR (pc := 50) (a := this) 0 rfl rfl dX1_dense_50 ?_
  refine x_iload_n (pc := 51) 1 rfl rfl dX1_dense_51 ?_
  refine x_callV (pc := 52) (As := [.int x1]) (rest := []) (lev' := 114) si_X1_204 (m_B_rope h1 this x1) (fun z e => grd1 e) rfl rfl (by decide) (cat4 (Nat.le_of_ble_eq_true rfl)) dX1_dense_52 (kQ (fun v3 h2 => ?_)) xNo
  refine x_iload_n (pc := 55) 2 rfl rfl dX1_dense_55 ?_
  refine x_iload_n (pc := 56) 3 rfl rfl dX1_dense_56 ?_
  refine x_iadd (pc := 57) dX1_dense_57 ?_
  refine x_nn (fun a4 e5 => ?_)
  subst e5
  refine x_callV (pc := 58) (As := [.int (x2 + x3)]) (rest := []) (lev' := 3) si_X1_260 (m_R_onesAhead h2 a4 (x2 + x3)) (fun z e => grd1 e) rfl rfl (by decide) (cat4 (Nat.le_of_ble_eq_true rfl)) dX1_dense_58 (kI (fun v7 h6 => ?_)) xNo
  refine x_aload_nR (pc := 61) (a := this) 0 rfl rfl dX1_dense_61 ?_
  refine x_iload_n (pc := 62) 1 rfl rfl dX1_dense_62 ?_
  refine x_callV (pc := 63) (As := [.int x1]) (rest := [.int v7]) (lev' := 114) si_X1_204 (m_B_rope h6 this x1) (fun z e => grd1 e) rfl rfl (by decide) (cat4 (Nat.le_of_ble_eq_true rfl)) dX1_dense_63 (kQ (fun v9 h8 => ?_)) xNo
  refine x_iload_n (pc := 66) 2 rfl rfl dX1_dense_66 ?_
  refine x_nn (fun a10 e11 => ?_)
  subst e11
  refine x_callV (pc := 67) (As := [.int x2]) (rest := [.int v7]) (lev' := 3) si_X1_260 (m_R_onesAhead h8 a10 x2) (fun z e => grd1 e) rfl rfl (by decide) (cat4 (Nat.le_of_ble_eq_true rfl)) dX1_dense_67 (kI (fun v13 h12 => ?_)) xNo
  refine x_isub (pc := 70) dX1_dense_70 ?_
  refine x_i2f (pc := 71) dX1_dense_71 ?_
  refine x_nmF (fun y14 => ?_)
  refine x_fstore (pc := 72) (lv' := [(4, .float y14), (0, .ref this), (1, .int x1), (2, .int x2), (3, .int x3)]) (by decide) rfl dX1_dense_72 ?_
  refine x_fload (pc := 74) 0 rfl dX1_dense_74 ?_
  refine x_iload_n (pc := 76) 4 rfl rfl dX1_dense_76 ?_
  refine x_i2f (pc := 77) dX1_dense_77 ?_
  refine x_fdiv (pc := 78) dX1_dense_78 ?_
  refine x_callS (pc := 79) (As := [.float (FP.fdiv y14 (FP.i2f x3))]) (rest := []) (lev' := 9) si_X1_263 (m_J10_floatToIntBits h12 (FP.fdiv y14 (FP.i2f x3))) rfl rfl (by decide) (cat4 (Nat.le_of_ble_eq_true rfl)) dX1_dense_79 (kI (fun v16 h15 => ?_)) xNo
  exact x_iret (pc := 82) dX1_dense_82
set_option maxHeartbeats 4000000 in
theorem w_B_dense_j46 (h : PH) (this : Nat) (x1 : Int32) (x2 : Int32) (x3 : Int32) : Sim Y_B_dense h 46 [(0, .ref this), (1, .int x1), (2, .int x2), (3, .int x3)] [] (c_B_dense_j46 h this x1 x2 x3) := by
  unfold c_B_dense_j46
  refine x_iconst (pc := 46) (v := 0) (by decide) dX1_dense_46 ?_
  exact w_B_dense_j47 h this x1 x2 x3 (0 : Int32)
set_option maxHeartbeats 4000000 in
theorem m_B_dense (h : PH) (this : Nat) (x1 : Int32) (x2 : Int32) (x3 : Int32) : MM yX1_dense (ws_ yX1_dense cX1_dense 5 (some .int)) 115 [.ref this, .int x1, .int x2, .int x3] h (c_B_dense h this x1 x2 x3) := by
  refine MM.of (by decide) rfl (by decide) (Nat.le_of_ble_eq_true rfl) (own := RX1) (cc := cX1_dense) (maxL := 5) (lev := 115) (rt := (some .int)) (ini := false) ?_
  show Sim Y_B_dense h 0 [(0, .ref this), (1, .int x1), (2, .int x2), (3, .int x3)] [] _
  unfold c_B_dense
  refine x_grd ?_
  refine x_aload_nR (pc := 0) (a := this) 0 rfl rfl dX1_dense_0 ?_
  refine x_iload_n (pc := 1) 1 rfl rfl dX1_dense_1 ?_
  refine x_callV (pc := 2) (As := [.int x1]) (rest := []) (lev' := 2) si_X1_186 (m_B_isRow h this x1) (fun z e => grd1 e) rfl rfl (by decide) (cat4 (Nat.le_of_ble_eq_true rfl)) dX1_dense_2 (kI (fun v2 h1 => ?_)) xNo
  refine x_if_eq (pc := 5) 46 (by decide) dX1_dense_5 ?_ ?_
  · exact w_B_dense_j46 h1 this x1 x2 x3
  · refine x_iload_n (pc := 8) 3 rfl rfl dX1_dense_8 ?_
    refine x_if_le (pc := 9) 46 (by decide) dX1_dense_9 ?_ ?_
    · exact w_B_dense_j46 h1 this x1 x2 x3
    · refine x_iload_n (pc := 12) 2 rfl rfl dX1_dense_12 ?_
      refine x_if_lt (pc := 13) 46 (by decide) dX1_dense_13 ?_ ?_
      · exact w_B_dense_j46 h1 this x1 x2 x3
      · refine x_iload_n (pc := 16) 3 rfl rfl dX1_dense_16 ?_
        refine x_aload_nR (pc := 17) (a := this) 0 rfl rfl dX1_dense_17 ?_
        refine x_iload_n (pc := 18) 1 rfl rfl dX1_dense_18 ?_
        refine x_callV (pc := 19) (As := [.int x1]) (rest := [.int x3]) (lev' := 114) si_X1_204 (m_B_rope h1 this x1) (fun z e => grd1 e) rfl rfl (by decide) (cat4 (Nat.le_of_ble_eq_true rfl)) dX1_dense_19 (kQ (fun v4 h3 => ?_)) xNo
        refine x_nn (fun a5 e6 => ?_)
        subst e6
        refine x_callV (pc := 22) (As := []) (rest := [.int x3]) (lev' := 1) si_X1_194 (m_R_wide h3 a5) (fun z e => grd1 e) rfl rfl (by decide) (cat4 (Nat.le_of_ble_eq_true rfl)) dX1_dense_22 (kI (fun v8 h7 => ?_)) xNo
        refine x_icmp_gt (pc := 25) 46 (by decide) dX1_dense_25 ?_ ?_
        · exact w_B_dense_j46 h7 this x1 x2 x3
        · refine x_iload_n (pc := 28) 2 rfl rfl dX1_dense_28 ?_
          refine x_aload_nR (pc := 29) (a := this) 0 rfl rfl dX1_dense_29 ?_
          refine x_iload_n (pc := 30) 1 rfl rfl dX1_dense_30 ?_
          refine x_callV (pc := 31) (As := [.int x1]) (rest := [.int x2]) (lev' := 114) si_X1_204 (m_B_rope h7 this x1) (fun z e => grd1 e) rfl rfl (by decide) (cat4 (Nat.le_of_ble_eq_true rfl)) dX1_dense_31 (kQ (fun v10 h9 => ?_)) xNo
          refine x_nn (fun a11 e12 => ?_)
          subst e12
          refine x_callV (pc := 34) (As := []) (rest := [.int x2]) (lev' := 1) si_X1_194 (m_R_wide h9 a11) (fun z e => grd1 e) rfl rfl (by decide) (cat4 (Nat.le_of_ble_eq_true rfl)) dX1_dense_34 (kI (fun v14 h13 => ?_)) xNo
          refine x_iload_n (pc := 37) 3 rfl rfl dX1_dense_37 ?_
          refine x_isub (pc := 38) dX1_dense_38 ?_
          refine x_icmp_gt (pc := 39) 46 (by decide) dX1_dense_39 ?_ ?_
          · exact w_B_dense_j46 h13 this x1 x2 x3
          · refine x_iconst (pc := 42) (v := 1) (by decide) dX1_dense_42 ?_
            refine x_goto (pc := 43) 47 (by decide) dX1_dense_43 ?_
            exact w_B_dense_j47 h13 this x1 x2 x3 (1 : Int32)
abbrev Y_B_load : Yx := (RX1, cX1_load, 3, 115, (some .int), [], false)
def c_B_load_j24 (h : PH) (this : Nat) (x1 : Int32) (s0 : Int32) : Option RH :=
  hV (c_B_must h s0) rX fun h1 =>
  hQ (c_B_rope h1 this x1) noX fun v3 h2 =>
  nn v3 fun a4 =>
  hI (c_R_cost h2 a4) noX fun v7 h6 =>
  nm (FP.i2f ((32 : Int32) * v7)) fun y8 =>
  hQ (c_B_rope h6 this x1) noX fun v10 h9 =>
  nn v10 fun a11 =>
  hI (c_R_wide h9 a11) noX fun v14 h13 =>
  nnF (FP.fdiv y8 (FP.i2f v14)) <|
  hI (c_J10_floatToIntBits h13 (FP.fdiv y8 (FP.i2f v14))) noX fun v16 h15 =>
  rI v16 h15
def c_B_load_j23 (h : PH) (this : Nat) (x1 : Int32) : Option RH :=
  c_B_load_j24 h this x1 (0 : Int32)
def c_B_load (h : PH) (this : Nat) (x1 : Int32) : Option RH :=
  grd h this [0] (
  hI (c_B_isRow h this x1) noX fun v2 h1 =>
  if v2 = 0 then
    c_B_load_j23 h1 this x1
  else
    hQ (c_B_rope h1 this x1) noX fun v4 h3 =>
    nn v4 fun a5 =>
    hI (c_R_wide h3 a5) noX fun v8 h7 =>
    if v8 ≤ 0 then
      c_B_load_j23 h7 this x1
    else
      c_B_load_j24 h7 this x1 (1 : Int32))
set_option maxHeartbeats 4000000 in
theorem w_B_load_j24 (h : PH) (this : Nat) (x1 : Int32) (s0 : Int32) : Sim Y_B_load h 24 [(0, .ref this), (1, .int x1)] [.int s0] (c_B_load_j24 h this x1 s0) := by
  unfold c_B_load_j24
  refine x_callS (pc := 24) (As := [.int s0]) (rest := []) (lev' := 12) si_X1_229 (m_B_must h s0) rfl rfl (by decide) (cat4 (Nat.le_of_ble_eq_true rfl)) dX1_load_24 (kV (fun h1 => ?_)) (xOut (by decide))
  refine x_bipush (pc := 27) (v := 32) (by decide) dX1_load_27 ?_
  refine x_aload_nR (pc := 29) (a := this) 0 rfl rfl dX1_load_29 ?_
  refine x_iload_n (pc := 30) 1 rfl rfl dX1_load_30 ?_
  refine x_callV (pc := 31) (As := [.int x1]) (rest := [.int (32 : Int32)]) (lev' := 114) si_X1_204 (m_B_rope h1 this x1) (fun z e => grd1 e) rfl rfl (by decide) (cat4 (Nat.le_of_ble_eq_true rfl)) dX1_load_31 (kQ (fun v3 h2 => ?_)) xNo
  refine x_nn (fun a4 e5 => ?_)
  subst e5
  refine x_callV (pc := 34) (As := []) (rest := [.int (32 : Int32)]) (lev' := 9) si_X1_257 (m_R_cost h2 a4) (fun z e => grd1 e) rfl rfl (by decide) (cat4 (Nat.le_of_ble_eq_true rfl)) dX1_load_34 (kI (fun v7 h6 => ?_)) xNo
  refine x_imul (pc := 37) dX1_load_37 ?_
  refine x_i2f (pc := 38) dX1_load_38 ?_
  refine x_nmF (fun y8 => ?_)
  refine x_fstore_n (pc := 39) (lv' := [(2, .float y8), (0, .ref this), (1, .int x1)]) rfl (by decide) rfl dX1_load_39 ?_
  refine x_fload_n (pc := 40) 0 rfl rfl dX1_load_40 ?_
  refine x_aload_nR (pc := 41) (a := this) 1 rfl rfl dX1_load_41 ?_
  refine x_iload_n (pc := 42) 2 rfl rfl dX1_load_42 ?_
  refine x_callV (pc := 43) (As := [.int x1]) (rest := [.float y8]) (lev' := 114) si_X1_204 (m_B_rope h6 this x1) (fun z e => grd1 e) rfl rfl (by decide) (cat4 (Nat.le_of_ble_eq_true rfl)) dX1_load_43 (kQ (fun v10 h9 => ?_)) xNo
  refine x_nn (fun a11 e12 => ?_)
  subst e12
  refine x_callV (pc := 46) (As := []) (rest := [.float y8]) (lev' := 1) si_X1_194 (m_R_wide h9 a11) (fun z e => grd1 e) rfl rfl (by decide) (cat4 (Nat.le_of_ble_eq_true rfl)) dX1_load_46 (kI (fun v14 h13 => ?_)) xNo
  refine x_i2f (pc := 49) dX1_load_49 ?_
  refine x_fdiv (pc := 50) dX1_load_50 ?_
  refine x_callS (pc := 51) (As := [.float (FP.fdiv y8 (FP.i2f v14))]) (rest := []) (lev' := 9) si_X1_263 (m_J10_floatToIntBits h13 (FP.fdiv y8 (FP.i2f v14))) rfl rfl (by decide) (cat4 (Nat.le_of_ble_eq_true rfl)) dX1_load_51 (kI (fun v16 h15 => ?_)) xNo
  exact x_iret (pc := 54) dX1_load_54
set_option maxHeartbeats 4000000 in
theorem w_B_load_j23 (h : PH) (this : Nat) (x1 : Int32) : Sim Y_B_load h 23 [(0, .ref this), (1, .int x1)] [] (c_B_load_j23 h this x1) := by
  unfold c_B_load_j23
  refine x_iconst (pc := 23) (v := 0) (by decide) dX1_load_23 ?_
  exact w_B_load_j24 h this x1 (0 : Int32)
set_option maxHeartbeats 4000000 in
theorem m_B_load (h : PH) (this : Nat) (x1 : Int32) : MM yX1_load (ws_ yX1_load cX1_load 3 (some .int)) 115 [.ref this, .int x1] h (c_B_load h this x1) := by
  refine MM.of (by decide) rfl (by decide) (Nat.le_of_ble_eq_true rfl) (own := RX1) (cc := cX1_load) (maxL := 3) (lev := 115) (rt := (some .int)) (ini := false) ?_
  show Sim Y_B_load h 0 [(0, .ref this), (1, .int x1)] [] _
  unfold c_B_load
  refine x_grd ?_
  refine x_aload_nR (pc := 0) (a := this) 0 rfl rfl dX1_load_0 ?_
  refine x_iload_n (pc := 1) 1 rfl rfl dX1_load_1 ?_
  refine x_callV (pc := 2) (As := [.int x1]) (rest := []) (lev' := 2) si_X1_186 (m_B_isRow h this x1) (fun z e => grd1 e) rfl rfl (by decide) (cat4 (Nat.le_of_ble_eq_true rfl)) dX1_load_2 (kI (fun v2 h1 => ?_)) xNo
  refine x_if_eq (pc := 5) 23 (by decide) dX1_load_5 ?_ ?_
  · exact w_B_load_j23 h1 this x1
  · refine x_aload_nR (pc := 8) (a := this) 0 rfl rfl dX1_load_8 ?_
    refine x_iload_n (pc := 9) 1 rfl rfl dX1_load_9 ?_
    refine x_callV (pc := 10) (As := [.int x1]) (rest := []) (lev' := 114) si_X1_204 (m_B_rope h1 this x1) (fun z e => grd1 e) rfl rfl (by decide) (cat4 (Nat.le_of_ble_eq_true rfl)) dX1_load_10 (kQ (fun v4 h3 => ?_)) xNo
    refine x_nn (fun a5 e6 => ?_)
    subst e6
    refine x_callV (pc := 13) (As := []) (rest := []) (lev' := 1) si_X1_194 (m_R_wide h3 a5) (fun z e => grd1 e) rfl rfl (by decide) (cat4 (Nat.le_of_ble_eq_true rfl)) dX1_load_13 (kI (fun v8 h7 => ?_)) xNo
    refine x_if_le (pc := 16) 23 (by decide) dX1_load_16 ?_ ?_
    · exact w_B_load_j23 h7 this x1
    · refine x_iconst (pc := 19) (v := 1) (by decide) dX1_load_19 ?_
      refine x_goto (pc := 20) 24 (by decide) dX1_load_20 ?_
      exact w_B_load_j24 h7 this x1 (1 : Int32)
abbrev Y_J11_isNaN : Yx := (RJ11, cJ11_isNaN, 2, 1, (some .boolean), [], false)
def c_J11_isNaN (h : PH) (x0 : UInt64) : Option RH :=
  if (Op.cmpValue (FP.dcmp x0 x0) .l) = 0 then
    rZ (0 : Int32) h
  else
    rZ (1 : Int32) h
set_option maxHeartbeats 4000000 in
theorem m_J11_isNaN (h : PH) (x0 : UInt64) : MM yJ11_isNaN (ws_ yJ11_isNaN cJ11_isNaN 2 (some .boolean)) 1 [.double x0] h (c_J11_isNaN h x0) := by
  refine MM.of (by decide) rfl (by decide) (Nat.le_of_ble_eq_true rfl) (own := RJ11) (cc := cJ11_isNaN) (maxL := 2) (lev := 1) (rt := (some .boolean)) (ini := false) ?_
  show Sim Y_J11_isNaN h 0 [(0, .double x0)] [] _
  unfold c_J11_isNaN
  refine x_dload_n (pc := 0) 0 rfl rfl dJ11_isNaN_0 ?_
  refine x_dload_n (pc := 1) 0 rfl rfl dJ11_isNaN_1 ?_
  refine x_dcmp (pc := 2) dJ11_isNaN_2 ?_
  refine x_if_eq (pc := 3) 10 (by decide) dJ11_isNaN_3 ?_ ?_
  · refine x_iconst (pc := 10) (v := 0) (by decide) dJ11_isNaN_10 ?_
    exact x_zret (pc := 11) dJ11_isNaN_11
  · refine x_iconst (pc := 6) (v := 1) (by decide) dJ11_isNaN_6 ?_
    refine x_goto (pc := 7) 11 (by decide) dJ11_isNaN_7 ?_
    exact x_zret (pc := 11) dJ11_isNaN_11
theorem si_J11_122 : SiS RJ11 122 yJ11_isNaN cJ11_isNaN 2 (some .boolean) 1 := ⟨lw_S q1657 q1658 q136 q1659, ⟨by decide, by decide, by decide +kernel⟩, by decide⟩
abbrev Y_J11_doubleToLongBits : Yx := (RJ11, cJ11_doubleToLongBits, 2, 9, (some .long), [], false)
def c_J11_doubleToLongBits (h : PH) (x0 : UInt64) : Option RH :=
  hI (c_J11_isNaN h x0) noX fun v2 h1 =>
  if v2 = 0 then
    rL x0.toInt64 h1
  else
    rL (9221120237041090560 : Int64) h1
set_option maxHeartbeats 4000000 in
theorem m_J11_doubleToLongBits (h : PH) (x0 : UInt64) : MM yJ11_doubleToLongBits (ws_ yJ11_doubleToLongBits cJ11_doubleToLongBits 2 (some .long)) 9 [.double x0] h (c_J11_doubleToLongBits h x0) := by
  refine MM.of (by decide) rfl (by decide) (Nat.le_of_ble_eq_true rfl) (own := RJ11) (cc := cJ11_doubleToLongBits) (maxL := 2) (lev := 9) (rt := (some .long)) (ini := false) ?_
  show Sim Y_J11_doubleToLongBits h 0 [(0, .double x0)] [] _
  unfold c_J11_doubleToLongBits
  refine x_dload_n (pc := 0) 0 rfl rfl dJ11_doubleToLongBits_0 ?_
  refine x_callS (pc := 1) (As := [.double x0]) (rest := []) (lev' := 1) si_J11_122 (m_J11_isNaN h x0) rfl rfl (by decide) (cat4 (Nat.le_of_ble_eq_true rfl)) dJ11_doubleToLongBits_1 (kI (fun v2 h1 => ?_)) xNo
  refine x_if_ne (pc := 4) 12 (by decide) dJ11_doubleToLongBits_4 ?_ ?_
  · refine x_ldc2 (pc := 12) (v := 9221120237041090560) q1663 dJ11_doubleToLongBits_12 ?_
    exact x_lret (pc := 15) dJ11_doubleToLongBits_15
  · refine x_dload_n (pc := 7) 0 rfl rfl dJ11_doubleToLongBits_7 ?_
    refine x_d2l (pc := 8) q1660 (by decide) (cat4 (Nat.le_of_ble_eq_true rfl)) dJ11_doubleToLongBits_8 ?_
    exact x_lret (pc := 11) dJ11_doubleToLongBits_11
