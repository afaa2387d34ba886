set_option maxRecDepth 100000
theorem ni_X5_46 : NI RX5 46 10 [.int 0, .int 0, .int 0, .null, .int 0] := ⟨_, _, _, _, ci_10, q751, q950, q131, by decide +kernel, rfl⟩
theorem si_X5_59 : SiI RX5 59 yX13_init cX13_init 2 1 := ⟨q953, q131, q951, q952, rfl, ⟨by decide, by decide, by decide +kernel⟩, by decide⟩
theorem fi_X5_35 : FI RX5 35 [4] 4 .int false true := (fi_c ci_4 (by decide) rfl rfl (Or.inl q296) (Or.inl rfl) (fun h => absurd h (by decide)) fi_n)
theorem si_X5_38 : SiVX RX5 38 4 yX5_build cX5_build 8 (some (.object "BitRopes$Node")) [(67, 73, 76, 55)] 2 := ⟨_, _, _, ci_4.1, by decide, lw_VW q914 q916 qs17 q116 q917, ⟨rfl, by decide, by decide, by decide +kernel⟩, by decide⟩
abbrev Y_R_build (d : Nat) : Yx := (RX5, cX5_build, 8, (100 + d + 1), (some (.object "BitRopes$Node")), [(67, 73, 76, 55)], false)
def c_R_build_j106 (rg : PH → Nat → Int32 → Int32 → Option RH) (h : PH) (x6 : Nat) : Option RH :=
  newO h 10 [.int 0, .int 0, .int 0, .null, .int 0] fun a1 h2 =>
  hV (c_I_init h2 a1 x6) noX fun h3 =>
  rQ (some a1) h3
def c_R_build_j59 (rg : PH → Nat → Int32 → Int32 → Option RH) (h : PH) (this : Nat) (x4 : Option Nat) (x5 : Option Nat) (s0 : Nat) : Option RH :=
  stQ h s0 (0 : Int32) x4 fun h1 =>
  nn x5 fun a3 =>
  stX h1 s0 (1 : Int32) a3 (fun h2 =>
    c_R_build_j106 rg h2 s0) (fun q5 h6 =>
    gI h6 this [4] 4 fun v7 =>
    pI h6 this [4] 4 (v7 + (1 : Int32)) fun h8 =>
    newA h8 5 (2 : Int32) (.inr (.inr (.inr (.inr (fun _ => none))))) fun a9 h10 =>
    stQ h10 a9 (0 : Int32) x4 fun h11 =>
    stQ h11 a9 (1 : Int32) (some a3) fun h12 =>
    c_R_build_j106 rg h12 a9)
def b_R_build (rg : PH → Nat → Int32 → Int32 → Option RH) (h : PH) (this : Nat) (x1 : Int32) (x2 : Int32) : Option RH :=
  grd h this [4] (
  if (x2 - x1) = (1 : Int32) then
    gQ h this [4] 0 fun v10 =>
    nn v10 fun a11 =>
    ldQ h a11 x1 fun v13 =>
    rQ v13 h
  else
    nz (2 : Int32) <|
    nm (x1 + (((x2 - x1) + (1 : Int32)) / (2 : Int32))) fun y1 =>
    hQ (grd h this [4] (rg h this x1 y1)) noX fun v3 h2 =>
    hQ (grd h2 this [4] (rg h2 this y1 x2)) noX fun v5 h4 =>
    iof h4 v3 9 10 (
      newA h4 4 (2 : Int32) (.inr (.inr (.inr (.inr (fun _ => none))))) fun a6 h7 =>
      c_R_build_j59 rg h7 this v3 v5 a6) (
      newA h4 6 (2 : Int32) (.inr (.inr (.inr (.inr (fun _ => none))))) fun a8 h9 =>
      c_R_build_j59 rg h9 this v3 v5 a8))
set_option maxHeartbeats 4000000 in
theorem w_R_build_j106 (rg : PH → Nat → Int32 → Int32 → Option RH) {d : Nat} (hrg : (∀ (h : PH) (this : Nat) (x1 : Int32) (x2 : Int32), MM yX5_build (wsW_ yX5_build cX5_build 8 (some (.object "BitRopes$Node")) [(67, 73, 76, 55)]) (100 + d) [.ref this, .int x1, .int x2] h (rg h this x1 x2))) (h : PH) (x6 : Nat) : Sim (Y_R_build d) h 106 [(6, .ref x6)] [] (c_R_build_j106 rg h x6) := by
  unfold c_R_build_j106
  refine x_new (pc := 106) ni_X5_46 dX5_build_106 ?_
  intro a1 h2
  refine x_dup (pc := 109) rfl dX5_build_109 ?_
  refine x_aloadR (pc := 110) (a := x6) 0 rfl dX5_build_110 ?_
  refine x_callI (pc := 112) (As := [.ref x6]) (rest := [.ref a1]) (lev' := 2) si_X5_59 (m_I_init h2 a1 x6) rfl rfl (by omega) (cat4 (Nat.le_of_ble_eq_true rfl)) dX5_build_112 (kV (fun h3 => ?_)) xNo
  exact x_aret (pc := 115) (v := (some a1)) (Or.inl ⟨_, rfl⟩) dX5_build_115
set_option maxHeartbeats 4000000 in
theorem w_R_build_j59 (rg : PH → Nat → Int32 → Int32 → Option RH) {d : Nat} (hrg : (∀ (h : PH) (this : Nat) (x1 : Int32) (x2 : Int32), MM yX5_build (wsW_ yX5_build cX5_build 8 (some (.object "BitRopes$Node")) [(67, 73, 76, 55)]) (100 + d) [.ref this, .int x1, .int x2] h (rg h this x1 x2))) (h : PH) (this : Nat) (x4 : Option Nat) (x5 : Option Nat) (s0 : Nat) : Sim (Y_R_build d) h 59 [(0, .ref this), (4, va_rf x4), (5, va_rf x5)] [.ref s0] (c_R_build_j59 rg h this x4 x5 s0) := by
  unfold c_R_build_j59
  refine x_astoreR (pc := 59) (a := s0) (lv' := [(6, .ref s0), (0, .ref this), (4, va_rf x4), (5, va_rf x5)]) (by decide) (by simp [rf_cat]) dX5_build_59 ?_
  refine x_aloadR (pc := 61) (a := s0) 0 rfl dX5_build_61 ?_
  refine x_iconst (pc := 63) (v := 0) (by decide) dX5_build_63 ?_
  refine x_aload (pc := 64) (r := x4) 2 rfl dX5_build_64 ?_
  refine x_aast (pc := 66) (r := x4) dX5_build_66 ?_
  intro h1
  refine x_aloadR (pc := 67) (a := s0) 0 rfl dX5_build_67 ?_
  refine x_iconst (pc := 69) (v := 1) (by decide) dX5_build_69 ?_
  refine x_aload (pc := 70) (r := x5) 3 rfl dX5_build_70 ?_
  refine x_nn (fun a3 e4 => ?_)
  subst e4
  refine x_aastX (pc := 72) (b := a3) rfl (by decide) (by decide) q918 (by omega) (cat4 (Nat.le_of_ble_eq_true rfl)) dX5_build_72 (fun h2 => ?_) (fun q5 h6 => ?_)
  · refine x_goto (pc := 73) 106 (by decide) dX5_build_73 ?_
    refine Sim.lv [0] rfl ?_
    exact w_R_build_j106 rg hrg h2 s0
  · refine x_astoreR (pc := 76) (a := q5) (lv' := [(7, .ref q5), (6, .ref s0), (0, .ref this), (4, va_rf x4), (5, .ref a3)]) (by decide) rfl dX5_build_76 ?_
    refine x_aload_nR (pc := 78) (a := this) 2 rfl rfl dX5_build_78 ?_
    refine x_dup (pc := 79) rfl dX5_build_79 ?_
    refine x_getI (pc := 80) fi_X5_35 dX5_build_80 ?_
    intro v7
    refine x_iconst (pc := 83) (v := 1) (by decide) dX5_build_83 ?_
    refine x_iadd (pc := 84) dX5_build_84 ?_
    refine x_pI (pc := 85) fi_X5_35 (fun z => absurd z (by decide)) dX5_build_85 ?_
    intro h8
    refine x_iconst (pc := 88) (v := 2) (by decide) dX5_build_88 ?_
    refine x_newaQ (pc := 89) (C := RX11) (t := 5) (by decide +kernel) q948 (fun G s hk => (hk.1.2 5 _ rfl).2.choose_spec.choose_spec.2.2.2) dX5_build_89 ?_
    intro a9 h10
    refine x_astoreR (pc := 92) (a := a9) (lv' := [(6, .ref a9), (7, .ref q5), (0, .ref this), (4, va_rf x4), (5, .ref a3)]) (by decide) rfl dX5_build_92 ?_
    refine x_aloadR (pc := 94) (a := a9) 0 rfl dX5_build_94 ?_
    refine x_iconst (pc := 96) (v := 0) (by decide) dX5_build_96 ?_
    refine x_aload (pc := 97) (r := x4) 3 rfl dX5_build_97 ?_
    refine x_aast (pc := 99) (r := x4) dX5_build_99 ?_
    intro h11
    refine x_aloadR (pc := 100) (a := a9) 0 rfl dX5_build_100 ?_
    refine x_iconst (pc := 102) (v := 1) (by decide) dX5_build_102 ?_
    refine x_aloadR (pc := 103) (a := a3) 4 rfl dX5_build_103 ?_
    refine x_aast (pc := 105) (r := (some a3)) dX5_build_105 ?_
    intro h12
    refine Sim.lv [0] rfl ?_
    exact w_R_build_j106 rg hrg h12 a9
set_option maxHeartbeats 4000000 in
theorem t_R_build (rg : PH → Nat → Int32 → Int32 → Option RH) {d : Nat} (hrg : (∀ (h : PH) (this : Nat) (x1 : Int32) (x2 : Int32), MM yX5_build (wsW_ yX5_build cX5_build 8 (some (.object "BitRopes$Node")) [(67, 73, 76, 55)]) (100 + d) [.ref this, .int x1, .int x2] h (rg h this x1 x2))) (h : PH) (this : Nat) (x1 : Int32) (x2 : Int32) : MM yX5_build (wsW_ yX5_build cX5_build 8 (some (.object "BitRopes$Node")) [(67, 73, 76, 55)]) (100 + d + 1) [.ref this, .int x1, .int x2] h (b_R_build rg h this x1 x2) := by
  refine MM.ofH (by decide) rfl (Nat.le_of_ble_eq_true rfl) (own := RX5) (cc := cX5_build) (maxL := 8) (lev := (100 + d + 1)) (rt := (some (.object "BitRopes$Node"))) (hh := [(67, 73, 76, 55)]) ?_
  show Sim (Y_R_build d) h 0 [(0, .ref this), (1, .int x1), (2, .int x2)] [] _
  unfold b_R_build
  refine x_grd ?_
  refine x_iload_n (pc := 0) 2 rfl rfl dX5_build_0 ?_
  refine x_iload_n (pc := 1) 1 rfl rfl dX5_build_1 ?_
  refine x_isub (pc := 2) dX5_build_2 ?_
  refine x_iconst (pc := 3) (v := 1) (by decide) dX5_build_3 ?_
  refine x_icmp_ne (pc := 4) 14 (by decide) dX5_build_4 ?_ ?_
  · refine x_iload_n (pc := 14) 1 rfl rfl dX5_build_14 ?_
    refine x_iload_n (pc := 15) 2 rfl rfl dX5_build_15 ?_
    refine x_iload_n (pc := 16) 1 rfl rfl dX5_build_16 ?_
    refine x_isub (pc := 17) dX5_build_17 ?_
    refine x_iconst (pc := 18) (v := 1) (by decide) dX5_build_18 ?_
    refine x_iadd (pc := 19) dX5_build_19 ?_
    refine x_iconst (pc := 20) (v := 2) (by decide) dX5_build_20 ?_
    refine x_idiv (pc := 21) dX5_build_21 ?_
    refine x_iadd (pc := 22) dX5_build_22 ?_
    refine x_nmI (fun y1 => ?_)
    refine x_istore_n (pc := 23) (lv' := [(3, .int y1), (0, .ref this), (1, .int x1), (2, .int x2)]) rfl (by decide) rfl dX5_build_23 ?_
    refine x_aload_nR (pc := 24) (a := this) 1 rfl rfl dX5_build_24 ?_
    refine x_iload_n (pc := 25) 2 rfl rfl dX5_build_25 ?_
    refine x_iload_n (pc := 26) 0 rfl rfl dX5_build_26 ?_
    refine x_callVX (pc := 27) (As := [.int x1, .int y1]) (rest := []) (lev' := (100 + d)) si_X5_38 (MM.grd (hrg h this x1 y1)) (fun z e => grd1 e) rfl rfl (by omega) (cat4 (Nat.le_of_ble_eq_true rfl)) dX5_build_27 (kQ (fun v3 h2 => ?_)) xNo
    refine x_astore (pc := 30) (r := v3) (lv' := [(4, va_rf v3), (3, .int y1), (0, .ref this), (1, .int x1), (2, .int x2)]) (by decide) rfl dX5_build_30 ?_
    refine x_aload_nR (pc := 32) (a := this) 2 rfl rfl dX5_build_32 ?_
    refine x_iload_n (pc := 33) 1 rfl rfl dX5_build_33 ?_
    refine x_iload_n (pc := 34) 4 rfl rfl dX5_build_34 ?_
    refine x_callVX (pc := 35) (As := [.int y1, .int x2]) (rest := []) (lev' := (100 + d)) si_X5_38 (MM.grd (hrg h2 this y1 x2)) (fun z e => grd1 e) rfl rfl (by omega) (cat4 (Nat.le_of_ble_eq_true rfl)) dX5_build_35 (kQ (fun v5 h4 => ?_)) xNo
    refine x_astore (pc := 38) (r := v5) (lv' := [(5, va_rf v5), (4, va_rf v3), (3, .int y1), (0, .ref this), (1, .int x1), (2, .int x2)]) (by decide) (by simp [rf_cat]) dX5_build_38 ?_
    refine x_aload (pc := 40) (r := v3) 1 rfl dX5_build_40 ?_
    refine x_inst (pc := 42) (r := v3) ci_9 ci_10 (by decide +kernel) q288 dX5_build_42 ?_ ?_
    · refine x_if_eqF (pc := 45) 55 (by decide) (by decide) dX5_build_45 ?_
      refine x_iconst (pc := 48) (v := 2) (by decide) dX5_build_48 ?_
      refine x_newaQ (pc := 49) (C := RX12) (t := 4) (by decide +kernel) q288 (fun G s hk => (hk.1.2 4 _ rfl).2.choose_spec.choose_spec.2.2.2) dX5_build_49 ?_
      intro a6 h7
      refine x_goto (pc := 52) 59 (by decide) dX5_build_52 ?_
      refine Sim.lv [3, 1, 0] rfl ?_
      exact w_R_build_j59 rg hrg h7 this v3 v5 a6
    · refine x_if_eqT (pc := 45) 55 (by decide) (by decide) dX5_build_45 ?_
      refine x_iconst (pc := 55) (v := 2) (by decide) dX5_build_55 ?_
      refine x_newaQ (pc := 56) (C := RX13) (t := 6) (by decide +kernel) q751 (fun G s hk => (hk.1.2 6 _ rfl).2.choose_spec.choose_spec.2.2.2) dX5_build_56 ?_
      intro a8 h9
      refine Sim.lv [3, 1, 0] rfl ?_
      exact w_R_build_j59 rg hrg h9 this v3 v5 a8
  · refine x_aload_nR (pc := 7) (a := this) 0 rfl rfl dX5_build_7 ?_
    refine x_getQ (pc := 8) fi_X5_11 dX5_build_8 ?_
    intro v10
    refine x_iload_n (pc := 11) 1 rfl rfl dX5_build_11 ?_
    refine x_nn (fun a11 e12 => ?_)
    subst e12
    refine x_aald (pc := 12) dX5_build_12 ?_
    intro v13
    exact x_aret (pc := 13) (v := v13) (Or.inl ⟨_, rfl⟩) dX5_build_13
def c_R_build : Nat → PH → Nat → Int32 → Int32 → Option RH := itr b_R_build (fun _ _ _ _ => none)
theorem m_R_build : ∀ (d : Nat) (h : PH) (this : Nat) (x1 : Int32) (x2 : Int32), MM yX5_build (wsW_ yX5_build cX5_build 8 (some (.object "BitRopes$Node")) [(67, 73, 76, 55)]) (100 + d) [.ref this, .int x1, .int x2] h (c_R_build d h this x1 x2)
  | 0, h, this, x1, x2 => MM.none
  | d + 1, h, this, x1, x2 => t_R_build (d := d) (c_R_build d) (m_R_build d) h this x1 x2
abbrev Y_R_ready : Yx := (RX5, cX5_ready, 1, 113, (some (.object "BitRopes$Rope")), [], false)
def c_R_ready (h : PH) (this : Nat) : Option RH :=
  grd h this [4] (
  gI h this [4] 2 fun v1 =>
  if v1 = 0 then
    pI h this [4] 4 (0 : Int32) fun h2 =>
    gI h2 this [4] 5 fun v3 =>
    if v3 = 0 then
      pQ h2 this [4] 1 none fun h9 =>
      pZ h9 this [4] 2 (1 : Int32) fun h10 =>
      rQ (some this) h10
    else
      gI h2 this [4] 5 fun v4 =>
      hQ (grd h2 this [4] (c_R_build 12 h2 this (0 : Int32) v4)) noX fun v6 h5 =>
      pQ h5 this [4] 1 v6 fun h7 =>
      pZ h7 this [4] 2 (1 : Int32) fun h8 =>
      rQ (some this) h8
  else
    rQ (some this) h)
set_option maxHeartbeats 4000000 in
theorem m_R_ready (h : PH) (this : Nat) : MM yX5_ready (ws_ yX5_ready cX5_ready 1 (some (.object "BitRopes$Rope"))) 113 [.ref this] h (c_R_ready h this) := by
  refine MM.of (by decide) rfl (by decide) (Nat.le_of_ble_eq_true rfl) (own := RX5) (cc := cX5_ready) (maxL := 1) (lev := 113) (rt := (some (.object "BitRopes$Rope"))) (ini := false) ?_
  show Sim Y_R_ready h 0 [(0, .ref this)] [] _
  unfold c_R_ready
  refine x_grd ?_
  refine x_aload_nR (pc := 0) (a := this) 0 rfl rfl dX5_ready_0 ?_
  refine x_getI (pc := 1) fi_X5_31 dX5_ready_1 ?_
  intro v1
  refine x_if_eq (pc := 4) 9 (by decide) dX5_ready_4 ?_ ?_
  · refine x_aload_nR (pc := 9) (a := this) 0 rfl rfl dX5_ready_9 ?_
    refine x_iconst (pc := 10) (v := 0) (by decide) dX5_ready_10 ?_
    refine x_pI (pc := 11) fi_X5_35 (fun z => absurd z (by decide)) dX5_ready_11 ?_
    intro h2
    refine x_aload_nR (pc := 14) (a := this) 0 rfl rfl dX5_ready_14 ?_
    refine x_aload_nR (pc := 15) (a := this) 0 rfl rfl dX5_ready_15 ?_
    refine x_getI (pc := 16) fi_X5_24 dX5_ready_16 ?_
    intro v3
    refine x_if_ne (pc := 19) 26 (by decide) dX5_ready_19 ?_ ?_
    · refine x_aload_nR (pc := 26) (a := this) 0 rfl rfl dX5_ready_26 ?_
      refine x_iconst (pc := 27) (v := 0) (by decide) dX5_ready_27 ?_
      refine x_aload_nR (pc := 28) (a := this) 0 rfl rfl dX5_ready_28 ?_
      refine x_getI (pc := 29) fi_X5_24 dX5_ready_29 ?_
      intro v4
      refine x_callVX (pc := 32) (As := [.int (0 : Int32), .int v4]) (rest := [.ref this]) (lev' := (100 + 12)) si_X5_38 (MM.grd (m_R_build 12 h2 this (0 : Int32) v4)) (fun z e => grd1 e) rfl rfl (by omega) (cat4 (Nat.le_of_ble_eq_true rfl)) dX5_ready_32 (kQ (fun v6 h5 => ?_)) xNo
      refine x_pQ (pc := 35) (v := v6) fi_X5_27 (fun z => absurd z (by decide)) dX5_ready_35 ?_
      intro h7
      refine x_aload_nR (pc := 38) (a := this) 0 rfl rfl dX5_ready_38 ?_
      refine x_iconst (pc := 39) (v := 1) (by decide) dX5_ready_39 ?_
      refine x_pZ (pc := 40) fi_X5_31 (fun z => absurd z (by decide)) dX5_ready_40 ?_
      intro h8
      refine x_aload_nR (pc := 43) (a := this) 0 rfl rfl dX5_ready_43 ?_
      exact x_aret (pc := 44) (v := (some this)) (Or.inl ⟨_, rfl⟩) dX5_ready_44
    · refine x_null (pc := 22) dX5_ready_22 ?_
      refine x_goto (pc := 23) 35 (by decide) dX5_ready_23 ?_
      refine x_pQ (pc := 35) (v := none) fi_X5_27 (fun z => absurd z (by decide)) dX5_ready_35 ?_
      intro h9
      refine x_aload_nR (pc := 38) (a := this) 0 rfl rfl dX5_ready_38 ?_
      refine x_iconst (pc := 39) (v := 1) (by decide) dX5_ready_39 ?_
      refine x_pZ (pc := 40) fi_X5_31 (fun z => absurd z (by decide)) dX5_ready_40 ?_
      intro h10
      refine x_aload_nR (pc := 43) (a := this) 0 rfl rfl dX5_ready_43 ?_
      exact x_aret (pc := 44) (v := (some this)) (Or.inl ⟨_, rfl⟩) dX5_ready_44
  · refine x_aload_nR (pc := 7) (a := this) 0 rfl rfl dX5_ready_7 ?_
    exact x_aret (pc := 8) (v := (some this)) (Or.inl ⟨_, rfl⟩) dX5_ready_8
abbrev Y_R_get : Yx := (RX5, cX5_get, 6, 3, (some .int), [], false)
def c_R_get_j91 (r34 : PH → Option Nat → Int32 → Option RH) (h : PH) (x3 : Int32) (x4 : Nat) (x5 : Int32) : Option RH :=
  gQ h x4 [10] 3 fun v1 =>
  if x5 = 0 then
    nn v1 fun a2 =>
    ldQ h a2 (1 : Int32) fun v4 =>
    r34 h v4 x3
  else
    nn v1 fun a5 =>
    ldQ h a5 (0 : Int32) fun v7 =>
    r34 h v7 x3
def c_R_get_j71 (r34 : PH → Option Nat → Int32 → Option RH) (h : PH) (x3 : Int32) (x4 : Nat) (s0 : Int32) : Option RH :=
  if s0 = 0 then
    gQ h x4 [10] 3 fun v1 =>
    nn v1 fun a2 =>
    ldQ h a2 (0 : Int32) fun v4 =>
    nn v4 fun a5 =>
    gI h a5 [9, 10] 0 fun v7 =>
    nm (x3 - v7) fun y8 =>
    c_R_get_j91 r34 h y8 x4 s0
  else
    c_R_get_j91 r34 h x3 x4 s0
def c_R_get_l34 (r34 : PH → Option Nat → Int32 → Option RH) (h : PH) (x2 : Option Nat) (x3 : Int32) : Option RH :=
  iof h x2 10 9 (
    nn x2 fun a1 =>
    grd h a1 [10] <|
    hV (c_I_push h a1) noX fun h3 =>
    gQ h3 a1 [10] 3 fun v4 =>
    nn v4 fun a5 =>
    ldQ h3 a5 (0 : Int32) fun v7 =>
    nn v7 fun a8 =>
    gI h3 a8 [9, 10] 0 fun v10 =>
    if v10 ≤ x3 then
      c_R_get_j71 r34 h3 x3 a1 (0 : Int32)
    else
      c_R_get_j71 r34 h3 x3 a1 (1 : Int32)) (
    nn x2 fun a11 =>
    grd h a11 [9] <|
    hI (c_L_get h a11 x3) noX fun v14 h13 =>
    rI v14 h13)
def c_R_get (h : PH) (this : Nat) (x1 : Int32) : Option RH :=
  grd h this [4] (
  gI h this [4] 2 fun v1 =>
  if v1 = 0 then
    hI (c_R_leafOf h this x1) noX fun v4 h3 =>
    gQ h3 this [4] 0 fun v5 =>
    nn v5 fun a6 =>
    ldQ h3 a6 v4 fun v8 =>
    gI h3 this [4] 8 fun v9 =>
    nn v8 fun a10 =>
    hI (c_L_get h3 a10 v9) noX fun v13 h12 =>
    rI v13 h12
  else
    gQ h this [4] 1 fun v2 =>
    itr (c_R_get_l34) (fun _ _ _ => none) FU h v2 x1)
set_option maxHeartbeats 4000000 in
theorem w_R_get_j91 (r34 : PH → Option Nat → Int32 → Option RH) (hr34 : ∀ (h : PH) (x2 : Option Nat) (x3 : Int32), Sim Y_R_get h 34 [(2, va_rf x2), (3, .int x3)] [] (r34 h x2 x3)) (h : PH) (x3 : Int32) (x4 : Nat) (x5 : Int32) : Sim Y_R_get h 91 [(3, .int x3), (4, .ref x4), (5, .int x5)] [] (c_R_get_j91 r34 h x3 x4 x5) := by
  unfold c_R_get_j91
  refine x_aloadR (pc := 91) (a := x4) 1 rfl dX5_get_91 ?_
  refine x_getQ (pc := 93) fi_X5_51 dX5_get_93 ?_
  intro v1
  refine x_iload (pc := 96) 2 rfl dX5_get_96 ?_
  refine x_if_eq (pc := 98) 105 (by decide) dX5_get_98 ?_ ?_
  · refine x_iconst (pc := 105) (v := 1) (by decide) dX5_get_105 ?_
    refine x_nn (fun a2 e3 => ?_)
    subst e3
    refine x_aald (pc := 106) dX5_get_106 ?_
    intro v4
    refine x_astore_n (pc := 107) (r := v4) (lv' := [(2, va_rf v4), (3, .int x3), (4, .ref x4), (5, .int x5)]) rfl (by decide) rfl dX5_get_107 ?_
    refine x_goto (pc := 108) 34 (by decide) dX5_get_108 ?_
    refine Sim.lv [0, 1] rfl ?_
    exact hr34 h v4 x3
  · refine x_iconst (pc := 101) (v := 0) (by decide) dX5_get_101 ?_
    refine x_goto (pc := 102) 106 (by decide) dX5_get_102 ?_
    refine x_nn (fun a5 e6 => ?_)
    subst e6
    refine x_aald (pc := 106) dX5_get_106 ?_
    intro v7
    refine x_astore_n (pc := 107) (r := v7) (lv' := [(2, va_rf v7), (3, .int x3), (4, .ref x4), (5, .int x5)]) rfl (by decide) rfl dX5_get_107 ?_
    refine x_goto (pc := 108) 34 (by decide) dX5_get_108 ?_
    refine Sim.lv [0, 1] rfl ?_
    exact hr34 h v7 x3
set_option maxHeartbeats 4000000 in
theorem w_R_get_j71 (r34 : PH → Option Nat → Int32 → Option RH) (hr34 : ∀ (h : PH) (x2 : Option Nat) (x3 : Int32), Sim Y_R_get h 34 [(2, va_rf x2), (3, .int x3)] [] (r34 h x2 x3)) (h : PH) (x3 : Int32) (x4 : Nat) (s0 : Int32) : Sim Y_R_get h 71 [(3, .int x3), (4, .ref x4)] [.int s0] (c_R_get_j71 r34 h x3 x4 s0) := by
  unfold c_R_get_j71
  refine x_istore (pc := 71) (lv' := [(5, .int s0), (3, .int x3), (4, .ref x4)]) (by decide) rfl dX5_get_71 ?_
  refine x_iload (pc := 73) 0 rfl dX5_get_73 ?_
  refine x_if_ne (pc := 75) 91 (by decide) dX5_get_75 ?_ ?_
  · refine Sim.lv [1, 2, 0] rfl ?_
    exact w_R_get_j91 r34 hr34 h x3 x4 s0
  · refine x_iload_n (pc := 78) 1 rfl rfl dX5_get_78 ?_
    refine x_aloadR (pc := 79) (a := x4) 2 rfl dX5_get_79 ?_
    refine x_getQ (pc := 81) fi_X5_51 dX5_get_81 ?_
    intro v1
    refine x_iconst (pc := 84) (v := 0) (by decide) dX5_get_84 ?_
    refine x_nn (fun a2 e3 => ?_)
    subst e3
    refine x_aald (pc := 85) dX5_get_85 ?_
    intro v4
    refine x_nn (fun a5 e6 => ?_)
    subst e6
    refine x_getI (pc := 86) fi_X5_75 dX5_get_86 ?_
    intro v7
    refine x_isub (pc := 89) dX5_get_89 ?_
    refine x_nmI (fun y8 => ?_)
    refine x_istore_n (pc := 90) (lv' := [(3, .int y8), (5, .int s0), (4, .ref x4)]) rfl (by decide) rfl dX5_get_90 ?_
    refine Sim.lv [0, 2, 1] rfl ?_
    exact w_R_get_j91 r34 hr34 h y8 x4 s0
set_option maxHeartbeats 4000000 in
theorem w_R_get_l34 (r34 : PH → Option Nat → Int32 → Option RH) (hr34 : ∀ (h : PH) (x2 : Option Nat) (x3 : Int32), Sim Y_R_get h 34 [(2, va_rf x2), (3, .int x3)] [] (r34 h x2 x3)) (h : PH) (x2 : Option Nat) (x3 : Int32) : Sim Y_R_get h 34 [(2, va_rf x2), (3, .int x3)] [] (c_R_get_l34 r34 h x2 x3) := by
  unfold c_R_get_l34
  refine x_aload_n (pc := 34) (r := x2) 0 rfl rfl dX5_get_34 ?_
  refine x_inst (pc := 35) (r := x2) ci_10 ci_9 (by decide +kernel) q751 dX5_get_35 ?_ ?_
  · refine x_if_eqF (pc := 38) 111 (by decide) (by decide) dX5_get_38 ?_
    refine x_aload_n (pc := 41) (r := x2) 0 rfl rfl dX5_get_41 ?_
    refine x_nn (fun a1 e2 => ?_)
    subst e2
    refine x_cast (pc := 42) ci_10 q751 dX5_get_42 ?_
    refine x_astoreR (pc := 45) (a := a1) (lv' := [(4, .ref a1), (2, .ref a1), (3, .int x3)]) (by decide) rfl dX5_get_45 ?_
    refine x_aloadR (pc := 47) (a := a1) 0 rfl dX5_get_47 ?_
    refine x_callV (pc := 49) (As := []) (rest := []) (lev' := 2) si_X5_48 (m_I_push h a1) (fun z e => grd1 e) rfl rfl (by decide) (cat4 (Nat.le_of_ble_eq_true rfl)) dX5_get_49 (kV (fun h3 => ?_)) xNo
    refine x_iload_n (pc := 52) 2 rfl rfl dX5_get_52 ?_
    refine x_aloadR (pc := 53) (a := a1) 0 rfl dX5_get_53 ?_
    refine x_getQ (pc := 55) fi_X5_51 dX5_get_55 ?_
    intro v4
    refine x_iconst (pc := 58) (v := 0) (by decide) dX5_get_58 ?_
    refine x_nn (fun a5 e6 => ?_)
    subst e6
    refine x_aald (pc := 59) dX5_get_59 ?_
    intro v7
    refine x_nn (fun a8 e9 => ?_)
    subst e9
    refine x_getI (pc := 60) fi_X5_75 dX5_get_60 ?_
    intro v10
    refine x_icmp_ge (pc := 63) 70 (by decide) dX5_get_63 ?_ ?_
    · refine x_iconst (pc := 70) (v := 0) (by decide) dX5_get_70 ?_
      refine Sim.lv [2, 0] rfl ?_
      exact w_R_get_j71 r34 hr34 h3 x3 a1 (0 : Int32)
    · refine x_iconst (pc := 66) (v := 1) (by decide) dX5_get_66 ?_
      refine x_goto (pc := 67) 71 (by decide) dX5_get_67 ?_
      refine Sim.lv [2, 0] rfl ?_
      exact w_R_get_j71 r34 hr34 h3 x3 a1 (1 : Int32)
  · refine x_if_eqT (pc := 38) 111 (by decide) (by decide) dX5_get_38 ?_
    refine x_aload_n (pc := 111) (r := x2) 0 rfl rfl dX5_get_111 ?_
    refine x_nn (fun a11 e12 => ?_)
    subst e12
    refine x_cast (pc := 112) ci_9 q288 dX5_get_112 ?_
    refine x_iload_n (pc := 115) 1 rfl rfl dX5_get_115 ?_
    refine x_callV (pc := 116) (As := [.int x3]) (rest := []) (lev' := 1) si_X5_72 (m_L_get h a11 x3) (fun z e => grd1 e) rfl rfl (by decide) (cat4 (Nat.le_of_ble_eq_true rfl)) dX5_get_116 (kI (fun v14 h13 => ?_)) xNo
    exact x_iret (pc := 119) dX5_get_119
set_option maxHeartbeats 4000000 in
theorem v_R_get_l34 : ∀ (n : Nat) (h : PH) (x2 : Option Nat) (x3 : Int32), Sim Y_R_get h 34 [(2, va_rf x2), (3, .int x3)] [] (itr (c_R_get_l34) (fun _ _ _ => none) n h x2 x3)
  | 0, h, x2, x3 => Sim.none
  | n + 1, h, x2, x3 => w_R_get_l34 _ (v_R_get_l34 n) h x2 x3
set_option maxHeartbeats 4000000 in
theorem m_R_get (h : PH) (this : Nat) (x1 : Int32) : MM yX5_get (ws_ yX5_get cX5_get 6 (some .int)) 3 [.ref this, .int x1] h (c_R_get h this x1) := by
  refine MM.of (by decide) rfl (by decide) (Nat.le_of_ble_eq_true rfl) (own := RX5) (cc := cX5_get) (maxL := 6) (lev := 3) (rt := (some .int)) (ini := false) ?_
  show Sim Y_R_get h 0 [(0, .ref this), (1, .int x1)] [] _
  unfold c_R_get
  refine x_grd ?_
  refine x_aload_nR (pc := 0) (a := this) 0 rfl rfl dX5_get_0 ?_
  refine x_getI (pc := 1) fi_X5_31 dX5_get_1 ?_
  intro v1
  refine x_if_ne (pc := 4) 27 (by decide) dX5_get_4 ?_ ?_
  · refine x_aload_nR (pc := 27) (a := this) 0 rfl rfl dX5_get_27 ?_
    refine x_getQ (pc := 28) fi_X5_27 dX5_get_28 ?_
    intro v2
    refine x_astore_n (pc := 31) (r := v2) (lv' := [(2, va_rf v2), (0, .ref this), (1, .int x1)]) rfl (by decide) rfl dX5_get_31 ?_
    refine x_iload_n (pc := 32) 2 rfl rfl dX5_get_32 ?_
    refine x_istore_n (pc := 33) (lv' := [(3, .int x1), (2, va_rf v2), (0, .ref this), (1, .int x1)]) (i := 3) rfl (by decide) (by simp [rf_cat]) dX5_get_33 ?_
    refine Sim.lv [1, 0] rfl ?_
    exact v_R_get_l34 FU h v2 x1
  · refine x_aload_nR (pc := 7) (a := this) 0 rfl rfl dX5_get_7 ?_
    refine x_iload_n (pc := 8) 1 rfl rfl dX5_get_8 ?_
    refine x_callV (pc := 9) (As := [.int x1]) (rest := []) (lev' := 1) si_X5_68 (m_R_leafOf h this x1) (fun z e => grd1 e) rfl rfl (by decide) (cat4 (Nat.le_of_ble_eq_true rfl)) dX5_get_9 (kI (fun v4 h3 => ?_)) xNo
    refine x_istore_n (pc := 12) (lv' := [(2, .int v4), (0, .ref this), (1, .int x1)]) rfl (by decide) rfl dX5_get_12 ?_
    refine x_aload_nR (pc := 13) (a := this) 1 rfl rfl dX5_get_13 ?_
    refine x_getQ (pc := 14) fi_X5_11 dX5_get_14 ?_
    intro v5
    refine x_iload_n (pc := 17) 0 rfl rfl dX5_get_17 ?_
    refine x_nn (fun a6 e7 => ?_)
    subst e7
    refine x_aald (pc := 18) dX5_get_18 ?_
    intro v8
    refine x_aload_nR (pc := 19) (a := this) 1 rfl rfl dX5_get_19 ?_
    refine x_getI (pc := 20) fi_X5_62 dX5_get_20 ?_
    intro v9
    refine x_nn (fun a10 e11 => ?_)
    subst e11
    refine x_callV (pc := 23) (As := [.int v9]) (rest := []) (lev' := 1) si_X5_72 (m_L_get h3 a10 v9) (fun z e => grd1 e) rfl rfl (by decide) (cat4 (Nat.le_of_ble_eq_true rfl)) dX5_get_23 (kI (fun v13 h12 => ?_)) xNo
    exact x_iret (pc := 26) dX5_get_26
abbrev Y_R_lit : Yx := (RX5, cX5_lit, 1, 1, (some .int), [], false)
def c_R_lit (h : PH) (this : Nat) : Option RH :=
  grd h this [4] (
  gI h this [4] 7 fun v1 =>
  rI v1 h)
set_option maxHeartbeats 4000000 in
theorem m_R_lit (h : PH) (this : Nat) : MM yX5_lit (ws_ yX5_lit cX5_lit 1 (some .int)) 1 [.ref this] h (c_R_lit h this) := by
  refine MM.of (by decide) rfl (by decide) (Nat.le_of_ble_eq_true rfl) (own := RX5) (cc := cX5_lit) (maxL := 1) (lev := 1) (rt := (some .int)) (ini := false) ?_
  show Sim Y_R_lit h 0 [(0, .ref this)] [] _
  unfold c_R_lit
  refine x_grd ?_
  refine x_aload_nR (pc := 0) (a := this) 0 rfl rfl dX5_lit_0 ?_
  refine x_getI (pc := 1) fi_X5_21 dX5_lit_1 ?_
  intro v1
  exact x_iret (pc := 4) dX5_lit_4
theorem si_X5_89 : SiV RX5 89 4 yX5_wide cX5_wide 1 (some .int) 0 := ⟨_, _, _, ci_4.1, by decide, lw_V q991 q736 q737 q116 q738, ⟨rfl, by decide, by decide, by decide +kernel⟩, by decide⟩
theorem si_X5_86 : SiV RX5 86 4 yX5_lit cX5_lit 1 (some .int) 0 := ⟨_, _, _, ci_4.1, by decide, lw_V q987 q988 q989 q116 q990, ⟨rfl, by decide, by decide, by decide +kernel⟩, by decide⟩
abbrev Y_R_many : Yx := (RX5, cX5_many, 2, 2, (some .int), [], false)
def c_R_many (h : PH) (this : Nat) (x1 : Int32) : Option RH :=
  grd h this [4] (
  if x1 = (1 : Int32) then
    hI (c_R_lit h this) noX fun v6 h5 =>
    rI v6 h5
  else
    hI (c_R_wide h this) noX fun v2 h1 =>
    hI (c_R_lit h1 this) noX fun v4 h3 =>
    rI (v2 - v4) h3)
set_option maxHeartbeats 4000000 in
theorem m_R_many (h : PH) (this : Nat) (x1 : Int32) : MM yX5_many (ws_ yX5_many cX5_many 2 (some .int)) 2 [.ref this, .int x1] h (c_R_many h this x1) := by
  refine MM.of (by decide) rfl (by decide) (Nat.le_of_ble_eq_true rfl) (own := RX5) (cc := cX5_many) (maxL := 2) (lev := 2) (rt := (some .int)) (ini := false) ?_
  show Sim Y_R_many h 0 [(0, .ref this), (1, .int x1)] [] _
  unfold c_R_many
  refine x_grd ?_
  refine x_iload_n (pc := 0) 1 rfl rfl dX5_many_0 ?_
  refine x_iconst (pc := 1) (v := 1) (by decide) dX5_many_1 ?_
  refine x_icmp_ne (pc := 2) 12 (by decide) dX5_many_2 ?_ ?_
  · refine x_aload_nR (pc := 12) (a := this) 0 rfl rfl dX5_many_12 ?_
    refine x_callV (pc := 13) (As := []) (rest := []) (lev' := 1) si_X5_89 (m_R_wide h this) (fun z e => grd1 e) rfl rfl (by decide) (cat4 (Nat.le_of_ble_eq_true rfl)) dX5_many_13 (kI (fun v2 h1 => ?_)) xNo
    refine x_aload_nR (pc := 16) (a := this) 0 rfl rfl dX5_many_16 ?_
    refine x_callV (pc := 17) (As := []) (rest := [.int v2]) (lev' := 1) si_X5_86 (m_R_lit h1 this) (fun z e => grd1 e) rfl rfl (by decide) (cat4 (Nat.le_of_ble_eq_true rfl)) dX5_many_17 (kI (fun v4 h3 => ?_)) xNo
    refine x_isub (pc := 20) dX5_many_20 ?_
    exact x_iret (pc := 21) dX5_many_21
  · refine x_aload_nR (pc := 5) (a := this) 0 rfl rfl dX5_many_5 ?_
    refine x_callV (pc := 6) (As := []) (rest := []) (lev' := 1) si_X5_86 (m_R_lit h this) (fun z e => grd1 e) rfl rfl (by decide) (cat4 (Nat.le_of_ble_eq_true rfl)) dX5_many_6 (kI (fun v6 h5 => ?_)) xNo
    refine x_goto (pc := 9) 21 (by decide) dX5_many_9 ?_
    exact x_iret (pc := 21) dX5_many_21
abbrev Y_R_where : Yx := (RX5, cX5_where, 9, 3, (some .int), [], false)
def c_R_where_j111 (r11 : PH → Int32 → Option Nat → Int32 → Int32 → Option RH) (h : PH) (x2 : Int32) (x4 : Int32) (x5 : Int32) (x6 : Nat) (x8 : Int32) : Option RH :=
  gQ h x6 [10] 3 fun v1 =>
  if x8 = 0 then
    nn v1 fun a2 =>
    ldQ h a2 (1 : Int32) fun v4 =>
    r11 h x2 v4 x4 x5
  else
    nn v1 fun a5 =>
    ldQ h a5 (0 : Int32) fun v7 =>
    r11 h x2 v7 x4 x5
def c_R_where_j82 (r11 : PH → Int32 → Option Nat → Int32 → Int32 → Option RH) (h : PH) (x2 : Int32) (x4 : Int32) (x5 : Int32) (x6 : Nat) (x7 : Int32) (s0 : Int32) : Option RH :=
  if s0 = 0 then
    nm (x4 - x7) fun y1 =>
    gQ h x6 [10] 3 fun v2 =>
    nn v2 fun a3 =>
    ldQ h a3 (0 : Int32) fun v5 =>
    nn v5 fun a6 =>
    gI h a6 [9, 10] 0 fun v8 =>
    nm (x5 + v8) fun y9 =>
    c_R_where_j111 r11 h x2 y1 y9 x6 s0
  else
    c_R_where_j111 r11 h x2 x4 x5 x6 s0
def c_R_where_j68 (r11 : PH → Int32 → Option Nat → Int32 → Int32 → Option RH) (h : PH) (x2 : Int32) (x4 : Int32) (x5 : Int32) (x6 : Nat) (s0 : Int32) : Option RH :=
  if s0 ≤ x4 then
    c_R_where_j82 r11 h x2 x4 x5 x6 s0 (0 : Int32)
  else
    c_R_where_j82 r11 h x2 x4 x5 x6 s0 (1 : Int32)
def c_R_where_j156 (r140 : PH → Int32 → Int32 → Int32 → Nat → Int32 → Option RH) (h : PH) (x2 : Int32) (x4 : Int32) (x5 : Int32) (x6 : Nat) (x7 : Int32) : Option RH :=
  hI (c_L_get h x6 x7) noX fun v2 h1 =>
  if v2 = x2 then
    r140 h1 x2 (x4 + (-1 : Int32)) x5 x6 (x7 + (1 : Int32))
  else
    r140 h1 x2 x4 x5 x6 (x7 + (1 : Int32))
def c_R_where_l140 (r140 : PH → Int32 → Int32 → Int32 → Nat → Int32 → Option RH) (h : PH) (x2 : Int32) (x4 : Int32) (x5 : Int32) (x6 : Nat) (x7 : Int32) : Option RH :=
  hI (c_L_get h x6 x7) noX fun v2 h1 =>
  if v2 = x2 then
    if x4 ≤ 0 then
      rI (x5 + x7) h1
    else
      c_R_where_j156 r140 h1 x2 x4 x5 x6 x7
  else
    c_R_where_j156 r140 h1 x2 x4 x5 x6 x7
def c_R_where_l11 (r11 : PH → Int32 → Option Nat → Int32 → Int32 → Option RH) (h : PH) (x2 : Int32) (x3 : Option Nat) (x4 : Int32) (x5 : Int32) : Option RH :=
  iof h x3 10 9 (
    nn x3 fun a1 =>
    grd h a1 [10] <|
    hV (c_I_push h a1) noX fun h3 =>
    if x2 = (1 : Int32) then
      gQ h3 a1 [10] 3 fun v18 =>
      nn v18 fun a19 =>
      ldQ h3 a19 (0 : Int32) fun v21 =>
      nn v21 fun a22 =>
      gI h3 a22 [9, 10] 1 fun v24 =>
      c_R_where_j68 r11 h3 x2 x4 x5 a1 v24
    else
      gQ h3 a1 [10] 3 fun v4 =>
      nn v4 fun a5 =>
      ldQ h3 a5 (0 : Int32) fun v7 =>
      nn v7 fun a8 =>
      gI h3 a8 [9, 10] 0 fun v10 =>
      gQ h3 a1 [10] 3 fun v11 =>
      nn v11 fun a12 =>
      ldQ h3 a12 (0 : Int32) fun v14 =>
      nn v14 fun a15 =>
      gI h3 a15 [9, 10] 1 fun v17 =>
      c_R_where_j68 r11 h3 x2 x4 x5 a1 (v10 - v17)) (
    nn x3 fun a25 =>
    grd h a25 [9] <|
    itr (c_R_where_l140) (fun _ _ _ _ _ _ => none) FU h x2 x4 x5 a25 (0 : Int32))
def c_R_where (h : PH) (this : Nat) (x1 : Int32) (x2 : Int32) : Option RH :=
  grd h this [4] (
  gQ h this [4] 1 fun v1 =>
  itr (c_R_where_l11) (fun _ _ _ _ _ => none) FU h x2 v1 x1 (0 : Int32))
set_option maxHeartbeats 4000000 in
theorem w_R_where_j111 (r11 : PH → Int32 → Option Nat → Int32 → Int32 → Option RH) (hr11 : ∀ (h : PH) (x2 : Int32) (x3 : Option Nat) (x4 : Int32) (x5 : Int32), Sim Y_R_where h 11 [(2, .int x2), (3, va_rf x3), (4, .int x4), (5, .int x5)] [] (r11 h x2 x3 x4 x5)) (h : PH) (x2 : Int32) (x4 : Int32) (x5 : Int32) (x6 : Nat) (x8 : Int32) : Sim Y_R_where h 111 [(2, .int x2), (4, .int x4), (5, .int x5), (6, .ref x6), (8, .int x8)] [] (c_R_where_j111 r11 h x2 x4 x5 x6 x8) := by
  unfold c_R_where_j111
  refine x_aloadR (pc := 111) (a := x6) 3 rfl dX5_where_111 ?_
  refine x_getQ (pc := 113) fi_X5_51 dX5_where_113 ?_
  intro v1
  refine x_iload (pc := 116) 4 rfl dX5_where_116 ?_
  refine x_if_eq (pc := 118) 125 (by decide) dX5_where_118 ?_ ?_
  · refine x_iconst (pc := 125) (v := 1) (by decide) dX5_where_125 ?_
    refine x_nn (fun a2 e3 => ?_)
    subst e3
    refine x_aald (pc := 126) dX5_where_126 ?_
    intro v4
    refine x_astore_n (pc := 127) (r := v4) (lv' := [(3, va_rf v4), (2, .int x2), (4, .int x4), (5, .int x5), (6, .ref x6), (8, .int x8)]) rfl (by decide) rfl dX5_where_127 ?_
    refine x_goto (pc := 128) 11 (by decide) dX5_where_128 ?_
    refine Sim.lv [1, 0, 2, 3] rfl ?_
    exact hr11 h x2 v4 x4 x5
  · refine x_iconst (pc := 121) (v := 0) (by decide) dX5_where_121 ?_
    refine x_goto (pc := 122) 126 (by decide) dX5_where_122 ?_
    refine x_nn (fun a5 e6 => ?_)
    subst e6
    refine x_aald (pc := 126) dX5_where_126 ?_
    intro v7
    refine x_astore_n (pc := 127) (r := v7) (lv' := [(3, va_rf v7), (2, .int x2), (4, .int x4), (5, .int x5), (6, .ref x6), (8, .int x8)]) rfl (by decide) rfl dX5_where_127 ?_
    refine x_goto (pc := 128) 11 (by decide) dX5_where_128 ?_
    refine Sim.lv [1, 0, 2, 3] rfl ?_
    exact hr11 h x2 v7 x4 x5
set_option maxHeartbeats 4000000 in
theorem w_R_where_j82 (r11 : PH → Int32 → Option Nat → Int32 → Int32 → Option RH) (hr11 : ∀ (h : PH) (x2 : Int32) (x3 : Option Nat) (x4 : Int32) (x5 : Int32), Sim Y_R_where h 11 [(2, .int x2), (3, va_rf x3), (4, .int x4), (5, .int x5)] [] (r11 h x2 x3 x4 x5)) (h : PH) (x2 : Int32) (x4 : Int32) (x5 : Int32) (x6 : Nat) (x7 : Int32) (s0 : Int32) : Sim Y_R_where h 82 [(2, .int x2), (4, .int x4), (5, .int x5), (6, .ref x6), (7, .int x7)] [.int s0] (c_R_where_j82 r11 h x2 x4 x5 x6 x7 s0) := by
  unfold c_R_where_j82
  refine x_istore (pc := 82) (lv' := [(8, .int s0), (2, .int x2), (4, .int x4), (5, .int x5), (6, .ref x6), (7, .int x7)]) (by decide) rfl dX5_where_82 ?_
  refine x_iload (pc := 84) 0 rfl dX5_where_84 ?_
  refine x_if_ne (pc := 86) 111 (by decide) dX5_where_86 ?_ ?_
  · refine Sim.lv [1, 2, 3, 4, 0] rfl ?_
    exact w_R_where_j111 r11 hr11 h x2 x4 x5 x6 s0
  · refine x_iload (pc := 89) 2 rfl dX5_where_89 ?_
    refine x_iload (pc := 91) 5 rfl dX5_where_91 ?_
    refine x_isub (pc := 93) dX5_where_93 ?_
    refine x_nmI (fun y1 => ?_)
    refine x_istore (pc := 94) (lv' := [(4, .int y1), (8, .int s0), (2, .int x2), (5, .int x5), (6, .ref x6), (7, .int x7)]) (by decide) rfl dX5_where_94 ?_
    refine x_iload (pc := 96) 3 rfl dX5_where_96 ?_
    refine x_aloadR (pc := 98) (a := x6) 4 rfl dX5_where_98 ?_
    refine x_getQ (pc := 100) fi_X5_51 dX5_where_100 ?_
    intro v2
    refine x_iconst (pc := 103) (v := 0) (by decide) dX5_where_103 ?_
    refine x_nn (fun a3 e4 => ?_)
    subst e4
    refine x_aald (pc := 104) dX5_where_104 ?_
    intro v5
    refine x_nn (fun a6 e7 => ?_)
    subst e7
    refine x_getI (pc := 105) fi_X5_75 dX5_where_105 ?_
    intro v8
    refine x_iadd (pc := 108) dX5_where_108 ?_
    refine x_nmI (fun y9 => ?_)
    refine x_istore (pc := 109) (lv' := [(5, .int y9), (4, .int y1), (8, .int s0), (2, .int x2), (6, .ref x6), (7, .int x7)]) (by decide) rfl dX5_where_109 ?_
    refine Sim.lv [3, 1, 0, 4, 2] rfl ?_
    exact w_R_where_j111 r11 hr11 h x2 y1 y9 x6 s0
set_option maxHeartbeats 4000000 in
theorem w_R_where_j68 (r11 : PH → Int32 → Option Nat → Int32 → Int32 → Option RH) (hr11 : ∀ (h : PH) (x2 : Int32) (x3 : Option Nat) (x4 : Int32) (x5 : Int32), Sim Y_R_where h 11 [(2, .int x2), (3, va_rf x3), (4, .int x4), (5, .int x5)] [] (r11 h x2 x3 x4 x5)) (h : PH) (x2 : Int32) (x4 : Int32) (x5 : Int32) (x6 : Nat) (s0 : Int32) : Sim Y_R_where h 68 [(2, .int x2), (4, .int x4), (5, .int x5), (6, .ref x6)] [.int s0] (c_R_where_j68 r11 h x2 x4 x5 x6 s0) := by
  unfold c_R_where_j68
  refine x_istore (pc := 68) (lv' := [(7, .int s0), (2, .int x2), (4, .int x4), (5, .int x5), (6, .ref x6)]) (by decide) rfl dX5_where_68 ?_
  refine x_iload (pc := 70) 2 rfl dX5_where_70 ?_
  refine x_iload (pc := 72) 0 rfl dX5_where_72 ?_
  refine x_icmp_ge (pc := 74) 81 (by decide) dX5_where_74 ?_ ?_
  · refine x_iconst (pc := 81) (v := 0) (by decide) dX5_where_81 ?_
    refine Sim.lv [1, 2, 3, 4, 0] rfl ?_
    exact w_R_where_j82 r11 hr11 h x2 x4 x5 x6 s0 (0 : Int32)
  · refine x_iconst (pc := 77) (v := 1) (by decide) dX5_where_77 ?_
    refine x_goto (pc := 78) 82 (by decide) dX5_where_78 ?_
    refine Sim.lv [1, 2, 3, 4, 0] rfl ?_
    exact w_R_where_j82 r11 hr11 h x2 x4 x5 x6 s0 (1 : Int32)
set_option maxHeartbeats 4000000 in
theorem w_R_where_j156 (r140 : PH → Int32 → Int32 → Int32 → Nat → Int32 → Option RH) (hr140 : ∀ (h : PH) (x2 : Int32) (x4 : Int32) (x5 : Int32) (x6 : Nat) (x7 : Int32), Sim Y_R_where h 140 [(2, .int x2), (4, .int x4), (5, .int x5), (6, .ref x6), (7, .int x7)] [] (r140 h x2 x4 x5 x6 x7)) (h : PH) (x2 : Int32) (x4 : Int32) (x5 : Int32) (x6 : Nat) (x7 : Int32) : Sim Y_R_where h 156 [(2, .int x2), (4, .int x4), (5, .int x5), (6, .ref x6), (7, .int x7)] [] (c_R_where_j156 r140 h x2 x4 x5 x6 x7) := by
  unfold c_R_where_j156
  refine x_aloadR (pc := 156) (a := x6) 3 rfl dX5_where_156 ?_
  refine x_iload (pc := 158) 4 rfl dX5_where_158 ?_
  refine x_callV (pc := 160) (As := [.int x7]) (rest := []) (lev' := 1) si_X5_72 (m_L_get h x6 x7) (fun z e => grd1 e) rfl rfl (by decide) (cat4 (Nat.le_of_ble_eq_true rfl)) dX5_where_160 (kI (fun v2 h1 => ?_)) xNo
  refine x_iload_n (pc := 163) 0 rfl rfl dX5_where_163 ?_
  refine x_icmp_ne (pc := 164) 170 (by decide) dX5_where_164 ?_ ?_
  · refine x_iinc (pc := 170) (v := (1 : Int32)) (lv' := [(7, .int (x7 + (1 : Int32))), (2, .int x2), (4, .int x4), (5, .int x5), (6, .ref x6)]) 4 rfl (by decide) (by decide) rfl dX5_where_170 ?_
    refine x_goto (pc := 173) 140 (by decide) dX5_where_173 ?_
    refine Sim.lv [1, 2, 3, 4, 0] rfl ?_
    exact hr140 h1 x2 x4 x5 x6 (x7 + (1 : Int32))
  · refine x_iinc (pc := 167) (v := (-1 : Int32)) (lv' := [(4, .int (x4 + (-1 : Int32))), (2, .int x2), (5, .int x5), (6, .ref x6), (7, .int x7)]) 1 rfl (by decide) (by decide) rfl dX5_where_167 ?_
    refine x_iinc (pc := 170) (v := (1 : Int32)) (lv' := [(7, .int (x7 + (1 : Int32))), (4, .int (x4 + (-1 : Int32))), (2, .int x2), (5, .int x5), (6, .ref x6)]) 4 rfl (by decide) (by decide) rfl dX5_where_170 ?_
    refine x_goto (pc := 173) 140 (by decide) dX5_where_173 ?_
    refine Sim.lv [2, 1, 3, 4, 0] rfl ?_
    exact hr140 h1 x2 (x4 + (-1 : Int32)) x5 x6 (x7 + (1 : Int32))
set_option maxHeartbeats 4000000 in
theorem w_R_where_l140 (r140 : PH → Int32 → Int32 → Int32 → Nat → Int32 → Option RH) (hr140 : ∀ (h : PH) (x2 : Int32) (x4 : Int32) (x5 : Int32) (x6 : Nat) (x7 : Int32), Sim Y_R_where h 140 [(2, .int x2), (4, .int x4), (5, .int x5), (6, .ref x6), (7, .int x7)] [] (r140 h x2 x4 x5 x6 x7)) (h : PH) (x2 : Int32) (x4 : Int32) (x5 : Int32) (x6 : Nat) (x7 : Int32) : Sim Y_R_where h 140 [(2, .int x2), (4, .int x4), (5, .int x5), (6, .ref x6), (7, .int x7)] [] (c_R_where_l140 r140 h x2 x4 x5 x6 x7) := by
  unfold c_R_where_l140
  refine x_aloadR (pc := 140) (a := x6) 3 rfl dX5_where_140 ?_
  refine x_iload (pc := 142) 4 rfl dX5_where_142 ?_
  refine x_callV (pc := 144) (As := [.int x7]) (rest := []) (lev' := 1) si_X5_72 (m_L_get h x6 x7) (fun z e => grd1 e) rfl rfl (by decide) (cat4 (Nat.le_of_ble_eq_true rfl)) dX5_where_144 (kI (fun v2 h1 => ?_)) xNo
  refine x_iload_n (pc := 147) 0 rfl rfl dX5_where_147 ?_
  refine x_icmp_ne (pc := 148) 156 (by decide) dX5_where_148 ?_ ?_
  · exact w_R_where_j156 r140 hr140 h1 x2 x4 x5 x6 x7
  · refine x_iload (pc := 151) 1 rfl dX5_where_151 ?_
    refine x_if_le (pc := 153) 176 (by decide) dX5_where_153 ?_ ?_
    · refine x_iload (pc := 176) 2 rfl dX5_where_176 ?_
      refine x_iload (pc := 178) 4 rfl dX5_where_178 ?_
      refine x_iadd (pc := 180) dX5_where_180 ?_
      exact x_iret (pc := 181) dX5_where_181
    · exact w_R_where_j156 r140 hr140 h1 x2 x4 x5 x6 x7
set_option maxHeartbeats 4000000 in
theorem v_R_where_l140 : ∀ (n : Nat) (h : PH) (x2 : Int32) (x4 : Int32) (x5 : Int32) (x6 : Nat) (x7 : Int32), Sim Y_R_where h 140 [(2, .int x2), (4, .int x4), (5, .int x5), (6, .ref x6), (7, .int x7)] [] (itr (c_R_where_l140) (fun _ _ _ _ _ _ => none) n h x2 x4 x5 x6 x7)
  | 0, h, x2, x4, x5, x6, x7 => Sim.none
  | n + 1, h, x2, x4, x5, x6, x7 => w_R_where_l140 _ (v_R_where_l140 n) h x2 x4 x5 x6 x7
set_option maxHeartbeats 4000000 in
theorem w_R_where_l11 (r11 : PH → Int32 → Option Nat → Int32 → Int32 → Option RH) (hr11 : ∀ (h : PH) (x2 : Int32) (x3 : Option Nat) (x4 : Int32) (x5 : Int32), Sim Y_R_where h 11 [(2, .int x2), (3, va_rf x3), (4, .int x4), (5, .int x5)] [] (r11 h x2 x3 x4 x5)) (h : PH) (x2 : Int32) (x3 : Option Nat) (x4 : Int32) (x5 : Int32) : Sim Y_R_where h 11 [(2, .int x2), (3, va_rf x3), (4, .int x4), (5, .int x5)] [] (c_R_where_l11 r11 h x2 x3 x4 x5) := by
  unfold c_R_where_l11
  refine x_aload_n (pc := 11) (r := x3) 1 rfl rfl dX5_where_11 ?_
  refine x_inst (pc := 12) (r := x3) ci_10 ci_9 (by decide +kernel) q751 dX5_where_12 ?_ ?_
  · refine x_if_eqF (pc := 15) 131 (by decide) (by decide) dX5_where_15 ?_
    refine x_aload_n (pc := 18) (r := x3) 1 rfl rfl dX5_where_18 ?_
    refine x_nn (fun a1 e2 => ?_)
    subst e2
    refine x_cast (pc := 19) ci_10 q751 dX5_where_19 ?_
    refine x_astoreR (pc := 22) (a := a1) (lv' := [(6, .ref a1), (2, .int x2), (3, .ref a1), (4, .int x4), (5, .int x5)]) (by decide) rfl dX5_where_22 ?_
    refine x_aloadR (pc := 24) (a := a1) 0 rfl dX5_where_24 ?_
    refine x_callV (pc := 26) (As := []) (rest := []) (lev' := 2) si_X5_48 (m_I_push h a1) (fun z e => grd1 e) rfl rfl (by decide) (cat4 (Nat.le_of_ble_eq_true rfl)) dX5_where_26 (kV (fun h3 => ?_)) xNo
    refine x_iload_n (pc := 29) 1 rfl rfl dX5_where_29 ?_
    refine x_iconst (pc := 30) (v := 1) (by decide) dX5_where_30 ?_
    refine x_icmp_ne (pc := 31) 47 (by decide) dX5_where_31 ?_ ?_
    · refine x_aloadR (pc := 47) (a := a1) 0 rfl dX5_where_47 ?_
      refine x_getQ (pc := 49) fi_X5_51 dX5_where_49 ?_
      intro v4
      refine x_iconst (pc := 52) (v := 0) (by decide) dX5_where_52 ?_
      refine x_nn (fun a5 e6 => ?_)
      subst e6
      refine x_aald (pc := 53) dX5_where_53 ?_
      intro v7
      refine x_nn (fun a8 e9 => ?_)
      subst e9
      refine x_getI (pc := 54) fi_X5_75 dX5_where_54 ?_
      intro v10
      refine x_aloadR (pc := 57) (a := a1) 0 rfl dX5_where_57 ?_
      refine x_getQ (pc := 59) fi_X5_51 dX5_where_59 ?_
      intro v11
      refine x_iconst (pc := 62) (v := 0) (by decide) dX5_where_62 ?_
      refine x_nn (fun a12 e13 => ?_)
      subst e13
      refine x_aald (pc := 63) dX5_where_63 ?_
      intro v14
      refine x_nn (fun a15 e16 => ?_)
      subst e16
      refine x_getI (pc := 64) fi_X5_82 dX5_where_64 ?_
      intro v17
      refine x_isub (pc := 67) dX5_where_67 ?_
      refine Sim.lv [1, 3, 4, 0] rfl ?_
      exact w_R_where_j68 r11 hr11 h3 x2 x4 x5 a1 (v10 - v17)
    · refine x_aloadR (pc := 34) (a := a1) 0 rfl dX5_where_34 ?_
      refine x_getQ (pc := 36) fi_X5_51 dX5_where_36 ?_
      intro v18
      refine x_iconst (pc := 39) (v := 0) (by decide) dX5_where_39 ?_
      refine x_nn (fun a19 e20 => ?_)
      subst e20
      refine x_aald (pc := 40) dX5_where_40 ?_
      intro v21
      refine x_nn (fun a22 e23 => ?_)
      subst e23
      refine x_getI (pc := 41) fi_X5_82 dX5_where_41 ?_
      intro v24
      refine x_goto (pc := 44) 68 (by decide) dX5_where_44 ?_
      refine Sim.lv [1, 3, 4, 0] rfl ?_
      exact w_R_where_j68 r11 hr11 h3 x2 x4 x5 a1 v24
  · refine x_if_eqT (pc := 15) 131 (by decide) (by decide) dX5_where_15 ?_
    refine x_aload_n (pc := 131) (r := x3) 1 rfl rfl dX5_where_131 ?_
    refine x_nn (fun a25 e26 => ?_)
    subst e26
    refine x_cast (pc := 132) ci_9 q288 dX5_where_132 ?_
    refine x_astoreR (pc := 135) (a := a25) (lv' := [(6, .ref a25), (2, .int x2), (3, .ref a25), (4, .int x4), (5, .int x5)]) (by decide) rfl dX5_where_135 ?_
    refine x_iconst (pc := 137) (v := 0) (by decide) dX5_where_137 ?_
    refine x_istore (pc := 138) (lv' := [(7, .int (0 : Int32)), (6, .ref a25), (2, .int x2), (3, .ref a25), (4, .int x4), (5, .int x5)]) (by decide) rfl dX5_where_138 ?_
    refine Sim.lv [2, 4, 5, 1, 0] rfl ?_
    exact v_R_where_l140 FU h x2 x4 x5 a25 (0 : Int32)
set_option maxHeartbeats 4000000 in
theorem v_R_where_l11 : ∀ (n : Nat) (h : PH) (x2 : Int32) (x3 : Option Nat) (x4 : Int32) (x5 : Int32), Sim Y_R_where h 11 [(2, .int x2), (3, va_rf x3), (4, .int x4), (5, .int x5)] [] (itr (c_R_where_l11) (fun _ _ _ _ _ => none) n h x2 x3 x4 x5)
  | 0, h, x2, x3, x4, x5 => Sim.none
  | n + 1, h, x2, x3, x4, x5 => w_R_where_l11 _ (v_R_where_l11 n) h x2 x3 x4 x5
set_option maxHeartbeats 4000000 in
theorem m_R_where (h : PH) (this : Nat) (x1 : Int32) (x2 : Int32) : MM yX5_where (ws_ yX5_where cX5_where 9 (some .int)) 3 [.ref this, .int x1, .int x2] h (c_R_where h this x1 x2) := by
  refine MM.of (by decide) rfl (by decide) (Nat.le_of_ble_eq_true rfl) (own := RX5) (cc := cX5_where) (maxL := 9) (lev := 3) (rt := (some .int)) (ini := false) ?_
  show Sim Y_R_where h 0 [(0, .ref this), (1, .int x1), (2, .int x2)] [] _
  unfold c_R_where
  refine x_grd ?_
  refine x_aload_nR (pc := 0) (a := this) 0 rfl rfl dX5_where_0 ?_
  refine x_getQ (pc := 1) fi_X5_27 dX5_where_1 ?_
  intro v1
  refine x_astore_n (pc := 4) (r := v1) (lv' := [(3, va_rf v1), (0, .ref this), (1, .int x1), (2, .int x2)]) rfl (by decide) rfl dX5_where_4 ?_
  refine x_iload_n (pc := 5) 2 rfl rfl dX5_where_5 ?_
  refine x_istore (pc := 6) (lv' := [(4, .int x1), (3, va_rf v1), (0, .ref this), (1, .int x1), (2, .int x2)]) (by decide) (by simp [rf_cat]) dX5_where_6 ?_
  refine x_iconst (pc := 8) (v := 0) (by decide) dX5_where_8 ?_
  refine x_istore (pc := 9) (lv' := [(5, .int (0 : Int32)), (4, .int x1), (3, va_rf v1), (0, .ref this), (1, .int x1), (2, .int x2)]) (by decide) rfl dX5_where_9 ?_
  refine Sim.lv [5, 2, 1, 0] rfl ?_
  exact v_R_where_l11 FU h x2 v1 x1 (0 : Int32)
abbrev Y_R_folds : Yx := (RX5, cX5_folds, 1, 1, (some .int), [], false)
def c_R_folds (h : PH) (this : Nat) : Option RH :=
  grd h this [4] (
  gI h this [4] 5 fun v1 =>
  rI v1 h)
set_option maxHeartbeats 4000000 in
theorem m_R_folds (h : PH) (this : Nat) : MM yX5_folds (ws_ yX5_folds cX5_folds 1 (some .int)) 1 [.ref this] h (c_R_folds h this) := by
  refine MM.of (by decide) rfl (by decide) (Nat.le_of_ble_eq_true rfl) (own := RX5) (cc := cX5_folds) (maxL := 1) (lev := 1) (rt := (some .int)) (ini := false) ?_
  show Sim Y_R_folds h 0 [(0, .ref this)] [] _
  unfold c_R_folds
  refine x_grd ?_
  refine x_aload_nR (pc := 0) (a := this) 0 rfl rfl dX5_folds_0 ?_
  refine x_getI (pc := 1) fi_X5_24 dX5_folds_1 ?_
  intro v1
  exact x_iret (pc := 4) dX5_folds_4
abbrev Y_R_all : Yx := (RX5, cX5_all, 1, 16, (some (.array (.object "BitRopes$Leaf"))), [], false)
def c_R_all (h : PH) (this : Nat) : Option RH :=
  grd h this [4] (
  gQ h this [4] 1 fun v1 =>
  hV (grd h this [4] (c_R_settle 12 h this v1)) noX fun h2 =>
  gQ h2 this [4] 0 fun v3 =>
  rQ v3 h2)
set_option maxHeartbeats 4000000 in
theorem m_R_all (h : PH) (this : Nat) : MM yX5_all (ws_ yX5_all cX5_all 1 (some (.array (.object "BitRopes$Leaf")))) 16 [.ref this] h (c_R_all h this) := by
  refine MM.of (by decide) rfl (by decide) (Nat.le_of_ble_eq_true rfl) (own := RX5) (cc := cX5_all) (maxL := 1) (lev := 16) (rt := (some (.array (.object "BitRopes$Leaf")))) (ini := false) ?_
  show Sim Y_R_all h 0 [(0, .ref this)] [] _
  unfold c_R_all
  refine x_grd ?_
  refine x_aload_nR (pc := 0) (a := this) 0 rfl rfl dX5_all_0 ?_
  refine x_aload_nR (pc := 1) (a := this) 0 rfl rfl dX5_all_1 ?_
  refine x_getQ (pc := 2) fi_X5_27 dX5_all_2 ?_
  intro v1
  refine x_callV (pc := 5) (As := [va_rf v1]) (rest := []) (lev' := (3 + 12)) si_X5_42 (MM.grd (m_R_settle 12 h this v1)) (fun z e => grd1 e) rfl rfl (by omega) (cat4 (Nat.le_of_ble_eq_true rfl)) dX5_all_5 (kV (fun h2 => ?_)) xNo
  refine x_aload_nR (pc := 8) (a := this) 0 rfl rfl dX5_all_8 ?_
  refine x_getQ (pc := 9) fi_X5_11 dX5_all_9 ?_
  intro v3
  exact x_aret (pc := 12) (v := v3) (Or.inr ⟨_, rfl⟩) dX5_all_12
theorem si_X5_161 : SiV RX5 161 4 yX5_height cX5_height 3 (some .int) 1 := ⟨_, _, _, ci_4.1, by decide, lw_V q1039 q1036 q1037 q116 q1038, ⟨rfl, by decide, by decide, by decide +kernel⟩, by decide⟩
abbrev Y_R_height (d : Nat) : Yx := (RX5, cX5_height, 3, (9 + d + 1), (some .int), [], false)
def b_R_height (rg : PH → Nat → Option Nat → Option RH) (h : PH) (this : Nat) (x1 : Option Nat) : Option RH :=
  grd h this [4] (
  iof h x1 10 9 (
    nn x1 fun a1 =>
    grd h a1 [10] <|
    gQ h a1 [10] 3 fun v3 =>
    nn v3 fun a4 =>
    ldQ h a4 (0 : Int32) fun v6 =>
    hI (grd h this [4] (rg h this v6)) noX fun v8 h7 =>
    gQ h7 a1 [10] 3 fun v9 =>
    nn v9 fun a10 =>
    ldQ h7 a10 (1 : Int32) fun v12 =>
    hI (grd h7 this [4] (rg h7 this v12)) noX fun v14 h13 =>
    rI ((1 : Int32) + (if v8 < v14 then v14 else v8)) h13) (
    rI (0 : Int32) h))
set_option maxHeartbeats 4000000 in
theorem t_R_height (rg : PH → Nat → Option Nat → Option RH) {d : Nat} (hrg : (∀ (h : PH) (this : Nat) (x1 : Option Nat), MM yX5_height (ws_ yX5_height cX5_height 3 (some .int)) (9 + d) [.ref this, va_rf x1] h (rg h this x1))) (h : PH) (this : Nat) (x1 : Option Nat) : MM yX5_height (ws_ yX5_height cX5_height 3 (some .int)) (9 + d + 1) [.ref this, va_rf x1] h (b_R_height rg h this x1) := by
  refine MM.of (by decide) rfl (by decide) (by cases x1 <;> exact Nat.le_of_ble_eq_true rfl) (own := RX5) (cc := cX5_height) (maxL := 3) (lev := (9 + d + 1)) (rt := (some .int)) (ini := false) ?_
  show Sim (Y_R_height d) h 0 [(0, .ref this), (1, va_rf x1)] [] _
  unfold b_R_height
  refine x_grd ?_
  refine x_aload_n (pc := 0) (r := x1) 1 rfl rfl dX5_height_0 ?_
  refine x_inst (pc := 1) (r := x1) ci_10 ci_9 (by decide +kernel) q751 dX5_height_1 ?_ ?_
  · refine x_if_eqF (pc := 4) 40 (by decide) (by decide) dX5_height_4 ?_
    refine x_aload_n (pc := 7) (r := x1) 1 rfl rfl dX5_height_7 ?_
    refine x_nn (fun a1 e2 => ?_)
    subst e2
    refine x_cast (pc := 8) ci_10 q751 dX5_height_8 ?_
    refine x_astore_nR (pc := 11) (a := a1) (lv' := [(2, .ref a1), (0, .ref this), (1, .ref a1)]) rfl (by decide) rfl dX5_height_11 ?_
    refine x_iconst (pc := 12) (v := 1) (by decide) dX5_height_12 ?_
    refine x_aload_nR (pc := 13) (a := this) 1 rfl rfl dX5_height_13 ?_
    refine x_aload_nR (pc := 14) (a := a1) 0 rfl rfl dX5_height_14 ?_
    refine x_getQ (pc := 15) fi_X5_51 dX5_height_15 ?_
    intro v3
    refine x_iconst (pc := 18) (v := 0) (by decide) dX5_height_18 ?_
    refine x_nn (fun a4 e5 => ?_)
    subst e5
    refine x_aald (pc := 19) dX5_height_19 ?_
    intro v6
    refine x_callV (pc := 20) (As := [va_rf v6]) (rest := [.int (1 : Int32)]) (lev' := (9 + d)) si_X5_161 (MM.grd (hrg h this v6)) (fun z e => grd1 e) rfl rfl (by omega) (cat4 (Nat.le_of_ble_eq_true rfl)) dX5_height_20 (kI (fun v8 h7 => ?_)) xNo
    refine x_aload_nR (pc := 23) (a := this) 1 rfl rfl dX5_height_23 ?_
    refine x_aload_nR (pc := 24) (a := a1) 0 rfl rfl dX5_height_24 ?_
    refine x_getQ (pc := 25) fi_X5_51 dX5_height_25 ?_
    intro v9
    refine x_iconst (pc := 28) (v := 1) (by decide) dX5_height_28 ?_
    refine x_nn (fun a10 e11 => ?_)
    subst e11
    refine x_aald (pc := 29) dX5_height_29 ?_
    intro v12
    refine x_callV (pc := 30) (As := [va_rf v12]) (rest := [.int v8, .int (1 : Int32)]) (lev' := (9 + d)) si_X5_161 (MM.grd (hrg h7 this v12)) (fun z e => grd1 e) rfl rfl (by omega) (cat4 (Nat.le_of_ble_eq_true rfl)) dX5_height_30 (kI (fun v14 h13 => ?_)) xNo
    refine x_mmax (pc := 33) q1040 (by omega) (cat4 (Nat.le_of_ble_eq_true rfl)) dX5_height_33 ?_
    refine x_iadd (pc := 36) dX5_height_36 ?_
    refine x_goto (pc := 37) 41 (by decide) dX5_height_37 ?_
    exact x_iret (pc := 41) dX5_height_41
  · refine x_if_eqT (pc := 4) 40 (by decide) (by decide) dX5_height_4 ?_
    refine x_iconst (pc := 40) (v := 0) (by decide) dX5_height_40 ?_
    exact x_iret (pc := 41) dX5_height_41
def c_R_height : Nat → PH → Nat → Option Nat → Option RH := itr b_R_height (fun _ _ _ => none)
theorem m_R_height : ∀ (d : Nat) (h : PH) (this : Nat) (x1 : Option Nat), MM yX5_height (ws_ yX5_height cX5_height 3 (some .int)) (9 + d) [.ref this, va_rf x1] h (c_R_height d h this x1)
  | 0, h, this, x1 => MM.none
  | d + 1, h, this, x1 => t_R_height (d := d) (c_R_height d) (m_R_height d) h this x1
theorem si_X5_165 : SiV RX5 165 4 yX5_folds cX5_folds 1 (some .int) 0 := ⟨_, _, _, ci_4.1, by decide, lw_V q1045 q1020 q1021 q116 q1022, ⟨rfl, by decide, by decide, by decide +kernel⟩, by decide⟩
abbrev Y_R_cost : Yx := (RX5, cX5_cost, 3, 9, (some .int), [], false)
def c_R_cost_l4 (r4 : PH → Nat → Int32 → Int32 → Option RH) (h : PH) (this : Nat) (x1 : Int32) (x2 : Int32) : Option RH :=
  gI h this [4] 5 fun v1 =>
  if v1 ≤ x2 then
    hI (c_R_folds h this) noX fun v3 h2 =>
    rI (x1 + ((5 : Int32) * (if (0 : Int32) < (v3 - (1 : Int32)) then (v3 - (1 : Int32)) else (0 : Int32)))) h2
  else
    gQ h this [4] 0 fun v4 =>
    nn v4 fun a5 =>
    ldQ h a5 x2 fun v7 =>
    nn v7 fun a8 =>
    gI h a8 [9] 0 fun v10 =>
    nz (32 : Int32) <|
    nm (x1 + ((((v10 + (32 : Int32)) - (1 : Int32)) / (32 : Int32)) + (4 : Int32))) fun y11 =>
    r4 h this y11 (x2 + (1 : Int32))
def c_R_cost (h : PH) (this : Nat) : Option RH :=
  grd h this [4] (
  itr (c_R_cost_l4) (fun _ _ _ _ => none) FU h this (0 : Int32) (0 : Int32))
set_option maxHeartbeats 4000000 in
theorem w_R_cost_l4 (r4 : PH → Nat → Int32 → Int32 → Option RH) (hr4 : ∀ (h : PH) (this : Nat) (x1 : Int32) (x2 : Int32), Sim Y_R_cost h 4 [(0, .ref this), (1, .int x1), (2, .int x2)] [] (r4 h this x1 x2)) (h : PH) (this : Nat) (x1 : Int32) (x2 : Int32) : Sim Y_R_cost h 4 [(0, .ref this), (1, .int x1), (2, .int x2)] [] (c_R_cost_l4 r4 h this x1 x2) := by
  unfold c_R_cost_l4
  refine x_iload_n (pc := 4) 2 rfl rfl dX5_cost_4 ?_
  refine x_aload_nR (pc := 5) (a := this) 0 rfl rfl dX5_cost_5 ?_
  refine x_getI (pc := 6) fi_X5_24 dX5_cost_6 ?_
  intro v1
  refine x_icmp_ge (pc := 9) 40 (by decide) dX5_cost_9 ?_ ?_
  · refine x_iload_n (pc := 40) 1 rfl rfl dX5_cost_40 ?_
    refine x_iconst (pc := 41) (v := 5) (by decide) dX5_cost_41 ?_
    refine x_iconst (pc := 42) (v := 0) (by decide) dX5_cost_42 ?_
    refine x_aload_nR (pc := 43) (a := this) 0 rfl rfl dX5_cost_43 ?_
    refine x_callV (pc := 44) (As := []) (rest := [.int (0 : Int32), .int (5 : Int32), .int x1]) (lev' := 1) si_X5_165 (m_R_folds h this) (fun z e => grd1 e) rfl rfl (by decide) (cat4 (Nat.le_of_ble_eq_true rfl)) dX5_cost_44 (kI (fun v3 h2 => ?_)) xNo
    refine x_iconst (pc := 47) (v := 1) (by decide) dX5_cost_47 ?_
    refine x_isub (pc := 48) dX5_cost_48 ?_
    refine x_mmax (pc := 49) q1040 (by omega) (cat4 (Nat.le_of_ble_eq_true rfl)) dX5_cost_49 ?_
    refine x_imul (pc := 52) dX5_cost_52 ?_
    refine x_iadd (pc := 53) dX5_cost_53 ?_
    exact x_iret (pc := 54) dX5_cost_54
  · refine x_iload_n (pc := 12) 1 rfl rfl dX5_cost_12 ?_
    refine x_aload_nR (pc := 13) (a := this) 0 rfl rfl dX5_cost_13 ?_
    refine x_getQ (pc := 14) fi_X5_11 dX5_cost_14 ?_
    intro v4
    refine x_iload_n (pc := 17) 2 rfl rfl dX5_cost_17 ?_
    refine x_nn (fun a5 e6 => ?_)
    subst e6
    refine x_aald (pc := 18) dX5_cost_18 ?_
    intro v7
    refine x_nn (fun a8 e9 => ?_)
    subst e9
    refine x_getI (pc := 19) fi_X5_65 dX5_cost_19 ?_
    intro v10
    refine x_bipush (pc := 22) (v := 32) (by decide) dX5_cost_22 ?_
    refine x_iadd (pc := 24) dX5_cost_24 ?_
    refine x_iconst (pc := 25) (v := 1) (by decide) dX5_cost_25 ?_
    refine x_isub (pc := 26) dX5_cost_26 ?_
    refine x_bipush (pc := 27) (v := 32) (by decide) dX5_cost_27 ?_
    refine x_idiv (pc := 29) dX5_cost_29 ?_
    refine x_iconst (pc := 30) (v := 4) (by decide) dX5_cost_30 ?_
    refine x_iadd (pc := 31) dX5_cost_31 ?_
    refine x_iadd (pc := 32) dX5_cost_32 ?_
    refine x_nmI (fun y11 => ?_)
    refine x_istore_n (pc := 33) (lv' := [(1, .int y11), (0, .ref this), (2, .int x2)]) rfl (by decide) rfl dX5_cost_33 ?_
    refine x_iinc (pc := 34) (v := (1 : Int32)) (lv' := [(2, .int (x2 + (1 : Int32))), (1, .int y11), (0, .ref this)]) 2 rfl (by decide) (by decide) rfl dX5_cost_34 ?_
    refine x_goto (pc := 37) 4 (by decide) dX5_cost_37 ?_
    refine Sim.lv [2, 1, 0] rfl ?_
    exact hr4 h this y11 (x2 + (1 : Int32))
set_option maxHeartbeats 4000000 in
theorem v_R_cost_l4 : ∀ (n : Nat) (h : PH) (this : Nat) (x1 : Int32) (x2 : Int32), Sim Y_R_cost h 4 [(0, .ref this), (1, .int x1), (2, .int x2)] [] (itr (c_R_cost_l4) (fun _ _ _ _ => none) n h this x1 x2)
  | 0, h, this, x1, x2 => Sim.none
  | n + 1, h, this, x1, x2 => w_R_cost_l4 _ (v_R_cost_l4 n) h this x1 x2
set_option maxHeartbeats 4000000 in
theorem m_R_cost (h : PH) (this : Nat) : MM yX5_cost (ws_ yX5_cost cX5_cost 3 (some .int)) 9 [.ref this] h (c_R_cost h this) := by
  refine MM.of (by decide) rfl (by decide) (Nat.le_of_ble_eq_true rfl) (own := RX5) (cc := cX5_cost) (maxL := 3) (lev := 9) (rt := (some .int)) (ini := false) ?_
  show Sim Y_R_cost h 0 [(0, .ref this)] [] _
  unfold c_R_cost
  refine x_grd ?_
  refine x_iconst (pc := 0) (v := 0) (by decide) dX5_cost_0 ?_
  refine x_istore_n (pc := 1) (lv' := [(1, .int (0 : Int32)), (0, .ref this)]) rfl (by decide) rfl dX5_cost_1 ?_
  refine x_iconst (pc := 2) (v := 0) (by decide) dX5_cost_2 ?_
  refine x_istore_n (pc := 3) (lv' := [(2, .int (0 : Int32)), (1, .int (0 : Int32)), (0, .ref this)]) rfl (by decide) rfl dX5_cost_3 ?_
  refine Sim.lv [2, 1, 0] rfl ?_
  exact v_R_cost_l4 FU h this (0 : Int32) (0 : Int32)
theorem fi_X5_180 : FI RX5 180 [11] 1 (.array .int) true false := (fi_c ci_11 (by decide) rfl rfl (Or.inr ⟨_, q1124⟩) (Or.inl rfl) (fun _ h => absurd h (by decide)) fi_n)
theorem fi_X5_184 : FI RX5 184 [11] 0 (.array .long) true false := (fi_c ci_11 (by decide) rfl rfl (Or.inr ⟨_, q1122⟩) (Or.inl rfl) (fun _ h => absurd h (by decide)) fi_n)
theorem si_X5_177 : SiV RX5 177 4 yX5_clear cX5_clear 1 none 0 := ⟨_, _, _, ci_4.1, by decide, lw_V q1089 q447 q448 q116 q449, ⟨rfl, by decide, by decide, by decide +kernel⟩, by decide⟩
abbrev Y_R_unpack : Yx := (RX5, cX5_unpack, 5, 4, none, [], false)
def c_R_unpack_l24 (r6 : PH → Nat → Nat → Int32 → Option RH) (r24 : PH → Nat → Nat → Int32 → Option Nat → Int32 → Option RH) (h : PH) (this : Nat) (x1 : Nat) (x2 : Int32) (x3 : Option Nat) (x4 : Int32) : Option RH :=
  gQ h x1 [11] 1 fun v1 =>
  nn v1 fun a2 =>
  ldI h a2 0 x2 fun v4 =>
  if v4 ≤ x4 then
    gI h this [4] 7 fun v5 =>
    nn x3 fun a6 =>
    gI h a6 [9] 1 fun v8 =>
    pI h this [4] 7 (v5 + v8) fun h9 =>
    r6 h9 this x1 (x2 + (1 : Int32))
  else
    gQ h x1 [11] 0 fun v10 =>
    gI h this [4] 6 fun v11 =>
    nz (64 : Int32) <|
    nn v10 fun a12 =>
    ldL h a12 (v11 / (64 : Int32)) fun v14 =>
    gI h this [4] 6 fun v15 =>
    nz (64 : Int32) <|
    nn x3 fun a16 =>
    hV (c_L_insert h a16 x4 (((v14 >>> ((v15 - v15 / (64 : Int32) * (64 : Int32)).toInt64 &&& 63)) &&& (1 : Int64)).toInt32)) noX fun h18 =>
    gI h18 this [4] 6 fun v19 =>
    pI h18 this [4] 6 (v19 + (1 : Int32)) fun h20 =>
    r24 h20 this x1 x2 (some a16) (x4 + (1 : Int32))
def c_R_unpack_l6 (r6 : PH → Nat → Nat → Int32 → Option RH) (h : PH) (this : Nat) (x1 : Nat) (x2 : Int32) : Option RH :=
  gQ h x1 [11] 1 fun v1 =>
  nn v1 fun a2 =>
  alen h a2 fun v4 =>
  if v4 ≤ x2 then
    gQ h x1 [11] 1 fun v5 =>
    nn v5 fun a6 =>
    alen h a6 fun v8 =>
    pI h this [4] 5 v8 fun h9 =>
    rV h9
  else
    hQ (c_R_fresh h this x2) noX fun v11 h10 =>
    itr (c_R_unpack_l24 r6) (fun _ _ _ _ _ _ => none) FU h10 this x1 x2 v11 (0 : Int32)
def c_R_unpack (h : PH) (this : Nat) (x1 : Nat) : Option RH :=
  grd h this [4] (
  hV (c_R_clear h this) noX fun h1 =>
  itr (c_R_unpack_l6) (fun _ _ _ _ => none) FU h1 this x1 (0 : Int32))
set_option maxHeartbeats 4000000 in
theorem w_R_unpack_l24 (r6 : PH → Nat → Nat → Int32 → Option RH) (r24 : PH → Nat → Nat → Int32 → Option Nat → Int32 → Option RH) (hr6 : ∀ (h : PH) (this : Nat) (x1 : Nat) (x2 : Int32), Sim Y_R_unpack h 6 [(0, .ref this), (1, .ref x1), (2, .int x2)] [] (r6 h this x1 x2)) (hr24 : ∀ (h : PH) (this : Nat) (x1 : Nat) (x2 : Int32) (x3 : Option Nat) (x4 : Int32), Sim Y_R_unpack h 24 [(0, .ref this), (1, .ref x1), (2, .int x2), (3, va_rf x3), (4, .int x4)] [] (r24 h this x1 x2 x3 x4)) (h : PH) (this : Nat) (x1 : Nat) (x2 : Int32) (x3 : Option Nat) (x4 : Int32) : Sim Y_R_unpack h 24 [(0, .ref this), (1, .ref x1), (2, .int x2), (3, va_rf x3), (4, .int x4)] [] (c_R_unpack_l24 r6 r24 h this x1 x2 x3 x4) := by
  unfold c_R_unpack_l24
  refine x_iload (pc := 24) 4 rfl dX5_unpack_24 ?_
  refine x_aload_nR (pc := 26) (a := x1) 1 rfl rfl dX5_unpack_26 ?_
  refine x_getQ (pc := 27) fi_X5_180 dX5_unpack_27 ?_
  intro v1
  refine x_iload_n (pc := 30) 2 rfl rfl dX5_unpack_30 ?_
  refine x_nn (fun a2 e3 => ?_)
  subst e3
  refine x_iald (pc := 31) dX5_unpack_31 ?_
  intro v4
  refine x_icmp_ge (pc := 32) 80 (by decide) dX5_unpack_32 ?_ ?_
  · refine x_aload_nR (pc := 80) (a := this) 0 rfl rfl dX5_unpack_80 ?_
    refine x_dup (pc := 81) rfl dX5_unpack_81 ?_
    refine x_getI (pc := 82) fi_X5_21 dX5_unpack_82 ?_
    intro v5
    refine x_aload_n (pc := 85) (r := x3) 3 rfl rfl dX5_unpack_85 ?_
    refine x_nn (fun a6 e7 => ?_)
    subst e7
    refine x_getI (pc := 86) fi_X5_76 dX5_unpack_86 ?_
    intro v8
    refine x_iadd (pc := 89) dX5_unpack_89 ?_
    refine x_pI (pc := 90) fi_X5_21 (fun z => absurd z (by decide)) dX5_unpack_90 ?_
    intro h9
    refine x_iinc (pc := 93) (v := (1 : Int32)) (lv' := [(2, .int (x2 + (1 : Int32))), (0, .ref this), (1, .ref x1), (3, .ref a6), (4, .int x4)]) 2 rfl (by decide) (by decide) rfl dX5_unpack_93 ?_
    refine x_goto (pc := 96) 6 (by decide) dX5_unpack_96 ?_
    refine Sim.lv [1, 2, 0] rfl ?_
    exact hr6 h9 this x1 (x2 + (1 : Int32))
  · refine x_aload_n (pc := 35) (r := x3) 3 rfl rfl dX5_unpack_35 ?_
    refine x_iload (pc := 36) 4 rfl dX5_unpack_36 ?_
    refine x_aload_nR (pc := 38) (a := x1) 1 rfl rfl dX5_unpack_38 ?_
    refine x_getQ (pc := 39) fi_X5_184 dX5_unpack_39 ?_
    intro v10
    refine x_aload_nR (pc := 42) (a := this) 0 rfl rfl dX5_unpack_42 ?_
    refine x_getI (pc := 43) fi_X5_17 dX5_unpack_43 ?_
    intro v11
    refine x_bipush (pc := 46) (v := 64) (by decide) dX5_unpack_46 ?_
    refine x_idiv (pc := 48) dX5_unpack_48 ?_
    refine x_nn (fun a12 e13 => ?_)
    subst e13
    refine x_lald (pc := 49) dX5_unpack_49 ?_
    intro v14
    refine x_aload_nR (pc := 50) (a := this) 0 rfl rfl dX5_unpack_50 ?_
    refine x_getI (pc := 51) fi_X5_17 dX5_unpack_51 ?_
    intro v15
    refine x_bipush (pc := 54) (v := 64) (by decide) dX5_unpack_54 ?_
    refine x_irem (pc := 56) dX5_unpack_56 ?_
    refine x_lshr (pc := 57) dX5_unpack_57 ?_
    refine x_lconst (pc := 58) (v := 1) (by decide) dX5_unpack_58 ?_
    refine x_land (pc := 59) dX5_unpack_59 ?_
    refine x_l2i (pc := 60) dX5_unpack_60 ?_
    refine x_nn (fun a16 e17 => ?_)
    subst e17
    refine x_callV (pc := 61) (As := [.int x4, .int (((v14 >>> ((v15 - v15 / (64 : Int32) * (64 : Int32)).toInt64 &&& 63)) &&& (1 : Int64)).toInt32)]) (rest := []) (lev' := 2) si_X5_132 (m_L_insert h a16 x4 (((v14 >>> ((v15 - v15 / (64 : Int32) * (64 : Int32)).toInt64 &&& 63)) &&& (1 : Int64)).toInt32)) (fun z e => grd1 e) rfl rfl (by decide) (cat4 (Nat.le_of_ble_eq_true rfl)) dX5_unpack_61 (kV (fun h18 => ?_)) xNo
    refine x_iinc (pc := 64) (v := (1 : Int32)) (lv' := [(4, .int (x4 + (1 : Int32))), (0, .ref this), (1, .ref x1), (2, .int x2), (3, .ref a16)]) 4 rfl (by decide) (by decide) rfl dX5_unpack_64 ?_
    refine x_aload_nR (pc := 67) (a := this) 1 rfl rfl dX5_unpack_67 ?_
    refine x_dup (pc := 68) rfl dX5_unpack_68 ?_
    refine x_getI (pc := 69) fi_X5_17 dX5_unpack_69 ?_
    intro v19
    refine x_iconst (pc := 72) (v := 1) (by decide) dX5_unpack_72 ?_
    refine x_iadd (pc := 73) dX5_unpack_73 ?_
    refine x_pI (pc := 74) fi_X5_17 (fun z => absurd z (by decide)) dX5_unpack_74 ?_
    intro h20
    refine x_goto (pc := 77) 24 (by decide) dX5_unpack_77 ?_
    refine Sim.lv [1, 2, 3, 4, 0] rfl ?_
    exact hr24 h20 this x1 x2 (some a16) (x4 + (1 : Int32))
set_option maxHeartbeats 4000000 in
theorem v_R_unpack_l24 (r6 : PH → Nat → Nat → Int32 → Option RH) (hr6 : ∀ (h : PH) (this : Nat) (x1 : Nat) (x2 : Int32), Sim Y_R_unpack h 6 [(0, .ref this), (1, .ref x1), (2, .int x2)] [] (r6 h this x1 x2)) : ∀ (n : Nat) (h : PH) (this : Nat) (x1 : Nat) (x2 : Int32) (x3 : Option Nat) (x4 : Int32), Sim Y_R_unpack h 24 [(0, .ref this), (1, .ref x1), (2, .int x2), (3, va_rf x3), (4, .int x4)] [] (itr (c_R_unpack_l24 r6) (fun _ _ _ _ _ _ => none) n h this x1 x2 x3 x4)
  | 0, h, this, x1, x2, x3, x4 => Sim.none
  | n + 1, h, this, x1, x2, x3, x4 => w_R_unpack_l24 r6 _ hr6 (v_R_unpack_l24 r6 hr6 n) h this x1 x2 x3 x4
set_option maxHeartbeats 4000000 in
theorem w_R_unpack_l6 (r6 : PH → Nat → Nat → Int32 → Option RH) (hr6 : ∀ (h : PH) (this : Nat) (x1 : Nat) (x2 : Int32), Sim Y_R_unpack h 6 [(0, .ref this), (1, .ref x1), (2, .int x2)] [] (r6 h this x1 x2)) (h : PH) (this : Nat) (x1 : Nat) (x2 : Int32) : Sim Y_R_unpack h 6 [(0, .ref this), (1, .ref x1), (2, .int x2)] [] (c_R_unpack_l6 r6 h this x1 x2) := by
  unfold c_R_unpack_l6
  refine x_iload_n (pc := 6) 2 rfl rfl dX5_unpack_6 ?_
  refine x_aload_nR (pc := 7) (a := x1) 1 rfl rfl dX5_unpack_7 ?_
  refine x_getQ (pc := 8) fi_X5_180 dX5_unpack_8 ?_
  intro v1
  refine x_nn (fun a2 e3 => ?_)
  subst e3
  refine x_alen (pc := 11) dX5_unpack_11 ?_
  intro v4
  refine x_icmp_ge (pc := 12) 99 (by decide) dX5_unpack_12 ?_ ?_
  · refine x_aload_nR (pc := 99) (a := this) 0 rfl rfl dX5_unpack_99 ?_
    refine x_aload_nR (pc := 100) (a := x1) 1 rfl rfl dX5_unpack_100 ?_
    refine x_getQ (pc := 101) fi_X5_180 dX5_unpack_101 ?_
    intro v5
    refine x_nn (fun a6 e7 => ?_)
    subst e7
    refine x_alen (pc := 104) dX5_unpack_104 ?_
    intro v8
    refine x_pI (pc := 105) fi_X5_24 (fun z => absurd z (by decide)) dX5_unpack_105 ?_
    intro h9
    exact x_vret (pc := 108) dX5_unpack_108
  · refine x_aload_nR (pc := 15) (a := this) 0 rfl rfl dX5_unpack_15 ?_
    refine x_iload_n (pc := 16) 2 rfl rfl dX5_unpack_16 ?_
    refine x_callV (pc := 17) (As := [.int x2]) (rest := []) (lev' := 3) si_X5_128 (m_R_fresh h this x2) (fun z e => grd1 e) rfl rfl (by decide) (cat4 (Nat.le_of_ble_eq_true rfl)) dX5_unpack_17 (kQ (fun v11 h10 => ?_)) xNo
    refine x_astore_n (pc := 20) (r := v11) (lv' := [(3, va_rf v11), (0, .ref this), (1, .ref x1), (2, .int x2)]) rfl (by decide) rfl dX5_unpack_20 ?_
    refine x_iconst (pc := 21) (v := 0) (by decide) dX5_unpack_21 ?_
    refine x_istore (pc := 22) (lv' := [(4, .int (0 : Int32)), (3, va_rf v11), (0, .ref this), (1, .ref x1), (2, .int x2)]) (by decide) (by simp [rf_cat]) dX5_unpack_22 ?_
    refine Sim.lv [2, 3, 4, 1, 0] rfl ?_
    exact v_R_unpack_l24 r6 hr6 FU h10 this x1 x2 v11 (0 : Int32)
set_option maxHeartbeats 4000000 in
theorem v_R_unpack_l6 : ∀ (n : Nat) (h : PH) (this : Nat) (x1 : Nat) (x2 : Int32), Sim Y_R_unpack h 6 [(0, .ref this), (1, .ref x1), (2, .int x2)] [] (itr (c_R_unpack_l6) (fun _ _ _ _ => none) n h this x1 x2)
  | 0, h, this, x1, x2 => Sim.none
  | n + 1, h, this, x1, x2 => w_R_unpack_l6 _ (v_R_unpack_l6 n) h this x1 x2
set_option maxHeartbeats 4000000 in
theorem m_R_unpack (h : PH) (this : Nat) (x1 : Nat) : MM yX5_unpack (ws_ yX5_unpack cX5_unpack 5 none) 4 [.ref this, .ref x1] h (c_R_unpack h this x1) := by
  refine MM.of (by decide) rfl (by decide) (Nat.le_of_ble_eq_true rfl) (own := RX5) (cc := cX5_unpack) (maxL := 5) (lev := 4) (rt := none) (ini := false) ?_
  show Sim Y_R_unpack h 0 [(0, .ref this), (1, .ref x1)] [] _
  unfold c_R_unpack
  refine x_grd ?_
  refine x_aload_nR (pc := 0) (a := this) 0 rfl rfl dX5_unpack_0 ?_
  refine x_callV (pc := 1) (As := []) (rest := []) (lev' := 1) si_X5_177 (m_R_clear h this) (fun z e => grd1 e) rfl rfl (by decide) (cat4 (Nat.le_of_ble_eq_true rfl)) dX5_unpack_1 (kV (fun h1 => ?_)) xNo
  refine x_iconst (pc := 4) (v := 0) (by decide) dX5_unpack_4 ?_
  refine x_istore_n (pc := 5) (lv' := [(2, .int (0 : Int32)), (0, .ref this), (1, .ref x1)]) rfl (by decide) rfl dX5_unpack_5 ?_
  refine Sim.lv [1, 2, 0] rfl ?_
  exact v_R_unpack_l6 FU h1 this x1 (0 : Int32)
theorem ni_X5_172 : NI RX5 172 11 [.null, .null] := ⟨_, _, _, _, ci_11, q1114, q1115, q137, by decide +kernel, rfl⟩
theorem si_X5_174 : SiI RX5 174 yX14_init cX14_init 3 2 := ⟨q1118, q137, q1116, q1117, rfl, ⟨by decide, by decide, by decide +kernel⟩, by decide⟩
theorem si_X5_168 : SiV RX5 168 4 yX5_all cX5_all 1 (some (.array (.object "BitRopes$Leaf"))) 0 := ⟨_, _, _, ci_4.1, by decide, lw_V q1113 q1028 q1029 q116 q1030, ⟨rfl, by decide, by decide, by decide +kernel⟩, by decide⟩
abbrev Y_R_pack : Yx := (RX5, cX5_pack, 7, 17, (some (.object "BitRopes$Packed")), [], false)
def c_R_pack_l57 (r33 : PH → Nat → Nat → Nat → Int32 → Option Nat → Int32 → Option RH) (r57 : PH → Nat → Nat → Nat → Int32 → Option Nat → Int32 → Int32 → Option RH) (h : PH) (this : Nat) (x1 : Nat) (x2 : Nat) (x3 : Int32) (x4 : Option Nat) (x5 : Int32) (x6 : Int32) : Option RH :=
  ldI h x2 0 x5 fun v1 =>
  if v1 ≤ x6 then
    r33 h this x1 x2 x3 x4 (x5 + (1 : Int32))
  else
    nn x4 fun a2 =>
    ldQ h a2 x5 fun v4 =>
    nn v4 fun a5 =>
    hI (c_L_get h a5 x6) noX fun v8 h7 =>
    if v8 = (1 : Int32) then
      nz (64 : Int32) <|
      ldL h7 x1 (x3 / (64 : Int32)) fun v9 =>
      nz (64 : Int32) <|
      stL h7 x1 (x3 / (64 : Int32)) (v9 ||| ((1 : Int64) <<< ((x3 - x3 / (64 : Int32) * (64 : Int32)).toInt64 &&& 63))) fun h10 =>
      r57 h10 this x1 x2 (x3 + (1 : Int32)) (some a2) x5 (x6 + (1 : Int32))
    else
      r57 h7 this x1 x2 (x3 + (1 : Int32)) (some a2) x5 (x6 + (1 : Int32))
def c_R_pack_l33 (r33 : PH → Nat → Nat → Nat → Int32 → Option Nat → Int32 → Option RH) (h : PH) (this : Nat) (x1 : Nat) (x2 : Nat) (x3 : Int32) (x4 : Option Nat) (x5 : Int32) : Option RH :=
  gI h this [4] 5 fun v1 =>
  if v1 ≤ x5 then
    newO h 11 [.null, .null] fun a2 h3 =>
    hV (c_P_init h3 a2 x1 x2) noX fun h4 =>
    rQ (some a2) h4
  else
    nn x4 fun a5 =>
    ldQ h a5 x5 fun v7 =>
    nn v7 fun a8 =>
    gI h a8 [9] 0 fun v10 =>
    stI h x2 x5 v10 fun h11 =>
    itr (c_R_pack_l57 r33) (fun _ _ _ _ _ _ _ _ => none) FU h11 this x1 x2 x3 (some a5) x5 (0 : Int32)
def c_R_pack (h : PH) (this : Nat) : Option RH :=
  grd h this [4] (
  hI (c_R_wide h this) noX fun v2 h1 =>
  nz (64 : Int32) <|
  newA h1 1 (((v2 + (64 : Int32)) - (1 : Int32)) / (64 : Int32)) (.inr (.inl (fun _ => 0))) fun a3 h4 =>
  hI (c_R_folds h4 this) noX fun v6 h5 =>
  newA h5 0 v6 (.inl (fun _ => 0)) fun a7 h8 =>
  hQ (c_R_all h8 this) noX fun v10 h9 =>
  itr (c_R_pack_l33) (fun _ _ _ _ _ _ _ => none) FU h9 this a3 a7 (0 : Int32) v10 (0 : Int32))
set_option maxHeartbeats 4000000 in
theorem w_R_pack_l57 (r33 : PH → Nat → Nat → Nat → Int32 → Option Nat → Int32 → Option RH) (r57 : PH → Nat → Nat → Nat → Int32 → Option Nat → Int32 → Int32 → Option RH) (hr33 : ∀ (h : PH) (this : Nat) (x1 : Nat) (x2 : Nat) (x3 : Int32) (x4 : Option Nat) (x5 : Int32), Sim Y_R_pack h 33 [(0, .ref this), (1, .ref x1), (2, .ref x2), (3, .int x3), (4, va_rf x4), (5, .int x5)] [] (r33 h this x1 x2 x3 x4 x5)) (hr57 : ∀ (h : PH) (this : Nat) (x1 : Nat) (x2 : Nat) (x3 : Int32) (x4 : Option Nat) (x5 : Int32) (x6 : Int32), Sim Y_R_pack h 57 [(0, .ref this), (1, .ref x1), (2, .ref x2), (3, .int x3), (4, va_rf x4), (5, .int x5), (6, .int x6)] [] (r57 h this x1 x2 x3 x4 x5 x6)) (h : PH) (this : Nat) (x1 : Nat) (x2 : Nat) (x3 : Int32) (x4 : Option Nat) (x5 : Int32) (x6 : Int32) : Sim Y_R_pack h 57 [(0, .ref this), (1, .ref x1), (2, .ref x2), (3, .int x3), (4, va_rf x4), (5, .int x5), (6, .int x6)] [] (c_R_pack_l57 r33 r57 h this x1 x2 x3 x4 x5 x6) := by
  unfold c_R_pack_l57
  refine x_iload (pc := 57) 6 rfl dX5_pack_57 ?_
  refine x_aload_nR (pc := 59) (a := x2) 2 rfl rfl dX5_pack_59 ?_
  refine x_iload (pc := 60) 5 rfl dX5_pack_60 ?_
  refine x_iald (pc := 62) dX5_pack_62 ?_
  intro v1
  refine x_icmp_ge (pc := 63) 104 (by decide) dX5_pack_63 ?_ ?_
  · refine x_iinc (pc := 104) (v := (1 : Int32)) (lv' := [(5, .int (x5 + (1 : Int32))), (0, .ref this), (1, .ref x1), (2, .ref x2), (3, .int x3), (4, va_rf x4), (6, .int x6)]) 5 rfl (by decide) (by decide) (by simp [rf_cat]) dX5_pack_104 ?_
    refine x_goto (pc := 107) 33 (by decide) dX5_pack_107 ?_
    refine Sim.lv [1, 2, 3, 4, 5, 0] rfl ?_
    exact hr33 h this x1 x2 x3 x4 (x5 + (1 : Int32))
  · refine x_aload (pc := 66) (r := x4) 4 rfl dX5_pack_66 ?_
    refine x_iload (pc := 68) 5 rfl dX5_pack_68 ?_
    refine x_nn (fun a2 e3 => ?_)
    subst e3
    refine x_aald (pc := 70) dX5_pack_70 ?_
    intro v4
    refine x_iload (pc := 71) 6 rfl dX5_pack_71 ?_
    refine x_nn (fun a5 e6 => ?_)
    subst e6
    refine x_callV (pc := 73) (As := [.int x6]) (rest := []) (lev' := 1) si_X5_72 (m_L_get h a5 x6) (fun z e => grd1 e) rfl rfl (by decide) (cat4 (Nat.le_of_ble_eq_true rfl)) dX5_pack_73 (kI (fun v8 h7 => ?_)) xNo
    refine x_iconst (pc := 76) (v := 1) (by decide) dX5_pack_76 ?_
    refine x_icmp_ne (pc := 77) 95 (by decide) dX5_pack_77 ?_ ?_
    · refine x_iinc (pc := 95) (v := (1 : Int32)) (lv' := [(6, .int (x6 + (1 : Int32))), (0, .ref this), (1, .ref x1), (2, .ref x2), (3, .int x3), (4, .ref a2), (5, .int x5)]) 6 rfl (by decide) (by decide) rfl dX5_pack_95 ?_
      refine x_iinc (pc := 98) (v := (1 : Int32)) (lv' := [(3, .int (x3 + (1 : Int32))), (6, .int (x6 + (1 : Int32))), (0, .ref this), (1, .ref x1), (2, .ref x2), (4, .ref a2), (5, .int x5)]) 4 rfl (by decide) (by decide) rfl dX5_pack_98 ?_
      refine x_goto (pc := 101) 57 (by decide) dX5_pack_101 ?_
      refine Sim.lv [2, 3, 4, 0, 5, 6, 1] rfl ?_
      exact hr57 h7 this x1 x2 (x3 + (1 : Int32)) (some a2) x5 (x6 + (1 : Int32))
    · refine x_aload_nR (pc := 80) (a := x1) 1 rfl rfl dX5_pack_80 ?_
      refine x_iload_n (pc := 81) 3 rfl rfl dX5_pack_81 ?_
      refine x_bipush (pc := 82) (v := 64) (by decide) dX5_pack_82 ?_
      refine x_idiv (pc := 84) dX5_pack_84 ?_
      refine x_dup2 (pc := 85) rfl rfl dX5_pack_85 ?_
      refine x_lald (pc := 86) dX5_pack_86 ?_
      intro v9
      refine x_lconst (pc := 87) (v := 1) (by decide) dX5_pack_87 ?_
      refine x_iload_n (pc := 88) 3 rfl rfl dX5_pack_88 ?_
      refine x_bipush (pc := 89) (v := 64) (by decide) dX5_pack_89 ?_
      refine x_irem (pc := 91) dX5_pack_91 ?_
      refine x_lshl (pc := 92) dX5_pack_92 ?_
      refine x_lor (pc := 93) dX5_pack_93 ?_
      refine x_last (pc := 94) dX5_pack_94 ?_
      intro h10
      refine x_iinc (pc := 95) (v := (1 : Int32)) (lv' := [(6, .int (x6 + (1 : Int32))), (0, .ref this), (1, .ref x1), (2, .ref x2), (3, .int x3), (4, .ref a2), (5, .int x5)]) 6 rfl (by decide) (by decide) rfl dX5_pack_95 ?_
      refine x_iinc (pc := 98) (v := (1 : Int32)) (lv' := [(3, .int (x3 + (1 : Int32))), (6, .int (x6 + (1 : Int32))), (0, .ref this), (1, .ref x1), (2, .ref x2), (4, .ref a2), (5, .int x5)]) 4 rfl (by decide) (by decide) rfl dX5_pack_98 ?_
      refine x_goto (pc := 101) 57 (by decide) dX5_pack_101 ?_
      refine Sim.lv [2, 3, 4, 0, 5, 6, 1] rfl ?_
      exact hr57 h10 this x1 x2 (x3 + (1 : Int32)) (some a2) x5 (x6 + (1 : Int32))
set_option maxHeartbeats 4000000 in
theorem v_R_pack_l57 (r33 : PH → Nat → Nat → Nat → Int32 → Option Nat → Int32 → Option RH) (hr33 : ∀ (h : PH) (this : Nat) (x1 : Nat) (x2 : Nat) (x3 : Int32) (x4 : Option Nat) (x5 : Int32), Sim Y_R_pack h 33 [(0, .ref this), (1, .ref x1), (2, .ref x2), (3, .int x3), (4, va_rf x4), (5, .int x5)] [] (r33 h this x1 x2 x3 x4 x5)) : ∀ (n : Nat) (h : PH) (this : Nat) (x1 : Nat) (x2 : Nat) (x3 : Int32) (x4 : Option Nat) (x5 : Int32) (x6 : Int32), Sim Y_R_pack h 57 [(0, .ref this), (1, .ref x1), (2, .ref x2), (3, .int x3), (4, va_rf x4), (5, .int x5), (6, .int x6)] [] (itr (c_R_pack_l57 r33) (fun _ _ _ _ _ _ _ _ => none) n h this x1 x2 x3 x4 x5 x6)
  | 0, h, this, x1, x2, x3, x4, x5, x6 => Sim.none
  | n + 1, h, this, x1, x2, x3, x4, x5, x6 => w_R_pack_l57 r33 _ hr33 (v_R_pack_l57 r33 hr33 n) h this x1 x2 x3 x4 x5 x6
set_option maxHeartbeats 4000000 in
theorem w_R_pack_l33 (r33 : PH → Nat → Nat → Nat → Int32 → Option Nat → Int32 → Option RH) (hr33 : ∀ (h : PH) (this : Nat) (x1 : Nat) (x2 : Nat) (x3 : Int32) (x4 : Option Nat) (x5 : Int32), Sim Y_R_pack h 33 [(0, .ref this), (1, .ref x1), (2, .ref x2), (3, .int x3), (4, va_rf x4), (5, .int x5)] [] (r33 h this x1 x2 x3 x4 x5)) (h : PH) (this : Nat) (x1 : Nat) (x2 : Nat) (x3 : Int32) (x4 : Option Nat) (x5 : Int32) : Sim Y_R_pack h 33 [(0, .ref this), (1, .ref x1), (2, .ref x2), (3, .int x3), (4, va_rf x4), (5, .int x5)] [] (c_R_pack_l33 r33 h this x1 x2 x3 x4 x5) := by
  unfold c_R_pack_l33
  refine x_iload (pc := 33) 5 rfl dX5_pack_33 ?_
  refine x_aload_nR (pc := 35) (a := this) 0 rfl rfl dX5_pack_35 ?_
  refine x_getI (pc := 36) fi_X5_24 dX5_pack_36 ?_
  intro v1
  refine x_icmp_ge (pc := 39) 110 (by decide) dX5_pack_39 ?_ ?_
  · refine x_new (pc := 110) ni_X5_172 dX5_pack_110 ?_
    intro a2 h3
    refine x_dup (pc := 113) rfl dX5_pack_113 ?_
    refine x_aload_nR (pc := 114) (a := x1) 1 rfl rfl dX5_pack_114 ?_
    refine x_aload_nR (pc := 115) (a := x2) 2 rfl rfl dX5_pack_115 ?_
    refine x_callI (pc := 116) (As := [.ref x1, .ref x2]) (rest := [.ref a2]) (lev' := 1) si_X5_174 (m_P_init h3 a2 x1 x2) rfl rfl (by decide) (cat4 (Nat.le_of_ble_eq_true rfl)) dX5_pack_116 (kV (fun h4 => ?_)) xNo
    exact x_aret (pc := 119) (v := (some a2)) (Or.inl ⟨_, rfl⟩) dX5_pack_119
  · refine x_aload_nR (pc := 42) (a := x2) 2 rfl rfl dX5_pack_42 ?_
    refine x_iload (pc := 43) 5 rfl dX5_pack_43 ?_
    refine x_aload (pc := 45) (r := x4) 4 rfl dX5_pack_45 ?_
    refine x_iload (pc := 47) 5 rfl dX5_pack_47 ?_
    refine x_nn (fun a5 e6 => ?_)
    subst e6
    refine x_aald (pc := 49) dX5_pack_49 ?_
    intro v7
    refine x_nn (fun a8 e9 => ?_)
    subst e9
    refine x_getI (pc := 50) fi_X5_65 dX5_pack_50 ?_
    intro v10
    refine x_iast (pc := 53) dX5_pack_53 ?_
    intro h11
    refine x_iconst (pc := 54) (v := 0) (by decide) dX5_pack_54 ?_
    refine x_istore (pc := 55) (lv' := [(6, .int (0 : Int32)), (0, .ref this), (1, .ref x1), (2, .ref x2), (3, .int x3), (4, .ref a5), (5, .int x5)]) (by decide) rfl dX5_pack_55 ?_
    refine Sim.lv [1, 2, 3, 4, 5, 6, 0] rfl ?_
    exact v_R_pack_l57 r33 hr33 FU h11 this x1 x2 x3 (some a5) x5 (0 : Int32)
set_option maxHeartbeats 4000000 in
theorem v_R_pack_l33 : ∀ (n : Nat) (h : PH) (this : Nat) (x1 : Nat) (x2 : Nat) (x3 : Int32) (x4 : Option Nat) (x5 : Int32), Sim Y_R_pack h 33 [(0, .ref this), (1, .ref x1), (2, .ref x2), (3, .int x3), (4, va_rf x4), (5, .int x5)] [] (itr (c_R_pack_l33) (fun _ _ _ _ _ _ _ => none) n h this x1 x2 x3 x4 x5)
  | 0, h, this, x1, x2, x3, x4, x5 => Sim.none
  | n + 1, h, this, x1, x2, x3, x4, x5 => w_R_pack_l33 _ (v_R_pack_l33 n) h this x1 x2 x3 x4 x5
set_option maxHeartbeats 4000000 in
theorem m_R_pack (h : PH) (this : Nat) : MM yX5_pack (ws_ yX5_pack cX5_pack 7 (some (.object "BitRopes$Packed"))) 17 [.ref this] h (c_R_pack h this) := by
  refine MM.of (by decide) rfl (by decide) (Nat.le_of_ble_eq_true rfl) (own := RX5) (cc := cX5_pack) (maxL := 7) (lev := 17) (rt := (some (.object "BitRopes$Packed"))) (ini := false) ?_
  show Sim Y_R_pack h 0 [(0, .ref this)] [] _
  unfold c_R_pack
  refine x_grd ?_
  refine x_aload_nR (pc := 0) (a := this) 0 rfl rfl dX5_pack_0 ?_
  refine x_callV (pc := 1) (As := []) (rest := []) (lev' := 1) si_X5_89 (m_R_wide h this) (fun z e => grd1 e) rfl rfl (by decide) (cat4 (Nat.le_of_ble_eq_true rfl)) dX5_pack_1 (kI (fun v2 h1 => ?_)) xNo
  refine x_bipush (pc := 4) (v := 64) (by decide) dX5_pack_4 ?_
  refine x_iadd (pc := 6) dX5_pack_6 ?_
  refine x_iconst (pc := 7) (v := 1) (by decide) dX5_pack_7 ?_
  refine x_isub (pc := 8) dX5_pack_8 ?_
  refine x_bipush (pc := 9) (v := 64) (by decide) dX5_pack_9 ?_
  refine x_idiv (pc := 11) dX5_pack_11 ?_
  refine x_newaL (pc := 12) dX5_pack_12 ?_
  intro a3 h4
  refine x_astore_nR (pc := 14) (a := a3) (lv' := [(1, .ref a3), (0, .ref this)]) rfl (by decide) rfl dX5_pack_14 ?_
  refine x_aload_nR (pc := 15) (a := this) 1 rfl rfl dX5_pack_15 ?_
  refine x_callV (pc := 16) (As := []) (rest := []) (lev' := 1) si_X5_165 (m_R_folds h4 this) (fun z e => grd1 e) rfl rfl (by decide) (cat4 (Nat.le_of_ble_eq_true rfl)) dX5_pack_16 (kI (fun v6 h5 => ?_)) xNo
  refine x_newaI (pc := 19) dX5_pack_19 ?_
  intro a7 h8
  refine x_astore_nR (pc := 21) (a := a7) (lv' := [(2, .ref a7), (1, .ref a3), (0, .ref this)]) rfl (by decide) rfl dX5_pack_21 ?_
  refine x_iconst (pc := 22) (v := 0) (by decide) dX5_pack_22 ?_
  refine x_istore_n (pc := 23) (lv' := [(3, .int (0 : Int32)), (2, .ref a7), (1, .ref a3), (0, .ref this)]) rfl (by decide) rfl dX5_pack_23 ?_
  refine x_aload_nR (pc := 24) (a := this) 3 rfl rfl dX5_pack_24 ?_
  refine x_callV (pc := 25) (As := []) (rest := []) (lev' := 16) si_X5_168 (m_R_all h8 this) (fun z e => grd1 e) rfl rfl (by decide) (cat4 (Nat.le_of_ble_eq_true rfl)) dX5_pack_25 (kQ (fun v10 h9 => ?_)) xNo
  refine x_astore (pc := 28) (r := v10) (lv' := [(4, va_rf v10), (3, .int (0 : Int32)), (2, .ref a7), (1, .ref a3), (0, .ref this)]) (by decide) rfl dX5_pack_28 ?_
  refine x_iconst (pc := 30) (v := 0) (by decide) dX5_pack_30 ?_
  refine x_istore (pc := 31) (lv' := [(5, .int (0 : Int32)), (4, va_rf v10), (3, .int (0 : Int32)), (2, .ref a7), (1, .ref a3), (0, .ref this)]) (by decide) (by simp [rf_cat]) dX5_pack_31 ?_
  refine Sim.lv [5, 4, 3, 2, 1, 0] rfl ?_
  exact v_R_pack_l33 FU h9 this a3 a7 (0 : Int32) v10 (0 : Int32)
theorem si_X5_92 : SiV RX5 92 9 yX12_write cX12_write 3 none 2 := ⟨_, _, _, ci_9.1, by decide, lw_V q1148 q1149 q1150 q127 q1151, ⟨rfl, by decide, by decide, by decide +kernel⟩, by decide⟩
theorem si_X5_96 : SiV RX5 96 4 yX5_write_2 cX5_write_2 5 none 3 := ⟨_, _, _, ci_4.1, by decide, lw_V q1144 q1146 qs24 q116 q1147, ⟨rfl, by decide, by decide, by decide +kernel⟩, by decide⟩
theorem si_X5_99 : SiV RX5 99 10 yX13_recount cX13_recount 1 none 0 := ⟨_, _, _, ci_10.1, by decide, lw_V q1152 q956 q957 q131 q958, ⟨rfl, by decide, by decide, by decide +kernel⟩, by decide⟩
abbrev Y_R_write_2 (d : Nat) : Yx := (RX5, cX5_write_2, 5, (3 + d + 1), none, [], false)
def b_R_write_2 (rg : PH → Nat → Nat → Int32 → Int32 → Option RH) (h : PH) (this : Nat) (x1 : Nat) (x2 : Int32) (x3 : Int32) : Option RH :=
  grd h this [4] (
  iof h (some x1) 9 10 (
    grd h x1 [9] <|
    hV (c_L_write h x1 x2 x3) noX fun h1 =>
    rV h1) (
    grd h x1 [10] <|
    hV (c_I_push h x1) noX fun h2 =>
    gQ h2 x1 [10] 3 fun v3 =>
    nn v3 fun a4 =>
    ldQ h2 a4 (0 : Int32) fun v6 =>
    nn v6 fun a7 =>
    gI h2 a7 [9, 10] 0 fun v9 =>
    if v9 ≤ x2 then
      gQ h2 x1 [10] 3 fun v10 =>
      nn v10 fun a11 =>
      ldQ h2 a11 (1 : Int32) fun v13 =>
      gQ h2 x1 [10] 3 fun v14 =>
      nn v14 fun a15 =>
      ldQ h2 a15 (0 : Int32) fun v17 =>
      nn v17 fun a18 =>
      gI h2 a18 [9, 10] 0 fun v20 =>
      nn v13 fun a21 =>
      hV (grd h2 this [4] (rg h2 this a21 (x2 - v20) x3)) noX fun h23 =>
      hV (c_I_recount h23 x1) noX fun h24 =>
      rV h24
    else
      gQ h2 x1 [10] 3 fun v25 =>
      nn v25 fun a26 =>
      ldQ h2 a26 (0 : Int32) fun v28 =>
      nn v28 fun a29 =>
      hV (grd h2 this [4] (rg h2 this a29 x2 x3)) noX fun h31 =>
      hV (c_I_recount h31 x1) noX fun h32 =>
      rV h32))
set_option maxHeartbeats 4000000 in
theorem t_R_write_2 (rg : PH → Nat → Nat → Int32 → Int32 → Option RH) {d : Nat} (hrg : (∀ (h : PH) (this : Nat) (x1 : Nat) (x2 : Int32) (x3 : Int32), MM yX5_write_2 (ws_ yX5_write_2 cX5_write_2 5 none) (3 + d) [.ref this, .ref x1, .int x2, .int x3] h (rg h this x1 x2 x3))) (h : PH) (this : Nat) (x1 : Nat) (x2 : Int32) (x3 : Int32) : MM yX5_write_2 (ws_ yX5_write_2 cX5_write_2 5 none) (3 + d + 1) [.ref this, .ref x1, .int x2, .int x3] h (b_R_write_2 rg h this x1 x2 x3) := by
  refine MM.of (by decide) rfl (by decide) (Nat.le_of_ble_eq_true rfl) (own := RX5) (cc := cX5_write_2) (maxL := 5) (lev := (3 + d + 1)) (rt := none) (ini := false) ?_
  show Sim (Y_R_write_2 d) h 0 [(0, .ref this), (1, .ref x1), (2, .int x2), (3, .int x3)] [] _
  unfold b_R_write_2
  refine x_grd ?_
  refine x_aload_nR (pc := 0) (a := x1) 1 rfl rfl dX5_write_2_0 ?_
  refine x_inst (pc := 1) (r := (some x1)) ci_9 ci_10 (by decide +kernel) q288 dX5_write_2_1 ?_ ?_
  · refine x_if_eqF (pc := 4) 17 (by decide) (by decide) dX5_write_2_4 ?_
    refine x_aload_nR (pc := 7) (a := x1) 1 rfl rfl dX5_write_2_7 ?_
    refine x_cast (pc := 8) ci_9 q288 dX5_write_2_8 ?_
    refine x_iload_n (pc := 11) 2 rfl rfl dX5_write_2_11 ?_
    refine x_iload_n (pc := 12) 3 rfl rfl dX5_write_2_12 ?_
    refine x_callV (pc := 13) (As := [.int x2, .int x3]) (rest := []) (lev' := 2) si_X5_92 (m_L_write h x1 x2 x3) (fun z e => grd1 e) rfl rfl (by omega) (cat4 (Nat.le_of_ble_eq_true rfl)) dX5_write_2_13 (kV (fun h1 => ?_)) xNo
    exact x_vret (pc := 16) dX5_write_2_16
  · refine x_if_eqT (pc := 4) 17 (by decide) (by decide) dX5_write_2_4 ?_
    refine x_aload_nR (pc := 17) (a := x1) 1 rfl rfl dX5_write_2_17 ?_
    refine x_cast (pc := 18) ci_10 q751 dX5_write_2_18 ?_
    refine x_astoreR (pc := 21) (a := x1) (lv' := [(4, .ref x1), (0, .ref this), (1, .ref x1), (2, .int x2), (3, .int x3)]) (by decide) rfl dX5_write_2_21 ?_
    refine x_aloadR (pc := 23) (a := x1) 0 rfl dX5_write_2_23 ?_
    refine x_callV (pc := 25) (As := []) (rest := []) (lev' := 2) si_X5_48 (m_I_push h x1) (fun z e => grd1 e) rfl rfl (by omega) (cat4 (Nat.le_of_ble_eq_true rfl)) dX5_write_2_25 (kV (fun h2 => ?_)) xNo
    refine x_iload_n (pc := 28) 3 rfl rfl dX5_write_2_28 ?_
    refine x_aloadR (pc := 29) (a := x1) 0 rfl dX5_write_2_29 ?_
    refine x_getQ (pc := 31) fi_X5_51 dX5_write_2_31 ?_
    intro v3
    refine x_iconst (pc := 34) (v := 0) (by decide) dX5_write_2_34 ?_
    refine x_nn (fun a4 e5 => ?_)
    subst e5
    refine x_aald (pc := 35) dX5_write_2_35 ?_
    intro v6
    refine x_nn (fun a7 e8 => ?_)
    subst e8
    refine x_getI (pc := 36) fi_X5_75 dX5_write_2_36 ?_
    intro v9
    refine x_icmp_ge (pc := 39) 58 (by decide) dX5_write_2_39 ?_ ?_
    · refine x_aload_nR (pc := 58) (a := this) 1 rfl rfl dX5_write_2_58 ?_
      refine x_aloadR (pc := 59) (a := x1) 0 rfl dX5_write_2_59 ?_
      refine x_getQ (pc := 61) fi_X5_51 dX5_write_2_61 ?_
      intro v10
      refine x_iconst (pc := 64) (v := 1) (by decide) dX5_write_2_64 ?_
      refine x_nn (fun a11 e12 => ?_)
      subst e12
      refine x_aald (pc := 65) dX5_write_2_65 ?_
      intro v13
      refine x_iload_n (pc := 66) 3 rfl rfl dX5_write_2_66 ?_
      refine x_aloadR (pc := 67) (a := x1) 0 rfl dX5_write_2_67 ?_
      refine x_getQ (pc := 69) fi_X5_51 dX5_write_2_69 ?_
      intro v14
      refine x_iconst (pc := 72) (v := 0) (by decide) dX5_write_2_72 ?_
      refine x_nn (fun a15 e16 => ?_)
      subst e16
      refine x_aald (pc := 73) dX5_write_2_73 ?_
      intro v17
      refine x_nn (fun a18 e19 => ?_)
      subst e19
      refine x_getI (pc := 74) fi_X5_75 dX5_write_2_74 ?_
      intro v20
      refine x_isub (pc := 77) dX5_write_2_77 ?_
      refine x_iload_n (pc := 78) 4 rfl rfl dX5_write_2_78 ?_
      refine x_nn (fun a21 e22 => ?_)
      subst e22
      refine x_callV (pc := 79) (As := [.ref a21, .int (x2 - v20), .int x3]) (rest := []) (lev' := (3 + d)) si_X5_96 (MM.grd (hrg h2 this a21 (x2 - v20) x3)) (fun z e => grd1 e) rfl rfl (by omega) (cat4 (Nat.le_of_ble_eq_true rfl)) dX5_write_2_79 (kV (fun h23 => ?_)) xNo
      refine x_aloadR (pc := 82) (a := x1) 0 rfl dX5_write_2_82 ?_
      refine x_callV (pc := 84) (As := []) (rest := []) (lev' := 1) si_X5_99 (m_I_recount h23 x1) (fun z e => grd1 e) rfl rfl (by omega) (cat4 (Nat.le_of_ble_eq_true rfl)) dX5_write_2_84 (kV (fun h24 => ?_)) xNo
      exact x_vret (pc := 87) dX5_write_2_87
    · refine x_aload_nR (pc := 42) (a := this) 1 rfl rfl dX5_write_2_42 ?_
      refine x_aloadR (pc := 43) (a := x1) 0 rfl dX5_write_2_43 ?_
      refine x_getQ (pc := 45) fi_X5_51 dX5_write_2_45 ?_
      intro v25
      refine x_iconst (pc := 48) (v := 0) (by decide) dX5_write_2_48 ?_
      refine x_nn (fun a26 e27 => ?_)
      subst e27
      refine x_aald (pc := 49) dX5_write_2_49 ?_
      intro v28
      refine x_iload_n (pc := 50) 3 rfl rfl dX5_write_2_50 ?_
      refine x_iload_n (pc := 51) 4 rfl rfl dX5_write_2_51 ?_
      refine x_nn (fun a29 e30 => ?_)
      subst e30
      refine x_callV (pc := 52) (As := [.ref a29, .int x2, .int x3]) (rest := []) (lev' := (3 + d)) si_X5_96 (MM.grd (hrg h2 this a29 x2 x3)) (fun z e => grd1 e) rfl rfl (by omega) (cat4 (Nat.le_of_ble_eq_true rfl)) dX5_write_2_52 (kV (fun h31 => ?_)) xNo
      refine x_goto (pc := 55) 82 (by decide) dX5_write_2_55 ?_
      refine x_aloadR (pc := 82) (a := x1) 0 rfl dX5_write_2_82 ?_
      refine x_callV (pc := 84) (As := []) (rest := []) (lev' := 1) si_X5_99 (m_I_recount h31 x1) (fun z e => grd1 e) rfl rfl (by omega) (cat4 (Nat.le_of_ble_eq_true rfl)) dX5_write_2_84 (kV (fun h32 => ?_)) xNo
      exact x_vret (pc := 87) dX5_write_2_87
def c_R_write_2 : Nat → PH → Nat → Nat → Int32 → Int32 → Option RH := itr b_R_write_2 (fun _ _ _ _ _ => none)
theorem m_R_write_2 : ∀ (d : Nat) (h : PH) (this : Nat) (x1 : Nat) (x2 : Int32) (x3 : Int32), MM yX5_write_2 (ws_ yX5_write_2 cX5_write_2 5 none) (3 + d) [.ref this, .ref x1, .int x2, .int x3] h (c_R_write_2 d h this x1 x2 x3)
  | 0, h, this, x1, x2, x3 => MM.none
  | d + 1, h, this, x1, x2, x3 => t_R_write_2 (d := d) (c_R_write_2 d) (m_R_write_2 d) h this x1 x2 x3
theorem si_X5_102 : SiV RX5 102 4 yX5_get cX5_get 6 (some .int) 1 := ⟨_, _, _, ci_4.1, by decide, lw_V q1143 q971 q972 q116 q973, ⟨rfl, by decide, by decide, by decide +kernel⟩, by decide⟩
abbrev Y_R_write : Yx := (RX5, cX5_write, 4, 16, none, [], false)
def c_R_write (h : PH) (this : Nat) (x1 : Int32) (x2 : Int32) : Option RH :=
  grd h this [4] (
  gI h this [4] 7 fun v1 =>
  hI (c_R_get h this x1) noX fun v3 h2 =>
  pI h2 this [4] 7 (v1 + (x2 - v3)) fun h4 =>
  gI h4 this [4] 2 fun v5 =>
  if v5 = 0 then
    hI (c_R_leafOf h4 this x1) noX fun v7 h6 =>
    gQ h6 this [4] 0 fun v8 =>
    nn v8 fun a9 =>
    ldQ h6 a9 v7 fun v11 =>
    gI h6 this [4] 8 fun v12 =>
    nn v11 fun a13 =>
    hV (c_L_write h6 a13 v12 x2) noX fun h15 =>
    rV h15
  else
    gQ h4 this [4] 1 fun v16 =>
    nn v16 fun a17 =>
    hV (grd h4 this [4] (c_R_write_2 12 h4 this a17 x1 x2)) noX fun h19 =>
    rV h19)
set_option maxHeartbeats 4000000 in
theorem m_R_write (h : PH) (this : Nat) (x1 : Int32) (x2 : Int32) : MM yX5_write (ws_ yX5_write cX5_write 4 none) 16 [.ref this, .int x1, .int x2] h (c_R_write h this x1 x2) := by
  refine MM.of (by decide) rfl (by decide) (Nat.le_of_ble_eq_true rfl) (own := RX5) (cc := cX5_write) (maxL := 4) (lev := 16) (rt := none) (ini := false) ?_
  show Sim Y_R_write h 0 [(0, .ref this), (1, .int x1), (2, .int x2)] [] _
  unfold c_R_write
  refine x_grd ?_
  refine x_aload_nR (pc := 0) (a := this) 0 rfl rfl dX5_write_0 ?_
  refine x_dup (pc := 1) rfl dX5_write_1 ?_
  refine x_getI (pc := 2) fi_X5_21 dX5_write_2 ?_
  intro v1
  refine x_iload_n (pc := 5) 2 rfl rfl dX5_write_5 ?_
  refine x_aload_nR (pc := 6) (a := this) 0 rfl rfl dX5_write_6 ?_
  refine x_iload_n (pc := 7) 1 rfl rfl dX5_write_7 ?_
  refine x_callV (pc := 8) (As := [.int x1]) (rest := [.int x2, .int v1, .ref this]) (lev' := 3) si_X5_102 (m_R_get h this x1) (fun z e => grd1 e) rfl rfl (by decide) (cat4 (Nat.le_of_ble_eq_true rfl)) dX5_write_8 (kI (fun v3 h2 => ?_)) xNo
  refine x_isub (pc := 11) dX5_write_11 ?_
  refine x_iadd (pc := 12) dX5_write_12 ?_
  refine x_pI (pc := 13) fi_X5_21 (fun z => absurd z (by decide)) dX5_write_13 ?_
  intro h4
  refine x_aload_nR (pc := 16) (a := this) 0 rfl rfl dX5_write_16 ?_
  refine x_getI (pc := 17) fi_X5_31 dX5_write_17 ?_
  intro v5
  refine x_if_eq (pc := 20) 36 (by decide) dX5_write_20 ?_ ?_
  · refine x_aload_nR (pc := 36) (a := this) 0 rfl rfl dX5_write_36 ?_
    refine x_iload_n (pc := 37) 1 rfl rfl dX5_write_37 ?_
    refine x_callV (pc := 38) (As := [.int x1]) (rest := []) (lev' := 1) si_X5_68 (m_R_leafOf h4 this x1) (fun z e => grd1 e) rfl rfl (by decide) (cat4 (Nat.le_of_ble_eq_true rfl)) dX5_write_38 (kI (fun v7 h6 => ?_)) xNo
    refine x_istore_n (pc := 41) (lv' := [(3, .int v7), (0, .ref this), (1, .int x1), (2, .int x2)]) rfl (by decide) rfl dX5_write_41 ?_
    refine x_aload_nR (pc := 42) (a := this) 1 rfl rfl dX5_write_42 ?_
    refine x_getQ (pc := 43) fi_X5_11 dX5_write_43 ?_
    intro v8
    refine x_iload_n (pc := 46) 0 rfl rfl dX5_write_46 ?_
    refine x_nn (fun a9 e10 => ?_)
    subst e10
    refine x_aald (pc := 47) dX5_write_47 ?_
    intro v11
    refine x_aload_nR (pc := 48) (a := this) 1 rfl rfl dX5_write_48 ?_
    refine x_getI (pc := 49) fi_X5_62 dX5_write_49 ?_
    intro v12
    refine x_iload_n (pc := 52) 3 rfl rfl dX5_write_52 ?_
    refine x_nn (fun a13 e14 => ?_)
    subst e14
    refine x_callV (pc := 53) (As := [.int v12, .int x2]) (rest := []) (lev' := 2) si_X5_92 (m_L_write h6 a13 v12 x2) (fun z e => grd1 e) rfl rfl (by decide) (cat4 (Nat.le_of_ble_eq_true rfl)) dX5_write_53 (kV (fun h15 => ?_)) xNo
    exact x_vret (pc := 56) dX5_write_56
  · refine x_aload_nR (pc := 23) (a := this) 0 rfl rfl dX5_write_23 ?_
    refine x_aload_nR (pc := 24) (a := this) 0 rfl rfl dX5_write_24 ?_
    refine x_getQ (pc := 25) fi_X5_27 dX5_write_25 ?_
    intro v16
    refine x_iload_n (pc := 28) 1 rfl rfl dX5_write_28 ?_
    refine x_iload_n (pc := 29) 2 rfl rfl dX5_write_29 ?_
    refine x_nn (fun a17 e18 => ?_)
    subst e18
    refine x_callV (pc := 30) (As := [.ref a17, .int x1, .int x2]) (rest := []) (lev' := (3 + 12)) si_X5_96 (MM.grd (m_R_write_2 12 h4 this a17 x1 x2)) (fun z e => grd1 e) rfl rfl (by omega) (cat4 (Nat.le_of_ble_eq_true rfl)) dX5_write_30 (kV (fun h19 => ?_)) xNo
    refine x_goto (pc := 33) 56 (by decide) dX5_write_33 ?_
    exact x_vret (pc := 56) dX5_write_56
theorem si_X5_142 : SiV RX5 142 9 yX12_remove cX12_remove 3 none 1 := ⟨_, _, _, ci_9.1, by decide, lw_V q1161 q849 q850 q127 q851, ⟨rfl, by decide, by decide, by decide +kernel⟩, by decide⟩
abbrev Y_R_merge : Yx := (RX5, cX5_merge, 6, 9, none, [], false)
def c_R_merge_l76 (r76 : PH → Option Nat → Option Nat → Int32 → Option RH) (h : PH) (x2 : Option Nat) (x3 : Option Nat) (x5 : Int32) : Option RH :=
  nn x2 fun a1 =>
  gI h a1 [9] 0 fun v3 =>
  if v3 ≤ x5 then
    rV h
  else
    gI h a1 [9] 0 fun v4 =>
    hI (c_L_get h a1 (v4 - (1 : Int32))) noX fun v6 h5 =>
    nn x3 fun a7 =>
    hV (c_L_insert h5 a7 (0 : Int32) v6) noX fun h9 =>
    gI h9 a1 [9] 0 fun v10 =>
    hV (c_L_remove h9 a1 (v10 - (1 : Int32))) noX fun h11 =>
    r76 h11 (some a1) (some a7) x5
def c_R_merge_l46 (r46 : PH → Option Nat → Option Nat → Int32 → Option RH) (h : PH) (x2 : Option Nat) (x3 : Option Nat) (x5 : Int32) : Option RH :=
  nn x2 fun a1 =>
  gI h a1 [9] 0 fun v3 =>
  if x5 ≤ v3 then
    itr (c_R_merge_l76) (fun _ _ _ _ => none) FU h (some a1) x3 x5
  else
    gI h a1 [9] 0 fun v4 =>
    nn x3 fun a5 =>
    hI (c_L_get h a5 (0 : Int32)) noX fun v8 h7 =>
    hV (c_L_insert h7 a1 v4 v8) noX fun h9 =>
    hV (c_L_remove h9 a5 (0 : Int32)) noX fun h10 =>
    r46 h10 (some a1) (some a5) x5
def c_R_merge (h : PH) (this : Nat) (x1 : Int32) : Option RH :=
  grd h this [4] (
  gQ h this [4] 0 fun v1 =>
  nn v1 fun a2 =>
  ldQ h a2 x1 fun v4 =>
  gQ h this [4] 0 fun v5 =>
  nn v5 fun a6 =>
  ldQ h a6 (x1 + (1 : Int32)) fun v8 =>
  nn v4 fun a9 =>
  gI h a9 [9] 0 fun v11 =>
  nn v8 fun a12 =>
  gI h a12 [9] 0 fun v14 =>
  nm (v11 + v14) fun y15 =>
  gI h this [4] 3 fun v16 =>
  if y15 ≤ ((2 : Int32) * v16) then
    gI h a12 [9] 0 fun v17 =>
    hV (c_L_add h a9 a12 (0 : Int32) v17) noX fun h18 =>
    gQ h18 this [4] 0 fun v19 =>
    gQ h18 this [4] 0 fun v20 =>
    gI h18 this [4] 5 fun v21 =>
    nn v20 fun a22 =>
    nn v19 fun a24 =>
    cpQ2 h18 a24 a22 (x1 + (2 : Int32)) (x1 + (1 : Int32)) ((v21 - x1) - (2 : Int32)) fun h26 =>
    gI h26 this [4] 5 fun v27 =>
    pI h26 this [4] 5 (v27 - (1 : Int32)) fun h28 =>
    gQ h28 this [4] 0 fun v29 =>
    gI h28 this [4] 5 fun v30 =>
    nn v29 fun a31 =>
    stQ h28 a31 v30 (some a12) fun h33 =>
    rV h33
  else
    nz (2 : Int32) <|
    nm ((y15 + (1 : Int32)) / (2 : Int32)) fun y34 =>
    itr (c_R_merge_l46) (fun _ _ _ _ => none) FU h (some a9) (some a12) y34)
set_option maxHeartbeats 4000000 in
theorem w_R_merge_l76 (r76 : PH → Option Nat → Option Nat → Int32 → Option RH) (hr76 : ∀ (h : PH) (x2 : Option Nat) (x3 : Option Nat) (x5 : Int32), Sim Y_R_merge h 76 [(2, va_rf x2), (3, va_rf x3), (5, .int x5)] [] (r76 h x2 x3 x5)) (h : PH) (x2 : Option Nat) (x3 : Option Nat) (x5 : Int32) : Sim Y_R_merge h 76 [(2, va_rf x2), (3, va_rf x3), (5, .int x5)] [] (c_R_merge_l76 r76 h x2 x3 x5) := by
  unfold c_R_merge_l76
  refine x_aload_n (pc := 76) (r := x2) 0 rfl rfl dX5_merge_76 ?_
  refine x_nn (fun a1 e2 => ?_)
  subst e2
  refine x_getI (pc := 77) fi_X5_65 dX5_merge_77 ?_
  intro v3
  refine x_iload (pc := 80) 2 rfl dX5_merge_80 ?_
  refine x_icmp_le (pc := 82) 113 (by decide) dX5_merge_82 ?_ ?_
  · exact x_vret (pc := 113) dX5_merge_113
  · refine x_aload_n (pc := 85) (r := x3) 1 rfl rfl dX5_merge_85 ?_
    refine x_iconst (pc := 86) (v := 0) (by decide) dX5_merge_86 ?_
    refine x_aload_nR (pc := 87) (a := a1) 0 rfl rfl dX5_merge_87 ?_
    refine x_aload_nR (pc := 88) (a := a1) 0 rfl rfl dX5_merge_88 ?_
    refine x_getI (pc := 89) fi_X5_65 dX5_merge_89 ?_
    intro v4
    refine x_iconst (pc := 92) (v := 1) (by decide) dX5_merge_92 ?_
    refine x_isub (pc := 93) dX5_merge_93 ?_
    refine x_callV (pc := 94) (As := [.int (v4 - (1 : Int32))]) (rest := [.int (0 : Int32), va_rf x3]) (lev' := 1) si_X5_72 (m_L_get h a1 (v4 - (1 : Int32))) (fun z e => grd1 e) rfl rfl (by decide) (cat4 (Nat.le_of_ble_eq_true rfl)) dX5_merge_94 (kI (fun v6 h5 => ?_)) xNo
    refine x_nn (fun a7 e8 => ?_)
    subst e8
    refine x_callV (pc := 97) (As := [.int (0 : Int32), .int v6]) (rest := []) (lev' := 2) si_X5_132 (m_L_insert h5 a7 (0 : Int32) v6) (fun z e => grd1 e) rfl rfl (by decide) (cat4 (Nat.le_of_ble_eq_true rfl)) dX5_merge_97 (kV (fun h9 => ?_)) xNo
    refine x_aload_nR (pc := 100) (a := a1) 0 rfl rfl dX5_merge_100 ?_
    refine x_aload_nR (pc := 101) (a := a1) 0 rfl rfl dX5_merge_101 ?_
    refine x_getI (pc := 102) fi_X5_65 dX5_merge_102 ?_
    intro v10
    refine x_iconst (pc := 105) (v := 1) (by decide) dX5_merge_105 ?_
    refine x_isub (pc := 106) dX5_merge_106 ?_
    refine x_callV (pc := 107) (As := [.int (v10 - (1 : Int32))]) (rest := []) (lev' := 2) si_X5_142 (m_L_remove h9 a1 (v10 - (1 : Int32))) (fun z e => grd1 e) rfl rfl (by decide) (cat4 (Nat.le_of_ble_eq_true rfl)) dX5_merge_107 (kV (fun h11 => ?_)) xNo
    refine x_goto (pc := 110) 76 (by decide) dX5_merge_110 ?_
    exact hr76 h11 (some a1) (some a7) x5
set_option maxHeartbeats 4000000 in
theorem v_R_merge_l76 : ∀ (n : Nat) (h : PH) (x2 : Option Nat) (x3 : Option Nat) (x5 : Int32), Sim Y_R_merge h 76 [(2, va_rf x2), (3, va_rf x3), (5, .int x5)] [] (itr (c_R_merge_l76) (fun _ _ _ _ => none) n h x2 x3 x5)
  | 0, h, x2, x3, x5 => Sim.none
  | n + 1, h, x2, x3, x5 => w_R_merge_l76 _ (v_R_merge_l76 n) h x2 x3 x5
set_option maxHeartbeats 4000000 in
theorem w_R_merge_l46 (r46 : PH → Option Nat → Option Nat → Int32 → Option RH) (hr46 : ∀ (h : PH) (x2 : Option Nat) (x3 : Option Nat) (x5 : Int32), Sim Y_R_merge h 46 [(2, va_rf x2), (3, va_rf x3), (5, .int x5)] [] (r46 h x2 x3 x5)) (h : PH) (x2 : Option Nat) (x3 : Option Nat) (x5 : Int32) : Sim Y_R_merge h 46 [(2, va_rf x2), (3, va_rf x3), (5, .int x5)] [] (c_R_merge_l46 r46 h x2 x3 x5) := by
  unfold c_R_merge_l46
  refine x_aload_n (pc := 46) (r := x2) 0 rfl rfl dX5_merge_46 ?_
  refine x_nn (fun a1 e2 => ?_)
  subst e2
  refine x_getI (pc := 47) fi_X5_65 dX5_merge_47 ?_
  intro v3
  refine x_iload (pc := 50) 2 rfl dX5_merge_50 ?_
  refine x_icmp_ge (pc := 52) 76 (by decide) dX5_merge_52 ?_ ?_
  · exact v_R_merge_l76 FU h (some a1) x3 x5
  · refine x_aload_nR (pc := 55) (a := a1) 0 rfl rfl dX5_merge_55 ?_
    refine x_aload_nR (pc := 56) (a := a1) 0 rfl rfl dX5_merge_56 ?_
    refine x_getI (pc := 57) fi_X5_65 dX5_merge_57 ?_
    intro v4
    refine x_aload_n (pc := 60) (r := x3) 1 rfl rfl dX5_merge_60 ?_
    refine x_iconst (pc := 61) (v := 0) (by decide) dX5_merge_61 ?_
    refine x_nn (fun a5 e6 => ?_)
    subst e6
    refine x_callV (pc := 62) (As := [.int (0 : Int32)]) (rest := [.int v4, .ref a1]) (lev' := 1) si_X5_72 (m_L_get h a5 (0 : Int32)) (fun z e => grd1 e) rfl rfl (by decide) (cat4 (Nat.le_of_ble_eq_true rfl)) dX5_merge_62 (kI (fun v8 h7 => ?_)) xNo
    refine x_callV (pc := 65) (As := [.int v4, .int v8]) (rest := []) (lev' := 2) si_X5_132 (m_L_insert h7 a1 v4 v8) (fun z e => grd1 e) rfl rfl (by decide) (cat4 (Nat.le_of_ble_eq_true rfl)) dX5_merge_65 (kV (fun h9 => ?_)) xNo
    refine x_aload_nR (pc := 68) (a := a5) 1 rfl rfl dX5_merge_68 ?_
    refine x_iconst (pc := 69) (v := 0) (by decide) dX5_merge_69 ?_
    refine x_callV (pc := 70) (As := [.int (0 : Int32)]) (rest := []) (lev' := 2) si_X5_142 (m_L_remove h9 a5 (0 : Int32)) (fun z e => grd1 e) rfl rfl (by decide) (cat4 (Nat.le_of_ble_eq_true rfl)) dX5_merge_70 (kV (fun h10 => ?_)) xNo
    refine x_goto (pc := 73) 46 (by decide) dX5_merge_73 ?_
    exact hr46 h10 (some a1) (some a5) x5
set_option maxHeartbeats 4000000 in
theorem v_R_merge_l46 : ∀ (n : Nat) (h : PH) (x2 : Option Nat) (x3 : Option Nat) (x5 : Int32), Sim Y_R_merge h 46 [(2, va_rf x2), (3, va_rf x3), (5, .int x5)] [] (itr (c_R_merge_l46) (fun _ _ _ _ => none) n h x2 x3 x5)
  | 0, h, x2, x3, x5 => Sim.none
  | n + 1, h, x2, x3, x5 => w_R_merge_l46 _ (v_R_merge_l46 n) h x2 x3 x5
set_option maxHeartbeats 4000000 in
theorem m_R_merge (h : PH) (this : Nat) (x1 : Int32) : MM yX5_merge (ws_ yX5_merge cX5_merge 6 none) 9 [.ref this, .int x1] h (c_R_merge h this x1) := by
  refine MM.of (by decide) rfl (by decide) (Nat.le_of_ble_eq_true rfl) (own := RX5) (cc := cX5_merge) (maxL := 6) (lev := 9) (rt := none) (ini := false) ?_
  show Sim Y_R_merge h 0 [(0, .ref this), (1, .int x1)] [] _
  unfold c_R_merge
  refine x_grd ?_
  refine x_aload_nR (pc := 0) (a := this) 0 rfl rfl dX5_merge_0 ?_
  refine x_getQ (pc := 1) fi_X5_11 dX5_merge_1 ?_
  intro v1
  refine x_iload_n (pc := 4) 1 rfl rfl dX5_merge_4 ?_
  refine x_nn (fun a2 e3 => ?_)
  subst e3
  refine x_aald (pc := 5) dX5_merge_5 ?_
  intro v4
  refine x_astore_n (pc := 6) (r := v4) (lv' := [(2, va_rf v4), (0, .ref this), (1, .int x1)]) rfl (by decide) rfl dX5_merge_6 ?_
  refine x_aload_nR (pc := 7) (a := this) 1 rfl rfl dX5_merge_7 ?_
  refine x_getQ (pc := 8) fi_X5_11 dX5_merge_8 ?_
  intro v5
  refine x_iload_n (pc := 11) 2 rfl rfl dX5_merge_11 ?_
  refine x_iconst (pc := 12) (v := 1) (by decide) dX5_merge_12 ?_
  refine x_iadd (pc := 13) dX5_merge_13 ?_
  refine x_nn (fun a6 e7 => ?_)
  subst e7
  refine x_aald (pc := 14) dX5_merge_14 ?_
  intro v8
  refine x_astore_n (pc := 15) (r := v8) (lv' := [(3, va_rf v8), (2, va_rf v4), (0, .ref this), (1, .int x1)]) (i := 3) rfl (by decide) (by simp [rf_cat]) dX5_merge_15 ?_
  refine x_aload_n (pc := 16) (r := v4) 1 rfl rfl dX5_merge_16 ?_
  refine x_nn (fun a9 e10 => ?_)
  subst e10
  refine x_getI (pc := 17) fi_X5_65 dX5_merge_17 ?_
  intro v11
  refine x_aload_n (pc := 20) (r := v8) 0 rfl rfl dX5_merge_20 ?_
  refine x_nn (fun a12 e13 => ?_)
  subst e13
  refine x_getI (pc := 21) fi_X5_65 dX5_merge_21 ?_
  intro v14
  refine x_iadd (pc := 24) dX5_merge_24 ?_
  refine x_nmI (fun y15 => ?_)
  refine x_istore (pc := 25) (lv' := [(4, .int y15), (3, .ref a12), (2, .ref a9), (0, .ref this), (1, .int x1)]) (by decide) rfl dX5_merge_25 ?_
  refine x_iload (pc := 27) 0 rfl dX5_merge_27 ?_
  refine x_iconst (pc := 29) (v := 2) (by decide) dX5_merge_29 ?_
  refine x_aload_nR (pc := 30) (a := this) 3 rfl rfl dX5_merge_30 ?_
  refine x_getI (pc := 31) fi_X5_135 dX5_merge_31 ?_
  intro v16
  refine x_imul (pc := 34) dX5_merge_34 ?_
  refine x_icmp_le (pc := 35) 114 (by decide) dX5_merge_35 ?_ ?_
  · refine x_aload_nR (pc := 114) (a := a9) 2 rfl rfl dX5_merge_114 ?_
    refine x_aload_nR (pc := 115) (a := a12) 1 rfl rfl dX5_merge_115 ?_
    refine x_iconst (pc := 116) (v := 0) (by decide) dX5_merge_116 ?_
    refine x_aload_nR (pc := 117) (a := a12) 1 rfl rfl dX5_merge_117 ?_
    refine x_getI (pc := 118) fi_X5_65 dX5_merge_118 ?_
    intro v17
    refine x_callV (pc := 121) (As := [.ref a12, .int (0 : Int32), .int v17]) (rest := []) (lev' := 3) si_X5_154 (m_L_add h a9 a12 (0 : Int32) v17) (fun z e => grd1 e) rfl rfl (by decide) (cat4 (Nat.le_of_ble_eq_true rfl)) dX5_merge_121 (kV (fun h18 => ?_)) xNo
    refine x_aload_nR (pc := 124) (a := this) 3 rfl rfl dX5_merge_124 ?_
    refine x_getQ (pc := 125) fi_X5_11 dX5_merge_125 ?_
    intro v19
    refine x_iload_n (pc := 128) 4 rfl rfl dX5_merge_128 ?_
    refine x_iconst (pc := 129) (v := 2) (by decide) dX5_merge_129 ?_
    refine x_iadd (pc := 130) dX5_merge_130 ?_
    refine x_aload_nR (pc := 131) (a := this) 3 rfl rfl dX5_merge_131 ?_
    refine x_getQ (pc := 132) fi_X5_11 dX5_merge_132 ?_
    intro v20
    refine x_iload_n (pc := 135) 4 rfl rfl dX5_merge_135 ?_
    refine x_iconst (pc := 136) (v := 1) (by decide) dX5_merge_136 ?_
    refine x_iadd (pc := 137) dX5_merge_137 ?_
    refine x_aload_nR (pc := 138) (a := this) 3 rfl rfl dX5_merge_138 ?_
    refine x_getI (pc := 139) fi_X5_24 dX5_merge_139 ?_
    intro v21
    refine x_iload_n (pc := 142) 4 rfl rfl dX5_merge_142 ?_
    refine x_isub (pc := 143) dX5_merge_143 ?_
    refine x_iconst (pc := 144) (v := 2) (by decide) dX5_merge_144 ?_
    refine x_isub (pc := 145) dX5_merge_145 ?_
    refine x_nn (fun a22 e23 => ?_)
    subst e23
    refine x_nn (fun a24 e25 => ?_)
    subst e25
    refine x_acopy2 (pc := 146) q836 (by omega) (cat4 (Nat.le_of_ble_eq_true rfl)) dX5_merge_146 (fun h26 => ?_)
    refine x_aload_nR (pc := 149) (a := this) 3 rfl rfl dX5_merge_149 ?_
    refine x_dup (pc := 150) rfl dX5_merge_150 ?_
    refine x_getI (pc := 151) fi_X5_24 dX5_merge_151 ?_
    intro v27
    refine x_iconst (pc := 154) (v := 1) (by decide) dX5_merge_154 ?_
    refine x_isub (pc := 155) dX5_merge_155 ?_
    refine x_pI (pc := 156) fi_X5_24 (fun z => absurd z (by decide)) dX5_merge_156 ?_
    intro h28
    refine x_aload_nR (pc := 159) (a := this) 3 rfl rfl dX5_merge_159 ?_
    refine x_getQ (pc := 160) fi_X5_11 dX5_merge_160 ?_
    intro v29
    refine x_aload_nR (pc := 163) (a := this) 3 rfl rfl dX5_merge_163 ?_
    refine x_getI (pc := 164) fi_X5_24 dX5_merge_164 ?_
    intro v30
    refine x_aload_nR (pc := 167) (a := a12) 1 rfl rfl dX5_merge_167 ?_
    refine x_nn (fun a31 e32 => ?_)
    subst e32
    refine x_aast (pc := 168) (r := (some a12)) dX5_merge_168 ?_
    intro h33
    exact x_vret (pc := 169) dX5_merge_169
  · refine x_iload (pc := 38) 0 rfl dX5_merge_38 ?_
    refine x_iconst (pc := 40) (v := 1) (by decide) dX5_merge_40 ?_
    refine x_iadd (pc := 41) dX5_merge_41 ?_
    refine x_iconst (pc := 42) (v := 2) (by decide) dX5_merge_42 ?_
    refine x_idiv (pc := 43) dX5_merge_43 ?_
    refine x_nmI (fun y34 => ?_)
    refine x_istore (pc := 44) (lv' := [(5, .int y34), (4, .int y15), (3, .ref a12), (2, .ref a9), (0, .ref this), (1, .int x1)]) (by decide) rfl dX5_merge_44 ?_
    refine Sim.lv [3, 2, 0] rfl ?_
    exact v_R_merge_l46 FU h (some a9) (some a12) y34
