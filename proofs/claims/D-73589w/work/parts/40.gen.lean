set_option maxRecDepth 100000
theorem fi_X12_25 : FI RX12 25 [9] 4 .boolean false true := (fi_c ci_9 (by decide) rfl rfl (Or.inl q778) (Or.inl rfl) (fun h => absurd h (by decide)) fi_n)
theorem fi_X12_19 : FI RX12 19 [9] 0 .int false true := (fi_c ci_9 (by decide) rfl rfl (Or.inl q779) (Or.inr q780) (fun h => absurd h (by decide)) fi_n)
theorem fi_X12_22 : FI RX12 22 [9] 1 .int false true := (fi_c ci_9 (by decide) rfl rfl (Or.inl q787) (Or.inr q788) (fun h => absurd h (by decide)) fi_n)
abbrev Y_L_turnAll : Yx := (RX12, cX12_turnAll, 1, 1, none, [], false)
def c_L_turnAll_j13 (h : PH) (this : Nat) (s0 : Int32) (s1 : Nat) : Option RH :=
  pZ h s1 [9] 4 s0 fun h1 =>
  gI h1 this [9] 0 fun v2 =>
  gI h1 this [9] 1 fun v3 =>
  pI h1 this [9] 1 (v2 - v3) fun h4 =>
  rV h4
def c_L_turnAll (h : PH) (this : Nat) : Option RH :=
  grd h this [9] (
  gI h this [9] 4 fun v1 =>
  if v1 = 0 then
    c_L_turnAll_j13 h this (1 : Int32) this
  else
    c_L_turnAll_j13 h this (0 : Int32) this)
set_option maxHeartbeats 4000000 in
theorem w_L_turnAll_j13 (h : PH) (this : Nat) (s0 : Int32) (s1 : Nat) : Sim Y_L_turnAll h 13 [(0, .ref this)] [.int s0, .ref s1] (c_L_turnAll_j13 h this s0 s1) := by
  unfold c_L_turnAll_j13
  refine x_pZ (pc := 13) fi_X12_25 (fun z => absurd z (by decide)) dX12_turnAll_13 ?_
  intro h1
  refine x_aload_nR (pc := 16) (a := this) 0 rfl rfl dX12_turnAll_16 ?_
  refine x_aload_nR (pc := 17) (a := this) 0 rfl rfl dX12_turnAll_17 ?_
  refine x_getI (pc := 18) fi_X12_19 dX12_turnAll_18 ?_
  intro v2
  refine x_aload_nR (pc := 21) (a := this) 0 rfl rfl dX12_turnAll_21 ?_
  refine x_getI (pc := 22) fi_X12_22 dX12_turnAll_22 ?_
  intro v3
  refine x_isub (pc := 25) dX12_turnAll_25 ?_
  refine x_pI (pc := 26) fi_X12_22 (fun z => absurd z (by decide)) dX12_turnAll_26 ?_
  intro h4
  exact x_vret (pc := 29) dX12_turnAll_29
set_option maxHeartbeats 4000000 in
theorem m_L_turnAll (h : PH) (this : Nat) : MM yX12_turnAll (ws_ yX12_turnAll cX12_turnAll 1 none) 1 [.ref this] h (c_L_turnAll h this) := by
  refine MM.of (by decide) rfl (by decide) (Nat.le_of_ble_eq_true rfl) (own := RX12) (cc := cX12_turnAll) (maxL := 1) (lev := 1) (rt := none) (ini := false) ?_
  show Sim Y_L_turnAll h 0 [(0, .ref this)] [] _
  unfold c_L_turnAll
  refine x_grd ?_
  refine x_aload_nR (pc := 0) (a := this) 0 rfl rfl dX12_turnAll_0 ?_
  refine x_aload_nR (pc := 1) (a := this) 0 rfl rfl dX12_turnAll_1 ?_
  refine x_getI (pc := 2) fi_X12_25 dX12_turnAll_2 ?_
  intro v1
  refine x_if_ne (pc := 5) 12 (by decide) dX12_turnAll_5 ?_ ?_
  · refine x_iconst (pc := 12) (v := 0) (by decide) dX12_turnAll_12 ?_
    exact w_L_turnAll_j13 h this (0 : Int32) this
  · refine x_iconst (pc := 8) (v := 1) (by decide) dX12_turnAll_8 ?_
    refine x_goto (pc := 9) 13 (by decide) dX12_turnAll_9 ?_
    exact w_L_turnAll_j13 h this (1 : Int32) this
abbrev Y_N_init : Yx := (RX11, cX11_init, 1, 1, none, [], true)
def c_N_init (h : PH) (this : Nat) : Option RH :=
  grd h this [9, 10] (
  rV h)
set_option maxHeartbeats 4000000 in
theorem m_N_init (h : PH) (this : Nat) : MM yX11_init (ws_ yX11_init cX11_init 1 none) 1 [.ref this] h (c_N_init h this) := by
  refine MM.of (by decide) rfl (by decide) (Nat.le_of_ble_eq_true rfl) (own := RX11) (cc := cX11_init) (maxL := 1) (lev := 1) (rt := none) (ini := true) ?_
  show Sim Y_N_init h 0 [(0, .ref this)] [] _
  unfold c_N_init
  refine x_grd ?_
  refine x_aload_nR (pc := 0) (a := this) 0 rfl rfl dX11_init_0 ?_
  refine x_objInit (pc := 1) q776 (by omega) (by decide) dX11_init_1 ?_
  exact x_vret (pc := 4) dX11_init_4
theorem si_X12_3 : SiIN RX12 3 "BitRopes" yX11_init cX11_init 1 0 := ⟨q775, q126, q773, q774, rfl, ⟨by decide, by decide, by decide +kernel⟩, by decide⟩
theorem fi_X12_9 : FI RX12 9 [9] 3 (.array .long) true true := (fi_c ci_9 (by decide) rfl rfl (Or.inl q777) (Or.inl rfl) (fun _ _ => rfl) fi_n)
theorem fi_X12_15 : FI RX12 15 [9] 2 .int false true := (fi_c ci_9 (by decide) rfl rfl (Or.inl q795) (Or.inr q796) (fun h => absurd h (by decide)) fi_n)
abbrev Y_L_init : Yx := (RX12, cX12_init, 1, 2, none, [], true)
def c_L_init (h : PH) (this : Nat) : Option RH :=
  grd h this [9] (
  hV (c_N_init h this) noX fun h1 =>
  newA h1 1 (2 : Int32) (.inr (.inl (fun _ => 0))) fun a2 h3 =>
  pQ h3 this [9] 3 (some a2) fun h4 =>
  pI h4 this [9] 2 (1 : Int32) fun h5 =>
  rV h5)
set_option maxHeartbeats 4000000 in
theorem m_L_init (h : PH) (this : Nat) : MM yX12_init (ws_ yX12_init cX12_init 1 none) 2 [.ref this] h (c_L_init h this) := by
  refine MM.of (by decide) rfl (by decide) (Nat.le_of_ble_eq_true rfl) (own := RX12) (cc := cX12_init) (maxL := 1) (lev := 2) (rt := none) (ini := true) ?_
  show Sim Y_L_init h 0 [(0, .ref this)] [] _
  unfold c_L_init
  refine x_grd ?_
  refine x_aload_nR (pc := 0) (a := this) 0 rfl rfl dX12_init_0 ?_
  refine x_callIN (pc := 1) (As := []) (rest := []) (lev' := 1) si_X12_3 (m_N_init h this) rfl rfl (by decide) (cat4 (Nat.le_of_ble_eq_true rfl)) dX12_init_1 (kV (fun h1 => ?_)) xNo
  refine x_aload_nR (pc := 4) (a := this) 0 rfl rfl dX12_init_4 ?_
  refine x_iconst (pc := 5) (v := 2) (by decide) dX12_init_5 ?_
  refine x_newaL (pc := 6) dX12_init_6 ?_
  intro a2 h3
  refine x_pQA (pc := 8) (v := (some a2)) fi_X12_9 (fun _ => rfl) dX12_init_8 ?_
  intro h4
  refine x_aload_nR (pc := 11) (a := this) 0 rfl rfl dX12_init_11 ?_
  refine x_iconst (pc := 12) (v := 1) (by decide) dX12_init_12 ?_
  refine x_pI (pc := 13) fi_X12_15 (fun z => absurd z (by decide)) dX12_init_13 ?_
  intro h5
  exact x_vret (pc := 16) dX12_init_16
abbrev Y_L_cleared : Yx := (RX12, cX12_cleared, 1, 1, (some (.object "BitRopes$Leaf")), [], false)
def c_L_cleared (h : PH) (this : Nat) : Option RH :=
  grd h this [9] (
  pI h this [9] 0 (0 : Int32) fun h1 =>
  pI h1 this [9] 1 (0 : Int32) fun h2 =>
  pZ h2 this [9] 4 (0 : Int32) fun h3 =>
  rQ (some this) h3)
set_option maxHeartbeats 4000000 in
theorem m_L_cleared (h : PH) (this : Nat) : MM yX12_cleared (ws_ yX12_cleared cX12_cleared 1 (some (.object "BitRopes$Leaf"))) 1 [.ref this] h (c_L_cleared h this) := by
  refine MM.of (by decide) rfl (by decide) (Nat.le_of_ble_eq_true rfl) (own := RX12) (cc := cX12_cleared) (maxL := 1) (lev := 1) (rt := (some (.object "BitRopes$Leaf"))) (ini := false) ?_
  show Sim Y_L_cleared h 0 [(0, .ref this)] [] _
  unfold c_L_cleared
  refine x_grd ?_
  refine x_aload_nR (pc := 0) (a := this) 0 rfl rfl dX12_cleared_0 ?_
  refine x_iconst (pc := 1) (v := 0) (by decide) dX12_cleared_1 ?_
  refine x_pI (pc := 2) fi_X12_19 (fun z => absurd z (by decide)) dX12_cleared_2 ?_
  intro h1
  refine x_aload_nR (pc := 5) (a := this) 0 rfl rfl dX12_cleared_5 ?_
  refine x_iconst (pc := 6) (v := 0) (by decide) dX12_cleared_6 ?_
  refine x_pI (pc := 7) fi_X12_22 (fun z => absurd z (by decide)) dX12_cleared_7 ?_
  intro h2
  refine x_aload_nR (pc := 10) (a := this) 0 rfl rfl dX12_cleared_10 ?_
  refine x_iconst (pc := 11) (v := 0) (by decide) dX12_cleared_11 ?_
  refine x_pZ (pc := 12) fi_X12_25 (fun z => absurd z (by decide)) dX12_cleared_12 ?_
  intro h3
  refine x_aload_nR (pc := 15) (a := this) 0 rfl rfl dX12_cleared_15 ?_
  exact x_aret (pc := 16) (v := (some this)) (Or.inl ⟨_, rfl⟩) dX12_cleared_16
abbrev Y_L_get : Yx := (RX12, cX12_get, 2, 1, (some .int), [], false)
def c_L_get (h : PH) (this : Nat) (x1 : Int32) : Option RH :=
  grd h this [9] (
  gQ h this [9] 3 fun v1 =>
  nz (64 : Int32) <|
  nn v1 fun a2 =>
  ldL h a2 (x1 / (64 : Int32)) fun v4 =>
  nz (64 : Int32) <|
  gI h this [9] 4 fun v5 =>
  if v5 = 0 then
    rI ((((v4 >>> ((x1 - x1 / (64 : Int32) * (64 : Int32)).toInt64 &&& 63)) &&& (1 : Int64)).toInt32) ^^^ (0 : Int32)) h
  else
    rI ((((v4 >>> ((x1 - x1 / (64 : Int32) * (64 : Int32)).toInt64 &&& 63)) &&& (1 : Int64)).toInt32) ^^^ (1 : Int32)) h)
set_option maxHeartbeats 4000000 in
theorem m_L_get (h : PH) (this : Nat) (x1 : Int32) : MM yX12_get (ws_ yX12_get cX12_get 2 (some .int)) 1 [.ref this, .int x1] h (c_L_get h this x1) := by
  refine MM.of (by decide) rfl (by decide) (Nat.le_of_ble_eq_true rfl) (own := RX12) (cc := cX12_get) (maxL := 2) (lev := 1) (rt := (some .int)) (ini := false) ?_
  show Sim Y_L_get h 0 [(0, .ref this), (1, .int x1)] [] _
  unfold c_L_get
  refine x_grd ?_
  refine x_aload_nR (pc := 0) (a := this) 0 rfl rfl dX12_get_0 ?_
  refine x_getQ (pc := 1) fi_X12_9 dX12_get_1 ?_
  intro v1
  refine x_iload_n (pc := 4) 1 rfl rfl dX12_get_4 ?_
  refine x_bipush (pc := 5) (v := 64) (by decide) dX12_get_5 ?_
  refine x_idiv (pc := 7) dX12_get_7 ?_
  refine x_nn (fun a2 e3 => ?_)
  subst e3
  refine x_lald (pc := 8) dX12_get_8 ?_
  intro v4
  refine x_iload_n (pc := 9) 1 rfl rfl dX12_get_9 ?_
  refine x_bipush (pc := 10) (v := 64) (by decide) dX12_get_10 ?_
  refine x_irem (pc := 12) dX12_get_12 ?_
  refine x_lshr (pc := 13) dX12_get_13 ?_
  refine x_lconst (pc := 14) (v := 1) (by decide) dX12_get_14 ?_
  refine x_land (pc := 15) dX12_get_15 ?_
  refine x_l2i (pc := 16) dX12_get_16 ?_
  refine x_aload_nR (pc := 17) (a := this) 0 rfl rfl dX12_get_17 ?_
  refine x_getI (pc := 18) fi_X12_25 dX12_get_18 ?_
  intro v5
  refine x_if_eq (pc := 21) 28 (by decide) dX12_get_21 ?_ ?_
  · refine x_iconst (pc := 28) (v := 0) (by decide) dX12_get_28 ?_
    refine x_ixor (pc := 29) dX12_get_29 ?_
    exact x_iret (pc := 30) dX12_get_30
  · refine x_iconst (pc := 24) (v := 1) (by decide) dX12_get_24 ?_
    refine x_goto (pc := 25) 29 (by decide) dX12_get_25 ?_
    refine x_ixor (pc := 29) dX12_get_29 ?_
    exact x_iret (pc := 30) dX12_get_30
abbrev Y_L_store : Yx := (RX12, cX12_store, 5, 1, none, [], false)
def c_L_store_j20 (h : PH) (this : Nat) (x1 : Int32) (x3 : Int64) (s0 : Int32) (s1 : Int32) : Option RH :=
  if s1 = s0 then
    gQ h this [9] 3 fun v1 =>
    nz (64 : Int32) <|
    nn v1 fun a2 =>
    ldL h a2 (x1 / (64 : Int32)) fun v4 =>
    stL h a2 (x1 / (64 : Int32)) (v4 &&& (x3 ^^^ (-1 : Int64))) fun h5 =>
    rV h5
  else
    gQ h this [9] 3 fun v6 =>
    nz (64 : Int32) <|
    nn v6 fun a7 =>
    ldL h a7 (x1 / (64 : Int32)) fun v9 =>
    stL h a7 (x1 / (64 : Int32)) (v9 ||| x3) fun h10 =>
    rV h10
def c_L_store (h : PH) (this : Nat) (x1 : Int32) (x2 : Int32) : Option RH :=
  grd h this [9] (
  nz (64 : Int32) <|
  nm ((1 : Int64) <<< ((x1 - x1 / (64 : Int32) * (64 : Int32)).toInt64 &&& 63)) fun y1 =>
  gI h this [9] 4 fun v2 =>
  if v2 = 0 then
    c_L_store_j20 h this x1 y1 (0 : Int32) x2
  else
    c_L_store_j20 h this x1 y1 (1 : Int32) x2)
set_option maxHeartbeats 4000000 in
theorem w_L_store_j20 (h : PH) (this : Nat) (x1 : Int32) (x3 : Int64) (s0 : Int32) (s1 : Int32) : Sim Y_L_store h 20 [(0, .ref this), (1, .int x1), (3, .long x3)] [.int s0, .int s1] (c_L_store_j20 h this x1 x3 s0 s1) := by
  unfold c_L_store_j20
  refine x_icmp_eq (pc := 20) 39 (by decide) dX12_store_20 ?_ ?_
  · refine x_aload_nR (pc := 39) (a := this) 0 rfl rfl dX12_store_39 ?_
    refine x_getQ (pc := 40) fi_X12_9 dX12_store_40 ?_
    intro v1
    refine x_iload_n (pc := 43) 1 rfl rfl dX12_store_43 ?_
    refine x_bipush (pc := 44) (v := 64) (by decide) dX12_store_44 ?_
    refine x_idiv (pc := 46) dX12_store_46 ?_
    refine x_dup2 (pc := 47) rfl (rf_cat v1) dX12_store_47 ?_
    refine x_nn (fun a2 e3 => ?_)
    subst e3
    refine x_lald (pc := 48) dX12_store_48 ?_
    intro v4
    refine x_lload_n (pc := 49) 2 rfl rfl dX12_store_49 ?_
    refine x_ldc2 (pc := 50) (v := (-1)) q827 dX12_store_50 ?_
    refine x_lxor (pc := 53) dX12_store_53 ?_
    refine x_land (pc := 54) dX12_store_54 ?_
    refine x_last (pc := 55) dX12_store_55 ?_
    intro h5
    exact x_vret (pc := 56) dX12_store_56
  · refine x_aload_nR (pc := 23) (a := this) 0 rfl rfl dX12_store_23 ?_
    refine x_getQ (pc := 24) fi_X12_9 dX12_store_24 ?_
    intro v6
    refine x_iload_n (pc := 27) 1 rfl rfl dX12_store_27 ?_
    refine x_bipush (pc := 28) (v := 64) (by decide) dX12_store_28 ?_
    refine x_idiv (pc := 30) dX12_store_30 ?_
    refine x_dup2 (pc := 31) rfl (rf_cat v6) dX12_store_31 ?_
    refine x_nn (fun a7 e8 => ?_)
    subst e8
    refine x_lald (pc := 32) dX12_store_32 ?_
    intro v9
    refine x_lload_n (pc := 33) 2 rfl rfl dX12_store_33 ?_
    refine x_lor (pc := 34) dX12_store_34 ?_
    refine x_last (pc := 35) dX12_store_35 ?_
    intro h10
    refine x_goto (pc := 36) 56 (by decide) dX12_store_36 ?_
    exact x_vret (pc := 56) dX12_store_56
set_option maxHeartbeats 4000000 in
theorem m_L_store (h : PH) (this : Nat) (x1 : Int32) (x2 : Int32) : MM yX12_store (ws_ yX12_store cX12_store 5 none) 1 [.ref this, .int x1, .int x2] h (c_L_store h this x1 x2) := by
  refine MM.of (by decide) rfl (by decide) (Nat.le_of_ble_eq_true rfl) (own := RX12) (cc := cX12_store) (maxL := 5) (lev := 1) (rt := none) (ini := false) ?_
  show Sim Y_L_store h 0 [(0, .ref this), (1, .int x1), (2, .int x2)] [] _
  unfold c_L_store
  refine x_grd ?_
  refine x_lconst (pc := 0) (v := 1) (by decide) dX12_store_0 ?_
  refine x_iload_n (pc := 1) 1 rfl rfl dX12_store_1 ?_
  refine x_bipush (pc := 2) (v := 64) (by decide) dX12_store_2 ?_
  refine x_irem (pc := 4) dX12_store_4 ?_
  refine x_lshl (pc := 5) dX12_store_5 ?_
  refine x_nmL (fun y1 => ?_)
  refine x_lstore_n (pc := 6) (lv' := [(3, .long y1), (0, .ref this), (1, .int x1), (2, .int x2)]) rfl (by decide) rfl dX12_store_6 ?_
  refine x_iload_n (pc := 7) 3 rfl rfl dX12_store_7 ?_
  refine x_aload_nR (pc := 8) (a := this) 1 rfl rfl dX12_store_8 ?_
  refine x_getI (pc := 9) fi_X12_25 dX12_store_9 ?_
  intro v2
  refine x_if_eq (pc := 12) 19 (by decide) dX12_store_12 ?_ ?_
  · refine x_iconst (pc := 19) (v := 0) (by decide) dX12_store_19 ?_
    refine Sim.lv [1, 2, 0] rfl ?_
    exact w_L_store_j20 h this x1 y1 (0 : Int32) x2
  · refine x_iconst (pc := 15) (v := 1) (by decide) dX12_store_15 ?_
    refine x_goto (pc := 16) 20 (by decide) dX12_store_16 ?_
    refine Sim.lv [1, 2, 0] rfl ?_
    exact w_L_store_j20 h this x1 y1 (1 : Int32) x2
theorem si_X12_39 : SiV RX12 39 9 yX12_store cX12_store 5 none 2 := ⟨_, _, _, ci_9.1, by decide, lw_V q823 q825 qs10 q127 q826, ⟨rfl, by decide, by decide, by decide +kernel⟩, by decide⟩
theorem si_X12_35 : SiV RX12 35 9 yX12_get cX12_get 2 (some .int) 1 := ⟨_, _, _, ci_9.1, by decide, lw_V q819 q820 q821 q127 q822, ⟨rfl, by decide, by decide, by decide +kernel⟩, by decide⟩
abbrev Y_L_insert : Yx := (RX12, cX12_insert, 4, 2, none, [], false)
def c_L_insert_l5 (r5 : PH → Nat → Int32 → Int32 → Int32 → Option RH) (h : PH) (this : Nat) (x1 : Int32) (x2 : Int32) (x3 : Int32) : Option RH :=
  if x3 ≤ x1 then
    hV (c_L_store h this x1 x2) noX fun h1 =>
    gI h1 this [9] 0 fun v2 =>
    pI h1 this [9] 0 (v2 + (1 : Int32)) fun h3 =>
    gI h3 this [9] 1 fun v4 =>
    pI h3 this [9] 1 (v4 + x2) fun h5 =>
    rV h5
  else
    hI (c_L_get h this (x3 - (1 : Int32))) noX fun v7 h6 =>
    hV (c_L_store h6 this x3 v7) noX fun h8 =>
    r5 h8 this x1 x2 (x3 + (-1 : Int32))
def c_L_insert (h : PH) (this : Nat) (x1 : Int32) (x2 : Int32) : Option RH :=
  grd h this [9] (
  gI h this [9] 0 fun v1 =>
  itr (c_L_insert_l5) (fun _ _ _ _ _ => none) FU h this x1 x2 v1)
set_option maxHeartbeats 4000000 in
theorem w_L_insert_l5 (r5 : PH → Nat → Int32 → Int32 → Int32 → Option RH) (hr5 : ∀ (h : PH) (this : Nat) (x1 : Int32) (x2 : Int32) (x3 : Int32), Sim Y_L_insert h 5 [(0, .ref this), (1, .int x1), (2, .int x2), (3, .int x3)] [] (r5 h this x1 x2 x3)) (h : PH) (this : Nat) (x1 : Int32) (x2 : Int32) (x3 : Int32) : Sim Y_L_insert h 5 [(0, .ref this), (1, .int x1), (2, .int x2), (3, .int x3)] [] (c_L_insert_l5 r5 h this x1 x2 x3) := by
  unfold c_L_insert_l5
  refine x_iload_n (pc := 5) 3 rfl rfl dX12_insert_5 ?_
  refine x_iload_n (pc := 6) 1 rfl rfl dX12_insert_6 ?_
  refine x_icmp_le (pc := 7) 28 (by decide) dX12_insert_7 ?_ ?_
  · refine x_aload_nR (pc := 28) (a := this) 0 rfl rfl dX12_insert_28 ?_
    refine x_iload_n (pc := 29) 1 rfl rfl dX12_insert_29 ?_
    refine x_iload_n (pc := 30) 2 rfl rfl dX12_insert_30 ?_
    refine x_callV (pc := 31) (As := [.int x1, .int x2]) (rest := []) (lev' := 1) si_X12_39 (m_L_store h this x1 x2) (fun z e => grd1 e) rfl rfl (by decide) (cat4 (Nat.le_of_ble_eq_true rfl)) dX12_insert_31 (kV (fun h1 => ?_)) xNo
    refine x_aload_nR (pc := 34) (a := this) 0 rfl rfl dX12_insert_34 ?_
    refine x_dup (pc := 35) rfl dX12_insert_35 ?_
    refine x_getI (pc := 36) fi_X12_19 dX12_insert_36 ?_
    intro v2
    refine x_iconst (pc := 39) (v := 1) (by decide) dX12_insert_39 ?_
    refine x_iadd (pc := 40) dX12_insert_40 ?_
    refine x_pI (pc := 41) fi_X12_19 (fun z => absurd z (by decide)) dX12_insert_41 ?_
    intro h3
    refine x_aload_nR (pc := 44) (a := this) 0 rfl rfl dX12_insert_44 ?_
    refine x_dup (pc := 45) rfl dX12_insert_45 ?_
    refine x_getI (pc := 46) fi_X12_22 dX12_insert_46 ?_
    intro v4
    refine x_iload_n (pc := 49) 2 rfl rfl dX12_insert_49 ?_
    refine x_iadd (pc := 50) dX12_insert_50 ?_
    refine x_pI (pc := 51) fi_X12_22 (fun z => absurd z (by decide)) dX12_insert_51 ?_
    intro h5
    exact x_vret (pc := 54) dX12_insert_54
  · refine x_aload_nR (pc := 10) (a := this) 0 rfl rfl dX12_insert_10 ?_
    refine x_iload_n (pc := 11) 3 rfl rfl dX12_insert_11 ?_
    refine x_aload_nR (pc := 12) (a := this) 0 rfl rfl dX12_insert_12 ?_
    refine x_iload_n (pc := 13) 3 rfl rfl dX12_insert_13 ?_
    refine x_iconst (pc := 14) (v := 1) (by decide) dX12_insert_14 ?_
    refine x_isub (pc := 15) dX12_insert_15 ?_
    refine x_callV (pc := 16) (As := [.int (x3 - (1 : Int32))]) (rest := [.int x3, .ref this]) (lev' := 1) si_X12_35 (m_L_get h this (x3 - (1 : Int32))) (fun z e => grd1 e) rfl rfl (by decide) (cat4 (Nat.le_of_ble_eq_true rfl)) dX12_insert_16 (kI (fun v7 h6 => ?_)) xNo
    refine x_callV (pc := 19) (As := [.int x3, .int v7]) (rest := []) (lev' := 1) si_X12_39 (m_L_store h6 this x3 v7) (fun z e => grd1 e) rfl rfl (by decide) (cat4 (Nat.le_of_ble_eq_true rfl)) dX12_insert_19 (kV (fun h8 => ?_)) xNo
    refine x_iinc (pc := 22) (v := (-1 : Int32)) (lv' := [(3, .int (x3 + (-1 : Int32))), (0, .ref this), (1, .int x1), (2, .int x2)]) 3 rfl (by decide) (by decide) rfl dX12_insert_22 ?_
    refine x_goto (pc := 25) 5 (by decide) dX12_insert_25 ?_
    refine Sim.lv [1, 2, 3, 0] rfl ?_
    exact hr5 h8 this x1 x2 (x3 + (-1 : Int32))
set_option maxHeartbeats 4000000 in
theorem v_L_insert_l5 : ∀ (n : Nat) (h : PH) (this : Nat) (x1 : Int32) (x2 : Int32) (x3 : Int32), Sim Y_L_insert h 5 [(0, .ref this), (1, .int x1), (2, .int x2), (3, .int x3)] [] (itr (c_L_insert_l5) (fun _ _ _ _ _ => none) n h this x1 x2 x3)
  | 0, h, this, x1, x2, x3 => Sim.none
  | n + 1, h, this, x1, x2, x3 => w_L_insert_l5 _ (v_L_insert_l5 n) h this x1 x2 x3
set_option maxHeartbeats 4000000 in
theorem m_L_insert (h : PH) (this : Nat) (x1 : Int32) (x2 : Int32) : MM yX12_insert (ws_ yX12_insert cX12_insert 4 none) 2 [.ref this, .int x1, .int x2] h (c_L_insert h this x1 x2) := by
  refine MM.of (by decide) rfl (by decide) (Nat.le_of_ble_eq_true rfl) (own := RX12) (cc := cX12_insert) (maxL := 4) (lev := 2) (rt := none) (ini := false) ?_
  show Sim Y_L_insert h 0 [(0, .ref this), (1, .int x1), (2, .int x2)] [] _
  unfold c_L_insert
  refine x_grd ?_
  refine x_aload_nR (pc := 0) (a := this) 0 rfl rfl dX12_insert_0 ?_
  refine x_getI (pc := 1) fi_X12_19 dX12_insert_1 ?_
  intro v1
  refine x_istore_n (pc := 4) (lv' := [(3, .int v1), (0, .ref this), (1, .int x1), (2, .int x2)]) rfl (by decide) rfl dX12_insert_4 ?_
  refine Sim.lv [1, 2, 3, 0] rfl ?_
  exact v_L_insert_l5 FU h this x1 x2 v1
theorem si_X12_43 : SiV RX12 43 9 yX12_insert cX12_insert 4 none 2 := ⟨_, _, _, ci_9.1, by decide, lw_V q843 q816 q817 q127 q818, ⟨rfl, by decide, by decide, by decide +kernel⟩, by decide⟩
abbrev Y_L_add : Yx := (RX12, cX12_add, 5, 3, none, [], false)
def c_L_add_l3 (r3 : PH → Nat → Nat → Int32 → Int32 → Option RH) (h : PH) (this : Nat) (x1 : Nat) (x3 : Int32) (x4 : Int32) : Option RH :=
  if x3 ≤ x4 then
    rV h
  else
    gI h this [9] 0 fun v1 =>
    hI (c_L_get h x1 x4) noX fun v3 h2 =>
    hV (c_L_insert h2 this v1 v3) noX fun h4 =>
    r3 h4 this x1 x3 (x4 + (1 : Int32))
def c_L_add (h : PH) (this : Nat) (x1 : Nat) (x2 : Int32) (x3 : Int32) : Option RH :=
  grd h this [9] (
  itr (c_L_add_l3) (fun _ _ _ _ _ => none) FU h this x1 x3 x2)
set_option maxHeartbeats 4000000 in
theorem w_L_add_l3 (r3 : PH → Nat → Nat → Int32 → Int32 → Option RH) (hr3 : ∀ (h : PH) (this : Nat) (x1 : Nat) (x3 : Int32) (x4 : Int32), Sim Y_L_add h 3 [(0, .ref this), (1, .ref x1), (3, .int x3), (4, .int x4)] [] (r3 h this x1 x3 x4)) (h : PH) (this : Nat) (x1 : Nat) (x3 : Int32) (x4 : Int32) : Sim Y_L_add h 3 [(0, .ref this), (1, .ref x1), (3, .int x3), (4, .int x4)] [] (c_L_add_l3 r3 h this x1 x3 x4) := by
  unfold c_L_add_l3
  refine x_iload (pc := 3) 3 rfl dX12_add_3 ?_
  refine x_iload_n (pc := 5) 2 rfl rfl dX12_add_5 ?_
  refine x_icmp_ge (pc := 6) 29 (by decide) dX12_add_6 ?_ ?_
  · exact x_vret (pc := 29) dX12_add_29
  · refine x_aload_nR (pc := 9) (a := this) 0 rfl rfl dX12_add_9 ?_
    refine x_aload_nR (pc := 10) (a := this) 0 rfl rfl dX12_add_10 ?_
    refine x_getI (pc := 11) fi_X12_19 dX12_add_11 ?_
    intro v1
    refine x_aload_nR (pc := 14) (a := x1) 1 rfl rfl dX12_add_14 ?_
    refine x_iload (pc := 15) 3 rfl dX12_add_15 ?_
    refine x_callV (pc := 17) (As := [.int x4]) (rest := [.int v1, .ref this]) (lev' := 1) si_X12_35 (m_L_get h x1 x4) (fun z e => grd1 e) rfl rfl (by decide) (cat4 (Nat.le_of_ble_eq_true rfl)) dX12_add_17 (kI (fun v3 h2 => ?_)) xNo
    refine x_callV (pc := 20) (As := [.int v1, .int v3]) (rest := []) (lev' := 2) si_X12_43 (m_L_insert h2 this v1 v3) (fun z e => grd1 e) rfl rfl (by decide) (cat4 (Nat.le_of_ble_eq_true rfl)) dX12_add_20 (kV (fun h4 => ?_)) xNo
    refine x_iinc (pc := 23) (v := (1 : Int32)) (lv' := [(4, .int (x4 + (1 : Int32))), (0, .ref this), (1, .ref x1), (3, .int x3)]) 3 rfl (by decide) (by decide) rfl dX12_add_23 ?_
    refine x_goto (pc := 26) 3 (by decide) dX12_add_26 ?_
    refine Sim.lv [1, 2, 3, 0] rfl ?_
    exact hr3 h4 this x1 x3 (x4 + (1 : Int32))
set_option maxHeartbeats 4000000 in
theorem v_L_add_l3 : ∀ (n : Nat) (h : PH) (this : Nat) (x1 : Nat) (x3 : Int32) (x4 : Int32), Sim Y_L_add h 3 [(0, .ref this), (1, .ref x1), (3, .int x3), (4, .int x4)] [] (itr (c_L_add_l3) (fun _ _ _ _ _ => none) n h this x1 x3 x4)
  | 0, h, this, x1, x3, x4 => Sim.none
  | n + 1, h, this, x1, x3, x4 => w_L_add_l3 _ (v_L_add_l3 n) h this x1 x3 x4
set_option maxHeartbeats 4000000 in
theorem m_L_add (h : PH) (this : Nat) (x1 : Nat) (x2 : Int32) (x3 : Int32) : MM yX12_add (ws_ yX12_add cX12_add 5 none) 3 [.ref this, .ref x1, .int x2, .int x3] h (c_L_add h this x1 x2 x3) := by
  refine MM.of (by decide) rfl (by decide) (Nat.le_of_ble_eq_true rfl) (own := RX12) (cc := cX12_add) (maxL := 5) (lev := 3) (rt := none) (ini := false) ?_
  show Sim Y_L_add h 0 [(0, .ref this), (1, .ref x1), (2, .int x2), (3, .int x3)] [] _
  unfold c_L_add
  refine x_grd ?_
  refine x_iload_n (pc := 0) 2 rfl rfl dX12_add_0 ?_
  refine x_istore (pc := 1) (lv' := [(4, .int x2), (0, .ref this), (1, .ref x1), (2, .int x2), (3, .int x3)]) (by decide) rfl dX12_add_1 ?_
  refine Sim.lv [1, 2, 4, 0] rfl ?_
  exact v_L_add_l3 FU h this x1 x3 x2
abbrev Y_L_remove : Yx := (RX12, cX12_remove, 3, 2, none, [], false)
def c_L_remove_l16 (r16 : PH → Nat → Int32 → Option RH) (h : PH) (this : Nat) (x2 : Int32) : Option RH :=
  gI h this [9] 0 fun v1 =>
  if (v1 - (1 : Int32)) ≤ x2 then
    gI h this [9] 0 fun v2 =>
    pI h this [9] 0 (v2 - (1 : Int32)) fun h3 =>
    rV h3
  else
    hI (c_L_get h this (x2 + (1 : Int32))) noX fun v5 h4 =>
    hV (c_L_store h4 this x2 v5) noX fun h6 =>
    r16 h6 this (x2 + (1 : Int32))
def c_L_remove (h : PH) (this : Nat) (x1 : Int32) : Option RH :=
  grd h this [9] (
  gI h this [9] 1 fun v1 =>
  hI (c_L_get h this x1) noX fun v3 h2 =>
  pI h2 this [9] 1 (v1 - v3) fun h4 =>
  itr (c_L_remove_l16) (fun _ _ _ => none) FU h4 this x1)
set_option maxHeartbeats 4000000 in
theorem w_L_remove_l16 (r16 : PH → Nat → Int32 → Option RH) (hr16 : ∀ (h : PH) (this : Nat) (x2 : Int32), Sim Y_L_remove h 16 [(0, .ref this), (2, .int x2)] [] (r16 h this x2)) (h : PH) (this : Nat) (x2 : Int32) : Sim Y_L_remove h 16 [(0, .ref this), (2, .int x2)] [] (c_L_remove_l16 r16 h this x2) := by
  unfold c_L_remove_l16
  refine x_iload_n (pc := 16) 1 rfl rfl dX12_remove_16 ?_
  refine x_aload_nR (pc := 17) (a := this) 0 rfl rfl dX12_remove_17 ?_
  refine x_getI (pc := 18) fi_X12_19 dX12_remove_18 ?_
  intro v1
  refine x_iconst (pc := 21) (v := 1) (by decide) dX12_remove_21 ?_
  refine x_isub (pc := 22) dX12_remove_22 ?_
  refine x_icmp_ge (pc := 23) 44 (by decide) dX12_remove_23 ?_ ?_
  · refine x_aload_nR (pc := 44) (a := this) 0 rfl rfl dX12_remove_44 ?_
    refine x_dup (pc := 45) rfl dX12_remove_45 ?_
    refine x_getI (pc := 46) fi_X12_19 dX12_remove_46 ?_
    intro v2
    refine x_iconst (pc := 49) (v := 1) (by decide) dX12_remove_49 ?_
    refine x_isub (pc := 50) dX12_remove_50 ?_
    refine x_pI (pc := 51) fi_X12_19 (fun z => absurd z (by decide)) dX12_remove_51 ?_
    intro h3
    exact x_vret (pc := 54) dX12_remove_54
  · refine x_aload_nR (pc := 26) (a := this) 0 rfl rfl dX12_remove_26 ?_
    refine x_iload_n (pc := 27) 1 rfl rfl dX12_remove_27 ?_
    refine x_aload_nR (pc := 28) (a := this) 0 rfl rfl dX12_remove_28 ?_
    refine x_iload_n (pc := 29) 1 rfl rfl dX12_remove_29 ?_
    refine x_iconst (pc := 30) (v := 1) (by decide) dX12_remove_30 ?_
    refine x_iadd (pc := 31) dX12_remove_31 ?_
    refine x_callV (pc := 32) (As := [.int (x2 + (1 : Int32))]) (rest := [.int x2, .ref this]) (lev' := 1) si_X12_35 (m_L_get h this (x2 + (1 : Int32))) (fun z e => grd1 e) rfl rfl (by decide) (cat4 (Nat.le_of_ble_eq_true rfl)) dX12_remove_32 (kI (fun v5 h4 => ?_)) xNo
    refine x_callV (pc := 35) (As := [.int x2, .int v5]) (rest := []) (lev' := 1) si_X12_39 (m_L_store h4 this x2 v5) (fun z e => grd1 e) rfl rfl (by decide) (cat4 (Nat.le_of_ble_eq_true rfl)) dX12_remove_35 (kV (fun h6 => ?_)) xNo
    refine x_iinc (pc := 38) (v := (1 : Int32)) (lv' := [(2, .int (x2 + (1 : Int32))), (0, .ref this)]) 1 rfl (by decide) (by decide) rfl dX12_remove_38 ?_
    refine x_goto (pc := 41) 16 (by decide) dX12_remove_41 ?_
    refine Sim.lv [1, 0] rfl ?_
    exact hr16 h6 this (x2 + (1 : Int32))
set_option maxHeartbeats 4000000 in
theorem v_L_remove_l16 : ∀ (n : Nat) (h : PH) (this : Nat) (x2 : Int32), Sim Y_L_remove h 16 [(0, .ref this), (2, .int x2)] [] (itr (c_L_remove_l16) (fun _ _ _ => none) n h this x2)
  | 0, h, this, x2 => Sim.none
  | n + 1, h, this, x2 => w_L_remove_l16 _ (v_L_remove_l16 n) h this x2
set_option maxHeartbeats 4000000 in
theorem m_L_remove (h : PH) (this : Nat) (x1 : Int32) : MM yX12_remove (ws_ yX12_remove cX12_remove 3 none) 2 [.ref this, .int x1] h (c_L_remove h this x1) := by
  refine MM.of (by decide) rfl (by decide) (Nat.le_of_ble_eq_true rfl) (own := RX12) (cc := cX12_remove) (maxL := 3) (lev := 2) (rt := none) (ini := false) ?_
  show Sim Y_L_remove h 0 [(0, .ref this), (1, .int x1)] [] _
  unfold c_L_remove
  refine x_grd ?_
  refine x_aload_nR (pc := 0) (a := this) 0 rfl rfl dX12_remove_0 ?_
  refine x_dup (pc := 1) rfl dX12_remove_1 ?_
  refine x_getI (pc := 2) fi_X12_22 dX12_remove_2 ?_
  intro v1
  refine x_aload_nR (pc := 5) (a := this) 0 rfl rfl dX12_remove_5 ?_
  refine x_iload_n (pc := 6) 1 rfl rfl dX12_remove_6 ?_
  refine x_callV (pc := 7) (As := [.int x1]) (rest := [.int v1, .ref this]) (lev' := 1) si_X12_35 (m_L_get h this x1) (fun z e => grd1 e) rfl rfl (by decide) (cat4 (Nat.le_of_ble_eq_true rfl)) dX12_remove_7 (kI (fun v3 h2 => ?_)) xNo
  refine x_isub (pc := 10) dX12_remove_10 ?_
  refine x_pI (pc := 11) fi_X12_22 (fun z => absurd z (by decide)) dX12_remove_11 ?_
  intro h4
  refine x_iload_n (pc := 14) 1 rfl rfl dX12_remove_14 ?_
  refine x_istore_n (pc := 15) (lv' := [(2, .int x1), (0, .ref this), (1, .int x1)]) rfl (by decide) rfl dX12_remove_15 ?_
  refine Sim.lv [1, 0] rfl ?_
  exact v_L_remove_l16 FU h4 this x1
theorem si_X12_29 : SiV RX12 29 9 yX12_remove cX12_remove 3 none 1 := ⟨_, _, _, ci_9.1, by decide, lw_V q848 q849 q850 q127 q851, ⟨rfl, by decide, by decide, by decide +kernel⟩, by decide⟩
abbrev Y_L_shorten : Yx := (RX12, cX12_shorten, 2, 3, none, [], false)
def c_L_shorten_l0 (r0 : PH → Nat → Int32 → Option RH) (h : PH) (this : Nat) (x1 : Int32) : Option RH :=
  gI h this [9] 0 fun v1 =>
  if v1 ≤ x1 then
    rV h
  else
    gI h this [9] 0 fun v2 =>
    hV (c_L_remove h this (v2 - (1 : Int32))) noX fun h3 =>
    r0 h3 this x1
def c_L_shorten (h : PH) (this : Nat) (x1 : Int32) : Option RH :=
  grd h this [9] (
  itr (c_L_shorten_l0) (fun _ _ _ => none) FU h this x1)
set_option maxHeartbeats 4000000 in
theorem w_L_shorten_l0 (r0 : PH → Nat → Int32 → Option RH) (hr0 : ∀ (h : PH) (this : Nat) (x1 : Int32), Sim Y_L_shorten h 0 [(0, .ref this), (1, .int x1)] [] (r0 h this x1)) (h : PH) (this : Nat) (x1 : Int32) : Sim Y_L_shorten h 0 [(0, .ref this), (1, .int x1)] [] (c_L_shorten_l0 r0 h this x1) := by
  unfold c_L_shorten_l0
  refine x_aload_nR (pc := 0) (a := this) 0 rfl rfl dX12_shorten_0 ?_
  refine x_getI (pc := 1) fi_X12_19 dX12_shorten_1 ?_
  intro v1
  refine x_iload_n (pc := 4) 1 rfl rfl dX12_shorten_4 ?_
  refine x_icmp_le (pc := 5) 21 (by decide) dX12_shorten_5 ?_ ?_
  · exact x_vret (pc := 21) dX12_shorten_21
  · refine x_aload_nR (pc := 8) (a := this) 0 rfl rfl dX12_shorten_8 ?_
    refine x_aload_nR (pc := 9) (a := this) 0 rfl rfl dX12_shorten_9 ?_
    refine x_getI (pc := 10) fi_X12_19 dX12_shorten_10 ?_
    intro v2
    refine x_iconst (pc := 13) (v := 1) (by decide) dX12_shorten_13 ?_
    refine x_isub (pc := 14) dX12_shorten_14 ?_
    refine x_callV (pc := 15) (As := [.int (v2 - (1 : Int32))]) (rest := []) (lev' := 2) si_X12_29 (m_L_remove h this (v2 - (1 : Int32))) (fun z e => grd1 e) rfl rfl (by decide) (cat4 (Nat.le_of_ble_eq_true rfl)) dX12_shorten_15 (kV (fun h3 => ?_)) xNo
    refine x_goto (pc := 18) 0 (by decide) dX12_shorten_18 ?_
    exact hr0 h3 this x1
set_option maxHeartbeats 4000000 in
theorem v_L_shorten_l0 : ∀ (n : Nat) (h : PH) (this : Nat) (x1 : Int32), Sim Y_L_shorten h 0 [(0, .ref this), (1, .int x1)] [] (itr (c_L_shorten_l0) (fun _ _ _ => none) n h this x1)
  | 0, h, this, x1 => Sim.none
  | n + 1, h, this, x1 => w_L_shorten_l0 _ (v_L_shorten_l0 n) h this x1
set_option maxHeartbeats 4000000 in
theorem m_L_shorten (h : PH) (this : Nat) (x1 : Int32) : MM yX12_shorten (ws_ yX12_shorten cX12_shorten 2 none) 3 [.ref this, .int x1] h (c_L_shorten h this x1) := by
  refine MM.of (by decide) rfl (by decide) (Nat.le_of_ble_eq_true rfl) (own := RX12) (cc := cX12_shorten) (maxL := 2) (lev := 3) (rt := none) (ini := false) ?_
  show Sim Y_L_shorten h 0 [(0, .ref this), (1, .int x1)] [] _
  unfold c_L_shorten
  refine x_grd ?_
  exact v_L_shorten_l0 FU h this x1
abbrev Y_L_write : Yx := (RX12, cX12_write, 3, 2, none, [], false)
def c_L_write (h : PH) (this : Nat) (x1 : Int32) (x2 : Int32) : Option RH :=
  grd h this [9] (
  gI h this [9] 1 fun v1 =>
  hI (c_L_get h this x1) noX fun v3 h2 =>
  pI h2 this [9] 1 (v1 + (x2 - v3)) fun h4 =>
  hV (c_L_store h4 this x1 x2) noX fun h5 =>
  rV h5)
set_option maxHeartbeats 4000000 in
theorem m_L_write (h : PH) (this : Nat) (x1 : Int32) (x2 : Int32) : MM yX12_write (ws_ yX12_write cX12_write 3 none) 2 [.ref this, .int x1, .int x2] h (c_L_write h this x1 x2) := by
  refine MM.of (by decide) rfl (by decide) (Nat.le_of_ble_eq_true rfl) (own := RX12) (cc := cX12_write) (maxL := 3) (lev := 2) (rt := none) (ini := false) ?_
  show Sim Y_L_write h 0 [(0, .ref this), (1, .int x1), (2, .int x2)] [] _
  unfold c_L_write
  refine x_grd ?_
  refine x_aload_nR (pc := 0) (a := this) 0 rfl rfl dX12_write_0 ?_
  refine x_dup (pc := 1) rfl dX12_write_1 ?_
  refine x_getI (pc := 2) fi_X12_22 dX12_write_2 ?_
  intro v1
  refine x_iload_n (pc := 5) 2 rfl rfl dX12_write_5 ?_
  refine x_aload_nR (pc := 6) (a := this) 0 rfl rfl dX12_write_6 ?_
  refine x_iload_n (pc := 7) 1 rfl rfl dX12_write_7 ?_
  refine x_callV (pc := 8) (As := [.int x1]) (rest := [.int x2, .int v1, .ref this]) (lev' := 1) si_X12_35 (m_L_get h this x1) (fun z e => grd1 e) rfl rfl (by decide) (cat4 (Nat.le_of_ble_eq_true rfl)) dX12_write_8 (kI (fun v3 h2 => ?_)) xNo
  refine x_isub (pc := 11) dX12_write_11 ?_
  refine x_iadd (pc := 12) dX12_write_12 ?_
  refine x_pI (pc := 13) fi_X12_22 (fun z => absurd z (by decide)) dX12_write_13 ?_
  intro h4
  refine x_aload_nR (pc := 16) (a := this) 0 rfl rfl dX12_write_16 ?_
  refine x_iload_n (pc := 17) 1 rfl rfl dX12_write_17 ?_
  refine x_iload_n (pc := 18) 2 rfl rfl dX12_write_18 ?_
  refine x_callV (pc := 19) (As := [.int x1, .int x2]) (rest := []) (lev' := 1) si_X12_39 (m_L_store h4 this x1 x2) (fun z e => grd1 e) rfl rfl (by decide) (cat4 (Nat.le_of_ble_eq_true rfl)) dX12_write_19 (kV (fun h5 => ?_)) xNo
  exact x_vret (pc := 22) dX12_write_22
theorem si_X12_46 : SiV RX12 46 9 yX12_write cX12_write 3 none 2 := ⟨_, _, _, ci_9.1, by decide, lw_V q1180 q1149 q1150 q127 q1151, ⟨rfl, by decide, by decide, by decide +kernel⟩, by decide⟩
abbrev Y_L_flip : Yx := (RX12, cX12_flip, 4, 3, none, [], false)
def c_L_flip_l2 (r2 : PH → Nat → Int32 → Int32 → Option RH) (h : PH) (this : Nat) (x2 : Int32) (x3 : Int32) : Option RH :=
  if x2 ≤ x3 then
    rV h
  else
    hI (c_L_get h this x3) noX fun v2 h1 =>
    hV (c_L_write h1 this x3 ((1 : Int32) - v2)) noX fun h3 =>
    r2 h3 this x2 (x3 + (1 : Int32))
def c_L_flip (h : PH) (this : Nat) (x1 : Int32) (x2 : Int32) : Option RH :=
  grd h this [9] (
  itr (c_L_flip_l2) (fun _ _ _ _ => none) FU h this x2 x1)
set_option maxHeartbeats 4000000 in
theorem w_L_flip_l2 (r2 : PH → Nat → Int32 → Int32 → Option RH) (hr2 : ∀ (h : PH) (this : Nat) (x2 : Int32) (x3 : Int32), Sim Y_L_flip h 2 [(0, .ref this), (2, .int x2), (3, .int x3)] [] (r2 h this x2 x3)) (h : PH) (this : Nat) (x2 : Int32) (x3 : Int32) : Sim Y_L_flip h 2 [(0, .ref this), (2, .int x2), (3, .int x3)] [] (c_L_flip_l2 r2 h this x2 x3) := by
  unfold c_L_flip_l2
  refine x_iload_n (pc := 2) 2 rfl rfl dX12_flip_2 ?_
  refine x_iload_n (pc := 3) 1 rfl rfl dX12_flip_3 ?_
  refine x_icmp_ge (pc := 4) 25 (by decide) dX12_flip_4 ?_ ?_
  · exact x_vret (pc := 25) dX12_flip_25
  · refine x_aload_nR (pc := 7) (a := this) 0 rfl rfl dX12_flip_7 ?_
    refine x_iload_n (pc := 8) 2 rfl rfl dX12_flip_8 ?_
    refine x_iconst (pc := 9) (v := 1) (by decide) dX12_flip_9 ?_
    refine x_aload_nR (pc := 10) (a := this) 0 rfl rfl dX12_flip_10 ?_
    refine x_iload_n (pc := 11) 2 rfl rfl dX12_flip_11 ?_
    refine x_callV (pc := 12) (As := [.int x3]) (rest := [.int (1 : Int32), .int x3, .ref this]) (lev' := 1) si_X12_35 (m_L_get h this x3) (fun z e => grd1 e) rfl rfl (by decide) (cat4 (Nat.le_of_ble_eq_true rfl)) dX12_flip_12 (kI (fun v2 h1 => ?_)) xNo
    refine x_isub (pc := 15) dX12_flip_15 ?_
    refine x_callV (pc := 16) (As := [.int x3, .int ((1 : Int32) - v2)]) (rest := []) (lev' := 2) si_X12_46 (m_L_write h1 this x3 ((1 : Int32) - v2)) (fun z e => grd1 e) rfl rfl (by decide) (cat4 (Nat.le_of_ble_eq_true rfl)) dX12_flip_16 (kV (fun h3 => ?_)) xNo
    refine x_iinc (pc := 19) (v := (1 : Int32)) (lv' := [(3, .int (x3 + (1 : Int32))), (0, .ref this), (2, .int x2)]) 2 rfl (by decide) (by decide) rfl dX12_flip_19 ?_
    refine x_goto (pc := 22) 2 (by decide) dX12_flip_22 ?_
    refine Sim.lv [1, 2, 0] rfl ?_
    exact hr2 h3 this x2 (x3 + (1 : Int32))
set_option maxHeartbeats 4000000 in
theorem v_L_flip_l2 : ∀ (n : Nat) (h : PH) (this : Nat) (x2 : Int32) (x3 : Int32), Sim Y_L_flip h 2 [(0, .ref this), (2, .int x2), (3, .int x3)] [] (itr (c_L_flip_l2) (fun _ _ _ _ => none) n h this x2 x3)
  | 0, h, this, x2, x3 => Sim.none
  | n + 1, h, this, x2, x3 => w_L_flip_l2 _ (v_L_flip_l2 n) h this x2 x3
set_option maxHeartbeats 4000000 in
theorem m_L_flip (h : PH) (this : Nat) (x1 : Int32) (x2 : Int32) : MM yX12_flip (ws_ yX12_flip cX12_flip 4 none) 3 [.ref this, .int x1, .int x2] h (c_L_flip h this x1 x2) := by
  refine MM.of (by decide) rfl (by decide) (Nat.le_of_ble_eq_true rfl) (own := RX12) (cc := cX12_flip) (maxL := 4) (lev := 3) (rt := none) (ini := false) ?_
  show Sim Y_L_flip h 0 [(0, .ref this), (1, .int x1), (2, .int x2)] [] _
  unfold c_L_flip
  refine x_grd ?_
  refine x_iload_n (pc := 0) 1 rfl rfl dX12_flip_0 ?_
  refine x_istore_n (pc := 1) (lv' := [(3, .int x1), (0, .ref this), (1, .int x1), (2, .int x2)]) rfl (by decide) rfl dX12_flip_1 ?_
  refine Sim.lv [1, 3, 0] rfl ?_
  exact v_L_flip_l2 FU h this x2 x1
theorem fi_X13_29 : FI RX13 29 [10] 4 .boolean false true := (fi_c ci_10 (by decide) rfl rfl (Or.inl q961) (Or.inl rfl) (fun h => absurd h (by decide)) fi_n)
theorem fi_X13_20 : FI RX13 20 [10] 0 .int false true := (fi_c ci_10 (by decide) rfl rfl (Or.inl q782) (Or.inr q783) (fun h => absurd h (by decide)) fi_n)
theorem fi_X13_24 : FI RX13 24 [10] 1 .int false true := (fi_c ci_10 (by decide) rfl rfl (Or.inl q790) (Or.inr q791) (fun h => absurd h (by decide)) fi_n)
abbrev Y_I_turnAll : Yx := (RX13, cX13_turnAll, 1, 1, none, [], false)
def c_I_turnAll_j13 (h : PH) (this : Nat) (s0 : Int32) (s1 : Nat) : Option RH :=
  pZ h s1 [10] 4 s0 fun h1 =>
  gI h1 this [10] 0 fun v2 =>
  gI h1 this [10] 1 fun v3 =>
  pI h1 this [10] 1 (v2 - v3) fun h4 =>
  rV h4
def c_I_turnAll (h : PH) (this : Nat) : Option RH :=
  grd h this [10] (
  gI h this [10] 4 fun v1 =>
  if v1 = 0 then
    c_I_turnAll_j13 h this (1 : Int32) this
  else
    c_I_turnAll_j13 h this (0 : Int32) this)
set_option maxHeartbeats 4000000 in
theorem w_I_turnAll_j13 (h : PH) (this : Nat) (s0 : Int32) (s1 : Nat) : Sim Y_I_turnAll h 13 [(0, .ref this)] [.int s0, .ref s1] (c_I_turnAll_j13 h this s0 s1) := by
  unfold c_I_turnAll_j13
  refine x_pZ (pc := 13) fi_X13_29 (fun z => absurd z (by decide)) dX13_turnAll_13 ?_
  intro h1
  refine x_aload_nR (pc := 16) (a := this) 0 rfl rfl dX13_turnAll_16 ?_
  refine x_aload_nR (pc := 17) (a := this) 0 rfl rfl dX13_turnAll_17 ?_
  refine x_getI (pc := 18) fi_X13_20 dX13_turnAll_18 ?_
  intro v2
  refine x_aload_nR (pc := 21) (a := this) 0 rfl rfl dX13_turnAll_21 ?_
  refine x_getI (pc := 22) fi_X13_24 dX13_turnAll_22 ?_
  intro v3
  refine x_isub (pc := 25) dX13_turnAll_25 ?_
  refine x_pI (pc := 26) fi_X13_24 (fun z => absurd z (by decide)) dX13_turnAll_26 ?_
  intro h4
  exact x_vret (pc := 29) dX13_turnAll_29
set_option maxHeartbeats 4000000 in
theorem m_I_turnAll (h : PH) (this : Nat) : MM yX13_turnAll (ws_ yX13_turnAll cX13_turnAll 1 none) 1 [.ref this] h (c_I_turnAll h this) := by
  refine MM.of (by decide) rfl (by decide) (Nat.le_of_ble_eq_true rfl) (own := RX13) (cc := cX13_turnAll) (maxL := 1) (lev := 1) (rt := none) (ini := false) ?_
  show Sim Y_I_turnAll h 0 [(0, .ref this)] [] _
  unfold c_I_turnAll
  refine x_grd ?_
  refine x_aload_nR (pc := 0) (a := this) 0 rfl rfl dX13_turnAll_0 ?_
  refine x_aload_nR (pc := 1) (a := this) 0 rfl rfl dX13_turnAll_1 ?_
  refine x_getI (pc := 2) fi_X13_29 dX13_turnAll_2 ?_
  intro v1
  refine x_if_ne (pc := 5) 12 (by decide) dX13_turnAll_5 ?_ ?_
  · refine x_iconst (pc := 12) (v := 0) (by decide) dX13_turnAll_12 ?_
    exact w_I_turnAll_j13 h this (0 : Int32) this
  · refine x_iconst (pc := 8) (v := 1) (by decide) dX13_turnAll_8 ?_
    refine x_goto (pc := 9) 13 (by decide) dX13_turnAll_9 ?_
    exact w_I_turnAll_j13 h this (1 : Int32) this
theorem fi_X13_7 : FI RX13 7 [10] 3 (.array (.object "BitRopes$Node")) true true := (fi_c ci_10 (by decide) rfl rfl (Or.inl q959) (Or.inl rfl) (fun _ _ => rfl) fi_n)
theorem si_X13_33a : SiU RX13 33 [9] ⟨RX11, "turnAll", "()V"⟩ yX12_turnAll cX12_turnAll 1 none 0 := (siU_c (c := 9) (owner := "BitRopes$Node") rfl (by decide) ⟨q756, q758, Or.inl q762, q763, q127, q764⟩ (Or.inr q757) ⟨by decide, by decide, by decide +kernel⟩ (siU_n (by decide)))
theorem si_X13_33b : SiU RX13 33 [10] ⟨RX11, "turnAll", "()V"⟩ yX13_turnAll cX13_turnAll 1 none 0 := (siU_c (c := 10) (owner := "BitRopes$Node") rfl (by decide) ⟨q756, q758, Or.inl q759, q760, q131, q761⟩ (Or.inr q757) ⟨by decide, by decide, by decide +kernel⟩ (siU_n (by decide)))
abbrev Y_I_push : Yx := (RX13, cX13_push, 1, 2, none, [], false)
def c_I_push (h : PH) (this : Nat) : Option RH :=
  grd h this [10] (
  gI h this [10] 4 fun v1 =>
  if v1 = 0 then
    rV h
  else
    pZ h this [10] 4 (0 : Int32) fun h2 =>
    gQ h2 this [10] 3 fun v3 =>
    nn v3 fun a4 =>
    ldQ h2 a4 (0 : Int32) fun v6 =>
    nn v6 fun a7 =>
    hV (dsp2 h2 a7 9 10 (c_L_turnAll h2 a7) (c_I_turnAll h2 a7)) noX fun h9 =>
    gQ h9 this [10] 3 fun v10 =>
    nn v10 fun a11 =>
    ldQ h9 a11 (1 : Int32) fun v13 =>
    nn v13 fun a14 =>
    hV (dsp2 h9 a14 9 10 (c_L_turnAll h9 a14) (c_I_turnAll h9 a14)) noX fun h16 =>
    rV h16)
set_option maxHeartbeats 4000000 in
theorem m_I_push (h : PH) (this : Nat) : MM yX13_push (ws_ yX13_push cX13_push 1 none) 2 [.ref this] h (c_I_push h this) := by
  refine MM.of (by decide) rfl (by decide) (Nat.le_of_ble_eq_true rfl) (own := RX13) (cc := cX13_push) (maxL := 1) (lev := 2) (rt := none) (ini := false) ?_
  show Sim Y_I_push h 0 [(0, .ref this)] [] _
  unfold c_I_push
  refine x_grd ?_
  refine x_aload_nR (pc := 0) (a := this) 0 rfl rfl dX13_push_0 ?_
  refine x_getI (pc := 1) fi_X13_29 dX13_push_1 ?_
  intro v1
  refine x_if_ne (pc := 4) 8 (by decide) dX13_push_4 ?_ ?_
  · refine x_aload_nR (pc := 8) (a := this) 0 rfl rfl dX13_push_8 ?_
    refine x_iconst (pc := 9) (v := 0) (by decide) dX13_push_9 ?_
    refine x_pZ (pc := 10) fi_X13_29 (fun z => absurd z (by decide)) dX13_push_10 ?_
    intro h2
    refine x_aload_nR (pc := 13) (a := this) 0 rfl rfl dX13_push_13 ?_
    refine x_getQ (pc := 14) fi_X13_7 dX13_push_14 ?_
    intro v3
    refine x_iconst (pc := 17) (v := 0) (by decide) dX13_push_17 ?_
    refine x_nn (fun a4 e5 => ?_)
    subst e5
    refine x_aald (pc := 18) dX13_push_18 ?_
    intro v6
    refine x_nn (fun a7 e8 => ?_)
    subst e8
    refine x_callD2 (pc := 19) (As := []) (rest := []) si_X13_33a si_X13_33b (m_L_turnAll h2 a7) (m_I_turnAll h2 a7) rfl rfl (by omega) (by omega) (cat4 (Nat.le_of_ble_eq_true rfl)) dX13_push_19 (fun h9 => ?_)
    refine x_aload_nR (pc := 22) (a := this) 0 rfl rfl dX13_push_22 ?_
    refine x_getQ (pc := 23) fi_X13_7 dX13_push_23 ?_
    intro v10
    refine x_iconst (pc := 26) (v := 1) (by decide) dX13_push_26 ?_
    refine x_nn (fun a11 e12 => ?_)
    subst e12
    refine x_aald (pc := 27) dX13_push_27 ?_
    intro v13
    refine x_nn (fun a14 e15 => ?_)
    subst e15
    refine x_callD2 (pc := 28) (As := []) (rest := []) si_X13_33a si_X13_33b (m_L_turnAll h9 a14) (m_I_turnAll h9 a14) rfl rfl (by omega) (by omega) (cat4 (Nat.le_of_ble_eq_true rfl)) dX13_push_28 (fun h16 => ?_)
    exact x_vret (pc := 31) dX13_push_31
  · exact x_vret (pc := 7) dX13_push_7
theorem fi_X13_16 : FI RX13 16 [9, 10] 0 .int false true := (fi_c ci_9 (by decide) rfl rfl (Or.inl q781) (Or.inl rfl) (fun h => absurd h (by decide)) (fi_c ci_10 (by decide) rfl rfl (Or.inl q781) (Or.inl rfl) (fun h => absurd h (by decide)) fi_n))
theorem fi_X13_21 : FI RX13 21 [9, 10] 1 .int false true := (fi_c ci_9 (by decide) rfl rfl (Or.inl q789) (Or.inl rfl) (fun h => absurd h (by decide)) (fi_c ci_10 (by decide) rfl rfl (Or.inl q789) (Or.inl rfl) (fun h => absurd h (by decide)) fi_n))
theorem fi_X13_25 : FI RX13 25 [9, 10] 2 .int false true := (fi_c ci_9 (by decide) rfl rfl (Or.inl q797) (Or.inl rfl) (fun h => absurd h (by decide)) (fi_c ci_10 (by decide) rfl rfl (Or.inl q797) (Or.inl rfl) (fun h => absurd h (by decide)) fi_n))
theorem fi_X13_28 : FI RX13 28 [10] 2 .int false true := (fi_c ci_10 (by decide) rfl rfl (Or.inl q798) (Or.inr q799) (fun h => absurd h (by decide)) fi_n)
abbrev Y_I_recount : Yx := (RX13, cX13_recount, 1, 1, none, [], false)
def c_I_recount (h : PH) (this : Nat) : Option RH :=
  grd h this [10] (
  gQ h this [10] 3 fun v1 =>
  nn v1 fun a2 =>
  ldQ h a2 (0 : Int32) fun v4 =>
  nn v4 fun a5 =>
  gI h a5 [9, 10] 0 fun v7 =>
  gQ h this [10] 3 fun v8 =>
  nn v8 fun a9 =>
  ldQ h a9 (1 : Int32) fun v11 =>
  nn v11 fun a12 =>
  gI h a12 [9, 10] 0 fun v14 =>
  pI h this [10] 0 (v7 + v14) fun h15 =>
  gQ h15 this [10] 3 fun v16 =>
  nn v16 fun a17 =>
  ldQ h15 a17 (0 : Int32) fun v19 =>
  nn v19 fun a20 =>
  gI h15 a20 [9, 10] 1 fun v22 =>
  gQ h15 this [10] 3 fun v23 =>
  nn v23 fun a24 =>
  ldQ h15 a24 (1 : Int32) fun v26 =>
  nn v26 fun a27 =>
  gI h15 a27 [9, 10] 1 fun v29 =>
  pI h15 this [10] 1 (v22 + v29) fun h30 =>
  gQ h30 this [10] 3 fun v31 =>
  nn v31 fun a32 =>
  ldQ h30 a32 (0 : Int32) fun v34 =>
  nn v34 fun a35 =>
  gI h30 a35 [9, 10] 2 fun v37 =>
  gQ h30 this [10] 3 fun v38 =>
  nn v38 fun a39 =>
  ldQ h30 a39 (1 : Int32) fun v41 =>
  nn v41 fun a42 =>
  gI h30 a42 [9, 10] 2 fun v44 =>
  pI h30 this [10] 2 (v37 + v44) fun h45 =>
  rV h45)
set_option maxHeartbeats 4000000 in
theorem m_I_recount (h : PH) (this : Nat) : MM yX13_recount (ws_ yX13_recount cX13_recount 1 none) 1 [.ref this] h (c_I_recount h this) := by
  refine MM.of (by decide) rfl (by decide) (Nat.le_of_ble_eq_true rfl) (own := RX13) (cc := cX13_recount) (maxL := 1) (lev := 1) (rt := none) (ini := false) ?_
  show Sim Y_I_recount h 0 [(0, .ref this)] [] _
  unfold c_I_recount
  refine x_grd ?_
  refine x_aload_nR (pc := 0) (a := this) 0 rfl rfl dX13_recount_0 ?_
  refine x_aload_nR (pc := 1) (a := this) 0 rfl rfl dX13_recount_1 ?_
  refine x_getQ (pc := 2) fi_X13_7 dX13_recount_2 ?_
  intro v1
  refine x_iconst (pc := 5) (v := 0) (by decide) dX13_recount_5 ?_
  refine x_nn (fun a2 e3 => ?_)
  subst e3
  refine x_aald (pc := 6) dX13_recount_6 ?_
  intro v4
  refine x_nn (fun a5 e6 => ?_)
  subst e6
  refine x_getI (pc := 7) fi_X13_16 dX13_recount_7 ?_
  intro v7
  refine x_aload_nR (pc := 10) (a := this) 0 rfl rfl dX13_recount_10 ?_
  refine x_getQ (pc := 11) fi_X13_7 dX13_recount_11 ?_
  intro v8
  refine x_iconst (pc := 14) (v := 1) (by decide) dX13_recount_14 ?_
  refine x_nn (fun a9 e10 => ?_)
  subst e10
  refine x_aald (pc := 15) dX13_recount_15 ?_
  intro v11
  refine x_nn (fun a12 e13 => ?_)
  subst e13
  refine x_getI (pc := 16) fi_X13_16 dX13_recount_16 ?_
  intro v14
  refine x_iadd (pc := 19) dX13_recount_19 ?_
  refine x_pI (pc := 20) fi_X13_20 (fun z => absurd z (by decide)) dX13_recount_20 ?_
  intro h15
  refine x_aload_nR (pc := 23) (a := this) 0 rfl rfl dX13_recount_23 ?_
  refine x_aload_nR (pc := 24) (a := this) 0 rfl rfl dX13_recount_24 ?_
  refine x_getQ (pc := 25) fi_X13_7 dX13_recount_25 ?_
  intro v16
  refine x_iconst (pc := 28) (v := 0) (by decide) dX13_recount_28 ?_
  refine x_nn (fun a17 e18 => ?_)
  subst e18
  refine x_aald (pc := 29) dX13_recount_29 ?_
  intro v19
  refine x_nn (fun a20 e21 => ?_)
  subst e21
  refine x_getI (pc := 30) fi_X13_21 dX13_recount_30 ?_
  intro v22
  refine x_aload_nR (pc := 33) (a := this) 0 rfl rfl dX13_recount_33 ?_
  refine x_getQ (pc := 34) fi_X13_7 dX13_recount_34 ?_
  intro v23
  refine x_iconst (pc := 37) (v := 1) (by decide) dX13_recount_37 ?_
  refine x_nn (fun a24 e25 => ?_)
  subst e25
  refine x_aald (pc := 38) dX13_recount_38 ?_
  intro v26
  refine x_nn (fun a27 e28 => ?_)
  subst e28
  refine x_getI (pc := 39) fi_X13_21 dX13_recount_39 ?_
  intro v29
  refine x_iadd (pc := 42) dX13_recount_42 ?_
  refine x_pI (pc := 43) fi_X13_24 (fun z => absurd z (by decide)) dX13_recount_43 ?_
  intro h30
  refine x_aload_nR (pc := 46) (a := this) 0 rfl rfl dX13_recount_46 ?_
  refine x_aload_nR (pc := 47) (a := this) 0 rfl rfl dX13_recount_47 ?_
  refine x_getQ (pc := 48) fi_X13_7 dX13_recount_48 ?_
  intro v31
  refine x_iconst (pc := 51) (v := 0) (by decide) dX13_recount_51 ?_
  refine x_nn (fun a32 e33 => ?_)
  subst e33
  refine x_aald (pc := 52) dX13_recount_52 ?_
  intro v34
  refine x_nn (fun a35 e36 => ?_)
  subst e36
  refine x_getI (pc := 53) fi_X13_25 dX13_recount_53 ?_
  intro v37
  refine x_aload_nR (pc := 56) (a := this) 0 rfl rfl dX13_recount_56 ?_
  refine x_getQ (pc := 57) fi_X13_7 dX13_recount_57 ?_
  intro v38
  refine x_iconst (pc := 60) (v := 1) (by decide) dX13_recount_60 ?_
  refine x_nn (fun a39 e40 => ?_)
  subst e40
  refine x_aald (pc := 61) dX13_recount_61 ?_
  intro v41
  refine x_nn (fun a42 e43 => ?_)
  subst e43
  refine x_getI (pc := 62) fi_X13_25 dX13_recount_62 ?_
  intro v44
  refine x_iadd (pc := 65) dX13_recount_65 ?_
  refine x_pI (pc := 66) fi_X13_28 (fun z => absurd z (by decide)) dX13_recount_66 ?_
  intro h45
  exact x_vret (pc := 69) dX13_recount_69
theorem si_X13_1 : SiIN RX13 1 "BitRopes" yX11_init cX11_init 1 0 := ⟨q775, q126, q954, q774, rfl, ⟨by decide, by decide, by decide +kernel⟩, by decide⟩
theorem si_X13_13 : SiV RX13 13 10 yX13_recount cX13_recount 1 none 0 := ⟨_, _, _, ci_10.1, by decide, lw_V q955 q956 q957 q131 q958, ⟨rfl, by decide, by decide, by decide +kernel⟩, by decide⟩
abbrev Y_I_init : Yx := (RX13, cX13_init, 2, 2, none, [], true)
def c_I_init (h : PH) (this : Nat) (x1 : Nat) : Option RH :=
  grd h this [10] (
  hV (c_N_init h this) noX fun h1 =>
  pQ h1 this [10] 3 (some x1) fun h2 =>
  hV (c_I_recount h2 this) noX fun h3 =>
  rV h3)
set_option maxHeartbeats 4000000 in
theorem m_I_init (h : PH) (this : Nat) (x1 : Nat) : MM yX13_init (ws_ yX13_init cX13_init 2 none) 2 [.ref this, .ref x1] h (c_I_init h this x1) := by
  refine MM.of (by decide) rfl (by decide) (Nat.le_of_ble_eq_true rfl) (own := RX13) (cc := cX13_init) (maxL := 2) (lev := 2) (rt := none) (ini := true) ?_
  show Sim Y_I_init h 0 [(0, .ref this), (1, .ref x1)] [] _
  unfold c_I_init
  refine x_grd ?_
  refine x_aload_nR (pc := 0) (a := this) 0 rfl rfl dX13_init_0 ?_
  refine x_callIN (pc := 1) (As := []) (rest := []) (lev' := 1) si_X13_1 (m_N_init h this) rfl rfl (by decide) (cat4 (Nat.le_of_ble_eq_true rfl)) dX13_init_1 (kV (fun h1 => ?_)) xNo
  refine x_aload_nR (pc := 4) (a := this) 0 rfl rfl dX13_init_4 ?_
  refine x_aload_nR (pc := 5) (a := x1) 1 rfl rfl dX13_init_5 ?_
  refine x_pQA (pc := 6) (v := (some x1)) fi_X13_7 (fun _ => rfl) dX13_init_6 ?_
  intro h2
  refine x_aload_nR (pc := 9) (a := this) 0 rfl rfl dX13_init_9 ?_
  refine x_callV (pc := 10) (As := []) (rest := []) (lev' := 1) si_X13_13 (m_I_recount h2 this) (fun z e => grd1 e) rfl rfl (by decide) (cat4 (Nat.le_of_ble_eq_true rfl)) dX13_init_10 (kV (fun h3 => ?_)) xNo
  exact x_vret (pc := 13) dX13_init_13
theorem fi_X14_7 : FI RX14 7 [11] 0 (.array .long) true true := (fi_c ci_11 (by decide) rfl rfl (Or.inl q1120) (Or.inl rfl) (fun _ _ => rfl) fi_n)
theorem fi_X14_13 : FI RX14 13 [11] 1 (.array .int) true true := (fi_c ci_11 (by decide) rfl rfl (Or.inl q1123) (Or.inl rfl) (fun _ _ => rfl) fi_n)
abbrev Y_P_init : Yx := (RX14, cX14_init, 3, 1, none, [], true)
def c_P_init (h : PH) (this : Nat) (x1 : Nat) (x2 : Nat) : Option RH :=
  grd h this [11] (
  pQ h this [11] 0 (some x1) fun h1 =>
  pQ h1 this [11] 1 (some x2) fun h2 =>
  rV h2)
set_option maxHeartbeats 4000000 in
theorem m_P_init (h : PH) (this : Nat) (x1 : Nat) (x2 : Nat) : MM yX14_init (ws_ yX14_init cX14_init 3 none) 1 [.ref this, .ref x1, .ref x2] h (c_P_init h this x1 x2) := by
  refine MM.of (by decide) rfl (by decide) (Nat.le_of_ble_eq_true rfl) (own := RX14) (cc := cX14_init) (maxL := 3) (lev := 1) (rt := none) (ini := true) ?_
  show Sim Y_P_init h 0 [(0, .ref this), (1, .ref x1), (2, .ref x2)] [] _
  unfold c_P_init
  refine x_grd ?_
  refine x_aload_nR (pc := 0) (a := this) 0 rfl rfl dX14_init_0 ?_
  refine x_objInit (pc := 1) q1119 (by omega) (by decide) dX14_init_1 ?_
  refine x_aload_nR (pc := 4) (a := this) 0 rfl rfl dX14_init_4 ?_
  refine x_aload_nR (pc := 5) (a := x1) 1 rfl rfl dX14_init_5 ?_
  refine x_pQA (pc := 6) (v := (some x1)) fi_X14_7 (fun _ => rfl) dX14_init_6 ?_
  intro h1
  refine x_aload_nR (pc := 9) (a := this) 0 rfl rfl dX14_init_9 ?_
  refine x_aload_nR (pc := 10) (a := x2) 2 rfl rfl dX14_init_10 ?_
  refine x_pQA (pc := 11) (v := (some x2)) fi_X14_13 (fun _ => rfl) dX14_init_11 ?_
  intro h2
  exact x_vret (pc := 14) dX14_init_14
theorem ni_X14_8 : NI RX14 8 11 [.null, .null] := ⟨_, _, _, _, ci_11, q1571, q1115, q137, by decide +kernel, rfl⟩
theorem si_X14_24 : SiI RX14 24 yX14_init cX14_init 3 2 := ⟨q1118, q137, q1584, q1117, rfl, ⟨by decide, by decide, by decide +kernel⟩, by decide⟩
abbrev Y_P_copy : Yx := (RX14, cX14_copy, 1, 9, (some (.object "BitRopes$Packed")), [], false)
def c_P_copy (h : PH) (this : Nat) : Option RH :=
  grd h this [11] (
  newO h 11 [.null, .null] fun a1 h2 =>
  gQ h2 this [11] 0 fun v3 =>
  nn v3 fun a4 =>
  clL h2 a4 fun a6 h7 =>
  grdA h7 a6 1 <|
  gQ h7 this [11] 1 fun v8 =>
  nn v8 fun a9 =>
  clI h7 a9 fun a11 h12 =>
  grdA h12 a11 0 <|
  hV (c_P_init h12 a1 a6 a11) noX fun h13 =>
  rQ (some a1) h13)
set_option maxHeartbeats 4000000 in
theorem m_P_copy (h : PH) (this : Nat) : MM yX14_copy (ws_ yX14_copy cX14_copy 1 (some (.object "BitRopes$Packed"))) 9 [.ref this] h (c_P_copy h this) := by
  refine MM.of (by decide) rfl (by decide) (Nat.le_of_ble_eq_true rfl) (own := RX14) (cc := cX14_copy) (maxL := 1) (lev := 9) (rt := (some (.object "BitRopes$Packed"))) (ini := false) ?_
  show Sim Y_P_copy h 0 [(0, .ref this)] [] _
  unfold c_P_copy
  refine x_grd ?_
  refine x_new (pc := 0) ni_X14_8 dX14_copy_0 ?_
  intro a1 h2
  refine x_dup (pc := 3) rfl dX14_copy_3 ?_
  refine x_aload_nR (pc := 4) (a := this) 0 rfl rfl dX14_copy_4 ?_
  refine x_getQ (pc := 5) fi_X14_7 dX14_copy_5 ?_
  intro v3
  refine x_nn (fun a4 e5 => ?_)
  subst e5
  refine x_cloneL (pc := 8) q1572 (by omega) (cat4 (Nat.le_of_ble_eq_true rfl)) dX14_copy_8 (fun a6 h7 => ?_)
  refine x_castA1 (pc := 11) q1578 dX14_copy_11 ?_
  refine x_aload_nR (pc := 14) (a := this) 0 rfl rfl dX14_copy_14 ?_
  refine x_getQ (pc := 15) fi_X14_13 dX14_copy_15 ?_
  intro v8
  refine x_nn (fun a9 e10 => ?_)
  subst e10
  refine x_cloneI (pc := 18) q1579 (by omega) (cat4 (Nat.le_of_ble_eq_true rfl)) dX14_copy_18 (fun a11 h12 => ?_)
  refine x_castA0 (pc := 21) q1583 dX14_copy_21 ?_
  refine x_callI (pc := 24) (As := [.ref a6, .ref a11]) (rest := [.ref a1]) (lev' := 1) si_X14_24 (m_P_init h12 a1 a6 a11) rfl rfl (by decide) (cat4 (Nat.le_of_ble_eq_true rfl)) dX14_copy_24 (kV (fun h13 => ?_)) xNo
  exact x_aret (pc := 27) (v := (some a1)) (Or.inl ⟨_, rfl⟩) dX14_copy_27
theorem fi_X5_11 : FI RX5 11 [4] 0 (.array (.object "BitRopes$Leaf")) true true := (fi_c ci_4 (by decide) rfl rfl (Or.inl q290) (Or.inl rfl) (fun _ _ => rfl) fi_n)
abbrev Y_R_init : Yx := (RX5, cX5_init, 1, 1, none, [], true)
def c_R_init (h : PH) (this : Nat) : Option RH :=
  grd h this [4] (
  newA h 4 (152 : Int32) (.inr (.inr (.inr (.inr (fun _ => none))))) fun a1 h2 =>
  pQ h2 this [4] 0 (some a1) fun h3 =>
  rV h3)
set_option maxHeartbeats 4000000 in
theorem m_R_init (h : PH) (this : Nat) : MM yX5_init (ws_ yX5_init cX5_init 1 none) 1 [.ref this] h (c_R_init h this) := by
  refine MM.of (by decide) rfl (by decide) (Nat.le_of_ble_eq_true rfl) (own := RX5) (cc := cX5_init) (maxL := 1) (lev := 1) (rt := none) (ini := true) ?_
  show Sim Y_R_init h 0 [(0, .ref this)] [] _
  unfold c_R_init
  refine x_grd ?_
  refine x_aload_nR (pc := 0) (a := this) 0 rfl rfl dX5_init_0 ?_
  refine x_objInit (pc := 1) q287 (by omega) (by decide) dX5_init_1 ?_
  refine x_aload_nR (pc := 4) (a := this) 0 rfl rfl dX5_init_4 ?_
  refine x_sipush (pc := 5) (v := 152) (by decide) dX5_init_5 ?_
  refine x_newaQ (pc := 8) (C := RX12) (t := 4) (by decide +kernel) q288 (fun G s hk => (hk.1.2 4 _ rfl).2.choose_spec.choose_spec.2.2.2) dX5_init_8 ?_
  intro a1 h2
  refine x_pQA (pc := 11) (v := (some a1)) fi_X5_11 (fun _ => rfl) dX5_init_11 ?_
  intro h3
  exact x_vret (pc := 14) dX5_init_14
theorem fi_X5_27 : FI RX5 27 [4] 1 (.object "BitRopes$Node") false true := (fi_c ci_4 (by decide) rfl rfl (Or.inl q291) (Or.inl rfl) (fun h => absurd h (by decide)) fi_n)
theorem fi_X5_31 : FI RX5 31 [4] 2 .boolean false true := (fi_c ci_4 (by decide) rfl rfl (Or.inl q293) (Or.inl rfl) (fun h => absurd h (by decide)) fi_n)
theorem fi_X5_24 : FI RX5 24 [4] 5 .int false true := (fi_c ci_4 (by decide) rfl rfl (Or.inl q298) (Or.inl rfl) (fun h => absurd h (by decide)) fi_n)
theorem fi_X5_17 : FI RX5 17 [4] 6 .int false true := (fi_c ci_4 (by decide) rfl rfl (Or.inl q299) (Or.inl rfl) (fun h => absurd h (by decide)) fi_n)
theorem fi_X5_21 : FI RX5 21 [4] 7 .int false true := (fi_c ci_4 (by decide) rfl rfl (Or.inl q300) (Or.inl rfl) (fun h => absurd h (by decide)) fi_n)
abbrev Y_R_clear : Yx := (RX5, cX5_clear, 1, 1, none, [], false)
def c_R_clear (h : PH) (this : Nat) : Option RH :=
  grd h this [4] (
  pQ h this [4] 1 none fun h1 =>
  pZ h1 this [4] 2 (0 : Int32) fun h2 =>
  pI h2 this [4] 5 (0 : Int32) fun h3 =>
  pI h3 this [4] 6 (0 : Int32) fun h4 =>
  pI h4 this [4] 7 (0 : Int32) fun h5 =>
  rV h5)
set_option maxHeartbeats 4000000 in
theorem m_R_clear (h : PH) (this : Nat) : MM yX5_clear (ws_ yX5_clear cX5_clear 1 none) 1 [.ref this] h (c_R_clear h this) := by
  refine MM.of (by decide) rfl (by decide) (Nat.le_of_ble_eq_true rfl) (own := RX5) (cc := cX5_clear) (maxL := 1) (lev := 1) (rt := none) (ini := false) ?_
  show Sim Y_R_clear h 0 [(0, .ref this)] [] _
  unfold c_R_clear
  refine x_grd ?_
  refine x_aload_nR (pc := 0) (a := this) 0 rfl rfl dX5_clear_0 ?_
  refine x_null (pc := 1) dX5_clear_1 ?_
  refine x_pQ (pc := 2) (v := none) fi_X5_27 (fun z => absurd z (by decide)) dX5_clear_2 ?_
  intro h1
  refine x_aload_nR (pc := 5) (a := this) 0 rfl rfl dX5_clear_5 ?_
  refine x_iconst (pc := 6) (v := 0) (by decide) dX5_clear_6 ?_
  refine x_pZ (pc := 7) fi_X5_31 (fun z => absurd z (by decide)) dX5_clear_7 ?_
  intro h2
  refine x_aload_nR (pc := 10) (a := this) 0 rfl rfl dX5_clear_10 ?_
  refine x_iconst (pc := 11) (v := 0) (by decide) dX5_clear_11 ?_
  refine x_pI (pc := 12) fi_X5_24 (fun z => absurd z (by decide)) dX5_clear_12 ?_
  intro h3
  refine x_aload_nR (pc := 15) (a := this) 0 rfl rfl dX5_clear_15 ?_
  refine x_iconst (pc := 16) (v := 0) (by decide) dX5_clear_16 ?_
  refine x_pI (pc := 17) fi_X5_17 (fun z => absurd z (by decide)) dX5_clear_17 ?_
  intro h4
  refine x_aload_nR (pc := 20) (a := this) 0 rfl rfl dX5_clear_20 ?_
  refine x_iconst (pc := 21) (v := 0) (by decide) dX5_clear_21 ?_
  refine x_pI (pc := 22) fi_X5_21 (fun z => absurd z (by decide)) dX5_clear_22 ?_
  intro h5
  exact x_vret (pc := 25) dX5_clear_25
abbrev Y_R_wide : Yx := (RX5, cX5_wide, 1, 1, (some .int), [], false)
def c_R_wide (h : PH) (this : Nat) : Option RH :=
  grd h this [4] (
  gI h this [4] 6 fun v1 =>
  rI v1 h)
set_option maxHeartbeats 4000000 in
theorem m_R_wide (h : PH) (this : Nat) : MM yX5_wide (ws_ yX5_wide cX5_wide 1 (some .int)) 1 [.ref this] h (c_R_wide h this) := by
  refine MM.of (by decide) rfl (by decide) (Nat.le_of_ble_eq_true rfl) (own := RX5) (cc := cX5_wide) (maxL := 1) (lev := 1) (rt := (some .int)) (ini := false) ?_
  show Sim Y_R_wide h 0 [(0, .ref this)] [] _
  unfold c_R_wide
  refine x_grd ?_
  refine x_aload_nR (pc := 0) (a := this) 0 rfl rfl dX5_wide_0 ?_
  refine x_getI (pc := 1) fi_X5_17 dX5_wide_1 ?_
  intro v1
  exact x_iret (pc := 4) dX5_wide_4
theorem si_X5_48 : SiV RX5 48 10 yX13_push cX13_push 1 none 0 := ⟨_, _, _, ci_10.1, by decide, lw_V q752 q753 q754 q131 q755, ⟨rfl, by decide, by decide, by decide +kernel⟩, by decide⟩
theorem fi_X5_51 : FI RX5 51 [10] 3 (.array (.object "BitRopes$Node")) true false := (fi_c ci_10 (by decide) rfl rfl (Or.inr ⟨_, q960⟩) (Or.inl rfl) (fun _ h => absurd h (by decide)) fi_n)
theorem si_X5_42 : SiV RX5 42 4 yX5_settle cX5_settle 3 none 1 := ⟨_, _, _, ci_4.1, by decide, lw_V q747 q749 qs8 q116 q750, ⟨rfl, by decide, by decide, by decide +kernel⟩, by decide⟩
abbrev Y_R_settle (d : Nat) : Yx := (RX5, cX5_settle, 3, (3 + d + 1), none, [], false)
def b_R_settle (rg : PH → Nat → Option Nat → Option RH) (h : PH) (this : Nat) (x1 : Option Nat) : Option RH :=
  grd h this [4] (
  iof h x1 10 9 (
    nn x1 fun a1 =>
    grd h a1 [10] <|
    hV (c_I_push h a1) noX fun h3 =>
    gQ h3 a1 [10] 3 fun v4 =>
    nn v4 fun a5 =>
    ldQ h3 a5 (0 : Int32) fun v7 =>
    hV (grd h3 this [4] (rg h3 this v7)) noX fun h8 =>
    gQ h8 a1 [10] 3 fun v9 =>
    nn v9 fun a10 =>
    ldQ h8 a10 (1 : Int32) fun v12 =>
    hV (grd h8 this [4] (rg h8 this v12)) noX fun h13 =>
    rV h13) (
    rV h))
set_option maxHeartbeats 4000000 in
theorem t_R_settle (rg : PH → Nat → Option Nat → Option RH) {d : Nat} (hrg : (∀ (h : PH) (this : Nat) (x1 : Option Nat), MM yX5_settle (ws_ yX5_settle cX5_settle 3 none) (3 + d) [.ref this, va_rf x1] h (rg h this x1))) (h : PH) (this : Nat) (x1 : Option Nat) : MM yX5_settle (ws_ yX5_settle cX5_settle 3 none) (3 + d + 1) [.ref this, va_rf x1] h (b_R_settle rg h this x1) := by
  refine MM.of (by decide) rfl (by decide) (by cases x1 <;> exact Nat.le_of_ble_eq_true rfl) (own := RX5) (cc := cX5_settle) (maxL := 3) (lev := (3 + d + 1)) (rt := none) (ini := false) ?_
  show Sim (Y_R_settle d) h 0 [(0, .ref this), (1, va_rf x1)] [] _
  unfold b_R_settle
  refine x_grd ?_
  refine x_aload_n (pc := 0) (r := x1) 1 rfl rfl dX5_settle_0 ?_
  refine x_inst (pc := 1) (r := x1) ci_10 ci_9 (by decide +kernel) q751 dX5_settle_1 ?_ ?_
  · refine x_if_eqF (pc := 4) 15 (by decide) (by decide) dX5_settle_4 ?_
    refine x_aload_n (pc := 7) (r := x1) 1 rfl rfl dX5_settle_7 ?_
    refine x_nn (fun a1 e2 => ?_)
    subst e2
    refine x_cast (pc := 8) ci_10 q751 dX5_settle_8 ?_
    refine x_astore_nR (pc := 11) (a := a1) (lv' := [(2, .ref a1), (0, .ref this), (1, .ref a1)]) rfl (by decide) rfl dX5_settle_11 ?_
    refine x_goto (pc := 12) 16 (by decide) dX5_settle_12 ?_
    refine x_aload_nR (pc := 16) (a := a1) 0 rfl rfl dX5_settle_16 ?_
    refine x_callV (pc := 17) (As := []) (rest := []) (lev' := 2) si_X5_48 (m_I_push h a1) (fun z e => grd1 e) rfl rfl (by omega) (cat4 (Nat.le_of_ble_eq_true rfl)) dX5_settle_17 (kV (fun h3 => ?_)) xNo
    refine x_aload_nR (pc := 20) (a := this) 1 rfl rfl dX5_settle_20 ?_
    refine x_aload_nR (pc := 21) (a := a1) 0 rfl rfl dX5_settle_21 ?_
    refine x_getQ (pc := 22) fi_X5_51 dX5_settle_22 ?_
    intro v4
    refine x_iconst (pc := 25) (v := 0) (by decide) dX5_settle_25 ?_
    refine x_nn (fun a5 e6 => ?_)
    subst e6
    refine x_aald (pc := 26) dX5_settle_26 ?_
    intro v7
    refine x_callV (pc := 27) (As := [va_rf v7]) (rest := []) (lev' := (3 + d)) si_X5_42 (MM.grd (hrg h3 this v7)) (fun z e => grd1 e) rfl rfl (by omega) (cat4 (Nat.le_of_ble_eq_true rfl)) dX5_settle_27 (kV (fun h8 => ?_)) xNo
    refine x_aload_nR (pc := 30) (a := this) 1 rfl rfl dX5_settle_30 ?_
    refine x_aload_nR (pc := 31) (a := a1) 0 rfl rfl dX5_settle_31 ?_
    refine x_getQ (pc := 32) fi_X5_51 dX5_settle_32 ?_
    intro v9
    refine x_iconst (pc := 35) (v := 1) (by decide) dX5_settle_35 ?_
    refine x_nn (fun a10 e11 => ?_)
    subst e11
    refine x_aald (pc := 36) dX5_settle_36 ?_
    intro v12
    refine x_callV (pc := 37) (As := [va_rf v12]) (rest := []) (lev' := (3 + d)) si_X5_42 (MM.grd (hrg h8 this v12)) (fun z e => grd1 e) rfl rfl (by omega) (cat4 (Nat.le_of_ble_eq_true rfl)) dX5_settle_37 (kV (fun h13 => ?_)) xNo
    exact x_vret (pc := 40) dX5_settle_40
  · refine x_if_eqT (pc := 4) 15 (by decide) (by decide) dX5_settle_4 ?_
    exact x_vret (pc := 15) dX5_settle_15
def c_R_settle : Nat → PH → Nat → Option Nat → Option RH := itr b_R_settle (fun _ _ _ => none)
theorem m_R_settle : ∀ (d : Nat) (h : PH) (this : Nat) (x1 : Option Nat), MM yX5_settle (ws_ yX5_settle cX5_settle 3 none) (3 + d) [.ref this, va_rf x1] h (c_R_settle d h this x1)
  | 0, h, this, x1 => MM.none
  | d + 1, h, this, x1 => t_R_settle (d := d) (c_R_settle d) (m_R_settle d) h this x1
abbrev Y_R_loosen : Yx := (RX5, cX5_loosen, 1, 16, none, [], false)
def c_R_loosen (h : PH) (this : Nat) : Option RH :=
  grd h this [4] (
  gI h this [4] 2 fun v1 =>
  if v1 = 0 then
    rV h
  else
    gQ h this [4] 1 fun v2 =>
    hV (grd h this [4] (c_R_settle 12 h this v2)) noX fun h3 =>
    pQ h3 this [4] 1 none fun h4 =>
    pZ h4 this [4] 2 (0 : Int32) fun h5 =>
    rV h5)
set_option maxHeartbeats 4000000 in
theorem m_R_loosen (h : PH) (this : Nat) : MM yX5_loosen (ws_ yX5_loosen cX5_loosen 1 none) 16 [.ref this] h (c_R_loosen h this) := by
  refine MM.of (by decide) rfl (by decide) (Nat.le_of_ble_eq_true rfl) (own := RX5) (cc := cX5_loosen) (maxL := 1) (lev := 16) (rt := none) (ini := false) ?_
  show Sim Y_R_loosen h 0 [(0, .ref this)] [] _
  unfold c_R_loosen
  refine x_grd ?_
  refine x_aload_nR (pc := 0) (a := this) 0 rfl rfl dX5_loosen_0 ?_
  refine x_getI (pc := 1) fi_X5_31 dX5_loosen_1 ?_
  intro v1
  refine x_if_ne (pc := 4) 8 (by decide) dX5_loosen_4 ?_ ?_
  · refine x_aload_nR (pc := 8) (a := this) 0 rfl rfl dX5_loosen_8 ?_
    refine x_aload_nR (pc := 9) (a := this) 0 rfl rfl dX5_loosen_9 ?_
    refine x_getQ (pc := 10) fi_X5_27 dX5_loosen_10 ?_
    intro v2
    refine x_callV (pc := 13) (As := [va_rf v2]) (rest := []) (lev' := (3 + 12)) si_X5_42 (MM.grd (m_R_settle 12 h this v2)) (fun z e => grd1 e) rfl rfl (by omega) (cat4 (Nat.le_of_ble_eq_true rfl)) dX5_loosen_13 (kV (fun h3 => ?_)) xNo
    refine x_aload_nR (pc := 16) (a := this) 0 rfl rfl dX5_loosen_16 ?_
    refine x_null (pc := 17) dX5_loosen_17 ?_
    refine x_pQ (pc := 18) (v := none) fi_X5_27 (fun z => absurd z (by decide)) dX5_loosen_18 ?_
    intro h4
    refine x_aload_nR (pc := 21) (a := this) 0 rfl rfl dX5_loosen_21 ?_
    refine x_iconst (pc := 22) (v := 0) (by decide) dX5_loosen_22 ?_
    refine x_pZ (pc := 23) fi_X5_31 (fun z => absurd z (by decide)) dX5_loosen_23 ?_
    intro h5
    exact x_vret (pc := 26) dX5_loosen_26
  · exact x_vret (pc := 7) dX5_loosen_7
theorem si_X5_121 : SiV RX5 121 9 yX12_cleared cX12_cleared 1 (some (.object "BitRopes$Leaf")) 0 := ⟨_, _, _, ci_9.1, by decide, lw_V q811 q812 q813 q127 q814, ⟨rfl, by decide, by decide, by decide +kernel⟩, by decide⟩
theorem ni_X5_9 : NI RX5 9 9 [.int 0, .int 0, .int 0, .null, .int 0] := ⟨_, _, _, _, ci_9, q288, q769, q127, by decide +kernel, rfl⟩
theorem si_X5_120 : SiI RX5 120 yX12_init cX12_init 1 0 := ⟨q772, q127, q770, q771, rfl, ⟨by decide, by decide, by decide +kernel⟩, by decide⟩
abbrev Y_R_fresh : Yx := (RX5, cX5_fresh, 2, 3, (some (.object "BitRopes$Leaf")), [], false)
def c_R_fresh_j22 (h : PH) (this : Nat) (x1 : Int32) : Option RH :=
  gQ h this [4] 0 fun v1 =>
  nn v1 fun a2 =>
  ldQ h a2 x1 fun v4 =>
  nn v4 fun a5 =>
  hQ (c_L_cleared h a5) noX fun v8 h7 =>
  rQ v8 h7
def c_R_fresh (h : PH) (this : Nat) (x1 : Int32) : Option RH :=
  grd h this [4] (
  gQ h this [4] 0 fun v1 =>
  nn v1 fun a2 =>
  ldQ h a2 x1 fun v4 =>
  if v4 = none then
    gQ h this [4] 0 fun v5 =>
    newO h 9 [.int 0, .int 0, .int 0, .null, .int 0] fun a6 h7 =>
    hV (c_L_init h7 a6) noX fun h8 =>
    nn v5 fun a9 =>
    stQ h8 a9 x1 (some a6) fun h11 =>
    c_R_fresh_j22 h11 this x1
  else
    c_R_fresh_j22 h this x1)
set_option maxHeartbeats 4000000 in
theorem w_R_fresh_j22 (h : PH) (this : Nat) (x1 : Int32) : Sim Y_R_fresh h 22 [(0, .ref this), (1, .int x1)] [] (c_R_fresh_j22 h this x1) := by
  unfold c_R_fresh_j22
  refine x_aload_nR (pc := 22) (a := this) 0 rfl rfl dX5_fresh_22 ?_
  refine x_getQ (pc := 23) fi_X5_11 dX5_fresh_23 ?_
  intro v1
  refine x_iload_n (pc := 26) 1 rfl rfl dX5_fresh_26 ?_
  refine x_nn (fun a2 e3 => ?_)
  subst e3
  refine x_aald (pc := 27) dX5_fresh_27 ?_
  intro v4
  refine x_nn (fun a5 e6 => ?_)
  subst e6
  refine x_callV (pc := 28) (As := []) (rest := []) (lev' := 1) si_X5_121 (m_L_cleared h a5) (fun z e => grd1 e) rfl rfl (by decide) (cat4 (Nat.le_of_ble_eq_true rfl)) dX5_fresh_28 (kQ (fun v8 h7 => ?_)) xNo
  exact x_aret (pc := 31) (v := v8) (Or.inl ⟨_, rfl⟩) dX5_fresh_31
set_option maxHeartbeats 4000000 in
theorem m_R_fresh (h : PH) (this : Nat) (x1 : Int32) : MM yX5_fresh (ws_ yX5_fresh cX5_fresh 2 (some (.object "BitRopes$Leaf"))) 3 [.ref this, .int x1] h (c_R_fresh h this x1) := by
  refine MM.of (by decide) rfl (by decide) (Nat.le_of_ble_eq_true rfl) (own := RX5) (cc := cX5_fresh) (maxL := 2) (lev := 3) (rt := (some (.object "BitRopes$Leaf"))) (ini := false) ?_
  show Sim Y_R_fresh h 0 [(0, .ref this), (1, .int x1)] [] _
  unfold c_R_fresh
  refine x_grd ?_
  refine x_aload_nR (pc := 0) (a := this) 0 rfl rfl dX5_fresh_0 ?_
  refine x_getQ (pc := 1) fi_X5_11 dX5_fresh_1 ?_
  intro v1
  refine x_iload_n (pc := 4) 1 rfl rfl dX5_fresh_4 ?_
  refine x_nn (fun a2 e3 => ?_)
  subst e3
  refine x_aald (pc := 5) dX5_fresh_5 ?_
  intro v4
  refine x_ifnonnull (pc := 6) (r := v4) 22 (by decide) dX5_fresh_6 ?_ ?_
  · exact w_R_fresh_j22 h this x1
  · refine x_aload_nR (pc := 9) (a := this) 0 rfl rfl dX5_fresh_9 ?_
    refine x_getQ (pc := 10) fi_X5_11 dX5_fresh_10 ?_
    intro v5
    refine x_iload_n (pc := 13) 1 rfl rfl dX5_fresh_13 ?_
    refine x_new (pc := 14) ni_X5_9 dX5_fresh_14 ?_
    intro a6 h7
    refine x_dup (pc := 17) rfl dX5_fresh_17 ?_
    refine x_callI (pc := 18) (As := []) (rest := [.ref a6, .int x1, va_rf v5]) (lev' := 2) si_X5_120 (m_L_init h7 a6) rfl rfl (by decide) (cat4 (Nat.le_of_ble_eq_true rfl)) dX5_fresh_18 (kV (fun h8 => ?_)) xNo
    refine x_nn (fun a9 e10 => ?_)
    subst e10
    refine x_aast (pc := 21) (r := (some a6)) dX5_fresh_21 ?_
    intro h11
    exact w_R_fresh_j22 h11 this x1
theorem fi_X5_62 : FI RX5 62 [4] 8 .int false true := (fi_c ci_4 (by decide) rfl rfl (Or.inl q301) (Or.inl rfl) (fun h => absurd h (by decide)) fi_n)
theorem fi_X5_65 : FI RX5 65 [9] 0 .int false true := (fi_c ci_9 (by decide) rfl rfl (Or.inl q784) (Or.inr q780) (fun h => absurd h (by decide)) fi_n)
abbrev Y_R_leafOf : Yx := (RX5, cX5_leafOf, 3, 1, (some .int), [], false)
def c_R_leafOf_l7 (r7 : PH → Nat → Int32 → Option RH) (h : PH) (this : Nat) (x2 : Int32) : Option RH :=
  gI h this [4] 5 fun v1 =>
  if (v1 - (1 : Int32)) ≤ x2 then
    rI x2 h
  else
    gI h this [4] 8 fun v2 =>
    gQ h this [4] 0 fun v3 =>
    nn v3 fun a4 =>
    ldQ h a4 x2 fun v6 =>
    nn v6 fun a7 =>
    gI h a7 [9] 0 fun v9 =>
    if v2 < v9 then
      rI x2 h
    else
      gI h this [4] 8 fun v10 =>
      gQ h this [4] 0 fun v11 =>
      nn v11 fun a12 =>
      ldQ h a12 x2 fun v14 =>
      nn v14 fun a15 =>
      gI h a15 [9] 0 fun v17 =>
      pI h this [4] 8 (v10 - v17) fun h18 =>
      r7 h18 this (x2 + (1 : Int32))
def c_R_leafOf (h : PH) (this : Nat) (x1 : Int32) : Option RH :=
  grd h this [4] (
  pI h this [4] 8 x1 fun h1 =>
  itr (c_R_leafOf_l7) (fun _ _ _ => none) FU h1 this (0 : Int32))
set_option maxHeartbeats 4000000 in
theorem w_R_leafOf_l7 (r7 : PH → Nat → Int32 → Option RH) (hr7 : ∀ (h : PH) (this : Nat) (x2 : Int32), Sim Y_R_leafOf h 7 [(0, .ref this), (2, .int x2)] [] (r7 h this x2)) (h : PH) (this : Nat) (x2 : Int32) : Sim Y_R_leafOf h 7 [(0, .ref this), (2, .int x2)] [] (c_R_leafOf_l7 r7 h this x2) := by
  unfold c_R_leafOf_l7
  refine x_iload_n (pc := 7) 1 rfl rfl dX5_leafOf_7 ?_
  refine x_aload_nR (pc := 8) (a := this) 0 rfl rfl dX5_leafOf_8 ?_
  refine x_getI (pc := 9) fi_X5_24 dX5_leafOf_9 ?_
  intro v1
  refine x_iconst (pc := 12) (v := 1) (by decide) dX5_leafOf_12 ?_
  refine x_isub (pc := 13) dX5_leafOf_13 ?_
  refine x_icmp_ge (pc := 14) 57 (by decide) dX5_leafOf_14 ?_ ?_
  · refine x_iload_n (pc := 57) 1 rfl rfl dX5_leafOf_57 ?_
    exact x_iret (pc := 58) dX5_leafOf_58
  · refine x_aload_nR (pc := 17) (a := this) 0 rfl rfl dX5_leafOf_17 ?_
    refine x_getI (pc := 18) fi_X5_62 dX5_leafOf_18 ?_
    intro v2
    refine x_aload_nR (pc := 21) (a := this) 0 rfl rfl dX5_leafOf_21 ?_
    refine x_getQ (pc := 22) fi_X5_11 dX5_leafOf_22 ?_
    intro v3
    refine x_iload_n (pc := 25) 1 rfl rfl dX5_leafOf_25 ?_
    refine x_nn (fun a4 e5 => ?_)
    subst e5
    refine x_aald (pc := 26) dX5_leafOf_26 ?_
    intro v6
    refine x_nn (fun a7 e8 => ?_)
    subst e8
    refine x_getI (pc := 27) fi_X5_65 dX5_leafOf_27 ?_
    intro v9
    refine x_icmp_lt (pc := 30) 57 (by decide) dX5_leafOf_30 ?_ ?_
    · refine x_iload_n (pc := 57) 1 rfl rfl dX5_leafOf_57 ?_
      exact x_iret (pc := 58) dX5_leafOf_58
    · refine x_aload_nR (pc := 33) (a := this) 0 rfl rfl dX5_leafOf_33 ?_
      refine x_dup (pc := 34) rfl dX5_leafOf_34 ?_
      refine x_getI (pc := 35) fi_X5_62 dX5_leafOf_35 ?_
      intro v10
      refine x_aload_nR (pc := 38) (a := this) 0 rfl rfl dX5_leafOf_38 ?_
      refine x_getQ (pc := 39) fi_X5_11 dX5_leafOf_39 ?_
      intro v11
      refine x_iload_n (pc := 42) 1 rfl rfl dX5_leafOf_42 ?_
      refine x_nn (fun a12 e13 => ?_)
      subst e13
      refine x_aald (pc := 43) dX5_leafOf_43 ?_
      intro v14
      refine x_nn (fun a15 e16 => ?_)
      subst e16
      refine x_getI (pc := 44) fi_X5_65 dX5_leafOf_44 ?_
      intro v17
      refine x_isub (pc := 47) dX5_leafOf_47 ?_
      refine x_pI (pc := 48) fi_X5_62 (fun z => absurd z (by decide)) dX5_leafOf_48 ?_
      intro h18
      refine x_iinc (pc := 51) (v := (1 : Int32)) (lv' := [(2, .int (x2 + (1 : Int32))), (0, .ref this)]) 1 rfl (by decide) (by decide) rfl dX5_leafOf_51 ?_
      refine x_goto (pc := 54) 7 (by decide) dX5_leafOf_54 ?_
      refine Sim.lv [1, 0] rfl ?_
      exact hr7 h18 this (x2 + (1 : Int32))
set_option maxHeartbeats 4000000 in
theorem v_R_leafOf_l7 : ∀ (n : Nat) (h : PH) (this : Nat) (x2 : Int32), Sim Y_R_leafOf h 7 [(0, .ref this), (2, .int x2)] [] (itr (c_R_leafOf_l7) (fun _ _ _ => none) n h this x2)
  | 0, h, this, x2 => Sim.none
  | n + 1, h, this, x2 => w_R_leafOf_l7 _ (v_R_leafOf_l7 n) h this x2
set_option maxHeartbeats 4000000 in
theorem m_R_leafOf (h : PH) (this : Nat) (x1 : Int32) : MM yX5_leafOf (ws_ yX5_leafOf cX5_leafOf 3 (some .int)) 1 [.ref this, .int x1] h (c_R_leafOf h this x1) := by
  refine MM.of (by decide) rfl (by decide) (Nat.le_of_ble_eq_true rfl) (own := RX5) (cc := cX5_leafOf) (maxL := 3) (lev := 1) (rt := (some .int)) (ini := false) ?_
  show Sim Y_R_leafOf h 0 [(0, .ref this), (1, .int x1)] [] _
  unfold c_R_leafOf
  refine x_grd ?_
  refine x_iconst (pc := 0) (v := 0) (by decide) dX5_leafOf_0 ?_
  refine x_istore_n (pc := 1) (lv' := [(2, .int (0 : Int32)), (0, .ref this), (1, .int x1)]) rfl (by decide) rfl dX5_leafOf_1 ?_
  refine x_aload_nR (pc := 2) (a := this) 1 rfl rfl dX5_leafOf_2 ?_
  refine x_iload_n (pc := 3) 2 rfl rfl dX5_leafOf_3 ?_
  refine x_pI (pc := 4) fi_X5_62 (fun z => absurd z (by decide)) dX5_leafOf_4 ?_
  intro h1
  refine Sim.lv [1, 0] rfl ?_
  exact v_R_leafOf_l7 FU h1 this (0 : Int32)
theorem si_X5_128 : SiV RX5 128 4 yX5_fresh cX5_fresh 2 (some (.object "BitRopes$Leaf")) 1 := ⟨_, _, _, ci_4.1, by decide, lw_V q765 q767 qs9 q116 q768, ⟨rfl, by decide, by decide, by decide +kernel⟩, by decide⟩
theorem si_X5_154 : SiV RX5 154 9 yX12_add cX12_add 5 none 3 := ⟨_, _, _, ci_9.1, by decide, lw_V q839 q840 q841 q127 q842, ⟨rfl, by decide, by decide, by decide +kernel⟩, by decide⟩
theorem si_X5_158 : SiV RX5 158 9 yX12_shorten cX12_shorten 2 none 1 := ⟨_, _, _, ci_9.1, by decide, lw_V q844 q845 q846 q127 q847, ⟨rfl, by decide, by decide, by decide +kernel⟩, by decide⟩
abbrev Y_R_halve : Yx := (RX5, cX5_halve, 5, 9, none, [], false)
def c_R_halve (h : PH) (this : Nat) (x1 : Int32) : Option RH :=
  grd h this [4] (
  gI h this [4] 5 fun v1 =>
  hQ (c_R_fresh h this v1) noX fun v3 h2 =>
  gQ h2 this [4] 0 fun v4 =>
  gQ h2 this [4] 0 fun v5 =>
  gI h2 this [4] 5 fun v6 =>
  nn v5 fun a7 =>
  nn v4 fun a9 =>
  cpQ2 h2 a9 a7 (x1 + (1 : Int32)) (x1 + (2 : Int32)) ((v6 - x1) - (1 : Int32)) fun h11 =>
  gQ h11 this [4] 0 fun v12 =>
  nn v12 fun a13 =>
  stQ h11 a13 (x1 + (1 : Int32)) v3 fun h15 =>
  gI h15 this [4] 5 fun v16 =>
  pI h15 this [4] 5 (v16 + (1 : Int32)) fun h17 =>
  gQ h17 this [4] 0 fun v18 =>
  nn v18 fun a19 =>
  ldQ h17 a19 x1 fun v21 =>
  nn v21 fun a22 =>
  gI h17 a22 [9] 0 fun v24 =>
  nz (2 : Int32) <|
  nm ((v24 + (1 : Int32)) / (2 : Int32)) fun y25 =>
  gI h17 a22 [9] 0 fun v26 =>
  nn v3 fun a27 =>
  hV (c_L_add h17 a27 a22 y25 v26) noX fun h29 =>
  hV (c_L_shorten h29 a22 y25) noX fun h30 =>
  rV h30)
set_option maxHeartbeats 4000000 in
theorem m_R_halve (h : PH) (this : Nat) (x1 : Int32) : MM yX5_halve (ws_ yX5_halve cX5_halve 5 none) 9 [.ref this, .int x1] h (c_R_halve h this x1) := by
  refine MM.of (by decide) rfl (by decide) (Nat.le_of_ble_eq_true rfl) (own := RX5) (cc := cX5_halve) (maxL := 5) (lev := 9) (rt := none) (ini := false) ?_
  show Sim Y_R_halve h 0 [(0, .ref this), (1, .int x1)] [] _
  unfold c_R_halve
  refine x_grd ?_
  refine x_aload_nR (pc := 0) (a := this) 0 rfl rfl dX5_halve_0 ?_
  refine x_aload_nR (pc := 1) (a := this) 0 rfl rfl dX5_halve_1 ?_
  refine x_getI (pc := 2) fi_X5_24 dX5_halve_2 ?_
  intro v1
  refine x_callV (pc := 5) (As := [.int v1]) (rest := []) (lev' := 3) si_X5_128 (m_R_fresh h this v1) (fun z e => grd1 e) rfl rfl (by decide) (cat4 (Nat.le_of_ble_eq_true rfl)) dX5_halve_5 (kQ (fun v3 h2 => ?_)) xNo
  refine x_astore_n (pc := 8) (r := v3) (lv' := [(2, va_rf v3), (0, .ref this), (1, .int x1)]) rfl (by decide) rfl dX5_halve_8 ?_
  refine x_aload_nR (pc := 9) (a := this) 1 rfl rfl dX5_halve_9 ?_
  refine x_getQ (pc := 10) fi_X5_11 dX5_halve_10 ?_
  intro v4
  refine x_iload_n (pc := 13) 2 rfl rfl dX5_halve_13 ?_
  refine x_iconst (pc := 14) (v := 1) (by decide) dX5_halve_14 ?_
  refine x_iadd (pc := 15) dX5_halve_15 ?_
  refine x_aload_nR (pc := 16) (a := this) 1 rfl rfl dX5_halve_16 ?_
  refine x_getQ (pc := 17) fi_X5_11 dX5_halve_17 ?_
  intro v5
  refine x_iload_n (pc := 20) 2 rfl rfl dX5_halve_20 ?_
  refine x_iconst (pc := 21) (v := 2) (by decide) dX5_halve_21 ?_
  refine x_iadd (pc := 22) dX5_halve_22 ?_
  refine x_aload_nR (pc := 23) (a := this) 1 rfl rfl dX5_halve_23 ?_
  refine x_getI (pc := 24) fi_X5_24 dX5_halve_24 ?_
  intro v6
  refine x_iload_n (pc := 27) 2 rfl rfl dX5_halve_27 ?_
  refine x_isub (pc := 28) dX5_halve_28 ?_
  refine x_iconst (pc := 29) (v := 1) (by decide) dX5_halve_29 ?_
  refine x_isub (pc := 30) dX5_halve_30 ?_
  refine x_nn (fun a7 e8 => ?_)
  subst e8
  refine x_nn (fun a9 e10 => ?_)
  subst e10
  refine x_acopy2 (pc := 31) q836 (by omega) (cat4 (Nat.le_of_ble_eq_true rfl)) dX5_halve_31 (fun h11 => ?_)
  refine x_aload_nR (pc := 34) (a := this) 1 rfl rfl dX5_halve_34 ?_
  refine x_getQ (pc := 35) fi_X5_11 dX5_halve_35 ?_
  intro v12
  refine x_iload_n (pc := 38) 2 rfl rfl dX5_halve_38 ?_
  refine x_iconst (pc := 39) (v := 1) (by decide) dX5_halve_39 ?_
  refine x_iadd (pc := 40) dX5_halve_40 ?_
  refine x_aload_n (pc := 41) (r := v3) 0 rfl rfl dX5_halve_41 ?_
  refine x_nn (fun a13 e14 => ?_)
  subst e14
  refine x_aast (pc := 42) (r := v3) dX5_halve_42 ?_
  intro h15
  refine x_aload_nR (pc := 43) (a := this) 1 rfl rfl dX5_halve_43 ?_
  refine x_dup (pc := 44) rfl dX5_halve_44 ?_
  refine x_getI (pc := 45) fi_X5_24 dX5_halve_45 ?_
  intro v16
  refine x_iconst (pc := 48) (v := 1) (by decide) dX5_halve_48 ?_
  refine x_iadd (pc := 49) dX5_halve_49 ?_
  refine x_pI (pc := 50) fi_X5_24 (fun z => absurd z (by decide)) dX5_halve_50 ?_
  intro h17
  refine x_aload_nR (pc := 53) (a := this) 1 rfl rfl dX5_halve_53 ?_
  refine x_getQ (pc := 54) fi_X5_11 dX5_halve_54 ?_
  intro v18
  refine x_iload_n (pc := 57) 2 rfl rfl dX5_halve_57 ?_
  refine x_nn (fun a19 e20 => ?_)
  subst e20
  refine x_aald (pc := 58) dX5_halve_58 ?_
  intro v21
  refine x_astore_n (pc := 59) (r := v21) (lv' := [(3, va_rf v21), (2, va_rf v3), (0, .ref this), (1, .int x1)]) (i := 3) rfl (by decide) (by simp [rf_cat]) dX5_halve_59 ?_
  refine x_aload_n (pc := 60) (r := v21) 0 rfl rfl dX5_halve_60 ?_
  refine x_nn (fun a22 e23 => ?_)
  subst e23
  refine x_getI (pc := 61) fi_X5_65 dX5_halve_61 ?_
  intro v24
  refine x_iconst (pc := 64) (v := 1) (by decide) dX5_halve_64 ?_
  refine x_iadd (pc := 65) dX5_halve_65 ?_
  refine x_iconst (pc := 66) (v := 2) (by decide) dX5_halve_66 ?_
  refine x_idiv (pc := 67) dX5_halve_67 ?_
  refine x_nmI (fun y25 => ?_)
  refine x_istore (pc := 68) (lv' := [(4, .int y25), (3, .ref a22), (2, va_rf v3), (0, .ref this), (1, .int x1)]) (by decide) rfl dX5_halve_68 ?_
  refine x_aload_n (pc := 70) (r := v3) 2 rfl rfl dX5_halve_70 ?_
  refine x_aload_nR (pc := 71) (a := a22) 1 rfl rfl dX5_halve_71 ?_
  refine x_iload (pc := 72) 0 rfl dX5_halve_72 ?_
  refine x_aload_nR (pc := 74) (a := a22) 1 rfl rfl dX5_halve_74 ?_
  refine x_getI (pc := 75) fi_X5_65 dX5_halve_75 ?_
  intro v26
  refine x_nn (fun a27 e28 => ?_)
  subst e28
  refine x_callV (pc := 78) (As := [.ref a22, .int y25, .int v26]) (rest := []) (lev' := 3) si_X5_154 (m_L_add h17 a27 a22 y25 v26) (fun z e => grd1 e) rfl rfl (by decide) (cat4 (Nat.le_of_ble_eq_true rfl)) dX5_halve_78 (kV (fun h29 => ?_)) xNo
  refine x_aload_nR (pc := 81) (a := a22) 1 rfl rfl dX5_halve_81 ?_
  refine x_iload (pc := 82) 0 rfl dX5_halve_82 ?_
  refine x_callV (pc := 84) (As := [.int y25]) (rest := []) (lev' := 3) si_X5_158 (m_L_shorten h29 a22 y25) (fun z e => grd1 e) rfl rfl (by decide) (cat4 (Nat.le_of_ble_eq_true rfl)) dX5_halve_84 (kV (fun h30 => ?_)) xNo
  exact x_vret (pc := 87) dX5_halve_87
theorem si_X5_132 : SiV RX5 132 9 yX12_insert cX12_insert 4 none 2 := ⟨_, _, _, ci_9.1, by decide, lw_V q815 q816 q817 q127 q818, ⟨rfl, by decide, by decide, by decide +kernel⟩, by decide⟩
theorem fi_X5_135 : FI RX5 135 [4] 3 .int false true := (fi_c ci_4 (by decide) rfl rfl (Or.inl q295) (Or.inl rfl) (fun h => absurd h (by decide)) fi_n)
theorem si_X5_138 : SiV RX5 138 4 yX5_halve cX5_halve 5 none 1 := ⟨_, _, _, ci_4.1, by decide, lw_V q832 q834 qs12 q116 q835, ⟨rfl, by decide, by decide, by decide +kernel⟩, by decide⟩
theorem si_X5_125 : SiV RX5 125 4 yX5_loosen cX5_loosen 1 none 0 := ⟨_, _, _, ci_4.1, by decide, lw_V q743 q745 qs7 q116 q746, ⟨rfl, by decide, by decide, by decide +kernel⟩, by decide⟩
theorem si_X5_68 : SiV RX5 68 4 yX5_leafOf cX5_leafOf 3 (some .int) 1 := ⟨_, _, _, ci_4.1, by decide, lw_V q828 q830 qs11 q116 q831, ⟨rfl, by decide, by decide, by decide +kernel⟩, by decide⟩
abbrev Y_R_insert : Yx := (RX5, cX5_insert, 5, 17, none, [], false)
def c_R_insert_j77 (h : PH) (this : Nat) (x2 : Int32) (x3 : Int32) (s0 : Int32) : Option RH :=
  gQ h this [4] 0 fun v1 =>
  nn v1 fun a2 =>
  ldQ h a2 x3 fun v4 =>
  nn v4 fun a5 =>
  hV (c_L_insert h a5 s0 x2) noX fun h7 =>
  gQ h7 this [4] 0 fun v8 =>
  nn v8 fun a9 =>
  ldQ h7 a9 x3 fun v11 =>
  nn v11 fun a12 =>
  gI h7 a12 [9] 0 fun v14 =>
  gI h7 this [4] 3 fun v15 =>
  if v14 ≤ ((2 : Int32) * v15) then
    rV h7
  else
    hV (c_R_halve h7 this x3) noX fun h16 =>
    rV h16
def c_R_insert_j62 (h : PH) (this : Nat) (x1 : Int32) (x2 : Int32) (s0 : Int32) : Option RH :=
  if x1 = 0 then
    c_R_insert_j77 h this x2 s0 (0 : Int32)
  else
    gI h this [4] 8 fun v1 =>
    c_R_insert_j77 h this x2 s0 (v1 + (1 : Int32))
def c_R_insert (h : PH) (this : Nat) (x1 : Int32) (x2 : Int32) : Option RH :=
  grd h this [4] (
  hV (c_R_loosen h this) noX fun h1 =>
  gI h1 this [4] 6 fun v2 =>
  pI h1 this [4] 6 (v2 + (1 : Int32)) fun h3 =>
  gI h3 this [4] 7 fun v4 =>
  pI h3 this [4] 7 (v4 + x2) fun h5 =>
  gI h5 this [4] 5 fun v6 =>
  if v6 = 0 then
    hQ (c_R_fresh h5 this (0 : Int32)) noX fun v10 h9 =>
    nn v10 fun a11 =>
    hV (c_L_insert h9 a11 (0 : Int32) x2) noX fun h13 =>
    pI h13 this [4] 5 (1 : Int32) fun h14 =>
    rV h14
  else
    if x1 = 0 then
      c_R_insert_j62 h5 this x1 x2 (0 : Int32)
    else
      hI (c_R_leafOf h5 this (x1 - (1 : Int32))) noX fun v8 h7 =>
      c_R_insert_j62 h7 this x1 x2 v8)
set_option maxHeartbeats 4000000 in
theorem w_R_insert_j77 (h : PH) (this : Nat) (x2 : Int32) (x3 : Int32) (s0 : Int32) : Sim Y_R_insert h 77 [(0, .ref this), (2, .int x2), (3, .int x3)] [.int s0] (c_R_insert_j77 h this x2 x3 s0) := by
  unfold c_R_insert_j77
  refine x_istore (pc := 77) (lv' := [(4, .int s0), (0, .ref this), (2, .int x2), (3, .int x3)]) (by decide) rfl dX5_insert_77 ?_
  refine x_aload_nR (pc := 79) (a := this) 1 rfl rfl dX5_insert_79 ?_
  refine x_getQ (pc := 80) fi_X5_11 dX5_insert_80 ?_
  intro v1
  refine x_iload_n (pc := 83) 3 rfl rfl dX5_insert_83 ?_
  refine x_nn (fun a2 e3 => ?_)
  subst e3
  refine x_aald (pc := 84) dX5_insert_84 ?_
  intro v4
  refine x_iload (pc := 85) 0 rfl dX5_insert_85 ?_
  refine x_iload_n (pc := 87) 2 rfl rfl dX5_insert_87 ?_
  refine x_nn (fun a5 e6 => ?_)
  subst e6
  refine x_callV (pc := 88) (As := [.int s0, .int x2]) (rest := []) (lev' := 2) si_X5_132 (m_L_insert h a5 s0 x2) (fun z e => grd1 e) rfl rfl (by decide) (cat4 (Nat.le_of_ble_eq_true rfl)) dX5_insert_88 (kV (fun h7 => ?_)) xNo
  refine x_aload_nR (pc := 91) (a := this) 1 rfl rfl dX5_insert_91 ?_
  refine x_getQ (pc := 92) fi_X5_11 dX5_insert_92 ?_
  intro v8
  refine x_iload_n (pc := 95) 3 rfl rfl dX5_insert_95 ?_
  refine x_nn (fun a9 e10 => ?_)
  subst e10
  refine x_aald (pc := 96) dX5_insert_96 ?_
  intro v11
  refine x_nn (fun a12 e13 => ?_)
  subst e13
  refine x_getI (pc := 97) fi_X5_65 dX5_insert_97 ?_
  intro v14
  refine x_iconst (pc := 100) (v := 2) (by decide) dX5_insert_100 ?_
  refine x_aload_nR (pc := 101) (a := this) 1 rfl rfl dX5_insert_101 ?_
  refine x_getI (pc := 102) fi_X5_135 dX5_insert_102 ?_
  intro v15
  refine x_imul (pc := 105) dX5_insert_105 ?_
  refine x_icmp_le (pc := 106) 114 (by decide) dX5_insert_106 ?_ ?_
  · exact x_vret (pc := 114) dX5_insert_114
  · refine x_aload_nR (pc := 109) (a := this) 1 rfl rfl dX5_insert_109 ?_
    refine x_iload_n (pc := 110) 3 rfl rfl dX5_insert_110 ?_
    refine x_callV (pc := 111) (As := [.int x3]) (rest := []) (lev' := 9) si_X5_138 (m_R_halve h7 this x3) (fun z e => grd1 e) rfl rfl (by decide) (cat4 (Nat.le_of_ble_eq_true rfl)) dX5_insert_111 (kV (fun h16 => ?_)) xNo
    exact x_vret (pc := 114) dX5_insert_114
set_option maxHeartbeats 4000000 in
theorem w_R_insert_j62 (h : PH) (this : Nat) (x1 : Int32) (x2 : Int32) (s0 : Int32) : Sim Y_R_insert h 62 [(0, .ref this), (1, .int x1), (2, .int x2)] [.int s0] (c_R_insert_j62 h this x1 x2 s0) := by
  unfold c_R_insert_j62
  refine x_istore_n (pc := 62) (lv' := [(3, .int s0), (0, .ref this), (1, .int x1), (2, .int x2)]) rfl (by decide) rfl dX5_insert_62 ?_
  refine x_iload_n (pc := 63) 2 rfl rfl dX5_insert_63 ?_
  refine x_if_ne (pc := 64) 71 (by decide) dX5_insert_64 ?_ ?_
  · refine x_aload_nR (pc := 71) (a := this) 1 rfl rfl dX5_insert_71 ?_
    refine x_getI (pc := 72) fi_X5_62 dX5_insert_72 ?_
    intro v1
    refine x_iconst (pc := 75) (v := 1) (by decide) dX5_insert_75 ?_
    refine x_iadd (pc := 76) dX5_insert_76 ?_
    refine Sim.lv [1, 3, 0] rfl ?_
    exact w_R_insert_j77 h this x2 s0 (v1 + (1 : Int32))
  · refine x_iconst (pc := 67) (v := 0) (by decide) dX5_insert_67 ?_
    refine x_goto (pc := 68) 77 (by decide) dX5_insert_68 ?_
    refine Sim.lv [1, 3, 0] rfl ?_
    exact w_R_insert_j77 h this x2 s0 (0 : Int32)
set_option maxHeartbeats 4000000 in
theorem m_R_insert (h : PH) (this : Nat) (x1 : Int32) (x2 : Int32) : MM yX5_insert (ws_ yX5_insert cX5_insert 5 none) 17 [.ref this, .int x1, .int x2] h (c_R_insert h this x1 x2) := by
  refine MM.of (by decide) rfl (by decide) (Nat.le_of_ble_eq_true rfl) (own := RX5) (cc := cX5_insert) (maxL := 5) (lev := 17) (rt := none) (ini := false) ?_
  show Sim Y_R_insert h 0 [(0, .ref this), (1, .int x1), (2, .int x2)] [] _
  unfold c_R_insert
  refine x_grd ?_
  refine x_aload_nR (pc := 0) (a := this) 0 rfl rfl dX5_insert_0 ?_
  refine x_callV (pc := 1) (As := []) (rest := []) (lev' := 16) si_X5_125 (m_R_loosen h this) (fun z e => grd1 e) rfl rfl (by decide) (cat4 (Nat.le_of_ble_eq_true rfl)) dX5_insert_1 (kV (fun h1 => ?_)) xNo
  refine x_aload_nR (pc := 4) (a := this) 0 rfl rfl dX5_insert_4 ?_
  refine x_dup (pc := 5) rfl dX5_insert_5 ?_
  refine x_getI (pc := 6) fi_X5_17 dX5_insert_6 ?_
  intro v2
  refine x_iconst (pc := 9) (v := 1) (by decide) dX5_insert_9 ?_
  refine x_iadd (pc := 10) dX5_insert_10 ?_
  refine x_pI (pc := 11) fi_X5_17 (fun z => absurd z (by decide)) dX5_insert_11 ?_
  intro h3
  refine x_aload_nR (pc := 14) (a := this) 0 rfl rfl dX5_insert_14 ?_
  refine x_dup (pc := 15) rfl dX5_insert_15 ?_
  refine x_getI (pc := 16) fi_X5_21 dX5_insert_16 ?_
  intro v4
  refine x_iload_n (pc := 19) 2 rfl rfl dX5_insert_19 ?_
  refine x_iadd (pc := 20) dX5_insert_20 ?_
  refine x_pI (pc := 21) fi_X5_21 (fun z => absurd z (by decide)) dX5_insert_21 ?_
  intro h5
  refine x_aload_nR (pc := 24) (a := this) 0 rfl rfl dX5_insert_24 ?_
  refine x_getI (pc := 25) fi_X5_24 dX5_insert_25 ?_
  intro v6
  refine x_if_ne (pc := 28) 47 (by decide) dX5_insert_28 ?_ ?_
  · refine x_iload_n (pc := 47) 1 rfl rfl dX5_insert_47 ?_
    refine x_if_ne (pc := 48) 55 (by decide) dX5_insert_48 ?_ ?_
    · refine x_aload_nR (pc := 55) (a := this) 0 rfl rfl dX5_insert_55 ?_
      refine x_iload_n (pc := 56) 1 rfl rfl dX5_insert_56 ?_
      refine x_iconst (pc := 57) (v := 1) (by decide) dX5_insert_57 ?_
      refine x_isub (pc := 58) dX5_insert_58 ?_
      refine x_callV (pc := 59) (As := [.int (x1 - (1 : Int32))]) (rest := []) (lev' := 1) si_X5_68 (m_R_leafOf h5 this (x1 - (1 : Int32))) (fun z e => grd1 e) rfl rfl (by decide) (cat4 (Nat.le_of_ble_eq_true rfl)) dX5_insert_59 (kI (fun v8 h7 => ?_)) xNo
      exact w_R_insert_j62 h7 this x1 x2 v8
    · refine x_iconst (pc := 51) (v := 0) (by decide) dX5_insert_51 ?_
      refine x_goto (pc := 52) 62 (by decide) dX5_insert_52 ?_
      exact w_R_insert_j62 h5 this x1 x2 (0 : Int32)
  · refine x_aload_nR (pc := 31) (a := this) 0 rfl rfl dX5_insert_31 ?_
    refine x_iconst (pc := 32) (v := 0) (by decide) dX5_insert_32 ?_
    refine x_callV (pc := 33) (As := [.int (0 : Int32)]) (rest := []) (lev' := 3) si_X5_128 (m_R_fresh h5 this (0 : Int32)) (fun z e => grd1 e) rfl rfl (by decide) (cat4 (Nat.le_of_ble_eq_true rfl)) dX5_insert_33 (kQ (fun v10 h9 => ?_)) xNo
    refine x_iconst (pc := 36) (v := 0) (by decide) dX5_insert_36 ?_
    refine x_iload_n (pc := 37) 2 rfl rfl dX5_insert_37 ?_
    refine x_nn (fun a11 e12 => ?_)
    subst e12
    refine x_callV (pc := 38) (As := [.int (0 : Int32), .int x2]) (rest := []) (lev' := 2) si_X5_132 (m_L_insert h9 a11 (0 : Int32) x2) (fun z e => grd1 e) rfl rfl (by decide) (cat4 (Nat.le_of_ble_eq_true rfl)) dX5_insert_38 (kV (fun h13 => ?_)) xNo
    refine x_aload_nR (pc := 41) (a := this) 0 rfl rfl dX5_insert_41 ?_
    refine x_iconst (pc := 42) (v := 1) (by decide) dX5_insert_42 ?_
    refine x_pI (pc := 43) fi_X5_24 (fun z => absurd z (by decide)) dX5_insert_43 ?_
    intro h14
    exact x_vret (pc := 46) dX5_insert_46
theorem si_X5_72 : SiV RX5 72 9 yX12_get cX12_get 2 (some .int) 1 := ⟨_, _, _, ci_9.1, by decide, lw_V q873 q820 q821 q127 q822, ⟨rfl, by decide, by decide, by decide +kernel⟩, by decide⟩
theorem fi_X5_76 : FI RX5 76 [9] 1 .int false true := (fi_c ci_9 (by decide) rfl rfl (Or.inl q792) (Or.inr q788) (fun h => absurd h (by decide)) fi_n)
abbrev Y_R_onesAlong : Yx := (RX5, cX5_onesAlong, 5, 2, (some .int), [], false)
def c_R_onesAlong_l39 (r39 : PH → Nat → Int32 → Int32 → Int32 → Option RH) (h : PH) (this : Nat) (x2 : Int32) (x3 : Int32) (x4 : Int32) : Option RH :=
  gI h this [4] 8 fun v1 =>
  if v1 ≤ x4 then
    rI x3 h
  else
    gQ h this [4] 0 fun v2 =>
    nn v2 fun a3 =>
    ldQ h a3 x2 fun v5 =>
    nn v5 fun a6 =>
    hI (c_L_get h a6 x4) noX fun v9 h8 =>
    nm (x3 + v9) fun y10 =>
    r39 h8 this x2 y10 (x4 + (1 : Int32))
def c_R_onesAlong_l11 (r11 : PH → Nat → Int32 → Int32 → Int32 → Option RH) (h : PH) (this : Nat) (x2 : Int32) (x3 : Int32) (x4 : Int32) : Option RH :=
  if x2 ≤ x4 then
    itr (c_R_onesAlong_l39) (fun _ _ _ _ _ => none) FU h this x2 x3 (0 : Int32)
  else
    gQ h this [4] 0 fun v1 =>
    nn v1 fun a2 =>
    ldQ h a2 x4 fun v4 =>
    nn v4 fun a5 =>
    gI h a5 [9] 1 fun v7 =>
    nm (x3 + v7) fun y8 =>
    r11 h this x2 y8 (x4 + (1 : Int32))
def c_R_onesAlong (h : PH) (this : Nat) (x1 : Int32) : Option RH :=
  grd h this [4] (
  hI (c_R_leafOf h this x1) noX fun v2 h1 =>
  itr (c_R_onesAlong_l11) (fun _ _ _ _ _ => none) FU h1 this v2 (0 : Int32) (0 : Int32))
set_option maxHeartbeats 4000000 in
theorem w_R_onesAlong_l39 (r39 : PH → Nat → Int32 → Int32 → Int32 → Option RH) (hr39 : ∀ (h : PH) (this : Nat) (x2 : Int32) (x3 : Int32) (x4 : Int32), Sim Y_R_onesAlong h 39 [(0, .ref this), (2, .int x2), (3, .int x3), (4, .int x4)] [] (r39 h this x2 x3 x4)) (h : PH) (this : Nat) (x2 : Int32) (x3 : Int32) (x4 : Int32) : Sim Y_R_onesAlong h 39 [(0, .ref this), (2, .int x2), (3, .int x3), (4, .int x4)] [] (c_R_onesAlong_l39 r39 h this x2 x3 x4) := by
  unfold c_R_onesAlong_l39
  refine x_iload (pc := 39) 3 rfl dX5_onesAlong_39 ?_
  refine x_aload_nR (pc := 41) (a := this) 0 rfl rfl dX5_onesAlong_41 ?_
  refine x_getI (pc := 42) fi_X5_62 dX5_onesAlong_42 ?_
  intro v1
  refine x_icmp_ge (pc := 45) 68 (by decide) dX5_onesAlong_45 ?_ ?_
  · refine x_iload_n (pc := 68) 2 rfl rfl dX5_onesAlong_68 ?_
    exact x_iret (pc := 69) dX5_onesAlong_69
  · refine x_iload_n (pc := 48) 2 rfl rfl dX5_onesAlong_48 ?_
    refine x_aload_nR (pc := 49) (a := this) 0 rfl rfl dX5_onesAlong_49 ?_
    refine x_getQ (pc := 50) fi_X5_11 dX5_onesAlong_50 ?_
    intro v2
    refine x_iload_n (pc := 53) 1 rfl rfl dX5_onesAlong_53 ?_
    refine x_nn (fun a3 e4 => ?_)
    subst e4
    refine x_aald (pc := 54) dX5_onesAlong_54 ?_
    intro v5
    refine x_iload (pc := 55) 3 rfl dX5_onesAlong_55 ?_
    refine x_nn (fun a6 e7 => ?_)
    subst e7
    refine x_callV (pc := 57) (As := [.int x4]) (rest := [.int x3]) (lev' := 1) si_X5_72 (m_L_get h a6 x4) (fun z e => grd1 e) rfl rfl (by decide) (cat4 (Nat.le_of_ble_eq_true rfl)) dX5_onesAlong_57 (kI (fun v9 h8 => ?_)) xNo
    refine x_iadd (pc := 60) dX5_onesAlong_60 ?_
    refine x_nmI (fun y10 => ?_)
    refine x_istore_n (pc := 61) (lv' := [(3, .int y10), (0, .ref this), (2, .int x2), (4, .int x4)]) rfl (by decide) rfl dX5_onesAlong_61 ?_
    refine x_iinc (pc := 62) (v := (1 : Int32)) (lv' := [(4, .int (x4 + (1 : Int32))), (3, .int y10), (0, .ref this), (2, .int x2)]) 3 rfl (by decide) (by decide) rfl dX5_onesAlong_62 ?_
    refine x_goto (pc := 65) 39 (by decide) dX5_onesAlong_65 ?_
    refine Sim.lv [2, 3, 1, 0] rfl ?_
    exact hr39 h8 this x2 y10 (x4 + (1 : Int32))
set_option maxHeartbeats 4000000 in
theorem v_R_onesAlong_l39 : ∀ (n : Nat) (h : PH) (this : Nat) (x2 : Int32) (x3 : Int32) (x4 : Int32), Sim Y_R_onesAlong h 39 [(0, .ref this), (2, .int x2), (3, .int x3), (4, .int x4)] [] (itr (c_R_onesAlong_l39) (fun _ _ _ _ _ => none) n h this x2 x3 x4)
  | 0, h, this, x2, x3, x4 => Sim.none
  | n + 1, h, this, x2, x3, x4 => w_R_onesAlong_l39 _ (v_R_onesAlong_l39 n) h this x2 x3 x4
set_option maxHeartbeats 4000000 in
theorem w_R_onesAlong_l11 (r11 : PH → Nat → Int32 → Int32 → Int32 → Option RH) (hr11 : ∀ (h : PH) (this : Nat) (x2 : Int32) (x3 : Int32) (x4 : Int32), Sim Y_R_onesAlong h 11 [(0, .ref this), (2, .int x2), (3, .int x3), (4, .int x4)] [] (r11 h this x2 x3 x4)) (h : PH) (this : Nat) (x2 : Int32) (x3 : Int32) (x4 : Int32) : Sim Y_R_onesAlong h 11 [(0, .ref this), (2, .int x2), (3, .int x3), (4, .int x4)] [] (c_R_onesAlong_l11 r11 h this x2 x3 x4) := by
  unfold c_R_onesAlong_l11
  refine x_iload (pc := 11) 3 rfl dX5_onesAlong_11 ?_
  refine x_iload_n (pc := 13) 1 rfl rfl dX5_onesAlong_13 ?_
  refine x_icmp_ge (pc := 14) 36 (by decide) dX5_onesAlong_14 ?_ ?_
  · refine x_iconst (pc := 36) (v := 0) (by decide) dX5_onesAlong_36 ?_
    refine x_istore (pc := 37) (lv' := [(4, .int (0 : Int32)), (0, .ref this), (2, .int x2), (3, .int x3)]) (by decide) rfl dX5_onesAlong_37 ?_
    refine Sim.lv [1, 2, 3, 0] rfl ?_
    exact v_R_onesAlong_l39 FU h this x2 x3 (0 : Int32)
  · refine x_iload_n (pc := 17) 2 rfl rfl dX5_onesAlong_17 ?_
    refine x_aload_nR (pc := 18) (a := this) 0 rfl rfl dX5_onesAlong_18 ?_
    refine x_getQ (pc := 19) fi_X5_11 dX5_onesAlong_19 ?_
    intro v1
    refine x_iload (pc := 22) 3 rfl dX5_onesAlong_22 ?_
    refine x_nn (fun a2 e3 => ?_)
    subst e3
    refine x_aald (pc := 24) dX5_onesAlong_24 ?_
    intro v4
    refine x_nn (fun a5 e6 => ?_)
    subst e6
    refine x_getI (pc := 25) fi_X5_76 dX5_onesAlong_25 ?_
    intro v7
    refine x_iadd (pc := 28) dX5_onesAlong_28 ?_
    refine x_nmI (fun y8 => ?_)
    refine x_istore_n (pc := 29) (lv' := [(3, .int y8), (0, .ref this), (2, .int x2), (4, .int x4)]) rfl (by decide) rfl dX5_onesAlong_29 ?_
    refine x_iinc (pc := 30) (v := (1 : Int32)) (lv' := [(4, .int (x4 + (1 : Int32))), (3, .int y8), (0, .ref this), (2, .int x2)]) 3 rfl (by decide) (by decide) rfl dX5_onesAlong_30 ?_
    refine x_goto (pc := 33) 11 (by decide) dX5_onesAlong_33 ?_
    refine Sim.lv [2, 3, 1, 0] rfl ?_
    exact hr11 h this x2 y8 (x4 + (1 : Int32))
set_option maxHeartbeats 4000000 in
theorem v_R_onesAlong_l11 : ∀ (n : Nat) (h : PH) (this : Nat) (x2 : Int32) (x3 : Int32) (x4 : Int32), Sim Y_R_onesAlong h 11 [(0, .ref this), (2, .int x2), (3, .int x3), (4, .int x4)] [] (itr (c_R_onesAlong_l11) (fun _ _ _ _ _ => none) n h this x2 x3 x4)
  | 0, h, this, x2, x3, x4 => Sim.none
  | n + 1, h, this, x2, x3, x4 => w_R_onesAlong_l11 _ (v_R_onesAlong_l11 n) h this x2 x3 x4
set_option maxHeartbeats 4000000 in
theorem m_R_onesAlong (h : PH) (this : Nat) (x1 : Int32) : MM yX5_onesAlong (ws_ yX5_onesAlong cX5_onesAlong 5 (some .int)) 2 [.ref this, .int x1] h (c_R_onesAlong h this x1) := by
  refine MM.of (by decide) rfl (by decide) (Nat.le_of_ble_eq_true rfl) (own := RX5) (cc := cX5_onesAlong) (maxL := 5) (lev := 2) (rt := (some .int)) (ini := false) ?_
  show Sim Y_R_onesAlong h 0 [(0, .ref this), (1, .int x1)] [] _
  unfold c_R_onesAlong
  refine x_grd ?_
  refine x_aload_nR (pc := 0) (a := this) 0 rfl rfl dX5_onesAlong_0 ?_
  refine x_iload_n (pc := 1) 1 rfl rfl dX5_onesAlong_1 ?_
  refine x_callV (pc := 2) (As := [.int x1]) (rest := []) (lev' := 1) si_X5_68 (m_R_leafOf h this x1) (fun z e => grd1 e) rfl rfl (by decide) (cat4 (Nat.le_of_ble_eq_true rfl)) dX5_onesAlong_2 (kI (fun v2 h1 => ?_)) xNo
  refine x_istore_n (pc := 5) (lv' := [(2, .int v2), (0, .ref this), (1, .int x1)]) rfl (by decide) rfl dX5_onesAlong_5 ?_
  refine x_iconst (pc := 6) (v := 0) (by decide) dX5_onesAlong_6 ?_
  refine x_istore_n (pc := 7) (lv' := [(3, .int (0 : Int32)), (2, .int v2), (0, .ref this), (1, .int x1)]) rfl (by decide) rfl dX5_onesAlong_7 ?_
  refine x_iconst (pc := 8) (v := 0) (by decide) dX5_onesAlong_8 ?_
  refine x_istore (pc := 9) (lv' := [(4, .int (0 : Int32)), (3, .int (0 : Int32)), (2, .int v2), (0, .ref this), (1, .int x1)]) (by decide) rfl dX5_onesAlong_9 ?_
  refine Sim.lv [3, 2, 1, 0] rfl ?_
  exact v_R_onesAlong_l11 FU h1 this v2 (0 : Int32) (0 : Int32)
theorem fi_X5_75 : FI RX5 75 [9, 10] 0 .int false true := (fi_c ci_9 (by decide) rfl rfl (Or.inl q785) (Or.inl rfl) (fun h => absurd h (by decide)) (fi_c ci_10 (by decide) rfl rfl (Or.inl q785) (Or.inl rfl) (fun h => absurd h (by decide)) fi_n))
theorem fi_X5_82 : FI RX5 82 [9, 10] 1 .int false true := (fi_c ci_9 (by decide) rfl rfl (Or.inl q793) (Or.inl rfl) (fun h => absurd h (by decide)) (fi_c ci_10 (by decide) rfl rfl (Or.inl q793) (Or.inl rfl) (fun h => absurd h (by decide)) fi_n))
theorem si_X5_79 : SiV RX5 79 4 yX5_onesAlong cX5_onesAlong 5 (some .int) 1 := ⟨_, _, _, ci_4.1, by decide, lw_V q869 q871 qs14 q116 q872, ⟨rfl, by decide, by decide, by decide +kernel⟩, by decide⟩
abbrev Y_R_onesAhead : Yx := (RX5, cX5_onesAhead, 7, 3, (some .int), [], false)
def c_R_onesAhead_j104 (r32 : PH → Option Nat → Int32 → Int32 → Option RH) (h : PH) (x3 : Int32) (x4 : Int32) (x5 : Nat) (x6 : Int32) : Option RH :=
  gQ h x5 [10] 3 fun v1 =>
  if x6 = 0 then
    nn v1 fun a2 =>
    ldQ h a2 (1 : Int32) fun v4 =>
    r32 h v4 x3 x4
  else
    nn v1 fun a5 =>
    ldQ h a5 (0 : Int32) fun v7 =>
    r32 h v7 x3 x4
def c_R_onesAhead_j69 (r32 : PH → Option Nat → Int32 → Int32 → Option RH) (h : PH) (x3 : Int32) (x4 : Int32) (x5 : Nat) (s0 : Int32) : Option RH :=
  if s0 = 0 then
    gQ h x5 [10] 3 fun v1 =>
    nn v1 fun a2 =>
    ldQ h a2 (0 : Int32) fun v4 =>
    nn v4 fun a5 =>
    gI h a5 [9, 10] 0 fun v7 =>
    nm (x3 - v7) fun y8 =>
    gQ h x5 [10] 3 fun v9 =>
    nn v9 fun a10 =>
    ldQ h a10 (0 : Int32) fun v12 =>
    nn v12 fun a13 =>
    gI h a13 [9, 10] 1 fun v15 =>
    nm (x4 + v15) fun y16 =>
    c_R_onesAhead_j104 r32 h y8 y16 x5 s0
  else
    c_R_onesAhead_j104 r32 h x3 x4 x5 s0
def c_R_onesAhead_l127 (r127 : PH → Option Nat → Int32 → Int32 → Int32 → Option RH) (h : PH) (x2 : Option Nat) (x3 : Int32) (x4 : Int32) (x5 : Int32) : Option RH :=
  if x3 ≤ x5 then
    rI x4 h
  else
    nn x2 fun a1 =>
    grd h a1 [9] <|
    hI (c_L_get h a1 x5) noX fun v4 h3 =>
    nm (x4 + v4) fun y5 =>
    r127 h3 (some a1) x3 y5 (x5 + (1 : Int32))
def c_R_onesAhead_l32 (r32 : PH → Option Nat → Int32 → Int32 → Option RH) (h : PH) (x2 : Option Nat) (x3 : Int32) (x4 : Int32) : Option RH :=
  iof h x2 10 9 (
    nn x2 fun a1 =>
    grd h a1 [10] <|
    hV (c_I_push h a1) noX fun h3 =>
    gQ h3 a1 [10] 3 fun v4 =>
    nn v4 fun a5 =>
    ldQ h3 a5 (0 : Int32) fun v7 =>
    nn v7 fun a8 =>
    gI h3 a8 [9, 10] 0 fun v10 =>
    if v10 ≤ x3 then
      c_R_onesAhead_j69 r32 h3 x3 x4 a1 (0 : Int32)
    else
      c_R_onesAhead_j69 r32 h3 x3 x4 a1 (1 : Int32)) (
    itr (c_R_onesAhead_l127) (fun _ _ _ _ _ => none) FU h x2 x3 x4 (0 : Int32))
def c_R_onesAhead (h : PH) (this : Nat) (x1 : Int32) : Option RH :=
  grd h this [4] (
  gI h this [4] 6 fun v1 =>
  if v1 = 0 then
    rI (0 : Int32) h
  else
    gI h this [4] 2 fun v2 =>
    if v2 = 0 then
      hI (c_R_onesAlong h this x1) noX fun v5 h4 =>
      rI v5 h4
    else
      gQ h this [4] 1 fun v3 =>
      itr (c_R_onesAhead_l32) (fun _ _ _ _ => none) FU h v3 x1 (0 : Int32))
set_option maxHeartbeats 4000000 in
theorem w_R_onesAhead_j104 (r32 : PH → Option Nat → Int32 → Int32 → Option RH) (hr32 : ∀ (h : PH) (x2 : Option Nat) (x3 : Int32) (x4 : Int32), Sim Y_R_onesAhead h 32 [(2, va_rf x2), (3, .int x3), (4, .int x4)] [] (r32 h x2 x3 x4)) (h : PH) (x3 : Int32) (x4 : Int32) (x5 : Nat) (x6 : Int32) : Sim Y_R_onesAhead h 104 [(3, .int x3), (4, .int x4), (5, .ref x5), (6, .int x6)] [] (c_R_onesAhead_j104 r32 h x3 x4 x5 x6) := by
  unfold c_R_onesAhead_j104
  refine x_aloadR (pc := 104) (a := x5) 2 rfl dX5_onesAhead_104 ?_
  refine x_getQ (pc := 106) fi_X5_51 dX5_onesAhead_106 ?_
  intro v1
  refine x_iload (pc := 109) 3 rfl dX5_onesAhead_109 ?_
  refine x_if_eq (pc := 111) 118 (by decide) dX5_onesAhead_111 ?_ ?_
  · refine x_iconst (pc := 118) (v := 1) (by decide) dX5_onesAhead_118 ?_
    refine x_nn (fun a2 e3 => ?_)
    subst e3
    refine x_aald (pc := 119) dX5_onesAhead_119 ?_
    intro v4
    refine x_astore_n (pc := 120) (r := v4) (lv' := [(2, va_rf v4), (3, .int x3), (4, .int x4), (5, .ref x5), (6, .int x6)]) rfl (by decide) rfl dX5_onesAhead_120 ?_
    refine x_goto (pc := 121) 32 (by decide) dX5_onesAhead_121 ?_
    refine Sim.lv [0, 1, 2] rfl ?_
    exact hr32 h v4 x3 x4
  · refine x_iconst (pc := 114) (v := 0) (by decide) dX5_onesAhead_114 ?_
    refine x_goto (pc := 115) 119 (by decide) dX5_onesAhead_115 ?_
    refine x_nn (fun a5 e6 => ?_)
    subst e6
    refine x_aald (pc := 119) dX5_onesAhead_119 ?_
    intro v7
    refine x_astore_n (pc := 120) (r := v7) (lv' := [(2, va_rf v7), (3, .int x3), (4, .int x4), (5, .ref x5), (6, .int x6)]) rfl (by decide) rfl dX5_onesAhead_120 ?_
    refine x_goto (pc := 121) 32 (by decide) dX5_onesAhead_121 ?_
    refine Sim.lv [0, 1, 2] rfl ?_
    exact hr32 h v7 x3 x4
set_option maxHeartbeats 4000000 in
theorem w_R_onesAhead_j69 (r32 : PH → Option Nat → Int32 → Int32 → Option RH) (hr32 : ∀ (h : PH) (x2 : Option Nat) (x3 : Int32) (x4 : Int32), Sim Y_R_onesAhead h 32 [(2, va_rf x2), (3, .int x3), (4, .int x4)] [] (r32 h x2 x3 x4)) (h : PH) (x3 : Int32) (x4 : Int32) (x5 : Nat) (s0 : Int32) : Sim Y_R_onesAhead h 69 [(3, .int x3), (4, .int x4), (5, .ref x5)] [.int s0] (c_R_onesAhead_j69 r32 h x3 x4 x5 s0) := by
  unfold c_R_onesAhead_j69
  refine x_istore (pc := 69) (lv' := [(6, .int s0), (3, .int x3), (4, .int x4), (5, .ref x5)]) (by decide) rfl dX5_onesAhead_69 ?_
  refine x_iload (pc := 71) 0 rfl dX5_onesAhead_71 ?_
  refine x_if_ne (pc := 73) 104 (by decide) dX5_onesAhead_73 ?_ ?_
  · refine Sim.lv [1, 2, 3, 0] rfl ?_
    exact w_R_onesAhead_j104 r32 hr32 h x3 x4 x5 s0
  · refine x_iload_n (pc := 76) 1 rfl rfl dX5_onesAhead_76 ?_
    refine x_aloadR (pc := 77) (a := x5) 3 rfl dX5_onesAhead_77 ?_
    refine x_getQ (pc := 79) fi_X5_51 dX5_onesAhead_79 ?_
    intro v1
    refine x_iconst (pc := 82) (v := 0) (by decide) dX5_onesAhead_82 ?_
    refine x_nn (fun a2 e3 => ?_)
    subst e3
    refine x_aald (pc := 83) dX5_onesAhead_83 ?_
    intro v4
    refine x_nn (fun a5 e6 => ?_)
    subst e6
    refine x_getI (pc := 84) fi_X5_75 dX5_onesAhead_84 ?_
    intro v7
    refine x_isub (pc := 87) dX5_onesAhead_87 ?_
    refine x_nmI (fun y8 => ?_)
    refine x_istore_n (pc := 88) (lv' := [(3, .int y8), (6, .int s0), (4, .int x4), (5, .ref x5)]) rfl (by decide) rfl dX5_onesAhead_88 ?_
    refine x_iload (pc := 89) 2 rfl dX5_onesAhead_89 ?_
    refine x_aloadR (pc := 91) (a := x5) 3 rfl dX5_onesAhead_91 ?_
    refine x_getQ (pc := 93) fi_X5_51 dX5_onesAhead_93 ?_
    intro v9
    refine x_iconst (pc := 96) (v := 0) (by decide) dX5_onesAhead_96 ?_
    refine x_nn (fun a10 e11 => ?_)
    subst e11
    refine x_aald (pc := 97) dX5_onesAhead_97 ?_
    intro v12
    refine x_nn (fun a13 e14 => ?_)
    subst e14
    refine x_getI (pc := 98) fi_X5_82 dX5_onesAhead_98 ?_
    intro v15
    refine x_iadd (pc := 101) dX5_onesAhead_101 ?_
    refine x_nmI (fun y16 => ?_)
    refine x_istore (pc := 102) (lv' := [(4, .int y16), (3, .int y8), (6, .int s0), (5, .ref x5)]) (by decide) rfl dX5_onesAhead_102 ?_
    refine Sim.lv [1, 0, 3, 2] rfl ?_
    exact w_R_onesAhead_j104 r32 hr32 h y8 y16 x5 s0
set_option maxHeartbeats 4000000 in
theorem w_R_onesAhead_l127 (r127 : PH → Option Nat → Int32 → Int32 → Int32 → Option RH) (hr127 : ∀ (h : PH) (x2 : Option Nat) (x3 : Int32) (x4 : Int32) (x5 : Int32), Sim Y_R_onesAhead h 127 [(2, va_rf x2), (3, .int x3), (4, .int x4), (5, .int x5)] [] (r127 h x2 x3 x4 x5)) (h : PH) (x2 : Option Nat) (x3 : Int32) (x4 : Int32) (x5 : Int32) : Sim Y_R_onesAhead h 127 [(2, va_rf x2), (3, .int x3), (4, .int x4), (5, .int x5)] [] (c_R_onesAhead_l127 r127 h x2 x3 x4 x5) := by
  unfold c_R_onesAhead_l127
  refine x_iload (pc := 127) 3 rfl dX5_onesAhead_127 ?_
  refine x_iload_n (pc := 129) 1 rfl rfl dX5_onesAhead_129 ?_
  refine x_icmp_ge (pc := 130) 153 (by decide) dX5_onesAhead_130 ?_ ?_
  · refine x_iload (pc := 153) 2 rfl dX5_onesAhead_153 ?_
    exact x_iret (pc := 155) dX5_onesAhead_155
  · refine x_iload (pc := 133) 2 rfl dX5_onesAhead_133 ?_
    refine x_aload_n (pc := 135) (r := x2) 0 rfl rfl dX5_onesAhead_135 ?_
    refine x_nn (fun a1 e2 => ?_)
    subst e2
    refine x_cast (pc := 136) ci_9 q288 dX5_onesAhead_136 ?_
    refine x_iload (pc := 139) 3 rfl dX5_onesAhead_139 ?_
    refine x_callV (pc := 141) (As := [.int x5]) (rest := [.int x4]) (lev' := 1) si_X5_72 (m_L_get h a1 x5) (fun z e => grd1 e) rfl rfl (by decide) (cat4 (Nat.le_of_ble_eq_true rfl)) dX5_onesAhead_141 (kI (fun v4 h3 => ?_)) xNo
    refine x_iadd (pc := 144) dX5_onesAhead_144 ?_
    refine x_nmI (fun y5 => ?_)
    refine x_istore (pc := 145) (lv' := [(4, .int y5), (2, .ref a1), (3, .int x3), (5, .int x5)]) (by decide) rfl dX5_onesAhead_145 ?_
    refine x_iinc (pc := 147) (v := (1 : Int32)) (lv' := [(5, .int (x5 + (1 : Int32))), (4, .int y5), (2, .ref a1), (3, .int x3)]) 3 rfl (by decide) (by decide) rfl dX5_onesAhead_147 ?_
    refine x_goto (pc := 150) 127 (by decide) dX5_onesAhead_150 ?_
    refine Sim.lv [2, 3, 1, 0] rfl ?_
    exact hr127 h3 (some a1) x3 y5 (x5 + (1 : Int32))
set_option maxHeartbeats 4000000 in
theorem v_R_onesAhead_l127 : ∀ (n : Nat) (h : PH) (x2 : Option Nat) (x3 : Int32) (x4 : Int32) (x5 : Int32), Sim Y_R_onesAhead h 127 [(2, va_rf x2), (3, .int x3), (4, .int x4), (5, .int x5)] [] (itr (c_R_onesAhead_l127) (fun _ _ _ _ _ => none) n h x2 x3 x4 x5)
  | 0, h, x2, x3, x4, x5 => Sim.none
  | n + 1, h, x2, x3, x4, x5 => w_R_onesAhead_l127 _ (v_R_onesAhead_l127 n) h x2 x3 x4 x5
set_option maxHeartbeats 4000000 in
theorem w_R_onesAhead_l32 (r32 : PH → Option Nat → Int32 → Int32 → Option RH) (hr32 : ∀ (h : PH) (x2 : Option Nat) (x3 : Int32) (x4 : Int32), Sim Y_R_onesAhead h 32 [(2, va_rf x2), (3, .int x3), (4, .int x4)] [] (r32 h x2 x3 x4)) (h : PH) (x2 : Option Nat) (x3 : Int32) (x4 : Int32) : Sim Y_R_onesAhead h 32 [(2, va_rf x2), (3, .int x3), (4, .int x4)] [] (c_R_onesAhead_l32 r32 h x2 x3 x4) := by
  unfold c_R_onesAhead_l32
  refine x_aload_n (pc := 32) (r := x2) 0 rfl rfl dX5_onesAhead_32 ?_
  refine x_inst (pc := 33) (r := x2) ci_10 ci_9 (by decide +kernel) q751 dX5_onesAhead_33 ?_ ?_
  · refine x_if_eqF (pc := 36) 124 (by decide) (by decide) dX5_onesAhead_36 ?_
    refine x_aload_n (pc := 39) (r := x2) 0 rfl rfl dX5_onesAhead_39 ?_
    refine x_nn (fun a1 e2 => ?_)
    subst e2
    refine x_cast (pc := 40) ci_10 q751 dX5_onesAhead_40 ?_
    refine x_astoreR (pc := 43) (a := a1) (lv' := [(5, .ref a1), (2, .ref a1), (3, .int x3), (4, .int x4)]) (by decide) rfl dX5_onesAhead_43 ?_
    refine x_aloadR (pc := 45) (a := a1) 0 rfl dX5_onesAhead_45 ?_
    refine x_callV (pc := 47) (As := []) (rest := []) (lev' := 2) si_X5_48 (m_I_push h a1) (fun z e => grd1 e) rfl rfl (by decide) (cat4 (Nat.le_of_ble_eq_true rfl)) dX5_onesAhead_47 (kV (fun h3 => ?_)) xNo
    refine x_iload_n (pc := 50) 2 rfl rfl dX5_onesAhead_50 ?_
    refine x_aloadR (pc := 51) (a := a1) 0 rfl dX5_onesAhead_51 ?_
    refine x_getQ (pc := 53) fi_X5_51 dX5_onesAhead_53 ?_
    intro v4
    refine x_iconst (pc := 56) (v := 0) (by decide) dX5_onesAhead_56 ?_
    refine x_nn (fun a5 e6 => ?_)
    subst e6
    refine x_aald (pc := 57) dX5_onesAhead_57 ?_
    intro v7
    refine x_nn (fun a8 e9 => ?_)
    subst e9
    refine x_getI (pc := 58) fi_X5_75 dX5_onesAhead_58 ?_
    intro v10
    refine x_icmp_ge (pc := 61) 68 (by decide) dX5_onesAhead_61 ?_ ?_
    · refine x_iconst (pc := 68) (v := 0) (by decide) dX5_onesAhead_68 ?_
      refine Sim.lv [2, 3, 0] rfl ?_
      exact w_R_onesAhead_j69 r32 hr32 h3 x3 x4 a1 (0 : Int32)
    · refine x_iconst (pc := 64) (v := 1) (by decide) dX5_onesAhead_64 ?_
      refine x_goto (pc := 65) 69 (by decide) dX5_onesAhead_65 ?_
      refine Sim.lv [2, 3, 0] rfl ?_
      exact w_R_onesAhead_j69 r32 hr32 h3 x3 x4 a1 (1 : Int32)
  · refine x_if_eqT (pc := 36) 124 (by decide) (by decide) dX5_onesAhead_36 ?_
    refine x_iconst (pc := 124) (v := 0) (by decide) dX5_onesAhead_124 ?_
    refine x_istore (pc := 125) (lv' := [(5, .int (0 : Int32)), (2, va_rf x2), (3, .int x3), (4, .int x4)]) (by decide) rfl dX5_onesAhead_125 ?_
    refine Sim.lv [1, 2, 3, 0] rfl ?_
    exact v_R_onesAhead_l127 FU h x2 x3 x4 (0 : Int32)
set_option maxHeartbeats 4000000 in
theorem v_R_onesAhead_l32 : ∀ (n : Nat) (h : PH) (x2 : Option Nat) (x3 : Int32) (x4 : Int32), Sim Y_R_onesAhead h 32 [(2, va_rf x2), (3, .int x3), (4, .int x4)] [] (itr (c_R_onesAhead_l32) (fun _ _ _ _ => none) n h x2 x3 x4)
  | 0, h, x2, x3, x4 => Sim.none
  | n + 1, h, x2, x3, x4 => w_R_onesAhead_l32 _ (v_R_onesAhead_l32 n) h x2 x3 x4
set_option maxHeartbeats 4000000 in
theorem m_R_onesAhead (h : PH) (this : Nat) (x1 : Int32) : MM yX5_onesAhead (ws_ yX5_onesAhead cX5_onesAhead 7 (some .int)) 3 [.ref this, .int x1] h (c_R_onesAhead h this x1) := by
  refine MM.of (by decide) rfl (by decide) (Nat.le_of_ble_eq_true rfl) (own := RX5) (cc := cX5_onesAhead) (maxL := 7) (lev := 3) (rt := (some .int)) (ini := false) ?_
  show Sim Y_R_onesAhead h 0 [(0, .ref this), (1, .int x1)] [] _
  unfold c_R_onesAhead
  refine x_grd ?_
  refine x_aload_nR (pc := 0) (a := this) 0 rfl rfl dX5_onesAhead_0 ?_
  refine x_getI (pc := 1) fi_X5_17 dX5_onesAhead_1 ?_
  intro v1
  refine x_if_ne (pc := 4) 9 (by decide) dX5_onesAhead_4 ?_ ?_
  · refine x_aload_nR (pc := 9) (a := this) 0 rfl rfl dX5_onesAhead_9 ?_
    refine x_getI (pc := 10) fi_X5_31 dX5_onesAhead_10 ?_
    intro v2
    refine x_if_ne (pc := 13) 22 (by decide) dX5_onesAhead_13 ?_ ?_
    · refine x_aload_nR (pc := 22) (a := this) 0 rfl rfl dX5_onesAhead_22 ?_
      refine x_getQ (pc := 23) fi_X5_27 dX5_onesAhead_23 ?_
      intro v3
      refine x_astore_n (pc := 26) (r := v3) (lv' := [(2, va_rf v3), (0, .ref this), (1, .int x1)]) rfl (by decide) rfl dX5_onesAhead_26 ?_
      refine x_iload_n (pc := 27) 2 rfl rfl dX5_onesAhead_27 ?_
      refine x_istore_n (pc := 28) (lv' := [(3, .int x1), (2, va_rf v3), (0, .ref this), (1, .int x1)]) (i := 3) rfl (by decide) (by simp [rf_cat]) dX5_onesAhead_28 ?_
      refine x_iconst (pc := 29) (v := 0) (by decide) dX5_onesAhead_29 ?_
      refine x_istore (pc := 30) (lv' := [(4, .int (0 : Int32)), (3, .int x1), (2, va_rf v3), (0, .ref this), (1, .int x1)]) (by decide) rfl dX5_onesAhead_30 ?_
      refine Sim.lv [2, 1, 0] rfl ?_
      exact v_R_onesAhead_l32 FU h v3 x1 (0 : Int32)
    · refine x_aload_nR (pc := 16) (a := this) 0 rfl rfl dX5_onesAhead_16 ?_
      refine x_iload_n (pc := 17) 1 rfl rfl dX5_onesAhead_17 ?_
      refine x_callV (pc := 18) (As := [.int x1]) (rest := []) (lev' := 2) si_X5_79 (m_R_onesAlong h this x1) (fun z e => grd1 e) rfl rfl (by decide) (cat4 (Nat.le_of_ble_eq_true rfl)) dX5_onesAhead_18 (kI (fun v5 h4 => ?_)) xNo
      exact x_iret (pc := 21) dX5_onesAhead_21
  · refine x_iconst (pc := 7) (v := 0) (by decide) dX5_onesAhead_7 ?_
    exact x_iret (pc := 8) dX5_onesAhead_8
theorem si_X5_83 : SiV RX5 83 4 yX5_onesAhead cX5_onesAhead 7 (some .int) 1 := ⟨_, _, _, ci_4.1, by decide, lw_V q865 q866 q867 q116 q868, ⟨rfl, by decide, by decide, by decide +kernel⟩, by decide⟩
abbrev Y_R_before : Yx := (RX5, cX5_before, 3, 4, (some .int), [], false)
def c_R_before (h : PH) (this : Nat) (x1 : Int32) (x2 : Int32) : Option RH :=
  grd h this [4] (
  if x2 = (1 : Int32) then
    hI (c_R_onesAhead h this x1) noX fun v4 h3 =>
    rI v4 h3
  else
    hI (c_R_onesAhead h this x1) noX fun v2 h1 =>
    rI (x1 - v2) h1)
set_option maxHeartbeats 4000000 in
theorem m_R_before (h : PH) (this : Nat) (x1 : Int32) (x2 : Int32) : MM yX5_before (ws_ yX5_before cX5_before 3 (some .int)) 4 [.ref this, .int x1, .int x2] h (c_R_before h this x1 x2) := by
  refine MM.of (by decide) rfl (by decide) (Nat.le_of_ble_eq_true rfl) (own := RX5) (cc := cX5_before) (maxL := 3) (lev := 4) (rt := (some .int)) (ini := false) ?_
  show Sim Y_R_before h 0 [(0, .ref this), (1, .int x1), (2, .int x2)] [] _
  unfold c_R_before
  refine x_grd ?_
  refine x_iload_n (pc := 0) 2 rfl rfl dX5_before_0 ?_
  refine x_iconst (pc := 1) (v := 1) (by decide) dX5_before_1 ?_
  refine x_icmp_ne (pc := 2) 13 (by decide) dX5_before_2 ?_ ?_
  · refine x_iload_n (pc := 13) 1 rfl rfl dX5_before_13 ?_
    refine x_aload_nR (pc := 14) (a := this) 0 rfl rfl dX5_before_14 ?_
    refine x_iload_n (pc := 15) 1 rfl rfl dX5_before_15 ?_
    refine x_callV (pc := 16) (As := [.int x1]) (rest := [.int x1]) (lev' := 3) si_X5_83 (m_R_onesAhead h this x1) (fun z e => grd1 e) rfl rfl (by decide) (cat4 (Nat.le_of_ble_eq_true rfl)) dX5_before_16 (kI (fun v2 h1 => ?_)) xNo
    refine x_isub (pc := 19) dX5_before_19 ?_
    exact x_iret (pc := 20) dX5_before_20
  · refine x_aload_nR (pc := 5) (a := this) 0 rfl rfl dX5_before_5 ?_
    refine x_iload_n (pc := 6) 1 rfl rfl dX5_before_6 ?_
    refine x_callV (pc := 7) (As := [.int x1]) (rest := []) (lev' := 3) si_X5_83 (m_R_onesAhead h this x1) (fun z e => grd1 e) rfl rfl (by decide) (cat4 (Nat.le_of_ble_eq_true rfl)) dX5_before_7 (kI (fun v4 h3 => ?_)) xNo
    refine x_goto (pc := 10) 20 (by decide) dX5_before_10 ?_
    exact x_iret (pc := 20) dX5_before_20
