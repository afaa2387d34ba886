set_option maxRecDepth 100000
theorem ni_X9_83 : NI RX9 83 16 [.null, .null] := ⟨_, _, _, _, ci_16, q1463, q1464, q142, by decide +kernel, rfl⟩
theorem si_X9_85 : SiI RX9 85 yX19_init cX19_init 3 2 := ⟨q1467, q142, q1465, q1466, rfl, ⟨by decide, by decide, by decide +kernel⟩, by decide⟩
abbrev Y_DS_both (d : Nat) : Yx := (RX9, cX9_both, 3, (14 + d + 1), (some (.object "BitRopes$Cond")), [], false)
def c_DS_both_l6 (rg : Nat → PH → Nat → Int32 → Option RH) (r6 : PH → Nat → Int32 → Option Nat → Option RH) (h : PH) (this : Nat) (x1 : Int32) (x2 : Option Nat) : Option RH :=
  hI (grd h this [7] (c_D_is h this (h.2.2 12))) noX fun v2 h1 =>
  if v2 = 0 then
    rQ x2 h1
  else
    hV (grd h1 this [7] (c_D_next h1 this)) noX fun h3 =>
    newO h3 16 [.null, .null] fun a4 h5 =>
    hQ (grd h5 this [7] (rg 2 h5 this x1)) rX fun v7 h6 =>
    nn v7 fun a8 =>
    nn x2 fun a10 =>
    hV (c_CB_init h6 a4 a10 a8) noX fun h12 =>
    r6 h12 this x1 (some a4)
def b_DS_both (rg : Nat → PH → Nat → Int32 → Option RH) (h : PH) (this : Nat) (x1 : Int32) : Option RH :=
  grd h this [7] (
  hQ (grd h this [7] (rg 2 h this x1)) rX fun v2 h1 =>
  itr (c_DS_both_l6 rg) (fun _ _ _ _ => none) FU h1 this x1 v2)
set_option maxHeartbeats 4000000 in
theorem w_DS_both_l6 (rg : Nat → PH → Nat → Int32 → Option RH) (r6 : PH → Nat → Int32 → Option Nat → Option RH) {d : Nat} (hrg : (∀ (h : PH) (this : Nat) (x1 : Int32), MM yX9_any (ws_ yX9_any cX9_any 3 (some (.object "BitRopes$Cond"))) (14 + d) [.ref this, .int x1] h (rg 0 h this x1)) ∧ (∀ (h : PH) (this : Nat) (x1 : Int32), MM yX9_both (ws_ yX9_both cX9_both 3 (some (.object "BitRopes$Cond"))) (14 + d) [.ref this, .int x1] h (rg 1 h this x1)) ∧ (∀ (h : PH) (this : Nat) (x1 : Int32), MM yX9_single (ws_ yX9_single cX9_single 8 (some (.object "BitRopes$Cond"))) (14 + d) [.ref this, .int x1] h (rg 2 h this x1))) (hr6 : ∀ (h : PH) (this : Nat) (x1 : Int32) (x2 : Option Nat), Sim (Y_DS_both d) h 6 [(0, .ref this), (1, .int x1), (2, va_rf x2)] [] (r6 h this x1 x2)) (h : PH) (this : Nat) (x1 : Int32) (x2 : Option Nat) : Sim (Y_DS_both d) h 6 [(0, .ref this), (1, .int x1), (2, va_rf x2)] [] (c_DS_both_l6 rg r6 h this x1 x2) := by
  unfold c_DS_both_l6
  refine x_aload_nR (pc := 6) (a := this) 0 rfl rfl dX9_both_6 ?_
  refine x_ldcS (pc := 7) (k := 12) (tx := "and") (by decide +kernel) dX9_both_7 ?_
  refine x_callU (pc := 9) (As := [.ref (h.2.2 12)]) (rest := []) (lev' := 9) si_X9_66 (MM.grd (m_D_is h this (h.2.2 12))) (fun z e => grdN e) rfl rfl (by omega) (cat4 (Nat.le_of_ble_eq_true rfl)) dX9_both_9 (kI (fun v2 h1 => ?_)) xNo
  refine x_if_eq (pc := 12) 36 (by decide) dX9_both_12 ?_ ?_
  · refine x_aload_n (pc := 36) (r := x2) 2 rfl rfl dX9_both_36 ?_
    exact x_aret (pc := 37) (v := x2) (Or.inl ⟨_, rfl⟩) dX9_both_37
  · refine x_aload_nR (pc := 15) (a := this) 0 rfl rfl dX9_both_15 ?_
    refine x_callU (pc := 16) (As := []) (rest := []) (lev' := 4) si_X9_70 (MM.grd (m_D_next h1 this)) (fun z e => grdN e) rfl rfl (by omega) (cat4 (Nat.le_of_ble_eq_true rfl)) dX9_both_16 (kV (fun h3 => ?_)) xNo
    refine x_new (pc := 19) ni_X9_83 dX9_both_19 ?_
    intro a4 h5
    refine x_dup (pc := 22) rfl dX9_both_22 ?_
    refine x_aload_n (pc := 23) (r := x2) 2 rfl rfl dX9_both_23 ?_
    refine x_aload_nR (pc := 24) (a := this) 0 rfl rfl dX9_both_24 ?_
    refine x_iload_n (pc := 25) 1 rfl rfl dX9_both_25 ?_
    refine x_callV (pc := 26) (As := [.int x1]) (rest := [va_rf x2, .ref a4, .ref a4]) (lev' := (14 + d)) si_X9_78 (MM.grd (hrg.2.2 h5 this x1)) (fun z e => grd1 e) rfl rfl (by omega) (cat4 (Nat.le_of_ble_eq_true rfl)) dX9_both_26 (kQ (fun v7 h6 => ?_)) (xOut (by decide))
    refine x_nn (fun a8 e9 => ?_)
    subst e9
    refine x_nn (fun a10 e11 => ?_)
    subst e11
    refine x_callI (pc := 29) (As := [.ref a10, .ref a8]) (rest := [.ref a4]) (lev' := 1) si_X9_85 (m_CB_init h6 a4 a10 a8) rfl rfl (by omega) (cat4 (Nat.le_of_ble_eq_true rfl)) dX9_both_29 (kV (fun h12 => ?_)) xNo
    refine x_astore_nR (pc := 32) (a := a4) (lv' := [(2, .ref a4), (0, .ref this), (1, .int x1)]) rfl (by decide) rfl dX9_both_32 ?_
    refine x_goto (pc := 33) 6 (by decide) dX9_both_33 ?_
    refine Sim.lv [1, 2, 0] rfl ?_
    exact hr6 h12 this x1 (some a4)
set_option maxHeartbeats 4000000 in
theorem v_DS_both_l6 (rg : Nat → PH → Nat → Int32 → Option RH) {d : Nat} (hrg : (∀ (h : PH) (this : Nat) (x1 : Int32), MM yX9_any (ws_ yX9_any cX9_any 3 (some (.object "BitRopes$Cond"))) (14 + d) [.ref this, .int x1] h (rg 0 h this x1)) ∧ (∀ (h : PH) (this : Nat) (x1 : Int32), MM yX9_both (ws_ yX9_both cX9_both 3 (some (.object "BitRopes$Cond"))) (14 + d) [.ref this, .int x1] h (rg 1 h this x1)) ∧ (∀ (h : PH) (this : Nat) (x1 : Int32), MM yX9_single (ws_ yX9_single cX9_single 8 (some (.object "BitRopes$Cond"))) (14 + d) [.ref this, .int x1] h (rg 2 h this x1))) : ∀ (n : Nat) (h : PH) (this : Nat) (x1 : Int32) (x2 : Option Nat), Sim (Y_DS_both d) h 6 [(0, .ref this), (1, .int x1), (2, va_rf x2)] [] (itr (c_DS_both_l6 rg) (fun _ _ _ _ => none) n h this x1 x2)
  | 0, h, this, x1, x2 => Sim.none
  | n + 1, h, this, x1, x2 => w_DS_both_l6 rg _ hrg (v_DS_both_l6 rg hrg n) h this x1 x2
set_option maxHeartbeats 4000000 in
theorem t_DS_both (rg : Nat → PH → Nat → Int32 → Option RH) {d : Nat} (hrg : (∀ (h : PH) (this : Nat) (x1 : Int32), MM yX9_any (ws_ yX9_any cX9_any 3 (some (.object "BitRopes$Cond"))) (14 + d) [.ref this, .int x1] h (rg 0 h this x1)) ∧ (∀ (h : PH) (this : Nat) (x1 : Int32), MM yX9_both (ws_ yX9_both cX9_both 3 (some (.object "BitRopes$Cond"))) (14 + d) [.ref this, .int x1] h (rg 1 h this x1)) ∧ (∀ (h : PH) (this : Nat) (x1 : Int32), MM yX9_single (ws_ yX9_single cX9_single 8 (some (.object "BitRopes$Cond"))) (14 + d) [.ref this, .int x1] h (rg 2 h this x1))) (h : PH) (this : Nat) (x1 : Int32) : MM yX9_both (ws_ yX9_both cX9_both 3 (some (.object "BitRopes$Cond"))) (14 + d + 1) [.ref this, .int x1] h (b_DS_both rg h this x1) := by
  refine MM.of (by decide) rfl (by decide) (Nat.le_of_ble_eq_true rfl) (own := RX9) (cc := cX9_both) (maxL := 3) (lev := (14 + d + 1)) (rt := (some (.object "BitRopes$Cond"))) (ini := false) ?_
  show Sim (Y_DS_both d) h 0 [(0, .ref this), (1, .int x1)] [] _
  unfold b_DS_both
  refine x_grd ?_
  refine x_aload_nR (pc := 0) (a := this) 0 rfl rfl dX9_both_0 ?_
  refine x_iload_n (pc := 1) 1 rfl rfl dX9_both_1 ?_
  refine x_callV (pc := 2) (As := [.int x1]) (rest := []) (lev' := (14 + d)) si_X9_78 (MM.grd (hrg.2.2 h this x1)) (fun z e => grd1 e) rfl rfl (by omega) (cat4 (Nat.le_of_ble_eq_true rfl)) dX9_both_2 (kQ (fun v2 h1 => ?_)) (xOut (by decide))
  refine x_astore_n (pc := 5) (r := v2) (lv' := [(2, va_rf v2), (0, .ref this), (1, .int x1)]) rfl (by decide) rfl dX9_both_5 ?_
  refine Sim.lv [1, 2, 0] rfl ?_
  exact v_DS_both_l6 rg hrg FU h1 this x1 v2
theorem fi_X20_7 : FI RX20 7 [17] 0 (.object "BitRopes$Cond") true true := (fi_c ci_17 (by decide) rfl rfl (Or.inl q1483) (Or.inl rfl) (fun _ _ => rfl) fi_n)
theorem fi_X20_13 : FI RX20 13 [17] 1 (.object "BitRopes$Cond") true true := (fi_c ci_17 (by decide) rfl rfl (Or.inl q1484) (Or.inl rfl) (fun _ _ => rfl) fi_n)
abbrev Y_CA_init : Yx := (RX20, cX20_init, 3, 1, none, [], true)
def c_CA_init (h : PH) (this : Nat) (x1 : Nat) (x2 : Nat) : Option RH :=
  grd h this [17] (
  pQ h this [17] 0 (some x1) fun h1 =>
  pQ h1 this [17] 1 (some x2) fun h2 =>
  rV h2)
set_option maxHeartbeats 4000000 in
theorem m_CA_init (h : PH) (this : Nat) (x1 : Nat) (x2 : Nat) : MM yX20_init (ws_ yX20_init cX20_init 3 none) 1 [.ref this, .ref x1, .ref x2] h (c_CA_init h this x1 x2) := by
  refine MM.of (by decide) rfl (by decide) (Nat.le_of_ble_eq_true rfl) (own := RX20) (cc := cX20_init) (maxL := 3) (lev := 1) (rt := none) (ini := true) ?_
  show Sim Y_CA_init h 0 [(0, .ref this), (1, .ref x1), (2, .ref x2)] [] _
  unfold c_CA_init
  refine x_grd ?_
  refine x_aload_nR (pc := 0) (a := this) 0 rfl rfl dX20_init_0 ?_
  refine x_objInit (pc := 1) q1482 (by omega) (by decide) dX20_init_1 ?_
  refine x_aload_nR (pc := 4) (a := this) 0 rfl rfl dX20_init_4 ?_
  refine x_aload_nR (pc := 5) (a := x1) 1 rfl rfl dX20_init_5 ?_
  refine x_pQ (pc := 6) (v := (some x1)) fi_X20_7 (fun _ => rfl) dX20_init_6 ?_
  intro h1
  refine x_aload_nR (pc := 9) (a := this) 0 rfl rfl dX20_init_9 ?_
  refine x_aload_nR (pc := 10) (a := x2) 2 rfl rfl dX20_init_10 ?_
  refine x_pQ (pc := 11) (v := (some x2)) fi_X20_13 (fun _ => rfl) dX20_init_11 ?_
  intro h2
  exact x_vret (pc := 14) dX20_init_14
theorem ni_X9_73 : NI RX9 73 17 [.null, .null] := ⟨_, _, _, _, ci_17, q1477, q1478, q143, by decide +kernel, rfl⟩
theorem si_X9_61 : SiV RX9 61 7 yX9_both cX9_both 3 (some (.object "BitRopes$Cond")) 1 := ⟨_, _, _, ci_7.1, by decide, lw_V q1391 q1393 qs36 q120 q1394, ⟨rfl, by decide, by decide, by decide +kernel⟩, by decide⟩
theorem si_X9_75 : SiI RX9 75 yX20_init cX20_init 3 2 := ⟨q1481, q143, q1479, q1480, rfl, ⟨by decide, by decide, by decide +kernel⟩, by decide⟩
abbrev Y_DS_any (d : Nat) : Yx := (RX9, cX9_any, 3, (14 + d + 1), (some (.object "BitRopes$Cond")), [], false)
def c_DS_any_l6 (rg : Nat → PH → Nat → Int32 → Option RH) (r6 : PH → Nat → Int32 → Option Nat → Option RH) (h : PH) (this : Nat) (x1 : Int32) (x2 : Option Nat) : Option RH :=
  hI (grd h this [7] (c_D_is h this (h.2.2 11))) noX fun v2 h1 =>
  if v2 = 0 then
    rQ x2 h1
  else
    hV (grd h1 this [7] (c_D_next h1 this)) noX fun h3 =>
    newO h3 17 [.null, .null] fun a4 h5 =>
    hQ (grd h5 this [7] (rg 1 h5 this x1)) rX fun v7 h6 =>
    nn v7 fun a8 =>
    nn x2 fun a10 =>
    hV (c_CA_init h6 a4 a10 a8) noX fun h12 =>
    r6 h12 this x1 (some a4)
def b_DS_any (rg : Nat → PH → Nat → Int32 → Option RH) (h : PH) (this : Nat) (x1 : Int32) : Option RH :=
  grd h this [7] (
  hQ (grd h this [7] (rg 1 h this x1)) rX fun v2 h1 =>
  itr (c_DS_any_l6 rg) (fun _ _ _ _ => none) FU h1 this x1 v2)
set_option maxHeartbeats 4000000 in
theorem w_DS_any_l6 (rg : Nat → PH → Nat → Int32 → Option RH) (r6 : PH → Nat → Int32 → Option Nat → Option RH) {d : Nat} (hrg : (∀ (h : PH) (this : Nat) (x1 : Int32), MM yX9_any (ws_ yX9_any cX9_any 3 (some (.object "BitRopes$Cond"))) (14 + d) [.ref this, .int x1] h (rg 0 h this x1)) ∧ (∀ (h : PH) (this : Nat) (x1 : Int32), MM yX9_both (ws_ yX9_both cX9_both 3 (some (.object "BitRopes$Cond"))) (14 + d) [.ref this, .int x1] h (rg 1 h this x1)) ∧ (∀ (h : PH) (this : Nat) (x1 : Int32), MM yX9_single (ws_ yX9_single cX9_single 8 (some (.object "BitRopes$Cond"))) (14 + d) [.ref this, .int x1] h (rg 2 h this x1))) (hr6 : ∀ (h : PH) (this : Nat) (x1 : Int32) (x2 : Option Nat), Sim (Y_DS_any d) h 6 [(0, .ref this), (1, .int x1), (2, va_rf x2)] [] (r6 h this x1 x2)) (h : PH) (this : Nat) (x1 : Int32) (x2 : Option Nat) : Sim (Y_DS_any d) h 6 [(0, .ref this), (1, .int x1), (2, va_rf x2)] [] (c_DS_any_l6 rg r6 h this x1 x2) := by
  unfold c_DS_any_l6
  refine x_aload_nR (pc := 6) (a := this) 0 rfl rfl dX9_any_6 ?_
  refine x_ldcS (pc := 7) (k := 11) (tx := "o\x72") (by decide +kernel) dX9_any_7 ?_
  refine x_callU (pc := 9) (As := [.ref (h.2.2 11)]) (rest := []) (lev' := 9) si_X9_66 (MM.grd (m_D_is h this (h.2.2 11))) (fun z e => grdN e) rfl rfl (by omega) (cat4 (Nat.le_of_ble_eq_true rfl)) dX9_any_9 (kI (fun v2 h1 => ?_)) xNo
  refine x_if_eq (pc := 12) 36 (by decide) dX9_any_12 ?_ ?_
  · refine x_aload_n (pc := 36) (r := x2) 2 rfl rfl dX9_any_36 ?_
    exact x_aret (pc := 37) (v := x2) (Or.inl ⟨_, rfl⟩) dX9_any_37
  · refine x_aload_nR (pc := 15) (a := this) 0 rfl rfl dX9_any_15 ?_
    refine x_callU (pc := 16) (As := []) (rest := []) (lev' := 4) si_X9_70 (MM.grd (m_D_next h1 this)) (fun z e => grdN e) rfl rfl (by omega) (cat4 (Nat.le_of_ble_eq_true rfl)) dX9_any_16 (kV (fun h3 => ?_)) xNo
    refine x_new (pc := 19) ni_X9_73 dX9_any_19 ?_
    intro a4 h5
    refine x_dup (pc := 22) rfl dX9_any_22 ?_
    refine x_aload_n (pc := 23) (r := x2) 2 rfl rfl dX9_any_23 ?_
    refine x_aload_nR (pc := 24) (a := this) 0 rfl rfl dX9_any_24 ?_
    refine x_iload_n (pc := 25) 1 rfl rfl dX9_any_25 ?_
    refine x_callV (pc := 26) (As := [.int x1]) (rest := [va_rf x2, .ref a4, .ref a4]) (lev' := (14 + d)) si_X9_61 (MM.grd (hrg.2.1 h5 this x1)) (fun z e => grd1 e) rfl rfl (by omega) (cat4 (Nat.le_of_ble_eq_true rfl)) dX9_any_26 (kQ (fun v7 h6 => ?_)) (xOut (by decide))
    refine x_nn (fun a8 e9 => ?_)
    subst e9
    refine x_nn (fun a10 e11 => ?_)
    subst e11
    refine x_callI (pc := 29) (As := [.ref a10, .ref a8]) (rest := [.ref a4]) (lev' := 1) si_X9_75 (m_CA_init h6 a4 a10 a8) rfl rfl (by omega) (cat4 (Nat.le_of_ble_eq_true rfl)) dX9_any_29 (kV (fun h12 => ?_)) xNo
    refine x_astore_nR (pc := 32) (a := a4) (lv' := [(2, .ref a4), (0, .ref this), (1, .int x1)]) rfl (by decide) rfl dX9_any_32 ?_
    refine x_goto (pc := 33) 6 (by decide) dX9_any_33 ?_
    refine Sim.lv [1, 2, 0] rfl ?_
    exact hr6 h12 this x1 (some a4)
set_option maxHeartbeats 4000000 in
theorem v_DS_any_l6 (rg : Nat → PH → Nat → Int32 → Option RH) {d : Nat} (hrg : (∀ (h : PH) (this : Nat) (x1 : Int32), MM yX9_any (ws_ yX9_any cX9_any 3 (some (.object "BitRopes$Cond"))) (14 + d) [.ref this, .int x1] h (rg 0 h this x1)) ∧ (∀ (h : PH) (this : Nat) (x1 : Int32), MM yX9_both (ws_ yX9_both cX9_both 3 (some (.object "BitRopes$Cond"))) (14 + d) [.ref this, .int x1] h (rg 1 h this x1)) ∧ (∀ (h : PH) (this : Nat) (x1 : Int32), MM yX9_single (ws_ yX9_single cX9_single 8 (some (.object "BitRopes$Cond"))) (14 + d) [.ref this, .int x1] h (rg 2 h this x1))) : ∀ (n : Nat) (h : PH) (this : Nat) (x1 : Int32) (x2 : Option Nat), Sim (Y_DS_any d) h 6 [(0, .ref this), (1, .int x1), (2, va_rf x2)] [] (itr (c_DS_any_l6 rg) (fun _ _ _ _ => none) n h this x1 x2)
  | 0, h, this, x1, x2 => Sim.none
  | n + 1, h, this, x1, x2 => w_DS_any_l6 rg _ hrg (v_DS_any_l6 rg hrg n) h this x1 x2
set_option maxHeartbeats 4000000 in
theorem t_DS_any (rg : Nat → PH → Nat → Int32 → Option RH) {d : Nat} (hrg : (∀ (h : PH) (this : Nat) (x1 : Int32), MM yX9_any (ws_ yX9_any cX9_any 3 (some (.object "BitRopes$Cond"))) (14 + d) [.ref this, .int x1] h (rg 0 h this x1)) ∧ (∀ (h : PH) (this : Nat) (x1 : Int32), MM yX9_both (ws_ yX9_both cX9_both 3 (some (.object "BitRopes$Cond"))) (14 + d) [.ref this, .int x1] h (rg 1 h this x1)) ∧ (∀ (h : PH) (this : Nat) (x1 : Int32), MM yX9_single (ws_ yX9_single cX9_single 8 (some (.object "BitRopes$Cond"))) (14 + d) [.ref this, .int x1] h (rg 2 h this x1))) (h : PH) (this : Nat) (x1 : Int32) : MM yX9_any (ws_ yX9_any cX9_any 3 (some (.object "BitRopes$Cond"))) (14 + d + 1) [.ref this, .int x1] h (b_DS_any rg h this x1) := by
  refine MM.of (by decide) rfl (by decide) (Nat.le_of_ble_eq_true rfl) (own := RX9) (cc := cX9_any) (maxL := 3) (lev := (14 + d + 1)) (rt := (some (.object "BitRopes$Cond"))) (ini := false) ?_
  show Sim (Y_DS_any d) h 0 [(0, .ref this), (1, .int x1)] [] _
  unfold b_DS_any
  refine x_grd ?_
  refine x_aload_nR (pc := 0) (a := this) 0 rfl rfl dX9_any_0 ?_
  refine x_iload_n (pc := 1) 1 rfl rfl dX9_any_1 ?_
  refine x_callV (pc := 2) (As := [.int x1]) (rest := []) (lev' := (14 + d)) si_X9_61 (MM.grd (hrg.2.1 h this x1)) (fun z e => grd1 e) rfl rfl (by omega) (cat4 (Nat.le_of_ble_eq_true rfl)) dX9_any_2 (kQ (fun v2 h1 => ?_)) (xOut (by decide))
  refine x_astore_n (pc := 5) (r := v2) (lv' := [(2, va_rf v2), (0, .ref this), (1, .int x1)]) rfl (by decide) rfl dX9_any_5 ?_
  refine Sim.lv [1, 2, 0] rfl ?_
  exact v_DS_any_l6 rg hrg FU h1 this x1 v2
def b_g_sr (rg : Nat → PH → Nat → Int32 → Option RH) (sel : Nat) : PH → Nat → Int32 → Option RH := match sel with
  | 0 => b_DS_any rg
  | 1 => b_DS_both rg
  | _ => b_DS_single rg
def c_g_sr : Nat → Nat → PH → Nat → Int32 → Option RH := itr b_g_sr (fun _ _ _ _ => none)
theorem m_g_sr : ∀ (d : Nat), (∀ (h : PH) (this : Nat) (x1 : Int32), MM yX9_any (ws_ yX9_any cX9_any 3 (some (.object "BitRopes$Cond"))) (14 + d) [.ref this, .int x1] h (c_g_sr d 0 h this x1)) ∧ (∀ (h : PH) (this : Nat) (x1 : Int32), MM yX9_both (ws_ yX9_both cX9_both 3 (some (.object "BitRopes$Cond"))) (14 + d) [.ref this, .int x1] h (c_g_sr d 1 h this x1)) ∧ (∀ (h : PH) (this : Nat) (x1 : Int32), MM yX9_single (ws_ yX9_single cX9_single 8 (some (.object "BitRopes$Cond"))) (14 + d) [.ref this, .int x1] h (c_g_sr d 2 h this x1))
  | 0 => ⟨fun _ _ _ => MM.none, fun _ _ _ => MM.none, fun _ _ _ => MM.none⟩
  | d + 1 => ⟨t_DS_any (d := d) (c_g_sr d) (m_g_sr d), t_DS_both (d := d) (c_g_sr d) (m_g_sr d), t_DS_single (d := d) (c_g_sr d) (m_g_sr d)⟩
def c_DS_any (d : Nat) (h : PH) (this : Nat) (x1 : Int32) : Option RH := c_g_sr d 0 h this x1
theorem m_DS_any (d : Nat) (h : PH) (this : Nat) (x1 : Int32) : MM yX9_any (ws_ yX9_any cX9_any 3 (some (.object "BitRopes$Cond"))) (14 + d) [.ref this, .int x1] h (c_DS_any d h this x1) := (m_g_sr d).1 h this x1
def c_DS_both (d : Nat) (h : PH) (this : Nat) (x1 : Int32) : Option RH := c_g_sr d 1 h this x1
theorem m_DS_both (d : Nat) (h : PH) (this : Nat) (x1 : Int32) : MM yX9_both (ws_ yX9_both cX9_both 3 (some (.object "BitRopes$Cond"))) (14 + d) [.ref this, .int x1] h (c_DS_both d h this x1) := (m_g_sr d).2.1 h this x1
def c_DS_single (d : Nat) (h : PH) (this : Nat) (x1 : Int32) : Option RH := c_g_sr d 2 h this x1
theorem m_DS_single (d : Nat) (h : PH) (this : Nat) (x1 : Int32) : MM yX9_single (ws_ yX9_single cX9_single 8 (some (.object "BitRopes$Cond"))) (14 + d) [.ref this, .int x1] h (c_DS_single d h this x1) := (m_g_sr d).2.2 h this x1
theorem si_X9_46 : SiU RX9 46 [7] ⟨RX9, "begin", "()V"⟩ yX6_begin cX6_begin 1 none 0 := (siU_c (c := 7) (owner := "BitRopes$Reade\x72") rfl (by decide) ⟨q1384, q1385, (Or.inl q1386), q595, q117, q596⟩ (Or.inl rfl) ⟨by decide, by decide, by decide +kernel⟩ (siU_n (by decide)))
abbrev Y_DS_read : Yx := (RX9, cX9_read, 2, 79, (some (.object "BitRopes$Cond")), [], false)
def c_DS_read (h : PH) (this : Nat) : Option RH :=
  grd h this [7] (
  pI h this [7] 10 (0 : Int32) fun h1 =>
  hV (grd h1 this [7] (c_D_begin h1 this)) noX fun h2 =>
  hQ (grd h2 this [7] (c_DS_any 64 h2 this (1 : Int32))) rX fun v4 h3 =>
  gI h3 this [7] 3 fun v5 =>
  if v5 = 0 then
    hV (grd h3 this [7] (c_D_must h3 this (1 : Int32) (1 : Int32))) rX fun h7 =>
    rQ v4 h7
  else
    hV (grd h3 this [7] (c_D_must h3 this (0 : Int32) (1 : Int32))) rX fun h6 =>
    rQ v4 h6)
set_option maxHeartbeats 4000000 in
theorem m_DS_read (h : PH) (this : Nat) : MM yX9_read (ws_ yX9_read cX9_read 2 (some (.object "BitRopes$Cond"))) 79 [.ref this] h (c_DS_read h this) := by
  refine MM.of (by decide) rfl (by decide) (Nat.le_of_ble_eq_true rfl) (own := RX9) (cc := cX9_read) (maxL := 2) (lev := 79) (rt := (some (.object "BitRopes$Cond"))) (ini := false) ?_
  show Sim Y_DS_read h 0 [(0, .ref this)] [] _
  unfold c_DS_read
  refine x_grd ?_
  refine x_aload_nR (pc := 0) (a := this) 0 rfl rfl dX9_read_0 ?_
  refine x_iconst (pc := 1) (v := 0) (by decide) dX9_read_1 ?_
  refine x_pI (pc := 2) fi_X9_42 (fun z => absurd z (by decide)) dX9_read_2 ?_
  intro h1
  refine x_aload_nR (pc := 5) (a := this) 0 rfl rfl dX9_read_5 ?_
  refine x_callU (pc := 6) (As := []) (rest := []) (lev' := 5) si_X9_46 (MM.grd (m_D_begin h1 this)) (fun z e => grdN e) rfl rfl (by decide) (cat4 (Nat.le_of_ble_eq_true rfl)) dX9_read_6 (kV (fun h2 => ?_)) xNo
  refine x_aload_nR (pc := 9) (a := this) 0 rfl rfl dX9_read_9 ?_
  refine x_iconst (pc := 10) (v := 1) (by decide) dX9_read_10 ?_
  refine x_callV (pc := 11) (As := [.int (1 : Int32)]) (rest := []) (lev' := (14 + 64)) si_X9_50 (MM.grd (m_DS_any 64 h2 this (1 : Int32))) (fun z e => grd1 e) rfl rfl (by omega) (cat4 (Nat.le_of_ble_eq_true rfl)) dX9_read_11 (kQ (fun v4 h3 => ?_)) (xOut (by decide))
  refine x_astore_n (pc := 14) (r := v4) (lv' := [(1, va_rf v4), (0, .ref this)]) rfl (by decide) rfl dX9_read_14 ?_
  refine x_aload_nR (pc := 15) (a := this) 1 rfl rfl dX9_read_15 ?_
  refine x_aload_nR (pc := 16) (a := this) 1 rfl rfl dX9_read_16 ?_
  refine x_getI (pc := 17) fi_X9_54 dX9_read_17 ?_
  intro v5
  refine x_if_ne (pc := 20) 27 (by decide) dX9_read_20 ?_ ?_
  · refine x_iconst (pc := 27) (v := 0) (by decide) dX9_read_27 ?_
    refine x_iconst (pc := 28) (v := 1) (by decide) dX9_read_28 ?_
    refine x_callU (pc := 29) (As := [.int (0 : Int32), .int (1 : Int32)]) (rest := []) (lev' := 2) si_X9_57 (MM.grd (m_D_must h3 this (0 : Int32) (1 : Int32))) (fun z e => grdN e) rfl rfl (by decide) (cat4 (Nat.le_of_ble_eq_true rfl)) dX9_read_29 (kV (fun h6 => ?_)) (xOut (by decide))
    refine x_aload_n (pc := 32) (r := v4) 0 rfl rfl dX9_read_32 ?_
    exact x_aret (pc := 33) (v := v4) (Or.inl ⟨_, rfl⟩) dX9_read_33
  · refine x_iconst (pc := 23) (v := 1) (by decide) dX9_read_23 ?_
    refine x_goto (pc := 24) 28 (by decide) dX9_read_24 ?_
    refine x_iconst (pc := 28) (v := 1) (by decide) dX9_read_28 ?_
    refine x_callU (pc := 29) (As := [.int (1 : Int32), .int (1 : Int32)]) (rest := []) (lev' := 2) si_X9_57 (MM.grd (m_D_must h3 this (1 : Int32) (1 : Int32))) (fun z e => grdN e) rfl rfl (by decide) (cat4 (Nat.le_of_ble_eq_true rfl)) dX9_read_29 (kV (fun h7 => ?_)) (xOut (by decide))
    refine x_aload_n (pc := 32) (r := v4) 0 rfl rfl dX9_read_32 ?_
    exact x_aret (pc := 33) (v := v4) (Or.inl ⟨_, rfl⟩) dX9_read_33
theorem fi_X1_85 : FI RX1 85 [0] 7 (.object "BitRopes$State") false true := (fi_c ci_0 (by decide) rfl rfl (Or.inl q510) (Or.inl rfl) (fun h => absurd h (by decide)) fi_n)
theorem fi_X1_190 : FI RX1 190 [3] 0 (.array (.object "BitRopes$Rope")) true false := (fi_c ci_3 (by decide) rfl rfl (Or.inr ⟨_, q323⟩) (Or.inl rfl) (fun _ h => absurd h (by decide)) fi_n)
theorem si_X1_200 : SiV RX1 200 4 yX5_ready cX5_ready 1 (some (.object "BitRopes$Rope")) 0 := ⟨_, _, _, ci_4.1, by decide, lw_V q910 q911 q912 q116 q913, ⟨rfl, by decide, by decide, by decide +kernel⟩, by decide⟩
abbrev Y_B_rope : Yx := (RX1, cX1_rope, 2, 114, (some (.object "BitRopes$Rope")), [], false)
def c_B_rope (h : PH) (this : Nat) (x1 : Int32) : Option RH :=
  grd h this [0] (
  gQ h this [0] 7 fun v1 =>
  nn v1 fun a2 =>
  gQ h a2 [3] 0 fun v4 =>
  nn v4 fun a5 =>
  ldQ h a5 x1 fun v7 =>
  nn v7 fun a8 =>
  hQ (c_R_ready h a8) noX fun v11 h10 =>
  rQ v11 h10)
set_option maxHeartbeats 4000000 in
theorem m_B_rope (h : PH) (this : Nat) (x1 : Int32) : MM yX1_rope (ws_ yX1_rope cX1_rope 2 (some (.object "BitRopes$Rope"))) 114 [.ref this, .int x1] h (c_B_rope h this x1) := by
  refine MM.of (by decide) rfl (by decide) (Nat.le_of_ble_eq_true rfl) (own := RX1) (cc := cX1_rope) (maxL := 2) (lev := 114) (rt := (some (.object "BitRopes$Rope"))) (ini := false) ?_
  show Sim Y_B_rope h 0 [(0, .ref this), (1, .int x1)] [] _
  unfold c_B_rope
  refine x_grd ?_
  refine x_aload_nR (pc := 0) (a := this) 0 rfl rfl dX1_rope_0 ?_
  refine x_getQ (pc := 1) fi_X1_85 dX1_rope_1 ?_
  intro v1
  refine x_nn (fun a2 e3 => ?_)
  subst e3
  refine x_getQ (pc := 4) fi_X1_190 dX1_rope_4 ?_
  intro v4
  refine x_iload_n (pc := 7) 1 rfl rfl dX1_rope_7 ?_
  refine x_nn (fun a5 e6 => ?_)
  subst e6
  refine x_aald (pc := 8) dX1_rope_8 ?_
  intro v7
  refine x_nn (fun a8 e9 => ?_)
  subst e9
  refine x_callV (pc := 9) (As := []) (rest := []) (lev' := 113) si_X1_200 (m_R_ready h a8) (fun z e => grd1 e) rfl rfl (by decide) (cat4 (Nat.le_of_ble_eq_true rfl)) dX1_rope_9 (kQ (fun v11 h10 => ?_)) xNo
  exact x_aret (pc := 12) (v := v11) (Or.inl ⟨_, rfl⟩) dX1_rope_12
theorem si_X1_204 : SiV RX1 204 0 yX1_rope cX1_rope 2 (some (.object "BitRopes$Rope")) 1 := ⟨_, _, _, ci_0.1, by decide, lw_V q906 q908 qs16 q110 q909, ⟨rfl, by decide, by decide, by decide +kernel⟩, by decide⟩
theorem si_X1_194 : SiV RX1 194 4 yX5_wide cX5_wide 1 (some .int) 0 := ⟨_, _, _, ci_4.1, by decide, lw_V q901 q736 q737 q116 q738, ⟨rfl, by decide, by decide, by decide +kernel⟩, by decide⟩
theorem si_X1_207 : SiV RX1 207 4 yX5_get cX5_get 6 (some .int) 1 := ⟨_, _, _, ci_4.1, by decide, lw_V q970 q971 q972 q116 q973, ⟨rfl, by decide, by decide, by decide +kernel⟩, by decide⟩
abbrev Y_B_differs : Yx := (RX1, cX1_differs, 5, 115, (some .int), [], false)
def c_B_differs_l23 (r23 : PH → Nat → Int32 → Int32 → Int32 → Int32 → Option RH) (h : PH) (this : Nat) (x1 : Int32) (x2 : Int32) (x3 : Int32) (x4 : Int32) : Option RH :=
  if x3 ≤ x4 then
    hQ (c_B_rope h this x1) noX fun v2 h1 =>
    nn v2 fun a3 =>
    hI (c_R_wide h1 a3) noX fun v6 h5 =>
    hQ (c_B_rope h5 this x2) noX fun v8 h7 =>
    nn v8 fun a9 =>
    hI (c_R_wide h7 a9) noX fun v12 h11 =>
    if v6 = v12 then
      rI (-1 : Int32) h11
    else
      rI x3 h11
  else
    hQ (c_B_rope h this x1) noX fun v14 h13 =>
    nn v14 fun a15 =>
    hI (c_R_get h13 a15 x4) noX fun v18 h17 =>
    hQ (c_B_rope h17 this x2) noX fun v20 h19 =>
    nn v20 fun a21 =>
    hI (c_R_get h19 a21 x4) noX fun v24 h23 =>
    if v18 = v24 then
      r23 h23 this x1 x2 x3 (x4 + (1 : Int32))
    else
      rI x4 h23
def c_B_differs (h : PH) (this : Nat) (x1 : Int32) (x2 : Int32) : Option RH :=
  grd h this [0] (
  hQ (c_B_rope h this x1) noX fun v2 h1 =>
  nn v2 fun a3 =>
  hI (c_R_wide h1 a3) noX fun v6 h5 =>
  hQ (c_B_rope h5 this x2) noX fun v8 h7 =>
  nn v8 fun a9 =>
  hI (c_R_wide h7 a9) noX fun v12 h11 =>
  nm (if v12 < v6 then v12 else v6) fun y13 =>
  itr (c_B_differs_l23) (fun _ _ _ _ _ _ => none) FU h11 this x1 x2 y13 (0 : Int32))
set_option maxHeartbeats 4000000 in
theorem w_B_differs_l23 (r23 : PH → Nat → Int32 → Int32 → Int32 → Int32 → Option RH) (hr23 : ∀ (h : PH) (this : Nat) (x1 : Int32) (x2 : Int32) (x3 : Int32) (x4 : Int32), Sim Y_B_differs h 23 [(0, .ref this), (1, .int x1), (2, .int x2), (3, .int x3), (4, .int x4)] [] (r23 h this x1 x2 x3 x4)) (h : PH) (this : Nat) (x1 : Int32) (x2 : Int32) (x3 : Int32) (x4 : Int32) : Sim Y_B_differs h 23 [(0, .ref this), (1, .int x1), (2, .int x2), (3, .int x3), (4, .int x4)] [] (c_B_differs_l23 r23 h this x1 x2 x3 x4) := by
  unfold c_B_differs_l23
  refine x_iload (pc := 23) 4 rfl dX1_differs_23 ?_
  refine x_iload_n (pc := 25) 3 rfl rfl dX1_differs_25 ?_
  refine x_icmp_ge (pc := 26) 61 (by decide) dX1_differs_26 ?_ ?_
  · refine x_aload_nR (pc := 61) (a := this) 0 rfl rfl dX1_differs_61 ?_
    refine x_iload_n (pc := 62) 1 rfl rfl dX1_differs_62 ?_
    refine x_callV (pc := 63) (As := [.int x1]) (rest := []) (lev' := 114) si_X1_204 (m_B_rope h this x1) (fun z e => grd1 e) rfl rfl (by decide) (cat4 (Nat.le_of_ble_eq_true rfl)) dX1_differs_63 (kQ (fun v2 h1 => ?_)) xNo
    refine x_nn (fun a3 e4 => ?_)
    subst e4
    refine x_callV (pc := 66) (As := []) (rest := []) (lev' := 1) si_X1_194 (m_R_wide h1 a3) (fun z e => grd1 e) rfl rfl (by decide) (cat4 (Nat.le_of_ble_eq_true rfl)) dX1_differs_66 (kI (fun v6 h5 => ?_)) xNo
    refine x_aload_nR (pc := 69) (a := this) 0 rfl rfl dX1_differs_69 ?_
    refine x_iload_n (pc := 70) 2 rfl rfl dX1_differs_70 ?_
    refine x_callV (pc := 71) (As := [.int x2]) (rest := [.int v6]) (lev' := 114) si_X1_204 (m_B_rope h5 this x2) (fun z e => grd1 e) rfl rfl (by decide) (cat4 (Nat.le_of_ble_eq_true rfl)) dX1_differs_71 (kQ (fun v8 h7 => ?_)) xNo
    refine x_nn (fun a9 e10 => ?_)
    subst e10
    refine x_callV (pc := 74) (As := []) (rest := [.int v6]) (lev' := 1) si_X1_194 (m_R_wide h7 a9) (fun z e => grd1 e) rfl rfl (by decide) (cat4 (Nat.le_of_ble_eq_true rfl)) dX1_differs_74 (kI (fun v12 h11 => ?_)) xNo
    refine x_icmp_ne (pc := 77) 84 (by decide) dX1_differs_77 ?_ ?_
    · refine x_iload_n (pc := 84) 3 rfl rfl dX1_differs_84 ?_
      exact x_iret (pc := 85) dX1_differs_85
    · refine x_iconst (pc := 80) (v := (-1)) (by decide) dX1_differs_80 ?_
      refine x_goto (pc := 81) 85 (by decide) dX1_differs_81 ?_
      exact x_iret (pc := 85) dX1_differs_85
  · refine x_aload_nR (pc := 29) (a := this) 0 rfl rfl dX1_differs_29 ?_
    refine x_iload_n (pc := 30) 1 rfl rfl dX1_differs_30 ?_
    refine x_callV (pc := 31) (As := [.int x1]) (rest := []) (lev' := 114) si_X1_204 (m_B_rope h this x1) (fun z e => grd1 e) rfl rfl (by decide) (cat4 (Nat.le_of_ble_eq_true rfl)) dX1_differs_31 (kQ (fun v14 h13 => ?_)) xNo
    refine x_iload (pc := 34) 4 rfl dX1_differs_34 ?_
    refine x_nn (fun a15 e16 => ?_)
    subst e16
    refine x_callV (pc := 36) (As := [.int x4]) (rest := []) (lev' := 3) si_X1_207 (m_R_get h13 a15 x4) (fun z e => grd1 e) rfl rfl (by decide) (cat4 (Nat.le_of_ble_eq_true rfl)) dX1_differs_36 (kI (fun v18 h17 => ?_)) xNo
    refine x_aload_nR (pc := 39) (a := this) 0 rfl rfl dX1_differs_39 ?_
    refine x_iload_n (pc := 40) 2 rfl rfl dX1_differs_40 ?_
    refine x_callV (pc := 41) (As := [.int x2]) (rest := [.int v18]) (lev' := 114) si_X1_204 (m_B_rope h17 this x2) (fun z e => grd1 e) rfl rfl (by decide) (cat4 (Nat.le_of_ble_eq_true rfl)) dX1_differs_41 (kQ (fun v20 h19 => ?_)) xNo
    refine x_iload (pc := 44) 4 rfl dX1_differs_44 ?_
    refine x_nn (fun a21 e22 => ?_)
    subst e22
    refine x_callV (pc := 46) (As := [.int x4]) (rest := [.int v18]) (lev' := 3) si_X1_207 (m_R_get h19 a21 x4) (fun z e => grd1 e) rfl rfl (by decide) (cat4 (Nat.le_of_ble_eq_true rfl)) dX1_differs_46 (kI (fun v24 h23 => ?_)) xNo
    refine x_icmp_eq (pc := 49) 55 (by decide) dX1_differs_49 ?_ ?_
    · refine x_iinc (pc := 55) (v := (1 : Int32)) (lv' := [(4, .int (x4 + (1 : Int32))), (0, .ref this), (1, .int x1), (2, .int x2), (3, .int x3)]) 4 rfl (by decide) (by decide) rfl dX1_differs_55 ?_
      refine x_goto (pc := 58) 23 (by decide) dX1_differs_58 ?_
      refine Sim.lv [1, 2, 3, 4, 0] rfl ?_
      exact hr23 h23 this x1 x2 x3 (x4 + (1 : Int32))
    · refine x_iload (pc := 52) 4 rfl dX1_differs_52 ?_
      exact x_iret (pc := 54) dX1_differs_54
set_option maxHeartbeats 4000000 in
theorem v_B_differs_l23 : ∀ (n : Nat) (h : PH) (this : Nat) (x1 : Int32) (x2 : Int32) (x3 : Int32) (x4 : Int32), Sim Y_B_differs h 23 [(0, .ref this), (1, .int x1), (2, .int x2), (3, .int x3), (4, .int x4)] [] (itr (c_B_differs_l23) (fun _ _ _ _ _ _ => none) n h this x1 x2 x3 x4)
  | 0, h, this, x1, x2, x3, x4 => Sim.none
  | n + 1, h, this, x1, x2, x3, x4 => w_B_differs_l23 _ (v_B_differs_l23 n) h this x1 x2 x3 x4
set_option maxHeartbeats 4000000 in
theorem m_B_differs (h : PH) (this : Nat) (x1 : Int32) (x2 : Int32) : MM yX1_differs (ws_ yX1_differs cX1_differs 5 (some .int)) 115 [.ref this, .int x1, .int x2] h (c_B_differs h this x1 x2) := by
  refine MM.of (by decide) rfl (by decide) (Nat.le_of_ble_eq_true rfl) (own := RX1) (cc := cX1_differs) (maxL := 5) (lev := 115) (rt := (some .int)) (ini := false) ?_
  show Sim Y_B_differs h 0 [(0, .ref this), (1, .int x1), (2, .int x2)] [] _
  unfold c_B_differs
  refine x_grd ?_
  refine x_aload_nR (pc := 0) (a := this) 0 rfl rfl dX1_differs_0 ?_
  refine x_iload_n (pc := 1) 1 rfl rfl dX1_differs_1 ?_
  refine x_callV (pc := 2) (As := [.int x1]) (rest := []) (lev' := 114) si_X1_204 (m_B_rope h this x1) (fun z e => grd1 e) rfl rfl (by decide) (cat4 (Nat.le_of_ble_eq_true rfl)) dX1_differs_2 (kQ (fun v2 h1 => ?_)) xNo
  refine x_nn (fun a3 e4 => ?_)
  subst e4
  refine x_callV (pc := 5) (As := []) (rest := []) (lev' := 1) si_X1_194 (m_R_wide h1 a3) (fun z e => grd1 e) rfl rfl (by decide) (cat4 (Nat.le_of_ble_eq_true rfl)) dX1_differs_5 (kI (fun v6 h5 => ?_)) xNo
  refine x_aload_nR (pc := 8) (a := this) 0 rfl rfl dX1_differs_8 ?_
  refine x_iload_n (pc := 9) 2 rfl rfl dX1_differs_9 ?_
  refine x_callV (pc := 10) (As := [.int x2]) (rest := [.int v6]) (lev' := 114) si_X1_204 (m_B_rope h5 this x2) (fun z e => grd1 e) rfl rfl (by decide) (cat4 (Nat.le_of_ble_eq_true rfl)) dX1_differs_10 (kQ (fun v8 h7 => ?_)) xNo
  refine x_nn (fun a9 e10 => ?_)
  subst e10
  refine x_callV (pc := 13) (As := []) (rest := [.int v6]) (lev' := 1) si_X1_194 (m_R_wide h7 a9) (fun z e => grd1 e) rfl rfl (by decide) (cat4 (Nat.le_of_ble_eq_true rfl)) dX1_differs_13 (kI (fun v12 h11 => ?_)) xNo
  refine x_mmin (pc := 16) q1050 (by omega) (cat4 (Nat.le_of_ble_eq_true rfl)) dX1_differs_16 ?_
  refine x_nmI (fun y13 => ?_)
  refine x_istore_n (pc := 19) (lv' := [(3, .int y13), (0, .ref this), (1, .int x1), (2, .int x2)]) rfl (by decide) rfl dX1_differs_19 ?_
  refine x_iconst (pc := 20) (v := 0) (by decide) dX1_differs_20 ?_
  refine x_istore (pc := 21) (lv' := [(4, .int (0 : Int32)), (3, .int y13), (0, .ref this), (1, .int x1), (2, .int x2)]) (by decide) rfl dX1_differs_21 ?_
  refine Sim.lv [2, 3, 4, 1, 0] rfl ?_
  exact v_B_differs_l23 FU h11 this x1 x2 y13 (0 : Int32)
theorem si_X17_18 : SiVN RX17 18 0 "BitRopes" yX1_rope cX1_rope 2 (some (.object "BitRopes$Rope")) 1 := ⟨_, _, _, ci_0.1, by decide, q909, q110, q1531, q908, qs16, ⟨by decide, by decide, by decide +kernel⟩, by decide⟩
theorem si_X17_22 : SiV RX17 22 4 yX5_wide cX5_wide 1 (some .int) 0 := ⟨_, _, _, ci_4.1, by decide, lw_V q1532 q736 q737 q116 q738, ⟨rfl, by decide, by decide, by decide +kernel⟩, by decide⟩
theorem si_X17_28 : SiV RX17 28 4 yX5_lit cX5_lit 1 (some .int) 0 := ⟨_, _, _, ci_4.1, by decide, lw_V q1533 q988 q989 q116 q990, ⟨rfl, by decide, by decide, by decide +kernel⟩, by decide⟩
theorem si_X17_31 : SiVN RX17 31 0 "BitRopes" yX1_differs cX1_differs 5 (some .int) 2 := ⟨_, _, _, ci_0.1, by decide, q1060, q110, q1534, q1059, qs19, ⟨by decide, by decide, by decide +kernel⟩, by decide⟩
abbrev Y_CM_is (d : Nat) : Yx := (RX17, cX17_is, 5, (116 + d + 1), (some .boolean), [], false)
def b_CM_is (rg : Nat → PH → Nat → Nat → Int32 → Option RH) (h : PH) (this : Nat) (x1 : Nat) (x2 : Int32) : Option RH :=
  grd h this [14] (
  hQ (c_B_rope h x1 x2) noX fun v2 h1 =>
  gI h1 this [14] 0 fun v3 =>
  if v3 = 0 then
    nn v2 fun a4 =>
    hI (c_R_wide h1 a4) noX fun v7 h6 =>
    if v7 = 0 then
      rZ (1 : Int32) h6
    else
      rZ (0 : Int32) h6
  else
  if v3 = 1 then
    nn v2 fun a8 =>
    hI (c_R_lit h1 a8) noX fun v11 h10 =>
    nz (2 : Int32) <|
    if (v11 - v11 / (2 : Int32) * (2 : Int32)) = 0 then
      rZ (1 : Int32) h10
    else
      rZ (0 : Int32) h10
  else
  if v3 = 2 then
    gI h1 this [14] 1 fun v12 =>
    hI (c_B_differs h1 x1 x2 v12) noX fun v14 h13 =>
    if v14 = (-1 : Int32) then
      rZ (1 : Int32) h13
    else
      rZ (0 : Int32) h13
  else
  gI h1 this [14] 1 fun v15 =>
  hI (c_B_differs h1 x1 x2 v15) noX fun v17 h16 =>
  if v17 = (-1 : Int32) then
    rZ (1 : Int32) h16
  else
    gI h16 this [14] 1 fun v18 =>
    hQ (c_B_rope h16 x1 v18) noX fun v20 h19 =>
    nn v20 fun a21 =>
    hI (c_R_wide h19 a21) noX fun v24 h23 =>
    if v17 = v24 then
      rZ (1 : Int32) h23
    else
      rZ (0 : Int32) h23)
set_option maxHeartbeats 4000000 in
theorem t_CM_is (rg : Nat → PH → Nat → Nat → Int32 → Option RH) {d : Nat} (hrg : (∀ (h : PH) (this : Nat) (x1 : Nat) (x2 : Int32), MM yX16_is (ws_ yX16_is cX16_is 3 (some .boolean)) (116 + d) [.ref this, .ref x1, .int x2] h (rg 0 h this x1 x2)) ∧ (∀ (h : PH) (this : Nat) (x1 : Nat) (x2 : Int32), MM yX17_is (ws_ yX17_is cX17_is 5 (some .boolean)) (116 + d) [.ref this, .ref x1, .int x2] h (rg 1 h this x1 x2)) ∧ (∀ (h : PH) (this : Nat) (x1 : Nat) (x2 : Int32), MM yX18_is (ws_ yX18_is cX18_is 5 (some .boolean)) (116 + d) [.ref this, .ref x1, .int x2] h (rg 2 h this x1 x2)) ∧ (∀ (h : PH) (this : Nat) (x1 : Nat) (x2 : Int32), MM yX19_is (ws_ yX19_is cX19_is 3 (some .boolean)) (116 + d) [.ref this, .ref x1, .int x2] h (rg 3 h this x1 x2)) ∧ (∀ (h : PH) (this : Nat) (x1 : Nat) (x2 : Int32), MM yX20_is (ws_ yX20_is cX20_is 3 (some .boolean)) (116 + d) [.ref this, .ref x1, .int x2] h (rg 4 h this x1 x2))) (h : PH) (this : Nat) (x1 : Nat) (x2 : Int32) : MM yX17_is (ws_ yX17_is cX17_is 5 (some .boolean)) (116 + d + 1) [.ref this, .ref x1, .int x2] h (b_CM_is rg h this x1 x2) := by
  refine MM.of (by decide) rfl (by decide) (Nat.le_of_ble_eq_true rfl) (own := RX17) (cc := cX17_is) (maxL := 5) (lev := (116 + d + 1)) (rt := (some .boolean)) (ini := false) ?_
  show Sim (Y_CM_is d) h 0 [(0, .ref this), (1, .ref x1), (2, .int x2)] [] _
  unfold b_CM_is
  refine x_grd ?_
  refine x_aload_nR (pc := 0) (a := x1) 1 rfl rfl dX17_is_0 ?_
  refine x_iload_n (pc := 1) 2 rfl rfl dX17_is_1 ?_
  refine x_callVN (pc := 2) (As := [.int x2]) (rest := []) (lev' := 114) si_X17_18 (m_B_rope h x1 x2) (fun z e => grd1 e) rfl rfl (by omega) (cat4 (Nat.le_of_ble_eq_true rfl)) dX17_is_2 (kQ (fun v2 h1 => ?_)) xNo
  refine x_astore_n (pc := 5) (r := v2) (lv' := [(3, va_rf v2), (0, .ref this), (1, .ref x1), (2, .int x2)]) rfl (by decide) rfl dX17_is_5 ?_
  refine x_aload_nR (pc := 6) (a := this) 1 rfl rfl dX17_is_6 ?_
  refine x_getI (pc := 7) fi_X17_9 dX17_is_7 ?_
  intro v3
  refine x_sw0 (pc := 10) (lo := 0) ?_
  refine x_sw (pc := 10) (v := 0) 36 dX17_is_10 rfl (by decide) (by decide) rfl (by decide) ?_ ?_
  · refine x_aload_n (pc := 36) (r := v2) 0 rfl rfl dX17_is_36 ?_
    refine x_nn (fun a4 e5 => ?_)
    subst e5
    refine x_callV (pc := 37) (As := []) (rest := []) (lev' := 1) si_X17_22 (m_R_wide h1 a4) (fun z e => grd1 e) rfl rfl (by omega) (cat4 (Nat.le_of_ble_eq_true rfl)) dX17_is_37 (kI (fun v7 h6 => ?_)) xNo
    refine x_if_ne (pc := 40) 47 (by decide) dX17_is_40 ?_ ?_
    · refine x_iconst (pc := 47) (v := 0) (by decide) dX17_is_47 ?_
      exact x_zret (pc := 48) dX17_is_48
    · refine x_iconst (pc := 43) (v := 1) (by decide) dX17_is_43 ?_
      refine x_goto (pc := 44) 48 (by decide) dX17_is_44 ?_
      exact x_zret (pc := 48) dX17_is_48
  refine x_sw (pc := 10) (v := 1) 49 dX17_is_10 rfl (by decide) (by decide) rfl (by decide) ?_ ?_
  · refine x_aload_n (pc := 49) (r := v2) 0 rfl rfl dX17_is_49 ?_
    refine x_nn (fun a8 e9 => ?_)
    subst e9
    refine x_callV (pc := 50) (As := []) (rest := []) (lev' := 1) si_X17_28 (m_R_lit h1 a8) (fun z e => grd1 e) rfl rfl (by omega) (cat4 (Nat.le_of_ble_eq_true rfl)) dX17_is_50 (kI (fun v11 h10 => ?_)) xNo
    refine x_iconst (pc := 53) (v := 2) (by decide) dX17_is_53 ?_
    refine x_irem (pc := 54) dX17_is_54 ?_
    refine x_if_ne (pc := 55) 62 (by decide) dX17_is_55 ?_ ?_
    · refine x_iconst (pc := 62) (v := 0) (by decide) dX17_is_62 ?_
      exact x_zret (pc := 63) dX17_is_63
    · refine x_iconst (pc := 58) (v := 1) (by decide) dX17_is_58 ?_
      refine x_goto (pc := 59) 63 (by decide) dX17_is_59 ?_
      exact x_zret (pc := 63) dX17_is_63
  refine x_sw (pc := 10) (v := 2) 64 dX17_is_10 rfl (by decide) (by decide) rfl (by decide) ?_ ?_
  · refine x_aload_nR (pc := 64) (a := x1) 2 rfl rfl dX17_is_64 ?_
    refine x_iload_n (pc := 65) 3 rfl rfl dX17_is_65 ?_
    refine x_aload_nR (pc := 66) (a := this) 1 rfl rfl dX17_is_66 ?_
    refine x_getI (pc := 67) fi_X17_15 dX17_is_67 ?_
    intro v12
    refine x_callVN (pc := 70) (As := [.int x2, .int v12]) (rest := []) (lev' := 115) si_X17_31 (m_B_differs h1 x1 x2 v12) (fun z e => grd1 e) rfl rfl (by omega) (cat4 (Nat.le_of_ble_eq_true rfl)) dX17_is_70 (kI (fun v14 h13 => ?_)) xNo
    refine x_iconst (pc := 73) (v := (-1)) (by decide) dX17_is_73 ?_
    refine x_icmp_ne (pc := 74) 81 (by decide) dX17_is_74 ?_ ?_
    · refine x_iconst (pc := 81) (v := 0) (by decide) dX17_is_81 ?_
      exact x_zret (pc := 82) dX17_is_82
    · refine x_iconst (pc := 77) (v := 1) (by decide) dX17_is_77 ?_
      refine x_goto (pc := 78) 82 (by decide) dX17_is_78 ?_
      exact x_zret (pc := 82) dX17_is_82
  refine x_swD (pc := 10) 83 dX17_is_10 (by decide) (by decide) ?_
  refine x_aload_nR (pc := 83) (a := x1) 2 rfl rfl dX17_is_83 ?_
  refine x_iload_n (pc := 84) 3 rfl rfl dX17_is_84 ?_
  refine x_aload_nR (pc := 85) (a := this) 1 rfl rfl dX17_is_85 ?_
  refine x_getI (pc := 86) fi_X17_15 dX17_is_86 ?_
  intro v15
  refine x_callVN (pc := 89) (As := [.int x2, .int v15]) (rest := []) (lev' := 115) si_X17_31 (m_B_differs h1 x1 x2 v15) (fun z e => grd1 e) rfl rfl (by omega) (cat4 (Nat.le_of_ble_eq_true rfl)) dX17_is_89 (kI (fun v17 h16 => ?_)) xNo
  refine x_istore (pc := 92) (lv' := [(4, .int v17), (3, va_rf v2), (0, .ref this), (1, .ref x1), (2, .int x2)]) (by decide) (by simp [rf_cat]) dX17_is_92 ?_
  refine x_iload (pc := 94) 0 rfl dX17_is_94 ?_
  refine x_iconst (pc := 96) (v := (-1)) (by decide) dX17_is_96 ?_
  refine x_icmp_eq (pc := 97) 116 (by decide) dX17_is_97 ?_ ?_
  · refine x_iconst (pc := 116) (v := 1) (by decide) dX17_is_116 ?_
    refine x_goto (pc := 117) 121 (by decide) dX17_is_117 ?_
    exact x_zret (pc := 121) dX17_is_121
  · refine x_iload (pc := 100) 0 rfl dX17_is_100 ?_
    refine x_aload_nR (pc := 102) (a := x1) 3 rfl rfl dX17_is_102 ?_
    refine x_aload_nR (pc := 103) (a := this) 2 rfl rfl dX17_is_103 ?_
    refine x_getI (pc := 104) fi_X17_15 dX17_is_104 ?_
    intro v18
    refine x_callVN (pc := 107) (As := [.int v18]) (rest := [.int v17]) (lev' := 114) si_X17_18 (m_B_rope h16 x1 v18) (fun z e => grd1 e) rfl rfl (by omega) (cat4 (Nat.le_of_ble_eq_true rfl)) dX17_is_107 (kQ (fun v20 h19 => ?_)) xNo
    refine x_nn (fun a21 e22 => ?_)
    subst e22
    refine x_callV (pc := 110) (As := []) (rest := [.int v17]) (lev' := 1) si_X17_22 (m_R_wide h19 a21) (fun z e => grd1 e) rfl rfl (by omega) (cat4 (Nat.le_of_ble_eq_true rfl)) dX17_is_110 (kI (fun v24 h23 => ?_)) xNo
    refine x_icmp_ne (pc := 113) 120 (by decide) dX17_is_113 ?_ ?_
    · refine x_iconst (pc := 120) (v := 0) (by decide) dX17_is_120 ?_
      exact x_zret (pc := 121) dX17_is_121
    · refine x_iconst (pc := 116) (v := 1) (by decide) dX17_is_116 ?_
      refine x_goto (pc := 117) 121 (by decide) dX17_is_117 ?_
      exact x_zret (pc := 121) dX17_is_121
abbrev Y_B_runsOf : Yx := (RX1, cX1_runsOf, 4, 115, (some .int), [], false)
def c_B_runsOf_l4 (r4 : PH → Nat → Int32 → Int32 → Int32 → Option RH) (h : PH) (this : Nat) (x1 : Int32) (x2 : Int32) (x3 : Int32) : Option RH :=
  hQ (c_B_rope h this x1) noX fun v2 h1 =>
  nn v2 fun a3 =>
  hI (c_R_wide h1 a3) noX fun v6 h5 =>
  if v6 ≤ x3 then
    rI x2 h5
  else
    if x3 = 0 then
      r4 h5 this x1 (x2 + (1 : Int32)) (x3 + (1 : Int32))
    else
      hQ (c_B_rope h5 this x1) noX fun v8 h7 =>
      nn v8 fun a9 =>
      hI (c_R_get h7 a9 x3) noX fun v12 h11 =>
      hQ (c_B_rope h11 this x1) noX fun v14 h13 =>
      nn v14 fun a15 =>
      hI (c_R_get h13 a15 (x3 - (1 : Int32))) noX fun v18 h17 =>
      if v12 = v18 then
        r4 h17 this x1 x2 (x3 + (1 : Int32))
      else
        r4 h17 this x1 (x2 + (1 : Int32)) (x3 + (1 : Int32))
def c_B_runsOf (h : PH) (this : Nat) (x1 : Int32) : Option RH :=
  grd h this [0] (
  itr (c_B_runsOf_l4) (fun _ _ _ _ _ => none) FU h this x1 (0 : Int32) (0 : Int32))
set_option maxHeartbeats 4000000 in
theorem w_B_runsOf_l4 (r4 : PH → Nat → Int32 → Int32 → Int32 → Option RH) (hr4 : ∀ (h : PH) (this : Nat) (x1 : Int32) (x2 : Int32) (x3 : Int32), Sim Y_B_runsOf h 4 [(0, .ref this), (1, .int x1), (2, .int x2), (3, .int x3)] [] (r4 h this x1 x2 x3)) (h : PH) (this : Nat) (x1 : Int32) (x2 : Int32) (x3 : Int32) : Sim Y_B_runsOf h 4 [(0, .ref this), (1, .int x1), (2, .int x2), (3, .int x3)] [] (c_B_runsOf_l4 r4 h this x1 x2 x3) := by
  unfold c_B_runsOf_l4
  refine x_iload_n (pc := 4) 3 rfl rfl dX1_runsOf_4 ?_
  refine x_aload_nR (pc := 5) (a := this) 0 rfl rfl dX1_runsOf_5 ?_
  refine x_iload_n (pc := 6) 1 rfl rfl dX1_runsOf_6 ?_
  refine x_callV (pc := 7) (As := [.int x1]) (rest := [.int x3]) (lev' := 114) si_X1_204 (m_B_rope h this x1) (fun z e => grd1 e) rfl rfl (by decide) (cat4 (Nat.le_of_ble_eq_true rfl)) dX1_runsOf_7 (kQ (fun v2 h1 => ?_)) xNo
  refine x_nn (fun a3 e4 => ?_)
  subst e4
  refine x_callV (pc := 10) (As := []) (rest := [.int x3]) (lev' := 1) si_X1_194 (m_R_wide h1 a3) (fun z e => grd1 e) rfl rfl (by decide) (cat4 (Nat.le_of_ble_eq_true rfl)) dX1_runsOf_10 (kI (fun v6 h5 => ?_)) xNo
  refine x_icmp_ge (pc := 13) 52 (by decide) dX1_runsOf_13 ?_ ?_
  · refine x_iload_n (pc := 52) 2 rfl rfl dX1_runsOf_52 ?_
    exact x_iret (pc := 53) dX1_runsOf_53
  · refine x_iload_n (pc := 16) 3 rfl rfl dX1_runsOf_16 ?_
    refine x_if_eq (pc := 17) 43 (by decide) dX1_runsOf_17 ?_ ?_
    · refine x_iinc (pc := 43) (v := (1 : Int32)) (lv' := [(2, .int (x2 + (1 : Int32))), (0, .ref this), (1, .int x1), (3, .int x3)]) 2 rfl (by decide) (by decide) rfl dX1_runsOf_43 ?_
      refine x_iinc (pc := 46) (v := (1 : Int32)) (lv' := [(3, .int (x3 + (1 : Int32))), (2, .int (x2 + (1 : Int32))), (0, .ref this), (1, .int x1)]) 3 rfl (by decide) (by decide) rfl dX1_runsOf_46 ?_
      refine x_goto (pc := 49) 4 (by decide) dX1_runsOf_49 ?_
      refine Sim.lv [2, 3, 1, 0] rfl ?_
      exact hr4 h5 this x1 (x2 + (1 : Int32)) (x3 + (1 : Int32))
    · refine x_aload_nR (pc := 20) (a := this) 0 rfl rfl dX1_runsOf_20 ?_
      refine x_iload_n (pc := 21) 1 rfl rfl dX1_runsOf_21 ?_
      refine x_callV (pc := 22) (As := [.int x1]) (rest := []) (lev' := 114) si_X1_204 (m_B_rope h5 this x1) (fun z e => grd1 e) rfl rfl (by decide) (cat4 (Nat.le_of_ble_eq_true rfl)) dX1_runsOf_22 (kQ (fun v8 h7 => ?_)) xNo
      refine x_iload_n (pc := 25) 3 rfl rfl dX1_runsOf_25 ?_
      refine x_nn (fun a9 e10 => ?_)
      subst e10
      refine x_callV (pc := 26) (As := [.int x3]) (rest := []) (lev' := 3) si_X1_207 (m_R_get h7 a9 x3) (fun z e => grd1 e) rfl rfl (by decide) (cat4 (Nat.le_of_ble_eq_true rfl)) dX1_runsOf_26 (kI (fun v12 h11 => ?_)) xNo
      refine x_aload_nR (pc := 29) (a := this) 0 rfl rfl dX1_runsOf_29 ?_
      refine x_iload_n (pc := 30) 1 rfl rfl dX1_runsOf_30 ?_
      refine x_callV (pc := 31) (As := [.int x1]) (rest := [.int v12]) (lev' := 114) si_X1_204 (m_B_rope h11 this x1) (fun z e => grd1 e) rfl rfl (by decide) (cat4 (Nat.le_of_ble_eq_true rfl)) dX1_runsOf_31 (kQ (fun v14 h13 => ?_)) xNo
      refine x_iload_n (pc := 34) 3 rfl rfl dX1_runsOf_34 ?_
      refine x_iconst (pc := 35) (v := 1) (by decide) dX1_runsOf_35 ?_
      refine x_isub (pc := 36) dX1_runsOf_36 ?_
      refine x_nn (fun a15 e16 => ?_)
      subst e16
      refine x_callV (pc := 37) (As := [.int (x3 - (1 : Int32))]) (rest := [.int v12]) (lev' := 3) si_X1_207 (m_R_get h13 a15 (x3 - (1 : Int32))) (fun z e => grd1 e) rfl rfl (by decide) (cat4 (Nat.le_of_ble_eq_true rfl)) dX1_runsOf_37 (kI (fun v18 h17 => ?_)) xNo
      refine x_icmp_eq (pc := 40) 46 (by decide) dX1_runsOf_40 ?_ ?_
      · refine x_iinc (pc := 46) (v := (1 : Int32)) (lv' := [(3, .int (x3 + (1 : Int32))), (0, .ref this), (1, .int x1), (2, .int x2)]) 3 rfl (by decide) (by decide) rfl dX1_runsOf_46 ?_
        refine x_goto (pc := 49) 4 (by decide) dX1_runsOf_49 ?_
        refine Sim.lv [1, 2, 3, 0] rfl ?_
        exact hr4 h17 this x1 x2 (x3 + (1 : Int32))
      · refine x_iinc (pc := 43) (v := (1 : Int32)) (lv' := [(2, .int (x2 + (1 : Int32))), (0, .ref this), (1, .int x1), (3, .int x3)]) 2 rfl (by decide) (by decide) rfl dX1_runsOf_43 ?_
        refine x_iinc (pc := 46) (v := (1 : Int32)) (lv' := [(3, .int (x3 + (1 : Int32))), (2, .int (x2 + (1 : Int32))), (0, .ref this), (1, .int x1)]) 3 rfl (by decide) (by decide) rfl dX1_runsOf_46 ?_
        refine x_goto (pc := 49) 4 (by decide) dX1_runsOf_49 ?_
        refine Sim.lv [2, 3, 1, 0] rfl ?_
        exact hr4 h17 this x1 (x2 + (1 : Int32)) (x3 + (1 : Int32))
set_option maxHeartbeats 4000000 in
theorem v_B_runsOf_l4 : ∀ (n : Nat) (h : PH) (this : Nat) (x1 : Int32) (x2 : Int32) (x3 : Int32), Sim Y_B_runsOf h 4 [(0, .ref this), (1, .int x1), (2, .int x2), (3, .int x3)] [] (itr (c_B_runsOf_l4) (fun _ _ _ _ _ => none) n h this x1 x2 x3)
  | 0, h, this, x1, x2, x3 => Sim.none
  | n + 1, h, this, x1, x2, x3 => w_B_runsOf_l4 _ (v_B_runsOf_l4 n) h this x1 x2 x3
set_option maxHeartbeats 4000000 in
theorem m_B_runsOf (h : PH) (this : Nat) (x1 : Int32) : MM yX1_runsOf (ws_ yX1_runsOf cX1_runsOf 4 (some .int)) 115 [.ref this, .int x1] h (c_B_runsOf h this x1) := by
  refine MM.of (by decide) rfl (by decide) (Nat.le_of_ble_eq_true rfl) (own := RX1) (cc := cX1_runsOf) (maxL := 4) (lev := 115) (rt := (some .int)) (ini := false) ?_
  show Sim Y_B_runsOf h 0 [(0, .ref this), (1, .int x1)] [] _
  unfold c_B_runsOf
  refine x_grd ?_
  refine x_iconst (pc := 0) (v := 0) (by decide) dX1_runsOf_0 ?_
  refine x_istore_n (pc := 1) (lv' := [(2, .int (0 : Int32)), (0, .ref this), (1, .int x1)]) rfl (by decide) rfl dX1_runsOf_1 ?_
  refine x_iconst (pc := 2) (v := 0) (by decide) dX1_runsOf_2 ?_
  refine x_istore_n (pc := 3) (lv' := [(3, .int (0 : Int32)), (2, .int (0 : Int32)), (0, .ref this), (1, .int x1)]) rfl (by decide) rfl dX1_runsOf_3 ?_
  refine Sim.lv [2, 3, 1, 0] rfl ?_
  exact v_B_runsOf_l4 FU h this x1 (0 : Int32) (0 : Int32)
theorem si_X18_19 : SiVN RX18 19 0 "BitRopes" yX1_rope cX1_rope 2 (some (.object "BitRopes$Rope")) 1 := ⟨_, _, _, ci_0.1, by decide, q909, q110, q1520, q908, qs16, ⟨by decide, by decide, by decide +kernel⟩, by decide⟩
theorem si_X18_38 : SiV RX18 38 4 yX5_folds cX5_folds 1 (some .int) 0 := ⟨_, _, _, ci_4.1, by decide, lw_V q1524 q1020 q1021 q116 q1022, ⟨rfl, by decide, by decide, by decide +kernel⟩, by decide⟩
theorem si_X18_34 : SiVN RX18 34 0 "BitRopes" yX1_runsOf cX1_runsOf 4 (some .int) 1 := ⟨_, _, _, ci_0.1, by decide, q1007, q110, q1523, q1006, qs18, ⟨by decide, by decide, by decide +kernel⟩, by decide⟩
theorem si_X18_31 : SiV RX18 31 4 yX5_lit cX5_lit 1 (some .int) 0 := ⟨_, _, _, ci_4.1, by decide, lw_V q1522 q988 q989 q116 q990, ⟨rfl, by decide, by decide, by decide +kernel⟩, by decide⟩
theorem si_X18_25 : SiV RX18 25 4 yX5_wide cX5_wide 1 (some .int) 0 := ⟨_, _, _, ci_4.1, by decide, lw_V q1521 q736 q737 q116 q738, ⟨rfl, by decide, by decide, by decide +kernel⟩, by decide⟩
abbrev Y_CC_is (d : Nat) : Yx := (RX18, cX18_is, 5, (116 + d + 1), (some .boolean), [], false)
def c_CC_is_j67 (rg : Nat → PH → Nat → Nat → Int32 → Option RH) (h : PH) (this : Nat) (s0 : Int32) : Option RH :=
  gI h this [15] 1 fun v1 =>
  if v1 = (60 : Int32) then
    gI h this [15] 2 fun v5 =>
    if v5 ≤ s0 then
      rZ (0 : Int32) h
    else
      rZ (1 : Int32) h
  else
    gI h this [15] 1 fun v2 =>
    if v2 = (61 : Int32) then
      gI h this [15] 2 fun v4 =>
      if s0 = v4 then
        rZ (1 : Int32) h
      else
        rZ (0 : Int32) h
    else
      gI h this [15] 2 fun v3 =>
      if s0 ≤ v3 then
        rZ (0 : Int32) h
      else
        rZ (1 : Int32) h
def b_CC_is (rg : Nat → PH → Nat → Nat → Int32 → Option RH) (h : PH) (this : Nat) (x1 : Nat) (x2 : Int32) : Option RH :=
  grd h this [15] (
  hQ (c_B_rope h x1 x2) noX fun v2 h1 =>
  gI h1 this [15] 0 fun v3 =>
  if v3 = 0 then
    nn v2 fun a17 =>
    hI (c_R_wide h1 a17) noX fun v20 h19 =>
    c_CC_is_j67 rg h19 this v20
  else
    gI h1 this [15] 0 fun v4 =>
    if v4 = (1 : Int32) then
      nn v2 fun a13 =>
      hI (c_R_lit h1 a13) noX fun v16 h15 =>
      c_CC_is_j67 rg h15 this v16
    else
      gI h1 this [15] 0 fun v5 =>
      if v5 = (2 : Int32) then
        hI (c_B_runsOf h1 x1 x2) noX fun v12 h11 =>
        c_CC_is_j67 rg h11 this v12
      else
        gI h1 this [15] 0 fun v6 =>
        if v6 = (3 : Int32) then
          nn v2 fun a7 =>
          hI (c_R_folds h1 a7) noX fun v10 h9 =>
          c_CC_is_j67 rg h9 this v10
        else
          c_CC_is_j67 rg h1 this x2)
set_option maxHeartbeats 4000000 in
theorem w_CC_is_j67 (rg : Nat → PH → Nat → Nat → Int32 → Option RH) {d : Nat} (hrg : (∀ (h : PH) (this : Nat) (x1 : Nat) (x2 : Int32), MM yX16_is (ws_ yX16_is cX16_is 3 (some .boolean)) (116 + d) [.ref this, .ref x1, .int x2] h (rg 0 h this x1 x2)) ∧ (∀ (h : PH) (this : Nat) (x1 : Nat) (x2 : Int32), MM yX17_is (ws_ yX17_is cX17_is 5 (some .boolean)) (116 + d) [.ref this, .ref x1, .int x2] h (rg 1 h this x1 x2)) ∧ (∀ (h : PH) (this : Nat) (x1 : Nat) (x2 : Int32), MM yX18_is (ws_ yX18_is cX18_is 5 (some .boolean)) (116 + d) [.ref this, .ref x1, .int x2] h (rg 2 h this x1 x2)) ∧ (∀ (h : PH) (this : Nat) (x1 : Nat) (x2 : Int32), MM yX19_is (ws_ yX19_is cX19_is 3 (some .boolean)) (116 + d) [.ref this, .ref x1, .int x2] h (rg 3 h this x1 x2)) ∧ (∀ (h : PH) (this : Nat) (x1 : Nat) (x2 : Int32), MM yX20_is (ws_ yX20_is cX20_is 3 (some .boolean)) (116 + d) [.ref this, .ref x1, .int x2] h (rg 4 h this x1 x2))) (h : PH) (this : Nat) (s0 : Int32) : Sim (Y_CC_is d) h 67 [(0, .ref this)] [.int s0] (c_CC_is_j67 rg h this s0) := by
  unfold c_CC_is_j67
  refine x_istore (pc := 67) (lv' := [(4, .int s0), (0, .ref this)]) (by decide) rfl dX18_is_67 ?_
  refine x_aload_nR (pc := 69) (a := this) 1 rfl rfl dX18_is_69 ?_
  refine x_getI (pc := 70) fi_X18_13 dX18_is_70 ?_
  intro v1
  refine x_bipush (pc := 73) (v := 60) (by decide) dX18_is_73 ?_
  refine x_icmp_ne (pc := 75) 95 (by decide) dX18_is_75 ?_ ?_
  · refine x_aload_nR (pc := 95) (a := this) 1 rfl rfl dX18_is_95 ?_
    refine x_getI (pc := 96) fi_X18_13 dX18_is_96 ?_
    intro v2
    refine x_bipush (pc := 99) (v := 61) (by decide) dX18_is_99 ?_
    refine x_icmp_ne (pc := 101) 121 (by decide) dX18_is_101 ?_ ?_
    · refine x_iload (pc := 121) 0 rfl dX18_is_121 ?_
      refine x_aload_nR (pc := 123) (a := this) 1 rfl rfl dX18_is_123 ?_
      refine x_getI (pc := 124) fi_X18_16 dX18_is_124 ?_
      intro v3
      refine x_icmp_le (pc := 127) 134 (by decide) dX18_is_127 ?_ ?_
      · refine x_iconst (pc := 134) (v := 0) (by decide) dX18_is_134 ?_
        exact x_zret (pc := 135) dX18_is_135
      · refine x_iconst (pc := 130) (v := 1) (by decide) dX18_is_130 ?_
        refine x_goto (pc := 131) 135 (by decide) dX18_is_131 ?_
        exact x_zret (pc := 135) dX18_is_135
    · refine x_iload (pc := 104) 0 rfl dX18_is_104 ?_
      refine x_aload_nR (pc := 106) (a := this) 1 rfl rfl dX18_is_106 ?_
      refine x_getI (pc := 107) fi_X18_16 dX18_is_107 ?_
      intro v4
      refine x_icmp_ne (pc := 110) 117 (by decide) dX18_is_110 ?_ ?_
      · refine x_iconst (pc := 117) (v := 0) (by decide) dX18_is_117 ?_
        refine x_goto (pc := 118) 135 (by decide) dX18_is_118 ?_
        exact x_zret (pc := 135) dX18_is_135
      · refine x_iconst (pc := 113) (v := 1) (by decide) dX18_is_113 ?_
        refine x_goto (pc := 114) 135 (by decide) dX18_is_114 ?_
        exact x_zret (pc := 135) dX18_is_135
  · refine x_iload (pc := 78) 0 rfl dX18_is_78 ?_
    refine x_aload_nR (pc := 80) (a := this) 1 rfl rfl dX18_is_80 ?_
    refine x_getI (pc := 81) fi_X18_16 dX18_is_81 ?_
    intro v5
    refine x_icmp_ge (pc := 84) 91 (by decide) dX18_is_84 ?_ ?_
    · refine x_iconst (pc := 91) (v := 0) (by decide) dX18_is_91 ?_
      refine x_goto (pc := 92) 135 (by decide) dX18_is_92 ?_
      exact x_zret (pc := 135) dX18_is_135
    · refine x_iconst (pc := 87) (v := 1) (by decide) dX18_is_87 ?_
      refine x_goto (pc := 88) 135 (by decide) dX18_is_88 ?_
      exact x_zret (pc := 135) dX18_is_135
set_option maxHeartbeats 4000000 in
theorem t_CC_is (rg : Nat → PH → Nat → Nat → Int32 → Option RH) {d : Nat} (hrg : (∀ (h : PH) (this : Nat) (x1 : Nat) (x2 : Int32), MM yX16_is (ws_ yX16_is cX16_is 3 (some .boolean)) (116 + d) [.ref this, .ref x1, .int x2] h (rg 0 h this x1 x2)) ∧ (∀ (h : PH) (this : Nat) (x1 : Nat) (x2 : Int32), MM yX17_is (ws_ yX17_is cX17_is 5 (some .boolean)) (116 + d) [.ref this, .ref x1, .int x2] h (rg 1 h this x1 x2)) ∧ (∀ (h : PH) (this : Nat) (x1 : Nat) (x2 : Int32), MM yX18_is (ws_ yX18_is cX18_is 5 (some .boolean)) (116 + d) [.ref this, .ref x1, .int x2] h (rg 2 h this x1 x2)) ∧ (∀ (h : PH) (this : Nat) (x1 : Nat) (x2 : Int32), MM yX19_is (ws_ yX19_is cX19_is 3 (some .boolean)) (116 + d) [.ref this, .ref x1, .int x2] h (rg 3 h this x1 x2)) ∧ (∀ (h : PH) (this : Nat) (x1 : Nat) (x2 : Int32), MM yX20_is (ws_ yX20_is cX20_is 3 (some .boolean)) (116 + d) [.ref this, .ref x1, .int x2] h (rg 4 h this x1 x2))) (h : PH) (this : Nat) (x1 : Nat) (x2 : Int32) : MM yX18_is (ws_ yX18_is cX18_is 5 (some .boolean)) (116 + d + 1) [.ref this, .ref x1, .int x2] h (b_CC_is rg h this x1 x2) := by
  refine MM.of (by decide) rfl (by decide) (Nat.le_of_ble_eq_true rfl) (own := RX18) (cc := cX18_is) (maxL := 5) (lev := (116 + d + 1)) (rt := (some .boolean)) (ini := false) ?_
  show Sim (Y_CC_is d) h 0 [(0, .ref this), (1, .ref x1), (2, .int x2)] [] _
  unfold b_CC_is
  refine x_grd ?_
  refine x_aload_nR (pc := 0) (a := x1) 1 rfl rfl dX18_is_0 ?_
  refine x_iload_n (pc := 1) 2 rfl rfl dX18_is_1 ?_
  refine x_callVN (pc := 2) (As := [.int x2]) (rest := []) (lev' := 114) si_X18_19 (m_B_rope h x1 x2) (fun z e => grd1 e) rfl rfl (by omega) (cat4 (Nat.le_of_ble_eq_true rfl)) dX18_is_2 (kQ (fun v2 h1 => ?_)) xNo
  refine x_astore_n (pc := 5) (r := v2) (lv' := [(3, va_rf v2), (0, .ref this), (1, .ref x1), (2, .int x2)]) rfl (by decide) rfl dX18_is_5 ?_
  refine x_aload_nR (pc := 6) (a := this) 1 rfl rfl dX18_is_6 ?_
  refine x_getI (pc := 7) fi_X18_7 dX18_is_7 ?_
  intro v3
  refine x_if_ne (pc := 10) 20 (by decide) dX18_is_10 ?_ ?_
  · refine x_aload_nR (pc := 20) (a := this) 1 rfl rfl dX18_is_20 ?_
    refine x_getI (pc := 21) fi_X18_7 dX18_is_21 ?_
    intro v4
    refine x_iconst (pc := 24) (v := 1) (by decide) dX18_is_24 ?_
    refine x_icmp_ne (pc := 25) 35 (by decide) dX18_is_25 ?_ ?_
    · refine x_aload_nR (pc := 35) (a := this) 1 rfl rfl dX18_is_35 ?_
      refine x_getI (pc := 36) fi_X18_7 dX18_is_36 ?_
      intro v5
      refine x_iconst (pc := 39) (v := 2) (by decide) dX18_is_39 ?_
      refine x_icmp_ne (pc := 40) 51 (by decide) dX18_is_40 ?_ ?_
      · refine x_aload_nR (pc := 51) (a := this) 1 rfl rfl dX18_is_51 ?_
        refine x_getI (pc := 52) fi_X18_7 dX18_is_52 ?_
        intro v6
        refine x_iconst (pc := 55) (v := 3) (by decide) dX18_is_55 ?_
        refine x_icmp_ne (pc := 56) 66 (by decide) dX18_is_56 ?_ ?_
        · refine x_iload_n (pc := 66) 3 rfl rfl dX18_is_66 ?_
          refine Sim.lv [1] rfl ?_
          exact w_CC_is_j67 rg hrg h1 this x2
        · refine x_aload_n (pc := 59) (r := v2) 0 rfl rfl dX18_is_59 ?_
          refine x_nn (fun a7 e8 => ?_)
          subst e8
          refine x_callV (pc := 60) (As := []) (rest := []) (lev' := 1) si_X18_38 (m_R_folds h1 a7) (fun z e => grd1 e) rfl rfl (by omega) (cat4 (Nat.le_of_ble_eq_true rfl)) dX18_is_60 (kI (fun v10 h9 => ?_)) xNo
          refine x_goto (pc := 63) 67 (by decide) dX18_is_63 ?_
          refine Sim.lv [1] rfl ?_
          exact w_CC_is_j67 rg hrg h9 this v10
      · refine x_aload_nR (pc := 43) (a := x1) 2 rfl rfl dX18_is_43 ?_
        refine x_iload_n (pc := 44) 3 rfl rfl dX18_is_44 ?_
        refine x_callVN (pc := 45) (As := [.int x2]) (rest := []) (lev' := 115) si_X18_34 (m_B_runsOf h1 x1 x2) (fun z e => grd1 e) rfl rfl (by omega) (cat4 (Nat.le_of_ble_eq_true rfl)) dX18_is_45 (kI (fun v12 h11 => ?_)) xNo
        refine x_goto (pc := 48) 67 (by decide) dX18_is_48 ?_
        refine Sim.lv [1] rfl ?_
        exact w_CC_is_j67 rg hrg h11 this v12
    · refine x_aload_n (pc := 28) (r := v2) 0 rfl rfl dX18_is_28 ?_
      refine x_nn (fun a13 e14 => ?_)
      subst e14
      refine x_callV (pc := 29) (As := []) (rest := []) (lev' := 1) si_X18_31 (m_R_lit h1 a13) (fun z e => grd1 e) rfl rfl (by omega) (cat4 (Nat.le_of_ble_eq_true rfl)) dX18_is_29 (kI (fun v16 h15 => ?_)) xNo
      refine x_goto (pc := 32) 67 (by decide) dX18_is_32 ?_
      refine Sim.lv [1] rfl ?_
      exact w_CC_is_j67 rg hrg h15 this v16
  · refine x_aload_n (pc := 13) (r := v2) 0 rfl rfl dX18_is_13 ?_
    refine x_nn (fun a17 e18 => ?_)
    subst e18
    refine x_callV (pc := 14) (As := []) (rest := []) (lev' := 1) si_X18_25 (m_R_wide h1 a17) (fun z e => grd1 e) rfl rfl (by omega) (cat4 (Nat.le_of_ble_eq_true rfl)) dX18_is_14 (kI (fun v20 h19 => ?_)) xNo
    refine x_goto (pc := 17) 67 (by decide) dX18_is_17 ?_
    refine Sim.lv [1] rfl ?_
    exact w_CC_is_j67 rg hrg h19 this v20
theorem si_X20_16_0 : SiF RX20 16 13 yX16_is cX16_is 3 := ⟨_, _, _, ci_13.1, by decide, (.head _), lw_F q1505 q1536 q1538 q139 q1540, by decide⟩
theorem si_X20_16_1 : SiF RX20 16 14 yX17_is cX17_is 5 := ⟨_, _, _, ci_14.1, by decide, (.tail _ (.head _)), lw_F q1505 q1526 q1528 q140 q1530, by decide⟩
theorem si_X20_16_2 : SiF RX20 16 15 yX18_is cX18_is 5 := ⟨_, _, _, ci_15.1, by decide, (.tail _ (.tail _ (.head _))), lw_F q1505 q1515 q1517 q141 q1519, by decide⟩
theorem si_X20_16_3 : SiF RX20 16 16 yX19_is cX19_is 3 := ⟨_, _, _, ci_16.1, by decide, (.tail _ (.tail _ (.tail _ (.head _)))), lw_F q1505 q1507 q1509 q142 q1511, by decide⟩
theorem si_X20_16_4 : SiF RX20 16 17 yX20_is cX20_is 3 := ⟨_, _, _, ci_17.1, by decide, (.tail _ (.tail _ (.tail _ (.tail _ (.head _))))), lw_F q1505 q1499 q1501 q143 q1503, by decide⟩
abbrev Y_CA_is (d : Nat) : Yx := (RX20, cX20_is, 3, (116 + d + 1), (some .boolean), [], false)
def b_CA_is (rg : Nat → PH → Nat → Nat → Int32 → Option RH) (h : PH) (this : Nat) (x1 : Nat) (x2 : Int32) : Option RH :=
  grd h this [17] (
  gQ h this [17] 0 fun v1 =>
  nn v1 fun a2 =>
  hI (dspC h a2 fun i => rg i h a2 x1 x2) noX fun v4 h5 =>
  if v4 = 0 then
    gQ h5 this [17] 1 fun v6 =>
    nn v6 fun a7 =>
    hI (dspC h5 a7 fun i => rg i h5 a7 x1 x2) noX fun v9 h10 =>
    if v9 = 0 then
      rZ (0 : Int32) h10
    else
      rZ (1 : Int32) h10
  else
    rZ (1 : Int32) h5)
set_option maxHeartbeats 4000000 in
theorem t_CA_is (rg : Nat → PH → Nat → Nat → Int32 → Option RH) {d : Nat} (hrg : (∀ (h : PH) (this : Nat) (x1 : Nat) (x2 : Int32), MM yX16_is (ws_ yX16_is cX16_is 3 (some .boolean)) (116 + d) [.ref this, .ref x1, .int x2] h (rg 0 h this x1 x2)) ∧ (∀ (h : PH) (this : Nat) (x1 : Nat) (x2 : Int32), MM yX17_is (ws_ yX17_is cX17_is 5 (some .boolean)) (116 + d) [.ref this, .ref x1, .int x2] h (rg 1 h this x1 x2)) ∧ (∀ (h : PH) (this : Nat) (x1 : Nat) (x2 : Int32), MM yX18_is (ws_ yX18_is cX18_is 5 (some .boolean)) (116 + d) [.ref this, .ref x1, .int x2] h (rg 2 h this x1 x2)) ∧ (∀ (h : PH) (this : Nat) (x1 : Nat) (x2 : Int32), MM yX19_is (ws_ yX19_is cX19_is 3 (some .boolean)) (116 + d) [.ref this, .ref x1, .int x2] h (rg 3 h this x1 x2)) ∧ (∀ (h : PH) (this : Nat) (x1 : Nat) (x2 : Int32), MM yX20_is (ws_ yX20_is cX20_is 3 (some .boolean)) (116 + d) [.ref this, .ref x1, .int x2] h (rg 4 h this x1 x2))) (h : PH) (this : Nat) (x1 : Nat) (x2 : Int32) : MM yX20_is (ws_ yX20_is cX20_is 3 (some .boolean)) (116 + d + 1) [.ref this, .ref x1, .int x2] h (b_CA_is rg h this x1 x2) := by
  refine MM.of (by decide) rfl (by decide) (Nat.le_of_ble_eq_true rfl) (own := RX20) (cc := cX20_is) (maxL := 3) (lev := (116 + d + 1)) (rt := (some .boolean)) (ini := false) ?_
  show Sim (Y_CA_is d) h 0 [(0, .ref this), (1, .ref x1), (2, .int x2)] [] _
  unfold b_CA_is
  refine x_grd ?_
  refine x_aload_nR (pc := 0) (a := this) 0 rfl rfl dX20_is_0 ?_
  refine x_getQ (pc := 1) fi_X20_7 dX20_is_1 ?_
  intro v1
  refine x_aload_nR (pc := 4) (a := x1) 1 rfl rfl dX20_is_4 ?_
  refine x_iload_n (pc := 5) 2 rfl rfl dX20_is_5 ?_
  refine x_nn (fun a2 e3 => ?_)
  subst e3
  refine x_callFC (pc := 6) (rest := []) (rg := rg) (lev' := (116 + d)) si_X20_16_0 si_X20_16_1 si_X20_16_2 si_X20_16_3 si_X20_16_4 hrg (by omega) (cat4 (Nat.le_of_ble_eq_true rfl)) dX20_is_6 (fun v4 h5 => ?_)
  refine x_if_ne (pc := 11) 28 (by decide) dX20_is_11 ?_ ?_
  · refine x_iconst (pc := 28) (v := 1) (by decide) dX20_is_28 ?_
    refine x_goto (pc := 29) 33 (by decide) dX20_is_29 ?_
    exact x_zret (pc := 33) dX20_is_33
  · refine x_aload_nR (pc := 14) (a := this) 0 rfl rfl dX20_is_14 ?_
    refine x_getQ (pc := 15) fi_X20_13 dX20_is_15 ?_
    intro v6
    refine x_aload_nR (pc := 18) (a := x1) 1 rfl rfl dX20_is_18 ?_
    refine x_iload_n (pc := 19) 2 rfl rfl dX20_is_19 ?_
    refine x_nn (fun a7 e8 => ?_)
    subst e8
    refine x_callFC (pc := 20) (rest := []) (rg := rg) (lev' := (116 + d)) si_X20_16_0 si_X20_16_1 si_X20_16_2 si_X20_16_3 si_X20_16_4 hrg (by omega) (cat4 (Nat.le_of_ble_eq_true rfl)) dX20_is_20 (fun v9 h10 => ?_)
    refine x_if_eq (pc := 25) 32 (by decide) dX20_is_25 ?_ ?_
    · refine x_iconst (pc := 32) (v := 0) (by decide) dX20_is_32 ?_
      exact x_zret (pc := 33) dX20_is_33
    · refine x_iconst (pc := 28) (v := 1) (by decide) dX20_is_28 ?_
      refine x_goto (pc := 29) 33 (by decide) dX20_is_29 ?_
      exact x_zret (pc := 33) dX20_is_33
theorem si_X19_16_0 : SiF RX19 16 13 yX16_is cX16_is 3 := ⟨_, _, _, ci_13.1, by decide, (.head _), lw_F q1513 q1536 q1538 q139 q1540, by decide⟩
theorem si_X19_16_1 : SiF RX19 16 14 yX17_is cX17_is 5 := ⟨_, _, _, ci_14.1, by decide, (.tail _ (.head _)), lw_F q1513 q1526 q1528 q140 q1530, by decide⟩
theorem si_X19_16_2 : SiF RX19 16 15 yX18_is cX18_is 5 := ⟨_, _, _, ci_15.1, by decide, (.tail _ (.tail _ (.head _))), lw_F q1513 q1515 q1517 q141 q1519, by decide⟩
theorem si_X19_16_3 : SiF RX19 16 16 yX19_is cX19_is 3 := ⟨_, _, _, ci_16.1, by decide, (.tail _ (.tail _ (.tail _ (.head _)))), lw_F q1513 q1507 q1509 q142 q1511, by decide⟩
theorem si_X19_16_4 : SiF RX19 16 17 yX20_is cX20_is 3 := ⟨_, _, _, ci_17.1, by decide, (.tail _ (.tail _ (.tail _ (.tail _ (.head _))))), lw_F q1513 q1499 q1501 q143 q1503, by decide⟩
abbrev Y_CB_is (d : Nat) : Yx := (RX19, cX19_is, 3, (116 + d + 1), (some .boolean), [], false)
def b_CB_is (rg : Nat → PH → Nat → Nat → Int32 → Option RH) (h : PH) (this : Nat) (x1 : Nat) (x2 : Int32) : Option RH :=
  grd h this [16] (
  gQ h this [16] 0 fun v1 =>
  nn v1 fun a2 =>
  hI (dspC h a2 fun i => rg i h a2 x1 x2) noX fun v4 h5 =>
  if v4 = 0 then
    rZ (0 : Int32) h5
  else
    gQ h5 this [16] 1 fun v6 =>
    nn v6 fun a7 =>
    hI (dspC h5 a7 fun i => rg i h5 a7 x1 x2) noX fun v9 h10 =>
    if v9 = 0 then
      rZ (0 : Int32) h10
    else
      rZ (1 : Int32) h10)
set_option maxHeartbeats 4000000 in
theorem t_CB_is (rg : Nat → PH → Nat → Nat → Int32 → Option RH) {d : Nat} (hrg : (∀ (h : PH) (this : Nat) (x1 : Nat) (x2 : Int32), MM yX16_is (ws_ yX16_is cX16_is 3 (some .boolean)) (116 + d) [.ref this, .ref x1, .int x2] h (rg 0 h this x1 x2)) ∧ (∀ (h : PH) (this : Nat) (x1 : Nat) (x2 : Int32), MM yX17_is (ws_ yX17_is cX17_is 5 (some .boolean)) (116 + d) [.ref this, .ref x1, .int x2] h (rg 1 h this x1 x2)) ∧ (∀ (h : PH) (this : Nat) (x1 : Nat) (x2 : Int32), MM yX18_is (ws_ yX18_is cX18_is 5 (some .boolean)) (116 + d) [.ref this, .ref x1, .int x2] h (rg 2 h this x1 x2)) ∧ (∀ (h : PH) (this : Nat) (x1 : Nat) (x2 : Int32), MM yX19_is (ws_ yX19_is cX19_is 3 (some .boolean)) (116 + d) [.ref this, .ref x1, .int x2] h (rg 3 h this x1 x2)) ∧ (∀ (h : PH) (this : Nat) (x1 : Nat) (x2 : Int32), MM yX20_is (ws_ yX20_is cX20_is 3 (some .boolean)) (116 + d) [.ref this, .ref x1, .int x2] h (rg 4 h this x1 x2))) (h : PH) (this : Nat) (x1 : Nat) (x2 : Int32) : MM yX19_is (ws_ yX19_is cX19_is 3 (some .boolean)) (116 + d + 1) [.ref this, .ref x1, .int x2] h (b_CB_is rg h this x1 x2) := by
  refine MM.of (by decide) rfl (by decide) (Nat.le_of_ble_eq_true rfl) (own := RX19) (cc := cX19_is) (maxL := 3) (lev := (116 + d + 1)) (rt := (some .boolean)) (ini := false) ?_
  show Sim (Y_CB_is d) h 0 [(0, .ref this), (1, .ref x1), (2, .int x2)] [] _
  unfold b_CB_is
  refine x_grd ?_
  refine x_aload_nR (pc := 0) (a := this) 0 rfl rfl dX19_is_0 ?_
  refine x_getQ (pc := 1) fi_X19_7 dX19_is_1 ?_
  intro v1
  refine x_aload_nR (pc := 4) (a := x1) 1 rfl rfl dX19_is_4 ?_
  refine x_iload_n (pc := 5) 2 rfl rfl dX19_is_5 ?_
  refine x_nn (fun a2 e3 => ?_)
  subst e3
  refine x_callFC (pc := 6) (rest := []) (rg := rg) (lev' := (116 + d)) si_X19_16_0 si_X19_16_1 si_X19_16_2 si_X19_16_3 si_X19_16_4 hrg (by omega) (cat4 (Nat.le_of_ble_eq_true rfl)) dX19_is_6 (fun v4 h5 => ?_)
  refine x_if_eq (pc := 11) 32 (by decide) dX19_is_11 ?_ ?_
  · refine x_iconst (pc := 32) (v := 0) (by decide) dX19_is_32 ?_
    exact x_zret (pc := 33) dX19_is_33
  · refine x_aload_nR (pc := 14) (a := this) 0 rfl rfl dX19_is_14 ?_
    refine x_getQ (pc := 15) fi_X19_13 dX19_is_15 ?_
    intro v6
    refine x_aload_nR (pc := 18) (a := x1) 1 rfl rfl dX19_is_18 ?_
    refine x_iload_n (pc := 19) 2 rfl rfl dX19_is_19 ?_
    refine x_nn (fun a7 e8 => ?_)
    subst e8
    refine x_callFC (pc := 20) (rest := []) (rg := rg) (lev' := (116 + d)) si_X19_16_0 si_X19_16_1 si_X19_16_2 si_X19_16_3 si_X19_16_4 hrg (by omega) (cat4 (Nat.le_of_ble_eq_true rfl)) dX19_is_20 (fun v9 h10 => ?_)
    refine x_if_eq (pc := 25) 32 (by decide) dX19_is_25 ?_ ?_
    · refine x_iconst (pc := 32) (v := 0) (by decide) dX19_is_32 ?_
      exact x_zret (pc := 33) dX19_is_33
    · refine x_iconst (pc := 28) (v := 1) (by decide) dX19_is_28 ?_
      refine x_goto (pc := 29) 33 (by decide) dX19_is_29 ?_
      exact x_zret (pc := 33) dX19_is_33
theorem si_X16_13_0 : SiF RX16 13 13 yX16_is cX16_is 3 := ⟨_, _, _, ci_13.1, by decide, (.head _), lw_F q1542 q1536 q1538 q139 q1540, by decide⟩
theorem si_X16_13_1 : SiF RX16 13 14 yX17_is cX17_is 5 := ⟨_, _, _, ci_14.1, by decide, (.tail _ (.head _)), lw_F q1542 q1526 q1528 q140 q1530, by decide⟩
theorem si_X16_13_2 : SiF RX16 13 15 yX18_is cX18_is 5 := ⟨_, _, _, ci_15.1, by decide, (.tail _ (.tail _ (.head _))), lw_F q1542 q1515 q1517 q141 q1519, by decide⟩
theorem si_X16_13_3 : SiF RX16 13 16 yX19_is cX19_is 3 := ⟨_, _, _, ci_16.1, by decide, (.tail _ (.tail _ (.tail _ (.head _)))), lw_F q1542 q1507 q1509 q142 q1511, by decide⟩
theorem si_X16_13_4 : SiF RX16 13 17 yX20_is cX20_is 3 := ⟨_, _, _, ci_17.1, by decide, (.tail _ (.tail _ (.tail _ (.tail _ (.head _))))), lw_F q1542 q1499 q1501 q143 q1503, by decide⟩
abbrev Y_CN_is (d : Nat) : Yx := (RX16, cX16_is, 3, (116 + d + 1), (some .boolean), [], false)
def b_CN_is (rg : Nat → PH → Nat → Nat → Int32 → Option RH) (h : PH) (this : Nat) (x1 : Nat) (x2 : Int32) : Option RH :=
  grd h this [13] (
  gQ h this [13] 0 fun v1 =>
  nn v1 fun a2 =>
  hI (dspC h a2 fun i => rg i h a2 x1 x2) noX fun v4 h5 =>
  if v4 = 0 then
    rZ (1 : Int32) h5
  else
    rZ (0 : Int32) h5)
set_option maxHeartbeats 4000000 in
theorem t_CN_is (rg : Nat → PH → Nat → Nat → Int32 → Option RH) {d : Nat} (hrg : (∀ (h : PH) (this : Nat) (x1 : Nat) (x2 : Int32), MM yX16_is (ws_ yX16_is cX16_is 3 (some .boolean)) (116 + d) [.ref this, .ref x1, .int x2] h (rg 0 h this x1 x2)) ∧ (∀ (h : PH) (this : Nat) (x1 : Nat) (x2 : Int32), MM yX17_is (ws_ yX17_is cX17_is 5 (some .boolean)) (116 + d) [.ref this, .ref x1, .int x2] h (rg 1 h this x1 x2)) ∧ (∀ (h : PH) (this : Nat) (x1 : Nat) (x2 : Int32), MM yX18_is (ws_ yX18_is cX18_is 5 (some .boolean)) (116 + d) [.ref this, .ref x1, .int x2] h (rg 2 h this x1 x2)) ∧ (∀ (h : PH) (this : Nat) (x1 : Nat) (x2 : Int32), MM yX19_is (ws_ yX19_is cX19_is 3 (some .boolean)) (116 + d) [.ref this, .ref x1, .int x2] h (rg 3 h this x1 x2)) ∧ (∀ (h : PH) (this : Nat) (x1 : Nat) (x2 : Int32), MM yX20_is (ws_ yX20_is cX20_is 3 (some .boolean)) (116 + d) [.ref this, .ref x1, .int x2] h (rg 4 h this x1 x2))) (h : PH) (this : Nat) (x1 : Nat) (x2 : Int32) : MM yX16_is (ws_ yX16_is cX16_is 3 (some .boolean)) (116 + d + 1) [.ref this, .ref x1, .int x2] h (b_CN_is rg h this x1 x2) := by
  refine MM.of (by decide) rfl (by decide) (Nat.le_of_ble_eq_true rfl) (own := RX16) (cc := cX16_is) (maxL := 3) (lev := (116 + d + 1)) (rt := (some .boolean)) (ini := false) ?_
  show Sim (Y_CN_is d) h 0 [(0, .ref this), (1, .ref x1), (2, .int x2)] [] _
  unfold b_CN_is
  refine x_grd ?_
  refine x_aload_nR (pc := 0) (a := this) 0 rfl rfl dX16_is_0 ?_
  refine x_getQ (pc := 1) fi_X16_7 dX16_is_1 ?_
  intro v1
  refine x_aload_nR (pc := 4) (a := x1) 1 rfl rfl dX16_is_4 ?_
  refine x_iload_n (pc := 5) 2 rfl rfl dX16_is_5 ?_
  refine x_nn (fun a2 e3 => ?_)
  subst e3
  refine x_callFC (pc := 6) (rest := []) (rg := rg) (lev' := (116 + d)) si_X16_13_0 si_X16_13_1 si_X16_13_2 si_X16_13_3 si_X16_13_4 hrg (by omega) (cat4 (Nat.le_of_ble_eq_true rfl)) dX16_is_6 (fun v4 h5 => ?_)
  refine x_if_ne (pc := 11) 18 (by decide) dX16_is_11 ?_ ?_
  · refine x_iconst (pc := 18) (v := 0) (by decide) dX16_is_18 ?_
    exact x_zret (pc := 19) dX16_is_19
  · refine x_iconst (pc := 14) (v := 1) (by decide) dX16_is_14 ?_
    refine x_goto (pc := 15) 19 (by decide) dX16_is_15 ?_
    exact x_zret (pc := 19) dX16_is_19
def b_g_cond (rg : Nat → PH → Nat → Nat → Int32 → Option RH) (sel : Nat) : PH → Nat → Nat → Int32 → Option RH := match sel with
  | 0 => b_CN_is rg
  | 1 => b_CM_is rg
  | 2 => b_CC_is rg
  | 3 => b_CB_is rg
  | _ => b_CA_is rg
def c_g_cond : Nat → Nat → PH → Nat → Nat → Int32 → Option RH := itr b_g_cond (fun _ _ _ _ _ => none)
theorem m_g_cond : ∀ (d : Nat), (∀ (h : PH) (this : Nat) (x1 : Nat) (x2 : Int32), MM yX16_is (ws_ yX16_is cX16_is 3 (some .boolean)) (116 + d) [.ref this, .ref x1, .int x2] h (c_g_cond d 0 h this x1 x2)) ∧ (∀ (h : PH) (this : Nat) (x1 : Nat) (x2 : Int32), MM yX17_is (ws_ yX17_is cX17_is 5 (some .boolean)) (116 + d) [.ref this, .ref x1, .int x2] h (c_g_cond d 1 h this x1 x2)) ∧ (∀ (h : PH) (this : Nat) (x1 : Nat) (x2 : Int32), MM yX18_is (ws_ yX18_is cX18_is 5 (some .boolean)) (116 + d) [.ref this, .ref x1, .int x2] h (c_g_cond d 2 h this x1 x2)) ∧ (∀ (h : PH) (this : Nat) (x1 : Nat) (x2 : Int32), MM yX19_is (ws_ yX19_is cX19_is 3 (some .boolean)) (116 + d) [.ref this, .ref x1, .int x2] h (c_g_cond d 3 h this x1 x2)) ∧ (∀ (h : PH) (this : Nat) (x1 : Nat) (x2 : Int32), MM yX20_is (ws_ yX20_is cX20_is 3 (some .boolean)) (116 + d) [.ref this, .ref x1, .int x2] h (c_g_cond d 4 h this x1 x2))
  | 0 => ⟨fun _ _ _ _ => MM.none, fun _ _ _ _ => MM.none, fun _ _ _ _ => MM.none, fun _ _ _ _ => MM.none, fun _ _ _ _ => MM.none⟩
  | d + 1 => ⟨t_CN_is (d := d) (c_g_cond d) (m_g_cond d), t_CM_is (d := d) (c_g_cond d) (m_g_cond d), t_CC_is (d := d) (c_g_cond d) (m_g_cond d), t_CB_is (d := d) (c_g_cond d) (m_g_cond d), t_CA_is (d := d) (c_g_cond d) (m_g_cond d)⟩
def c_CN_is (d : Nat) (h : PH) (this : Nat) (x1 : Nat) (x2 : Int32) : Option RH := c_g_cond d 0 h this x1 x2
theorem m_CN_is (d : Nat) (h : PH) (this : Nat) (x1 : Nat) (x2 : Int32) : MM yX16_is (ws_ yX16_is cX16_is 3 (some .boolean)) (116 + d) [.ref this, .ref x1, .int x2] h (c_CN_is d h this x1 x2) := (m_g_cond d).1 h this x1 x2
def c_CM_is (d : Nat) (h : PH) (this : Nat) (x1 : Nat) (x2 : Int32) : Option RH := c_g_cond d 1 h this x1 x2
theorem m_CM_is (d : Nat) (h : PH) (this : Nat) (x1 : Nat) (x2 : Int32) : MM yX17_is (ws_ yX17_is cX17_is 5 (some .boolean)) (116 + d) [.ref this, .ref x1, .int x2] h (c_CM_is d h this x1 x2) := (m_g_cond d).2.1 h this x1 x2
def c_CC_is (d : Nat) (h : PH) (this : Nat) (x1 : Nat) (x2 : Int32) : Option RH := c_g_cond d 2 h this x1 x2
theorem m_CC_is (d : Nat) (h : PH) (this : Nat) (x1 : Nat) (x2 : Int32) : MM yX18_is (ws_ yX18_is cX18_is 5 (some .boolean)) (116 + d) [.ref this, .ref x1, .int x2] h (c_CC_is d h this x1 x2) := (m_g_cond d).2.2.1 h this x1 x2
def c_CB_is (d : Nat) (h : PH) (this : Nat) (x1 : Nat) (x2 : Int32) : Option RH := c_g_cond d 3 h this x1 x2
theorem m_CB_is (d : Nat) (h : PH) (this : Nat) (x1 : Nat) (x2 : Int32) : MM yX19_is (ws_ yX19_is cX19_is 3 (some .boolean)) (116 + d) [.ref this, .ref x1, .int x2] h (c_CB_is d h this x1 x2) := (m_g_cond d).2.2.2.1 h this x1 x2
def c_CA_is (d : Nat) (h : PH) (this : Nat) (x1 : Nat) (x2 : Int32) : Option RH := c_g_cond d 4 h this x1 x2
theorem m_CA_is (d : Nat) (h : PH) (this : Nat) (x1 : Nat) (x2 : Int32) : MM yX20_is (ws_ yX20_is cX20_is 3 (some .boolean)) (116 + d) [.ref this, .ref x1, .int x2] h (c_CA_is d h this x1 x2) := (m_g_cond d).2.2.2.2 h this x1 x2
abbrev Y_K_init : Yx := (RX21, cX21_init, 1, 1, none, [], true)
def c_K_init (h : PH) (this : Nat) : Option RH :=
  grd h this [18] (
  rV h)
set_option maxHeartbeats 4000000 in
theorem m_K_init (h : PH) (this : Nat) : MM yX21_init (ws_ yX21_init cX21_init 1 none) 1 [.ref this] h (c_K_init h this) := by
  refine MM.of (by decide) rfl (by decide) (Nat.le_of_ble_eq_true rfl) (own := RX21) (cc := cX21_init) (maxL := 1) (lev := 1) (rt := none) (ini := true) ?_
  show Sim Y_K_init h 0 [(0, .ref this)] [] _
  unfold c_K_init
  refine x_grd ?_
  refine x_aload_nR (pc := 0) (a := this) 0 rfl rfl dX21_init_0 ?_
  refine x_objInit (pc := 1) q1551 (by omega) (by decide) dX21_init_1 ?_
  exact x_vret (pc := 4) dX21_init_4
theorem fi_X1_9 : FI RX1 9 [0] 0 (.array .byte) true true := (fi_c ci_0 (by decide) rfl rfl (Or.inl q494) (Or.inl rfl) (fun _ _ => rfl) fi_n)
theorem ni_X1_13 : NI RX1 13 1 [.null, .null, .null, .null, .null, .int 0, .int 0, .int 0] := ⟨_, _, _, _, ci_1, q153, q154, q113, by decide +kernel, rfl⟩
theorem si_X1_15 : SiI RX1 15 yX2_init cX2_init 1 0 := ⟨q194, q113, q192, q193, rfl, ⟨by decide, by decide, by decide +kernel⟩, by decide⟩
theorem fi_X1_16 : FI RX1 16 [0] 3 (.object "BitRopes$Fault") true true := (fi_c ci_0 (by decide) rfl rfl (Or.inl q500) (Or.inl rfl) (fun _ _ => rfl) fi_n)
theorem fi_X1_28 : FI RX1 28 [0] 4 (.array (.object "java/lang/String")) true true := (fi_c ci_0 (by decide) rfl rfl (Or.inl q502) (Or.inl rfl) (fun _ _ => rfl) fi_n)
theorem fi_X1_72 : FI RX1 72 [0] 5 (.array (.object "java/lang/String")) true true := (fi_c ci_0 (by decide) rfl rfl (Or.inl q505) (Or.inl rfl) (fun _ _ => rfl) fi_n)
theorem ni_X1_75 : NI RX1 75 2 [.null, .int 0, .int 0] := ⟨_, _, _, _, ci_2, q248, q249, q114, by decide +kernel, rfl⟩
theorem si_X1_77 : SiIN RX1 77 "BitRopes" yX3_init cX3_init 1 0 := ⟨q252, q114, q250, q251, rfl, ⟨by decide, by decide, by decide +kernel⟩, by decide⟩
theorem fi_X1_78 : FI RX1 78 [0] 6 (.object "BitRopes$Room") false true := (fi_c ci_0 (by decide) rfl rfl (Or.inl q507) (Or.inl rfl) (fun h => absurd h (by decide)) fi_n)
theorem ni_X1_82 : NI RX1 82 3 [.null, .null, .int 0, .int 0] := ⟨_, _, _, _, ci_3, q275, q276, q115, by decide +kernel, rfl⟩
theorem si_X1_84 : SiI RX1 84 yX4_init cX4_init 2 0 := ⟨q279, q115, q277, q278, rfl, ⟨by decide, by decide, by decide +kernel⟩, by decide⟩
theorem fi_X1_89 : FI RX1 89 [0] 8 (.object "BitRopes$State") false true := (fi_c ci_0 (by decide) rfl rfl (Or.inl q511) (Or.inl rfl) (fun h => absurd h (by decide)) fi_n)
theorem ni_X1_92 : NI RX1 92 5 [.int 0, .int 0, .int 0, .int 0, .int 0, .int 0, .long 0, .null, .null, .null, .int 0, .null] := ⟨_, _, _, _, ci_5, q338, q339, q118, by decide +kernel, rfl⟩
theorem si_X1_94 : SiI RX1 94 yX7_init cX7_init 2 1 := ⟨q342, q118, q340, q341, rfl, ⟨by decide, by decide, by decide +kernel⟩, by decide⟩
theorem fi_X1_97 : FI RX1 97 [0] 9 (.object "BitRopes$RoomReade\x72") true true := (fi_c ci_0 (by decide) rfl rfl (Or.inl q512) (Or.inl rfl) (fun _ _ => rfl) fi_n)
theorem ni_X1_101 : NI RX1 101 6 [.int 0, .int 0, .int 0, .int 0, .int 0, .int 0, .long 0, .null, .null, .null, .int 0, .null] := ⟨_, _, _, _, ci_6, q398, q399, q119, by decide +kernel, rfl⟩
theorem si_X1_103 : SiI RX1 103 yX8_init cX8_init 2 1 := ⟨q402, q119, q400, q401, rfl, ⟨by decide, by decide, by decide +kernel⟩, by decide⟩
theorem fi_X1_104 : FI RX1 104 [0] 10 (.object "BitRopes$BookReade\x72") true true := (fi_c ci_0 (by decide) rfl rfl (Or.inl q513) (Or.inl rfl) (fun _ _ => rfl) fi_n)
theorem si_X1_108 : SiV RX1 108 3 yX4_begin cX4_begin 6 none 1 := ⟨_, _, _, ci_3.1, by decide, lw_V q438 q439 q440 q115 q441, ⟨rfl, by decide, by decide, by decide +kernel⟩, by decide⟩
theorem fi_X1_112 : FI RX1 112 [0] 12 (.array .int) true true := (fi_c ci_0 (by decide) rfl rfl (Or.inl q515) (Or.inl rfl) (fun _ _ => rfl) fi_n)
theorem fi_X1_116 : FI RX1 116 [0] 13 .int false true := (fi_c ci_0 (by decide) rfl rfl (Or.inl q516) (Or.inl rfl) (fun h => absurd h (by decide)) fi_n)
theorem fi_X1_122 : FI RX1 122 [0] 14 (.array (.array (.object "BitRopes$Packed"))) true true := (fi_c ci_0 (by decide) rfl rfl (Or.inl q517) (Or.inl rfl) (fun _ _ => rfl) fi_n)
theorem fi_X1_126 : FI RX1 126 [0] 16 (.array .int) true true := (fi_c ci_0 (by decide) rfl rfl (Or.inl q519) (Or.inl rfl) (fun _ _ => rfl) fi_n)
theorem ni_X1_129 : NI RX1 129 7 [.int 0, .int 0, .int 0, .int 0, .int 0, .int 0, .long 0, .null, .null, .null, .int 0, .null] := ⟨_, _, _, _, ci_7, q453, q454, q120, by decide +kernel, rfl⟩
theorem si_X1_131 : SiI RX1 131 yX9_init cX9_init 2 1 := ⟨q457, q120, q455, q456, rfl, ⟨by decide, by decide, by decide +kernel⟩, by decide⟩
theorem fi_X1_132 : FI RX1 132 [0] 18 (.object "BitRopes$SentenceReade\x72") true true := (fi_c ci_0 (by decide) rfl rfl (Or.inl q521) (Or.inl rfl) (fun _ _ => rfl) fi_n)
theorem fi_X1_138 : FI RX1 138 [0] 20 (.array (.object "BitRopes$Kept")) true true := (fi_c ci_0 (by decide) rfl rfl (Or.inl q523) (Or.inl rfl) (fun _ _ => rfl) fi_n)
abbrev Y_B_init : Yx := (RX1, cX1_init, 1, 4, none, [], true)
def c_B_init (h : PH) (this : Nat) : Option RH :=
  grd h this [0] (
  newA h 2 (940 : Int32) (.inl (fun _ => 0)) fun a1 h2 =>
  pQ h2 this [0] 0 (some a1) fun h3 =>
  newO h3 1 [.null, .null, .null, .null, .null, .int 0, .int 0, .int 0] fun a4 h5 =>
  hV (c_F_init h5 a4) noX fun h6 =>
  pQ h6 this [0] 3 (some a4) fun h7 =>
  newA h7 12 (3 : Int32) (.inr (.inr (.inr (.inr (fun _ => none))))) fun a8 h9 =>
  stQ h9 a8 (0 : Int32) (some (h9.2.2 0)) fun h10 =>
  stQ h10 a8 (1 : Int32) (some (h10.2.2 1)) fun h11 =>
  stQ h11 a8 (2 : Int32) (some (h11.2.2 2)) fun h12 =>
  pQ h12 this [0] 4 (some a8) fun h13 =>
  newA h13 12 (20 : Int32) (.inr (.inr (.inr (.inr (fun _ => none))))) fun a14 h15 =>
  stQ h15 a14 (0 : Int32) (some (h15.2.2 3)) fun h16 =>
  stQ h16 a14 (1 : Int32) (some (h16.2.2 4)) fun h17 =>
  stQ h17 a14 (2 : Int32) (some (h17.2.2 5)) fun h18 =>
  stQ h18 a14 (3 : Int32) (some (h18.2.2 6)) fun h19 =>
  stQ h19 a14 (4 : Int32) (some (h19.2.2 7)) fun h20 =>
  stQ h20 a14 (5 : Int32) (some (h20.2.2 8)) fun h21 =>
  stQ h21 a14 (6 : Int32) (some (h21.2.2 9)) fun h22 =>
  stQ h22 a14 (7 : Int32) (some (h22.2.2 10)) fun h23 =>
  stQ h23 a14 (8 : Int32) (some (h23.2.2 11)) fun h24 =>
  stQ h24 a14 (9 : Int32) (some (h24.2.2 12)) fun h25 =>
  stQ h25 a14 (10 : Int32) (some (h25.2.2 13)) fun h26 =>
  stQ h26 a14 (11 : Int32) (some (h26.2.2 14)) fun h27 =>
  stQ h27 a14 (12 : Int32) (some (h27.2.2 15)) fun h28 =>
  stQ h28 a14 (13 : Int32) (some (h28.2.2 16)) fun h29 =>
  stQ h29 a14 (14 : Int32) (some (h29.2.2 17)) fun h30 =>
  stQ h30 a14 (15 : Int32) (some (h30.2.2 18)) fun h31 =>
  stQ h31 a14 (16 : Int32) (some (h31.2.2 19)) fun h32 =>
  stQ h32 a14 (17 : Int32) (some (h32.2.2 20)) fun h33 =>
  stQ h33 a14 (18 : Int32) (some (h33.2.2 21)) fun h34 =>
  stQ h34 a14 (19 : Int32) (some (h34.2.2 22)) fun h35 =>
  pQ h35 this [0] 5 (some a14) fun h36 =>
  newO h36 2 [.null, .int 0, .int 0] fun a37 h38 =>
  hV (c_O_init h38 a37) noX fun h39 =>
  pQ h39 this [0] 6 (some a37) fun h40 =>
  newO h40 3 [.null, .null, .int 0, .int 0] fun a41 h42 =>
  hV (c_S_init h42 a41) noX fun h43 =>
  pQ h43 this [0] 7 (some a41) fun h44 =>
  newO h44 3 [.null, .null, .int 0, .int 0] fun a45 h46 =>
  hV (c_S_init h46 a45) noX fun h47 =>
  pQ h47 this [0] 8 (some a45) fun h48 =>
  newO h48 5 [.int 0, .int 0, .int 0, .int 0, .int 0, .int 0, .long 0, .null, .null, .null, .int 0, .null] fun a49 h50 =>
  hV (c_DR_init h50 a49 this) noX fun h51 =>
  pQ h51 this [0] 9 (some a49) fun h52 =>
  newO h52 6 [.int 0, .int 0, .int 0, .int 0, .int 0, .int 0, .long 0, .null, .null, .null, .int 0, .null] fun a53 h54 =>
  hV (c_DB_init h54 a53 this) noX fun h55 =>
  pQ h55 this [0] 10 (some a53) fun h56 =>
  gQ h56 this [0] 7 fun v57 =>
  gQ h56 this [0] 6 fun v58 =>
  nn v58 fun a59 =>
  nn v57 fun a61 =>
  hV (c_S_begin h56 a61 a59) noX fun h63 =>
  gQ h63 this [0] 8 fun v64 =>
  gQ h63 this [0] 6 fun v65 =>
  nn v65 fun a66 =>
  nn v64 fun a68 =>
  hV (c_S_begin h63 a68 a66) noX fun h70 =>
  newA h70 0 (600 : Int32) (.inl (fun _ => 0)) fun a71 h72 =>
  pQ h72 this [0] 12 (some a71) fun h73 =>
  pI h73 this [0] 13 (-1 : Int32) fun h74 =>
  newA h74 9 (8 : Int32) (.inr (.inr (.inr (.inr (fun _ => none))))) fun a75 h76 =>
  pQ h76 this [0] 14 (some a75) fun h77 =>
  newA h77 0 (4 : Int32) (.inl (fun _ => 0)) fun a78 h79 =>
  pQ h79 this [0] 16 (some a78) fun h80 =>
  newO h80 7 [.int 0, .int 0, .int 0, .int 0, .int 0, .int 0, .long 0, .null, .null, .null, .int 0, .null] fun a81 h82 =>
  hV (c_DS_init h82 a81 this) noX fun h83 =>
  pQ h83 this [0] 18 (some a81) fun h84 =>
  newA h84 11 (2 : Int32) (.inr (.inr (.inr (.inr (fun _ => none))))) fun a85 h86 =>
  pQ h86 this [0] 20 (some a85) fun h87 =>
  rV h87)
set_option maxHeartbeats 4000000 in
theorem m_B_init (h : PH) (this : Nat) : MM yX1_init (ws_ yX1_init cX1_init 1 none) 4 [.ref this] h (c_B_init h this) := by
  refine MM.of (by decide) rfl (by decide) (Nat.le_of_ble_eq_true rfl) (own := RX1) (cc := cX1_init) (maxL := 1) (lev := 4) (rt := none) (ini := true) ?_
  show Sim Y_B_init h 0 [(0, .ref this)] [] _
  unfold c_B_init
  refine x_grd ?_
  refine x_aload_nR (pc := 0) (a := this) 0 rfl rfl dX1_init_0 ?_
  refine x_objInit (pc := 1) q150 (by omega) (by decide) dX1_init_1 ?_
  refine x_aload_nR (pc := 4) (a := this) 0 rfl rfl dX1_init_4 ?_
  refine x_sipush (pc := 5) (v := 940) (by decide) dX1_init_5 ?_
  refine x_newaB (pc := 8) dX1_init_8 ?_
  intro a1 h2
  refine x_pQA (pc := 10) (v := (some a1)) fi_X1_9 (fun _ => rfl) dX1_init_10 ?_
  intro h3
  refine x_aload_nR (pc := 13) (a := this) 0 rfl rfl dX1_init_13 ?_
  refine x_new (pc := 14) ni_X1_13 dX1_init_14 ?_
  intro a4 h5
  refine x_dup (pc := 17) rfl dX1_init_17 ?_
  refine x_callI (pc := 18) (As := []) (rest := [.ref a4, .ref this]) (lev' := 3) si_X1_15 (m_F_init h5 a4) rfl rfl (by decide) (cat4 (Nat.le_of_ble_eq_true rfl)) dX1_init_18 (kV (fun h6 => ?_)) xNo
  refine x_pQ (pc := 21) (v := (some a4)) fi_X1_16 (fun _ => rfl) dX1_init_21 ?_
  intro h7
  refine x_aload_nR (pc := 24) (a := this) 0 rfl rfl dX1_init_24 ?_
  refine x_iconst (pc := 25) (v := 3) (by decide) dX1_init_25 ?_
  refine x_newaQ (pc := 26) (C := RJ2) (t := 12) (by decide +kernel) q223 (fun G s hk => (hk.1.2 12 _ rfl).2.choose_spec.choose_spec.2.2.2) dX1_init_26 ?_
  intro a8 h9
  refine x_dup (pc := 29) rfl dX1_init_29 ?_
  refine x_iconst (pc := 30) (v := 0) (by decide) dX1_init_30 ?_
  refine x_ldcS (pc := 31) (k := 0) (tx := "leaf") (by decide +kernel) dX1_init_31 ?_
  refine x_aast (pc := 33) (r := (some (h9.2.2 0))) dX1_init_33 ?_
  intro h10
  refine x_dup (pc := 34) rfl dX1_init_34 ?_
  refine x_iconst (pc := 35) (v := 1) (by decide) dX1_init_35 ?_
  refine x_ldcS (pc := 36) (k := 1) (tx := "row") (by decide +kernel) dX1_init_36 ?_
  refine x_aast (pc := 38) (r := (some (h10.2.2 1))) dX1_init_38 ?_
  intro h11
  refine x_dup (pc := 39) rfl dX1_init_39 ?_
  refine x_iconst (pc := 40) (v := 2) (by decide) dX1_init_40 ?_
  refine x_ldcS (pc := 41) (k := 2) (tx := "letters") (by decide +kernel) dX1_init_41 ?_
  refine x_aast (pc := 43) (r := (some (h11.2.2 2))) dX1_init_43 ?_
  intro h12
  refine x_pQA (pc := 44) (v := (some a8)) fi_X1_28 (fun _ => rfl) dX1_init_44 ?_
  intro h13
  refine x_aload_nR (pc := 47) (a := this) 0 rfl rfl dX1_init_47 ?_
  refine x_bipush (pc := 48) (v := 20) (by decide) dX1_init_48 ?_
  refine x_newaQ (pc := 50) (C := RJ2) (t := 12) (by decide +kernel) q223 (fun G s hk => (hk.1.2 12 _ rfl).2.choose_spec.choose_spec.2.2.2) dX1_init_50 ?_
  intro a14 h15
  refine x_dup (pc := 53) rfl dX1_init_53 ?_
  refine x_iconst (pc := 54) (v := 0) (by decide) dX1_init_54 ?_
  refine x_ldcS (pc := 55) (k := 3) (tx := "put") (by decide +kernel) dX1_init_55 ?_
  refine x_aast (pc := 57) (r := (some (h15.2.2 3))) dX1_init_57 ?_
  intro h16
  refine x_dup (pc := 58) rfl dX1_init_58 ?_
  refine x_iconst (pc := 59) (v := 1) (by decide) dX1_init_59 ?_
  refine x_ldcS (pc := 60) (k := 4) (tx := "set") (by decide +kernel) dX1_init_60 ?_
  refine x_aast (pc := 62) (r := (some (h16.2.2 4))) dX1_init_62 ?_
  intro h17
  refine x_dup (pc := 63) rfl dX1_init_63 ?_
  refine x_iconst (pc := 64) (v := 2) (by decide) dX1_init_64 ?_
  refine x_ldcS (pc := 65) (k := 5) (tx := "cut") (by decide +kernel) dX1_init_65 ?_
  refine x_aast (pc := 67) (r := (some (h17.2.2 5))) dX1_init_67 ?_
  intro h18
  refine x_dup (pc := 68) rfl dX1_init_68 ?_
  refine x_iconst (pc := 69) (v := 3) (by decide) dX1_init_69 ?_
  refine x_ldcS (pc := 70) (k := 6) (tx := "turn") (by decide +kernel) dX1_init_70 ?_
  refine x_aast (pc := 72) (r := (some (h18.2.2 6))) dX1_init_72 ?_
  intro h19
  refine x_dup (pc := 73) rfl dX1_init_73 ?_
  refine x_iconst (pc := 74) (v := 4) (by decide) dX1_init_74 ?_
  refine x_ldcS (pc := 75) (k := 7) (tx := "join") (by decide +kernel) dX1_init_75 ?_
  refine x_aast (pc := 77) (r := (some (h19.2.2 7))) dX1_init_77 ?_
  intro h20
  refine x_dup (pc := 78) rfl dX1_init_78 ?_
  refine x_iconst (pc := 79) (v := 5) (by decide) dX1_init_79 ?_
  refine x_ldcS (pc := 80) (k := 8) (tx := "split") (by decide +kernel) dX1_init_80 ?_
  refine x_aast (pc := 82) (r := (some (h20.2.2 8))) dX1_init_82 ?_
  intro h21
  refine x_dup (pc := 83) rfl dX1_init_83 ?_
  refine x_bipush (pc := 84) (v := 6) (by decide) dX1_init_84 ?_
  refine x_ldcS (pc := 86) (k := 9) (tx := "type") (by decide +kernel) dX1_init_86 ?_
  refine x_aast (pc := 88) (r := (some (h21.2.2 9))) dX1_init_88 ?_
  intro h22
  refine x_dup (pc := 89) rfl dX1_init_89 ?_
  refine x_bipush (pc := 90) (v := 7) (by decide) dX1_init_90 ?_
  refine x_ldcS (pc := 92) (k := 10) (tx := "erase") (by decide +kernel) dX1_init_92 ?_
  refine x_aast (pc := 94) (r := (some (h22.2.2 10))) dX1_init_94 ?_
  intro h23
  refine x_dup (pc := 95) rfl dX1_init_95 ?_
  refine x_bipush (pc := 96) (v := 8) (by decide) dX1_init_96 ?_
  refine x_ldcS (pc := 98) (k := 11) (tx := "o\x72") (by decide +kernel) dX1_init_98 ?_
  refine x_aast (pc := 100) (r := (some (h23.2.2 11))) dX1_init_100 ?_
  intro h24
  refine x_dup (pc := 101) rfl dX1_init_101 ?_
  refine x_bipush (pc := 102) (v := 9) (by decide) dX1_init_102 ?_
  refine x_ldcS (pc := 104) (k := 12) (tx := "and") (by decide +kernel) dX1_init_104 ?_
  refine x_aast (pc := 106) (r := (some (h24.2.2 12))) dX1_init_106 ?_
  intro h25
  refine x_dup (pc := 107) rfl dX1_init_107 ?_
  refine x_bipush (pc := 108) (v := 10) (by decide) dX1_init_108 ?_
  refine x_ldcS (pc := 110) (k := 13) (tx := "not") (by decide +kernel) dX1_init_110 ?_
  refine x_aast (pc := 112) (r := (some (h25.2.2 13))) dX1_init_112 ?_
  intro h26
  refine x_dup (pc := 113) rfl dX1_init_113 ?_
  refine x_bipush (pc := 114) (v := 11) (by decide) dX1_init_114 ?_
  refine x_ldcS (pc := 116) (k := 14) (tx := "empty") (by decide +kernel) dX1_init_116 ?_
  refine x_aast (pc := 118) (r := (some (h26.2.2 14))) dX1_init_118 ?_
  intro h27
  refine x_dup (pc := 119) rfl dX1_init_119 ?_
  refine x_bipush (pc := 120) (v := 12) (by decide) dX1_init_120 ?_
  refine x_ldcS (pc := 122) (k := 15) (tx := "even") (by decide +kernel) dX1_init_122 ?_
  refine x_aast (pc := 124) (r := (some (h27.2.2 15))) dX1_init_124 ?_
  intro h28
  refine x_dup (pc := 125) rfl dX1_init_125 ?_
  refine x_bipush (pc := 126) (v := 13) (by decide) dX1_init_126 ?_
  refine x_ldcS (pc := 128) (k := 16) (tx := "like") (by decide +kernel) dX1_init_128 ?_
  refine x_aast (pc := 130) (r := (some (h28.2.2 16))) dX1_init_130 ?_
  intro h29
  refine x_dup (pc := 131) rfl dX1_init_131 ?_
  refine x_bipush (pc := 132) (v := 14) (by decide) dX1_init_132 ?_
  refine x_ldcS (pc := 134) (k := 17) (tx := "begins") (by decide +kernel) dX1_init_134 ?_
  refine x_aast (pc := 136) (r := (some (h29.2.2 17))) dX1_init_136 ?_
  intro h30
  refine x_dup (pc := 137) rfl dX1_init_137 ?_
  refine x_bipush (pc := 138) (v := 15) (by decide) dX1_init_138 ?_
  refine x_ldcS (pc := 140) (k := 18) (tx := "size") (by decide +kernel) dX1_init_140 ?_
  refine x_aast (pc := 142) (r := (some (h30.2.2 18))) dX1_init_142 ?_
  intro h31
  refine x_dup (pc := 143) rfl dX1_init_143 ?_
  refine x_bipush (pc := 144) (v := 16) (by decide) dX1_init_144 ?_
  refine x_ldcS (pc := 146) (k := 19) (tx := "ones") (by decide +kernel) dX1_init_146 ?_
  refine x_aast (pc := 148) (r := (some (h31.2.2 19))) dX1_init_148 ?_
  intro h32
  refine x_dup (pc := 149) rfl dX1_init_149 ?_
  refine x_bipush (pc := 150) (v := 17) (by decide) dX1_init_150 ?_
  refine x_ldcS (pc := 152) (k := 20) (tx := "runs") (by decide +kernel) dX1_init_152 ?_
  refine x_aast (pc := 154) (r := (some (h32.2.2 20))) dX1_init_154 ?_
  intro h33
  refine x_dup (pc := 155) rfl dX1_init_155 ?_
  refine x_bipush (pc := 156) (v := 18) (by decide) dX1_init_156 ?_
  refine x_ldcS (pc := 158) (k := 21) (tx := "leaves") (by decide +kernel) dX1_init_158 ?_
  refine x_aast (pc := 160) (r := (some (h33.2.2 21))) dX1_init_160 ?_
  intro h34
  refine x_dup (pc := 161) rfl dX1_init_161 ?_
  refine x_bipush (pc := 162) (v := 19) (by decide) dX1_init_162 ?_
  refine x_ldcS (pc := 164) (k := 22) (tx := "numbe\x72") (by decide +kernel) dX1_init_164 ?_
  refine x_aast (pc := 166) (r := (some (h34.2.2 22))) dX1_init_166 ?_
  intro h35
  refine x_pQA (pc := 167) (v := (some a14)) fi_X1_72 (fun _ => rfl) dX1_init_167 ?_
  intro h36
  refine x_aload_nR (pc := 170) (a := this) 0 rfl rfl dX1_init_170 ?_
  refine x_new (pc := 171) ni_X1_75 dX1_init_171 ?_
  intro a37 h38
  refine x_dup (pc := 174) rfl dX1_init_174 ?_
  refine x_callIN (pc := 175) (As := []) (rest := [.ref a37, .ref this]) (lev' := 1) si_X1_77 (m_O_init h38 a37) rfl rfl (by decide) (cat4 (Nat.le_of_ble_eq_true rfl)) dX1_init_175 (kV (fun h39 => ?_)) xNo
  refine x_pQ (pc := 178) (v := (some a37)) fi_X1_78 (fun z => absurd z (by decide)) dX1_init_178 ?_
  intro h40
  refine x_aload_nR (pc := 181) (a := this) 0 rfl rfl dX1_init_181 ?_
  refine x_new (pc := 182) ni_X1_82 dX1_init_182 ?_
  intro a41 h42
  refine x_dup (pc := 185) rfl dX1_init_185 ?_
  refine x_callI (pc := 186) (As := []) (rest := [.ref a41, .ref this]) (lev' := 2) si_X1_84 (m_S_init h42 a41) rfl rfl (by decide) (cat4 (Nat.le_of_ble_eq_true rfl)) dX1_init_186 (kV (fun h43 => ?_)) xNo
  refine x_pQ (pc := 189) (v := (some a41)) fi_X1_85 (fun z => absurd z (by decide)) dX1_init_189 ?_
  intro h44
  refine x_aload_nR (pc := 192) (a := this) 0 rfl rfl dX1_init_192 ?_
  refine x_new (pc := 193) ni_X1_82 dX1_init_193 ?_
  intro a45 h46
  refine x_dup (pc := 196) rfl dX1_init_196 ?_
  refine x_callI (pc := 197) (As := []) (rest := [.ref a45, .ref this]) (lev' := 2) si_X1_84 (m_S_init h46 a45) rfl rfl (by decide) (cat4 (Nat.le_of_ble_eq_true rfl)) dX1_init_197 (kV (fun h47 => ?_)) xNo
  refine x_pQ (pc := 200) (v := (some a45)) fi_X1_89 (fun z => absurd z (by decide)) dX1_init_200 ?_
  intro h48
  refine x_aload_nR (pc := 203) (a := this) 0 rfl rfl dX1_init_203 ?_
  refine x_new (pc := 204) ni_X1_92 dX1_init_204 ?_
  intro a49 h50
  refine x_dup (pc := 207) rfl dX1_init_207 ?_
  refine x_aload_nR (pc := 208) (a := this) 0 rfl rfl dX1_init_208 ?_
  refine x_callI (pc := 209) (As := [.ref this]) (rest := [.ref a49, .ref this]) (lev' := 2) si_X1_94 (m_DR_init h50 a49 this) rfl rfl (by decide) (cat4 (Nat.le_of_ble_eq_true rfl)) dX1_init_209 (kV (fun h51 => ?_)) xNo
  refine x_pQ (pc := 212) (v := (some a49)) fi_X1_97 (fun _ => rfl) dX1_init_212 ?_
  intro h52
  refine x_aload_nR (pc := 215) (a := this) 0 rfl rfl dX1_init_215 ?_
  refine x_new (pc := 216) ni_X1_101 dX1_init_216 ?_
  intro a53 h54
  refine x_dup (pc := 219) rfl dX1_init_219 ?_
  refine x_aload_nR (pc := 220) (a := this) 0 rfl rfl dX1_init_220 ?_
  refine x_callI (pc := 221) (As := [.ref this]) (rest := [.ref a53, .ref this]) (lev' := 2) si_X1_103 (m_DB_init h54 a53 this) rfl rfl (by decide) (cat4 (Nat.le_of_ble_eq_true rfl)) dX1_init_221 (kV (fun h55 => ?_)) xNo
  refine x_pQ (pc := 224) (v := (some a53)) fi_X1_104 (fun _ => rfl) dX1_init_224 ?_
  intro h56
  refine x_aload_nR (pc := 227) (a := this) 0 rfl rfl dX1_init_227 ?_
  refine x_getQ (pc := 228) fi_X1_85 dX1_init_228 ?_
  intro v57
  refine x_aload_nR (pc := 231) (a := this) 0 rfl rfl dX1_init_231 ?_
  refine x_getQ (pc := 232) fi_X1_78 dX1_init_232 ?_
  intro v58
  refine x_nn (fun a59 e60 => ?_)
  subst e60
  refine x_nn (fun a61 e62 => ?_)
  subst e62
  refine x_callV (pc := 235) (As := [.ref a59]) (rest := []) (lev' := 3) si_X1_108 (m_S_begin h56 a61 a59) (fun z e => grd1 e) rfl rfl (by decide) (cat4 (Nat.le_of_ble_eq_true rfl)) dX1_init_235 (kV (fun h63 => ?_)) xNo
  refine x_aload_nR (pc := 238) (a := this) 0 rfl rfl dX1_init_238 ?_
  refine x_getQ (pc := 239) fi_X1_89 dX1_init_239 ?_
  intro v64
  refine x_aload_nR (pc := 242) (a := this) 0 rfl rfl dX1_init_242 ?_
  refine x_getQ (pc := 243) fi_X1_78 dX1_init_243 ?_
  intro v65
  refine x_nn (fun a66 e67 => ?_)
  subst e67
  refine x_nn (fun a68 e69 => ?_)
  subst e69
  refine x_callV (pc := 246) (As := [.ref a66]) (rest := []) (lev' := 3) si_X1_108 (m_S_begin h63 a68 a66) (fun z e => grd1 e) rfl rfl (by decide) (cat4 (Nat.le_of_ble_eq_true rfl)) dX1_init_246 (kV (fun h70 => ?_)) xNo
  refine x_aload_nR (pc := 249) (a := this) 0 rfl rfl dX1_init_249 ?_
  refine x_sipush (pc := 250) (v := 600) (by decide) dX1_init_250 ?_
  refine x_newaI (pc := 253) dX1_init_253 ?_
  intro a71 h72
  refine x_pQA (pc := 255) (v := (some a71)) fi_X1_112 (fun _ => rfl) dX1_init_255 ?_
  intro h73
  refine x_aload_nR (pc := 258) (a := this) 0 rfl rfl dX1_init_258 ?_
  refine x_iconst (pc := 259) (v := (-1)) (by decide) dX1_init_259 ?_
  refine x_pI (pc := 260) fi_X1_116 (fun z => absurd z (by decide)) dX1_init_260 ?_
  intro h74
  refine x_aload_nR (pc := 263) (a := this) 0 rfl rfl dX1_init_263 ?_
  refine x_bipush (pc := 264) (v := 8) (by decide) dX1_init_264 ?_
  refine x_newaQ9 (pc := 266) q450 dX1_init_266 ?_
  intro a75 h76
  refine x_pQA (pc := 269) (v := (some a75)) fi_X1_122 (fun _ => rfl) dX1_init_269 ?_
  intro h77
  refine x_aload_nR (pc := 272) (a := this) 0 rfl rfl dX1_init_272 ?_
  refine x_iconst (pc := 273) (v := 4) (by decide) dX1_init_273 ?_
  refine x_newaI (pc := 274) dX1_init_274 ?_
  intro a78 h79
  refine x_pQA (pc := 276) (v := (some a78)) fi_X1_126 (fun _ => rfl) dX1_init_276 ?_
  intro h80
  refine x_aload_nR (pc := 279) (a := this) 0 rfl rfl dX1_init_279 ?_
  refine x_new (pc := 280) ni_X1_129 dX1_init_280 ?_
  intro a81 h82
  refine x_dup (pc := 283) rfl dX1_init_283 ?_
  refine x_aload_nR (pc := 284) (a := this) 0 rfl rfl dX1_init_284 ?_
  refine x_callI (pc := 285) (As := [.ref this]) (rest := [.ref a81, .ref this]) (lev' := 2) si_X1_131 (m_DS_init h82 a81 this) rfl rfl (by decide) (cat4 (Nat.le_of_ble_eq_true rfl)) dX1_init_285 (kV (fun h83 => ?_)) xNo
  refine x_pQ (pc := 288) (v := (some a81)) fi_X1_132 (fun _ => rfl) dX1_init_288 ?_
  intro h84
  refine x_aload_nR (pc := 291) (a := this) 0 rfl rfl dX1_init_291 ?_
  refine x_iconst (pc := 292) (v := 2) (by decide) dX1_init_292 ?_
  refine x_newaQ (pc := 293) (C := RX21) (t := 11) (by decide +kernel) q492 (fun G s hk => (hk.1.2 11 _ rfl).2.choose_spec.choose_spec.2.2.2) dX1_init_293 ?_
  intro a85 h86
  refine x_pQA (pc := 296) (v := (some a85)) fi_X1_138 (fun _ => rfl) dX1_init_296 ?_
  intro h87
  exact x_vret (pc := 299) dX1_init_299
theorem fi_X1_142 : FI RX1 142 [0] 1 .int false true := (fi_c ci_0 (by decide) rfl rfl (Or.inl q497) (Or.inl rfl) (fun h => absurd h (by decide)) fi_n)
abbrev Y_B_four : Yx := (RX1, cX1_four, 3, 1, none, [], false)
def c_B_four_l3 (r3 : PH → Nat → Int32 → Int32 → Option RH) (h : PH) (this : Nat) (x1 : Int32) (x2 : Int32) : Option RH :=
  if x2 < 0 then
    rV h
  else
    gQ h this [0] 0 fun v1 =>
    gI h this [0] 1 fun v2 =>
    nn v1 fun a3 =>
    stB h a3 v2 ((x1 >>> (x2 &&& 31)).toInt8.toInt32) fun h5 =>
    gI h5 this [0] 1 fun v6 =>
    pI h5 this [0] 1 (v6 + (1 : Int32)) fun h7 =>
    r3 h7 this x1 (x2 + (-8 : Int32))
def c_B_four (h : PH) (this : Nat) (x1 : Int32) : Option RH :=
  grd h this [0] (
  itr (c_B_four_l3) (fun _ _ _ _ => none) FU h this x1 (24 : Int32))
set_option maxHeartbeats 4000000 in
theorem w_B_four_l3 (r3 : PH → Nat → Int32 → Int32 → Option RH) (hr3 : ∀ (h : PH) (this : Nat) (x1 : Int32) (x2 : Int32), Sim Y_B_four h 3 [(0, .ref this), (1, .int x1), (2, .int x2)] [] (r3 h this x1 x2)) (h : PH) (this : Nat) (x1 : Int32) (x2 : Int32) : Sim Y_B_four h 3 [(0, .ref this), (1, .int x1), (2, .int x2)] [] (c_B_four_l3 r3 h this x1 x2) := by
  unfold c_B_four_l3
  refine x_iload_n (pc := 3) 2 rfl rfl dX1_four_3 ?_
  refine x_if_lt (pc := 4) 36 (by decide) dX1_four_4 ?_ ?_
  · exact x_vret (pc := 36) dX1_four_36
  · refine x_aload_nR (pc := 7) (a := this) 0 rfl rfl dX1_four_7 ?_
    refine x_getQ (pc := 8) fi_X1_9 dX1_four_8 ?_
    intro v1
    refine x_aload_nR (pc := 11) (a := this) 0 rfl rfl dX1_four_11 ?_
    refine x_getI (pc := 12) fi_X1_142 dX1_four_12 ?_
    intro v2
    refine x_iload_n (pc := 15) 1 rfl rfl dX1_four_15 ?_
    refine x_iload_n (pc := 16) 2 rfl rfl dX1_four_16 ?_
    refine x_ishr (pc := 17) dX1_four_17 ?_
    refine x_i2b (pc := 18) dX1_four_18 ?_
    refine x_nn (fun a3 e4 => ?_)
    subst e4
    refine x_bast (pc := 19) dX1_four_19 ?_
    intro h5
    refine x_aload_nR (pc := 20) (a := this) 0 rfl rfl dX1_four_20 ?_
    refine x_dup (pc := 21) rfl dX1_four_21 ?_
    refine x_getI (pc := 22) fi_X1_142 dX1_four_22 ?_
    intro v6
    refine x_iconst (pc := 25) (v := 1) (by decide) dX1_four_25 ?_
    refine x_iadd (pc := 26) dX1_four_26 ?_
    refine x_pI (pc := 27) fi_X1_142 (fun z => absurd z (by decide)) dX1_four_27 ?_
    intro h7
    refine x_iinc (pc := 30) (v := (-8 : Int32)) (lv' := [(2, .int (x2 + (-8 : Int32))), (0, .ref this), (1, .int x1)]) 2 rfl (by decide) (by decide) rfl dX1_four_30 ?_
    refine x_goto (pc := 33) 3 (by decide) dX1_four_33 ?_
    refine Sim.lv [1, 2, 0] rfl ?_
    exact hr3 h7 this x1 (x2 + (-8 : Int32))
set_option maxHeartbeats 4000000 in
theorem v_B_four_l3 : ∀ (n : Nat) (h : PH) (this : Nat) (x1 : Int32) (x2 : Int32), Sim Y_B_four h 3 [(0, .ref this), (1, .int x1), (2, .int x2)] [] (itr (c_B_four_l3) (fun _ _ _ _ => none) n h this x1 x2)
  | 0, h, this, x1, x2 => Sim.none
  | n + 1, h, this, x1, x2 => w_B_four_l3 _ (v_B_four_l3 n) h this x1 x2
set_option maxHeartbeats 4000000 in
theorem m_B_four (h : PH) (this : Nat) (x1 : Int32) : MM yX1_four (ws_ yX1_four cX1_four 3 none) 1 [.ref this, .int x1] h (c_B_four h this x1) := by
  refine MM.of (by decide) rfl (by decide) (Nat.le_of_ble_eq_true rfl) (own := RX1) (cc := cX1_four) (maxL := 3) (lev := 1) (rt := none) (ini := false) ?_
  show Sim Y_B_four h 0 [(0, .ref this), (1, .int x1)] [] _
  unfold c_B_four
  refine x_grd ?_
  refine x_bipush (pc := 0) (v := 24) (by decide) dX1_four_0 ?_
  refine x_istore_n (pc := 2) (lv' := [(2, .int (24 : Int32)), (0, .ref this), (1, .int x1)]) rfl (by decide) rfl dX1_four_2 ?_
  refine Sim.lv [1, 2, 0] rfl ?_
  exact v_B_four_l3 FU h this x1 (24 : Int32)
theorem si_X1_145 : SiV RX1 145 0 yX1_four cX1_four 3 none 1 := ⟨_, _, _, ci_0.1, by decide, lw_V q571 q573 qs2 q110 q574, ⟨rfl, by decide, by decide, by decide +kernel⟩, by decide⟩
abbrev Y_B_feed : Yx := (RX1, cX1_feed, 6, 2, (some .int), [], false)
def c_B_feed (h : PH) (this : Nat) (x1 : Int32) (x2 : Int32) (x3 : Int32) (x4 : Int32) (x5 : Int32) : Option RH :=
  grd h this [0] (
  gI h this [0] 1 fun v1 =>
  if (v1 + (20 : Int32)) ≤ (940 : Int32) then
    hV (c_B_four h this x1) noX fun h2 =>
    hV (c_B_four h2 this x2) noX fun h3 =>
    hV (c_B_four h3 this x3) noX fun h4 =>
    hV (c_B_four h4 this x4) noX fun h5 =>
    hV (c_B_four h5 this x5) noX fun h6 =>
    gI h6 this [0] 1 fun v7 =>
    rI v7 h6
  else
    rI (-1 : Int32) h)
set_option maxHeartbeats 4000000 in
theorem m_B_feed (h : PH) (this : Nat) (x1 : Int32) (x2 : Int32) (x3 : Int32) (x4 : Int32) (x5 : Int32) : MM yX1_feed (ws_ yX1_feed cX1_feed 6 (some .int)) 2 [.ref this, .int x1, .int x2, .int x3, .int x4, .int x5] h (c_B_feed h this x1 x2 x3 x4 x5) := by
  refine MM.of (by decide) rfl (by decide) (Nat.le_of_ble_eq_true rfl) (own := RX1) (cc := cX1_feed) (maxL := 6) (lev := 2) (rt := (some .int)) (ini := false) ?_
  show Sim Y_B_feed h 0 [(0, .ref this), (1, .int x1), (2, .int x2), (3, .int x3), (4, .int x4), (5, .int x5)] [] _
  unfold c_B_feed
  refine x_grd ?_
  refine x_aload_nR (pc := 0) (a := this) 0 rfl rfl dX1_feed_0 ?_
  refine x_getI (pc := 1) fi_X1_142 dX1_feed_1 ?_
  intro v1
  refine x_bipush (pc := 4) (v := 20) (by decide) dX1_feed_4 ?_
  refine x_iadd (pc := 6) dX1_feed_6 ?_
  refine x_sipush (pc := 7) (v := 940) (by decide) dX1_feed_7 ?_
  refine x_icmp_le (pc := 10) 15 (by decide) dX1_feed_10 ?_ ?_
  · refine x_aload_nR (pc := 15) (a := this) 0 rfl rfl dX1_feed_15 ?_
    refine x_iload_n (pc := 16) 1 rfl rfl dX1_feed_16 ?_
    refine x_callV (pc := 17) (As := [.int x1]) (rest := []) (lev' := 1) si_X1_145 (m_B_four h this x1) (fun z e => grd1 e) rfl rfl (by decide) (cat4 (Nat.le_of_ble_eq_true rfl)) dX1_feed_17 (kV (fun h2 => ?_)) xNo
    refine x_aload_nR (pc := 20) (a := this) 0 rfl rfl dX1_feed_20 ?_
    refine x_iload_n (pc := 21) 2 rfl rfl dX1_feed_21 ?_
    refine x_callV (pc := 22) (As := [.int x2]) (rest := []) (lev' := 1) si_X1_145 (m_B_four h2 this x2) (fun z e => grd1 e) rfl rfl (by decide) (cat4 (Nat.le_of_ble_eq_true rfl)) dX1_feed_22 (kV (fun h3 => ?_)) xNo
    refine x_aload_nR (pc := 25) (a := this) 0 rfl rfl dX1_feed_25 ?_
    refine x_iload_n (pc := 26) 3 rfl rfl dX1_feed_26 ?_
    refine x_callV (pc := 27) (As := [.int x3]) (rest := []) (lev' := 1) si_X1_145 (m_B_four h3 this x3) (fun z e => grd1 e) rfl rfl (by decide) (cat4 (Nat.le_of_ble_eq_true rfl)) dX1_feed_27 (kV (fun h4 => ?_)) xNo
    refine x_aload_nR (pc := 30) (a := this) 0 rfl rfl dX1_feed_30 ?_
    refine x_iload (pc := 31) 4 rfl dX1_feed_31 ?_
    refine x_callV (pc := 33) (As := [.int x4]) (rest := []) (lev' := 1) si_X1_145 (m_B_four h4 this x4) (fun z e => grd1 e) rfl rfl (by decide) (cat4 (Nat.le_of_ble_eq_true rfl)) dX1_feed_33 (kV (fun h5 => ?_)) xNo
    refine x_aload_nR (pc := 36) (a := this) 0 rfl rfl dX1_feed_36 ?_
    refine x_iload (pc := 37) 5 rfl dX1_feed_37 ?_
    refine x_callV (pc := 39) (As := [.int x5]) (rest := []) (lev' := 1) si_X1_145 (m_B_four h5 this x5) (fun z e => grd1 e) rfl rfl (by decide) (cat4 (Nat.le_of_ble_eq_true rfl)) dX1_feed_39 (kV (fun h6 => ?_)) xNo
    refine x_aload_nR (pc := 42) (a := this) 0 rfl rfl dX1_feed_42 ?_
    refine x_getI (pc := 43) fi_X1_142 dX1_feed_43 ?_
    intro v7
    exact x_iret (pc := 46) dX1_feed_46
  · refine x_iconst (pc := 13) (v := (-1)) (by decide) dX1_feed_13 ?_
    exact x_iret (pc := 14) dX1_feed_14
abbrev Y_B_end : Yx := (RX1, cX1_end, 2, 1, (some .boolean), [], false)
def c_B_end (h : PH) (this : Nat) (x1 : Int32) : Option RH :=
  grd h this [0] (
  if x1 < 0 then
    rZ (0 : Int32) h
  else
    gI h this [0] 1 fun v1 =>
    if x1 ≤ v1 then
      pI h this [0] 1 x1 fun h2 =>
      rZ (1 : Int32) h2
    else
      rZ (0 : Int32) h)
set_option maxHeartbeats 4000000 in
theorem m_B_end (h : PH) (this : Nat) (x1 : Int32) : MM yX1_end (ws_ yX1_end cX1_end 2 (some .boolean)) 1 [.ref this, .int x1] h (c_B_end h this x1) := by
  refine MM.of (by decide) rfl (by decide) (Nat.le_of_ble_eq_true rfl) (own := RX1) (cc := cX1_end) (maxL := 2) (lev := 1) (rt := (some .boolean)) (ini := false) ?_
  show Sim Y_B_end h 0 [(0, .ref this), (1, .int x1)] [] _
  unfold c_B_end
  refine x_grd ?_
  refine x_iload_n (pc := 0) 1 rfl rfl dX1_end_0 ?_
  refine x_if_lt (pc := 1) 12 (by decide) dX1_end_1 ?_ ?_
  · refine x_iconst (pc := 12) (v := 0) (by decide) dX1_end_12 ?_
    exact x_zret (pc := 13) dX1_end_13
  · refine x_iload_n (pc := 4) 1 rfl rfl dX1_end_4 ?_
    refine x_aload_nR (pc := 5) (a := this) 0 rfl rfl dX1_end_5 ?_
    refine x_getI (pc := 6) fi_X1_142 dX1_end_6 ?_
    intro v1
    refine x_icmp_le (pc := 9) 14 (by decide) dX1_end_9 ?_ ?_
    · refine x_aload_nR (pc := 14) (a := this) 0 rfl rfl dX1_end_14 ?_
      refine x_iload_n (pc := 15) 1 rfl rfl dX1_end_15 ?_
      refine x_pI (pc := 16) fi_X1_142 (fun z => absurd z (by decide)) dX1_end_16 ?_
      intro h2
      refine x_iconst (pc := 19) (v := 1) (by decide) dX1_end_19 ?_
      exact x_zret (pc := 20) dX1_end_20
    · refine x_iconst (pc := 12) (v := 0) (by decide) dX1_end_12 ?_
      exact x_zret (pc := 13) dX1_end_13
theorem fi_X1_149 : FI RX1 149 [0] 2 .int false true := (fi_c ci_0 (by decide) rfl rfl (Or.inl q499) (Or.inl rfl) (fun h => absurd h (by decide)) fi_n)
abbrev Y_B_consume : Yx := (RX1, cX1_consume, 1, 1, none, [], false)
def c_B_consume (h : PH) (this : Nat) : Option RH :=
  grd h this [0] (
  gI h this [0] 1 fun v1 =>
  pI h this [0] 2 v1 fun h2 =>
  pI h2 this [0] 1 (0 : Int32) fun h3 =>
  rV h3)
set_option maxHeartbeats 4000000 in
theorem m_B_consume (h : PH) (this : Nat) : MM yX1_consume (ws_ yX1_consume cX1_consume 1 none) 1 [.ref this] h (c_B_consume h this) := by
  refine MM.of (by decide) rfl (by decide) (Nat.le_of_ble_eq_true rfl) (own := RX1) (cc := cX1_consume) (maxL := 1) (lev := 1) (rt := none) (ini := false) ?_
  show Sim Y_B_consume h 0 [(0, .ref this)] [] _
  unfold c_B_consume
  refine x_grd ?_
  refine x_aload_nR (pc := 0) (a := this) 0 rfl rfl dX1_consume_0 ?_
  refine x_aload_nR (pc := 1) (a := this) 0 rfl rfl dX1_consume_1 ?_
  refine x_getI (pc := 2) fi_X1_142 dX1_consume_2 ?_
  intro v1
  refine x_pI (pc := 5) fi_X1_149 (fun z => absurd z (by decide)) dX1_consume_5 ?_
  intro h2
  refine x_aload_nR (pc := 8) (a := this) 0 rfl rfl dX1_consume_8 ?_
  refine x_iconst (pc := 9) (v := 0) (by decide) dX1_consume_9 ?_
  refine x_pI (pc := 10) fi_X1_142 (fun z => absurd z (by decide)) dX1_consume_10 ?_
  intro h3
  exact x_vret (pc := 13) dX1_consume_13
theorem si_X1_155 : SiV RX1 155 0 yX1_consume cX1_consume 1 none 0 := ⟨_, _, _, ci_0.1, by decide, lw_V q583 q585 qs3 q110 q586, ⟨rfl, by decide, by decide, by decide +kernel⟩, by decide⟩
theorem fi_X1_158 : FI RX1 158 [0] 11 .int false true := (fi_c ci_0 (by decide) rfl rfl (Or.inl q514) (Or.inl rfl) (fun h => absurd h (by decide)) fi_n)
theorem si_X1_161 : SiV RX1 161 5 yX7_read cX7_read 5 (some .int) 2 := ⟨_, _, _, ci_5.1, by decide, lw_V q587 q588 q589 q118 q590, ⟨rfl, by decide, by decide, by decide +kernel⟩, by decide⟩
theorem fi_X1_176 : FI RX1 176 [1] 6 .int false true := (fi_c ci_1 (by decide) rfl rfl (Or.inl q201) (Or.inl rfl) (fun h => absurd h (by decide)) fi_n)
theorem fi_X1_179 : FI RX1 179 [1] 7 .int false true := (fi_c ci_1 (by decide) rfl rfl (Or.inl q203) (Or.inl rfl) (fun h => absurd h (by decide)) fi_n)
theorem fi_X1_165 : FI RX1 165 [2] 1 .int false true := (fi_c ci_2 (by decide) rfl rfl (Or.inr ⟨_, q262⟩) (Or.inl rfl) (fun h => absurd h (by decide)) fi_n)
theorem fi_X1_168 : FI RX1 168 [3] 2 .int false true := (fi_c ci_3 (by decide) rfl rfl (Or.inr ⟨_, q327⟩) (Or.inl rfl) (fun h => absurd h (by decide)) fi_n)
theorem fi_X1_169 : FI RX1 169 [0] 15 .int false true := (fi_c ci_0 (by decide) rfl rfl (Or.inl q518) (Or.inl rfl) (fun h => absurd h (by decide)) fi_n)
theorem fi_X1_172 : FI RX1 172 [0] 19 (.object "BitRopes$Cond") false true := (fi_c ci_0 (by decide) rfl rfl (Or.inl q522) (Or.inl rfl) (fun h => absurd h (by decide)) fi_n)
abbrev Y_B_room : Yx := (RX1, cX1_room, 4, 21, (some .int), [(25, 83, 84, 13)], false)
def c_B_room (h : PH) (this : Nat) : Option RH :=
  grd h this [0] (
  hV (c_B_consume h this) noX fun h1 =>
  pI h1 this [0] 11 (0 : Int32) fun h2 =>
  newO h2 2 [.null, .int 0, .int 0] fun a3 h4 =>
  hV (c_O_init h4 a3) noX fun h5 =>
  gQ h5 this [0] 8 fun v6 =>
  nn v6 fun a7 =>
  hV (c_S_begin h5 a7 a3) noX fun h9 =>
  gQ h9 this [0] 9 fun v10 =>
  gQ h9 this [0] 8 fun v11 =>
  nn v11 fun a12 =>
  nn v10 fun a14 =>
  hI (c_DR_read h9 a14 a3 a12) (fun q9 h19 => if q9.2 = 0 then nm q9.1 fun q18 =>
      gI h19 q18 [1] 6 fun v20 =>
      pI h19 this [0] 11 v20 fun h21 =>
      gI h21 q18 [1] 7 fun v22 =>
      rI ((-1 : Int32) - v22) h21
    else none) fun v17 h16 =>
    gQ h16 this [0] 8 fun v23 =>
    gQ h16 this [0] 7 fun v24 =>
    pQ h16 this [0] 8 v24 fun h25 =>
    pQ h25 this [0] 7 v23 fun h26 =>
    pQ h26 this [0] 6 (some a3) fun h27 =>
    gQ h27 this [0] 7 fun v28 =>
    gI h27 a3 [2] 1 fun v29 =>
    nn v28 fun a30 =>
    pI h27 a30 [3] 2 v29 fun h32 =>
    pI h32 this [0] 15 (0 : Int32) fun h33 =>
    pQ h33 this [0] 19 none fun h34 =>
    rI v17 h34)
set_option maxHeartbeats 4000000 in
theorem m_B_room (h : PH) (this : Nat) : MM yX1_room (wsW_ yX1_room cX1_room 4 (some .int) [(25, 83, 84, 13)]) 21 [.ref this] h (c_B_room h this) := by
  refine MM.ofH (by decide) rfl (Nat.le_of_ble_eq_true rfl) (own := RX1) (cc := cX1_room) (maxL := 4) (lev := 21) (rt := (some .int)) (hh := [(25, 83, 84, 13)]) ?_
  show Sim Y_B_room h 0 [(0, .ref this)] [] _
  unfold c_B_room
  refine x_grd ?_
  refine x_aload_nR (pc := 0) (a := this) 0 rfl rfl dX1_room_0 ?_
  refine x_callV (pc := 1) (As := []) (rest := []) (lev' := 1) si_X1_155 (m_B_consume h this) (fun z e => grd1 e) rfl rfl (by decide) (cat4 (Nat.le_of_ble_eq_true rfl)) dX1_room_1 (kV (fun h1 => ?_)) xNo
  refine x_aload_nR (pc := 4) (a := this) 0 rfl rfl dX1_room_4 ?_
  refine x_iconst (pc := 5) (v := 0) (by decide) dX1_room_5 ?_
  refine x_pI (pc := 6) fi_X1_158 (fun z => absurd z (by decide)) dX1_room_6 ?_
  intro h2
  refine x_new (pc := 9) ni_X1_75 dX1_room_9 ?_
  intro a3 h4
  refine x_dup (pc := 12) rfl dX1_room_12 ?_
  refine x_callIN (pc := 13) (As := []) (rest := [.ref a3]) (lev' := 1) si_X1_77 (m_O_init h4 a3) rfl rfl (by decide) (cat4 (Nat.le_of_ble_eq_true rfl)) dX1_room_13 (kV (fun h5 => ?_)) xNo
  refine x_astore_nR (pc := 16) (a := a3) (lv' := [(1, .ref a3), (0, .ref this)]) rfl (by decide) rfl dX1_room_16 ?_
  refine x_aload_nR (pc := 17) (a := this) 1 rfl rfl dX1_room_17 ?_
  refine x_getQ (pc := 18) fi_X1_89 dX1_room_18 ?_
  intro v6
  refine x_aload_nR (pc := 21) (a := a3) 0 rfl rfl dX1_room_21 ?_
  refine x_nn (fun a7 e8 => ?_)
  subst e8
  refine x_callV (pc := 22) (As := [.ref a3]) (rest := []) (lev' := 3) si_X1_108 (m_S_begin h5 a7 a3) (fun z e => grd1 e) rfl rfl (by decide) (cat4 (Nat.le_of_ble_eq_true rfl)) dX1_room_22 (kV (fun h9 => ?_)) xNo
  refine x_aload_nR (pc := 25) (a := this) 1 rfl rfl dX1_room_25 ?_
  refine x_getQ (pc := 26) fi_X1_97 dX1_room_26 ?_
  intro v10
  refine x_aload_nR (pc := 29) (a := a3) 0 rfl rfl dX1_room_29 ?_
  refine x_aload_nR (pc := 30) (a := this) 1 rfl rfl dX1_room_30 ?_
  refine x_getQ (pc := 31) fi_X1_89 dX1_room_31 ?_
  intro v11
  refine x_nn (fun a12 e13 => ?_)
  subst e13
  refine x_nn (fun a14 e15 => ?_)
  subst e15
  refine x_callV (pc := 34) (As := [.ref a3, .ref a12]) (rest := []) (lev' := 20) si_X1_161 (m_DR_read h9 a14 a3 a12) (fun z e => grd1 e) rfl rfl (by decide) (cat4 (Nat.le_of_ble_eq_true rfl)) dX1_room_34 (kI (fun v17 h16 => ?_)) (xCatch (pc := 34) (hh := [(25, 83, 84, 13)]) (k0 := 0) (E := fun q9 h19 => if q9.2 = 0 then nm q9.1 fun q18 =>
      gI h19 q18 [1] 6 fun v20 =>
      pI h19 this [0] 11 v20 fun h21 =>
      gI h21 q18 [1] 7 fun v22 =>
      rI ((-1 : Int32) - v22) h21
    else none) rfl (by decide) (by decide) rfl q153 q155 (fun q k h9 e => if_neg e) (fun q18 h19 => ?_))
  · refine x_istore_n (pc := 37) (lv' := [(2, .int v17), (1, .ref a3), (0, .ref this)]) rfl (by decide) rfl dX1_room_37 ?_
    refine x_aload_nR (pc := 38) (a := this) 2 rfl rfl dX1_room_38 ?_
    refine x_getQ (pc := 39) fi_X1_89 dX1_room_39 ?_
    intro v23
    refine x_astore_n (pc := 42) (r := v23) (lv' := [(3, va_rf v23), (2, .int v17), (1, .ref a3), (0, .ref this)]) rfl (by decide) rfl dX1_room_42 ?_
    refine x_aload_nR (pc := 43) (a := this) 3 rfl rfl dX1_room_43 ?_
    refine x_aload_nR (pc := 44) (a := this) 3 rfl rfl dX1_room_44 ?_
    refine x_getQ (pc := 45) fi_X1_85 dX1_room_45 ?_
    intro v24
    refine x_pQ (pc := 48) (v := v24) fi_X1_89 (fun z => absurd z (by decide)) dX1_room_48 ?_
    intro h25
    refine x_aload_nR (pc := 51) (a := this) 3 rfl rfl dX1_room_51 ?_
    refine x_aload_n (pc := 52) (r := v23) 0 rfl rfl dX1_room_52 ?_
    refine x_pQ (pc := 53) (v := v23) fi_X1_85 (fun z => absurd z (by decide)) dX1_room_53 ?_
    intro h26
    refine x_aload_nR (pc := 56) (a := this) 3 rfl rfl dX1_room_56 ?_
    refine x_aload_nR (pc := 57) (a := a3) 2 rfl rfl dX1_room_57 ?_
    refine x_pQ (pc := 58) (v := (some a3)) fi_X1_78 (fun z => absurd z (by decide)) dX1_room_58 ?_
    intro h27
    refine x_aload_nR (pc := 61) (a := this) 3 rfl rfl dX1_room_61 ?_
    refine x_getQ (pc := 62) fi_X1_85 dX1_room_62 ?_
    intro v28
    refine x_aload_nR (pc := 65) (a := a3) 2 rfl rfl dX1_room_65 ?_
    refine x_getI (pc := 66) fi_X1_165 dX1_room_66 ?_
    intro v29
    refine x_nn (fun a30 e31 => ?_)
    subst e31
    refine x_pI (pc := 69) fi_X1_168 (fun z => absurd z (by decide)) dX1_room_69 ?_
    intro h32
    refine x_aload_nR (pc := 72) (a := this) 3 rfl rfl dX1_room_72 ?_
    refine x_iconst (pc := 73) (v := 0) (by decide) dX1_room_73 ?_
    refine x_pI (pc := 74) fi_X1_169 (fun z => absurd z (by decide)) dX1_room_74 ?_
    intro h33
    refine x_aload_nR (pc := 77) (a := this) 3 rfl rfl dX1_room_77 ?_
    refine x_null (pc := 78) dX1_room_78 ?_
    refine x_pQ (pc := 79) (v := none) fi_X1_172 (fun z => absurd z (by decide)) dX1_room_79 ?_
    intro h34
    refine x_iload_n (pc := 82) 1 rfl rfl dX1_room_82 ?_
    exact x_iret (pc := 83) dX1_room_83
  · show Sim _ _ _ _ _ (if _ then nm _ _ else none)
    rw [if_pos rfl]
    show Sim _ _ _ _ _ _
    refine x_astore_nR (pc := 84) (a := q18) (lv' := [(2, .ref q18), (1, .ref a3), (0, .ref this)]) rfl (by decide) rfl dX1_room_84 ?_
    refine x_aload_nR (pc := 85) (a := this) 2 rfl rfl dX1_room_85 ?_
    refine x_aload_nR (pc := 86) (a := q18) 0 rfl rfl dX1_room_86 ?_
    refine x_getI (pc := 87) fi_X1_176 dX1_room_87 ?_
    intro v20
    refine x_pI (pc := 90) fi_X1_158 (fun z => absurd z (by decide)) dX1_room_90 ?_
    intro h21
    refine x_iconst (pc := 93) (v := (-1)) (by decide) dX1_room_93 ?_
    refine x_aload_nR (pc := 94) (a := q18) 0 rfl rfl dX1_room_94 ?_
    refine x_getI (pc := 95) fi_X1_179 dX1_room_95 ?_
    intro v22
    refine x_isub (pc := 98) dX1_room_98 ?_
    exact x_iret (pc := 99) dX1_room_99
abbrev Y_B_fault : Yx := (RX1, cX1_fault, 1, 1, (some .int), [], false)
def c_B_fault (h : PH) (this : Nat) : Option RH :=
  grd h this [0] (
  gI h this [0] 11 fun v1 =>
  rI v1 h)
set_option maxHeartbeats 4000000 in
theorem m_B_fault (h : PH) (this : Nat) : MM yX1_fault (ws_ yX1_fault cX1_fault 1 (some .int)) 1 [.ref this] h (c_B_fault h this) := by
  refine MM.of (by decide) rfl (by decide) (Nat.le_of_ble_eq_true rfl) (own := RX1) (cc := cX1_fault) (maxL := 1) (lev := 1) (rt := (some .int)) (ini := false) ?_
  show Sim Y_B_fault h 0 [(0, .ref this)] [] _
  unfold c_B_fault
  refine x_grd ?_
  refine x_aload_nR (pc := 0) (a := this) 0 rfl rfl dX1_fault_0 ?_
  refine x_getI (pc := 1) fi_X1_158 dX1_fault_1 ?_
  intro v1
  exact x_iret (pc := 4) dX1_fault_4
theorem si_X1_182 : SiS RX1 182 yX1_isIn cX1_isIn 3 (some .boolean) 3 := ⟨lw_S q900 q613 q110 q614, ⟨by decide, by decide, by decide +kernel⟩, by decide⟩
abbrev Y_B_isRow : Yx := (RX1, cX1_isRow, 2, 2, (some .boolean), [], false)
def c_B_isRow (h : PH) (this : Nat) (x1 : Int32) : Option RH :=
  grd h this [0] (
  gQ h this [0] 6 fun v1 =>
  nn v1 fun a2 =>
  gI h a2 [2] 1 fun v4 =>
  hI (c_B_isIn h x1 (0 : Int32) (v4 - (1 : Int32))) noX fun v6 h5 =>
  rZ v6 h5)
set_option maxHeartbeats 4000000 in
theorem m_B_isRow (h : PH) (this : Nat) (x1 : Int32) : MM yX1_isRow (ws_ yX1_isRow cX1_isRow 2 (some .boolean)) 2 [.ref this, .int x1] h (c_B_isRow h this x1) := by
  refine MM.of (by decide) rfl (by decide) (Nat.le_of_ble_eq_true rfl) (own := RX1) (cc := cX1_isRow) (maxL := 2) (lev := 2) (rt := (some .boolean)) (ini := false) ?_
  show Sim Y_B_isRow h 0 [(0, .ref this), (1, .int x1)] [] _
  unfold c_B_isRow
  refine x_grd ?_
  refine x_iload_n (pc := 0) 1 rfl rfl dX1_isRow_0 ?_
  refine x_iconst (pc := 1) (v := 0) (by decide) dX1_isRow_1 ?_
  refine x_aload_nR (pc := 2) (a := this) 0 rfl rfl dX1_isRow_2 ?_
  refine x_getQ (pc := 3) fi_X1_78 dX1_isRow_3 ?_
  intro v1
  refine x_nn (fun a2 e3 => ?_)
  subst e3
  refine x_getI (pc := 6) fi_X1_165 dX1_isRow_6 ?_
  intro v4
  refine x_iconst (pc := 9) (v := 1) (by decide) dX1_isRow_9 ?_
  refine x_isub (pc := 10) dX1_isRow_10 ?_
  refine x_callS (pc := 11) (As := [.int x1, .int (0 : Int32), .int (v4 - (1 : Int32))]) (rest := []) (lev' := 1) si_X1_182 (m_B_isIn h x1 (0 : Int32) (v4 - (1 : Int32))) rfl rfl (by decide) (cat4 (Nat.le_of_ble_eq_true rfl)) dX1_isRow_11 (kI (fun v6 h5 => ?_)) xNo
  exact x_zret (pc := 14) dX1_isRow_14
theorem si_X1_186 : SiV RX1 186 0 yX1_isRow cX1_isRow 2 (some .boolean) 1 := ⟨_, _, _, ci_0.1, by decide, lw_V q896 q898 qs15 q110 q899, ⟨rfl, by decide, by decide, by decide +kernel⟩, by decide⟩
abbrev Y_B_size : Yx := (RX1, cX1_size, 2, 3, (some .int), [], false)
def c_B_size (h : PH) (this : Nat) (x1 : Int32) : Option RH :=
  grd h this [0] (
  hI (c_B_isRow h this x1) noX fun v2 h1 =>
  if v2 = 0 then
    rI (-1 : Int32) h1
  else
    gQ h1 this [0] 7 fun v3 =>
    nn v3 fun a4 =>
    gQ h1 a4 [3] 0 fun v6 =>
    nn v6 fun a7 =>
    ldQ h1 a7 x1 fun v9 =>
    nn v9 fun a10 =>
    hI (c_R_wide h1 a10) noX fun v13 h12 =>
    rI v13 h12)
set_option maxHeartbeats 4000000 in
theorem m_B_size (h : PH) (this : Nat) (x1 : Int32) : MM yX1_size (ws_ yX1_size cX1_size 2 (some .int)) 3 [.ref this, .int x1] h (c_B_size h this x1) := by
  refine MM.of (by decide) rfl (by decide) (Nat.le_of_ble_eq_true rfl) (own := RX1) (cc := cX1_size) (maxL := 2) (lev := 3) (rt := (some .int)) (ini := false) ?_
  show Sim Y_B_size h 0 [(0, .ref this), (1, .int x1)] [] _
  unfold c_B_size
  refine x_grd ?_
  refine x_aload_nR (pc := 0) (a := this) 0 rfl rfl dX1_size_0 ?_
  refine x_iload_n (pc := 1) 1 rfl rfl dX1_size_1 ?_
  refine x_callV (pc := 2) (As := [.int x1]) (rest := []) (lev' := 2) si_X1_186 (m_B_isRow h this x1) (fun z e => grd1 e) rfl rfl (by decide) (cat4 (Nat.le_of_ble_eq_true rfl)) dX1_size_2 (kI (fun v2 h1 => ?_)) xNo
  refine x_if_eq (pc := 5) 23 (by decide) dX1_size_5 ?_ ?_
  · refine x_iconst (pc := 23) (v := (-1)) (by decide) dX1_size_23 ?_
    exact x_iret (pc := 24) dX1_size_24
  · refine x_aload_nR (pc := 8) (a := this) 0 rfl rfl dX1_size_8 ?_
    refine x_getQ (pc := 9) fi_X1_85 dX1_size_9 ?_
    intro v3
    refine x_nn (fun a4 e5 => ?_)
    subst e5
    refine x_getQ (pc := 12) fi_X1_190 dX1_size_12 ?_
    intro v6
    refine x_iload_n (pc := 15) 1 rfl rfl dX1_size_15 ?_
    refine x_nn (fun a7 e8 => ?_)
    subst e8
    refine x_aald (pc := 16) dX1_size_16 ?_
    intro v9
    refine x_nn (fun a10 e11 => ?_)
    subst e11
    refine x_callV (pc := 17) (As := []) (rest := []) (lev' := 1) si_X1_194 (m_R_wide h1 a10) (fun z e => grd1 e) rfl rfl (by decide) (cat4 (Nat.le_of_ble_eq_true rfl)) dX1_size_17 (kI (fun v13 h12 => ?_)) xNo
    refine x_goto (pc := 20) 24 (by decide) dX1_size_20 ?_
    exact x_iret (pc := 24) dX1_size_24
abbrev Y_B_bit : Yx := (RX1, cX1_bit, 3, 115, (some .int), [], false)
def c_B_bit (h : PH) (this : Nat) (x1 : Int32) (x2 : Int32) : Option RH :=
  grd h this [0] (
  hI (c_B_isRow h this x1) noX fun v2 h1 =>
  if v2 = 0 then
    rI (-1 : Int32) h1
  else
    hQ (c_B_rope h1 this x1) noX fun v4 h3 =>
    nn v4 fun a5 =>
    hI (c_R_wide h3 a5) noX fun v8 h7 =>
    hI (c_B_isIn h7 x2 (0 : Int32) (v8 - (1 : Int32))) noX fun v10 h9 =>
    if v10 = 0 then
      rI (-1 : Int32) h9
    else
      hQ (c_B_rope h9 this x1) noX fun v12 h11 =>
      nn v12 fun a13 =>
      hI (c_R_get h11 a13 x2) noX fun v16 h15 =>
      rI v16 h15)
set_option maxHeartbeats 4000000 in
theorem m_B_bit (h : PH) (this : Nat) (x1 : Int32) (x2 : Int32) : MM yX1_bit (ws_ yX1_bit cX1_bit 3 (some .int)) 115 [.ref this, .int x1, .int x2] h (c_B_bit h this x1 x2) := by
  refine MM.of (by decide) rfl (by decide) (Nat.le_of_ble_eq_true rfl) (own := RX1) (cc := cX1_bit) (maxL := 3) (lev := 115) (rt := (some .int)) (ini := false) ?_
  show Sim Y_B_bit h 0 [(0, .ref this), (1, .int x1), (2, .int x2)] [] _
  unfold c_B_bit
  refine x_grd ?_
  refine x_aload_nR (pc := 0) (a := this) 0 rfl rfl dX1_bit_0 ?_
  refine x_iload_n (pc := 1) 1 rfl rfl dX1_bit_1 ?_
  refine x_callV (pc := 2) (As := [.int x1]) (rest := []) (lev' := 2) si_X1_186 (m_B_isRow h this x1) (fun z e => grd1 e) rfl rfl (by decide) (cat4 (Nat.le_of_ble_eq_true rfl)) dX1_bit_2 (kI (fun v2 h1 => ?_)) xNo
  refine x_if_eq (pc := 5) 38 (by decide) dX1_bit_5 ?_ ?_
  · refine x_iconst (pc := 38) (v := (-1)) (by decide) dX1_bit_38 ?_
    exact x_iret (pc := 39) dX1_bit_39
  · refine x_iload_n (pc := 8) 2 rfl rfl dX1_bit_8 ?_
    refine x_iconst (pc := 9) (v := 0) (by decide) dX1_bit_9 ?_
    refine x_aload_nR (pc := 10) (a := this) 0 rfl rfl dX1_bit_10 ?_
    refine x_iload_n (pc := 11) 1 rfl rfl dX1_bit_11 ?_
    refine x_callV (pc := 12) (As := [.int x1]) (rest := [.int (0 : Int32), .int x2]) (lev' := 114) si_X1_204 (m_B_rope h1 this x1) (fun z e => grd1 e) rfl rfl (by decide) (cat4 (Nat.le_of_ble_eq_true rfl)) dX1_bit_12 (kQ (fun v4 h3 => ?_)) xNo
    refine x_nn (fun a5 e6 => ?_)
    subst e6
    refine x_callV (pc := 15) (As := []) (rest := [.int (0 : Int32), .int x2]) (lev' := 1) si_X1_194 (m_R_wide h3 a5) (fun z e => grd1 e) rfl rfl (by decide) (cat4 (Nat.le_of_ble_eq_true rfl)) dX1_bit_15 (kI (fun v8 h7 => ?_)) xNo
    refine x_iconst (pc := 18) (v := 1) (by decide) dX1_bit_18 ?_
    refine x_isub (pc := 19) dX1_bit_19 ?_
    refine x_callS (pc := 20) (As := [.int x2, .int (0 : Int32), .int (v8 - (1 : Int32))]) (rest := []) (lev' := 1) si_X1_182 (m_B_isIn h7 x2 (0 : Int32) (v8 - (1 : Int32))) rfl rfl (by decide) (cat4 (Nat.le_of_ble_eq_true rfl)) dX1_bit_20 (kI (fun v10 h9 => ?_)) xNo
    refine x_if_eq (pc := 23) 38 (by decide) dX1_bit_23 ?_ ?_
    · refine x_iconst (pc := 38) (v := (-1)) (by decide) dX1_bit_38 ?_
      exact x_iret (pc := 39) dX1_bit_39
    · refine x_aload_nR (pc := 26) (a := this) 0 rfl rfl dX1_bit_26 ?_
      refine x_iload_n (pc := 27) 1 rfl rfl dX1_bit_27 ?_
      refine x_callV (pc := 28) (As := [.int x1]) (rest := []) (lev' := 114) si_X1_204 (m_B_rope h9 this x1) (fun z e => grd1 e) rfl rfl (by decide) (cat4 (Nat.le_of_ble_eq_true rfl)) dX1_bit_28 (kQ (fun v12 h11 => ?_)) xNo
      refine x_iload_n (pc := 31) 2 rfl rfl dX1_bit_31 ?_
      refine x_nn (fun a13 e14 => ?_)
      subst e14
      refine x_callV (pc := 32) (As := [.int x2]) (rest := []) (lev' := 3) si_X1_207 (m_R_get h11 a13 x2) (fun z e => grd1 e) rfl rfl (by decide) (cat4 (Nat.le_of_ble_eq_true rfl)) dX1_bit_32 (kI (fun v16 h15 => ?_)) xNo
      refine x_goto (pc := 35) 39 (by decide) dX1_bit_35 ?_
      exact x_iret (pc := 39) dX1_bit_39
theorem si_X1_211 : SiV RX1 211 4 yX5_before cX5_before 3 (some .int) 2 := ⟨_, _, _, ci_4.1, by decide, lw_V q978 q862 q863 q116 q864, ⟨rfl, by decide, by decide, by decide +kernel⟩, by decide⟩
abbrev Y_B_rank : Yx := (RX1, cX1_rank, 4, 115, (some .int), [], false)
def c_B_rank (h : PH) (this : Nat) (x1 : Int32) (x2 : Int32) (x3 : Int32) : Option RH :=
  grd h this [0] (
  hI (c_B_isRow h this x1) noX fun v2 h1 =>
  if v2 = 0 then
    rI (-1 : Int32) h1
  else
    hQ (c_B_rope h1 this x1) noX fun v4 h3 =>
    nn v4 fun a5 =>
    hI (c_R_wide h3 a5) noX fun v8 h7 =>
    hI (c_B_isIn h7 x2 (0 : Int32) v8) noX fun v10 h9 =>
    if v10 = 0 then
      rI (-1 : Int32) h9
    else
      hI (c_B_isIn h9 x3 (0 : Int32) (1 : Int32)) noX fun v12 h11 =>
      if v12 = 0 then
        rI (-1 : Int32) h11
      else
        hQ (c_B_rope h11 this x1) noX fun v14 h13 =>
        nn v14 fun a15 =>
        hI (c_R_before h13 a15 x2 x3) noX fun v18 h17 =>
        rI v18 h17)
set_option maxHeartbeats 4000000 in
theorem m_B_rank (h : PH) (this : Nat) (x1 : Int32) (x2 : Int32) (x3 : Int32) : MM yX1_rank (ws_ yX1_rank cX1_rank 4 (some .int)) 115 [.ref this, .int x1, .int x2, .int x3] h (c_B_rank h this x1 x2 x3) := by
  refine MM.of (by decide) rfl (by decide) (Nat.le_of_ble_eq_true rfl) (own := RX1) (cc := cX1_rank) (maxL := 4) (lev := 115) (rt := (some .int)) (ini := false) ?_
  show Sim Y_B_rank h 0 [(0, .ref this), (1, .int x1), (2, .int x2), (3, .int x3)] [] _
  unfold c_B_rank
  refine x_grd ?_
  refine x_aload_nR (pc := 0) (a := this) 0 rfl rfl dX1_rank_0 ?_
  refine x_iload_n (pc := 1) 1 rfl rfl dX1_rank_1 ?_
  refine x_callV (pc := 2) (As := [.int x1]) (rest := []) (lev' := 2) si_X1_186 (m_B_isRow h this x1) (fun z e => grd1 e) rfl rfl (by decide) (cat4 (Nat.le_of_ble_eq_true rfl)) dX1_rank_2 (kI (fun v2 h1 => ?_)) xNo
  refine x_if_eq (pc := 5) 46 (by decide) dX1_rank_5 ?_ ?_
  · refine x_iconst (pc := 46) (v := (-1)) (by decide) dX1_rank_46 ?_
    exact x_iret (pc := 47) dX1_rank_47
  · refine x_iload_n (pc := 8) 2 rfl rfl dX1_rank_8 ?_
    refine x_iconst (pc := 9) (v := 0) (by decide) dX1_rank_9 ?_
    refine x_aload_nR (pc := 10) (a := this) 0 rfl rfl dX1_rank_10 ?_
    refine x_iload_n (pc := 11) 1 rfl rfl dX1_rank_11 ?_
    refine x_callV (pc := 12) (As := [.int x1]) (rest := [.int (0 : Int32), .int x2]) (lev' := 114) si_X1_204 (m_B_rope h1 this x1) (fun z e => grd1 e) rfl rfl (by decide) (cat4 (Nat.le_of_ble_eq_true rfl)) dX1_rank_12 (kQ (fun v4 h3 => ?_)) xNo
    refine x_nn (fun a5 e6 => ?_)
    subst e6
    refine x_callV (pc := 15) (As := []) (rest := [.int (0 : Int32), .int x2]) (lev' := 1) si_X1_194 (m_R_wide h3 a5) (fun z e => grd1 e) rfl rfl (by decide) (cat4 (Nat.le_of_ble_eq_true rfl)) dX1_rank_15 (kI (fun v8 h7 => ?_)) xNo
    refine x_callS (pc := 18) (As := [.int x2, .int (0 : Int32), .int v8]) (rest := []) (lev' := 1) si_X1_182 (m_B_isIn h7 x2 (0 : Int32) v8) rfl rfl (by decide) (cat4 (Nat.le_of_ble_eq_true rfl)) dX1_rank_18 (kI (fun v10 h9 => ?_)) xNo
    refine x_if_eq (pc := 21) 46 (by decide) dX1_rank_21 ?_ ?_
    · refine x_iconst (pc := 46) (v := (-1)) (by decide) dX1_rank_46 ?_
      exact x_iret (pc := 47) dX1_rank_47
    · refine x_iload_n (pc := 24) 3 rfl rfl dX1_rank_24 ?_
      refine x_iconst (pc := 25) (v := 0) (by decide) dX1_rank_25 ?_
      refine x_iconst (pc := 26) (v := 1) (by decide) dX1_rank_26 ?_
      refine x_callS (pc := 27) (As := [.int x3, .int (0 : Int32), .int (1 : Int32)]) (rest := []) (lev' := 1) si_X1_182 (m_B_isIn h9 x3 (0 : Int32) (1 : Int32)) rfl rfl (by decide) (cat4 (Nat.le_of_ble_eq_true rfl)) dX1_rank_27 (kI (fun v12 h11 => ?_)) xNo
      refine x_if_eq (pc := 30) 46 (by decide) dX1_rank_30 ?_ ?_
      · refine x_iconst (pc := 46) (v := (-1)) (by decide) dX1_rank_46 ?_
        exact x_iret (pc := 47) dX1_rank_47
      · refine x_aload_nR (pc := 33) (a := this) 0 rfl rfl dX1_rank_33 ?_
        refine x_iload_n (pc := 34) 1 rfl rfl dX1_rank_34 ?_
        refine x_callV (pc := 35) (As := [.int x1]) (rest := []) (lev' := 114) si_X1_204 (m_B_rope h11 this x1) (fun z e => grd1 e) rfl rfl (by decide) (cat4 (Nat.le_of_ble_eq_true rfl)) dX1_rank_35 (kQ (fun v14 h13 => ?_)) xNo
        refine x_iload_n (pc := 38) 2 rfl rfl dX1_rank_38 ?_
        refine x_iload_n (pc := 39) 3 rfl rfl dX1_rank_39 ?_
        refine x_nn (fun a15 e16 => ?_)
        subst e16
        refine x_callV (pc := 40) (As := [.int x2, .int x3]) (rest := []) (lev' := 4) si_X1_211 (m_R_before h13 a15 x2 x3) (fun z e => grd1 e) rfl rfl (by decide) (cat4 (Nat.le_of_ble_eq_true rfl)) dX1_rank_40 (kI (fun v18 h17 => ?_)) xNo
        refine x_goto (pc := 43) 47 (by decide) dX1_rank_43 ?_
        exact x_iret (pc := 47) dX1_rank_47
