set_option maxRecDepth 100000
theorem fi_X10_21 : FI RX10 21 [8] 5 .int false true := (fi_c ci_8 (by decide) rfl rfl (Or.inl q1691) (Or.inl rfl) (fun h => absurd h (by decide)) fi_n)
theorem fi_X10_30 : FI RX10 30 [8] 7 .int false true := (fi_c ci_8 (by decide) rfl rfl (Or.inl q1693) (Or.inl rfl) (fun h => absurd h (by decide)) fi_n)
theorem fi_X10_40 : FI RX10 40 [8] 9 .int false true := (fi_c ci_8 (by decide) rfl rfl (Or.inl q1695) (Or.inl rfl) (fun h => absurd h (by decide)) fi_n)
theorem fi_X10_24 : FI RX10 24 [8] 6 .int false true := (fi_c ci_8 (by decide) rfl rfl (Or.inl q1692) (Or.inl rfl) (fun h => absurd h (by decide)) fi_n)
theorem fi_X10_47 : FI RX10 47 [8] 8 .int false true := (fi_c ci_8 (by decide) rfl rfl (Or.inl q1694) (Or.inl rfl) (fun h => absurd h (by decide)) fi_n)
theorem fi_X10_43 : FI RX10 43 [8] 12 .long false true := (fi_c ci_8 (by decide) rfl rfl (Or.inl q1698) (Or.inl rfl) (fun h => absurd h (by decide)) fi_n)
theorem si_X10_33 : SiS RX10 33 yX10_isLetter cX10_isLetter 1 (some .boolean) 1 := ⟨lw_S q1821 q1822 q121 q1823, ⟨by decide, by decide, by decide +kernel⟩, by decide⟩
theorem si_X10_50 : SiV RX10 50 8 yX10_tapeAt cX10_tapeAt 2 (some .int) 1 := ⟨_, _, _, ci_8.1, by decide, lw_V q1827 q1829 qs42 q121 q1830, ⟨rfl, by decide, by decide, by decide +kernel⟩, by decide⟩
theorem si_X10_37 : SiS RX10 37 yX10_isDigit cX10_isDigit 1 (some .boolean) 1 := ⟨lw_S q1824 q1825 q121 q1826, ⟨by decide, by decide, by decide +kernel⟩, by decide⟩
theorem fi_X10_27 : FI RX10 27 [8] 4 .int false true := (fi_c ci_8 (by decide) rfl rfl (Or.inl q1690) (Or.inl rfl) (fun h => absurd h (by decide)) fi_n)
abbrev Y_M_go : Yx := (RX10, cX10_go, 5, 2, none, [], false)
def c_M_go_j39 (r0 : PH → Nat → Option RH) (h : PH) (this : Nat) : Option RH :=
  gI h this [8] 5 fun v1 =>
  pI h this [8] 5 (v1 + (1 : Int32)) fun h2 =>
  r0 h2 this
def c_M_go_j179 (h : PH) (this : Nat) (x1 : Int32) (s0 : Int32) (s1 : Nat) : Option RH :=
  pI h s1 [8] 7 s0 fun h1 =>
  pI h1 this [8] 9 x1 fun h2 =>
  gI h2 this [8] 5 fun v3 =>
  pI h2 this [8] 5 (v3 + (1 : Int32)) fun h4 =>
  rV h4
def c_M_go_j174 (h : PH) (this : Nat) (x1 : Int32) (s0 : Nat) : Option RH :=
  c_M_go_j179 h this x1 (4 : Int32) s0
def c_M_go_j337 (r215 : PH → Nat → Int32 → Int32 → Option RH) (h : PH) (this : Nat) (x2 : Int32) (x3 : Int32) : Option RH :=
  gI h this [8] 5 fun v1 =>
  pI h this [8] 5 (v1 + (1 : Int32)) fun h2 =>
  r215 h2 this x2 x3
def c_M_go_j307 (r215 : PH → Nat → Int32 → Int32 → Option RH) (h : PH) (this : Nat) (x2 : Int32) (x3 : Int32) (x4 : Int32) : Option RH :=
  gI h this [8] 5 fun v1 =>
  gI h this [8] 6 fun v2 =>
  if (3 : Int32) ≤ (v1 - v2) then
    c_M_go_j337 r215 h this x2 x3
  else
    gI h this [8] 8 fun v3 =>
    pI h this [8] 8 ((((10 : Int32) * v3) + x4) - (48 : Int32)) fun h4 =>
    c_M_go_j337 r215 h4 this x2 x3
def c_M_go_j272 (r215 : PH → Nat → Int32 → Int32 → Option RH) (h : PH) (this : Nat) (x2 : Int32) (x4 : Int32) (s0 : Int32) : Option RH :=
  gI h this [8] 5 fun v1 =>
  gI h this [8] 6 fun v2 =>
  if (7 : Int32) ≤ (v1 - v2) then
    c_M_go_j307 r215 h this x2 s0 x4
  else
    gL h this [8] 12 fun v3 =>
    pL h this [8] 12 ((((27 : Int64) * v3) + x4.toInt64) - (96 : Int64)) fun h4 =>
    c_M_go_j307 r215 h4 this x2 s0 x4
def c_M_go_j271 (r215 : PH → Nat → Int32 → Int32 → Option RH) (h : PH) (this : Nat) (x2 : Int32) (x4 : Int32) : Option RH :=
  c_M_go_j272 r215 h this x2 x4 (0 : Int32)
def c_M_go_j243 (r215 : PH → Nat → Int32 → Int32 → Option RH) (h : PH) (this : Nat) (x2 : Int32) (x3 : Int32) : Option RH :=
  gQ h this [8] 1 fun v1 =>
  gI h this [8] 5 fun v2 =>
  nn v1 fun a3 =>
  ldI h a3 0 v2 fun v5 =>
  if x3 = 0 then
    c_M_go_j271 r215 h this x2 v5
  else
    hI (c_M_isLetter h v5) noX fun v7 h6 =>
    if v7 = x2 then
      c_M_go_j272 r215 h6 this x2 v5 (1 : Int32)
    else
      c_M_go_j271 r215 h6 this x2 v5
def c_M_go_j374 (h : PH) (x2 : Int32) (s0 : Int32) (s1 : Int32) (s2 : Nat) : Option RH :=
  if s1 ≤ s0 then
    if x2 = 0 then
      pI h s2 [8] 7 (3 : Int32) fun h1 =>
      rV h1
    else
      pI h s2 [8] 7 (2 : Int32) fun h2 =>
      rV h2
  else
    pI h s2 [8] 7 (1 : Int32) fun h3 =>
    rV h3
def c_M_go_l215 (r215 : PH → Nat → Int32 → Int32 → Option RH) (h : PH) (this : Nat) (x2 : Int32) (x3 : Int32) : Option RH :=
  gI h this [8] 5 fun v1 =>
  hI (c_M_tapeAt h this v1) noX fun v3 h2 =>
  hI (c_M_isLetter h2 v3) noX fun v5 h4 =>
  if v5 = 0 then
    gI h4 this [8] 5 fun v6 =>
    hI (c_M_tapeAt h4 this v6) noX fun v8 h7 =>
    hI (c_M_isDigit h7 v8) noX fun v10 h9 =>
    if v10 = 0 then
      if x3 = 0 then
        pI h9 this [8] 7 (1 : Int32) fun h11 =>
        rV h11
      else
        gI h9 this [8] 5 fun v12 =>
        gI h9 this [8] 6 fun v13 =>
        if x2 = 0 then
          c_M_go_j374 h9 x2 (3 : Int32) (v12 - v13) this
        else
          c_M_go_j374 h9 x2 (7 : Int32) (v12 - v13) this
    else
      c_M_go_j243 r215 h9 this x2 x3
  else
    c_M_go_j243 r215 h4 this x2 x3
def c_M_go_j198 (h : PH) (this : Nat) (x1 : Int32) : Option RH :=
  hI (c_M_isLetter h x1) noX fun v2 h1 =>
  pL h1 this [8] 12 (0 : Int64) fun h3 =>
  pI h3 this [8] 8 (0 : Int32) fun h4 =>
  itr (c_M_go_l215) (fun _ _ _ _ => none) FU h4 this v2 (1 : Int32)
def c_M_go_j96 (h : PH) (this : Nat) : Option RH :=
  gI h this [8] 5 fun v1 =>
  gI h this [8] 3 fun v2 =>
  if v1 < v2 then
    gQ h this [8] 1 fun v3 =>
    gI h this [8] 5 fun v4 =>
    nn v3 fun a5 =>
    ldI h a5 0 v4 fun v7 =>
    hI (c_M_isLetter h v7) noX fun v9 h8 =>
    if v9 = 0 then
      hI (c_M_isDigit h8 v7) noX fun v11 h10 =>
      if v11 = 0 then
        if v7 = (59 : Int32) then
          c_M_go_j174 h10 this v7 this
        else
          if v7 = (60 : Int32) then
            c_M_go_j174 h10 this v7 this
          else
            if v7 = (61 : Int32) then
              c_M_go_j174 h10 this v7 this
            else
              if v7 = (62 : Int32) then
                c_M_go_j174 h10 this v7 this
              else
                if v7 = (40 : Int32) then
                  c_M_go_j174 h10 this v7 this
                else
                  if v7 = (41 : Int32) then
                    c_M_go_j174 h10 this v7 this
                  else
                    c_M_go_j179 h10 this v7 (1 : Int32) this
      else
        c_M_go_j198 h10 this v7
    else
      c_M_go_j198 h8 this v7
  else
    pI h this [8] 7 (0 : Int32) fun h12 =>
    rV h12
def c_M_go_j52 (h : PH) (this : Nat) : Option RH :=
  gI h this [8] 5 fun v1 =>
  pI h this [8] 6 v1 fun h2 =>
  gI h2 this [8] 3 fun v3 =>
  gI h2 this [8] 4 fun v4 =>
  if v3 ≤ v4 then
    c_M_go_j96 h2 this
  else
    gI h2 this [8] 6 fun v5 =>
    gI h2 this [8] 4 fun v6 =>
    if v5 < v6 then
      c_M_go_j96 h2 this
    else
      gI h2 this [8] 4 fun v7 =>
      pI h2 this [8] 6 v7 fun h8 =>
      pI h8 this [8] 7 (1 : Int32) fun h9 =>
      rV h9
def c_M_go_l0 (r0 : PH → Nat → Option RH) (h : PH) (this : Nat) : Option RH :=
  gI h this [8] 5 fun v1 =>
  gI h this [8] 3 fun v2 =>
  if v2 ≤ v1 then
    c_M_go_j52 h this
  else
    gQ h this [8] 1 fun v3 =>
    gI h this [8] 5 fun v4 =>
    nn v3 fun a5 =>
    ldI h a5 0 v4 fun v7 =>
    if v7 = (32 : Int32) then
      c_M_go_j39 r0 h this
    else
      gQ h this [8] 1 fun v8 =>
      gI h this [8] 5 fun v9 =>
      nn v8 fun a10 =>
      ldI h a10 0 v9 fun v12 =>
      if v12 = (10 : Int32) then
        c_M_go_j39 r0 h this
      else
        c_M_go_j52 h this
def c_M_go (h : PH) (this : Nat) : Option RH :=
  grd h this [8] (
  itr (c_M_go_l0) (fun _ _ => none) FU h this)
set_option maxHeartbeats 4000000 in
theorem w_M_go_j39 (r0 : PH → Nat → Option RH) (hr0 : ∀ (h : PH) (this : Nat), Sim Y_M_go h 0 [(0, .ref this)] [] (r0 h this)) (h : PH) (this : Nat) : Sim Y_M_go h 39 [(0, .ref this)] [] (c_M_go_j39 r0 h this) := by
  unfold c_M_go_j39
  refine x_aload_nR (pc := 39) (a := this) 0 rfl rfl dX10_go_39 ?_
  refine x_dup (pc := 40) rfl dX10_go_40 ?_
  refine x_getI (pc := 41) fi_X10_21 dX10_go_41 ?_
  intro v1
  refine x_iconst (pc := 44) (v := 1) (by decide) dX10_go_44 ?_
  refine x_iadd (pc := 45) dX10_go_45 ?_
  refine x_pI (pc := 46) fi_X10_21 (fun z => absurd z (by decide)) dX10_go_46 ?_
  intro h2
  refine x_goto (pc := 49) 0 (by decide) dX10_go_49 ?_
  exact hr0 h2 this
set_option maxHeartbeats 4000000 in
theorem w_M_go_j179 (h : PH) (this : Nat) (x1 : Int32) (s0 : Int32) (s1 : Nat) : Sim Y_M_go h 179 [(0, .ref this), (1, .int x1)] [.int s0, .ref s1] (c_M_go_j179 h this x1 s0 s1) := by
  unfold c_M_go_j179
  refine x_pI (pc := 179) fi_X10_30 (fun z => absurd z (by decide)) dX10_go_179 ?_
  intro h1
  refine x_aload_nR (pc := 182) (a := this) 0 rfl rfl dX10_go_182 ?_
  refine x_iload_n (pc := 183) 1 rfl rfl dX10_go_183 ?_
  refine x_pI (pc := 184) fi_X10_40 (fun z => absurd z (by decide)) dX10_go_184 ?_
  intro h2
  refine x_aload_nR (pc := 187) (a := this) 0 rfl rfl dX10_go_187 ?_
  refine x_dup (pc := 188) rfl dX10_go_188 ?_
  refine x_getI (pc := 189) fi_X10_21 dX10_go_189 ?_
  intro v3
  refine x_iconst (pc := 192) (v := 1) (by decide) dX10_go_192 ?_
  refine x_iadd (pc := 193) dX10_go_193 ?_
  refine x_pI (pc := 194) fi_X10_21 (fun z => absurd z (by decide)) dX10_go_194 ?_
  intro h4
  exact x_vret (pc := 197) dX10_go_197
set_option maxHeartbeats 4000000 in
theorem w_M_go_j174 (h : PH) (this : Nat) (x1 : Int32) (s0 : Nat) : Sim Y_M_go h 174 [(0, .ref this), (1, .int x1)] [.ref s0] (c_M_go_j174 h this x1 s0) := by
  unfold c_M_go_j174
  refine x_iconst (pc := 174) (v := 4) (by decide) dX10_go_174 ?_
  refine x_goto (pc := 175) 179 (by decide) dX10_go_175 ?_
  exact w_M_go_j179 h this x1 (4 : Int32) s0
set_option maxHeartbeats 4000000 in
theorem w_M_go_j337 (r215 : PH → Nat → Int32 → Int32 → Option RH) (hr215 : ∀ (h : PH) (this : Nat) (x2 : Int32) (x3 : Int32), Sim Y_M_go h 215 [(0, .ref this), (2, .int x2), (3, .int x3)] [] (r215 h this x2 x3)) (h : PH) (this : Nat) (x2 : Int32) (x3 : Int32) : Sim Y_M_go h 337 [(0, .ref this), (2, .int x2), (3, .int x3)] [] (c_M_go_j337 r215 h this x2 x3) := by
  unfold c_M_go_j337
  refine x_aload_nR (pc := 337) (a := this) 0 rfl rfl dX10_go_337 ?_
  refine x_dup (pc := 338) rfl dX10_go_338 ?_
  refine x_getI (pc := 339) fi_X10_21 dX10_go_339 ?_
  intro v1
  refine x_iconst (pc := 342) (v := 1) (by decide) dX10_go_342 ?_
  refine x_iadd (pc := 343) dX10_go_343 ?_
  refine x_pI (pc := 344) fi_X10_21 (fun z => absurd z (by decide)) dX10_go_344 ?_
  intro h2
  refine x_goto (pc := 347) 215 (by decide) dX10_go_347 ?_
  exact hr215 h2 this x2 x3
set_option maxHeartbeats 4000000 in
theorem w_M_go_j307 (r215 : PH → Nat → Int32 → Int32 → Option RH) (hr215 : ∀ (h : PH) (this : Nat) (x2 : Int32) (x3 : Int32), Sim Y_M_go h 215 [(0, .ref this), (2, .int x2), (3, .int x3)] [] (r215 h this x2 x3)) (h : PH) (this : Nat) (x2 : Int32) (x3 : Int32) (x4 : Int32) : Sim Y_M_go h 307 [(0, .ref this), (2, .int x2), (3, .int x3), (4, .int x4)] [] (c_M_go_j307 r215 h this x2 x3 x4) := by
  unfold c_M_go_j307
  refine x_aload_nR (pc := 307) (a := this) 0 rfl rfl dX10_go_307 ?_
  refine x_getI (pc := 308) fi_X10_21 dX10_go_308 ?_
  intro v1
  refine x_aload_nR (pc := 311) (a := this) 0 rfl rfl dX10_go_311 ?_
  refine x_getI (pc := 312) fi_X10_24 dX10_go_312 ?_
  intro v2
  refine x_isub (pc := 315) dX10_go_315 ?_
  refine x_iconst (pc := 316) (v := 3) (by decide) dX10_go_316 ?_
  refine x_icmp_ge (pc := 317) 337 (by decide) dX10_go_317 ?_ ?_
  · refine Sim.lv [0, 1, 2] rfl ?_
    exact w_M_go_j337 r215 hr215 h this x2 x3
  · refine x_aload_nR (pc := 320) (a := this) 0 rfl rfl dX10_go_320 ?_
    refine x_bipush (pc := 321) (v := 10) (by decide) dX10_go_321 ?_
    refine x_aload_nR (pc := 323) (a := this) 0 rfl rfl dX10_go_323 ?_
    refine x_getI (pc := 324) fi_X10_47 dX10_go_324 ?_
    intro v3
    refine x_imul (pc := 327) dX10_go_327 ?_
    refine x_iload (pc := 328) 3 rfl dX10_go_328 ?_
    refine x_iadd (pc := 330) dX10_go_330 ?_
    refine x_bipush (pc := 331) (v := 48) (by decide) dX10_go_331 ?_
    refine x_isub (pc := 333) dX10_go_333 ?_
    refine x_pI (pc := 334) fi_X10_47 (fun z => absurd z (by decide)) dX10_go_334 ?_
    intro h4
    refine Sim.lv [0, 1, 2] rfl ?_
    exact w_M_go_j337 r215 hr215 h4 this x2 x3
set_option maxHeartbeats 4000000 in
theorem w_M_go_j272 (r215 : PH → Nat → Int32 → Int32 → Option RH) (hr215 : ∀ (h : PH) (this : Nat) (x2 : Int32) (x3 : Int32), Sim Y_M_go h 215 [(0, .ref this), (2, .int x2), (3, .int x3)] [] (r215 h this x2 x3)) (h : PH) (this : Nat) (x2 : Int32) (x4 : Int32) (s0 : Int32) : Sim Y_M_go h 272 [(0, .ref this), (2, .int x2), (4, .int x4)] [.int s0] (c_M_go_j272 r215 h this x2 x4 s0) := by
  unfold c_M_go_j272
  refine x_istore_n (pc := 272) (lv' := [(3, .int s0), (0, .ref this), (2, .int x2), (4, .int x4)]) rfl (by decide) rfl dX10_go_272 ?_
  refine x_aload_nR (pc := 273) (a := this) 1 rfl rfl dX10_go_273 ?_
  refine x_getI (pc := 274) fi_X10_21 dX10_go_274 ?_
  intro v1
  refine x_aload_nR (pc := 277) (a := this) 1 rfl rfl dX10_go_277 ?_
  refine x_getI (pc := 278) fi_X10_24 dX10_go_278 ?_
  intro v2
  refine x_isub (pc := 281) dX10_go_281 ?_
  refine x_bipush (pc := 282) (v := 7) (by decide) dX10_go_282 ?_
  refine x_icmp_ge (pc := 284) 307 (by decide) dX10_go_284 ?_ ?_
  · refine Sim.lv [1, 2, 0, 3] rfl ?_
    exact w_M_go_j307 r215 hr215 h this x2 s0 x4
  · refine x_aload_nR (pc := 287) (a := this) 1 rfl rfl dX10_go_287 ?_
    refine x_ldc2 (pc := 288) (v := 27) q1831 dX10_go_288 ?_
    refine x_aload_nR (pc := 291) (a := this) 1 rfl rfl dX10_go_291 ?_
    refine x_getL (pc := 292) fi_X10_43 dX10_go_292 ?_
    intro v3
    refine x_lmul (pc := 295) dX10_go_295 ?_
    refine x_iload (pc := 296) 3 rfl dX10_go_296 ?_
    refine x_i2l (pc := 298) dX10_go_298 ?_
    refine x_ladd (pc := 299) dX10_go_299 ?_
    refine x_ldc2 (pc := 300) (v := 96) q1832 dX10_go_300 ?_
    refine x_lsub (pc := 303) dX10_go_303 ?_
    refine x_pL (pc := 304) fi_X10_43 (fun z => absurd z (by decide)) dX10_go_304 ?_
    intro h4
    refine Sim.lv [1, 2, 0, 3] rfl ?_
    exact w_M_go_j307 r215 hr215 h4 this x2 s0 x4
set_option maxHeartbeats 4000000 in
theorem w_M_go_j271 (r215 : PH → Nat → Int32 → Int32 → Option RH) (hr215 : ∀ (h : PH) (this : Nat) (x2 : Int32) (x3 : Int32), Sim Y_M_go h 215 [(0, .ref this), (2, .int x2), (3, .int x3)] [] (r215 h this x2 x3)) (h : PH) (this : Nat) (x2 : Int32) (x4 : Int32) : Sim Y_M_go h 271 [(0, .ref this), (2, .int x2), (4, .int x4)] [] (c_M_go_j271 r215 h this x2 x4) := by
  unfold c_M_go_j271
  refine x_iconst (pc := 271) (v := 0) (by decide) dX10_go_271 ?_
  exact w_M_go_j272 r215 hr215 h this x2 x4 (0 : Int32)
set_option maxHeartbeats 4000000 in
theorem w_M_go_j243 (r215 : PH → Nat → Int32 → Int32 → Option RH) (hr215 : ∀ (h : PH) (this : Nat) (x2 : Int32) (x3 : Int32), Sim Y_M_go h 215 [(0, .ref this), (2, .int x2), (3, .int x3)] [] (r215 h this x2 x3)) (h : PH) (this : Nat) (x2 : Int32) (x3 : Int32) : Sim Y_M_go h 243 [(0, .ref this), (2, .int x2), (3, .int x3)] [] (c_M_go_j243 r215 h this x2 x3) := by
  unfold c_M_go_j243
  refine x_aload_nR (pc := 243) (a := this) 0 rfl rfl dX10_go_243 ?_
  refine x_getQ (pc := 244) fi_X10_7 dX10_go_244 ?_
  intro v1
  refine x_aload_nR (pc := 247) (a := this) 0 rfl rfl dX10_go_247 ?_
  refine x_getI (pc := 248) fi_X10_21 dX10_go_248 ?_
  intro v2
  refine x_nn (fun a3 e4 => ?_)
  subst e4
  refine x_iald (pc := 251) dX10_go_251 ?_
  intro v5
  refine x_istore (pc := 252) (lv' := [(4, .int v5), (0, .ref this), (2, .int x2), (3, .int x3)]) (by decide) rfl dX10_go_252 ?_
  refine x_iload_n (pc := 254) 3 rfl rfl dX10_go_254 ?_
  refine x_if_eq (pc := 255) 271 (by decide) dX10_go_255 ?_ ?_
  · refine Sim.lv [1, 2, 0] rfl ?_
    exact w_M_go_j271 r215 hr215 h this x2 v5
  · refine x_iload (pc := 258) 0 rfl dX10_go_258 ?_
    refine x_callS (pc := 260) (As := [.int v5]) (rest := []) (lev' := 1) si_X10_33 (m_M_isLetter h v5) rfl rfl (by decide) (cat4 (Nat.le_of_ble_eq_true rfl)) dX10_go_260 (kI (fun v7 h6 => ?_)) xNo
    refine x_iload_n (pc := 263) 2 rfl rfl dX10_go_263 ?_
    refine x_icmp_ne (pc := 264) 271 (by decide) dX10_go_264 ?_ ?_
    · refine Sim.lv [1, 2, 0] rfl ?_
      exact w_M_go_j271 r215 hr215 h6 this x2 v5
    · refine x_iconst (pc := 267) (v := 1) (by decide) dX10_go_267 ?_
      refine x_goto (pc := 268) 272 (by decide) dX10_go_268 ?_
      refine Sim.lv [1, 2, 0] rfl ?_
      exact w_M_go_j272 r215 hr215 h6 this x2 v5 (1 : Int32)
set_option maxHeartbeats 4000000 in
theorem w_M_go_j374 (h : PH) (x2 : Int32) (s0 : Int32) (s1 : Int32) (s2 : Nat) : Sim Y_M_go h 374 [(2, .int x2)] [.int s0, .int s1, .ref s2] (c_M_go_j374 h x2 s0 s1 s2) := by
  unfold c_M_go_j374
  refine x_icmp_le (pc := 374) 381 (by decide) dX10_go_374 ?_ ?_
  · refine x_iload_n (pc := 381) 0 rfl rfl dX10_go_381 ?_
    refine x_if_eq (pc := 382) 389 (by decide) dX10_go_382 ?_ ?_
    · refine x_iconst (pc := 389) (v := 3) (by decide) dX10_go_389 ?_
      refine x_pI (pc := 390) fi_X10_30 (fun z => absurd z (by decide)) dX10_go_390 ?_
      intro h1
      exact x_vret (pc := 393) dX10_go_393
    · refine x_iconst (pc := 385) (v := 2) (by decide) dX10_go_385 ?_
      refine x_goto (pc := 386) 390 (by decide) dX10_go_386 ?_
      refine x_pI (pc := 390) fi_X10_30 (fun z => absurd z (by decide)) dX10_go_390 ?_
      intro h2
      exact x_vret (pc := 393) dX10_go_393
  · refine x_iconst (pc := 377) (v := 1) (by decide) dX10_go_377 ?_
    refine x_goto (pc := 378) 390 (by decide) dX10_go_378 ?_
    refine x_pI (pc := 390) fi_X10_30 (fun z => absurd z (by decide)) dX10_go_390 ?_
    intro h3
    exact x_vret (pc := 393) dX10_go_393
set_option maxHeartbeats 4000000 in
theorem w_M_go_l215 (r215 : PH → Nat → Int32 → Int32 → Option RH) (hr215 : ∀ (h : PH) (this : Nat) (x2 : Int32) (x3 : Int32), Sim Y_M_go h 215 [(0, .ref this), (2, .int x2), (3, .int x3)] [] (r215 h this x2 x3)) (h : PH) (this : Nat) (x2 : Int32) (x3 : Int32) : Sim Y_M_go h 215 [(0, .ref this), (2, .int x2), (3, .int x3)] [] (c_M_go_l215 r215 h this x2 x3) := by
  unfold c_M_go_l215
  refine x_aload_nR (pc := 215) (a := this) 0 rfl rfl dX10_go_215 ?_
  refine x_aload_nR (pc := 216) (a := this) 0 rfl rfl dX10_go_216 ?_
  refine x_getI (pc := 217) fi_X10_21 dX10_go_217 ?_
  intro v1
  refine x_callV (pc := 220) (As := [.int v1]) (rest := []) (lev' := 1) si_X10_50 (m_M_tapeAt h this v1) (fun z e => grd1 e) rfl rfl (by decide) (cat4 (Nat.le_of_ble_eq_true rfl)) dX10_go_220 (kI (fun v3 h2 => ?_)) xNo
  refine x_callS (pc := 223) (As := [.int v3]) (rest := []) (lev' := 1) si_X10_33 (m_M_isLetter h2 v3) rfl rfl (by decide) (cat4 (Nat.le_of_ble_eq_true rfl)) dX10_go_223 (kI (fun v5 h4 => ?_)) xNo
  refine x_if_ne (pc := 226) 243 (by decide) dX10_go_226 ?_ ?_
  · exact w_M_go_j243 r215 hr215 h4 this x2 x3
  · refine x_aload_nR (pc := 229) (a := this) 0 rfl rfl dX10_go_229 ?_
    refine x_aload_nR (pc := 230) (a := this) 0 rfl rfl dX10_go_230 ?_
    refine x_getI (pc := 231) fi_X10_21 dX10_go_231 ?_
    intro v6
    refine x_callV (pc := 234) (As := [.int v6]) (rest := []) (lev' := 1) si_X10_50 (m_M_tapeAt h4 this v6) (fun z e => grd1 e) rfl rfl (by decide) (cat4 (Nat.le_of_ble_eq_true rfl)) dX10_go_234 (kI (fun v8 h7 => ?_)) xNo
    refine x_callS (pc := 237) (As := [.int v8]) (rest := []) (lev' := 1) si_X10_37 (m_M_isDigit h7 v8) rfl rfl (by decide) (cat4 (Nat.le_of_ble_eq_true rfl)) dX10_go_237 (kI (fun v10 h9 => ?_)) xNo
    refine x_if_eq (pc := 240) 350 (by decide) dX10_go_240 ?_ ?_
    · refine x_aload_nR (pc := 350) (a := this) 0 rfl rfl dX10_go_350 ?_
      refine x_iload_n (pc := 351) 2 rfl rfl dX10_go_351 ?_
      refine x_if_eq (pc := 352) 377 (by decide) dX10_go_352 ?_ ?_
      · refine x_iconst (pc := 377) (v := 1) (by decide) dX10_go_377 ?_
        refine x_goto (pc := 378) 390 (by decide) dX10_go_378 ?_
        refine x_pI (pc := 390) fi_X10_30 (fun z => absurd z (by decide)) dX10_go_390 ?_
        intro h11
        exact x_vret (pc := 393) dX10_go_393
      · refine x_aload_nR (pc := 355) (a := this) 0 rfl rfl dX10_go_355 ?_
        refine x_getI (pc := 356) fi_X10_21 dX10_go_356 ?_
        intro v12
        refine x_aload_nR (pc := 359) (a := this) 0 rfl rfl dX10_go_359 ?_
        refine x_getI (pc := 360) fi_X10_24 dX10_go_360 ?_
        intro v13
        refine x_isub (pc := 363) dX10_go_363 ?_
        refine x_iload_n (pc := 364) 1 rfl rfl dX10_go_364 ?_
        refine x_if_eq (pc := 365) 373 (by decide) dX10_go_365 ?_ ?_
        · refine x_iconst (pc := 373) (v := 3) (by decide) dX10_go_373 ?_
          refine Sim.lv [1] rfl ?_
          exact w_M_go_j374 h9 x2 (3 : Int32) (v12 - v13) this
        · refine x_bipush (pc := 368) (v := 7) (by decide) dX10_go_368 ?_
          refine x_goto (pc := 370) 374 (by decide) dX10_go_370 ?_
          refine Sim.lv [1] rfl ?_
          exact w_M_go_j374 h9 x2 (7 : Int32) (v12 - v13) this
    · exact w_M_go_j243 r215 hr215 h9 this x2 x3
set_option maxHeartbeats 4000000 in
theorem v_M_go_l215 : ∀ (n : Nat) (h : PH) (this : Nat) (x2 : Int32) (x3 : Int32), Sim Y_M_go h 215 [(0, .ref this), (2, .int x2), (3, .int x3)] [] (itr (c_M_go_l215) (fun _ _ _ _ => none) n h this x2 x3)
  | 0, h, this, x2, x3 => Sim.none
  | n + 1, h, this, x2, x3 => w_M_go_l215 _ (v_M_go_l215 n) h this x2 x3
set_option maxHeartbeats 4000000 in
theorem w_M_go_j198 (h : PH) (this : Nat) (x1 : Int32) : Sim Y_M_go h 198 [(0, .ref this), (1, .int x1)] [] (c_M_go_j198 h this x1) := by
  unfold c_M_go_j198
  refine x_iload_n (pc := 198) 1 rfl rfl dX10_go_198 ?_
  refine x_callS (pc := 199) (As := [.int x1]) (rest := []) (lev' := 1) si_X10_33 (m_M_isLetter h x1) rfl rfl (by decide) (cat4 (Nat.le_of_ble_eq_true rfl)) dX10_go_199 (kI (fun v2 h1 => ?_)) xNo
  refine x_istore_n (pc := 202) (lv' := [(2, .int v2), (0, .ref this), (1, .int x1)]) rfl (by decide) rfl dX10_go_202 ?_
  refine x_iconst (pc := 203) (v := 1) (by decide) dX10_go_203 ?_
  refine x_istore_n (pc := 204) (lv' := [(3, .int (1 : Int32)), (2, .int v2), (0, .ref this), (1, .int x1)]) rfl (by decide) rfl dX10_go_204 ?_
  refine x_aload_nR (pc := 205) (a := this) 2 rfl rfl dX10_go_205 ?_
  refine x_lconst (pc := 206) (v := 0) (by decide) dX10_go_206 ?_
  refine x_pL (pc := 207) fi_X10_43 (fun z => absurd z (by decide)) dX10_go_207 ?_
  intro h3
  refine x_aload_nR (pc := 210) (a := this) 2 rfl rfl dX10_go_210 ?_
  refine x_iconst (pc := 211) (v := 0) (by decide) dX10_go_211 ?_
  refine x_pI (pc := 212) fi_X10_47 (fun z => absurd z (by decide)) dX10_go_212 ?_
  intro h4
  refine Sim.lv [2, 1, 0] rfl ?_
  exact v_M_go_l215 FU h4 this v2 (1 : Int32)
set_option maxHeartbeats 4000000 in
theorem w_M_go_j96 (h : PH) (this : Nat) : Sim Y_M_go h 96 [(0, .ref this)] [] (c_M_go_j96 h this) := by
  unfold c_M_go_j96
  refine x_aload_nR (pc := 96) (a := this) 0 rfl rfl dX10_go_96 ?_
  refine x_getI (pc := 97) fi_X10_21 dX10_go_97 ?_
  intro v1
  refine x_aload_nR (pc := 100) (a := this) 0 rfl rfl dX10_go_100 ?_
  refine x_getI (pc := 101) fi_X10_18 dX10_go_101 ?_
  intro v2
  refine x_icmp_lt (pc := 104) 113 (by decide) dX10_go_104 ?_ ?_
  · refine x_aload_nR (pc := 113) (a := this) 0 rfl rfl dX10_go_113 ?_
    refine x_getQ (pc := 114) fi_X10_7 dX10_go_114 ?_
    intro v3
    refine x_aload_nR (pc := 117) (a := this) 0 rfl rfl dX10_go_117 ?_
    refine x_getI (pc := 118) fi_X10_21 dX10_go_118 ?_
    intro v4
    refine x_nn (fun a5 e6 => ?_)
    subst e6
    refine x_iald (pc := 121) dX10_go_121 ?_
    intro v7
    refine x_istore_n (pc := 122) (lv' := [(1, .int v7), (0, .ref this)]) rfl (by decide) rfl dX10_go_122 ?_
    refine x_iload_n (pc := 123) 0 rfl rfl dX10_go_123 ?_
    refine x_callS (pc := 124) (As := [.int v7]) (rest := []) (lev' := 1) si_X10_33 (m_M_isLetter h v7) rfl rfl (by decide) (cat4 (Nat.le_of_ble_eq_true rfl)) dX10_go_124 (kI (fun v9 h8 => ?_)) xNo
    refine x_if_ne (pc := 127) 198 (by decide) dX10_go_127 ?_ ?_
    · refine Sim.lv [1, 0] rfl ?_
      exact w_M_go_j198 h8 this v7
    · refine x_iload_n (pc := 130) 0 rfl rfl dX10_go_130 ?_
      refine x_callS (pc := 131) (As := [.int v7]) (rest := []) (lev' := 1) si_X10_37 (m_M_isDigit h8 v7) rfl rfl (by decide) (cat4 (Nat.le_of_ble_eq_true rfl)) dX10_go_131 (kI (fun v11 h10 => ?_)) xNo
      refine x_if_ne (pc := 134) 198 (by decide) dX10_go_134 ?_ ?_
      · refine Sim.lv [1, 0] rfl ?_
        exact w_M_go_j198 h10 this v7
      · refine x_aload_nR (pc := 137) (a := this) 1 rfl rfl dX10_go_137 ?_
        refine x_iload_n (pc := 138) 0 rfl rfl dX10_go_138 ?_
        refine x_bipush (pc := 139) (v := 59) (by decide) dX10_go_139 ?_
        refine x_icmp_eq (pc := 141) 174 (by decide) dX10_go_141 ?_ ?_
        · refine Sim.lv [1, 0] rfl ?_
          exact w_M_go_j174 h10 this v7 this
        · refine x_iload_n (pc := 144) 0 rfl rfl dX10_go_144 ?_
          refine x_bipush (pc := 145) (v := 60) (by decide) dX10_go_145 ?_
          refine x_icmp_eq (pc := 147) 174 (by decide) dX10_go_147 ?_ ?_
          · refine Sim.lv [1, 0] rfl ?_
            exact w_M_go_j174 h10 this v7 this
          · refine x_iload_n (pc := 150) 0 rfl rfl dX10_go_150 ?_
            refine x_bipush (pc := 151) (v := 61) (by decide) dX10_go_151 ?_
            refine x_icmp_eq (pc := 153) 174 (by decide) dX10_go_153 ?_ ?_
            · refine Sim.lv [1, 0] rfl ?_
              exact w_M_go_j174 h10 this v7 this
            · refine x_iload_n (pc := 156) 0 rfl rfl dX10_go_156 ?_
              refine x_bipush (pc := 157) (v := 62) (by decide) dX10_go_157 ?_
              refine x_icmp_eq (pc := 159) 174 (by decide) dX10_go_159 ?_ ?_
              · refine Sim.lv [1, 0] rfl ?_
                exact w_M_go_j174 h10 this v7 this
              · refine x_iload_n (pc := 162) 0 rfl rfl dX10_go_162 ?_
                refine x_bipush (pc := 163) (v := 40) (by decide) dX10_go_163 ?_
                refine x_icmp_eq (pc := 165) 174 (by decide) dX10_go_165 ?_ ?_
                · refine Sim.lv [1, 0] rfl ?_
                  exact w_M_go_j174 h10 this v7 this
                · refine x_iload_n (pc := 168) 0 rfl rfl dX10_go_168 ?_
                  refine x_bipush (pc := 169) (v := 41) (by decide) dX10_go_169 ?_
                  refine x_icmp_ne (pc := 171) 178 (by decide) dX10_go_171 ?_ ?_
                  · refine x_iconst (pc := 178) (v := 1) (by decide) dX10_go_178 ?_
                    refine Sim.lv [1, 0] rfl ?_
                    exact w_M_go_j179 h10 this v7 (1 : Int32) this
                  · refine Sim.lv [1, 0] rfl ?_
                    exact w_M_go_j174 h10 this v7 this
  · refine x_aload_nR (pc := 107) (a := this) 0 rfl rfl dX10_go_107 ?_
    refine x_iconst (pc := 108) (v := 0) (by decide) dX10_go_108 ?_
    refine x_pI (pc := 109) fi_X10_30 (fun z => absurd z (by decide)) dX10_go_109 ?_
    intro h12
    exact x_vret (pc := 112) dX10_go_112
set_option maxHeartbeats 4000000 in
theorem w_M_go_j52 (h : PH) (this : Nat) : Sim Y_M_go h 52 [(0, .ref this)] [] (c_M_go_j52 h this) := by
  unfold c_M_go_j52
  refine x_aload_nR (pc := 52) (a := this) 0 rfl rfl dX10_go_52 ?_
  refine x_aload_nR (pc := 53) (a := this) 0 rfl rfl dX10_go_53 ?_
  refine x_getI (pc := 54) fi_X10_21 dX10_go_54 ?_
  intro v1
  refine x_pI (pc := 57) fi_X10_24 (fun z => absurd z (by decide)) dX10_go_57 ?_
  intro h2
  refine x_aload_nR (pc := 60) (a := this) 0 rfl rfl dX10_go_60 ?_
  refine x_getI (pc := 61) fi_X10_18 dX10_go_61 ?_
  intro v3
  refine x_aload_nR (pc := 64) (a := this) 0 rfl rfl dX10_go_64 ?_
  refine x_getI (pc := 65) fi_X10_27 dX10_go_65 ?_
  intro v4
  refine x_icmp_le (pc := 68) 96 (by decide) dX10_go_68 ?_ ?_
  · exact w_M_go_j96 h2 this
  · refine x_aload_nR (pc := 71) (a := this) 0 rfl rfl dX10_go_71 ?_
    refine x_getI (pc := 72) fi_X10_24 dX10_go_72 ?_
    intro v5
    refine x_aload_nR (pc := 75) (a := this) 0 rfl rfl dX10_go_75 ?_
    refine x_getI (pc := 76) fi_X10_27 dX10_go_76 ?_
    intro v6
    refine x_icmp_lt (pc := 79) 96 (by decide) dX10_go_79 ?_ ?_
    · exact w_M_go_j96 h2 this
    · refine x_aload_nR (pc := 82) (a := this) 0 rfl rfl dX10_go_82 ?_
      refine x_aload_nR (pc := 83) (a := this) 0 rfl rfl dX10_go_83 ?_
      refine x_getI (pc := 84) fi_X10_27 dX10_go_84 ?_
      intro v7
      refine x_pI (pc := 87) fi_X10_24 (fun z => absurd z (by decide)) dX10_go_87 ?_
      intro h8
      refine x_aload_nR (pc := 90) (a := this) 0 rfl rfl dX10_go_90 ?_
      refine x_iconst (pc := 91) (v := 1) (by decide) dX10_go_91 ?_
      refine x_pI (pc := 92) fi_X10_30 (fun z => absurd z (by decide)) dX10_go_92 ?_
      intro h9
      exact x_vret (pc := 95) dX10_go_95
set_option maxHeartbeats 4000000 in
theorem w_M_go_l0 (r0 : PH → Nat → Option RH) (hr0 : ∀ (h : PH) (this : Nat), Sim Y_M_go h 0 [(0, .ref this)] [] (r0 h this)) (h : PH) (this : Nat) : Sim Y_M_go h 0 [(0, .ref this)] [] (c_M_go_l0 r0 h this) := by
  unfold c_M_go_l0
  refine x_aload_nR (pc := 0) (a := this) 0 rfl rfl dX10_go_0 ?_
  refine x_getI (pc := 1) fi_X10_21 dX10_go_1 ?_
  intro v1
  refine x_aload_nR (pc := 4) (a := this) 0 rfl rfl dX10_go_4 ?_
  refine x_getI (pc := 5) fi_X10_18 dX10_go_5 ?_
  intro v2
  refine x_icmp_ge (pc := 8) 52 (by decide) dX10_go_8 ?_ ?_
  · exact w_M_go_j52 h this
  · refine x_aload_nR (pc := 11) (a := this) 0 rfl rfl dX10_go_11 ?_
    refine x_getQ (pc := 12) fi_X10_7 dX10_go_12 ?_
    intro v3
    refine x_aload_nR (pc := 15) (a := this) 0 rfl rfl dX10_go_15 ?_
    refine x_getI (pc := 16) fi_X10_21 dX10_go_16 ?_
    intro v4
    refine x_nn (fun a5 e6 => ?_)
    subst e6
    refine x_iald (pc := 19) dX10_go_19 ?_
    intro v7
    refine x_bipush (pc := 20) (v := 32) (by decide) dX10_go_20 ?_
    refine x_icmp_eq (pc := 22) 39 (by decide) dX10_go_22 ?_ ?_
    · exact w_M_go_j39 r0 hr0 h this
    · refine x_aload_nR (pc := 25) (a := this) 0 rfl rfl dX10_go_25 ?_
      refine x_getQ (pc := 26) fi_X10_7 dX10_go_26 ?_
      intro v8
      refine x_aload_nR (pc := 29) (a := this) 0 rfl rfl dX10_go_29 ?_
      refine x_getI (pc := 30) fi_X10_21 dX10_go_30 ?_
      intro v9
      refine x_nn (fun a10 e11 => ?_)
      subst e11
      refine x_iald (pc := 33) dX10_go_33 ?_
      intro v12
      refine x_bipush (pc := 34) (v := 10) (by decide) dX10_go_34 ?_
      refine x_icmp_ne (pc := 36) 52 (by decide) dX10_go_36 ?_ ?_
      · exact w_M_go_j52 h this
      · exact w_M_go_j39 r0 hr0 h this
set_option maxHeartbeats 4000000 in
theorem v_M_go_l0 : ∀ (n : Nat) (h : PH) (this : Nat), Sim Y_M_go h 0 [(0, .ref this)] [] (itr (c_M_go_l0) (fun _ _ => none) n h this)
  | 0, h, this => Sim.none
  | n + 1, h, this => w_M_go_l0 _ (v_M_go_l0 n) h this
set_option maxHeartbeats 4000000 in
theorem m_M_go (h : PH) (this : Nat) : MM yX10_go (ws_ yX10_go cX10_go 5 none) 2 [.ref this] h (c_M_go h this) := by
  refine MM.of (by decide) rfl (by decide) (Nat.le_of_ble_eq_true rfl) (own := RX10) (cc := cX10_go) (maxL := 5) (lev := 2) (rt := none) (ini := false) ?_
  show Sim Y_M_go h 0 [(0, .ref this)] [] _
  unfold c_M_go
  refine x_grd ?_
  exact v_M_go_l0 FU h this
theorem si_X10_89 : SiV RX10 89 8 yX10_take cX10_take 2 (some .int) 0 := ⟨_, _, _, ci_8.1, by decide, lw_V q1813 q1815 qs40 q121 q1816, ⟨rfl, by decide, by decide, by decide +kernel⟩, by decide⟩
theorem fi_X10_66 : FI RX10 66 [8] 10 .int false true := (fi_c ci_8 (by decide) rfl rfl (Or.inl q1696) (Or.inl rfl) (fun h => absurd h (by decide)) fi_n)
theorem si_X10_82 : SiV RX10 82 8 yX10_go cX10_go 5 none 0 := ⟨_, _, _, ci_8.1, by decide, lw_V q1817 q1819 qs41 q121 q1820, ⟨rfl, by decide, by decide, by decide +kernel⟩, by decide⟩
abbrev Y_M_begin : Yx := (RX10, cX10_begin, 2, 3, none, [], false)
def c_M_begin (h : PH) (this : Nat) (x1 : Int32) : Option RH :=
  grd h this [8] (
  pI h this [8] 0 (0 : Int32) fun h1 =>
  hI (c_M_take h1 this) noX fun v3 h2 =>
  pI h2 this [8] 3 v3 fun h4 =>
  pI h4 this [8] 4 x1 fun h5 =>
  pI h5 this [8] 10 (0 : Int32) fun h6 =>
  pI h6 this [8] 5 (0 : Int32) fun h7 =>
  hV (c_M_go h7 this) noX fun h8 =>
  rV h8)
set_option maxHeartbeats 4000000 in
theorem m_M_begin (h : PH) (this : Nat) (x1 : Int32) : MM yX10_begin (ws_ yX10_begin cX10_begin 2 none) 3 [.ref this, .int x1] h (c_M_begin h this x1) := by
  refine MM.of (by decide) rfl (by decide) (Nat.le_of_ble_eq_true rfl) (own := RX10) (cc := cX10_begin) (maxL := 2) (lev := 3) (rt := none) (ini := false) ?_
  show Sim Y_M_begin h 0 [(0, .ref this), (1, .int x1)] [] _
  unfold c_M_begin
  refine x_grd ?_
  refine x_aload_nR (pc := 0) (a := this) 0 rfl rfl dX10_begin_0 ?_
  refine x_iconst (pc := 1) (v := 0) (by decide) dX10_begin_1 ?_
  refine x_pI (pc := 2) fi_X10_1 (fun z => absurd z (by decide)) dX10_begin_2 ?_
  intro h1
  refine x_aload_nR (pc := 5) (a := this) 0 rfl rfl dX10_begin_5 ?_
  refine x_aload_nR (pc := 6) (a := this) 0 rfl rfl dX10_begin_6 ?_
  refine x_callV (pc := 7) (As := []) (rest := [.ref this]) (lev' := 1) si_X10_89 (m_M_take h1 this) (fun z e => grd1 e) rfl rfl (by decide) (cat4 (Nat.le_of_ble_eq_true rfl)) dX10_begin_7 (kI (fun v3 h2 => ?_)) xNo
  refine x_pI (pc := 10) fi_X10_18 (fun z => absurd z (by decide)) dX10_begin_10 ?_
  intro h4
  refine x_aload_nR (pc := 13) (a := this) 0 rfl rfl dX10_begin_13 ?_
  refine x_iload_n (pc := 14) 1 rfl rfl dX10_begin_14 ?_
  refine x_pI (pc := 15) fi_X10_27 (fun z => absurd z (by decide)) dX10_begin_15 ?_
  intro h5
  refine x_aload_nR (pc := 18) (a := this) 0 rfl rfl dX10_begin_18 ?_
  refine x_iconst (pc := 19) (v := 0) (by decide) dX10_begin_19 ?_
  refine x_pI (pc := 20) fi_X10_66 (fun z => absurd z (by decide)) dX10_begin_20 ?_
  intro h6
  refine x_aload_nR (pc := 23) (a := this) 0 rfl rfl dX10_begin_23 ?_
  refine x_iconst (pc := 24) (v := 0) (by decide) dX10_begin_24 ?_
  refine x_pI (pc := 25) fi_X10_21 (fun z => absurd z (by decide)) dX10_begin_25 ?_
  intro h7
  refine x_aload_nR (pc := 28) (a := this) 0 rfl rfl dX10_begin_28 ?_
  refine x_callV (pc := 29) (As := []) (rest := []) (lev' := 2) si_X10_82 (m_M_go h7 this) (fun z e => grd1 e) rfl rfl (by decide) (cat4 (Nat.le_of_ble_eq_true rfl)) dX10_begin_29 (kV (fun h8 => ?_)) xNo
  exact x_vret (pc := 32) dX10_begin_32
abbrev Y_M_spelt : Yx := (RX10, cX10_spelt, 9, 1, (some .long), [], false)
def c_M_spelt_j99 (h : PH) (x6 : Int32) (x7 : Int64) : Option RH :=
  if x6 ≤ 0 then
    rL x7 h
  else
    nm ((((27 : Int64) * x7) + x6.toInt64) - (96 : Int64)) fun y1 =>
    rL y1 h
def c_M_spelt_j78 (h : PH) (x5 : Int32) (x6 : Int32) (x7 : Int64) : Option RH :=
  if x5 ≤ 0 then
    c_M_spelt_j99 h x6 x7
  else
    nm ((((27 : Int64) * x7) + x5.toInt64) - (96 : Int64)) fun y1 =>
    c_M_spelt_j99 h x6 y1
def c_M_spelt_j57 (h : PH) (x4 : Int32) (x5 : Int32) (x6 : Int32) (x7 : Int64) : Option RH :=
  if x4 ≤ 0 then
    c_M_spelt_j78 h x5 x6 x7
  else
    nm ((((27 : Int64) * x7) + x4.toInt64) - (96 : Int64)) fun y1 =>
    c_M_spelt_j78 h x5 x6 y1
def c_M_spelt_j38 (h : PH) (x3 : Int32) (x4 : Int32) (x5 : Int32) (x6 : Int32) (x7 : Int64) : Option RH :=
  if x3 ≤ 0 then
    c_M_spelt_j57 h x4 x5 x6 x7
  else
    nm ((((27 : Int64) * x7) + x3.toInt64) - (96 : Int64)) fun y1 =>
    c_M_spelt_j57 h x4 x5 x6 y1
def c_M_spelt (h : PH) (x0 : Int32) (x1 : Int32) (x2 : Int32) (x3 : Int32) (x4 : Int32) (x5 : Int32) (x6 : Int32) : Option RH :=
  nm ((((27 : Int64) * (x0.toInt64 - (96 : Int64))) + x1.toInt64) - (96 : Int64)) fun y1 =>
  if x2 ≤ 0 then
    c_M_spelt_j38 h x3 x4 x5 x6 y1
  else
    nm ((((27 : Int64) * y1) + x2.toInt64) - (96 : Int64)) fun y2 =>
    c_M_spelt_j38 h x3 x4 x5 x6 y2
set_option maxHeartbeats 4000000 in
theorem w_M_spelt_j99 (h : PH) (x6 : Int32) (x7 : Int64) : Sim Y_M_spelt h 99 [(6, .int x6), (7, .long x7)] [] (c_M_spelt_j99 h x6 x7) := by
  unfold c_M_spelt_j99
  refine x_iload (pc := 99) 0 rfl dX10_spelt_99 ?_
  refine x_if_le (pc := 101) 120 (by decide) dX10_spelt_101 ?_ ?_
  · refine x_lload (pc := 120) 1 rfl dX10_spelt_120 ?_
    exact x_lret (pc := 122) dX10_spelt_122
  · refine x_ldc2 (pc := 104) (v := 27) q1831 dX10_spelt_104 ?_
    refine x_lload (pc := 107) 1 rfl dX10_spelt_107 ?_
    refine x_lmul (pc := 109) dX10_spelt_109 ?_
    refine x_iload (pc := 110) 0 rfl dX10_spelt_110 ?_
    refine x_i2l (pc := 112) dX10_spelt_112 ?_
    refine x_ladd (pc := 113) dX10_spelt_113 ?_
    refine x_ldc2 (pc := 114) (v := 96) q1832 dX10_spelt_114 ?_
    refine x_lsub (pc := 117) dX10_spelt_117 ?_
    refine x_nmL (fun y1 => ?_)
    refine x_lstore (pc := 118) (lv' := [(7, .long y1), (6, .int x6)]) (by decide) rfl dX10_spelt_118 ?_
    refine x_lload (pc := 120) 0 rfl dX10_spelt_120 ?_
    exact x_lret (pc := 122) dX10_spelt_122
set_option maxHeartbeats 4000000 in
theorem w_M_spelt_j78 (h : PH) (x5 : Int32) (x6 : Int32) (x7 : Int64) : Sim Y_M_spelt h 78 [(5, .int x5), (6, .int x6), (7, .long x7)] [] (c_M_spelt_j78 h x5 x6 x7) := by
  unfold c_M_spelt_j78
  refine x_iload (pc := 78) 0 rfl dX10_spelt_78 ?_
  refine x_if_le (pc := 80) 99 (by decide) dX10_spelt_80 ?_ ?_
  · refine Sim.lv [1, 2] rfl ?_
    exact w_M_spelt_j99 h x6 x7
  · refine x_ldc2 (pc := 83) (v := 27) q1831 dX10_spelt_83 ?_
    refine x_lload (pc := 86) 2 rfl dX10_spelt_86 ?_
    refine x_lmul (pc := 88) dX10_spelt_88 ?_
    refine x_iload (pc := 89) 0 rfl dX10_spelt_89 ?_
    refine x_i2l (pc := 91) dX10_spelt_91 ?_
    refine x_ladd (pc := 92) dX10_spelt_92 ?_
    refine x_ldc2 (pc := 93) (v := 96) q1832 dX10_spelt_93 ?_
    refine x_lsub (pc := 96) dX10_spelt_96 ?_
    refine x_nmL (fun y1 => ?_)
    refine x_lstore (pc := 97) (lv' := [(7, .long y1), (5, .int x5), (6, .int x6)]) (by decide) rfl dX10_spelt_97 ?_
    refine Sim.lv [2, 0] rfl ?_
    exact w_M_spelt_j99 h x6 y1
set_option maxHeartbeats 4000000 in
theorem w_M_spelt_j57 (h : PH) (x4 : Int32) (x5 : Int32) (x6 : Int32) (x7 : Int64) : Sim Y_M_spelt h 57 [(4, .int x4), (5, .int x5), (6, .int x6), (7, .long x7)] [] (c_M_spelt_j57 h x4 x5 x6 x7) := by
  unfold c_M_spelt_j57
  refine x_iload (pc := 57) 0 rfl dX10_spelt_57 ?_
  refine x_if_le (pc := 59) 78 (by decide) dX10_spelt_59 ?_ ?_
  · refine Sim.lv [1, 2, 3] rfl ?_
    exact w_M_spelt_j78 h x5 x6 x7
  · refine x_ldc2 (pc := 62) (v := 27) q1831 dX10_spelt_62 ?_
    refine x_lload (pc := 65) 3 rfl dX10_spelt_65 ?_
    refine x_lmul (pc := 67) dX10_spelt_67 ?_
    refine x_iload (pc := 68) 0 rfl dX10_spelt_68 ?_
    refine x_i2l (pc := 70) dX10_spelt_70 ?_
    refine x_ladd (pc := 71) dX10_spelt_71 ?_
    refine x_ldc2 (pc := 72) (v := 96) q1832 dX10_spelt_72 ?_
    refine x_lsub (pc := 75) dX10_spelt_75 ?_
    refine x_nmL (fun y1 => ?_)
    refine x_lstore (pc := 76) (lv' := [(7, .long y1), (4, .int x4), (5, .int x5), (6, .int x6)]) (by decide) rfl dX10_spelt_76 ?_
    refine Sim.lv [2, 3, 0] rfl ?_
    exact w_M_spelt_j78 h x5 x6 y1
set_option maxHeartbeats 4000000 in
theorem w_M_spelt_j38 (h : PH) (x3 : Int32) (x4 : Int32) (x5 : Int32) (x6 : Int32) (x7 : Int64) : Sim Y_M_spelt h 38 [(3, .int x3), (4, .int x4), (5, .int x5), (6, .int x6), (7, .long x7)] [] (c_M_spelt_j38 h x3 x4 x5 x6 x7) := by
  unfold c_M_spelt_j38
  refine x_iload_n (pc := 38) 0 rfl rfl dX10_spelt_38 ?_
  refine x_if_le (pc := 39) 57 (by decide) dX10_spelt_39 ?_ ?_
  · refine Sim.lv [1, 2, 3, 4] rfl ?_
    exact w_M_spelt_j57 h x4 x5 x6 x7
  · refine x_ldc2 (pc := 42) (v := 27) q1831 dX10_spelt_42 ?_
    refine x_lload (pc := 45) 4 rfl dX10_spelt_45 ?_
    refine x_lmul (pc := 47) dX10_spelt_47 ?_
    refine x_iload_n (pc := 48) 0 rfl rfl dX10_spelt_48 ?_
    refine x_i2l (pc := 49) dX10_spelt_49 ?_
    refine x_ladd (pc := 50) dX10_spelt_50 ?_
    refine x_ldc2 (pc := 51) (v := 96) q1832 dX10_spelt_51 ?_
    refine x_lsub (pc := 54) dX10_spelt_54 ?_
    refine x_nmL (fun y1 => ?_)
    refine x_lstore (pc := 55) (lv' := [(7, .long y1), (3, .int x3), (4, .int x4), (5, .int x5), (6, .int x6)]) (by decide) rfl dX10_spelt_55 ?_
    refine Sim.lv [2, 3, 4, 0] rfl ?_
    exact w_M_spelt_j57 h x4 x5 x6 y1
set_option maxHeartbeats 4000000 in
theorem m_M_spelt (h : PH) (x0 : Int32) (x1 : Int32) (x2 : Int32) (x3 : Int32) (x4 : Int32) (x5 : Int32) (x6 : Int32) : MM yX10_spelt (ws_ yX10_spelt cX10_spelt 9 (some .long)) 1 [.int x0, .int x1, .int x2, .int x3, .int x4, .int x5, .int x6] h (c_M_spelt h x0 x1 x2 x3 x4 x5 x6) := by
  refine MM.of (by decide) rfl (by decide) (Nat.le_of_ble_eq_true rfl) (own := RX10) (cc := cX10_spelt) (maxL := 9) (lev := 1) (rt := (some .long)) (ini := false) ?_
  show Sim Y_M_spelt h 0 [(0, .int x0), (1, .int x1), (2, .int x2), (3, .int x3), (4, .int x4), (5, .int x5), (6, .int x6)] [] _
  unfold c_M_spelt
  refine x_ldc2 (pc := 0) (v := 27) q1831 dX10_spelt_0 ?_
  refine x_iload_n (pc := 3) 0 rfl rfl dX10_spelt_3 ?_
  refine x_i2l (pc := 4) dX10_spelt_4 ?_
  refine x_ldc2 (pc := 5) (v := 96) q1832 dX10_spelt_5 ?_
  refine x_lsub (pc := 8) dX10_spelt_8 ?_
  refine x_lmul (pc := 9) dX10_spelt_9 ?_
  refine x_iload_n (pc := 10) 1 rfl rfl dX10_spelt_10 ?_
  refine x_i2l (pc := 11) dX10_spelt_11 ?_
  refine x_ladd (pc := 12) dX10_spelt_12 ?_
  refine x_ldc2 (pc := 13) (v := 96) q1832 dX10_spelt_13 ?_
  refine x_lsub (pc := 16) dX10_spelt_16 ?_
  refine x_nmL (fun y1 => ?_)
  refine x_lstore (pc := 17) (lv' := [(7, .long y1), (0, .int x0), (1, .int x1), (2, .int x2), (3, .int x3), (4, .int x4), (5, .int x5), (6, .int x6)]) (by decide) rfl dX10_spelt_17 ?_
  refine x_iload_n (pc := 19) 3 rfl rfl dX10_spelt_19 ?_
  refine x_if_le (pc := 20) 38 (by decide) dX10_spelt_20 ?_ ?_
  · refine Sim.lv [4, 5, 6, 7, 0] rfl ?_
    exact w_M_spelt_j38 h x3 x4 x5 x6 y1
  · refine x_ldc2 (pc := 23) (v := 27) q1831 dX10_spelt_23 ?_
    refine x_lload (pc := 26) 0 rfl dX10_spelt_26 ?_
    refine x_lmul (pc := 28) dX10_spelt_28 ?_
    refine x_iload_n (pc := 29) 3 rfl rfl dX10_spelt_29 ?_
    refine x_i2l (pc := 30) dX10_spelt_30 ?_
    refine x_ladd (pc := 31) dX10_spelt_31 ?_
    refine x_ldc2 (pc := 32) (v := 96) q1832 dX10_spelt_32 ?_
    refine x_lsub (pc := 35) dX10_spelt_35 ?_
    refine x_nmL (fun y2 => ?_)
    refine x_lstore (pc := 36) (lv' := [(7, .long y2), (0, .int x0), (1, .int x1), (2, .int x2), (3, .int x3), (4, .int x4), (5, .int x5), (6, .int x6)]) (by decide) rfl dX10_spelt_36 ?_
    refine Sim.lv [4, 5, 6, 7, 0] rfl ?_
    exact w_M_spelt_j38 h x3 x4 x5 x6 y2
theorem si_X10_58 : SiS RX10 58 yX10_spelt cX10_spelt 9 (some .long) 7 := ⟨lw_S q1844 q1845 q121 q1846, ⟨by decide, by decide, by decide +kernel⟩, by decide⟩
abbrev Y_M_wordOf : Yx := (RX10, cX10_wordOf, 1, 2, (some .long), [], false)
def c_M_wordOf (h : PH) (x0 : Int32) : Option RH :=
  if x0 = 0 then
    hL (c_M_spelt h (108 : Int32) (101 : Int32) (97 : Int32) (102 : Int32) (0 : Int32) (0 : Int32) (0 : Int32)) noX fun v2 h1 =>
    rL v2 h1
  else
  if x0 = 1 then
    hL (c_M_spelt h (114 : Int32) (111 : Int32) (119 : Int32) (0 : Int32) (0 : Int32) (0 : Int32) (0 : Int32)) noX fun v4 h3 =>
    rL v4 h3
  else
  if x0 = 2 then
    hL (c_M_spelt h (108 : Int32) (101 : Int32) (116 : Int32) (116 : Int32) (101 : Int32) (114 : Int32) (115 : Int32)) noX fun v6 h5 =>
    rL v6 h5
  else
  if x0 = 3 then
    hL (c_M_spelt h (112 : Int32) (117 : Int32) (116 : Int32) (0 : Int32) (0 : Int32) (0 : Int32) (0 : Int32)) noX fun v8 h7 =>
    rL v8 h7
  else
  if x0 = 4 then
    hL (c_M_spelt h (115 : Int32) (101 : Int32) (116 : Int32) (0 : Int32) (0 : Int32) (0 : Int32) (0 : Int32)) noX fun v10 h9 =>
    rL v10 h9
  else
  if x0 = 5 then
    hL (c_M_spelt h (99 : Int32) (117 : Int32) (116 : Int32) (0 : Int32) (0 : Int32) (0 : Int32) (0 : Int32)) noX fun v12 h11 =>
    rL v12 h11
  else
  if x0 = 6 then
    hL (c_M_spelt h (116 : Int32) (117 : Int32) (114 : Int32) (110 : Int32) (0 : Int32) (0 : Int32) (0 : Int32)) noX fun v14 h13 =>
    rL v14 h13
  else
  if x0 = 7 then
    hL (c_M_spelt h (106 : Int32) (111 : Int32) (105 : Int32) (110 : Int32) (0 : Int32) (0 : Int32) (0 : Int32)) noX fun v16 h15 =>
    rL v16 h15
  else
  if x0 = 8 then
    hL (c_M_spelt h (115 : Int32) (112 : Int32) (108 : Int32) (105 : Int32) (116 : Int32) (0 : Int32) (0 : Int32)) noX fun v18 h17 =>
    rL v18 h17
  else
  if x0 = 9 then
    hL (c_M_spelt h (116 : Int32) (121 : Int32) (112 : Int32) (101 : Int32) (0 : Int32) (0 : Int32) (0 : Int32)) noX fun v20 h19 =>
    rL v20 h19
  else
  if x0 = 10 then
    hL (c_M_spelt h (101 : Int32) (114 : Int32) (97 : Int32) (115 : Int32) (101 : Int32) (0 : Int32) (0 : Int32)) noX fun v22 h21 =>
    rL v22 h21
  else
  if x0 = 11 then
    hL (c_M_spelt h (111 : Int32) (114 : Int32) (0 : Int32) (0 : Int32) (0 : Int32) (0 : Int32) (0 : Int32)) noX fun v24 h23 =>
    rL v24 h23
  else
  if x0 = 12 then
    hL (c_M_spelt h (97 : Int32) (110 : Int32) (100 : Int32) (0 : Int32) (0 : Int32) (0 : Int32) (0 : Int32)) noX fun v26 h25 =>
    rL v26 h25
  else
  if x0 = 13 then
    hL (c_M_spelt h (110 : Int32) (111 : Int32) (116 : Int32) (0 : Int32) (0 : Int32) (0 : Int32) (0 : Int32)) noX fun v28 h27 =>
    rL v28 h27
  else
  if x0 = 14 then
    hL (c_M_spelt h (101 : Int32) (109 : Int32) (112 : Int32) (116 : Int32) (121 : Int32) (0 : Int32) (0 : Int32)) noX fun v30 h29 =>
    rL v30 h29
  else
  if x0 = 15 then
    hL (c_M_spelt h (101 : Int32) (118 : Int32) (101 : Int32) (110 : Int32) (0 : Int32) (0 : Int32) (0 : Int32)) noX fun v32 h31 =>
    rL v32 h31
  else
  if x0 = 16 then
    hL (c_M_spelt h (108 : Int32) (105 : Int32) (107 : Int32) (101 : Int32) (0 : Int32) (0 : Int32) (0 : Int32)) noX fun v34 h33 =>
    rL v34 h33
  else
  if x0 = 17 then
    hL (c_M_spelt h (98 : Int32) (101 : Int32) (103 : Int32) (105 : Int32) (110 : Int32) (115 : Int32) (0 : Int32)) noX fun v36 h35 =>
    rL v36 h35
  else
  if x0 = 18 then
    hL (c_M_spelt h (115 : Int32) (105 : Int32) (122 : Int32) (101 : Int32) (0 : Int32) (0 : Int32) (0 : Int32)) noX fun v38 h37 =>
    rL v38 h37
  else
  if x0 = 19 then
    hL (c_M_spelt h (111 : Int32) (110 : Int32) (101 : Int32) (115 : Int32) (0 : Int32) (0 : Int32) (0 : Int32)) noX fun v40 h39 =>
    rL v40 h39
  else
  if x0 = 20 then
    hL (c_M_spelt h (114 : Int32) (117 : Int32) (110 : Int32) (115 : Int32) (0 : Int32) (0 : Int32) (0 : Int32)) noX fun v42 h41 =>
    rL v42 h41
  else
  if x0 = 21 then
    hL (c_M_spelt h (108 : Int32) (101 : Int32) (97 : Int32) (118 : Int32) (101 : Int32) (115 : Int32) (0 : Int32)) noX fun v44 h43 =>
    rL v44 h43
  else
  hL (c_M_spelt h (110 : Int32) (117 : Int32) (109 : Int32) (98 : Int32) (101 : Int32) (114 : Int32) (0 : Int32)) noX fun v46 h45 =>
  rL v46 h45
set_option maxHeartbeats 4000000 in
theorem m_M_wordOf (h : PH) (x0 : Int32) : MM yX10_wordOf (ws_ yX10_wordOf cX10_wordOf 1 (some .long)) 2 [.int x0] h (c_M_wordOf h x0) := by
  refine MM.of (by decide) rfl (by decide) (Nat.le_of_ble_eq_true rfl) (own := RX10) (cc := cX10_wordOf) (maxL := 1) (lev := 2) (rt := (some .long)) (ini := false) ?_
  show Sim Y_M_wordOf h 0 [(0, .int x0)] [] _
  unfold c_M_wordOf
  refine x_iload_n (pc := 0) 0 rfl rfl dX10_wordOf_0 ?_
  refine x_sw0 (pc := 1) (lo := 0) ?_
  refine x_sw (pc := 1) (v := 0) 104 dX10_wordOf_1 rfl (by decide) (by decide) rfl (by decide) ?_ ?_
  · refine x_bipush (pc := 104) (v := 108) (by decide) dX10_wordOf_104 ?_
    refine x_bipush (pc := 106) (v := 101) (by decide) dX10_wordOf_106 ?_
    refine x_bipush (pc := 108) (v := 97) (by decide) dX10_wordOf_108 ?_
    refine x_bipush (pc := 110) (v := 102) (by decide) dX10_wordOf_110 ?_
    refine x_iconst (pc := 112) (v := 0) (by decide) dX10_wordOf_112 ?_
    refine x_iconst (pc := 113) (v := 0) (by decide) dX10_wordOf_113 ?_
    refine x_iconst (pc := 114) (v := 0) (by decide) dX10_wordOf_114 ?_
    refine x_callS (pc := 115) (As := [.int (108 : Int32), .int (101 : Int32), .int (97 : Int32), .int (102 : Int32), .int (0 : Int32), .int (0 : Int32), .int (0 : Int32)]) (rest := []) (lev' := 1) si_X10_58 (m_M_spelt h (108 : Int32) (101 : Int32) (97 : Int32) (102 : Int32) (0 : Int32) (0 : Int32) (0 : Int32)) rfl rfl (by decide) (cat4 (Nat.le_of_ble_eq_true rfl)) dX10_wordOf_115 (kL (fun v2 h1 => ?_)) xNo
    exact x_lret (pc := 118) dX10_wordOf_118
  refine x_sw (pc := 1) (v := 1) 119 dX10_wordOf_1 rfl (by decide) (by decide) rfl (by decide) ?_ ?_
  · refine x_bipush (pc := 119) (v := 114) (by decide) dX10_wordOf_119 ?_
    refine x_bipush (pc := 121) (v := 111) (by decide) dX10_wordOf_121 ?_
    refine x_bipush (pc := 123) (v := 119) (by decide) dX10_wordOf_123 ?_
    refine x_iconst (pc := 125) (v := 0) (by decide) dX10_wordOf_125 ?_
    refine x_iconst (pc := 126) (v := 0) (by decide) dX10_wordOf_126 ?_
    refine x_iconst (pc := 127) (v := 0) (by decide) dX10_wordOf_127 ?_
    refine x_iconst (pc := 128) (v := 0) (by decide) dX10_wordOf_128 ?_
    refine x_callS (pc := 129) (As := [.int (114 : Int32), .int (111 : Int32), .int (119 : Int32), .int (0 : Int32), .int (0 : Int32), .int (0 : Int32), .int (0 : Int32)]) (rest := []) (lev' := 1) si_X10_58 (m_M_spelt h (114 : Int32) (111 : Int32) (119 : Int32) (0 : Int32) (0 : Int32) (0 : Int32) (0 : Int32)) rfl rfl (by decide) (cat4 (Nat.le_of_ble_eq_true rfl)) dX10_wordOf_129 (kL (fun v4 h3 => ?_)) xNo
    exact x_lret (pc := 132) dX10_wordOf_132
  refine x_sw (pc := 1) (v := 2) 133 dX10_wordOf_1 rfl (by decide) (by decide) rfl (by decide) ?_ ?_
  · refine x_bipush (pc := 133) (v := 108) (by decide) dX10_wordOf_133 ?_
    refine x_bipush (pc := 135) (v := 101) (by decide) dX10_wordOf_135 ?_
    refine x_bipush (pc := 137) (v := 116) (by decide) dX10_wordOf_137 ?_
    refine x_bipush (pc := 139) (v := 116) (by decide) dX10_wordOf_139 ?_
    refine x_bipush (pc := 141) (v := 101) (by decide) dX10_wordOf_141 ?_
    refine x_bipush (pc := 143) (v := 114) (by decide) dX10_wordOf_143 ?_
    refine x_bipush (pc := 145) (v := 115) (by decide) dX10_wordOf_145 ?_
    refine x_callS (pc := 147) (As := [.int (108 : Int32), .int (101 : Int32), .int (116 : Int32), .int (116 : Int32), .int (101 : Int32), .int (114 : Int32), .int (115 : Int32)]) (rest := []) (lev' := 1) si_X10_58 (m_M_spelt h (108 : Int32) (101 : Int32) (116 : Int32) (116 : Int32) (101 : Int32) (114 : Int32) (115 : Int32)) rfl rfl (by decide) (cat4 (Nat.le_of_ble_eq_true rfl)) dX10_wordOf_147 (kL (fun v6 h5 => ?_)) xNo
    exact x_lret (pc := 150) dX10_wordOf_150
  refine x_sw (pc := 1) (v := 3) 151 dX10_wordOf_1 rfl (by decide) (by decide) rfl (by decide) ?_ ?_
  · refine x_bipush (pc := 151) (v := 112) (by decide) dX10_wordOf_151 ?_
    refine x_bipush (pc := 153) (v := 117) (by decide) dX10_wordOf_153 ?_
    refine x_bipush (pc := 155) (v := 116) (by decide) dX10_wordOf_155 ?_
    refine x_iconst (pc := 157) (v := 0) (by decide) dX10_wordOf_157 ?_
    refine x_iconst (pc := 158) (v := 0) (by decide) dX10_wordOf_158 ?_
    refine x_iconst (pc := 159) (v := 0) (by decide) dX10_wordOf_159 ?_
    refine x_iconst (pc := 160) (v := 0) (by decide) dX10_wordOf_160 ?_
    refine x_callS (pc := 161) (As := [.int (112 : Int32), .int (117 : Int32), .int (116 : Int32), .int (0 : Int32), .int (0 : Int32), .int (0 : Int32), .int (0 : Int32)]) (rest := []) (lev' := 1) si_X10_58 (m_M_spelt h (112 : Int32) (117 : Int32) (116 : Int32) (0 : Int32) (0 : Int32) (0 : Int32) (0 : Int32)) rfl rfl (by decide) (cat4 (Nat.le_of_ble_eq_true rfl)) dX10_wordOf_161 (kL (fun v8 h7 => ?_)) xNo
    exact x_lret (pc := 164) dX10_wordOf_164
  refine x_sw (pc := 1) (v := 4) 165 dX10_wordOf_1 rfl (by decide) (by decide) rfl (by decide) ?_ ?_
  · refine x_bipush (pc := 165) (v := 115) (by decide) dX10_wordOf_165 ?_
    refine x_bipush (pc := 167) (v := 101) (by decide) dX10_wordOf_167 ?_
    refine x_bipush (pc := 169) (v := 116) (by decide) dX10_wordOf_169 ?_
    refine x_iconst (pc := 171) (v := 0) (by decide) dX10_wordOf_171 ?_
    refine x_iconst (pc := 172) (v := 0) (by decide) dX10_wordOf_172 ?_
    refine x_iconst (pc := 173) (v := 0) (by decide) dX10_wordOf_173 ?_
    refine x_iconst (pc := 174) (v := 0) (by decide) dX10_wordOf_174 ?_
    refine x_callS (pc := 175) (As := [.int (115 : Int32), .int (101 : Int32), .int (116 : Int32), .int (0 : Int32), .int (0 : Int32), .int (0 : Int32), .int (0 : Int32)]) (rest := []) (lev' := 1) si_X10_58 (m_M_spelt h (115 : Int32) (101 : Int32) (116 : Int32) (0 : Int32) (0 : Int32) (0 : Int32) (0 : Int32)) rfl rfl (by decide) (cat4 (Nat.le_of_ble_eq_true rfl)) dX10_wordOf_175 (kL (fun v10 h9 => ?_)) xNo
    exact x_lret (pc := 178) dX10_wordOf_178
  refine x_sw (pc := 1) (v := 5) 179 dX10_wordOf_1 rfl (by decide) (by decide) rfl (by decide) ?_ ?_
  · refine x_bipush (pc := 179) (v := 99) (by decide) dX10_wordOf_179 ?_
    refine x_bipush (pc := 181) (v := 117) (by decide) dX10_wordOf_181 ?_
    refine x_bipush (pc := 183) (v := 116) (by decide) dX10_wordOf_183 ?_
    refine x_iconst (pc := 185) (v := 0) (by decide) dX10_wordOf_185 ?_
    refine x_iconst (pc := 186) (v := 0) (by decide) dX10_wordOf_186 ?_
    refine x_iconst (pc := 187) (v := 0) (by decide) dX10_wordOf_187 ?_
    refine x_iconst (pc := 188) (v := 0) (by decide) dX10_wordOf_188 ?_
    refine x_callS (pc := 189) (As := [.int (99 : Int32), .int (117 : Int32), .int (116 : Int32), .int (0 : Int32), .int (0 : Int32), .int (0 : Int32), .int (0 : Int32)]) (rest := []) (lev' := 1) si_X10_58 (m_M_spelt h (99 : Int32) (117 : Int32) (116 : Int32) (0 : Int32) (0 : Int32) (0 : Int32) (0 : Int32)) rfl rfl (by decide) (cat4 (Nat.le_of_ble_eq_true rfl)) dX10_wordOf_189 (kL (fun v12 h11 => ?_)) xNo
    exact x_lret (pc := 192) dX10_wordOf_192
  refine x_sw (pc := 1) (v := 6) 193 dX10_wordOf_1 rfl (by decide) (by decide) rfl (by decide) ?_ ?_
  · refine x_bipush (pc := 193) (v := 116) (by decide) dX10_wordOf_193 ?_
    refine x_bipush (pc := 195) (v := 117) (by decide) dX10_wordOf_195 ?_
    refine x_bipush (pc := 197) (v := 114) (by decide) dX10_wordOf_197 ?_
    refine x_bipush (pc := 199) (v := 110) (by decide) dX10_wordOf_199 ?_
    refine x_iconst (pc := 201) (v := 0) (by decide) dX10_wordOf_201 ?_
    refine x_iconst (pc := 202) (v := 0) (by decide) dX10_wordOf_202 ?_
    refine x_iconst (pc := 203) (v := 0) (by decide) dX10_wordOf_203 ?_
    refine x_callS (pc := 204) (As := [.int (116 : Int32), .int (117 : Int32), .int (114 : Int32), .int (110 : Int32), .int (0 : Int32), .int (0 : Int32), .int (0 : Int32)]) (rest := []) (lev' := 1) si_X10_58 (m_M_spelt h (116 : Int32) (117 : Int32) (114 : Int32) (110 : Int32) (0 : Int32) (0 : Int32) (0 : Int32)) rfl rfl (by decide) (cat4 (Nat.le_of_ble_eq_true rfl)) dX10_wordOf_204 (kL (fun v14 h13 => ?_)) xNo
    exact x_lret (pc := 207) dX10_wordOf_207
  refine x_sw (pc := 1) (v := 7) 208 dX10_wordOf_1 rfl (by decide) (by decide) rfl (by decide) ?_ ?_
  · refine x_bipush (pc := 208) (v := 106) (by decide) dX10_wordOf_208 ?_
    refine x_bipush (pc := 210) (v := 111) (by decide) dX10_wordOf_210 ?_
    refine x_bipush (pc := 212) (v := 105) (by decide) dX10_wordOf_212 ?_
    refine x_bipush (pc := 214) (v := 110) (by decide) dX10_wordOf_214 ?_
    refine x_iconst (pc := 216) (v := 0) (by decide) dX10_wordOf_216 ?_
    refine x_iconst (pc := 217) (v := 0) (by decide) dX10_wordOf_217 ?_
    refine x_iconst (pc := 218) (v := 0) (by decide) dX10_wordOf_218 ?_
    refine x_callS (pc := 219) (As := [.int (106 : Int32), .int (111 : Int32), .int (105 : Int32), .int (110 : Int32), .int (0 : Int32), .int (0 : Int32), .int (0 : Int32)]) (rest := []) (lev' := 1) si_X10_58 (m_M_spelt h (106 : Int32) (111 : Int32) (105 : Int32) (110 : Int32) (0 : Int32) (0 : Int32) (0 : Int32)) rfl rfl (by decide) (cat4 (Nat.le_of_ble_eq_true rfl)) dX10_wordOf_219 (kL (fun v16 h15 => ?_)) xNo
    exact x_lret (pc := 222) dX10_wordOf_222
  refine x_sw (pc := 1) (v := 8) 223 dX10_wordOf_1 rfl (by decide) (by decide) rfl (by decide) ?_ ?_
  · refine x_bipush (pc := 223) (v := 115) (by decide) dX10_wordOf_223 ?_
    refine x_bipush (pc := 225) (v := 112) (by decide) dX10_wordOf_225 ?_
    refine x_bipush (pc := 227) (v := 108) (by decide) dX10_wordOf_227 ?_
    refine x_bipush (pc := 229) (v := 105) (by decide) dX10_wordOf_229 ?_
    refine x_bipush (pc := 231) (v := 116) (by decide) dX10_wordOf_231 ?_
    refine x_iconst (pc := 233) (v := 0) (by decide) dX10_wordOf_233 ?_
    refine x_iconst (pc := 234) (v := 0) (by decide) dX10_wordOf_234 ?_
    refine x_callS (pc := 235) (As := [.int (115 : Int32), .int (112 : Int32), .int (108 : Int32), .int (105 : Int32), .int (116 : Int32), .int (0 : Int32), .int (0 : Int32)]) (rest := []) (lev' := 1) si_X10_58 (m_M_spelt h (115 : Int32) (112 : Int32) (108 : Int32) (105 : Int32) (116 : Int32) (0 : Int32) (0 : Int32)) rfl rfl (by decide) (cat4 (Nat.le_of_ble_eq_true rfl)) dX10_wordOf_235 (kL (fun v18 h17 => ?_)) xNo
    exact x_lret (pc := 238) dX10_wordOf_238
  refine x_sw (pc := 1) (v := 9) 239 dX10_wordOf_1 rfl (by decide) (by decide) rfl (by decide) ?_ ?_
  · refine x_bipush (pc := 239) (v := 116) (by decide) dX10_wordOf_239 ?_
    refine x_bipush (pc := 241) (v := 121) (by decide) dX10_wordOf_241 ?_
    refine x_bipush (pc := 243) (v := 112) (by decide) dX10_wordOf_243 ?_
    refine x_bipush (pc := 245) (v := 101) (by decide) dX10_wordOf_245 ?_
    refine x_iconst (pc := 247) (v := 0) (by decide) dX10_wordOf_247 ?_
    refine x_iconst (pc := 248) (v := 0) (by decide) dX10_wordOf_248 ?_
    refine x_iconst (pc := 249) (v := 0) (by decide) dX10_wordOf_249 ?_
    refine x_callS (pc := 250) (As := [.int (116 : Int32), .int (121 : Int32), .int (112 : Int32), .int (101 : Int32), .int (0 : Int32), .int (0 : Int32), .int (0 : Int32)]) (rest := []) (lev' := 1) si_X10_58 (m_M_spelt h (116 : Int32) (121 : Int32) (112 : Int32) (101 : Int32) (0 : Int32) (0 : Int32) (0 : Int32)) rfl rfl (by decide) (cat4 (Nat.le_of_ble_eq_true rfl)) dX10_wordOf_250 (kL (fun v20 h19 => ?_)) xNo
    exact x_lret (pc := 253) dX10_wordOf_253
  refine x_sw (pc := 1) (v := 10) 254 dX10_wordOf_1 rfl (by decide) (by decide) rfl (by decide) ?_ ?_
  · refine x_bipush (pc := 254) (v := 101) (by decide) dX10_wordOf_254 ?_
    refine x_bipush (pc := 256) (v := 114) (by decide) dX10_wordOf_256 ?_
    refine x_bipush (pc := 258) (v := 97) (by decide) dX10_wordOf_258 ?_
    refine x_bipush (pc := 260) (v := 115) (by decide) dX10_wordOf_260 ?_
    refine x_bipush (pc := 262) (v := 101) (by decide) dX10_wordOf_262 ?_
    refine x_iconst (pc := 264) (v := 0) (by decide) dX10_wordOf_264 ?_
    refine x_iconst (pc := 265) (v := 0) (by decide) dX10_wordOf_265 ?_
    refine x_callS (pc := 266) (As := [.int (101 : Int32), .int (114 : Int32), .int (97 : Int32), .int (115 : Int32), .int (101 : Int32), .int (0 : Int32), .int (0 : Int32)]) (rest := []) (lev' := 1) si_X10_58 (m_M_spelt h (101 : Int32) (114 : Int32) (97 : Int32) (115 : Int32) (101 : Int32) (0 : Int32) (0 : Int32)) rfl rfl (by decide) (cat4 (Nat.le_of_ble_eq_true rfl)) dX10_wordOf_266 (kL (fun v22 h21 => ?_)) xNo
    exact x_lret (pc := 269) dX10_wordOf_269
  refine x_sw (pc := 1) (v := 11) 270 dX10_wordOf_1 rfl (by decide) (by decide) rfl (by decide) ?_ ?_
  · refine x_bipush (pc := 270) (v := 111) (by decide) dX10_wordOf_270 ?_
    refine x_bipush (pc := 272) (v := 114) (by decide) dX10_wordOf_272 ?_
    refine x_iconst (pc := 274) (v := 0) (by decide) dX10_wordOf_274 ?_
    refine x_iconst (pc := 275) (v := 0) (by decide) dX10_wordOf_275 ?_
    refine x_iconst (pc := 276) (v := 0) (by decide) dX10_wordOf_276 ?_
    refine x_iconst (pc := 277) (v := 0) (by decide) dX10_wordOf_277 ?_
    refine x_iconst (pc := 278) (v := 0) (by decide) dX10_wordOf_278 ?_
    refine x_callS (pc := 279) (As := [.int (111 : Int32), .int (114 : Int32), .int (0 : Int32), .int (0 : Int32), .int (0 : Int32), .int (0 : Int32), .int (0 : Int32)]) (rest := []) (lev' := 1) si_X10_58 (m_M_spelt h (111 : Int32) (114 : Int32) (0 : Int32) (0 : Int32) (0 : Int32) (0 : Int32) (0 : Int32)) rfl rfl (by decide) (cat4 (Nat.le_of_ble_eq_true rfl)) dX10_wordOf_279 (kL (fun v24 h23 => ?_)) xNo
    exact x_lret (pc := 282) dX10_wordOf_282
  refine x_sw (pc := 1) (v := 12) 283 dX10_wordOf_1 rfl (by decide) (by decide) rfl (by decide) ?_ ?_
  · refine x_bipush (pc := 283) (v := 97) (by decide) dX10_wordOf_283 ?_
    refine x_bipush (pc := 285) (v := 110) (by decide) dX10_wordOf_285 ?_
    refine x_bipush (pc := 287) (v := 100) (by decide) dX10_wordOf_287 ?_
    refine x_iconst (pc := 289) (v := 0) (by decide) dX10_wordOf_289 ?_
    refine x_iconst (pc := 290) (v := 0) (by decide) dX10_wordOf_290 ?_
    refine x_iconst (pc := 291) (v := 0) (by decide) dX10_wordOf_291 ?_
    refine x_iconst (pc := 292) (v := 0) (by decide) dX10_wordOf_292 ?_
    refine x_callS (pc := 293) (As := [.int (97 : Int32), .int (110 : Int32), .int (100 : Int32), .int (0 : Int32), .int (0 : Int32), .int (0 : Int32), .int (0 : Int32)]) (rest := []) (lev' := 1) si_X10_58 (m_M_spelt h (97 : Int32) (110 : Int32) (100 : Int32) (0 : Int32) (0 : Int32) (0 : Int32) (0 : Int32)) rfl rfl (by decide) (cat4 (Nat.le_of_ble_eq_true rfl)) dX10_wordOf_293 (kL (fun v26 h25 => ?_)) xNo
    exact x_lret (pc := 296) dX10_wordOf_296
  refine x_sw (pc := 1) (v := 13) 297 dX10_wordOf_1 rfl (by decide) (by decide) rfl (by decide) ?_ ?_
  · refine x_bipush (pc := 297) (v := 110) (by decide) dX10_wordOf_297 ?_
    refine x_bipush (pc := 299) (v := 111) (by decide) dX10_wordOf_299 ?_
    refine x_bipush (pc := 301) (v := 116) (by decide) dX10_wordOf_301 ?_
    refine x_iconst (pc := 303) (v := 0) (by decide) dX10_wordOf_303 ?_
    refine x_iconst (pc := 304) (v := 0) (by decide) dX10_wordOf_304 ?_
    refine x_iconst (pc := 305) (v := 0) (by decide) dX10_wordOf_305 ?_
    refine x_iconst (pc := 306) (v := 0) (by decide) dX10_wordOf_306 ?_
    refine x_callS (pc := 307) (As := [.int (110 : Int32), .int (111 : Int32), .int (116 : Int32), .int (0 : Int32), .int (0 : Int32), .int (0 : Int32), .int (0 : Int32)]) (rest := []) (lev' := 1) si_X10_58 (m_M_spelt h (110 : Int32) (111 : Int32) (116 : Int32) (0 : Int32) (0 : Int32) (0 : Int32) (0 : Int32)) rfl rfl (by decide) (cat4 (Nat.le_of_ble_eq_true rfl)) dX10_wordOf_307 (kL (fun v28 h27 => ?_)) xNo
    exact x_lret (pc := 310) dX10_wordOf_310
  refine x_sw (pc := 1) (v := 14) 311 dX10_wordOf_1 rfl (by decide) (by decide) rfl (by decide) ?_ ?_
  · refine x_bipush (pc := 311) (v := 101) (by decide) dX10_wordOf_311 ?_
    refine x_bipush (pc := 313) (v := 109) (by decide) dX10_wordOf_313 ?_
    refine x_bipush (pc := 315) (v := 112) (by decide) dX10_wordOf_315 ?_
    refine x_bipush (pc := 317) (v := 116) (by decide) dX10_wordOf_317 ?_
    refine x_bipush (pc := 319) (v := 121) (by decide) dX10_wordOf_319 ?_
    refine x_iconst (pc := 321) (v := 0) (by decide) dX10_wordOf_321 ?_
    refine x_iconst (pc := 322) (v := 0) (by decide) dX10_wordOf_322 ?_
    refine x_callS (pc := 323) (As := [.int (101 : Int32), .int (109 : Int32), .int (112 : Int32), .int (116 : Int32), .int (121 : Int32), .int (0 : Int32), .int (0 : Int32)]) (rest := []) (lev' := 1) si_X10_58 (m_M_spelt h (101 : Int32) (109 : Int32) (112 : Int32) (116 : Int32) (121 : Int32) (0 : Int32) (0 : Int32)) rfl rfl (by decide) (cat4 (Nat.le_of_ble_eq_true rfl)) dX10_wordOf_323 (kL (fun v30 h29 => ?_)) xNo
    exact x_lret (pc := 326) dX10_wordOf_326
  refine x_sw (pc := 1) (v := 15) 327 dX10_wordOf_1 rfl (by decide) (by decide) rfl (by decide) ?_ ?_
  · refine x_bipush (pc := 327) (v := 101) (by decide) dX10_wordOf_327 ?_
    refine x_bipush (pc := 329) (v := 118) (by decide) dX10_wordOf_329 ?_
    refine x_bipush (pc := 331) (v := 101) (by decide) dX10_wordOf_331 ?_
    refine x_bipush (pc := 333) (v := 110) (by decide) dX10_wordOf_333 ?_
    refine x_iconst (pc := 335) (v := 0) (by decide) dX10_wordOf_335 ?_
    refine x_iconst (pc := 336) (v := 0) (by decide) dX10_wordOf_336 ?_
    refine x_iconst (pc := 337) (v := 0) (by decide) dX10_wordOf_337 ?_
    refine x_callS (pc := 338) (As := [.int (101 : Int32), .int (118 : Int32), .int (101 : Int32), .int (110 : Int32), .int (0 : Int32), .int (0 : Int32), .int (0 : Int32)]) (rest := []) (lev' := 1) si_X10_58 (m_M_spelt h (101 : Int32) (118 : Int32) (101 : Int32) (110 : Int32) (0 : Int32) (0 : Int32) (0 : Int32)) rfl rfl (by decide) (cat4 (Nat.le_of_ble_eq_true rfl)) dX10_wordOf_338 (kL (fun v32 h31 => ?_)) xNo
    exact x_lret (pc := 341) dX10_wordOf_341
  refine x_sw (pc := 1) (v := 16) 342 dX10_wordOf_1 rfl (by decide) (by decide) rfl (by decide) ?_ ?_
  · refine x_bipush (pc := 342) (v := 108) (by decide) dX10_wordOf_342 ?_
    refine x_bipush (pc := 344) (v := 105) (by decide) dX10_wordOf_344 ?_
    refine x_bipush (pc := 346) (v := 107) (by decide) dX10_wordOf_346 ?_
    refine x_bipush (pc := 348) (v := 101) (by decide) dX10_wordOf_348 ?_
    refine x_iconst (pc := 350) (v := 0) (by decide) dX10_wordOf_350 ?_
    refine x_iconst (pc := 351) (v := 0) (by decide) dX10_wordOf_351 ?_
    refine x_iconst (pc := 352) (v := 0) (by decide) dX10_wordOf_352 ?_
    refine x_callS (pc := 353) (As := [.int (108 : Int32), .int (105 : Int32), .int (107 : Int32), .int (101 : Int32), .int (0 : Int32), .int (0 : Int32), .int (0 : Int32)]) (rest := []) (lev' := 1) si_X10_58 (m_M_spelt h (108 : Int32) (105 : Int32) (107 : Int32) (101 : Int32) (0 : Int32) (0 : Int32) (0 : Int32)) rfl rfl (by decide) (cat4 (Nat.le_of_ble_eq_true rfl)) dX10_wordOf_353 (kL (fun v34 h33 => ?_)) xNo
    exact x_lret (pc := 356) dX10_wordOf_356
  refine x_sw (pc := 1) (v := 17) 357 dX10_wordOf_1 rfl (by decide) (by decide) rfl (by decide) ?_ ?_
  · refine x_bipush (pc := 357) (v := 98) (by decide) dX10_wordOf_357 ?_
    refine x_bipush (pc := 359) (v := 101) (by decide) dX10_wordOf_359 ?_
    refine x_bipush (pc := 361) (v := 103) (by decide) dX10_wordOf_361 ?_
    refine x_bipush (pc := 363) (v := 105) (by decide) dX10_wordOf_363 ?_
    refine x_bipush (pc := 365) (v := 110) (by decide) dX10_wordOf_365 ?_
    refine x_bipush (pc := 367) (v := 115) (by decide) dX10_wordOf_367 ?_
    refine x_iconst (pc := 369) (v := 0) (by decide) dX10_wordOf_369 ?_
    refine x_callS (pc := 370) (As := [.int (98 : Int32), .int (101 : Int32), .int (103 : Int32), .int (105 : Int32), .int (110 : Int32), .int (115 : Int32), .int (0 : Int32)]) (rest := []) (lev' := 1) si_X10_58 (m_M_spelt h (98 : Int32) (101 : Int32) (103 : Int32) (105 : Int32) (110 : Int32) (115 : Int32) (0 : Int32)) rfl rfl (by decide) (cat4 (Nat.le_of_ble_eq_true rfl)) dX10_wordOf_370 (kL (fun v36 h35 => ?_)) xNo
    exact x_lret (pc := 373) dX10_wordOf_373
  refine x_sw (pc := 1) (v := 18) 374 dX10_wordOf_1 rfl (by decide) (by decide) rfl (by decide) ?_ ?_
  · refine x_bipush (pc := 374) (v := 115) (by decide) dX10_wordOf_374 ?_
    refine x_bipush (pc := 376) (v := 105) (by decide) dX10_wordOf_376 ?_
    refine x_bipush (pc := 378) (v := 122) (by decide) dX10_wordOf_378 ?_
    refine x_bipush (pc := 380) (v := 101) (by decide) dX10_wordOf_380 ?_
    refine x_iconst (pc := 382) (v := 0) (by decide) dX10_wordOf_382 ?_
    refine x_iconst (pc := 383) (v := 0) (by decide) dX10_wordOf_383 ?_
    refine x_iconst (pc := 384) (v := 0) (by decide) dX10_wordOf_384 ?_
    refine x_callS (pc := 385) (As := [.int (115 : Int32), .int (105 : Int32), .int (122 : Int32), .int (101 : Int32), .int (0 : Int32), .int (0 : Int32), .int (0 : Int32)]) (rest := []) (lev' := 1) si_X10_58 (m_M_spelt h (115 : Int32) (105 : Int32) (122 : Int32) (101 : Int32) (0 : Int32) (0 : Int32) (0 : Int32)) rfl rfl (by decide) (cat4 (Nat.le_of_ble_eq_true rfl)) dX10_wordOf_385 (kL (fun v38 h37 => ?_)) xNo
    exact x_lret (pc := 388) dX10_wordOf_388
  refine x_sw (pc := 1) (v := 19) 389 dX10_wordOf_1 rfl (by decide) (by decide) rfl (by decide) ?_ ?_
  · refine x_bipush (pc := 389) (v := 111) (by decide) dX10_wordOf_389 ?_
    refine x_bipush (pc := 391) (v := 110) (by decide) dX10_wordOf_391 ?_
    refine x_bipush (pc := 393) (v := 101) (by decide) dX10_wordOf_393 ?_
    refine x_bipush (pc := 395) (v := 115) (by decide) dX10_wordOf_395 ?_
    refine x_iconst (pc := 397) (v := 0) (by decide) dX10_wordOf_397 ?_
    refine x_iconst (pc := 398) (v := 0) (by decide) dX10_wordOf_398 ?_
    refine x_iconst (pc := 399) (v := 0) (by decide) dX10_wordOf_399 ?_
    refine x_callS (pc := 400) (As := [.int (111 : Int32), .int (110 : Int32), .int (101 : Int32), .int (115 : Int32), .int (0 : Int32), .int (0 : Int32), .int (0 : Int32)]) (rest := []) (lev' := 1) si_X10_58 (m_M_spelt h (111 : Int32) (110 : Int32) (101 : Int32) (115 : Int32) (0 : Int32) (0 : Int32) (0 : Int32)) rfl rfl (by decide) (cat4 (Nat.le_of_ble_eq_true rfl)) dX10_wordOf_400 (kL (fun v40 h39 => ?_)) xNo
    exact x_lret (pc := 403) dX10_wordOf_403
  refine x_sw (pc := 1) (v := 20) 404 dX10_wordOf_1 rfl (by decide) (by decide) rfl (by decide) ?_ ?_
  · refine x_bipush (pc := 404) (v := 114) (by decide) dX10_wordOf_404 ?_
    refine x_bipush (pc := 406) (v := 117) (by decide) dX10_wordOf_406 ?_
    refine x_bipush (pc := 408) (v := 110) (by decide) dX10_wordOf_408 ?_
    refine x_bipush (pc := 410) (v := 115) (by decide) dX10_wordOf_410 ?_
    refine x_iconst (pc := 412) (v := 0) (by decide) dX10_wordOf_412 ?_
    refine x_iconst (pc := 413) (v := 0) (by decide) dX10_wordOf_413 ?_
    refine x_iconst (pc := 414) (v := 0) (by decide) dX10_wordOf_414 ?_
    refine x_callS (pc := 415) (As := [.int (114 : Int32), .int (117 : Int32), .int (110 : Int32), .int (115 : Int32), .int (0 : Int32), .int (0 : Int32), .int (0 : Int32)]) (rest := []) (lev' := 1) si_X10_58 (m_M_spelt h (114 : Int32) (117 : Int32) (110 : Int32) (115 : Int32) (0 : Int32) (0 : Int32) (0 : Int32)) rfl rfl (by decide) (cat4 (Nat.le_of_ble_eq_true rfl)) dX10_wordOf_415 (kL (fun v42 h41 => ?_)) xNo
    exact x_lret (pc := 418) dX10_wordOf_418
  refine x_sw (pc := 1) (v := 21) 419 dX10_wordOf_1 rfl (by decide) (by decide) rfl (by decide) ?_ ?_
  · refine x_bipush (pc := 419) (v := 108) (by decide) dX10_wordOf_419 ?_
    refine x_bipush (pc := 421) (v := 101) (by decide) dX10_wordOf_421 ?_
    refine x_bipush (pc := 423) (v := 97) (by decide) dX10_wordOf_423 ?_
    refine x_bipush (pc := 425) (v := 118) (by decide) dX10_wordOf_425 ?_
    refine x_bipush (pc := 427) (v := 101) (by decide) dX10_wordOf_427 ?_
    refine x_bipush (pc := 429) (v := 115) (by decide) dX10_wordOf_429 ?_
    refine x_iconst (pc := 431) (v := 0) (by decide) dX10_wordOf_431 ?_
    refine x_callS (pc := 432) (As := [.int (108 : Int32), .int (101 : Int32), .int (97 : Int32), .int (118 : Int32), .int (101 : Int32), .int (115 : Int32), .int (0 : Int32)]) (rest := []) (lev' := 1) si_X10_58 (m_M_spelt h (108 : Int32) (101 : Int32) (97 : Int32) (118 : Int32) (101 : Int32) (115 : Int32) (0 : Int32)) rfl rfl (by decide) (cat4 (Nat.le_of_ble_eq_true rfl)) dX10_wordOf_432 (kL (fun v44 h43 => ?_)) xNo
    exact x_lret (pc := 435) dX10_wordOf_435
  refine x_swD (pc := 1) 436 dX10_wordOf_1 (by decide) (by decide) ?_
  refine x_bipush (pc := 436) (v := 110) (by decide) dX10_wordOf_436 ?_
  refine x_bipush (pc := 438) (v := 117) (by decide) dX10_wordOf_438 ?_
  refine x_bipush (pc := 440) (v := 109) (by decide) dX10_wordOf_440 ?_
  refine x_bipush (pc := 442) (v := 98) (by decide) dX10_wordOf_442 ?_
  refine x_bipush (pc := 444) (v := 101) (by decide) dX10_wordOf_444 ?_
  refine x_bipush (pc := 446) (v := 114) (by decide) dX10_wordOf_446 ?_
  refine x_iconst (pc := 448) (v := 0) (by decide) dX10_wordOf_448 ?_
  refine x_callS (pc := 449) (As := [.int (110 : Int32), .int (117 : Int32), .int (109 : Int32), .int (98 : Int32), .int (101 : Int32), .int (114 : Int32), .int (0 : Int32)]) (rest := []) (lev' := 1) si_X10_58 (m_M_spelt h (110 : Int32) (117 : Int32) (109 : Int32) (98 : Int32) (101 : Int32) (114 : Int32) (0 : Int32)) rfl rfl (by decide) (cat4 (Nat.le_of_ble_eq_true rfl)) dX10_wordOf_449 (kL (fun v46 h45 => ?_)) xNo
  exact x_lret (pc := 452) dX10_wordOf_452
theorem si_X10_62 : SiS RX10 62 yX10_wordOf cX10_wordOf 1 (some .long) 1 := ⟨lw_S q1841 q1842 q121 q1843, ⟨by decide, by decide, by decide +kernel⟩, by decide⟩
abbrev Y_M_isWord : Yx := (RX10, cX10_isWord, 2, 3, (some .boolean), [], false)
def c_M_isWord (h : PH) (this : Nat) (x1 : Int32) : Option RH :=
  grd h this [8] (
  gI h this [8] 7 fun v1 =>
  if v1 = (2 : Int32) then
    gL h this [8] 12 fun v2 =>
    hL (c_M_wordOf h x1) noX fun v4 h3 =>
    if (lg_cmp v2 v4) = 0 then
      rZ (1 : Int32) h3
    else
      rZ (0 : Int32) h3
  else
    rZ (0 : Int32) h)
set_option maxHeartbeats 4000000 in
theorem m_M_isWord (h : PH) (this : Nat) (x1 : Int32) : MM yX10_isWord (ws_ yX10_isWord cX10_isWord 2 (some .boolean)) 3 [.ref this, .int x1] h (c_M_isWord h this x1) := by
  refine MM.of (by decide) rfl (by decide) (Nat.le_of_ble_eq_true rfl) (own := RX10) (cc := cX10_isWord) (maxL := 2) (lev := 3) (rt := (some .boolean)) (ini := false) ?_
  show Sim Y_M_isWord h 0 [(0, .ref this), (1, .int x1)] [] _
  unfold c_M_isWord
  refine x_grd ?_
  refine x_aload_nR (pc := 0) (a := this) 0 rfl rfl dX10_isWord_0 ?_
  refine x_getI (pc := 1) fi_X10_30 dX10_isWord_1 ?_
  intro v1
  refine x_iconst (pc := 4) (v := 2) (by decide) dX10_isWord_4 ?_
  refine x_icmp_ne (pc := 5) 24 (by decide) dX10_isWord_5 ?_ ?_
  · refine x_iconst (pc := 24) (v := 0) (by decide) dX10_isWord_24 ?_
    exact x_zret (pc := 25) dX10_isWord_25
  · refine x_aload_nR (pc := 8) (a := this) 0 rfl rfl dX10_isWord_8 ?_
    refine x_getL (pc := 9) fi_X10_43 dX10_isWord_9 ?_
    intro v2
    refine x_iload_n (pc := 12) 1 rfl rfl dX10_isWord_12 ?_
    refine x_callS (pc := 13) (As := [.int x1]) (rest := [.long v2]) (lev' := 2) si_X10_62 (m_M_wordOf h x1) rfl rfl (by decide) (cat4 (Nat.le_of_ble_eq_true rfl)) dX10_isWord_13 (kL (fun v4 h3 => ?_)) xNo
    refine x_lcmp (pc := 16) dX10_isWord_16 ?_
    refine x_if_ne (pc := 17) 24 (by decide) dX10_isWord_17 ?_ ?_
    · refine x_iconst (pc := 24) (v := 0) (by decide) dX10_isWord_24 ?_
      exact x_zret (pc := 25) dX10_isWord_25
    · refine x_iconst (pc := 20) (v := 1) (by decide) dX10_isWord_20 ?_
      refine x_goto (pc := 21) 25 (by decide) dX10_isWord_21 ?_
      exact x_zret (pc := 25) dX10_isWord_25
theorem fi_X10_69 : FI RX10 69 [8] 11 .int false true := (fi_c ci_8 (by decide) rfl rfl (Or.inl q1697) (Or.inl rfl) (fun h => absurd h (by decide)) fi_n)
abbrev Y_M_bad : Yx := (RX10, cX10_bad, 2, 1, (some .boolean), [], false)
def c_M_bad_j14 (h : PH) (this : Nat) (s0 : Int32) (s1 : Nat) : Option RH :=
  pI h s1 [8] 10 s0 fun h1 =>
  gI h1 this [8] 6 fun v2 =>
  pI h1 this [8] 11 v2 fun h3 =>
  rZ (0 : Int32) h3
def c_M_bad (h : PH) (this : Nat) (x1 : Int32) : Option RH :=
  grd h this [8] (
  gI h this [8] 7 fun v1 =>
  if v1 = (1 : Int32) then
    c_M_bad_j14 h this (1 : Int32) this
  else
    c_M_bad_j14 h this x1 this)
set_option maxHeartbeats 4000000 in
theorem w_M_bad_j14 (h : PH) (this : Nat) (s0 : Int32) (s1 : Nat) : Sim Y_M_bad h 14 [(0, .ref this)] [.int s0, .ref s1] (c_M_bad_j14 h this s0 s1) := by
  unfold c_M_bad_j14
  refine x_pI (pc := 14) fi_X10_66 (fun z => absurd z (by decide)) dX10_bad_14 ?_
  intro h1
  refine x_aload_nR (pc := 17) (a := this) 0 rfl rfl dX10_bad_17 ?_
  refine x_aload_nR (pc := 18) (a := this) 0 rfl rfl dX10_bad_18 ?_
  refine x_getI (pc := 19) fi_X10_24 dX10_bad_19 ?_
  intro v2
  refine x_pI (pc := 22) fi_X10_69 (fun z => absurd z (by decide)) dX10_bad_22 ?_
  intro h3
  refine x_iconst (pc := 25) (v := 0) (by decide) dX10_bad_25 ?_
  exact x_zret (pc := 26) dX10_bad_26
set_option maxHeartbeats 4000000 in
theorem m_M_bad (h : PH) (this : Nat) (x1 : Int32) : MM yX10_bad (ws_ yX10_bad cX10_bad 2 (some .boolean)) 1 [.ref this, .int x1] h (c_M_bad h this x1) := by
  refine MM.of (by decide) rfl (by decide) (Nat.le_of_ble_eq_true rfl) (own := RX10) (cc := cX10_bad) (maxL := 2) (lev := 1) (rt := (some .boolean)) (ini := false) ?_
  show Sim Y_M_bad h 0 [(0, .ref this), (1, .int x1)] [] _
  unfold c_M_bad
  refine x_grd ?_
  refine x_aload_nR (pc := 0) (a := this) 0 rfl rfl dX10_bad_0 ?_
  refine x_aload_nR (pc := 1) (a := this) 0 rfl rfl dX10_bad_1 ?_
  refine x_getI (pc := 2) fi_X10_30 dX10_bad_2 ?_
  intro v1
  refine x_iconst (pc := 5) (v := 1) (by decide) dX10_bad_5 ?_
  refine x_icmp_ne (pc := 6) 13 (by decide) dX10_bad_6 ?_ ?_
  · refine x_iload_n (pc := 13) 1 rfl rfl dX10_bad_13 ?_
    refine Sim.lv [0] rfl ?_
    exact w_M_bad_j14 h this x1 this
  · refine x_iconst (pc := 9) (v := 1) (by decide) dX10_bad_9 ?_
    refine x_goto (pc := 10) 14 (by decide) dX10_bad_10 ?_
    refine Sim.lv [0] rfl ?_
    exact w_M_bad_j14 h this (1 : Int32) this
abbrev Y_M_isIn : Yx := (RX10, cX10_isIn, 3, 1, (some .boolean), [], false)
def c_M_isIn (h : PH) (x0 : Int32) (x1 : Int32) (x2 : Int32) : Option RH :=
  if x0 < x1 then
    rZ (0 : Int32) h
  else
    if x2 < x0 then
      rZ (0 : Int32) h
    else
      rZ (1 : Int32) h
set_option maxHeartbeats 4000000 in
theorem m_M_isIn (h : PH) (x0 : Int32) (x1 : Int32) (x2 : Int32) : MM yX10_isIn (ws_ yX10_isIn cX10_isIn 3 (some .boolean)) 1 [.int x0, .int x1, .int x2] h (c_M_isIn h x0 x1 x2) := by
  refine MM.of (by decide) rfl (by decide) (Nat.le_of_ble_eq_true rfl) (own := RX10) (cc := cX10_isIn) (maxL := 3) (lev := 1) (rt := (some .boolean)) (ini := false) ?_
  show Sim Y_M_isIn h 0 [(0, .int x0), (1, .int x1), (2, .int x2)] [] _
  unfold c_M_isIn
  refine x_iload_n (pc := 0) 0 rfl rfl dX10_isIn_0 ?_
  refine x_iload_n (pc := 1) 1 rfl rfl dX10_isIn_1 ?_
  refine x_icmp_lt (pc := 2) 14 (by decide) dX10_isIn_2 ?_ ?_
  · refine x_iconst (pc := 14) (v := 0) (by decide) dX10_isIn_14 ?_
    exact x_zret (pc := 15) dX10_isIn_15
  · refine x_iload_n (pc := 5) 0 rfl rfl dX10_isIn_5 ?_
    refine x_iload_n (pc := 6) 2 rfl rfl dX10_isIn_6 ?_
    refine x_icmp_gt (pc := 7) 14 (by decide) dX10_isIn_7 ?_ ?_
    · refine x_iconst (pc := 14) (v := 0) (by decide) dX10_isIn_14 ?_
      exact x_zret (pc := 15) dX10_isIn_15
    · refine x_iconst (pc := 10) (v := 1) (by decide) dX10_isIn_10 ?_
      refine x_goto (pc := 11) 15 (by decide) dX10_isIn_11 ?_
      exact x_zret (pc := 15) dX10_isIn_15
theorem si_X10_75 : SiS RX10 75 yX10_isIn cX10_isIn 3 (some .boolean) 3 := ⟨lw_S q1859 q1860 q121 q1861, ⟨by decide, by decide, by decide +kernel⟩, by decide⟩
theorem fi_X10_79 : FI RX10 79 [8] 13 .int false true := (fi_c ci_8 (by decide) rfl rfl (Or.inl q1699) (Or.inl rfl) (fun h => absurd h (by decide)) fi_n)
theorem si_X10_72 : SiV RX10 72 8 yX10_bad cX10_bad 2 (some .boolean) 1 := ⟨_, _, _, ci_8.1, by decide, lw_V q1851 q1853 qs46 q121 q1854, ⟨rfl, by decide, by decide, by decide +kernel⟩, by decide⟩
abbrev Y_M_readNumber : Yx := (RX10, cX10_readNumber, 3, 3, (some .boolean), [], false)
def c_M_readNumber (h : PH) (this : Nat) (x1 : Int32) (x2 : Int32) : Option RH :=
  grd h this [8] (
  gI h this [8] 7 fun v1 =>
  if v1 = (3 : Int32) then
    gI h this [8] 8 fun v2 =>
    hI (c_M_isIn h v2 x1 x2) noX fun v4 h3 =>
    if v4 = 0 then
      hI (c_M_bad h3 this (2 : Int32)) noX fun v9 h8 =>
      rZ v9 h8
    else
      gI h3 this [8] 8 fun v5 =>
      pI h3 this [8] 13 v5 fun h6 =>
      hV (c_M_go h6 this) noX fun h7 =>
      rZ (1 : Int32) h7
  else
    hI (c_M_bad h this (1 : Int32)) noX fun v11 h10 =>
    rZ v11 h10)
set_option maxHeartbeats 4000000 in
theorem m_M_readNumber (h : PH) (this : Nat) (x1 : Int32) (x2 : Int32) : MM yX10_readNumber (ws_ yX10_readNumber cX10_readNumber 3 (some .boolean)) 3 [.ref this, .int x1, .int x2] h (c_M_readNumber h this x1 x2) := by
  refine MM.of (by decide) rfl (by decide) (Nat.le_of_ble_eq_true rfl) (own := RX10) (cc := cX10_readNumber) (maxL := 3) (lev := 3) (rt := (some .boolean)) (ini := false) ?_
  show Sim Y_M_readNumber h 0 [(0, .ref this), (1, .int x1), (2, .int x2)] [] _
  unfold c_M_readNumber
  refine x_grd ?_
  refine x_aload_nR (pc := 0) (a := this) 0 rfl rfl dX10_readNumber_0 ?_
  refine x_getI (pc := 1) fi_X10_30 dX10_readNumber_1 ?_
  intro v1
  refine x_iconst (pc := 4) (v := 3) (by decide) dX10_readNumber_4 ?_
  refine x_icmp_eq (pc := 5) 14 (by decide) dX10_readNumber_5 ?_ ?_
  · refine x_aload_nR (pc := 14) (a := this) 0 rfl rfl dX10_readNumber_14 ?_
    refine x_getI (pc := 15) fi_X10_47 dX10_readNumber_15 ?_
    intro v2
    refine x_iload_n (pc := 18) 1 rfl rfl dX10_readNumber_18 ?_
    refine x_iload_n (pc := 19) 2 rfl rfl dX10_readNumber_19 ?_
    refine x_callS (pc := 20) (As := [.int v2, .int x1, .int x2]) (rest := []) (lev' := 1) si_X10_75 (m_M_isIn h v2 x1 x2) rfl rfl (by decide) (cat4 (Nat.le_of_ble_eq_true rfl)) dX10_readNumber_20 (kI (fun v4 h3 => ?_)) xNo
    refine x_if_ne (pc := 23) 32 (by decide) dX10_readNumber_23 ?_ ?_
    · refine x_aload_nR (pc := 32) (a := this) 0 rfl rfl dX10_readNumber_32 ?_
      refine x_aload_nR (pc := 33) (a := this) 0 rfl rfl dX10_readNumber_33 ?_
      refine x_getI (pc := 34) fi_X10_47 dX10_readNumber_34 ?_
      intro v5
      refine x_pI (pc := 37) fi_X10_79 (fun z => absurd z (by decide)) dX10_readNumber_37 ?_
      intro h6
      refine x_aload_nR (pc := 40) (a := this) 0 rfl rfl dX10_readNumber_40 ?_
      refine x_callV (pc := 41) (As := []) (rest := []) (lev' := 2) si_X10_82 (m_M_go h6 this) (fun z e => grd1 e) rfl rfl (by decide) (cat4 (Nat.le_of_ble_eq_true rfl)) dX10_readNumber_41 (kV (fun h7 => ?_)) xNo
      refine x_iconst (pc := 44) (v := 1) (by decide) dX10_readNumber_44 ?_
      exact x_zret (pc := 45) dX10_readNumber_45
    · refine x_aload_nR (pc := 26) (a := this) 0 rfl rfl dX10_readNumber_26 ?_
      refine x_iconst (pc := 27) (v := 2) (by decide) dX10_readNumber_27 ?_
      refine x_callV (pc := 28) (As := [.int (2 : Int32)]) (rest := []) (lev' := 1) si_X10_72 (m_M_bad h3 this (2 : Int32)) (fun z e => grd1 e) rfl rfl (by decide) (cat4 (Nat.le_of_ble_eq_true rfl)) dX10_readNumber_28 (kI (fun v9 h8 => ?_)) xNo
      exact x_zret (pc := 31) dX10_readNumber_31
  · refine x_aload_nR (pc := 8) (a := this) 0 rfl rfl dX10_readNumber_8 ?_
    refine x_iconst (pc := 9) (v := 1) (by decide) dX10_readNumber_9 ?_
    refine x_callV (pc := 10) (As := [.int (1 : Int32)]) (rest := []) (lev' := 1) si_X10_72 (m_M_bad h this (1 : Int32)) (fun z e => grd1 e) rfl rfl (by decide) (cat4 (Nat.le_of_ble_eq_true rfl)) dX10_readNumber_10 (kI (fun v11 h10 => ?_)) xNo
    exact x_zret (pc := 13) dX10_readNumber_13
theorem si_X10_146 : SiV RX10 146 8 yX10_readNumber cX10_readNumber 3 (some .boolean) 2 := ⟨_, _, _, ci_8.1, by decide, lw_V q1855 q1857 qs47 q121 q1858, ⟨rfl, by decide, by decide, by decide +kernel⟩, by decide⟩
abbrev Y_M_readLeaf : Yx := (RX10, cX10_readLeaf, 2, 4, (some .boolean), [], false)
def c_M_readLeaf (h : PH) (this : Nat) (x1 : Int32) : Option RH :=
  grd h this [8] (
  if x1 ≤ 0 then
    hV (c_M_go h this) noX fun h1 =>
    hI (c_M_readNumber h1 this (4 : Int32) (32 : Int32)) noX fun v3 h2 =>
    if v3 = 0 then
      rZ (0 : Int32) h2
    else
      gQ h2 this [8] 15 fun v4 =>
      gI h2 this [8] 13 fun v5 =>
      nn v4 fun a6 =>
      stI h2 a6 (1 : Int32) v5 fun h8 =>
      rZ (1 : Int32) h8
  else
    hI (c_M_bad h this (3 : Int32)) noX fun v10 h9 =>
    rZ v10 h9)
set_option maxHeartbeats 4000000 in
theorem m_M_readLeaf (h : PH) (this : Nat) (x1 : Int32) : MM yX10_readLeaf (ws_ yX10_readLeaf cX10_readLeaf 2 (some .boolean)) 4 [.ref this, .int x1] h (c_M_readLeaf h this x1) := by
  refine MM.of (by decide) rfl (by decide) (Nat.le_of_ble_eq_true rfl) (own := RX10) (cc := cX10_readLeaf) (maxL := 2) (lev := 4) (rt := (some .boolean)) (ini := false) ?_
  show Sim Y_M_readLeaf h 0 [(0, .ref this), (1, .int x1)] [] _
  unfold c_M_readLeaf
  refine x_grd ?_
  refine x_iload_n (pc := 0) 1 rfl rfl dX10_readLeaf_0 ?_
  refine x_if_le (pc := 1) 10 (by decide) dX10_readLeaf_1 ?_ ?_
  · refine x_aload_nR (pc := 10) (a := this) 0 rfl rfl dX10_readLeaf_10 ?_
    refine x_callV (pc := 11) (As := []) (rest := []) (lev' := 2) si_X10_82 (m_M_go h this) (fun z e => grd1 e) rfl rfl (by decide) (cat4 (Nat.le_of_ble_eq_true rfl)) dX10_readLeaf_11 (kV (fun h1 => ?_)) xNo
    refine x_aload_nR (pc := 14) (a := this) 0 rfl rfl dX10_readLeaf_14 ?_
    refine x_iconst (pc := 15) (v := 4) (by decide) dX10_readLeaf_15 ?_
    refine x_bipush (pc := 16) (v := 32) (by decide) dX10_readLeaf_16 ?_
    refine x_callV (pc := 18) (As := [.int (4 : Int32), .int (32 : Int32)]) (rest := []) (lev' := 3) si_X10_146 (m_M_readNumber h1 this (4 : Int32) (32 : Int32)) (fun z e => grd1 e) rfl rfl (by decide) (cat4 (Nat.le_of_ble_eq_true rfl)) dX10_readLeaf_18 (kI (fun v3 h2 => ?_)) xNo
    refine x_if_ne (pc := 21) 26 (by decide) dX10_readLeaf_21 ?_ ?_
    · refine x_aload_nR (pc := 26) (a := this) 0 rfl rfl dX10_readLeaf_26 ?_
      refine x_getQ (pc := 27) fi_X10_101 dX10_readLeaf_27 ?_
      intro v4
      refine x_iconst (pc := 30) (v := 1) (by decide) dX10_readLeaf_30 ?_
      refine x_aload_nR (pc := 31) (a := this) 0 rfl rfl dX10_readLeaf_31 ?_
      refine x_getI (pc := 32) fi_X10_79 dX10_readLeaf_32 ?_
      intro v5
      refine x_nn (fun a6 e7 => ?_)
      subst e7
      refine x_iast (pc := 35) dX10_readLeaf_35 ?_
      intro h8
      refine x_iconst (pc := 36) (v := 1) (by decide) dX10_readLeaf_36 ?_
      exact x_zret (pc := 37) dX10_readLeaf_37
    · refine x_iconst (pc := 24) (v := 0) (by decide) dX10_readLeaf_24 ?_
      exact x_zret (pc := 25) dX10_readLeaf_25
  · refine x_aload_nR (pc := 4) (a := this) 0 rfl rfl dX10_readLeaf_4 ?_
    refine x_iconst (pc := 5) (v := 3) (by decide) dX10_readLeaf_5 ?_
    refine x_callV (pc := 6) (As := [.int (3 : Int32)]) (rest := []) (lev' := 1) si_X10_72 (m_M_bad h this (3 : Int32)) (fun z e => grd1 e) rfl rfl (by decide) (cat4 (Nat.le_of_ble_eq_true rfl)) dX10_readLeaf_6 (kI (fun v10 h9 => ?_)) xNo
    exact x_zret (pc := 9) dX10_readLeaf_9
abbrev Y_M_isName : Yx := (RX10, cX10_isName, 2, 3, (some .boolean), [], false)
def c_M_isName_l12 (r12 : PH → Nat → Int32 → Option RH) (h : PH) (this : Nat) (x1 : Int32) : Option RH :=
  if (22 : Int32) < x1 then
    rZ (1 : Int32) h
  else
    gL h this [8] 12 fun v1 =>
    hL (c_M_wordOf h x1) noX fun v3 h2 =>
    if (lg_cmp v1 v3) = 0 then
      rZ (0 : Int32) h2
    else
      r12 h2 this (x1 + (1 : Int32))
def c_M_isName (h : PH) (this : Nat) : Option RH :=
  grd h this [8] (
  gI h this [8] 7 fun v1 =>
  if v1 = (2 : Int32) then
    itr (c_M_isName_l12) (fun _ _ _ => none) FU h this (0 : Int32)
  else
    rZ (0 : Int32) h)
set_option maxHeartbeats 4000000 in
theorem w_M_isName_l12 (r12 : PH → Nat → Int32 → Option RH) (hr12 : ∀ (h : PH) (this : Nat) (x1 : Int32), Sim Y_M_isName h 12 [(0, .ref this), (1, .int x1)] [] (r12 h this x1)) (h : PH) (this : Nat) (x1 : Int32) : Sim Y_M_isName h 12 [(0, .ref this), (1, .int x1)] [] (c_M_isName_l12 r12 h this x1) := by
  unfold c_M_isName_l12
  refine x_iload_n (pc := 12) 1 rfl rfl dX10_isName_12 ?_
  refine x_bipush (pc := 13) (v := 22) (by decide) dX10_isName_13 ?_
  refine x_icmp_gt (pc := 15) 38 (by decide) dX10_isName_15 ?_ ?_
  · refine x_iconst (pc := 38) (v := 1) (by decide) dX10_isName_38 ?_
    exact x_zret (pc := 39) dX10_isName_39
  · refine x_aload_nR (pc := 18) (a := this) 0 rfl rfl dX10_isName_18 ?_
    refine x_getL (pc := 19) fi_X10_43 dX10_isName_19 ?_
    intro v1
    refine x_iload_n (pc := 22) 1 rfl rfl dX10_isName_22 ?_
    refine x_callS (pc := 23) (As := [.int x1]) (rest := [.long v1]) (lev' := 2) si_X10_62 (m_M_wordOf h x1) rfl rfl (by decide) (cat4 (Nat.le_of_ble_eq_true rfl)) dX10_isName_23 (kL (fun v3 h2 => ?_)) xNo
    refine x_lcmp (pc := 26) dX10_isName_26 ?_
    refine x_if_ne (pc := 27) 32 (by decide) dX10_isName_27 ?_ ?_
    · refine x_iinc (pc := 32) (v := (1 : Int32)) (lv' := [(1, .int (x1 + (1 : Int32))), (0, .ref this)]) 1 rfl (by decide) (by decide) rfl dX10_isName_32 ?_
      refine x_goto (pc := 35) 12 (by decide) dX10_isName_35 ?_
      refine Sim.lv [1, 0] rfl ?_
      exact hr12 h2 this (x1 + (1 : Int32))
    · refine x_iconst (pc := 30) (v := 0) (by decide) dX10_isName_30 ?_
      exact x_zret (pc := 31) dX10_isName_31
set_option maxHeartbeats 4000000 in
theorem v_M_isName_l12 : ∀ (n : Nat) (h : PH) (this : Nat) (x1 : Int32), Sim Y_M_isName h 12 [(0, .ref this), (1, .int x1)] [] (itr (c_M_isName_l12) (fun _ _ _ => none) n h this x1)
  | 0, h, this, x1 => Sim.none
  | n + 1, h, this, x1 => w_M_isName_l12 _ (v_M_isName_l12 n) h this x1
set_option maxHeartbeats 4000000 in
theorem m_M_isName (h : PH) (this : Nat) : MM yX10_isName (ws_ yX10_isName cX10_isName 2 (some .boolean)) 3 [.ref this] h (c_M_isName h this) := by
  refine MM.of (by decide) rfl (by decide) (Nat.le_of_ble_eq_true rfl) (own := RX10) (cc := cX10_isName) (maxL := 2) (lev := 3) (rt := (some .boolean)) (ini := false) ?_
  show Sim Y_M_isName h 0 [(0, .ref this)] [] _
  unfold c_M_isName
  refine x_grd ?_
  refine x_aload_nR (pc := 0) (a := this) 0 rfl rfl dX10_isName_0 ?_
  refine x_getI (pc := 1) fi_X10_30 dX10_isName_1 ?_
  intro v1
  refine x_iconst (pc := 4) (v := 2) (by decide) dX10_isName_4 ?_
  refine x_icmp_eq (pc := 5) 10 (by decide) dX10_isName_5 ?_ ?_
  · refine x_iconst (pc := 10) (v := 0) (by decide) dX10_isName_10 ?_
    refine x_istore_n (pc := 11) (lv' := [(1, .int (0 : Int32)), (0, .ref this)]) rfl (by decide) rfl dX10_isName_11 ?_
    refine Sim.lv [1, 0] rfl ?_
    exact v_M_isName_l12 FU h this (0 : Int32)
  · refine x_iconst (pc := 8) (v := 0) (by decide) dX10_isName_8 ?_
    exact x_zret (pc := 9) dX10_isName_9
abbrev Y_M_findIn : Yx := (RX10, cX10_findIn, 5, 1, (some .int), [], false)
def c_M_findIn_l3 (r3 : PH → Nat → Int32 → Int64 → Int32 → Option RH) (h : PH) (x0 : Nat) (x1 : Int32) (x2 : Int64) (x4 : Int32) : Option RH :=
  if x1 ≤ x4 then
    rI (-1 : Int32) h
  else
    ldL h x0 x4 fun v1 =>
    if (lg_cmp v1 x2) = 0 then
      rI x4 h
    else
      r3 h x0 x1 x2 (x4 + (1 : Int32))
def c_M_findIn (h : PH) (x0 : Nat) (x1 : Int32) (x2 : Int64) : Option RH :=
  itr (c_M_findIn_l3) (fun _ _ _ _ _ => none) FU h x0 x1 x2 (0 : Int32)
set_option maxHeartbeats 4000000 in
theorem w_M_findIn_l3 (r3 : PH → Nat → Int32 → Int64 → Int32 → Option RH) (hr3 : ∀ (h : PH) (x0 : Nat) (x1 : Int32) (x2 : Int64) (x4 : Int32), Sim Y_M_findIn h 3 [(0, .ref x0), (1, .int x1), (2, .long x2), (4, .int x4)] [] (r3 h x0 x1 x2 x4)) (h : PH) (x0 : Nat) (x1 : Int32) (x2 : Int64) (x4 : Int32) : Sim Y_M_findIn h 3 [(0, .ref x0), (1, .int x1), (2, .long x2), (4, .int x4)] [] (c_M_findIn_l3 r3 h x0 x1 x2 x4) := by
  unfold c_M_findIn_l3
  refine x_iload (pc := 3) 3 rfl dX10_findIn_3 ?_
  refine x_iload_n (pc := 5) 1 rfl rfl dX10_findIn_5 ?_
  refine x_icmp_ge (pc := 6) 27 (by decide) dX10_findIn_6 ?_ ?_
  · refine x_iconst (pc := 27) (v := (-1)) (by decide) dX10_findIn_27 ?_
    exact x_iret (pc := 28) dX10_findIn_28
  · refine x_aload_nR (pc := 9) (a := x0) 0 rfl rfl dX10_findIn_9 ?_
    refine x_iload (pc := 10) 3 rfl dX10_findIn_10 ?_
    refine x_lald (pc := 12) dX10_findIn_12 ?_
    intro v1
    refine x_lload_n (pc := 13) 2 rfl rfl dX10_findIn_13 ?_
    refine x_lcmp (pc := 14) dX10_findIn_14 ?_
    refine x_if_ne (pc := 15) 21 (by decide) dX10_findIn_15 ?_ ?_
    · refine x_iinc (pc := 21) (v := (1 : Int32)) (lv' := [(4, .int (x4 + (1 : Int32))), (0, .ref x0), (1, .int x1), (2, .long x2)]) 3 rfl (by decide) (by decide) rfl dX10_findIn_21 ?_
      refine x_goto (pc := 24) 3 (by decide) dX10_findIn_24 ?_
      refine Sim.lv [1, 2, 3, 0] rfl ?_
      exact hr3 h x0 x1 x2 (x4 + (1 : Int32))
    · refine x_iload (pc := 18) 3 rfl dX10_findIn_18 ?_
      exact x_iret (pc := 20) dX10_findIn_20
set_option maxHeartbeats 4000000 in
theorem v_M_findIn_l3 : ∀ (n : Nat) (h : PH) (x0 : Nat) (x1 : Int32) (x2 : Int64) (x4 : Int32), Sim Y_M_findIn h 3 [(0, .ref x0), (1, .int x1), (2, .long x2), (4, .int x4)] [] (itr (c_M_findIn_l3) (fun _ _ _ _ _ => none) n h x0 x1 x2 x4)
  | 0, h, x0, x1, x2, x4 => Sim.none
  | n + 1, h, x0, x1, x2, x4 => w_M_findIn_l3 _ (v_M_findIn_l3 n) h x0 x1 x2 x4
set_option maxHeartbeats 4000000 in
theorem m_M_findIn (h : PH) (x0 : Nat) (x1 : Int32) (x2 : Int64) : MM yX10_findIn (ws_ yX10_findIn cX10_findIn 5 (some .int)) 1 [.ref x0, .int x1, .long x2] h (c_M_findIn h x0 x1 x2) := by
  refine MM.of (by decide) rfl (by decide) (Nat.le_of_ble_eq_true rfl) (own := RX10) (cc := cX10_findIn) (maxL := 5) (lev := 1) (rt := (some .int)) (ini := false) ?_
  show Sim Y_M_findIn h 0 [(0, .ref x0), (1, .int x1), (2, .long x2)] [] _
  unfold c_M_findIn
  refine x_iconst (pc := 0) (v := 0) (by decide) dX10_findIn_0 ?_
  refine x_istore (pc := 1) (lv' := [(4, .int (0 : Int32)), (0, .ref x0), (1, .int x1), (2, .long x2)]) (by decide) rfl dX10_findIn_1 ?_
  refine Sim.lv [1, 2, 3, 0] rfl ?_
  exact v_M_findIn_l3 FU h x0 x1 x2 (0 : Int32)
abbrev Y_M_areBits : Yx := (RX10, cX10_areBits, 2, 1, (some .boolean), [], false)
def c_M_areBits_l5 (r5 : PH → Nat → Int32 → Option RH) (h : PH) (this : Nat) (x1 : Int32) : Option RH :=
  gI h this [8] 5 fun v1 =>
  if v1 ≤ x1 then
    rZ (1 : Int32) h
  else
    gQ h this [8] 1 fun v2 =>
    nn v2 fun a3 =>
    ldI h a3 0 x1 fun v5 =>
    if v5 = (105 : Int32) then
      r5 h this (x1 + (1 : Int32))
    else
      gQ h this [8] 1 fun v6 =>
      nn v6 fun a7 =>
      ldI h a7 0 x1 fun v9 =>
      if v9 = (111 : Int32) then
        r5 h this (x1 + (1 : Int32))
      else
        rZ (0 : Int32) h
def c_M_areBits (h : PH) (this : Nat) : Option RH :=
  grd h this [8] (
  gI h this [8] 6 fun v1 =>
  itr (c_M_areBits_l5) (fun _ _ _ => none) FU h this v1)
set_option maxHeartbeats 4000000 in
theorem w_M_areBits_l5 (r5 : PH → Nat → Int32 → Option RH) (hr5 : ∀ (h : PH) (this : Nat) (x1 : Int32), Sim Y_M_areBits h 5 [(0, .ref this), (1, .int x1)] [] (r5 h this x1)) (h : PH) (this : Nat) (x1 : Int32) : Sim Y_M_areBits h 5 [(0, .ref this), (1, .int x1)] [] (c_M_areBits_l5 r5 h this x1) := by
  unfold c_M_areBits_l5
  refine x_iload_n (pc := 5) 1 rfl rfl dX10_areBits_5 ?_
  refine x_aload_nR (pc := 6) (a := this) 0 rfl rfl dX10_areBits_6 ?_
  refine x_getI (pc := 7) fi_X10_21 dX10_areBits_7 ?_
  intro v1
  refine x_icmp_ge (pc := 10) 43 (by decide) dX10_areBits_10 ?_ ?_
  · refine x_iconst (pc := 43) (v := 1) (by decide) dX10_areBits_43 ?_
    exact x_zret (pc := 44) dX10_areBits_44
  · refine x_aload_nR (pc := 13) (a := this) 0 rfl rfl dX10_areBits_13 ?_
    refine x_getQ (pc := 14) fi_X10_7 dX10_areBits_14 ?_
    intro v2
    refine x_iload_n (pc := 17) 1 rfl rfl dX10_areBits_17 ?_
    refine x_nn (fun a3 e4 => ?_)
    subst e4
    refine x_iald (pc := 18) dX10_areBits_18 ?_
    intro v5
    refine x_bipush (pc := 19) (v := 105) (by decide) dX10_areBits_19 ?_
    refine x_icmp_eq (pc := 21) 37 (by decide) dX10_areBits_21 ?_ ?_
    · refine x_iinc (pc := 37) (v := (1 : Int32)) (lv' := [(1, .int (x1 + (1 : Int32))), (0, .ref this)]) 1 rfl (by decide) (by decide) rfl dX10_areBits_37 ?_
      refine x_goto (pc := 40) 5 (by decide) dX10_areBits_40 ?_
      refine Sim.lv [1, 0] rfl ?_
      exact hr5 h this (x1 + (1 : Int32))
    · refine x_aload_nR (pc := 24) (a := this) 0 rfl rfl dX10_areBits_24 ?_
      refine x_getQ (pc := 25) fi_X10_7 dX10_areBits_25 ?_
      intro v6
      refine x_iload_n (pc := 28) 1 rfl rfl dX10_areBits_28 ?_
      refine x_nn (fun a7 e8 => ?_)
      subst e8
      refine x_iald (pc := 29) dX10_areBits_29 ?_
      intro v9
      refine x_bipush (pc := 30) (v := 111) (by decide) dX10_areBits_30 ?_
      refine x_icmp_eq (pc := 32) 37 (by decide) dX10_areBits_32 ?_ ?_
      · refine x_iinc (pc := 37) (v := (1 : Int32)) (lv' := [(1, .int (x1 + (1 : Int32))), (0, .ref this)]) 1 rfl (by decide) (by decide) rfl dX10_areBits_37 ?_
        refine x_goto (pc := 40) 5 (by decide) dX10_areBits_40 ?_
        refine Sim.lv [1, 0] rfl ?_
        exact hr5 h this (x1 + (1 : Int32))
      · refine x_iconst (pc := 35) (v := 0) (by decide) dX10_areBits_35 ?_
        exact x_zret (pc := 36) dX10_areBits_36
set_option maxHeartbeats 4000000 in
theorem v_M_areBits_l5 : ∀ (n : Nat) (h : PH) (this : Nat) (x1 : Int32), Sim Y_M_areBits h 5 [(0, .ref this), (1, .int x1)] [] (itr (c_M_areBits_l5) (fun _ _ _ => none) n h this x1)
  | 0, h, this, x1 => Sim.none
  | n + 1, h, this, x1 => w_M_areBits_l5 _ (v_M_areBits_l5 n) h this x1
set_option maxHeartbeats 4000000 in
theorem m_M_areBits (h : PH) (this : Nat) : MM yX10_areBits (ws_ yX10_areBits cX10_areBits 2 (some .boolean)) 1 [.ref this] h (c_M_areBits h this) := by
  refine MM.of (by decide) rfl (by decide) (Nat.le_of_ble_eq_true rfl) (own := RX10) (cc := cX10_areBits) (maxL := 2) (lev := 1) (rt := (some .boolean)) (ini := false) ?_
  show Sim Y_M_areBits h 0 [(0, .ref this)] [] _
  unfold c_M_areBits
  refine x_grd ?_
  refine x_aload_nR (pc := 0) (a := this) 0 rfl rfl dX10_areBits_0 ?_
  refine x_getI (pc := 1) fi_X10_24 dX10_areBits_1 ?_
  intro v1
  refine x_istore_n (pc := 4) (lv' := [(1, .int v1), (0, .ref this)]) rfl (by decide) rfl dX10_areBits_4 ?_
  refine Sim.lv [1, 0] rfl ?_
  exact v_M_areBits_l5 FU h this v1
