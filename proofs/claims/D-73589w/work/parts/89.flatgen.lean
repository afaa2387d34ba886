set_option maxRecDepth 100000
def d_M_thrown (ms : MS) : Option DR :=
  nm (ms.1 0 0) fun v1 =>
  dI v1 ms
theorem r_M_thrown {g : Nat → Nat} {this : Nat} {ms : MS} {h : PH} (hm : MRep g this ms h) : RM g this h (c_M_thrown h this) (d_M_thrown ms) := by
  unfold c_M_thrown d_M_thrown
  refine n_grd hm ?_
  refine n_gI hm (by decide) (by decide) (by decide) (fun v1 => ?_)
  exact n_rI hm
def d_M_come_l3 (r3' : MS → Int32 → Int32 → Option DR) (ms : MS) (x1 : Int32) (x2 : Int32) : Option DR :=
  if x2 < 0 then
    dV ms
  else
    nm (ms.1 2 0) fun v2 =>
    sA ms 1 v2 (((x1.toUInt32 >>> (x2.toUInt32 &&& Int32.toUInt32 31)).toInt32) &&& (255 : Int32)) fun m5 =>
    nm (m5.1 2 0) fun v6 =>
    nm (mset m5 2 0 (v6 + (1 : Int32))) fun m7 =>
    r3' m7 x1 (x2 + (-8 : Int32))
theorem r_M_come_l3 {g : Nat → Nat} {this : Nat} {r3 : PH → Nat → Int32 → Int32 → Option RH} {r3' : MS → Int32 → Int32 → Option DR} (hr3 : ∀ {ms : MS} {h : PH} (_ : MRep g this ms h) (x1 : Int32) (x2 : Int32), RM g this h (r3 h this x1 x2) (r3' ms x1 x2)) {ms : MS} {h : PH} (hm : MRep g this ms h) (x1 : Int32) (x2 : Int32) : RM g this h (c_M_come_l3 r3 h this x1 x2) (d_M_come_l3 r3' ms x1 x2) := by
  unfold c_M_come_l3 d_M_come_l3
  refine n_if ?_ ?_
  · exact n_rV hm
  · refine n_gQ (k := 1) hm (by decide) (by decide) ?_
    refine n_gI hm (by decide) (by decide) (by decide) (fun v2 => ?_)
    refine n_nn ?_
    refine n_stI (k := 1) hm (by decide) (fun h5 m5 q5 => ?_)
    refine n_gI q5 (by decide) (by decide) (by decide) (fun v6 => ?_)
    refine n_pI q5 (by decide) (by decide) (by decide) (fun h7 m7 q7 => ?_)
    exact hr3 q7 x1 (x2 + (-8 : Int32))
theorem u_M_come_l3 {g : Nat → Nat} {this : Nat} : ∀ (n : Nat) {ms : MS} {h : PH} (_ : MRep g this ms h) (x1 : Int32) (x2 : Int32), RM g this h (itr (c_M_come_l3) (fun _ _ _ _ => none) n h this x1 x2) (itr (d_M_come_l3) (fun _ _ _ => none) n ms x1 x2)
  | 0 => fun _ _ _ => n_none
  | n + 1 => fun hm x1 x2 => r_M_come_l3 (u_M_come_l3 n) hm x1 x2
def d_M_come (ms : MS) (x1 : Int32) : Option DR :=
  itr (d_M_come_l3) (fun _ _ _ => none) FU ms x1 (24 : Int32)
theorem r_M_come {g : Nat → Nat} {this : Nat} {ms : MS} {h : PH} (hm : MRep g this ms h) (x1 : Int32) : RM g this h (c_M_come h this x1) (d_M_come ms x1) := by
  unfold c_M_come d_M_come
  refine n_grd hm ?_
  exact u_M_come_l3 FU hm x1 (24 : Int32)
def d_M_feed (ms : MS) (x1 : Int32) (x2 : Int32) (x3 : Int32) (x4 : Int32) (x5 : Int32) : Option DR :=
  nm (mset ms 0 0 (0 : Int32)) fun m1 =>
  nm (m1.1 2 0) fun v2 =>
  if (v2 + (20 : Int32)) ≤ (940 : Int32) then
    bV (d_M_come m1 x1) fun m3 =>
    bV (d_M_come m3 x2) fun m4 =>
    bV (d_M_come m4 x3) fun m5 =>
    bV (d_M_come m5 x4) fun m6 =>
    bV (d_M_come m6 x5) fun m7 =>
    nm (m7.1 2 0) fun v8 =>
    dI v8 m7
  else
    dI (-1 : Int32) m1
theorem r_M_feed {g : Nat → Nat} {this : Nat} {ms : MS} {h : PH} (hm : MRep g this ms h) (x1 : Int32) (x2 : Int32) (x3 : Int32) (x4 : Int32) (x5 : Int32) : RM g this h (c_M_feed h this x1 x2 x3 x4 x5) (d_M_feed ms x1 x2 x3 x4 x5) := by
  unfold c_M_feed d_M_feed
  refine n_grd hm ?_
  refine n_pI hm (by decide) (by decide) (by decide) (fun h1 m1 q1 => ?_)
  refine n_gI q1 (by decide) (by decide) (by decide) (fun v2 => ?_)
  refine n_if ?_ ?_
  · refine n_hV (r_M_come q1 x1) (fun h3 m3 q3 => ?_)
    refine n_hV (r_M_come q3 x2) (fun h4 m4 q4 => ?_)
    refine n_hV (r_M_come q4 x3) (fun h5 m5 q5 => ?_)
    refine n_hV (r_M_come q5 x4) (fun h6 m6 q6 => ?_)
    refine n_hV (r_M_come q6 x5) (fun h7 m7 q7 => ?_)
    refine n_gI q7 (by decide) (by decide) (by decide) (fun v8 => ?_)
    exact n_rI q7
  · exact n_rI q1
def d_M_end (ms : MS) (x1 : Int32) : Option DR :=
  nm (mset ms 0 0 (0 : Int32)) fun m1 =>
  if x1 < 0 then
    dZ (0 : Int32) m1
  else
    nm (m1.1 2 0) fun v2 =>
    if x1 ≤ v2 then
      nm (mset m1 2 0 x1) fun m3 =>
      dZ (1 : Int32) m3
    else
      dZ (0 : Int32) m1
theorem r_M_end {g : Nat → Nat} {this : Nat} {ms : MS} {h : PH} (hm : MRep g this ms h) (x1 : Int32) : RM g this h (c_M_end h this x1) (d_M_end ms x1) := by
  unfold c_M_end d_M_end
  refine n_grd hm ?_
  refine n_pI hm (by decide) (by decide) (by decide) (fun h1 m1 q1 => ?_)
  refine n_if ?_ ?_
  · exact n_rZ q1
  · refine n_gI q1 (by decide) (by decide) (by decide) (fun v2 => ?_)
    refine n_if ?_ ?_
    · refine n_pI q1 (by decide) (by decide) (by decide) (fun h3 m3 q3 => ?_)
      exact n_rZ q3
    · exact n_rZ q1
def d_M_take (ms : MS) : Option DR :=
  nm (ms.1 2 0) fun v1 =>
  nm (mset ms 2 0 (0 : Int32)) fun m2 =>
  dI v1 m2
theorem r_M_take {g : Nat → Nat} {this : Nat} {ms : MS} {h : PH} (hm : MRep g this ms h) : RM g this h (c_M_take h this) (d_M_take ms) := by
  unfold c_M_take d_M_take
  refine n_grd hm ?_
  refine n_gI hm (by decide) (by decide) (by decide) (fun v1 => ?_)
  refine n_pI hm (by decide) (by decide) (by decide) (fun h2 m2 q2 => ?_)
  exact n_rI q2
def d_M_isLetter (ms : MS) (x0 : Int32) : Option DR :=
  if x0 < (97 : Int32) then
    dZ (0 : Int32) ms
  else
    if (122 : Int32) < x0 then
      dZ (0 : Int32) ms
    else
      dZ (1 : Int32) ms
theorem r_M_isLetter {g : Nat → Nat} {this : Nat} {ms : MS} {h : PH} (hm : MRep g this ms h) (x0 : Int32) : RM g this h (c_M_isLetter h x0) (d_M_isLetter ms x0) := by
  unfold c_M_isLetter d_M_isLetter
  refine n_if ?_ ?_
  · exact n_rZ hm
  · refine n_if ?_ ?_
    · exact n_rZ hm
    · exact n_rZ hm
def d_M_isDigit (ms : MS) (x0 : Int32) : Option DR :=
  if x0 < (48 : Int32) then
    dZ (0 : Int32) ms
  else
    if (57 : Int32) < x0 then
      dZ (0 : Int32) ms
    else
      dZ (1 : Int32) ms
theorem r_M_isDigit {g : Nat → Nat} {this : Nat} {ms : MS} {h : PH} (hm : MRep g this ms h) (x0 : Int32) : RM g this h (c_M_isDigit h x0) (d_M_isDigit ms x0) := by
  unfold c_M_isDigit d_M_isDigit
  refine n_if ?_ ?_
  · exact n_rZ hm
  · refine n_if ?_ ?_
    · exact n_rZ hm
    · exact n_rZ hm
def d_M_tapeAt (ms : MS) (x1 : Int32) : Option DR :=
  nm (ms.1 3 0) fun v1 =>
  if v1 ≤ x1 then
    dI (0 : Int32) ms
  else
    eA ms 1 x1 fun v5 =>
    dI v5 ms
theorem r_M_tapeAt {g : Nat → Nat} {this : Nat} {ms : MS} {h : PH} (hm : MRep g this ms h) (x1 : Int32) : RM g this h (c_M_tapeAt h this x1) (d_M_tapeAt ms x1) := by
  unfold c_M_tapeAt d_M_tapeAt
  refine n_grd hm ?_
  refine n_gI hm (by decide) (by decide) (by decide) (fun v1 => ?_)
  refine n_if ?_ ?_
  · exact n_rI hm
  · refine n_gQ (k := 1) hm (by decide) (by decide) ?_
    refine n_nn ?_
    refine n_ldI (k := 1) hm (by decide) (fun v5 => ?_)
    exact n_rI hm
def d_M_go_j39 (r0' : MS → Option DR) (ms : MS) : Option DR :=
  nm (ms.1 5 0) fun v1 =>
  nm (mset ms 5 0 (v1 + (1 : Int32))) fun m2 =>
  r0' m2
theorem r_M_go_j39 {g : Nat → Nat} {this : Nat} {r0 : PH → Nat → Option RH} {r0' : MS → Option DR} (hr0 : ∀ {ms : MS} {h : PH} (_ : MRep g this ms h), RM g this h (r0 h this) (r0' ms)) {ms : MS} {h : PH} (hm : MRep g this ms h) : RM g this h (c_M_go_j39 r0 h this) (d_M_go_j39 r0' ms) := by
  unfold c_M_go_j39 d_M_go_j39
  refine n_gI hm (by decide) (by decide) (by decide) (fun v1 => ?_)
  refine n_pI hm (by decide) (by decide) (by decide) (fun h2 m2 q2 => ?_)
  exact hr0 q2
def d_M_go_j179 (ms : MS) (x1 : Int32) (s0 : Int32) : Option DR :=
  nm (mset ms 7 0 s0) fun m1 =>
  nm (mset m1 9 0 x1) fun m2 =>
  nm (m2.1 5 0) fun v3 =>
  nm (mset m2 5 0 (v3 + (1 : Int32))) fun m4 =>
  dV m4
theorem r_M_go_j179 {g : Nat → Nat} {this : Nat} {ms : MS} {h : PH} (hm : MRep g this ms h) (x1 : Int32) (s0 : Int32) : RM g this h (c_M_go_j179 h this x1 s0 this) (d_M_go_j179 ms x1 s0) := by
  unfold c_M_go_j179 d_M_go_j179
  refine n_pI hm (by decide) (by decide) (by decide) (fun h1 m1 q1 => ?_)
  refine n_pI q1 (by decide) (by decide) (by decide) (fun h2 m2 q2 => ?_)
  refine n_gI q2 (by decide) (by decide) (by decide) (fun v3 => ?_)
  refine n_pI q2 (by decide) (by decide) (by decide) (fun h4 m4 q4 => ?_)
  exact n_rV q4
def d_M_go_j174 (ms : MS) (x1 : Int32) : Option DR :=
  d_M_go_j179 ms x1 (4 : Int32)
theorem r_M_go_j174 {g : Nat → Nat} {this : Nat} {ms : MS} {h : PH} (hm : MRep g this ms h) (x1 : Int32) : RM g this h (c_M_go_j174 h this x1 this) (d_M_go_j174 ms x1) := by
  unfold c_M_go_j174 d_M_go_j174
  exact (r_M_go_j179 hm x1 (4 : Int32))
def d_M_go_j337 (r215' : MS → Int32 → Int32 → Option DR) (ms : MS) (x2 : Int32) (x3 : Int32) : Option DR :=
  nm (ms.1 5 0) fun v1 =>
  nm (mset ms 5 0 (v1 + (1 : Int32))) fun m2 =>
  r215' m2 x2 x3
theorem r_M_go_j337 {g : Nat → Nat} {this : Nat} {r215 : PH → Nat → Int32 → Int32 → Option RH} {r215' : MS → Int32 → Int32 → Option DR} (hr215 : ∀ {ms : MS} {h : PH} (_ : MRep g this ms h) (x2 : Int32) (x3 : Int32), RM g this h (r215 h this x2 x3) (r215' ms x2 x3)) {ms : MS} {h : PH} (hm : MRep g this ms h) (x2 : Int32) (x3 : Int32) : RM g this h (c_M_go_j337 r215 h this x2 x3) (d_M_go_j337 r215' ms x2 x3) := by
  unfold c_M_go_j337 d_M_go_j337
  refine n_gI hm (by decide) (by decide) (by decide) (fun v1 => ?_)
  refine n_pI hm (by decide) (by decide) (by decide) (fun h2 m2 q2 => ?_)
  exact hr215 q2 x2 x3
def d_M_go_j307 (r215' : MS → Int32 → Int32 → Option DR) (ms : MS) (x2 : Int32) (x3 : Int32) (x4 : Int32) : Option DR :=
  nm (ms.1 5 0) fun v1 =>
  nm (ms.1 6 0) fun v2 =>
  if (3 : Int32) ≤ (v1 - v2) then
    d_M_go_j337 r215' ms x2 x3
  else
    nm (ms.1 8 0) fun v3 =>
    nm (mset ms 8 0 ((((10 : Int32) * v3) + x4) - (48 : Int32))) fun m4 =>
    d_M_go_j337 r215' m4 x2 x3
theorem r_M_go_j307 {g : Nat → Nat} {this : Nat} {r215 : PH → Nat → Int32 → Int32 → Option RH} {r215' : MS → Int32 → Int32 → Option DR} (hr215 : ∀ {ms : MS} {h : PH} (_ : MRep g this ms h) (x2 : Int32) (x3 : Int32), RM g this h (r215 h this x2 x3) (r215' ms x2 x3)) {ms : MS} {h : PH} (hm : MRep g this ms h) (x2 : Int32) (x3 : Int32) (x4 : Int32) : RM g this h (c_M_go_j307 r215 h this x2 x3 x4) (d_M_go_j307 r215' ms x2 x3 x4) := by
  unfold c_M_go_j307 d_M_go_j307
  refine n_gI hm (by decide) (by decide) (by decide) (fun v1 => ?_)
  refine n_gI hm (by decide) (by decide) (by decide) (fun v2 => ?_)
  refine n_if ?_ ?_
  · exact (r_M_go_j337 hr215 hm x2 x3)
  · refine n_gI hm (by decide) (by decide) (by decide) (fun v3 => ?_)
    refine n_pI hm (by decide) (by decide) (by decide) (fun h4 m4 q4 => ?_)
    exact (r_M_go_j337 hr215 q4 x2 x3)
def d_M_go_j272 (r215' : MS → Int32 → Int32 → Option DR) (ms : MS) (x2 : Int32) (x4 : Int32) (s0 : Int32) : Option DR :=
  nm (ms.1 5 0) fun v1 =>
  nm (ms.1 6 0) fun v2 =>
  if (7 : Int32) ≤ (v1 - v2) then
    d_M_go_j307 r215' ms x2 s0 x4
  else
    nm (ms.2 12 0) fun v3 =>
    nm (msetL ms 12 0 ((((27 : Int64) * v3) + x4.toInt64) - (96 : Int64))) fun m4 =>
    d_M_go_j307 r215' m4 x2 s0 x4
theorem r_M_go_j272 {g : Nat → Nat} {this : Nat} {r215 : PH → Nat → Int32 → Int32 → Option RH} {r215' : MS → Int32 → Int32 → Option DR} (hr215 : ∀ {ms : MS} {h : PH} (_ : MRep g this ms h) (x2 : Int32) (x3 : Int32), RM g this h (r215 h this x2 x3) (r215' ms x2 x3)) {ms : MS} {h : PH} (hm : MRep g this ms h) (x2 : Int32) (x4 : Int32) (s0 : Int32) : RM g this h (c_M_go_j272 r215 h this x2 x4 s0) (d_M_go_j272 r215' ms x2 x4 s0) := by
  unfold c_M_go_j272 d_M_go_j272
  refine n_gI hm (by decide) (by decide) (by decide) (fun v1 => ?_)
  refine n_gI hm (by decide) (by decide) (by decide) (fun v2 => ?_)
  refine n_if ?_ ?_
  · exact (r_M_go_j307 hr215 hm x2 s0 x4)
  · refine n_gL hm (fun v3 => ?_)
    refine n_pL hm (fun h4 m4 q4 => ?_)
    exact (r_M_go_j307 hr215 q4 x2 s0 x4)
def d_M_go_j271 (r215' : MS → Int32 → Int32 → Option DR) (ms : MS) (x2 : Int32) (x4 : Int32) : Option DR :=
  d_M_go_j272 r215' ms x2 x4 (0 : Int32)
theorem r_M_go_j271 {g : Nat → Nat} {this : Nat} {r215 : PH → Nat → Int32 → Int32 → Option RH} {r215' : MS → Int32 → Int32 → Option DR} (hr215 : ∀ {ms : MS} {h : PH} (_ : MRep g this ms h) (x2 : Int32) (x3 : Int32), RM g this h (r215 h this x2 x3) (r215' ms x2 x3)) {ms : MS} {h : PH} (hm : MRep g this ms h) (x2 : Int32) (x4 : Int32) : RM g this h (c_M_go_j271 r215 h this x2 x4) (d_M_go_j271 r215' ms x2 x4) := by
  unfold c_M_go_j271 d_M_go_j271
  exact (r_M_go_j272 hr215 hm x2 x4 (0 : Int32))
def d_M_go_j243 (r215' : MS → Int32 → Int32 → Option DR) (ms : MS) (x2 : Int32) (x3 : Int32) : Option DR :=
  nm (ms.1 5 0) fun v2 =>
  eA ms 1 v2 fun v5 =>
  if x3 = 0 then
    d_M_go_j271 r215' ms x2 v5
  else
    bI (d_M_isLetter ms v5) fun v7 m6 =>
    if v7 = x2 then
      d_M_go_j272 r215' m6 x2 v5 (1 : Int32)
    else
      d_M_go_j271 r215' m6 x2 v5
theorem r_M_go_j243 {g : Nat → Nat} {this : Nat} {r215 : PH → Nat → Int32 → Int32 → Option RH} {r215' : MS → Int32 → Int32 → Option DR} (hr215 : ∀ {ms : MS} {h : PH} (_ : MRep g this ms h) (x2 : Int32) (x3 : Int32), RM g this h (r215 h this x2 x3) (r215' ms x2 x3)) {ms : MS} {h : PH} (hm : MRep g this ms h) (x2 : Int32) (x3 : Int32) : RM g this h (c_M_go_j243 r215 h this x2 x3) (d_M_go_j243 r215' ms x2 x3) := by
  unfold c_M_go_j243 d_M_go_j243
  refine n_gQ (k := 1) hm (by decide) (by decide) ?_
  refine n_gI hm (by decide) (by decide) (by decide) (fun v2 => ?_)
  refine n_nn ?_
  refine n_ldI (k := 1) hm (by decide) (fun v5 => ?_)
  refine n_if ?_ ?_
  · exact (r_M_go_j271 hr215 hm x2 v5)
  · refine n_hI (r_M_isLetter hm v5) (fun v7 h6 m6 q6 => ?_)
    refine n_if ?_ ?_
    · exact (r_M_go_j272 hr215 q6 x2 v5 (1 : Int32))
    · exact (r_M_go_j271 hr215 q6 x2 v5)
def d_M_go_j374 (ms : MS) (x2 : Int32) (s0 : Int32) (s1 : Int32) : Option DR :=
  if s1 ≤ s0 then
    if x2 = 0 then
      nm (mset ms 7 0 (3 : Int32)) fun m1 =>
      dV m1
    else
      nm (mset ms 7 0 (2 : Int32)) fun m2 =>
      dV m2
  else
    nm (mset ms 7 0 (1 : Int32)) fun m3 =>
    dV m3
theorem r_M_go_j374 {g : Nat → Nat} {this : Nat} {ms : MS} {h : PH} (hm : MRep g this ms h) (x2 : Int32) (s0 : Int32) (s1 : Int32) : RM g this h (c_M_go_j374 h x2 s0 s1 this) (d_M_go_j374 ms x2 s0 s1) := by
  unfold c_M_go_j374 d_M_go_j374
  refine n_if ?_ ?_
  · refine n_if ?_ ?_
    · refine n_pI hm (by decide) (by decide) (by decide) (fun h1 m1 q1 => ?_)
      exact n_rV q1
    · refine n_pI hm (by decide) (by decide) (by decide) (fun h2 m2 q2 => ?_)
      exact n_rV q2
  · refine n_pI hm (by decide) (by decide) (by decide) (fun h3 m3 q3 => ?_)
    exact n_rV q3
def d_M_go_l215 (r215' : MS → Int32 → Int32 → Option DR) (ms : MS) (x2 : Int32) (x3 : Int32) : Option DR :=
  nm (ms.1 5 0) fun v1 =>
  bI (d_M_tapeAt ms v1) fun v3 m2 =>
  bI (d_M_isLetter m2 v3) fun v5 m4 =>
  if v5 = 0 then
    nm (m4.1 5 0) fun v6 =>
    bI (d_M_tapeAt m4 v6) fun v8 m7 =>
    bI (d_M_isDigit m7 v8) fun v10 m9 =>
    if v10 = 0 then
      if x3 = 0 then
        nm (mset m9 7 0 (1 : Int32)) fun m11 =>
        dV m11
      else
        nm (m9.1 5 0) fun v12 =>
        nm (m9.1 6 0) fun v13 =>
        if x2 = 0 then
          d_M_go_j374 m9 x2 (3 : Int32) (v12 - v13)
        else
          d_M_go_j374 m9 x2 (7 : Int32) (v12 - v13)
    else
      d_M_go_j243 r215' m9 x2 x3
  else
    d_M_go_j243 r215' m4 x2 x3
theorem r_M_go_l215 {g : Nat → Nat} {this : Nat} {r215 : PH → Nat → Int32 → Int32 → Option RH} {r215' : MS → Int32 → Int32 → Option DR} (hr215 : ∀ {ms : MS} {h : PH} (_ : MRep g this ms h) (x2 : Int32) (x3 : Int32), RM g this h (r215 h this x2 x3) (r215' ms x2 x3)) {ms : MS} {h : PH} (hm : MRep g this ms h) (x2 : Int32) (x3 : Int32) : RM g this h (c_M_go_l215 r215 h this x2 x3) (d_M_go_l215 r215' ms x2 x3) := by
  unfold c_M_go_l215 d_M_go_l215
  refine n_gI hm (by decide) (by decide) (by decide) (fun v1 => ?_)
  refine n_hI (r_M_tapeAt hm v1) (fun v3 h2 m2 q2 => ?_)
  refine n_hI (r_M_isLetter q2 v3) (fun v5 h4 m4 q4 => ?_)
  refine n_if ?_ ?_
  · refine n_gI q4 (by decide) (by decide) (by decide) (fun v6 => ?_)
    refine n_hI (r_M_tapeAt q4 v6) (fun v8 h7 m7 q7 => ?_)
    refine n_hI (r_M_isDigit q7 v8) (fun v10 h9 m9 q9 => ?_)
    refine n_if ?_ ?_
    · refine n_if ?_ ?_
      · refine n_pI q9 (by decide) (by decide) (by decide) (fun h11 m11 q11 => ?_)
        exact n_rV q11
      · refine n_gI q9 (by decide) (by decide) (by decide) (fun v12 => ?_)
        refine n_gI q9 (by decide) (by decide) (by decide) (fun v13 => ?_)
        refine n_if ?_ ?_
        · exact (r_M_go_j374 q9 x2 (3 : Int32) (v12 - v13))
        · exact (r_M_go_j374 q9 x2 (7 : Int32) (v12 - v13))
    · exact (r_M_go_j243 hr215 q9 x2 x3)
  · exact (r_M_go_j243 hr215 q4 x2 x3)
theorem u_M_go_l215 {g : Nat → Nat} {this : Nat} : ∀ (n : Nat) {ms : MS} {h : PH} (_ : MRep g this ms h) (x2 : Int32) (x3 : Int32), RM g this h (itr (c_M_go_l215) (fun _ _ _ _ => none) n h this x2 x3) (itr (d_M_go_l215) (fun _ _ _ => none) n ms x2 x3)
  | 0 => fun _ _ _ => n_none
  | n + 1 => fun hm x2 x3 => r_M_go_l215 (u_M_go_l215 n) hm x2 x3
def d_M_go_j198 (ms : MS) (x1 : Int32) : Option DR :=
  bI (d_M_isLetter ms x1) fun v2 m1 =>
  nm (msetL m1 12 0 (0 : Int64)) fun m3 =>
  nm (mset m3 8 0 (0 : Int32)) fun m4 =>
  itr (d_M_go_l215) (fun _ _ _ => none) FU m4 v2 (1 : Int32)
theorem r_M_go_j198 {g : Nat → Nat} {this : Nat} {ms : MS} {h : PH} (hm : MRep g this ms h) (x1 : Int32) : RM g this h (c_M_go_j198 h this x1) (d_M_go_j198 ms x1) := by
  unfold c_M_go_j198 d_M_go_j198
  refine n_hI (r_M_isLetter hm x1) (fun v2 h1 m1 q1 => ?_)
  refine n_pL q1 (fun h3 m3 q3 => ?_)
  refine n_pI q3 (by decide) (by decide) (by decide) (fun h4 m4 q4 => ?_)
  exact u_M_go_l215 FU q4 v2 (1 : Int32)
def d_M_go_j96 (ms : MS) : Option DR :=
  nm (ms.1 5 0) fun v1 =>
  nm (ms.1 3 0) fun v2 =>
  if v1 < v2 then
    nm (ms.1 5 0) fun v4 =>
    eA ms 1 v4 fun v7 =>
    bI (d_M_isLetter ms v7) fun v9 m8 =>
    if v9 = 0 then
      bI (d_M_isDigit m8 v7) fun v11 m10 =>
      if v11 = 0 then
        if v7 = (59 : Int32) then
          d_M_go_j174 m10 v7
        else
          if v7 = (60 : Int32) then
            d_M_go_j174 m10 v7
          else
            if v7 = (61 : Int32) then
              d_M_go_j174 m10 v7
            else
              if v7 = (62 : Int32) then
                d_M_go_j174 m10 v7
              else
                if v7 = (40 : Int32) then
                  d_M_go_j174 m10 v7
                else
                  if v7 = (41 : Int32) then
                    d_M_go_j174 m10 v7
                  else
                    d_M_go_j179 m10 v7 (1 : Int32)
      else
        d_M_go_j198 m10 v7
    else
      d_M_go_j198 m8 v7
  else
    nm (mset ms 7 0 (0 : Int32)) fun m12 =>
    dV m12
theorem r_M_go_j96 {g : Nat → Nat} {this : Nat} {ms : MS} {h : PH} (hm : MRep g this ms h) : RM g this h (c_M_go_j96 h this) (d_M_go_j96 ms) := by
  unfold c_M_go_j96 d_M_go_j96
  refine n_gI hm (by decide) (by decide) (by decide) (fun v1 => ?_)
  refine n_gI hm (by decide) (by decide) (by decide) (fun v2 => ?_)
  refine n_if ?_ ?_
  · refine n_gQ (k := 1) hm (by decide) (by decide) ?_
    refine n_gI hm (by decide) (by decide) (by decide) (fun v4 => ?_)
    refine n_nn ?_
    refine n_ldI (k := 1) hm (by decide) (fun v7 => ?_)
    refine n_hI (r_M_isLetter hm v7) (fun v9 h8 m8 q8 => ?_)
    refine n_if ?_ ?_
    · refine n_hI (r_M_isDigit q8 v7) (fun v11 h10 m10 q10 => ?_)
      refine n_if ?_ ?_
      · refine n_if ?_ ?_
        · exact (r_M_go_j174 q10 v7)
        · refine n_if ?_ ?_
          · exact (r_M_go_j174 q10 v7)
          · refine n_if ?_ ?_
            · exact (r_M_go_j174 q10 v7)
            · refine n_if ?_ ?_
              · exact (r_M_go_j174 q10 v7)
              · refine n_if ?_ ?_
                · exact (r_M_go_j174 q10 v7)
                · refine n_if ?_ ?_
                  · exact (r_M_go_j174 q10 v7)
                  · exact (r_M_go_j179 q10 v7 (1 : Int32))
      · exact (r_M_go_j198 q10 v7)
    · exact (r_M_go_j198 q8 v7)
  · refine n_pI hm (by decide) (by decide) (by decide) (fun h12 m12 q12 => ?_)
    exact n_rV q12
def d_M_go_j52 (ms : MS) : Option DR :=
  nm (ms.1 5 0) fun v1 =>
  nm (mset ms 6 0 v1) fun m2 =>
  nm (m2.1 3 0) fun v3 =>
  nm (m2.1 4 0) fun v4 =>
  if v3 ≤ v4 then
    d_M_go_j96 m2
  else
    nm (m2.1 6 0) fun v5 =>
    nm (m2.1 4 0) fun v6 =>
    if v5 < v6 then
      d_M_go_j96 m2
    else
      nm (m2.1 4 0) fun v7 =>
      nm (mset m2 6 0 v7) fun m8 =>
      nm (mset m8 7 0 (1 : Int32)) fun m9 =>
      dV m9
theorem r_M_go_j52 {g : Nat → Nat} {this : Nat} {ms : MS} {h : PH} (hm : MRep g this ms h) : RM g this h (c_M_go_j52 h this) (d_M_go_j52 ms) := by
  unfold c_M_go_j52 d_M_go_j52
  refine n_gI hm (by decide) (by decide) (by decide) (fun v1 => ?_)
  refine n_pI hm (by decide) (by decide) (by decide) (fun h2 m2 q2 => ?_)
  refine n_gI q2 (by decide) (by decide) (by decide) (fun v3 => ?_)
  refine n_gI q2 (by decide) (by decide) (by decide) (fun v4 => ?_)
  refine n_if ?_ ?_
  · exact (r_M_go_j96 q2)
  · refine n_gI q2 (by decide) (by decide) (by decide) (fun v5 => ?_)
    refine n_gI q2 (by decide) (by decide) (by decide) (fun v6 => ?_)
    refine n_if ?_ ?_
    · exact (r_M_go_j96 q2)
    · refine n_gI q2 (by decide) (by decide) (by decide) (fun v7 => ?_)
      refine n_pI q2 (by decide) (by decide) (by decide) (fun h8 m8 q8 => ?_)
      refine n_pI q8 (by decide) (by decide) (by decide) (fun h9 m9 q9 => ?_)
      exact n_rV q9
def d_M_go_l0 (r0' : MS → Option DR) (ms : MS) : Option DR :=
  nm (ms.1 5 0) fun v1 =>
  nm (ms.1 3 0) fun v2 =>
  if v2 ≤ v1 then
    d_M_go_j52 ms
  else
    nm (ms.1 5 0) fun v4 =>
    eA ms 1 v4 fun v7 =>
    if v7 = (32 : Int32) then
      d_M_go_j39 r0' ms
    else
      nm (ms.1 5 0) fun v9 =>
      eA ms 1 v9 fun v12 =>
      if v12 = (10 : Int32) then
        d_M_go_j39 r0' ms
      else
        d_M_go_j52 ms
theorem r_M_go_l0 {g : Nat → Nat} {this : Nat} {r0 : PH → Nat → Option RH} {r0' : MS → Option DR} (hr0 : ∀ {ms : MS} {h : PH} (_ : MRep g this ms h), RM g this h (r0 h this) (r0' ms)) {ms : MS} {h : PH} (hm : MRep g this ms h) : RM g this h (c_M_go_l0 r0 h this) (d_M_go_l0 r0' ms) := by
  unfold c_M_go_l0 d_M_go_l0
  refine n_gI hm (by decide) (by decide) (by decide) (fun v1 => ?_)
  refine n_gI hm (by decide) (by decide) (by decide) (fun v2 => ?_)
  refine n_if ?_ ?_
  · exact (r_M_go_j52 hm)
  · refine n_gQ (k := 1) hm (by decide) (by decide) ?_
    refine n_gI hm (by decide) (by decide) (by decide) (fun v4 => ?_)
    refine n_nn ?_
    refine n_ldI (k := 1) hm (by decide) (fun v7 => ?_)
    refine n_if ?_ ?_
    · exact (r_M_go_j39 hr0 hm)
    · refine n_gQ (k := 1) hm (by decide) (by decide) ?_
      refine n_gI hm (by decide) (by decide) (by decide) (fun v9 => ?_)
      refine n_nn ?_
      refine n_ldI (k := 1) hm (by decide) (fun v12 => ?_)
      refine n_if ?_ ?_
      · exact (r_M_go_j39 hr0 hm)
      · exact (r_M_go_j52 hm)
theorem u_M_go_l0 {g : Nat → Nat} {this : Nat} : ∀ (n : Nat) {ms : MS} {h : PH} (_ : MRep g this ms h), RM g this h (itr (c_M_go_l0) (fun _ _ => none) n h this) (itr (d_M_go_l0) (fun _ => none) n ms)
  | 0 => fun _ => n_none
  | n + 1 => fun hm => r_M_go_l0 (u_M_go_l0 n) hm
def d_M_go (ms : MS) : Option DR :=
  itr (d_M_go_l0) (fun _ => none) FU ms
theorem r_M_go {g : Nat → Nat} {this : Nat} {ms : MS} {h : PH} (hm : MRep g this ms h) : RM g this h (c_M_go h this) (d_M_go ms) := by
  unfold c_M_go d_M_go
  refine n_grd hm ?_
  exact u_M_go_l0 FU hm
def d_M_begin (ms : MS) (x1 : Int32) : Option DR :=
  nm (mset ms 0 0 (0 : Int32)) fun m1 =>
  bI (d_M_take m1) fun v3 m2 =>
  nm (mset m2 3 0 v3) fun m4 =>
  nm (mset m4 4 0 x1) fun m5 =>
  nm (mset m5 10 0 (0 : Int32)) fun m6 =>
  nm (mset m6 5 0 (0 : Int32)) fun m7 =>
  bV (d_M_go m7) fun m8 =>
  dV m8
theorem r_M_begin {g : Nat → Nat} {this : Nat} {ms : MS} {h : PH} (hm : MRep g this ms h) (x1 : Int32) : RM g this h (c_M_begin h this x1) (d_M_begin ms x1) := by
  unfold c_M_begin d_M_begin
  refine n_grd hm ?_
  refine n_pI hm (by decide) (by decide) (by decide) (fun h1 m1 q1 => ?_)
  refine n_hI (r_M_take q1) (fun v3 h2 m2 q2 => ?_)
  refine n_pI q2 (by decide) (by decide) (by decide) (fun h4 m4 q4 => ?_)
  refine n_pI q4 (by decide) (by decide) (by decide) (fun h5 m5 q5 => ?_)
  refine n_pI q5 (by decide) (by decide) (by decide) (fun h6 m6 q6 => ?_)
  refine n_pI q6 (by decide) (by decide) (by decide) (fun h7 m7 q7 => ?_)
  refine n_hV (r_M_go q7) (fun h8 m8 q8 => ?_)
  exact n_rV q8
def d_M_spelt_j99 (ms : MS) (x6 : Int32) (x7 : Int64) : Option DR :=
  if x6 ≤ 0 then
    dL x7 ms
  else
    nm ((((27 : Int64) * x7) + x6.toInt64) - (96 : Int64)) fun y1 =>
    dL y1 ms
theorem r_M_spelt_j99 {g : Nat → Nat} {this : Nat} {ms : MS} {h : PH} (hm : MRep g this ms h) (x6 : Int32) (x7 : Int64) : RM g this h (c_M_spelt_j99 h x6 x7) (d_M_spelt_j99 ms x6 x7) := by
  unfold c_M_spelt_j99 d_M_spelt_j99
  refine n_if ?_ ?_
  · exact n_rL hm
  · refine n_nm (fun y1 => ?_)
    exact n_rL hm
def d_M_spelt_j78 (ms : MS) (x5 : Int32) (x6 : Int32) (x7 : Int64) : Option DR :=
  if x5 ≤ 0 then
    d_M_spelt_j99 ms x6 x7
  else
    nm ((((27 : Int64) * x7) + x5.toInt64) - (96 : Int64)) fun y1 =>
    d_M_spelt_j99 ms x6 y1
theorem r_M_spelt_j78 {g : Nat → Nat} {this : Nat} {ms : MS} {h : PH} (hm : MRep g this ms h) (x5 : Int32) (x6 : Int32) (x7 : Int64) : RM g this h (c_M_spelt_j78 h x5 x6 x7) (d_M_spelt_j78 ms x5 x6 x7) := by
  unfold c_M_spelt_j78 d_M_spelt_j78
  refine n_if ?_ ?_
  · exact (r_M_spelt_j99 hm x6 x7)
  · refine n_nm (fun y1 => ?_)
    exact (r_M_spelt_j99 hm x6 y1)
def d_M_spelt_j57 (ms : MS) (x4 : Int32) (x5 : Int32) (x6 : Int32) (x7 : Int64) : Option DR :=
  if x4 ≤ 0 then
    d_M_spelt_j78 ms x5 x6 x7
  else
    nm ((((27 : Int64) * x7) + x4.toInt64) - (96 : Int64)) fun y1 =>
    d_M_spelt_j78 ms x5 x6 y1
theorem r_M_spelt_j57 {g : Nat → Nat} {this : Nat} {ms : MS} {h : PH} (hm : MRep g this ms h) (x4 : Int32) (x5 : Int32) (x6 : Int32) (x7 : Int64) : RM g this h (c_M_spelt_j57 h x4 x5 x6 x7) (d_M_spelt_j57 ms x4 x5 x6 x7) := by
  unfold c_M_spelt_j57 d_M_spelt_j57
  refine n_if ?_ ?_
  · exact (r_M_spelt_j78 hm x5 x6 x7)
  · refine n_nm (fun y1 => ?_)
    exact (r_M_spelt_j78 hm x5 x6 y1)
def d_M_spelt_j38 (ms : MS) (x3 : Int32) (x4 : Int32) (x5 : Int32) (x6 : Int32) (x7 : Int64) : Option DR :=
  if x3 ≤ 0 then
    d_M_spelt_j57 ms x4 x5 x6 x7
  else
    nm ((((27 : Int64) * x7) + x3.toInt64) - (96 : Int64)) fun y1 =>
    d_M_spelt_j57 ms x4 x5 x6 y1
theorem r_M_spelt_j38 {g : Nat → Nat} {this : Nat} {ms : MS} {h : PH} (hm : MRep g this ms h) (x3 : Int32) (x4 : Int32) (x5 : Int32) (x6 : Int32) (x7 : Int64) : RM g this h (c_M_spelt_j38 h x3 x4 x5 x6 x7) (d_M_spelt_j38 ms x3 x4 x5 x6 x7) := by
  unfold c_M_spelt_j38 d_M_spelt_j38
  refine n_if ?_ ?_
  · exact (r_M_spelt_j57 hm x4 x5 x6 x7)
  · refine n_nm (fun y1 => ?_)
    exact (r_M_spelt_j57 hm x4 x5 x6 y1)
def d_M_spelt (ms : MS) (x0 : Int32) (x1 : Int32) (x2 : Int32) (x3 : Int32) (x4 : Int32) (x5 : Int32) (x6 : Int32) : Option DR :=
  nm ((((27 : Int64) * (x0.toInt64 - (96 : Int64))) + x1.toInt64) - (96 : Int64)) fun y1 =>
  if x2 ≤ 0 then
    d_M_spelt_j38 ms x3 x4 x5 x6 y1
  else
    nm ((((27 : Int64) * y1) + x2.toInt64) - (96 : Int64)) fun y2 =>
    d_M_spelt_j38 ms x3 x4 x5 x6 y2
theorem r_M_spelt {g : Nat → Nat} {this : Nat} {ms : MS} {h : PH} (hm : MRep g this ms h) (x0 : Int32) (x1 : Int32) (x2 : Int32) (x3 : Int32) (x4 : Int32) (x5 : Int32) (x6 : Int32) : RM g this h (c_M_spelt h x0 x1 x2 x3 x4 x5 x6) (d_M_spelt ms x0 x1 x2 x3 x4 x5 x6) := by
  unfold c_M_spelt d_M_spelt
  refine n_nm (fun y1 => ?_)
  refine n_if ?_ ?_
  · exact (r_M_spelt_j38 hm x3 x4 x5 x6 y1)
  · refine n_nm (fun y2 => ?_)
    exact (r_M_spelt_j38 hm x3 x4 x5 x6 y2)
def d_M_wordOf (ms : MS) (x0 : Int32) : Option DR :=
  if x0 = 0 then
    bL (d_M_spelt ms (108 : Int32) (101 : Int32) (97 : Int32) (102 : Int32) (0 : Int32) (0 : Int32) (0 : Int32)) fun v2 m1 =>
    dL v2 m1
  else
    if x0 = 1 then
      bL (d_M_spelt ms (114 : Int32) (111 : Int32) (119 : Int32) (0 : Int32) (0 : Int32) (0 : Int32) (0 : Int32)) fun v4 m3 =>
      dL v4 m3
    else
      if x0 = 2 then
        bL (d_M_spelt ms (108 : Int32) (101 : Int32) (116 : Int32) (116 : Int32) (101 : Int32) (114 : Int32) (115 : Int32)) fun v6 m5 =>
        dL v6 m5
      else
        if x0 = 3 then
          bL (d_M_spelt ms (112 : Int32) (117 : Int32) (116 : Int32) (0 : Int32) (0 : Int32) (0 : Int32) (0 : Int32)) fun v8 m7 =>
          dL v8 m7
        else
          if x0 = 4 then
            bL (d_M_spelt ms (115 : Int32) (101 : Int32) (116 : Int32) (0 : Int32) (0 : Int32) (0 : Int32) (0 : Int32)) fun v10 m9 =>
            dL v10 m9
          else
            if x0 = 5 then
              bL (d_M_spelt ms (99 : Int32) (117 : Int32) (116 : Int32) (0 : Int32) (0 : Int32) (0 : Int32) (0 : Int32)) fun v12 m11 =>
              dL v12 m11
            else
              if x0 = 6 then
                bL (d_M_spelt ms (116 : Int32) (117 : Int32) (114 : Int32) (110 : Int32) (0 : Int32) (0 : Int32) (0 : Int32)) fun v14 m13 =>
                dL v14 m13
              else
                if x0 = 7 then
                  bL (d_M_spelt ms (106 : Int32) (111 : Int32) (105 : Int32) (110 : Int32) (0 : Int32) (0 : Int32) (0 : Int32)) fun v16 m15 =>
                  dL v16 m15
                else
                  if x0 = 8 then
                    bL (d_M_spelt ms (115 : Int32) (112 : Int32) (108 : Int32) (105 : Int32) (116 : Int32) (0 : Int32) (0 : Int32)) fun v18 m17 =>
                    dL v18 m17
                  else
                    if x0 = 9 then
                      bL (d_M_spelt ms (116 : Int32) (121 : Int32) (112 : Int32) (101 : Int32) (0 : Int32) (0 : Int32) (0 : Int32)) fun v20 m19 =>
                      dL v20 m19
                    else
                      if x0 = 10 then
                        bL (d_M_spelt ms (101 : Int32) (114 : Int32) (97 : Int32) (115 : Int32) (101 : Int32) (0 : Int32) (0 : Int32)) fun v22 m21 =>
                        dL v22 m21
                      else
                        if x0 = 11 then
                          bL (d_M_spelt ms (111 : Int32) (114 : Int32) (0 : Int32) (0 : Int32) (0 : Int32) (0 : Int32) (0 : Int32)) fun v24 m23 =>
                          dL v24 m23
                        else
                          if x0 = 12 then
                            bL (d_M_spelt ms (97 : Int32) (110 : Int32) (100 : Int32) (0 : Int32) (0 : Int32) (0 : Int32) (0 : Int32)) fun v26 m25 =>
                            dL v26 m25
                          else
                            if x0 = 13 then
                              bL (d_M_spelt ms (110 : Int32) (111 : Int32) (116 : Int32) (0 : Int32) (0 : Int32) (0 : Int32) (0 : Int32)) fun v28 m27 =>
                              dL v28 m27
                            else
                              if x0 = 14 then
                                bL (d_M_spelt ms (101 : Int32) (109 : Int32) (112 : Int32) (116 : Int32) (121 : Int32) (0 : Int32) (0 : Int32)) fun v30 m29 =>
                                dL v30 m29
                              else
                                if x0 = 15 then
                                  bL (d_M_spelt ms (101 : Int32) (118 : Int32) (101 : Int32) (110 : Int32) (0 : Int32) (0 : Int32) (0 : Int32)) fun v32 m31 =>
                                  dL v32 m31
                                else
                                  if x0 = 16 then
                                    bL (d_M_spelt ms (108 : Int32) (105 : Int32) (107 : Int32) (101 : Int32) (0 : Int32) (0 : Int32) (0 : Int32)) fun v34 m33 =>
                                    dL v34 m33
                                  else
                                    if x0 = 17 then
                                      bL (d_M_spelt ms (98 : Int32) (101 : Int32) (103 : Int32) (105 : Int32) (110 : Int32) (115 : Int32) (0 : Int32)) fun v36 m35 =>
                                      dL v36 m35
                                    else
                                      if x0 = 18 then
                                        bL (d_M_spelt ms (115 : Int32) (105 : Int32) (122 : Int32) (101 : Int32) (0 : Int32) (0 : Int32) (0 : Int32)) fun v38 m37 =>
                                        dL v38 m37
                                      else
                                        if x0 = 19 then
                                          bL (d_M_spelt ms (111 : Int32) (110 : Int32) (101 : Int32) (115 : Int32) (0 : Int32) (0 : Int32) (0 : Int32)) fun v40 m39 =>
                                          dL v40 m39
                                        else
                                          if x0 = 20 then
                                            bL (d_M_spelt ms (114 : Int32) (117 : Int32) (110 : Int32) (115 : Int32) (0 : Int32) (0 : Int32) (0 : Int32)) fun v42 m41 =>
                                            dL v42 m41
                                          else
                                            if x0 = 21 then
                                              bL (d_M_spelt ms (108 : Int32) (101 : Int32) (97 : Int32) (118 : Int32) (101 : Int32) (115 : Int32) (0 : Int32)) fun v44 m43 =>
                                              dL v44 m43
                                            else
                                              bL (d_M_spelt ms (110 : Int32) (117 : Int32) (109 : Int32) (98 : Int32) (101 : Int32) (114 : Int32) (0 : Int32)) fun v46 m45 =>
                                              dL v46 m45
theorem r_M_wordOf {g : Nat → Nat} {this : Nat} {ms : MS} {h : PH} (hm : MRep g this ms h) (x0 : Int32) : RM g this h (c_M_wordOf h x0) (d_M_wordOf ms x0) := by
  unfold c_M_wordOf d_M_wordOf
  refine n_if ?_ ?_
  · refine n_hL (r_M_spelt hm (108 : Int32) (101 : Int32) (97 : Int32) (102 : Int32) (0 : Int32) (0 : Int32) (0 : Int32)) (fun v2 h1 m1 q1 => ?_)
    exact n_rL q1
  · refine n_if ?_ ?_
    · refine n_hL (r_M_spelt hm (114 : Int32) (111 : Int32) (119 : Int32) (0 : Int32) (0 : Int32) (0 : Int32) (0 : Int32)) (fun v4 h3 m3 q3 => ?_)
      exact n_rL q3
    · refine n_if ?_ ?_
      · refine n_hL (r_M_spelt hm (108 : Int32) (101 : Int32) (116 : Int32) (116 : Int32) (101 : Int32) (114 : Int32) (115 : Int32)) (fun v6 h5 m5 q5 => ?_)
        exact n_rL q5
      · refine n_if ?_ ?_
        · refine n_hL (r_M_spelt hm (112 : Int32) (117 : Int32) (116 : Int32) (0 : Int32) (0 : Int32) (0 : Int32) (0 : Int32)) (fun v8 h7 m7 q7 => ?_)
          exact n_rL q7
        · refine n_if ?_ ?_
          · refine n_hL (r_M_spelt hm (115 : Int32) (101 : Int32) (116 : Int32) (0 : Int32) (0 : Int32) (0 : Int32) (0 : Int32)) (fun v10 h9 m9 q9 => ?_)
            exact n_rL q9
          · refine n_if ?_ ?_
            · refine n_hL (r_M_spelt hm (99 : Int32) (117 : Int32) (116 : Int32) (0 : Int32) (0 : Int32) (0 : Int32) (0 : Int32)) (fun v12 h11 m11 q11 => ?_)
              exact n_rL q11
            · refine n_if ?_ ?_
              · refine n_hL (r_M_spelt hm (116 : Int32) (117 : Int32) (114 : Int32) (110 : Int32) (0 : Int32) (0 : Int32) (0 : Int32)) (fun v14 h13 m13 q13 => ?_)
                exact n_rL q13
              · refine n_if ?_ ?_
                · refine n_hL (r_M_spelt hm (106 : Int32) (111 : Int32) (105 : Int32) (110 : Int32) (0 : Int32) (0 : Int32) (0 : Int32)) (fun v16 h15 m15 q15 => ?_)
                  exact n_rL q15
                · refine n_if ?_ ?_
                  · refine n_hL (r_M_spelt hm (115 : Int32) (112 : Int32) (108 : Int32) (105 : Int32) (116 : Int32) (0 : Int32) (0 : Int32)) (fun v18 h17 m17 q17 => ?_)
                    exact n_rL q17
                  · refine n_if ?_ ?_
                    · refine n_hL (r_M_spelt hm (116 : Int32) (121 : Int32) (112 : Int32) (101 : Int32) (0 : Int32) (0 : Int32) (0 : Int32)) (fun v20 h19 m19 q19 => ?_)
                      exact n_rL q19
                    · refine n_if ?_ ?_
                      · refine n_hL (r_M_spelt hm (101 : Int32) (114 : Int32) (97 : Int32) (115 : Int32) (101 : Int32) (0 : Int32) (0 : Int32)) (fun v22 h21 m21 q21 => ?_)
                        exact n_rL q21
                      · refine n_if ?_ ?_
                        · refine n_hL (r_M_spelt hm (111 : Int32) (114 : Int32) (0 : Int32) (0 : Int32) (0 : Int32) (0 : Int32) (0 : Int32)) (fun v24 h23 m23 q23 => ?_)
                          exact n_rL q23
                        · refine n_if ?_ ?_
                          · refine n_hL (r_M_spelt hm (97 : Int32) (110 : Int32) (100 : Int32) (0 : Int32) (0 : Int32) (0 : Int32) (0 : Int32)) (fun v26 h25 m25 q25 => ?_)
                            exact n_rL q25
                          · refine n_if ?_ ?_
                            · refine n_hL (r_M_spelt hm (110 : Int32) (111 : Int32) (116 : Int32) (0 : Int32) (0 : Int32) (0 : Int32) (0 : Int32)) (fun v28 h27 m27 q27 => ?_)
                              exact n_rL q27
                            · refine n_if ?_ ?_
                              · refine n_hL (r_M_spelt hm (101 : Int32) (109 : Int32) (112 : Int32) (116 : Int32) (121 : Int32) (0 : Int32) (0 : Int32)) (fun v30 h29 m29 q29 => ?_)
                                exact n_rL q29
                              · refine n_if ?_ ?_
                                · refine n_hL (r_M_spelt hm (101 : Int32) (118 : Int32) (101 : Int32) (110 : Int32) (0 : Int32) (0 : Int32) (0 : Int32)) (fun v32 h31 m31 q31 => ?_)
                                  exact n_rL q31
                                · refine n_if ?_ ?_
                                  · refine n_hL (r_M_spelt hm (108 : Int32) (105 : Int32) (107 : Int32) (101 : Int32) (0 : Int32) (0 : Int32) (0 : Int32)) (fun v34 h33 m33 q33 => ?_)
                                    exact n_rL q33
                                  · refine n_if ?_ ?_
                                    · refine n_hL (r_M_spelt hm (98 : Int32) (101 : Int32) (103 : Int32) (105 : Int32) (110 : Int32) (115 : Int32) (0 : Int32)) (fun v36 h35 m35 q35 => ?_)
                                      exact n_rL q35
                                    · refine n_if ?_ ?_
                                      · refine n_hL (r_M_spelt hm (115 : Int32) (105 : Int32) (122 : Int32) (101 : Int32) (0 : Int32) (0 : Int32) (0 : Int32)) (fun v38 h37 m37 q37 => ?_)
                                        exact n_rL q37
                                      · refine n_if ?_ ?_
                                        · refine n_hL (r_M_spelt hm (111 : Int32) (110 : Int32) (101 : Int32) (115 : Int32) (0 : Int32) (0 : Int32) (0 : Int32)) (fun v40 h39 m39 q39 => ?_)
                                          exact n_rL q39
                                        · refine n_if ?_ ?_
                                          · refine n_hL (r_M_spelt hm (114 : Int32) (117 : Int32) (110 : Int32) (115 : Int32) (0 : Int32) (0 : Int32) (0 : Int32)) (fun v42 h41 m41 q41 => ?_)
                                            exact n_rL q41
                                          · refine n_if ?_ ?_
                                            · refine n_hL (r_M_spelt hm (108 : Int32) (101 : Int32) (97 : Int32) (118 : Int32) (101 : Int32) (115 : Int32) (0 : Int32)) (fun v44 h43 m43 q43 => ?_)
                                              exact n_rL q43
                                            · refine n_hL (r_M_spelt hm (110 : Int32) (117 : Int32) (109 : Int32) (98 : Int32) (101 : Int32) (114 : Int32) (0 : Int32)) (fun v46 h45 m45 q45 => ?_)
                                              exact n_rL q45
def d_M_isWord (ms : MS) (x1 : Int32) : Option DR :=
  nm (ms.1 7 0) fun v1 =>
  if v1 = (2 : Int32) then
    nm (ms.2 12 0) fun v2 =>
    bL (d_M_wordOf ms x1) fun v4 m3 =>
    if (lg_cmp v2 v4) = 0 then
      dZ (1 : Int32) m3
    else
      dZ (0 : Int32) m3
  else
    dZ (0 : Int32) ms
theorem r_M_isWord {g : Nat → Nat} {this : Nat} {ms : MS} {h : PH} (hm : MRep g this ms h) (x1 : Int32) : RM g this h (c_M_isWord h this x1) (d_M_isWord ms x1) := by
  unfold c_M_isWord d_M_isWord
  refine n_grd hm ?_
  refine n_gI hm (by decide) (by decide) (by decide) (fun v1 => ?_)
  refine n_if ?_ ?_
  · refine n_gL hm (fun v2 => ?_)
    refine n_hL (r_M_wordOf hm x1) (fun v4 h3 m3 q3 => ?_)
    refine n_if ?_ ?_
    · exact n_rZ q3
    · exact n_rZ q3
  · exact n_rZ hm
def d_M_bad_j14 (ms : MS) (s0 : Int32) : Option DR :=
  nm (mset ms 10 0 s0) fun m1 =>
  nm (m1.1 6 0) fun v2 =>
  nm (mset m1 11 0 v2) fun m3 =>
  dZ (0 : Int32) m3
theorem r_M_bad_j14 {g : Nat → Nat} {this : Nat} {ms : MS} {h : PH} (hm : MRep g this ms h) (s0 : Int32) : RM g this h (c_M_bad_j14 h this s0 this) (d_M_bad_j14 ms s0) := by
  unfold c_M_bad_j14 d_M_bad_j14
  refine n_pI hm (by decide) (by decide) (by decide) (fun h1 m1 q1 => ?_)
  refine n_gI q1 (by decide) (by decide) (by decide) (fun v2 => ?_)
  refine n_pI q1 (by decide) (by decide) (by decide) (fun h3 m3 q3 => ?_)
  exact n_rZ q3
def d_M_bad (ms : MS) (x1 : Int32) : Option DR :=
  nm (ms.1 7 0) fun v1 =>
  if v1 = (1 : Int32) then
    d_M_bad_j14 ms (1 : Int32)
  else
    d_M_bad_j14 ms x1
theorem r_M_bad {g : Nat → Nat} {this : Nat} {ms : MS} {h : PH} (hm : MRep g this ms h) (x1 : Int32) : RM g this h (c_M_bad h this x1) (d_M_bad ms x1) := by
  unfold c_M_bad d_M_bad
  refine n_grd hm ?_
  refine n_gI hm (by decide) (by decide) (by decide) (fun v1 => ?_)
  refine n_if ?_ ?_
  · exact (r_M_bad_j14 hm (1 : Int32))
  · exact (r_M_bad_j14 hm x1)
def d_M_isIn (ms : MS) (x0 : Int32) (x1 : Int32) (x2 : Int32) : Option DR :=
  if x0 < x1 then
    dZ (0 : Int32) ms
  else
    if x2 < x0 then
      dZ (0 : Int32) ms
    else
      dZ (1 : Int32) ms
theorem r_M_isIn {g : Nat → Nat} {this : Nat} {ms : MS} {h : PH} (hm : MRep g this ms h) (x0 : Int32) (x1 : Int32) (x2 : Int32) : RM g this h (c_M_isIn h x0 x1 x2) (d_M_isIn ms x0 x1 x2) := by
  unfold c_M_isIn d_M_isIn
  refine n_if ?_ ?_
  · exact n_rZ hm
  · refine n_if ?_ ?_
    · exact n_rZ hm
    · exact n_rZ hm
def d_M_readNumber (ms : MS) (x1 : Int32) (x2 : Int32) : Option DR :=
  nm (ms.1 7 0) fun v1 =>
  if v1 = (3 : Int32) then
    nm (ms.1 8 0) fun v2 =>
    bI (d_M_isIn ms v2 x1 x2) fun v4 m3 =>
    if v4 = 0 then
      bI (d_M_bad m3 (2 : Int32)) fun v9 m8 =>
      dZ v9 m8
    else
      nm (m3.1 8 0) fun v5 =>
      nm (mset m3 13 0 v5) fun m6 =>
      bV (d_M_go m6) fun m7 =>
      dZ (1 : Int32) m7
  else
    bI (d_M_bad ms (1 : Int32)) fun v11 m10 =>
    dZ v11 m10
theorem r_M_readNumber {g : Nat → Nat} {this : Nat} {ms : MS} {h : PH} (hm : MRep g this ms h) (x1 : Int32) (x2 : Int32) : RM g this h (c_M_readNumber h this x1 x2) (d_M_readNumber ms x1 x2) := by
  unfold c_M_readNumber d_M_readNumber
  refine n_grd hm ?_
  refine n_gI hm (by decide) (by decide) (by decide) (fun v1 => ?_)
  refine n_if ?_ ?_
  · refine n_gI hm (by decide) (by decide) (by decide) (fun v2 => ?_)
    refine n_hI (r_M_isIn hm v2 x1 x2) (fun v4 h3 m3 q3 => ?_)
    refine n_if ?_ ?_
    · refine n_hI (r_M_bad q3 (2 : Int32)) (fun v9 h8 m8 q8 => ?_)
      exact n_rZ q8
    · refine n_gI q3 (by decide) (by decide) (by decide) (fun v5 => ?_)
      refine n_pI q3 (by decide) (by decide) (by decide) (fun h6 m6 q6 => ?_)
      refine n_hV (r_M_go q6) (fun h7 m7 q7 => ?_)
      exact n_rZ q7
  · refine n_hI (r_M_bad hm (1 : Int32)) (fun v11 h10 m10 q10 => ?_)
    exact n_rZ q10
def d_M_readLeaf (ms : MS) (x1 : Int32) : Option DR :=
  if x1 ≤ 0 then
    bV (d_M_go ms) fun m1 =>
    bI (d_M_readNumber m1 (4 : Int32) (32 : Int32)) fun v3 m2 =>
    if v3 = 0 then
      dZ (0 : Int32) m2
    else
      nm (m2.1 13 0) fun v5 =>
      sA m2 15 (1 : Int32) v5 fun m8 =>
      dZ (1 : Int32) m8
  else
    bI (d_M_bad ms (3 : Int32)) fun v10 m9 =>
    dZ v10 m9
theorem r_M_readLeaf {g : Nat → Nat} {this : Nat} {ms : MS} {h : PH} (hm : MRep g this ms h) (x1 : Int32) : RM g this h (c_M_readLeaf h this x1) (d_M_readLeaf ms x1) := by
  unfold c_M_readLeaf d_M_readLeaf
  refine n_grd hm ?_
  refine n_if ?_ ?_
  · refine n_hV (r_M_go hm) (fun h1 m1 q1 => ?_)
    refine n_hI (r_M_readNumber q1 (4 : Int32) (32 : Int32)) (fun v3 h2 m2 q2 => ?_)
    refine n_if ?_ ?_
    · exact n_rZ q2
    · refine n_gQ (k := 15) q2 (by decide) (by decide) ?_
      refine n_gI q2 (by decide) (by decide) (by decide) (fun v5 => ?_)
      refine n_nn ?_
      refine n_stI (k := 15) q2 (by decide) (fun h8 m8 q8 => ?_)
      exact n_rZ q8
  · refine n_hI (r_M_bad hm (3 : Int32)) (fun v10 h9 m9 q9 => ?_)
    exact n_rZ q9
def d_M_isName_l12 (r12' : MS → Int32 → Option DR) (ms : MS) (x1 : Int32) : Option DR :=
  if (22 : Int32) < x1 then
    dZ (1 : Int32) ms
  else
    nm (ms.2 12 0) fun v1 =>
    bL (d_M_wordOf ms x1) fun v3 m2 =>
    if (lg_cmp v1 v3) = 0 then
      dZ (0 : Int32) m2
    else
      r12' m2 (x1 + (1 : Int32))
theorem r_M_isName_l12 {g : Nat → Nat} {this : Nat} {r12 : PH → Nat → Int32 → Option RH} {r12' : MS → Int32 → Option DR} (hr12 : ∀ {ms : MS} {h : PH} (_ : MRep g this ms h) (x1 : Int32), RM g this h (r12 h this x1) (r12' ms x1)) {ms : MS} {h : PH} (hm : MRep g this ms h) (x1 : Int32) : RM g this h (c_M_isName_l12 r12 h this x1) (d_M_isName_l12 r12' ms x1) := by
  unfold c_M_isName_l12 d_M_isName_l12
  refine n_if ?_ ?_
  · exact n_rZ hm
  · refine n_gL hm (fun v1 => ?_)
    refine n_hL (r_M_wordOf hm x1) (fun v3 h2 m2 q2 => ?_)
    refine n_if ?_ ?_
    · exact n_rZ q2
    · exact hr12 q2 (x1 + (1 : Int32))
theorem u_M_isName_l12 {g : Nat → Nat} {this : Nat} : ∀ (n : Nat) {ms : MS} {h : PH} (_ : MRep g this ms h) (x1 : Int32), RM g this h (itr (c_M_isName_l12) (fun _ _ _ => none) n h this x1) (itr (d_M_isName_l12) (fun _ _ => none) n ms x1)
  | 0 => fun _ _ => n_none
  | n + 1 => fun hm x1 => r_M_isName_l12 (u_M_isName_l12 n) hm x1
def d_M_isName (ms : MS) : Option DR :=
  nm (ms.1 7 0) fun v1 =>
  if v1 = (2 : Int32) then
    itr (d_M_isName_l12) (fun _ _ => none) FU ms (0 : Int32)
  else
    dZ (0 : Int32) ms
theorem r_M_isName {g : Nat → Nat} {this : Nat} {ms : MS} {h : PH} (hm : MRep g this ms h) : RM g this h (c_M_isName h this) (d_M_isName ms) := by
  unfold c_M_isName d_M_isName
  refine n_grd hm ?_
  refine n_gI hm (by decide) (by decide) (by decide) (fun v1 => ?_)
  refine n_if ?_ ?_
  · exact u_M_isName_l12 FU hm (0 : Int32)
  · exact n_rZ hm
def d_M_findIn_l3 (r3' : MS → Nat → Int32 → Int64 → Int32 → Option DR) (ms : MS) (x0 : Nat) (x1 : Int32) (x2 : Int64) (x4 : Int32) : Option DR :=
  if x1 ≤ x4 then
    dI (-1 : Int32) ms
  else
    eL ms x0 x4 fun v1 =>
    if (lg_cmp v1 x2) = 0 then
      dI x4 ms
    else
      r3' ms x0 x1 x2 (x4 + (1 : Int32))
theorem r_M_findIn_l3 {g : Nat → Nat} {this : Nat} {r3 : PH → Nat → Int32 → Int64 → Int32 → Option RH} {r3' : MS → Nat → Int32 → Int64 → Int32 → Option DR} (hr3 : ∀ {ms : MS} {h : PH} (_ : MRep g this ms h) (x0 : Nat) (x1 : Int32) (x2 : Int64) (x4 : Int32) (_ : (x0, mLn x0) ∈ lArr), RM g this h (r3 h (g x0) x1 x2 x4) (r3' ms x0 x1 x2 x4)) {ms : MS} {h : PH} (hm : MRep g this ms h) (x0 : Nat) (x1 : Int32) (x2 : Int64) (x4 : Int32) (hx0 : (x0, mLn x0) ∈ lArr) : RM g this h (c_M_findIn_l3 r3 h (g x0) x1 x2 x4) (d_M_findIn_l3 r3' ms x0 x1 x2 x4) := by
  unfold c_M_findIn_l3 d_M_findIn_l3
  refine n_if ?_ ?_
  · exact n_rI hm
  · refine n_ldL (k := x0) hm hx0 (fun v1 => ?_)
    refine n_if ?_ ?_
    · exact n_rI hm
    · exact hr3 hm x0 x1 x2 (x4 + (1 : Int32)) hx0
theorem u_M_findIn_l3 {g : Nat → Nat} {this : Nat} : ∀ (n : Nat) {ms : MS} {h : PH} (_ : MRep g this ms h) (x0 : Nat) (x1 : Int32) (x2 : Int64) (x4 : Int32) (_ : (x0, mLn x0) ∈ lArr), RM g this h (itr (c_M_findIn_l3) (fun _ _ _ _ _ => none) n h (g x0) x1 x2 x4) (itr (d_M_findIn_l3) (fun _ _ _ _ _ => none) n ms x0 x1 x2 x4)
  | 0 => fun _ _ _ _ _ _ => n_none
  | n + 1 => fun hm x0 x1 x2 x4 k0 => r_M_findIn_l3 (u_M_findIn_l3 n) hm x0 x1 x2 x4 k0
def d_M_findIn (ms : MS) (x0 : Nat) (x1 : Int32) (x2 : Int64) : Option DR :=
  itr (d_M_findIn_l3) (fun _ _ _ _ _ => none) FU ms x0 x1 x2 (0 : Int32)
theorem r_M_findIn {g : Nat → Nat} {this : Nat} {ms : MS} {h : PH} (hm : MRep g this ms h) (x0 : Nat) (x1 : Int32) (x2 : Int64) (hx0 : (x0, mLn x0) ∈ lArr) : RM g this h (c_M_findIn h (g x0) x1 x2) (d_M_findIn ms x0 x1 x2) := by
  unfold c_M_findIn d_M_findIn
  exact u_M_findIn_l3 FU hm x0 x1 x2 (0 : Int32) hx0
def d_M_areBits_l5 (r5' : MS → Int32 → Option DR) (ms : MS) (x1 : Int32) : Option DR :=
  nm (ms.1 5 0) fun v1 =>
  if v1 ≤ x1 then
    dZ (1 : Int32) ms
  else
    eA ms 1 x1 fun v5 =>
    if v5 = (105 : Int32) then
      r5' ms (x1 + (1 : Int32))
    else
      eA ms 1 x1 fun v9 =>
      if v9 = (111 : Int32) then
        r5' ms (x1 + (1 : Int32))
      else
        dZ (0 : Int32) ms
theorem r_M_areBits_l5 {g : Nat → Nat} {this : Nat} {r5 : PH → Nat → Int32 → Option RH} {r5' : MS → Int32 → Option DR} (hr5 : ∀ {ms : MS} {h : PH} (_ : MRep g this ms h) (x1 : Int32), RM g this h (r5 h this x1) (r5' ms x1)) {ms : MS} {h : PH} (hm : MRep g this ms h) (x1 : Int32) : RM g this h (c_M_areBits_l5 r5 h this x1) (d_M_areBits_l5 r5' ms x1) := by
  unfold c_M_areBits_l5 d_M_areBits_l5
  refine n_gI hm (by decide) (by decide) (by decide) (fun v1 => ?_)
  refine n_if ?_ ?_
  · exact n_rZ hm
  · refine n_gQ (k := 1) hm (by decide) (by decide) ?_
    refine n_nn ?_
    refine n_ldI (k := 1) hm (by decide) (fun v5 => ?_)
    refine n_if ?_ ?_
    · exact hr5 hm (x1 + (1 : Int32))
    · refine n_gQ (k := 1) hm (by decide) (by decide) ?_
      refine n_nn ?_
      refine n_ldI (k := 1) hm (by decide) (fun v9 => ?_)
      refine n_if ?_ ?_
      · exact hr5 hm (x1 + (1 : Int32))
      · exact n_rZ hm
theorem u_M_areBits_l5 {g : Nat → Nat} {this : Nat} : ∀ (n : Nat) {ms : MS} {h : PH} (_ : MRep g this ms h) (x1 : Int32), RM g this h (itr (c_M_areBits_l5) (fun _ _ _ => none) n h this x1) (itr (d_M_areBits_l5) (fun _ _ => none) n ms x1)
  | 0 => fun _ _ => n_none
  | n + 1 => fun hm x1 => r_M_areBits_l5 (u_M_areBits_l5 n) hm x1
def d_M_areBits (ms : MS) : Option DR :=
  nm (ms.1 6 0) fun v1 =>
  itr (d_M_areBits_l5) (fun _ _ => none) FU ms v1
theorem r_M_areBits {g : Nat → Nat} {this : Nat} {ms : MS} {h : PH} (hm : MRep g this ms h) : RM g this h (c_M_areBits h this) (d_M_areBits ms) := by
  unfold c_M_areBits d_M_areBits
  refine n_grd hm ?_
  refine n_gI hm (by decide) (by decide) (by decide) (fun v1 => ?_)
  exact u_M_areBits_l5 FU hm v1
def d_M_readRow_j188 (r86' : MS → Int32 → Option DR) (r142' : MS → Int32 → Int32 → Option DR) (ms : MS) (x1 : Int32) (x2 : Int32) (s0 : Int32) (s1 : Int32) : Option DR :=
  sA ms 15 s1 s0 fun m3 =>
  eA m3 15 ((2 : Int32) + x1) fun v7 =>
  sA m3 15 ((2 : Int32) + x1) (v7 + (1 : Int32)) fun m8 =>
  r142' m8 x1 (x2 + (1 : Int32))
theorem r_M_readRow_j188 {g : Nat → Nat} {this : Nat} {r86 : PH → Nat → Int32 → Option RH} {r86' : MS → Int32 → Option DR} {r142 : PH → Nat → Int32 → Int32 → Option RH} {r142' : MS → Int32 → Int32 → Option DR} (hr86 : ∀ {ms : MS} {h : PH} (_ : MRep g this ms h) (x1 : Int32), RM g this h (r86 h this x1) (r86' ms x1)) (hr142 : ∀ {ms : MS} {h : PH} (_ : MRep g this ms h) (x1 : Int32) (x2 : Int32), RM g this h (r142 h this x1 x2) (r142' ms x1 x2)) {ms : MS} {h : PH} (hm : MRep g this ms h) (x1 : Int32) (x2 : Int32) (s0 : Int32) (s1 : Int32) : RM g this h (c_M_readRow_j188 r86 r142 h this x1 x2 s0 s1 (some (g 15))) (d_M_readRow_j188 r86' r142' ms x1 x2 s0 s1) := by
  unfold c_M_readRow_j188 d_M_readRow_j188
  refine n_nn ?_
  refine n_stI (k := 15) hm (by decide) (fun h3 m3 q3 => ?_)
  refine n_gQ (k := 15) q3 (by decide) (by decide) ?_
  refine n_nn ?_
  refine n_ldI (k := 15) q3 (by decide) (fun v7 => ?_)
  refine n_stI (k := 15) q3 (by decide) (fun h8 m8 q8 => ?_)
  exact hr142 q8 x1 (x2 + (1 : Int32))
def d_M_readRow_l142 (r86' : MS → Int32 → Option DR) (r142' : MS → Int32 → Int32 → Option DR) (ms : MS) (x1 : Int32) (x2 : Int32) : Option DR :=
  nm (ms.1 5 0) fun v1 =>
  if v1 ≤ x2 then
    bV (d_M_go ms) fun m2 =>
    r86' m2 x1
  else
    eA ms 15 ((2 : Int32) + x1) fun v7 =>
    eA ms 1 x2 fun v11 =>
    if v11 = (105 : Int32) then
      d_M_readRow_j188 r86' r142' ms x1 x2 (1 : Int32) (((207 : Int32) + ((600 : Int32) * x1)) + v7)
    else
      d_M_readRow_j188 r86' r142' ms x1 x2 (0 : Int32) (((207 : Int32) + ((600 : Int32) * x1)) + v7)
theorem r_M_readRow_l142 {g : Nat → Nat} {this : Nat} {r86 : PH → Nat → Int32 → Option RH} {r86' : MS → Int32 → Option DR} {r142 : PH → Nat → Int32 → Int32 → Option RH} {r142' : MS → Int32 → Int32 → Option DR} (hr86 : ∀ {ms : MS} {h : PH} (_ : MRep g this ms h) (x1 : Int32), RM g this h (r86 h this x1) (r86' ms x1)) (hr142 : ∀ {ms : MS} {h : PH} (_ : MRep g this ms h) (x1 : Int32) (x2 : Int32), RM g this h (r142 h this x1 x2) (r142' ms x1 x2)) {ms : MS} {h : PH} (hm : MRep g this ms h) (x1 : Int32) (x2 : Int32) : RM g this h (c_M_readRow_l142 r86 r142 h this x1 x2) (d_M_readRow_l142 r86' r142' ms x1 x2) := by
  unfold c_M_readRow_l142 d_M_readRow_l142
  refine n_gI hm (by decide) (by decide) (by decide) (fun v1 => ?_)
  refine n_if ?_ ?_
  · refine n_hV (r_M_go hm) (fun h2 m2 q2 => ?_)
    exact hr86 q2 x1
  · refine n_gQ (k := 15) hm (by decide) (by decide) ?_
    refine n_gQ (k := 15) hm (by decide) (by decide) ?_
    refine n_nn ?_
    refine n_ldI (k := 15) hm (by decide) (fun v7 => ?_)
    refine n_gQ (k := 1) hm (by decide) (by decide) ?_
    refine n_nn ?_
    refine n_ldI (k := 1) hm (by decide) (fun v11 => ?_)
    refine n_if ?_ ?_
    · exact (r_M_readRow_j188 hr86 hr142 hm x1 x2 (1 : Int32) (((207 : Int32) + ((600 : Int32) * x1)) + v7))
    · exact (r_M_readRow_j188 hr86 hr142 hm x1 x2 (0 : Int32) (((207 : Int32) + ((600 : Int32) * x1)) + v7))
theorem u_M_readRow_l142 {g : Nat → Nat} {this : Nat} {r86 : PH → Nat → Int32 → Option RH} {r86' : MS → Int32 → Option DR} (hr86 : ∀ {ms : MS} {h : PH} (_ : MRep g this ms h) (x1 : Int32), RM g this h (r86 h this x1) (r86' ms x1)) : ∀ (n : Nat) {ms : MS} {h : PH} (_ : MRep g this ms h) (x1 : Int32) (x2 : Int32), RM g this h (itr (c_M_readRow_l142 r86) (fun _ _ _ _ => none) n h this x1 x2) (itr (d_M_readRow_l142 r86') (fun _ _ _ => none) n ms x1 x2)
  | 0 => fun _ _ _ => n_none
  | n + 1 => fun hm x1 x2 => r_M_readRow_l142 hr86 (u_M_readRow_l142 hr86 n) hm x1 x2
def d_M_readRow_l86 (r86' : MS → Int32 → Option DR) (ms : MS) (x1 : Int32) : Option DR :=
  nm (ms.1 7 0) fun v1 =>
  if v1 = (2 : Int32) then
    bI (d_M_areBits ms) fun v3 m2 =>
    if v3 = 0 then
      bI (d_M_bad m2 (2 : Int32)) fun v14 m13 =>
      dZ v14 m13
    else
      eA m2 15 ((2 : Int32) + x1) fun v7 =>
      nm (m2.1 5 0) fun v8 =>
      nm (m2.1 6 0) fun v9 =>
      if ((v7 + v8) - v9) ≤ (600 : Int32) then
        nm (m2.1 6 0) fun v10 =>
        itr (d_M_readRow_l142 r86') (fun _ _ _ => none) FU m2 x1 v10
      else
        bI (d_M_bad m2 (4 : Int32)) fun v12 m11 =>
        dZ v12 m11
  else
    dZ (1 : Int32) ms
theorem r_M_readRow_l86 {g : Nat → Nat} {this : Nat} {r86 : PH → Nat → Int32 → Option RH} {r86' : MS → Int32 → Option DR} (hr86 : ∀ {ms : MS} {h : PH} (_ : MRep g this ms h) (x1 : Int32), RM g this h (r86 h this x1) (r86' ms x1)) {ms : MS} {h : PH} (hm : MRep g this ms h) (x1 : Int32) : RM g this h (c_M_readRow_l86 r86 h this x1) (d_M_readRow_l86 r86' ms x1) := by
  unfold c_M_readRow_l86 d_M_readRow_l86
  refine n_gI hm (by decide) (by decide) (by decide) (fun v1 => ?_)
  refine n_if ?_ ?_
  · refine n_hI (r_M_areBits hm) (fun v3 h2 m2 q2 => ?_)
    refine n_if ?_ ?_
    · refine n_hI (r_M_bad q2 (2 : Int32)) (fun v14 h13 m13 q13 => ?_)
      exact n_rZ q13
    · refine n_gQ (k := 15) q2 (by decide) (by decide) ?_
      refine n_nn ?_
      refine n_ldI (k := 15) q2 (by decide) (fun v7 => ?_)
      refine n_gI q2 (by decide) (by decide) (by decide) (fun v8 => ?_)
      refine n_gI q2 (by decide) (by decide) (by decide) (fun v9 => ?_)
      refine n_if ?_ ?_
      · refine n_gI q2 (by decide) (by decide) (by decide) (fun v10 => ?_)
        exact u_M_readRow_l142 hr86 FU q2 x1 v10
      · refine n_hI (r_M_bad q2 (4 : Int32)) (fun v12 h11 m11 q11 => ?_)
        exact n_rZ q11
  · exact n_rZ hm
theorem u_M_readRow_l86 {g : Nat → Nat} {this : Nat} : ∀ (n : Nat) {ms : MS} {h : PH} (_ : MRep g this ms h) (x1 : Int32), RM g this h (itr (c_M_readRow_l86) (fun _ _ _ => none) n h this x1) (itr (d_M_readRow_l86) (fun _ _ => none) n ms x1)
  | 0 => fun _ _ => n_none
  | n + 1 => fun hm x1 => r_M_readRow_l86 (u_M_readRow_l86 n) hm x1
def d_M_readRow (ms : MS) : Option DR :=
  eA ms 15 (0 : Int32) fun v4 =>
  if v4 = (4 : Int32) then
    bI (d_M_bad ms (4 : Int32)) fun v34 m33 =>
    dZ v34 m33
  else
    eA ms 15 (0 : Int32) fun v8 =>
    bV (d_M_go ms) fun m9 =>
    bI (d_M_isName m9) fun v11 m10 =>
    if v11 = 0 then
      bI (d_M_bad m10 (1 : Int32)) fun v32 m31 =>
      dZ v32 m31
    else
      nm (m10.2 12 0) fun v13 =>
      bI (d_M_findIn m10 21 v8 v13) fun v17 m16 =>
      if v17 = (-1 : Int32) then
        nm (m16.2 12 0) fun v19 =>
        sL m16 21 v8 v19 fun m22 =>
        eA m22 15 (0 : Int32) fun v26 =>
        sA m22 15 (0 : Int32) (v26 + (1 : Int32)) fun m27 =>
        bV (d_M_go m27) fun m28 =>
        itr (d_M_readRow_l86) (fun _ _ => none) FU m28 v8
      else
        bI (d_M_bad m16 (3 : Int32)) fun v30 m29 =>
        dZ v30 m29
theorem r_M_readRow {g : Nat → Nat} {this : Nat} {ms : MS} {h : PH} (hm : MRep g this ms h) : RM g this h (c_M_readRow h this) (d_M_readRow ms) := by
  unfold c_M_readRow d_M_readRow
  refine n_grd hm ?_
  refine n_gQ (k := 15) hm (by decide) (by decide) ?_
  refine n_nn ?_
  refine n_ldI (k := 15) hm (by decide) (fun v4 => ?_)
  refine n_if ?_ ?_
  · refine n_hI (r_M_bad hm (4 : Int32)) (fun v34 h33 m33 q33 => ?_)
    exact n_rZ q33
  · refine n_gQ (k := 15) hm (by decide) (by decide) ?_
    refine n_nn ?_
    refine n_ldI (k := 15) hm (by decide) (fun v8 => ?_)
    refine n_hV (r_M_go hm) (fun h9 m9 q9 => ?_)
    refine n_hI (r_M_isName q9) (fun v11 h10 m10 q10 => ?_)
    refine n_if ?_ ?_
    · refine n_hI (r_M_bad q10 (1 : Int32)) (fun v32 h31 m31 q31 => ?_)
      exact n_rZ q31
    · refine n_gQ (k := 21) q10 (by decide) (by decide) ?_
      refine n_gL q10 (fun v13 => ?_)
      refine n_nn ?_
      refine n_hI (r_M_findIn q10 21 v8 v13 (by decide)) (fun v17 h16 m16 q16 => ?_)
      refine n_if ?_ ?_
      · refine n_gQ (k := 21) q16 (by decide) (by decide) ?_
        refine n_gL q16 (fun v19 => ?_)
        refine n_nn ?_
        refine n_stL (k := 21) q16 (by decide) (fun h22 m22 q22 => ?_)
        refine n_gQ (k := 15) q22 (by decide) (by decide) ?_
        refine n_nn ?_
        refine n_ldI (k := 15) q22 (by decide) (fun v26 => ?_)
        refine n_stI (k := 15) q22 (by decide) (fun h27 m27 q27 => ?_)
        refine n_hV (r_M_go q27) (fun h28 m28 q28 => ?_)
        exact u_M_readRow_l86 FU q28 v8
      · refine n_hI (r_M_bad q16 (3 : Int32)) (fun v30 h29 m29 q29 => ?_)
        exact n_rZ q29
def d_M_areOf_l5 (r5' : MS → Int32 → Int32 → Option DR) (ms : MS) (x1 : Int32) (x2 : Int32) : Option DR :=
  nm (ms.1 5 0) fun v1 =>
  if v1 ≤ x2 then
    dZ (1 : Int32) ms
  else
    eA ms 1 x2 fun v5 =>
    if v5 ≤ x1 then
      r5' ms x1 (x2 + (1 : Int32))
    else
      dZ (0 : Int32) ms
theorem r_M_areOf_l5 {g : Nat → Nat} {this : Nat} {r5 : PH → Nat → Int32 → Int32 → Option RH} {r5' : MS → Int32 → Int32 → Option DR} (hr5 : ∀ {ms : MS} {h : PH} (_ : MRep g this ms h) (x1 : Int32) (x2 : Int32), RM g this h (r5 h this x1 x2) (r5' ms x1 x2)) {ms : MS} {h : PH} (hm : MRep g this ms h) (x1 : Int32) (x2 : Int32) : RM g this h (c_M_areOf_l5 r5 h this x1 x2) (d_M_areOf_l5 r5' ms x1 x2) := by
  unfold c_M_areOf_l5 d_M_areOf_l5
  refine n_gI hm (by decide) (by decide) (by decide) (fun v1 => ?_)
  refine n_if ?_ ?_
  · exact n_rZ hm
  · refine n_gQ (k := 1) hm (by decide) (by decide) ?_
    refine n_nn ?_
    refine n_ldI (k := 1) hm (by decide) (fun v5 => ?_)
    refine n_if ?_ ?_
    · exact hr5 hm x1 (x2 + (1 : Int32))
    · exact n_rZ hm
theorem u_M_areOf_l5 {g : Nat → Nat} {this : Nat} : ∀ (n : Nat) {ms : MS} {h : PH} (_ : MRep g this ms h) (x1 : Int32) (x2 : Int32), RM g this h (itr (c_M_areOf_l5) (fun _ _ _ _ => none) n h this x1 x2) (itr (d_M_areOf_l5) (fun _ _ _ => none) n ms x1 x2)
  | 0 => fun _ _ _ => n_none
  | n + 1 => fun hm x1 x2 => r_M_areOf_l5 (u_M_areOf_l5 n) hm x1 x2
def d_M_areOf (ms : MS) (x1 : Int32) : Option DR :=
  nm (ms.1 6 0) fun v1 =>
  itr (d_M_areOf_l5) (fun _ _ _ => none) FU ms x1 v1
theorem r_M_areOf {g : Nat → Nat} {this : Nat} {ms : MS} {h : PH} (hm : MRep g this ms h) (x1 : Int32) : RM g this h (c_M_areOf h this x1) (d_M_areOf ms x1) := by
  unfold c_M_areOf d_M_areOf
  refine n_grd hm ?_
  refine n_gI hm (by decide) (by decide) (by decide) (fun v1 => ?_)
  exact u_M_areOf_l5 FU hm x1 v1
def d_M_readLetters_l79 (r22' : MS → Option DR) (r79' : MS → Int32 → Option DR) (ms : MS) (x1 : Int32) : Option DR :=
  nm (ms.1 5 0) fun v1 =>
  if v1 ≤ x1 then
    bV (d_M_go ms) fun m2 =>
    r22' m2
  else
    eA ms 15 (6 : Int32) fun v7 =>
    eA ms 1 x1 fun v11 =>
    sA ms 15 ((7 : Int32) + v7) (v11 - (97 : Int32)) fun m14 =>
    eA m14 15 (6 : Int32) fun v18 =>
    sA m14 15 (6 : Int32) (v18 + (1 : Int32)) fun m19 =>
    r79' m19 (x1 + (1 : Int32))
theorem r_M_readLetters_l79 {g : Nat → Nat} {this : Nat} {r22 : PH → Nat → Option RH} {r22' : MS → Option DR} {r79 : PH → Nat → Int32 → Option RH} {r79' : MS → Int32 → Option DR} (hr22 : ∀ {ms : MS} {h : PH} (_ : MRep g this ms h), RM g this h (r22 h this) (r22' ms)) (hr79 : ∀ {ms : MS} {h : PH} (_ : MRep g this ms h) (x1 : Int32), RM g this h (r79 h this x1) (r79' ms x1)) {ms : MS} {h : PH} (hm : MRep g this ms h) (x1 : Int32) : RM g this h (c_M_readLetters_l79 r22 r79 h this x1) (d_M_readLetters_l79 r22' r79' ms x1) := by
  unfold c_M_readLetters_l79 d_M_readLetters_l79
  refine n_gI hm (by decide) (by decide) (by decide) (fun v1 => ?_)
  refine n_if ?_ ?_
  · refine n_hV (r_M_go hm) (fun h2 m2 q2 => ?_)
    exact hr22 q2
  · refine n_gQ (k := 15) hm (by decide) (by decide) ?_
    refine n_gQ (k := 15) hm (by decide) (by decide) ?_
    refine n_nn ?_
    refine n_ldI (k := 15) hm (by decide) (fun v7 => ?_)
    refine n_gQ (k := 1) hm (by decide) (by decide) ?_
    refine n_nn ?_
    refine n_ldI (k := 1) hm (by decide) (fun v11 => ?_)
    refine n_nn ?_
    refine n_stI (k := 15) hm (by decide) (fun h14 m14 q14 => ?_)
    refine n_gQ (k := 15) q14 (by decide) (by decide) ?_
    refine n_nn ?_
    refine n_ldI (k := 15) q14 (by decide) (fun v18 => ?_)
    refine n_stI (k := 15) q14 (by decide) (fun h19 m19 q19 => ?_)
    exact hr79 q19 (x1 + (1 : Int32))
theorem u_M_readLetters_l79 {g : Nat → Nat} {this : Nat} {r22 : PH → Nat → Option RH} {r22' : MS → Option DR} (hr22 : ∀ {ms : MS} {h : PH} (_ : MRep g this ms h), RM g this h (r22 h this) (r22' ms)) : ∀ (n : Nat) {ms : MS} {h : PH} (_ : MRep g this ms h) (x1 : Int32), RM g this h (itr (c_M_readLetters_l79 r22) (fun _ _ _ => none) n h this x1) (itr (d_M_readLetters_l79 r22') (fun _ _ => none) n ms x1)
  | 0 => fun _ _ => n_none
  | n + 1 => fun hm x1 => r_M_readLetters_l79 hr22 (u_M_readLetters_l79 hr22 n) hm x1
def d_M_readLetters_l22 (r22' : MS → Option DR) (ms : MS) : Option DR :=
  nm (ms.1 7 0) fun v1 =>
  if v1 = (2 : Int32) then
    bI (d_M_areOf ms (104 : Int32)) fun v3 m2 =>
    if v3 = 0 then
      bI (d_M_bad m2 (2 : Int32)) fun v14 m13 =>
      dZ v14 m13
    else
      eA m2 15 (6 : Int32) fun v7 =>
      nm (m2.1 5 0) fun v8 =>
      nm (m2.1 6 0) fun v9 =>
      if ((v7 + v8) - v9) ≤ (200 : Int32) then
        nm (m2.1 6 0) fun v10 =>
        itr (d_M_readLetters_l79 r22') (fun _ _ => none) FU m2 v10
      else
        bI (d_M_bad m2 (4 : Int32)) fun v12 m11 =>
        dZ v12 m11
  else
    dZ (1 : Int32) ms
theorem r_M_readLetters_l22 {g : Nat → Nat} {this : Nat} {r22 : PH → Nat → Option RH} {r22' : MS → Option DR} (hr22 : ∀ {ms : MS} {h : PH} (_ : MRep g this ms h), RM g this h (r22 h this) (r22' ms)) {ms : MS} {h : PH} (hm : MRep g this ms h) : RM g this h (c_M_readLetters_l22 r22 h this) (d_M_readLetters_l22 r22' ms) := by
  unfold c_M_readLetters_l22 d_M_readLetters_l22
  refine n_gI hm (by decide) (by decide) (by decide) (fun v1 => ?_)
  refine n_if ?_ ?_
  · refine n_hI (r_M_areOf hm (104 : Int32)) (fun v3 h2 m2 q2 => ?_)
    refine n_if ?_ ?_
    · refine n_hI (r_M_bad q2 (2 : Int32)) (fun v14 h13 m13 q13 => ?_)
      exact n_rZ q13
    · refine n_gQ (k := 15) q2 (by decide) (by decide) ?_
      refine n_nn ?_
      refine n_ldI (k := 15) q2 (by decide) (fun v7 => ?_)
      refine n_gI q2 (by decide) (by decide) (by decide) (fun v8 => ?_)
      refine n_gI q2 (by decide) (by decide) (by decide) (fun v9 => ?_)
      refine n_if ?_ ?_
      · refine n_gI q2 (by decide) (by decide) (by decide) (fun v10 => ?_)
        exact u_M_readLetters_l79 hr22 FU q2 v10
      · refine n_hI (r_M_bad q2 (4 : Int32)) (fun v12 h11 m11 q11 => ?_)
        exact n_rZ q11
  · exact n_rZ hm
theorem u_M_readLetters_l22 {g : Nat → Nat} {this : Nat} : ∀ (n : Nat) {ms : MS} {h : PH} (_ : MRep g this ms h), RM g this h (itr (c_M_readLetters_l22) (fun _ _ => none) n h this) (itr (d_M_readLetters_l22) (fun _ => none) n ms)
  | 0 => fun _ => n_none
  | n + 1 => fun hm => r_M_readLetters_l22 (u_M_readLetters_l22 n) hm
def d_M_readLetters (ms : MS) : Option DR :=
  nm (ms.1 25 0) fun v1 =>
  if v1 = 0 then
    zP ms 25 (1 : Int32) fun m2 =>
    bV (d_M_go m2) fun m3 =>
    itr (d_M_readLetters_l22) (fun _ => none) FU m3
  else
    bI (d_M_bad ms (3 : Int32)) fun v5 m4 =>
    dZ v5 m4
theorem r_M_readLetters {g : Nat → Nat} {this : Nat} {ms : MS} {h : PH} (hm : MRep g this ms h) : RM g this h (c_M_readLetters h this) (d_M_readLetters ms) := by
  unfold c_M_readLetters d_M_readLetters
  refine n_grd hm ?_
  refine n_gI hm (by decide) (by decide) (by decide) (fun v1 => ?_)
  refine n_if ?_ ?_
  · refine n_pZ hm (by decide) (by decide) (by decide) (fun h2 m2 q2 => ?_)
    refine n_hV (r_M_go q2) (fun h3 m3 q3 => ?_)
    exact u_M_readLetters_l22 FU q3
  · refine n_hI (r_M_bad hm (3 : Int32)) (fun v5 h4 m4 q4 => ?_)
    exact n_rZ q4
def d_M_readLine (ms : MS) (x1 : Int32) : Option DR :=
  bI (d_M_isWord ms (0 : Int32)) fun v2 m1 =>
  if v2 = 0 then
    bI (d_M_isWord m1 (1 : Int32)) fun v4 m3 =>
    if v4 = 0 then
      bI (d_M_isWord m3 (2 : Int32)) fun v6 m5 =>
      if v6 = 0 then
        bI (d_M_bad m5 (1 : Int32)) fun v8 m7 =>
        dZ v8 m7
      else
        bI (d_M_readLetters m5) fun v10 m9 =>
        dZ v10 m9
    else
      bI (d_M_readRow m3) fun v12 m11 =>
      dZ v12 m11
  else
    bI (d_M_readLeaf m1 x1) fun v14 m13 =>
    dZ v14 m13
theorem r_M_readLine {g : Nat → Nat} {this : Nat} {ms : MS} {h : PH} (hm : MRep g this ms h) (x1 : Int32) : RM g this h (c_M_readLine h this x1) (d_M_readLine ms x1) := by
  unfold c_M_readLine d_M_readLine
  refine n_grd hm ?_
  refine n_hI (r_M_isWord hm (0 : Int32)) (fun v2 h1 m1 q1 => ?_)
  refine n_if ?_ ?_
  · refine n_hI (r_M_isWord q1 (1 : Int32)) (fun v4 h3 m3 q3 => ?_)
    refine n_if ?_ ?_
    · refine n_hI (r_M_isWord q3 (2 : Int32)) (fun v6 h5 m5 q5 => ?_)
      refine n_if ?_ ?_
      · refine n_hI (r_M_bad q5 (1 : Int32)) (fun v8 h7 m7 q7 => ?_)
        exact n_rZ q7
      · refine n_hI (r_M_readLetters q5) (fun v10 h9 m9 q9 => ?_)
        exact n_rZ q9
    · refine n_hI (r_M_readRow q3) (fun v12 h11 m11 q11 => ?_)
      exact n_rZ q11
  · refine n_hI (r_M_readLeaf q1 x1) (fun v14 h13 m13 q13 => ?_)
    exact n_rZ q13
def d_M_isSign (ms : MS) (x1 : Int32) : Option DR :=
  nm (ms.1 7 0) fun v1 =>
  if v1 = (4 : Int32) then
    nm (ms.1 9 0) fun v2 =>
    if v2 = x1 then
      dZ (1 : Int32) ms
    else
      dZ (0 : Int32) ms
  else
    dZ (0 : Int32) ms
theorem r_M_isSign {g : Nat → Nat} {this : Nat} {ms : MS} {h : PH} (hm : MRep g this ms h) (x1 : Int32) : RM g this h (c_M_isSign h this x1) (d_M_isSign ms x1) := by
  unfold c_M_isSign d_M_isSign
  refine n_grd hm ?_
  refine n_gI hm (by decide) (by decide) (by decide) (fun v1 => ?_)
  refine n_if ?_ ?_
  · refine n_gI hm (by decide) (by decide) (by decide) (fun v2 => ?_)
    refine n_if ?_ ?_
    · exact n_rZ hm
    · exact n_rZ hm
  · exact n_rZ hm
def d_M_readEnd (ms : MS) : Option DR :=
  bI (d_M_isSign ms (59 : Int32)) fun v2 m1 =>
  if v2 = 0 then
    bI (d_M_bad m1 (1 : Int32)) fun v5 m4 =>
    dZ v5 m4
  else
    bV (d_M_go m1) fun m3 =>
    dZ (1 : Int32) m3
theorem r_M_readEnd {g : Nat → Nat} {this : Nat} {ms : MS} {h : PH} (hm : MRep g this ms h) : RM g this h (c_M_readEnd h this) (d_M_readEnd ms) := by
  unfold c_M_readEnd d_M_readEnd
  refine n_grd hm ?_
  refine n_hI (r_M_isSign hm (59 : Int32)) (fun v2 h1 m1 q1 => ?_)
  refine n_if ?_ ?_
  · refine n_hI (r_M_bad q1 (1 : Int32)) (fun v5 h4 m4 q4 => ?_)
    exact n_rZ q4
  · refine n_hV (r_M_go q1) (fun h3 m3 q3 => ?_)
    exact n_rZ q3
def d_M_sizeOf (ms : MS) (x1 : Int32) : Option DR :=
  eA ms 14 ((2607 : Int32) + x1) fun v4 =>
  dI v4 ms
theorem r_M_sizeOf {g : Nat → Nat} {this : Nat} {ms : MS} {h : PH} (hm : MRep g this ms h) (x1 : Int32) : RM g this h (c_M_sizeOf h this x1) (d_M_sizeOf ms x1) := by
  unfold c_M_sizeOf d_M_sizeOf
  refine n_grd hm ?_
  refine n_gQ (k := 14) hm (by decide) (by decide) ?_
  refine n_nn ?_
  refine n_ldI (k := 14) hm (by decide) (fun v4 => ?_)
  exact n_rI hm
def d_M_leafAt (ms : MS) (x1 : Int32) (x2 : Int32) : Option DR :=
  dI (((2816 : Int32) + ((151 : Int32) * x1)) + x2) ms
theorem r_M_leafAt {g : Nat → Nat} {this : Nat} {ms : MS} {h : PH} (hm : MRep g this ms h) (x1 : Int32) (x2 : Int32) : RM g this h (c_M_leafAt h this x1 x2) (d_M_leafAt ms x1 x2) := by
  unfold c_M_leafAt d_M_leafAt
  refine n_grd hm ?_
  exact n_rI hm
def d_M_leafOf_l15 (r15' : MS → Int32 → Int32 → Int32 → Int32 → Option DR) (ms : MS) (x1 : Int32) (x2 : Int32) (x3 : Int32) (x4 : Int32) : Option DR :=
  if x2 < x4 then
    dI x3 ms
  else
    bI (d_M_leafAt ms x1 (x3 + (1 : Int32))) fun v3 m2 =>
    eA m2 14 v3 fun v6 =>
    nm (x4 + v6) fun y7 =>
    r15' m2 x1 x2 (x3 + (1 : Int32)) y7
theorem r_M_leafOf_l15 {g : Nat → Nat} {this : Nat} {r15 : PH → Nat → Int32 → Int32 → Int32 → Int32 → Option RH} {r15' : MS → Int32 → Int32 → Int32 → Int32 → Option DR} (hr15 : ∀ {ms : MS} {h : PH} (_ : MRep g this ms h) (x1 : Int32) (x2 : Int32) (x3 : Int32) (x4 : Int32), RM g this h (r15 h this x1 x2 x3 x4) (r15' ms x1 x2 x3 x4)) {ms : MS} {h : PH} (hm : MRep g this ms h) (x1 : Int32) (x2 : Int32) (x3 : Int32) (x4 : Int32) : RM g this h (c_M_leafOf_l15 r15 h this x1 x2 x3 x4) (d_M_leafOf_l15 r15' ms x1 x2 x3 x4) := by
  unfold c_M_leafOf_l15 d_M_leafOf_l15
  refine n_if ?_ ?_
  · exact n_rI hm
  · refine n_gQ (k := 14) hm (by decide) (by decide) ?_
    refine n_hI (r_M_leafAt hm x1 (x3 + (1 : Int32))) (fun v3 h2 m2 q2 => ?_)
    refine n_nn ?_
    refine n_ldI (k := 14) q2 (by decide) (fun v6 => ?_)
    refine n_nm (fun y7 => ?_)
    exact hr15 q2 x1 x2 (x3 + (1 : Int32)) y7
theorem u_M_leafOf_l15 {g : Nat → Nat} {this : Nat} : ∀ (n : Nat) {ms : MS} {h : PH} (_ : MRep g this ms h) (x1 : Int32) (x2 : Int32) (x3 : Int32) (x4 : Int32), RM g this h (itr (c_M_leafOf_l15) (fun _ _ _ _ _ _ => none) n h this x1 x2 x3 x4) (itr (d_M_leafOf_l15) (fun _ _ _ _ _ => none) n ms x1 x2 x3 x4)
  | 0 => fun _ _ _ _ _ => n_none
  | n + 1 => fun hm x1 x2 x3 x4 => r_M_leafOf_l15 (u_M_leafOf_l15 n) hm x1 x2 x3 x4
def d_M_leafOf (ms : MS) (x1 : Int32) (x2 : Int32) : Option DR :=
  bI (d_M_leafAt ms x1 (0 : Int32)) fun v3 m2 =>
  eA m2 14 v3 fun v6 =>
  itr (d_M_leafOf_l15) (fun _ _ _ _ _ => none) FU m2 x1 x2 (0 : Int32) v6
theorem r_M_leafOf {g : Nat → Nat} {this : Nat} {ms : MS} {h : PH} (hm : MRep g this ms h) (x1 : Int32) (x2 : Int32) : RM g this h (c_M_leafOf h this x1 x2) (d_M_leafOf ms x1 x2) := by
  unfold c_M_leafOf d_M_leafOf
  refine n_grd hm ?_
  refine n_gQ (k := 14) hm (by decide) (by decide) ?_
  refine n_hI (r_M_leafAt hm x1 (0 : Int32)) (fun v3 h2 m2 q2 => ?_)
  refine n_nn ?_
  refine n_ldI (k := 14) q2 (by decide) (fun v6 => ?_)
  exact u_M_leafOf_l15 FU q2 x1 x2 (0 : Int32) v6
def d_M_splitLeaf_l24 (r24' : MS → Int32 → Int32 → Int32 → Int32 → Option DR) (ms : MS) (x1 : Int32) (x2 : Int32) (x3 : Int32) (x4 : Int32) : Option DR :=
  if x4 ≤ (x2 + (1 : Int32)) then
    bI (d_M_leafAt ms x1 x2) fun v3 m2 =>
    nz (2 : Int32) <|
    sA m2 14 v3 ((x3 + (1 : Int32)) / (2 : Int32)) fun m6 =>
    bI (d_M_leafAt m6 x1 (x2 + (1 : Int32))) fun v9 m8 =>
    nz (2 : Int32) <|
    sA m8 14 v9 (x3 / (2 : Int32)) fun m12 =>
    eA m12 14 ((2611 : Int32) + x1) fun v16 =>
    sA m12 14 ((2611 : Int32) + x1) (v16 + (1 : Int32)) fun m17 =>
    dV m17
  else
    bI (d_M_leafAt ms x1 x4) fun v20 m19 =>
    bI (d_M_leafAt m19 x1 (x4 - (1 : Int32))) fun v23 m22 =>
    eA m22 14 v23 fun v26 =>
    sA m22 14 v20 v26 fun m29 =>
    r24' m29 x1 x2 x3 (x4 + (-1 : Int32))
theorem r_M_splitLeaf_l24 {g : Nat → Nat} {this : Nat} {r24 : PH → Nat → Int32 → Int32 → Int32 → Int32 → Option RH} {r24' : MS → Int32 → Int32 → Int32 → Int32 → Option DR} (hr24 : ∀ {ms : MS} {h : PH} (_ : MRep g this ms h) (x1 : Int32) (x2 : Int32) (x3 : Int32) (x4 : Int32), RM g this h (r24 h this x1 x2 x3 x4) (r24' ms x1 x2 x3 x4)) {ms : MS} {h : PH} (hm : MRep g this ms h) (x1 : Int32) (x2 : Int32) (x3 : Int32) (x4 : Int32) : RM g this h (c_M_splitLeaf_l24 r24 h this x1 x2 x3 x4) (d_M_splitLeaf_l24 r24' ms x1 x2 x3 x4) := by
  unfold c_M_splitLeaf_l24 d_M_splitLeaf_l24
  refine n_if ?_ ?_
  · refine n_gQ (k := 14) hm (by decide) (by decide) ?_
    refine n_hI (r_M_leafAt hm x1 x2) (fun v3 h2 m2 q2 => ?_)
    refine n_nz ?_
    refine n_nn ?_
    refine n_stI (k := 14) q2 (by decide) (fun h6 m6 q6 => ?_)
    refine n_gQ (k := 14) q6 (by decide) (by decide) ?_
    refine n_hI (r_M_leafAt q6 x1 (x2 + (1 : Int32))) (fun v9 h8 m8 q8 => ?_)
    refine n_nz ?_
    refine n_nn ?_
    refine n_stI (k := 14) q8 (by decide) (fun h12 m12 q12 => ?_)
    refine n_gQ (k := 14) q12 (by decide) (by decide) ?_
    refine n_nn ?_
    refine n_ldI (k := 14) q12 (by decide) (fun v16 => ?_)
    refine n_stI (k := 14) q12 (by decide) (fun h17 m17 q17 => ?_)
    exact n_rV q17
  · refine n_gQ (k := 14) hm (by decide) (by decide) ?_
    refine n_hI (r_M_leafAt hm x1 x4) (fun v20 h19 m19 q19 => ?_)
    refine n_gQ (k := 14) q19 (by decide) (by decide) ?_
    refine n_hI (r_M_leafAt q19 x1 (x4 - (1 : Int32))) (fun v23 h22 m22 q22 => ?_)
    refine n_nn ?_
    refine n_ldI (k := 14) q22 (by decide) (fun v26 => ?_)
    refine n_nn ?_
    refine n_stI (k := 14) q22 (by decide) (fun h29 m29 q29 => ?_)
    exact hr24 q29 x1 x2 x3 (x4 + (-1 : Int32))
theorem u_M_splitLeaf_l24 {g : Nat → Nat} {this : Nat} : ∀ (n : Nat) {ms : MS} {h : PH} (_ : MRep g this ms h) (x1 : Int32) (x2 : Int32) (x3 : Int32) (x4 : Int32), RM g this h (itr (c_M_splitLeaf_l24) (fun _ _ _ _ _ _ => none) n h this x1 x2 x3 x4) (itr (d_M_splitLeaf_l24) (fun _ _ _ _ _ => none) n ms x1 x2 x3 x4)
  | 0 => fun _ _ _ _ _ => n_none
  | n + 1 => fun hm x1 x2 x3 x4 => r_M_splitLeaf_l24 (u_M_splitLeaf_l24 n) hm x1 x2 x3 x4
def d_M_splitLeaf (ms : MS) (x1 : Int32) (x2 : Int32) : Option DR :=
  bI (d_M_leafAt ms x1 x2) fun v3 m2 =>
  eA m2 14 v3 fun v6 =>
  eA m2 14 ((2611 : Int32) + x1) fun v10 =>
  itr (d_M_splitLeaf_l24) (fun _ _ _ _ _ => none) FU m2 x1 x2 v6 v10
theorem r_M_splitLeaf {g : Nat → Nat} {this : Nat} {ms : MS} {h : PH} (hm : MRep g this ms h) (x1 : Int32) (x2 : Int32) : RM g this h (c_M_splitLeaf h this x1 x2) (d_M_splitLeaf ms x1 x2) := by
  unfold c_M_splitLeaf d_M_splitLeaf
  refine n_grd hm ?_
  refine n_gQ (k := 14) hm (by decide) (by decide) ?_
  refine n_hI (r_M_leafAt hm x1 x2) (fun v3 h2 m2 q2 => ?_)
  refine n_nn ?_
  refine n_ldI (k := 14) q2 (by decide) (fun v6 => ?_)
  refine n_gQ (k := 14) q2 (by decide) (by decide) ?_
  refine n_nn ?_
  refine n_ldI (k := 14) q2 (by decide) (fun v10 => ?_)
  exact u_M_splitLeaf_l24 FU q2 x1 x2 v6 v10
def d_M_putBit_j102 (ms : MS) (x1 : Int32) (s0 : Int32) : Option DR :=
  eA ms 14 ((2607 : Int32) + x1) fun v4 =>
  sA ms 14 ((2607 : Int32) + x1) (v4 + (1 : Int32)) fun m5 =>
  bI (d_M_leafAt m5 x1 s0) fun v8 m7 =>
  eA m7 14 v8 fun v11 =>
  sA m7 14 v8 (v11 + (1 : Int32)) fun m12 =>
  bI (d_M_leafAt m12 x1 s0) fun v15 m14 =>
  eA m14 14 v15 fun v18 =>
  eA m14 14 (1 : Int32) fun v22 =>
  if v18 ≤ ((2 : Int32) * v22) then
    dV m14
  else
    bV (d_M_splitLeaf m14 x1 s0) fun m23 =>
    dV m23
theorem r_M_putBit_j102 {g : Nat → Nat} {this : Nat} {ms : MS} {h : PH} (hm : MRep g this ms h) (x1 : Int32) (s0 : Int32) : RM g this h (c_M_putBit_j102 h this x1 s0) (d_M_putBit_j102 ms x1 s0) := by
  unfold c_M_putBit_j102 d_M_putBit_j102
  refine n_gQ (k := 14) hm (by decide) (by decide) ?_
  refine n_nn ?_
  refine n_ldI (k := 14) hm (by decide) (fun v4 => ?_)
  refine n_stI (k := 14) hm (by decide) (fun h5 m5 q5 => ?_)
  refine n_gQ (k := 14) q5 (by decide) (by decide) ?_
  refine n_hI (r_M_leafAt q5 x1 s0) (fun v8 h7 m7 q7 => ?_)
  refine n_nn ?_
  refine n_ldI (k := 14) q7 (by decide) (fun v11 => ?_)
  refine n_stI (k := 14) q7 (by decide) (fun h12 m12 q12 => ?_)
  refine n_gQ (k := 14) q12 (by decide) (by decide) ?_
  refine n_hI (r_M_leafAt q12 x1 s0) (fun v15 h14 m14 q14 => ?_)
  refine n_nn ?_
  refine n_ldI (k := 14) q14 (by decide) (fun v18 => ?_)
  refine n_gQ (k := 14) q14 (by decide) (by decide) ?_
  refine n_nn ?_
  refine n_ldI (k := 14) q14 (by decide) (fun v22 => ?_)
  refine n_if ?_ ?_
  · exact n_rV q14
  · refine n_hV (r_M_splitLeaf q14 x1 s0) (fun h23 m23 q23 => ?_)
    exact n_rV q23
def d_M_putBit_j86 (ms : MS) (x1 : Int32) (x2 : Int32) : Option DR :=
  if x2 = 0 then
    d_M_putBit_j102 ms x1 (0 : Int32)
  else
    bI (d_M_leafOf ms x1 (x2 - (1 : Int32))) fun v2 m1 =>
    d_M_putBit_j102 m1 x1 v2
theorem r_M_putBit_j86 {g : Nat → Nat} {this : Nat} {ms : MS} {h : PH} (hm : MRep g this ms h) (x1 : Int32) (x2 : Int32) : RM g this h (c_M_putBit_j86 h this x1 x2) (d_M_putBit_j86 ms x1 x2) := by
  unfold c_M_putBit_j86 d_M_putBit_j86
  refine n_if ?_ ?_
  · exact (r_M_putBit_j102 hm x1 (0 : Int32))
  · refine n_hI (r_M_leafOf hm x1 (x2 - (1 : Int32))) (fun v2 h1 m1 q1 => ?_)
    exact (r_M_putBit_j102 q1 x1 v2)
def d_M_putBit_l18 (r18' : MS → Int32 → Int32 → Int32 → Int32 → Int32 → Option DR) (ms : MS) (x1 : Int32) (x2 : Int32) (x3 : Int32) (x4 : Int32) (x5 : Int32) : Option DR :=
  if x5 ≤ x2 then
    sA ms 14 (x4 + x2) x3 fun m4 =>
    eA m4 14 ((2611 : Int32) + x1) fun v8 =>
    if v8 = 0 then
      sA m4 14 ((2611 : Int32) + x1) (1 : Int32) fun m12 =>
      d_M_putBit_j86 m12 x1 x2
    else
      d_M_putBit_j86 m4 x1 x2
  else
    eA ms 14 ((x4 + x5) - (1 : Int32)) fun v17 =>
    sA ms 14 (x4 + x5) v17 fun m20 =>
    r18' m20 x1 x2 x3 x4 (x5 + (-1 : Int32))
theorem r_M_putBit_l18 {g : Nat → Nat} {this : Nat} {r18 : PH → Nat → Int32 → Int32 → Int32 → Int32 → Int32 → Option RH} {r18' : MS → Int32 → Int32 → Int32 → Int32 → Int32 → Option DR} (hr18 : ∀ {ms : MS} {h : PH} (_ : MRep g this ms h) (x1 : Int32) (x2 : Int32) (x3 : Int32) (x4 : Int32) (x5 : Int32), RM g this h (r18 h this x1 x2 x3 x4 x5) (r18' ms x1 x2 x3 x4 x5)) {ms : MS} {h : PH} (hm : MRep g this ms h) (x1 : Int32) (x2 : Int32) (x3 : Int32) (x4 : Int32) (x5 : Int32) : RM g this h (c_M_putBit_l18 r18 h this x1 x2 x3 x4 x5) (d_M_putBit_l18 r18' ms x1 x2 x3 x4 x5) := by
  unfold c_M_putBit_l18 d_M_putBit_l18
  refine n_if ?_ ?_
  · refine n_gQ (k := 14) hm (by decide) (by decide) ?_
    refine n_nn ?_
    refine n_stI (k := 14) hm (by decide) (fun h4 m4 q4 => ?_)
    refine n_gQ (k := 14) q4 (by decide) (by decide) ?_
    refine n_nn ?_
    refine n_ldI (k := 14) q4 (by decide) (fun v8 => ?_)
    refine n_if ?_ ?_
    · refine n_gQ (k := 14) q4 (by decide) (by decide) ?_
      refine n_nn ?_
      refine n_stI (k := 14) q4 (by decide) (fun h12 m12 q12 => ?_)
      exact (r_M_putBit_j86 q12 x1 x2)
    · exact (r_M_putBit_j86 q4 x1 x2)
  · refine n_gQ (k := 14) hm (by decide) (by decide) ?_
    refine n_gQ (k := 14) hm (by decide) (by decide) ?_
    refine n_nn ?_
    refine n_ldI (k := 14) hm (by decide) (fun v17 => ?_)
    refine n_nn ?_
    refine n_stI (k := 14) hm (by decide) (fun h20 m20 q20 => ?_)
    exact hr18 q20 x1 x2 x3 x4 (x5 + (-1 : Int32))
theorem u_M_putBit_l18 {g : Nat → Nat} {this : Nat} : ∀ (n : Nat) {ms : MS} {h : PH} (_ : MRep g this ms h) (x1 : Int32) (x2 : Int32) (x3 : Int32) (x4 : Int32) (x5 : Int32), RM g this h (itr (c_M_putBit_l18) (fun _ _ _ _ _ _ _ => none) n h this x1 x2 x3 x4 x5) (itr (d_M_putBit_l18) (fun _ _ _ _ _ _ => none) n ms x1 x2 x3 x4 x5)
  | 0 => fun _ _ _ _ _ _ => n_none
  | n + 1 => fun hm x1 x2 x3 x4 x5 => r_M_putBit_l18 (u_M_putBit_l18 n) hm x1 x2 x3 x4 x5
def d_M_putBit (ms : MS) (x1 : Int32) (x2 : Int32) (x3 : Int32) : Option DR :=
  nm ((3420 : Int32) + ((600 : Int32) * x1)) fun y1 =>
  bI (d_M_sizeOf ms x1) fun v3 m2 =>
  itr (d_M_putBit_l18) (fun _ _ _ _ _ _ => none) FU m2 x1 x2 x3 y1 v3
theorem r_M_putBit {g : Nat → Nat} {this : Nat} {ms : MS} {h : PH} (hm : MRep g this ms h) (x1 : Int32) (x2 : Int32) (x3 : Int32) : RM g this h (c_M_putBit h this x1 x2 x3) (d_M_putBit ms x1 x2 x3) := by
  unfold c_M_putBit d_M_putBit
  refine n_grd hm ?_
  refine n_nm (fun y1 => ?_)
  refine n_hI (r_M_sizeOf hm x1) (fun v3 h2 m2 q2 => ?_)
  exact u_M_putBit_l18 FU q2 x1 x2 x3 y1 v3
def d_M_startSo_l38 (r26' : MS → Int32 → Option DR) (r38' : MS → Int32 → Int32 → Option DR) (ms : MS) (x1 : Int32) (x2 : Int32) : Option DR :=
  eA ms 14 ((2 : Int32) + x1) fun v4 =>
  if v4 ≤ x2 then
    r26' ms (x1 + (1 : Int32))
  else
    eA ms 14 (((207 : Int32) + ((600 : Int32) * x1)) + x2) fun v8 =>
    bV (d_M_putBit ms x1 x2 v8) fun m9 =>
    r38' m9 x1 (x2 + (1 : Int32))
theorem r_M_startSo_l38 {g : Nat → Nat} {this : Nat} {r26 : PH → Nat → Int32 → Option RH} {r26' : MS → Int32 → Option DR} {r38 : PH → Nat → Int32 → Int32 → Option RH} {r38' : MS → Int32 → Int32 → Option DR} (hr26 : ∀ {ms : MS} {h : PH} (_ : MRep g this ms h) (x1 : Int32), RM g this h (r26 h this x1) (r26' ms x1)) (hr38 : ∀ {ms : MS} {h : PH} (_ : MRep g this ms h) (x1 : Int32) (x2 : Int32), RM g this h (r38 h this x1 x2) (r38' ms x1 x2)) {ms : MS} {h : PH} (hm : MRep g this ms h) (x1 : Int32) (x2 : Int32) : RM g this h (c_M_startSo_l38 r26 r38 h this x1 x2) (d_M_startSo_l38 r26' r38' ms x1 x2) := by
  unfold c_M_startSo_l38 d_M_startSo_l38
  refine n_gQ (k := 14) hm (by decide) (by decide) ?_
  refine n_nn ?_
  refine n_ldI (k := 14) hm (by decide) (fun v4 => ?_)
  refine n_if ?_ ?_
  · exact hr26 hm (x1 + (1 : Int32))
  · refine n_gQ (k := 14) hm (by decide) (by decide) ?_
    refine n_nn ?_
    refine n_ldI (k := 14) hm (by decide) (fun v8 => ?_)
    refine n_hV (r_M_putBit hm x1 x2 v8) (fun h9 m9 q9 => ?_)
    exact hr38 q9 x1 (x2 + (1 : Int32))
theorem u_M_startSo_l38 {g : Nat → Nat} {this : Nat} {r26 : PH → Nat → Int32 → Option RH} {r26' : MS → Int32 → Option DR} (hr26 : ∀ {ms : MS} {h : PH} (_ : MRep g this ms h) (x1 : Int32), RM g this h (r26 h this x1) (r26' ms x1)) : ∀ (n : Nat) {ms : MS} {h : PH} (_ : MRep g this ms h) (x1 : Int32) (x2 : Int32), RM g this h (itr (c_M_startSo_l38 r26) (fun _ _ _ _ => none) n h this x1 x2) (itr (d_M_startSo_l38 r26') (fun _ _ _ => none) n ms x1 x2)
  | 0 => fun _ _ _ => n_none
  | n + 1 => fun hm x1 x2 => r_M_startSo_l38 hr26 (u_M_startSo_l38 hr26 n) hm x1 x2
def d_M_startSo_l101 (r101' : MS → Int32 → Option DR) (ms : MS) (x1 : Int32) : Option DR :=
  if (200 : Int32) ≤ x1 then
    dV ms
  else
    eA ms 14 ((7 : Int32) + x1) fun v5 =>
    sA ms 14 ((2616 : Int32) + x1) v5 fun m8 =>
    r101' m8 (x1 + (1 : Int32))
theorem r_M_startSo_l101 {g : Nat → Nat} {this : Nat} {r101 : PH → Nat → Int32 → Option RH} {r101' : MS → Int32 → Option DR} (hr101 : ∀ {ms : MS} {h : PH} (_ : MRep g this ms h) (x1 : Int32), RM g this h (r101 h this x1) (r101' ms x1)) {ms : MS} {h : PH} (hm : MRep g this ms h) (x1 : Int32) : RM g this h (c_M_startSo_l101 r101 h this x1) (d_M_startSo_l101 r101' ms x1) := by
  unfold c_M_startSo_l101 d_M_startSo_l101
  refine n_if ?_ ?_
  · exact n_rV hm
  · refine n_gQ (k := 14) hm (by decide) (by decide) ?_
    refine n_gQ (k := 14) hm (by decide) (by decide) ?_
    refine n_nn ?_
    refine n_ldI (k := 14) hm (by decide) (fun v5 => ?_)
    refine n_nn ?_
    refine n_stI (k := 14) hm (by decide) (fun h8 m8 q8 => ?_)
    exact hr101 q8 (x1 + (1 : Int32))
theorem u_M_startSo_l101 {g : Nat → Nat} {this : Nat} : ∀ (n : Nat) {ms : MS} {h : PH} (_ : MRep g this ms h) (x1 : Int32), RM g this h (itr (c_M_startSo_l101) (fun _ _ _ => none) n h this x1) (itr (d_M_startSo_l101) (fun _ _ => none) n ms x1)
  | 0 => fun _ _ => n_none
  | n + 1 => fun hm x1 => r_M_startSo_l101 (u_M_startSo_l101 n) hm x1
def d_M_startSo_l26 (r26' : MS → Int32 → Option DR) (ms : MS) (x1 : Int32) : Option DR :=
  eA ms 14 (0 : Int32) fun v4 =>
  if v4 ≤ x1 then
    eA ms 14 (6 : Int32) fun v9 =>
    sA ms 14 (2615 : Int32) v9 fun m12 =>
    itr (d_M_startSo_l101) (fun _ _ => none) FU m12 (0 : Int32)
  else
    itr (d_M_startSo_l38 r26') (fun _ _ _ => none) FU ms x1 (0 : Int32)
theorem r_M_startSo_l26 {g : Nat → Nat} {this : Nat} {r26 : PH → Nat → Int32 → Option RH} {r26' : MS → Int32 → Option DR} (hr26 : ∀ {ms : MS} {h : PH} (_ : MRep g this ms h) (x1 : Int32), RM g this h (r26 h this x1) (r26' ms x1)) {ms : MS} {h : PH} (hm : MRep g this ms h) (x1 : Int32) : RM g this h (c_M_startSo_l26 r26 h this x1) (d_M_startSo_l26 r26' ms x1) := by
  unfold c_M_startSo_l26 d_M_startSo_l26
  refine n_gQ (k := 14) hm (by decide) (by decide) ?_
  refine n_nn ?_
  refine n_ldI (k := 14) hm (by decide) (fun v4 => ?_)
  refine n_if ?_ ?_
  · refine n_gQ (k := 14) hm (by decide) (by decide) ?_
    refine n_gQ (k := 14) hm (by decide) (by decide) ?_
    refine n_nn ?_
    refine n_ldI (k := 14) hm (by decide) (fun v9 => ?_)
    refine n_nn ?_
    refine n_stI (k := 14) hm (by decide) (fun h12 m12 q12 => ?_)
    exact u_M_startSo_l101 FU q12 (0 : Int32)
  · exact u_M_startSo_l38 hr26 FU hm x1 (0 : Int32)
theorem u_M_startSo_l26 {g : Nat → Nat} {this : Nat} : ∀ (n : Nat) {ms : MS} {h : PH} (_ : MRep g this ms h) (x1 : Int32), RM g this h (itr (c_M_startSo_l26) (fun _ _ _ => none) n h this x1) (itr (d_M_startSo_l26) (fun _ _ => none) n ms x1)
  | 0 => fun _ _ => n_none
  | n + 1 => fun hm x1 => r_M_startSo_l26 (u_M_startSo_l26 n) hm x1
def d_M_startSo_l4 (r4' : MS → Int32 → Option DR) (ms : MS) (x1 : Int32) : Option DR :=
  if (6062 : Int32) ≤ x1 then
    itr (d_M_startSo_l26) (fun _ _ => none) FU ms (0 : Int32)
  else
    sA ms 14 x1 (0 : Int32) fun m4 =>
    r4' m4 (x1 + (1 : Int32))
theorem r_M_startSo_l4 {g : Nat → Nat} {this : Nat} {r4 : PH → Nat → Int32 → Option RH} {r4' : MS → Int32 → Option DR} (hr4 : ∀ {ms : MS} {h : PH} (_ : MRep g this ms h) (x1 : Int32), RM g this h (r4 h this x1) (r4' ms x1)) {ms : MS} {h : PH} (hm : MRep g this ms h) (x1 : Int32) : RM g this h (c_M_startSo_l4 r4 h this x1) (d_M_startSo_l4 r4' ms x1) := by
  unfold c_M_startSo_l4 d_M_startSo_l4
  refine n_if ?_ ?_
  · exact u_M_startSo_l26 FU hm (0 : Int32)
  · refine n_gQ (k := 14) hm (by decide) (by decide) ?_
    refine n_nn ?_
    refine n_stI (k := 14) hm (by decide) (fun h4 m4 q4 => ?_)
    exact hr4 q4 (x1 + (1 : Int32))
theorem u_M_startSo_l4 {g : Nat → Nat} {this : Nat} : ∀ (n : Nat) {ms : MS} {h : PH} (_ : MRep g this ms h) (x1 : Int32), RM g this h (itr (c_M_startSo_l4) (fun _ _ _ => none) n h this x1) (itr (d_M_startSo_l4) (fun _ _ => none) n ms x1)
  | 0 => fun _ _ => n_none
  | n + 1 => fun hm x1 => r_M_startSo_l4 (u_M_startSo_l4 n) hm x1
def d_M_startSo (ms : MS) : Option DR :=
  itr (d_M_startSo_l4) (fun _ _ => none) FU ms (2607 : Int32)
theorem r_M_startSo {g : Nat → Nat} {this : Nat} {ms : MS} {h : PH} (hm : MRep g this ms h) : RM g this h (c_M_startSo h this) (d_M_startSo ms) := by
  unfold c_M_startSo d_M_startSo
  refine n_grd hm ?_
  exact u_M_startSo_l4 FU hm (2607 : Int32)
def d_M_room_l108 (r108' : MS → Int32 → Int32 → Option DR) (ms : MS) (x1 : Int32) (x2 : Int32) : Option DR :=
  if (4 : Int32) ≤ x2 then
    bV (d_M_startSo ms) fun m1 =>
    nm (mset m1 24 0 (0 : Int32)) fun m2 =>
    dI x1 m2
  else
    eL ms 21 x2 fun v7 =>
    sL ms 20 x2 v7 fun m10 =>
    r108' m10 x1 (x2 + (1 : Int32))
theorem r_M_room_l108 {g : Nat → Nat} {this : Nat} {r108 : PH → Nat → Int32 → Int32 → Option RH} {r108' : MS → Int32 → Int32 → Option DR} (hr108 : ∀ {ms : MS} {h : PH} (_ : MRep g this ms h) (x1 : Int32) (x2 : Int32), RM g this h (r108 h this x1 x2) (r108' ms x1 x2)) {ms : MS} {h : PH} (hm : MRep g this ms h) (x1 : Int32) (x2 : Int32) : RM g this h (c_M_room_l108 r108 h this x1 x2) (d_M_room_l108 r108' ms x1 x2) := by
  unfold c_M_room_l108 d_M_room_l108
  refine n_if ?_ ?_
  · refine n_hV (r_M_startSo hm) (fun h1 m1 q1 => ?_)
    refine n_pI q1 (by decide) (by decide) (by decide) (fun h2 m2 q2 => ?_)
    exact n_rI q2
  · refine n_gQ (k := 20) hm (by decide) (by decide) ?_
    refine n_gQ (k := 21) hm (by decide) (by decide) ?_
    refine n_nn ?_
    refine n_ldL (k := 21) hm (by decide) (fun v7 => ?_)
    refine n_nn ?_
    refine n_stL (k := 20) hm (by decide) (fun h10 m10 q10 => ?_)
    exact hr108 q10 x1 (x2 + (1 : Int32))
theorem u_M_room_l108 {g : Nat → Nat} {this : Nat} : ∀ (n : Nat) {ms : MS} {h : PH} (_ : MRep g this ms h) (x1 : Int32) (x2 : Int32), RM g this h (itr (c_M_room_l108) (fun _ _ _ _ => none) n h this x1 x2) (itr (d_M_room_l108) (fun _ _ _ => none) n ms x1 x2)
  | 0 => fun _ _ _ => n_none
  | n + 1 => fun hm x1 x2 => r_M_room_l108 (u_M_room_l108 n) hm x1 x2
def d_M_room_l81 (r81' : MS → Int32 → Int32 → Option DR) (ms : MS) (x1 : Int32) (x2 : Int32) : Option DR :=
  if (2607 : Int32) ≤ x2 then
    itr (d_M_room_l108) (fun _ _ _ => none) FU ms x1 (0 : Int32)
  else
    eA ms 15 x2 fun v5 =>
    sA ms 14 x2 v5 fun m8 =>
    r81' m8 x1 (x2 + (1 : Int32))
theorem r_M_room_l81 {g : Nat → Nat} {this : Nat} {r81 : PH → Nat → Int32 → Int32 → Option RH} {r81' : MS → Int32 → Int32 → Option DR} (hr81 : ∀ {ms : MS} {h : PH} (_ : MRep g this ms h) (x1 : Int32) (x2 : Int32), RM g this h (r81 h this x1 x2) (r81' ms x1 x2)) {ms : MS} {h : PH} (hm : MRep g this ms h) (x1 : Int32) (x2 : Int32) : RM g this h (c_M_room_l81 r81 h this x1 x2) (d_M_room_l81 r81' ms x1 x2) := by
  unfold c_M_room_l81 d_M_room_l81
  refine n_if ?_ ?_
  · exact u_M_room_l108 FU hm x1 (0 : Int32)
  · refine n_gQ (k := 14) hm (by decide) (by decide) ?_
    refine n_gQ (k := 15) hm (by decide) (by decide) ?_
    refine n_nn ?_
    refine n_ldI (k := 15) hm (by decide) (fun v5 => ?_)
    refine n_nn ?_
    refine n_stI (k := 14) hm (by decide) (fun h8 m8 q8 => ?_)
    exact hr81 q8 x1 (x2 + (1 : Int32))
theorem u_M_room_l81 {g : Nat → Nat} {this : Nat} : ∀ (n : Nat) {ms : MS} {h : PH} (_ : MRep g this ms h) (x1 : Int32) (x2 : Int32), RM g this h (itr (c_M_room_l81) (fun _ _ _ _ => none) n h this x1 x2) (itr (d_M_room_l81) (fun _ _ _ => none) n ms x1 x2)
  | 0 => fun _ _ _ => n_none
  | n + 1 => fun hm x1 x2 => r_M_room_l81 (u_M_room_l81 n) hm x1 x2
def d_M_room_l44 (r44' : MS → Int32 → Option DR) (ms : MS) (x1 : Int32) : Option DR :=
  nm (ms.1 7 0) fun v1 =>
  if v1 = 0 then
    itr (d_M_room_l81) (fun _ _ _ => none) FU ms x1 (0 : Int32)
  else
    bI (d_M_readLine ms x1) fun v3 m2 =>
    if v3 = 0 then
      nm (m2.1 11 0) fun v4 =>
      dI ((-1 : Int32) - v4) m2
    else
      bI (d_M_readEnd m2) fun v6 m5 =>
      if v6 = 0 then
        nm (m5.1 11 0) fun v7 =>
        dI ((-1 : Int32) - v7) m5
      else
        r44' m5 (x1 + (1 : Int32))
theorem r_M_room_l44 {g : Nat → Nat} {this : Nat} {r44 : PH → Nat → Int32 → Option RH} {r44' : MS → Int32 → Option DR} (hr44 : ∀ {ms : MS} {h : PH} (_ : MRep g this ms h) (x1 : Int32), RM g this h (r44 h this x1) (r44' ms x1)) {ms : MS} {h : PH} (hm : MRep g this ms h) (x1 : Int32) : RM g this h (c_M_room_l44 r44 h this x1) (d_M_room_l44 r44' ms x1) := by
  unfold c_M_room_l44 d_M_room_l44
  refine n_gI hm (by decide) (by decide) (by decide) (fun v1 => ?_)
  refine n_if ?_ ?_
  · exact u_M_room_l81 FU hm x1 (0 : Int32)
  · refine n_hI (r_M_readLine hm x1) (fun v3 h2 m2 q2 => ?_)
    refine n_if ?_ ?_
    · refine n_gI q2 (by decide) (by decide) (by decide) (fun v4 => ?_)
      exact n_rI q2
    · refine n_hI (r_M_readEnd q2) (fun v6 h5 m5 q5 => ?_)
      refine n_if ?_ ?_
      · refine n_gI q5 (by decide) (by decide) (by decide) (fun v7 => ?_)
        exact n_rI q5
      · exact hr44 q5 (x1 + (1 : Int32))
theorem u_M_room_l44 {g : Nat → Nat} {this : Nat} : ∀ (n : Nat) {ms : MS} {h : PH} (_ : MRep g this ms h) (x1 : Int32), RM g this h (itr (c_M_room_l44) (fun _ _ _ => none) n h this x1) (itr (d_M_room_l44) (fun _ _ => none) n ms x1)
  | 0 => fun _ _ => n_none
  | n + 1 => fun hm x1 => r_M_room_l44 (u_M_room_l44 n) hm x1
def d_M_room_l9 (r9' : MS → Int32 → Option DR) (ms : MS) (x1 : Int32) : Option DR :=
  if (2607 : Int32) ≤ x1 then
    sA ms 15 (1 : Int32) (8 : Int32) fun m4 =>
    zP m4 25 (0 : Int32) fun m5 =>
    itr (d_M_room_l44) (fun _ _ => none) FU m5 (0 : Int32)
  else
    sA ms 15 x1 (0 : Int32) fun m9 =>
    r9' m9 (x1 + (1 : Int32))
theorem r_M_room_l9 {g : Nat → Nat} {this : Nat} {r9 : PH → Nat → Int32 → Option RH} {r9' : MS → Int32 → Option DR} (hr9 : ∀ {ms : MS} {h : PH} (_ : MRep g this ms h) (x1 : Int32), RM g this h (r9 h this x1) (r9' ms x1)) {ms : MS} {h : PH} (hm : MRep g this ms h) (x1 : Int32) : RM g this h (c_M_room_l9 r9 h this x1) (d_M_room_l9 r9' ms x1) := by
  unfold c_M_room_l9 d_M_room_l9
  refine n_if ?_ ?_
  · refine n_gQ (k := 15) hm (by decide) (by decide) ?_
    refine n_nn ?_
    refine n_stI (k := 15) hm (by decide) (fun h4 m4 q4 => ?_)
    refine n_pZ q4 (by decide) (by decide) (by decide) (fun h5 m5 q5 => ?_)
    exact u_M_room_l44 FU q5 (0 : Int32)
  · refine n_gQ (k := 15) hm (by decide) (by decide) ?_
    refine n_nn ?_
    refine n_stI (k := 15) hm (by decide) (fun h9 m9 q9 => ?_)
    exact hr9 q9 (x1 + (1 : Int32))
theorem u_M_room_l9 {g : Nat → Nat} {this : Nat} : ∀ (n : Nat) {ms : MS} {h : PH} (_ : MRep g this ms h) (x1 : Int32), RM g this h (itr (c_M_room_l9) (fun _ _ _ => none) n h this x1) (itr (d_M_room_l9) (fun _ _ => none) n ms x1)
  | 0 => fun _ _ => n_none
  | n + 1 => fun hm x1 => r_M_room_l9 (u_M_room_l9 n) hm x1
def d_M_room (ms : MS) : Option DR :=
  bV (d_M_begin ms (900 : Int32)) fun m1 =>
  itr (d_M_room_l9) (fun _ _ => none) FU m1 (0 : Int32)
theorem r_M_room {g : Nat → Nat} {this : Nat} {ms : MS} {h : PH} (hm : MRep g this ms h) : RM g this h (c_M_room h this) (d_M_room ms) := by
  unfold c_M_room d_M_room
  refine n_grd hm ?_
  refine n_hV (r_M_begin hm (900 : Int32)) (fun h1 m1 q1 => ?_)
  exact u_M_room_l9 FU q1 (0 : Int32)
def d_M_fault (ms : MS) : Option DR :=
  nm (mset ms 0 0 (0 : Int32)) fun m1 =>
  nm (m1.1 10 0) fun v2 =>
  dI v2 m1
theorem r_M_fault {g : Nat → Nat} {this : Nat} {ms : MS} {h : PH} (hm : MRep g this ms h) : RM g this h (c_M_fault h this) (d_M_fault ms) := by
  unfold c_M_fault d_M_fault
  refine n_grd hm ?_
  refine n_pI hm (by decide) (by decide) (by decide) (fun h1 m1 q1 => ?_)
  refine n_gI q1 (by decide) (by decide) (by decide) (fun v2 => ?_)
  exact n_rI q1
def d_M_isRow (ms : MS) (x1 : Int32) : Option DR :=
  eA ms 14 (0 : Int32) fun v4 =>
  bI (d_M_isIn ms x1 (0 : Int32) (v4 - (1 : Int32))) fun v6 m5 =>
  dZ v6 m5
theorem r_M_isRow {g : Nat → Nat} {this : Nat} {ms : MS} {h : PH} (hm : MRep g this ms h) (x1 : Int32) : RM g this h (c_M_isRow h this x1) (d_M_isRow ms x1) := by
  unfold c_M_isRow d_M_isRow
  refine n_grd hm ?_
  refine n_gQ (k := 14) hm (by decide) (by decide) ?_
  refine n_nn ?_
  refine n_ldI (k := 14) hm (by decide) (fun v4 => ?_)
  refine n_hI (r_M_isIn hm x1 (0 : Int32) (v4 - (1 : Int32))) (fun v6 h5 m5 q5 => ?_)
  exact n_rZ q5
def d_M_size (ms : MS) (x1 : Int32) : Option DR :=
  nm (mset ms 0 0 (0 : Int32)) fun m1 =>
  bI (d_M_isRow m1 x1) fun v3 m2 =>
  if v3 = 0 then
    dI (-1 : Int32) m2
  else
    bI (d_M_sizeOf m2 x1) fun v5 m4 =>
    dI v5 m4
theorem r_M_size {g : Nat → Nat} {this : Nat} {ms : MS} {h : PH} (hm : MRep g this ms h) (x1 : Int32) : RM g this h (c_M_size h this x1) (d_M_size ms x1) := by
  unfold c_M_size d_M_size
  refine n_grd hm ?_
  refine n_pI hm (by decide) (by decide) (by decide) (fun h1 m1 q1 => ?_)
  refine n_hI (r_M_isRow q1 x1) (fun v3 h2 m2 q2 => ?_)
  refine n_if ?_ ?_
  · exact n_rI q2
  · refine n_hI (r_M_sizeOf q2 x1) (fun v5 h4 m4 q4 => ?_)
    exact n_rI q4
def d_M_isThere (ms : MS) (x1 : Int32) (x2 : Int32) : Option DR :=
  bI (d_M_sizeOf ms x1) fun v2 m1 =>
  bI (d_M_isIn m1 x2 (0 : Int32) (v2 - (1 : Int32))) fun v4 m3 =>
  dZ v4 m3
theorem r_M_isThere {g : Nat → Nat} {this : Nat} {ms : MS} {h : PH} (hm : MRep g this ms h) (x1 : Int32) (x2 : Int32) : RM g this h (c_M_isThere h this x1 x2) (d_M_isThere ms x1 x2) := by
  unfold c_M_isThere d_M_isThere
  refine n_grd hm ?_
  refine n_hI (r_M_sizeOf hm x1) (fun v2 h1 m1 q1 => ?_)
  refine n_hI (r_M_isIn q1 x2 (0 : Int32) (v2 - (1 : Int32))) (fun v4 h3 m3 q3 => ?_)
  exact n_rZ q3
def d_M_bitOf (ms : MS) (x1 : Int32) (x2 : Int32) : Option DR :=
  eA ms 14 (((3420 : Int32) + ((600 : Int32) * x1)) + x2) fun v4 =>
  dI v4 ms
theorem r_M_bitOf {g : Nat → Nat} {this : Nat} {ms : MS} {h : PH} (hm : MRep g this ms h) (x1 : Int32) (x2 : Int32) : RM g this h (c_M_bitOf h this x1 x2) (d_M_bitOf ms x1 x2) := by
  unfold c_M_bitOf d_M_bitOf
  refine n_grd hm ?_
  refine n_gQ (k := 14) hm (by decide) (by decide) ?_
  refine n_nn ?_
  refine n_ldI (k := 14) hm (by decide) (fun v4 => ?_)
  exact n_rI hm
def d_M_bit (ms : MS) (x1 : Int32) (x2 : Int32) : Option DR :=
  nm (mset ms 0 0 (0 : Int32)) fun m1 =>
  bI (d_M_isRow m1 x1) fun v3 m2 =>
  if v3 = 0 then
    dI (-1 : Int32) m2
  else
    bI (d_M_isThere m2 x1 x2) fun v5 m4 =>
    if v5 = 0 then
      dI (-1 : Int32) m4
    else
      bI (d_M_bitOf m4 x1 x2) fun v7 m6 =>
      dI v7 m6
theorem r_M_bit {g : Nat → Nat} {this : Nat} {ms : MS} {h : PH} (hm : MRep g this ms h) (x1 : Int32) (x2 : Int32) : RM g this h (c_M_bit h this x1 x2) (d_M_bit ms x1 x2) := by
  unfold c_M_bit d_M_bit
  refine n_grd hm ?_
  refine n_pI hm (by decide) (by decide) (by decide) (fun h1 m1 q1 => ?_)
  refine n_hI (r_M_isRow q1 x1) (fun v3 h2 m2 q2 => ?_)
  refine n_if ?_ ?_
  · exact n_rI q2
  · refine n_hI (r_M_isThere q2 x1 x2) (fun v5 h4 m4 q4 => ?_)
    refine n_if ?_ ?_
    · exact n_rI q4
    · refine n_hI (r_M_bitOf q4 x1 x2) (fun v7 h6 m6 q6 => ?_)
      exact n_rI q6
def d_M_isBit (ms : MS) (x1 : Int32) : Option DR :=
  bI (d_M_isIn ms x1 (0 : Int32) (1 : Int32)) fun v2 m1 =>
  dZ v2 m1
theorem r_M_isBit {g : Nat → Nat} {this : Nat} {ms : MS} {h : PH} (hm : MRep g this ms h) (x1 : Int32) : RM g this h (c_M_isBit h this x1) (d_M_isBit ms x1) := by
  unfold c_M_isBit d_M_isBit
  refine n_grd hm ?_
  refine n_hI (r_M_isIn hm x1 (0 : Int32) (1 : Int32)) (fun v2 h1 m1 q1 => ?_)
  exact n_rZ q1
def d_M_onesIn_l6 (r6' : MS → Int32 → Int32 → Int32 → Int32 → Option DR) (ms : MS) (x1 : Int32) (x3 : Int32) (x4 : Int32) (x5 : Int32) : Option DR :=
  if x3 ≤ x5 then
    dI x4 ms
  else
    bI (d_M_bitOf ms x1 x5) fun v2 m1 =>
    nm (x4 + v2) fun y3 =>
    r6' m1 x1 x3 y3 (x5 + (1 : Int32))
theorem r_M_onesIn_l6 {g : Nat → Nat} {this : Nat} {r6 : PH → Nat → Int32 → Int32 → Int32 → Int32 → Option RH} {r6' : MS → Int32 → Int32 → Int32 → Int32 → Option DR} (hr6 : ∀ {ms : MS} {h : PH} (_ : MRep g this ms h) (x1 : Int32) (x3 : Int32) (x4 : Int32) (x5 : Int32), RM g this h (r6 h this x1 x3 x4 x5) (r6' ms x1 x3 x4 x5)) {ms : MS} {h : PH} (hm : MRep g this ms h) (x1 : Int32) (x3 : Int32) (x4 : Int32) (x5 : Int32) : RM g this h (c_M_onesIn_l6 r6 h this x1 x3 x4 x5) (d_M_onesIn_l6 r6' ms x1 x3 x4 x5) := by
  unfold c_M_onesIn_l6 d_M_onesIn_l6
  refine n_if ?_ ?_
  · exact n_rI hm
  · refine n_hI (r_M_bitOf hm x1 x5) (fun v2 h1 m1 q1 => ?_)
    refine n_nm (fun y3 => ?_)
    exact hr6 q1 x1 x3 y3 (x5 + (1 : Int32))
theorem u_M_onesIn_l6 {g : Nat → Nat} {this : Nat} : ∀ (n : Nat) {ms : MS} {h : PH} (_ : MRep g this ms h) (x1 : Int32) (x3 : Int32) (x4 : Int32) (x5 : Int32), RM g this h (itr (c_M_onesIn_l6) (fun _ _ _ _ _ _ => none) n h this x1 x3 x4 x5) (itr (d_M_onesIn_l6) (fun _ _ _ _ _ => none) n ms x1 x3 x4 x5)
  | 0 => fun _ _ _ _ _ => n_none
  | n + 1 => fun hm x1 x3 x4 x5 => r_M_onesIn_l6 (u_M_onesIn_l6 n) hm x1 x3 x4 x5
def d_M_onesIn (ms : MS) (x1 : Int32) (x2 : Int32) (x3 : Int32) : Option DR :=
  itr (d_M_onesIn_l6) (fun _ _ _ _ _ => none) FU ms x1 x3 (0 : Int32) x2
theorem r_M_onesIn {g : Nat → Nat} {this : Nat} {ms : MS} {h : PH} (hm : MRep g this ms h) (x1 : Int32) (x2 : Int32) (x3 : Int32) : RM g this h (c_M_onesIn h this x1 x2 x3) (d_M_onesIn ms x1 x2 x3) := by
  unfold c_M_onesIn d_M_onesIn
  refine n_grd hm ?_
  exact u_M_onesIn_l6 FU hm x1 x3 (0 : Int32) x2
def d_M_rank (ms : MS) (x1 : Int32) (x2 : Int32) (x3 : Int32) : Option DR :=
  nm (mset ms 0 0 (0 : Int32)) fun m1 =>
  bI (d_M_isRow m1 x1) fun v3 m2 =>
  if v3 = 0 then
    dI (-1 : Int32) m2
  else
    bI (d_M_isBit m2 x3) fun v5 m4 =>
    if v5 = 0 then
      dI (-1 : Int32) m4
    else
      bI (d_M_sizeOf m4 x1) fun v7 m6 =>
      bI (d_M_isIn m6 x2 (0 : Int32) v7) fun v9 m8 =>
      if v9 = 0 then
        dI (-1 : Int32) m8
      else
        bI (d_M_onesIn m8 x1 (0 : Int32) x2) fun v11 m10 =>
        if x3 = (1 : Int32) then
          dI v11 m10
        else
          dI (x2 - v11) m10
theorem r_M_rank {g : Nat → Nat} {this : Nat} {ms : MS} {h : PH} (hm : MRep g this ms h) (x1 : Int32) (x2 : Int32) (x3 : Int32) : RM g this h (c_M_rank h this x1 x2 x3) (d_M_rank ms x1 x2 x3) := by
  unfold c_M_rank d_M_rank
  refine n_grd hm ?_
  refine n_pI hm (by decide) (by decide) (by decide) (fun h1 m1 q1 => ?_)
  refine n_hI (r_M_isRow q1 x1) (fun v3 h2 m2 q2 => ?_)
  refine n_if ?_ ?_
  · exact n_rI q2
  · refine n_hI (r_M_isBit q2 x3) (fun v5 h4 m4 q4 => ?_)
    refine n_if ?_ ?_
    · exact n_rI q4
    · refine n_hI (r_M_sizeOf q4 x1) (fun v7 h6 m6 q6 => ?_)
      refine n_hI (r_M_isIn q6 x2 (0 : Int32) v7) (fun v9 h8 m8 q8 => ?_)
      refine n_if ?_ ?_
      · exact n_rI q8
      · refine n_hI (r_M_onesIn q8 x1 (0 : Int32) x2) (fun v11 h10 m10 q10 => ?_)
        refine n_if ?_ ?_
        · exact n_rI q10
        · exact n_rI q10
def d_M_select_l33 (r33' : MS → Int32 → Int32 → Int32 → Int32 → Int32 → Option DR) (ms : MS) (x1 : Int32) (x2 : Int32) (x3 : Int32) (x4 : Int32) (x5 : Int32) : Option DR :=
  bI (d_M_sizeOf ms x1) fun v2 m1 =>
  if v2 ≤ x5 then
    dI (-1 : Int32) m1
  else
    bI (d_M_bitOf m1 x1 x5) fun v4 m3 =>
    if v4 = x3 then
      if x4 = x2 then
        dI x5 m3
      else
        r33' m3 x1 x2 x3 (x4 + (1 : Int32)) (x5 + (1 : Int32))
    else
      r33' m3 x1 x2 x3 x4 (x5 + (1 : Int32))
theorem r_M_select_l33 {g : Nat → Nat} {this : Nat} {r33 : PH → Nat → Int32 → Int32 → Int32 → Int32 → Int32 → Option RH} {r33' : MS → Int32 → Int32 → Int32 → Int32 → Int32 → Option DR} (hr33 : ∀ {ms : MS} {h : PH} (_ : MRep g this ms h) (x1 : Int32) (x2 : Int32) (x3 : Int32) (x4 : Int32) (x5 : Int32), RM g this h (r33 h this x1 x2 x3 x4 x5) (r33' ms x1 x2 x3 x4 x5)) {ms : MS} {h : PH} (hm : MRep g this ms h) (x1 : Int32) (x2 : Int32) (x3 : Int32) (x4 : Int32) (x5 : Int32) : RM g this h (c_M_select_l33 r33 h this x1 x2 x3 x4 x5) (d_M_select_l33 r33' ms x1 x2 x3 x4 x5) := by
  unfold c_M_select_l33 d_M_select_l33
  refine n_hI (r_M_sizeOf hm x1) (fun v2 h1 m1 q1 => ?_)
  refine n_if ?_ ?_
  · exact n_rI q1
  · refine n_hI (r_M_bitOf q1 x1 x5) (fun v4 h3 m3 q3 => ?_)
    refine n_if ?_ ?_
    · refine n_if ?_ ?_
      · exact n_rI q3
      · exact hr33 q3 x1 x2 x3 (x4 + (1 : Int32)) (x5 + (1 : Int32))
    · exact hr33 q3 x1 x2 x3 x4 (x5 + (1 : Int32))
theorem u_M_select_l33 {g : Nat → Nat} {this : Nat} : ∀ (n : Nat) {ms : MS} {h : PH} (_ : MRep g this ms h) (x1 : Int32) (x2 : Int32) (x3 : Int32) (x4 : Int32) (x5 : Int32), RM g this h (itr (c_M_select_l33) (fun _ _ _ _ _ _ _ => none) n h this x1 x2 x3 x4 x5) (itr (d_M_select_l33) (fun _ _ _ _ _ _ => none) n ms x1 x2 x3 x4 x5)
  | 0 => fun _ _ _ _ _ _ => n_none
  | n + 1 => fun hm x1 x2 x3 x4 x5 => r_M_select_l33 (u_M_select_l33 n) hm x1 x2 x3 x4 x5
def d_M_select (ms : MS) (x1 : Int32) (x2 : Int32) (x3 : Int32) : Option DR :=
  nm (mset ms 0 0 (0 : Int32)) fun m1 =>
  bI (d_M_isRow m1 x1) fun v3 m2 =>
  if v3 = 0 then
    dI (-1 : Int32) m2
  else
    bI (d_M_isBit m2 x3) fun v5 m4 =>
    if v5 = 0 then
      dI (-1 : Int32) m4
    else
      if 0 ≤ x2 then
        itr (d_M_select_l33) (fun _ _ _ _ _ _ => none) FU m4 x1 x2 x3 (0 : Int32) (0 : Int32)
      else
        dI (-1 : Int32) m4
theorem r_M_select {g : Nat → Nat} {this : Nat} {ms : MS} {h : PH} (hm : MRep g this ms h) (x1 : Int32) (x2 : Int32) (x3 : Int32) : RM g this h (c_M_select h this x1 x2 x3) (d_M_select ms x1 x2 x3) := by
  unfold c_M_select d_M_select
  refine n_grd hm ?_
  refine n_pI hm (by decide) (by decide) (by decide) (fun h1 m1 q1 => ?_)
  refine n_hI (r_M_isRow q1 x1) (fun v3 h2 m2 q2 => ?_)
  refine n_if ?_ ?_
  · exact n_rI q2
  · refine n_hI (r_M_isBit q2 x3) (fun v5 h4 m4 q4 => ?_)
    refine n_if ?_ ?_
    · exact n_rI q4
    · refine n_if ?_ ?_
      · exact u_M_select_l33 FU q4 x1 x2 x3 (0 : Int32) (0 : Int32)
      · exact n_rI q4
def d_M_find_l30 (r30' : MS → Int32 → Int32 → Int32 → Option DR) (ms : MS) (x1 : Int32) (x3 : Int32) (x4 : Int32) : Option DR :=
  bI (d_M_sizeOf ms x1) fun v2 m1 =>
  if v2 ≤ x4 then
    dI (-1 : Int32) m1
  else
    bI (d_M_bitOf m1 x1 x4) fun v4 m3 =>
    if v4 = x3 then
      dI x4 m3
    else
      r30' m3 x1 x3 (x4 + (1 : Int32))
theorem r_M_find_l30 {g : Nat → Nat} {this : Nat} {r30 : PH → Nat → Int32 → Int32 → Int32 → Option RH} {r30' : MS → Int32 → Int32 → Int32 → Option DR} (hr30 : ∀ {ms : MS} {h : PH} (_ : MRep g this ms h) (x1 : Int32) (x3 : Int32) (x4 : Int32), RM g this h (r30 h this x1 x3 x4) (r30' ms x1 x3 x4)) {ms : MS} {h : PH} (hm : MRep g this ms h) (x1 : Int32) (x3 : Int32) (x4 : Int32) : RM g this h (c_M_find_l30 r30 h this x1 x3 x4) (d_M_find_l30 r30' ms x1 x3 x4) := by
  unfold c_M_find_l30 d_M_find_l30
  refine n_hI (r_M_sizeOf hm x1) (fun v2 h1 m1 q1 => ?_)
  refine n_if ?_ ?_
  · exact n_rI q1
  · refine n_hI (r_M_bitOf q1 x1 x4) (fun v4 h3 m3 q3 => ?_)
    refine n_if ?_ ?_
    · exact n_rI q3
    · exact hr30 q3 x1 x3 (x4 + (1 : Int32))
theorem u_M_find_l30 {g : Nat → Nat} {this : Nat} : ∀ (n : Nat) {ms : MS} {h : PH} (_ : MRep g this ms h) (x1 : Int32) (x3 : Int32) (x4 : Int32), RM g this h (itr (c_M_find_l30) (fun _ _ _ _ _ => none) n h this x1 x3 x4) (itr (d_M_find_l30) (fun _ _ _ _ => none) n ms x1 x3 x4)
  | 0 => fun _ _ _ _ => n_none
  | n + 1 => fun hm x1 x3 x4 => r_M_find_l30 (u_M_find_l30 n) hm x1 x3 x4
def d_M_find (ms : MS) (x1 : Int32) (x2 : Int32) (x3 : Int32) : Option DR :=
  nm (mset ms 0 0 (0 : Int32)) fun m1 =>
  bI (d_M_isRow m1 x1) fun v3 m2 =>
  if v3 = 0 then
    dI (-1 : Int32) m2
  else
    bI (d_M_isBit m2 x3) fun v5 m4 =>
    if v5 = 0 then
      dI (-1 : Int32) m4
    else
      if 0 ≤ x2 then
        itr (d_M_find_l30) (fun _ _ _ _ => none) FU m4 x1 x3 x2
      else
        dI (-1 : Int32) m4
theorem r_M_find {g : Nat → Nat} {this : Nat} {ms : MS} {h : PH} (hm : MRep g this ms h) (x1 : Int32) (x2 : Int32) (x3 : Int32) : RM g this h (c_M_find h this x1 x2 x3) (d_M_find ms x1 x2 x3) := by
  unfold c_M_find d_M_find
  refine n_grd hm ?_
  refine n_pI hm (by decide) (by decide) (by decide) (fun h1 m1 q1 => ?_)
  refine n_hI (r_M_isRow q1 x1) (fun v3 h2 m2 q2 => ?_)
  refine n_if ?_ ?_
  · exact n_rI q2
  · refine n_hI (r_M_isBit q2 x3) (fun v5 h4 m4 q4 => ?_)
    refine n_if ?_ ?_
    · exact n_rI q4
    · refine n_if ?_ ?_
      · exact u_M_find_l30 FU q4 x1 x3 x2
      · exact n_rI q4
def d_M_runsOf_l4 (r4' : MS → Int32 → Int32 → Int32 → Option DR) (ms : MS) (x1 : Int32) (x2 : Int32) (x3 : Int32) : Option DR :=
  bI (d_M_sizeOf ms x1) fun v2 m1 =>
  if v2 ≤ x3 then
    dI x2 m1
  else
    if x3 = 0 then
      r4' m1 x1 (x2 + (1 : Int32)) (x3 + (1 : Int32))
    else
      bI (d_M_bitOf m1 x1 x3) fun v4 m3 =>
      bI (d_M_bitOf m3 x1 (x3 - (1 : Int32))) fun v6 m5 =>
      if v4 = v6 then
        r4' m5 x1 x2 (x3 + (1 : Int32))
      else
        r4' m5 x1 (x2 + (1 : Int32)) (x3 + (1 : Int32))
theorem r_M_runsOf_l4 {g : Nat → Nat} {this : Nat} {r4 : PH → Nat → Int32 → Int32 → Int32 → Option RH} {r4' : MS → Int32 → Int32 → Int32 → Option DR} (hr4 : ∀ {ms : MS} {h : PH} (_ : MRep g this ms h) (x1 : Int32) (x2 : Int32) (x3 : Int32), RM g this h (r4 h this x1 x2 x3) (r4' ms x1 x2 x3)) {ms : MS} {h : PH} (hm : MRep g this ms h) (x1 : Int32) (x2 : Int32) (x3 : Int32) : RM g this h (c_M_runsOf_l4 r4 h this x1 x2 x3) (d_M_runsOf_l4 r4' ms x1 x2 x3) := by
  unfold c_M_runsOf_l4 d_M_runsOf_l4
  refine n_hI (r_M_sizeOf hm x1) (fun v2 h1 m1 q1 => ?_)
  refine n_if ?_ ?_
  · exact n_rI q1
  · refine n_if ?_ ?_
    · exact hr4 q1 x1 (x2 + (1 : Int32)) (x3 + (1 : Int32))
    · refine n_hI (r_M_bitOf q1 x1 x3) (fun v4 h3 m3 q3 => ?_)
      refine n_hI (r_M_bitOf q3 x1 (x3 - (1 : Int32))) (fun v6 h5 m5 q5 => ?_)
      refine n_if ?_ ?_
      · exact hr4 q5 x1 x2 (x3 + (1 : Int32))
      · exact hr4 q5 x1 (x2 + (1 : Int32)) (x3 + (1 : Int32))
theorem u_M_runsOf_l4 {g : Nat → Nat} {this : Nat} : ∀ (n : Nat) {ms : MS} {h : PH} (_ : MRep g this ms h) (x1 : Int32) (x2 : Int32) (x3 : Int32), RM g this h (itr (c_M_runsOf_l4) (fun _ _ _ _ _ => none) n h this x1 x2 x3) (itr (d_M_runsOf_l4) (fun _ _ _ _ => none) n ms x1 x2 x3)
  | 0 => fun _ _ _ _ => n_none
  | n + 1 => fun hm x1 x2 x3 => r_M_runsOf_l4 (u_M_runsOf_l4 n) hm x1 x2 x3
def d_M_runsOf (ms : MS) (x1 : Int32) : Option DR :=
  itr (d_M_runsOf_l4) (fun _ _ _ _ => none) FU ms x1 (0 : Int32) (0 : Int32)
theorem r_M_runsOf {g : Nat → Nat} {this : Nat} {ms : MS} {h : PH} (hm : MRep g this ms h) (x1 : Int32) : RM g this h (c_M_runsOf h this x1) (d_M_runsOf ms x1) := by
  unfold c_M_runsOf d_M_runsOf
  refine n_grd hm ?_
  exact u_M_runsOf_l4 FU hm x1 (0 : Int32) (0 : Int32)
def d_M_runs (ms : MS) (x1 : Int32) : Option DR :=
  nm (mset ms 0 0 (0 : Int32)) fun m1 =>
  bI (d_M_isRow m1 x1) fun v3 m2 =>
  if v3 = 0 then
    dI (-1 : Int32) m2
  else
    bI (d_M_runsOf m2 x1) fun v5 m4 =>
    dI v5 m4
theorem r_M_runs {g : Nat → Nat} {this : Nat} {ms : MS} {h : PH} (hm : MRep g this ms h) (x1 : Int32) : RM g this h (c_M_runs h this x1) (d_M_runs ms x1) := by
  unfold c_M_runs d_M_runs
  refine n_grd hm ?_
  refine n_pI hm (by decide) (by decide) (by decide) (fun h1 m1 q1 => ?_)
  refine n_hI (r_M_isRow q1 x1) (fun v3 h2 m2 q2 => ?_)
  refine n_if ?_ ?_
  · exact n_rI q2
  · refine n_hI (r_M_runsOf q2 x1) (fun v5 h4 m4 q4 => ?_)
    exact n_rI q4
def d_M_longest_j60 (r31' : MS → Int32 → Int32 → Int32 → Int32 → Int32 → Option DR) (ms : MS) (x1 : Int32) (x2 : Int32) (x3 : Int32) (x5 : Int32) (s0 : Int32) : Option DR :=
  if s0 ≤ x3 then
    r31' ms x1 x2 x3 s0 (x5 + (1 : Int32))
  else
    r31' ms x1 x2 s0 s0 (x5 + (1 : Int32))
theorem r_M_longest_j60 {g : Nat → Nat} {this : Nat} {r31 : PH → Nat → Int32 → Int32 → Int32 → Int32 → Int32 → Option RH} {r31' : MS → Int32 → Int32 → Int32 → Int32 → Int32 → Option DR} (hr31 : ∀ {ms : MS} {h : PH} (_ : MRep g this ms h) (x1 : Int32) (x2 : Int32) (x3 : Int32) (x4 : Int32) (x5 : Int32), RM g this h (r31 h this x1 x2 x3 x4 x5) (r31' ms x1 x2 x3 x4 x5)) {ms : MS} {h : PH} (hm : MRep g this ms h) (x1 : Int32) (x2 : Int32) (x3 : Int32) (x5 : Int32) (s0 : Int32) : RM g this h (c_M_longest_j60 r31 h this x1 x2 x3 x5 s0) (d_M_longest_j60 r31' ms x1 x2 x3 x5 s0) := by
  unfold c_M_longest_j60 d_M_longest_j60
  refine n_if ?_ ?_
  · exact hr31 hm x1 x2 x3 s0 (x5 + (1 : Int32))
  · exact hr31 hm x1 x2 s0 s0 (x5 + (1 : Int32))
def d_M_longest_l31 (r31' : MS → Int32 → Int32 → Int32 → Int32 → Int32 → Option DR) (ms : MS) (x1 : Int32) (x2 : Int32) (x3 : Int32) (x4 : Int32) (x5 : Int32) : Option DR :=
  bI (d_M_sizeOf ms x1) fun v2 m1 =>
  if v2 ≤ x5 then
    dI x3 m1
  else
    bI (d_M_bitOf m1 x1 x5) fun v4 m3 =>
    if v4 = x2 then
      d_M_longest_j60 r31' m3 x1 x2 x3 x5 (x4 + (1 : Int32))
    else
      d_M_longest_j60 r31' m3 x1 x2 x3 x5 (0 : Int32)
theorem r_M_longest_l31 {g : Nat → Nat} {this : Nat} {r31 : PH → Nat → Int32 → Int32 → Int32 → Int32 → Int32 → Option RH} {r31' : MS → Int32 → Int32 → Int32 → Int32 → Int32 → Option DR} (hr31 : ∀ {ms : MS} {h : PH} (_ : MRep g this ms h) (x1 : Int32) (x2 : Int32) (x3 : Int32) (x4 : Int32) (x5 : Int32), RM g this h (r31 h this x1 x2 x3 x4 x5) (r31' ms x1 x2 x3 x4 x5)) {ms : MS} {h : PH} (hm : MRep g this ms h) (x1 : Int32) (x2 : Int32) (x3 : Int32) (x4 : Int32) (x5 : Int32) : RM g this h (c_M_longest_l31 r31 h this x1 x2 x3 x4 x5) (d_M_longest_l31 r31' ms x1 x2 x3 x4 x5) := by
  unfold c_M_longest_l31 d_M_longest_l31
  refine n_hI (r_M_sizeOf hm x1) (fun v2 h1 m1 q1 => ?_)
  refine n_if ?_ ?_
  · exact n_rI q1
  · refine n_hI (r_M_bitOf q1 x1 x5) (fun v4 h3 m3 q3 => ?_)
    refine n_if ?_ ?_
    · exact (r_M_longest_j60 hr31 q3 x1 x2 x3 x5 (x4 + (1 : Int32)))
    · exact (r_M_longest_j60 hr31 q3 x1 x2 x3 x5 (0 : Int32))
theorem u_M_longest_l31 {g : Nat → Nat} {this : Nat} : ∀ (n : Nat) {ms : MS} {h : PH} (_ : MRep g this ms h) (x1 : Int32) (x2 : Int32) (x3 : Int32) (x4 : Int32) (x5 : Int32), RM g this h (itr (c_M_longest_l31) (fun _ _ _ _ _ _ _ => none) n h this x1 x2 x3 x4 x5) (itr (d_M_longest_l31) (fun _ _ _ _ _ _ => none) n ms x1 x2 x3 x4 x5)
  | 0 => fun _ _ _ _ _ _ => n_none
  | n + 1 => fun hm x1 x2 x3 x4 x5 => r_M_longest_l31 (u_M_longest_l31 n) hm x1 x2 x3 x4 x5
def d_M_longest (ms : MS) (x1 : Int32) (x2 : Int32) : Option DR :=
  nm (mset ms 0 0 (0 : Int32)) fun m1 =>
  bI (d_M_isRow m1 x1) fun v3 m2 =>
  if v3 = 0 then
    dI (-1 : Int32) m2
  else
    bI (d_M_isBit m2 x2) fun v5 m4 =>
    if v5 = 0 then
      dI (-1 : Int32) m4
    else
      itr (d_M_longest_l31) (fun _ _ _ _ _ _ => none) FU m4 x1 x2 (0 : Int32) (0 : Int32) (0 : Int32)
theorem r_M_longest {g : Nat → Nat} {this : Nat} {ms : MS} {h : PH} (hm : MRep g this ms h) (x1 : Int32) (x2 : Int32) : RM g this h (c_M_longest h this x1 x2) (d_M_longest ms x1 x2) := by
  unfold c_M_longest d_M_longest
  refine n_grd hm ?_
  refine n_pI hm (by decide) (by decide) (by decide) (fun h1 m1 q1 => ?_)
  refine n_hI (r_M_isRow q1 x1) (fun v3 h2 m2 q2 => ?_)
  refine n_if ?_ ?_
  · exact n_rI q2
  · refine n_hI (r_M_isBit q2 x2) (fun v5 h4 m4 q4 => ?_)
    refine n_if ?_ ?_
    · exact n_rI q4
    · exact u_M_longest_l31 FU q4 x1 x2 (0 : Int32) (0 : Int32) (0 : Int32)
def d_M_refuse (ms : MS) : Option DR :=
  nm (mset ms 0 0 (1 : Int32)) fun m1 =>
  dI (0 : Int32) m1
theorem r_M_refuse {g : Nat → Nat} {this : Nat} {ms : MS} {h : PH} (hm : MRep g this ms h) : RM g this h (c_M_refuse h this) (d_M_refuse ms) := by
  unfold c_M_refuse d_M_refuse
  refine n_grd hm ?_
  refine n_pI hm (by decide) (by decide) (by decide) (fun h1 m1 q1 => ?_)
  exact n_rI q1
def d_M_word_l36 (r36' : MS → Int32 → Int32 → Int32 → Int32 → Option DR) (ms : MS) (x1 : Int32) (x2 : Int32) (x3 : Int32) (x4 : Int32) : Option DR :=
  if (x2 + (32 : Int32)) ≤ x4 then
    dI x3 ms
  else
    bI (d_M_sizeOf ms x1) fun v2 m1 =>
    if v2 ≤ x4 then
      nm ((x3 <<< ((1 : Int32) &&& 31)) ||| (0 : Int32)) fun y3 =>
      r36' m1 x1 x2 y3 (x4 + (1 : Int32))
    else
      bI (d_M_bitOf m1 x1 x4) fun v5 m4 =>
      nm ((x3 <<< ((1 : Int32) &&& 31)) ||| v5) fun y6 =>
      r36' m4 x1 x2 y6 (x4 + (1 : Int32))
theorem r_M_word_l36 {g : Nat → Nat} {this : Nat} {r36 : PH → Nat → Int32 → Int32 → Int32 → Int32 → Option RH} {r36' : MS → Int32 → Int32 → Int32 → Int32 → Option DR} (hr36 : ∀ {ms : MS} {h : PH} (_ : MRep g this ms h) (x1 : Int32) (x2 : Int32) (x3 : Int32) (x4 : Int32), RM g this h (r36 h this x1 x2 x3 x4) (r36' ms x1 x2 x3 x4)) {ms : MS} {h : PH} (hm : MRep g this ms h) (x1 : Int32) (x2 : Int32) (x3 : Int32) (x4 : Int32) : RM g this h (c_M_word_l36 r36 h this x1 x2 x3 x4) (d_M_word_l36 r36' ms x1 x2 x3 x4) := by
  unfold c_M_word_l36 d_M_word_l36
  refine n_if ?_ ?_
  · exact n_rI hm
  · refine n_hI (r_M_sizeOf hm x1) (fun v2 h1 m1 q1 => ?_)
    refine n_if ?_ ?_
    · refine n_nm (fun y3 => ?_)
      exact hr36 q1 x1 x2 y3 (x4 + (1 : Int32))
    · refine n_hI (r_M_bitOf q1 x1 x4) (fun v5 h4 m4 q4 => ?_)
      refine n_nm (fun y6 => ?_)
      exact hr36 q4 x1 x2 y6 (x4 + (1 : Int32))
theorem u_M_word_l36 {g : Nat → Nat} {this : Nat} : ∀ (n : Nat) {ms : MS} {h : PH} (_ : MRep g this ms h) (x1 : Int32) (x2 : Int32) (x3 : Int32) (x4 : Int32), RM g this h (itr (c_M_word_l36) (fun _ _ _ _ _ _ => none) n h this x1 x2 x3 x4) (itr (d_M_word_l36) (fun _ _ _ _ _ => none) n ms x1 x2 x3 x4)
  | 0 => fun _ _ _ _ _ => n_none
  | n + 1 => fun hm x1 x2 x3 x4 => r_M_word_l36 (u_M_word_l36 n) hm x1 x2 x3 x4
def d_M_word (ms : MS) (x1 : Int32) (x2 : Int32) : Option DR :=
  nm (mset ms 0 0 (0 : Int32)) fun m1 =>
  bI (d_M_isRow m1 x1) fun v3 m2 =>
  if v3 = 0 then
    bI (d_M_refuse m2) fun v5 m4 =>
    dI v5 m4
  else
    bI (d_M_sizeOf m2 x1) fun v7 m6 =>
    bI (d_M_isIn m6 x2 (0 : Int32) v7) fun v9 m8 =>
    if v9 = 0 then
      bI (d_M_refuse m8) fun v11 m10 =>
      dI v11 m10
    else
      itr (d_M_word_l36) (fun _ _ _ _ _ => none) FU m8 x1 x2 (0 : Int32) x2
theorem r_M_word {g : Nat → Nat} {this : Nat} {ms : MS} {h : PH} (hm : MRep g this ms h) (x1 : Int32) (x2 : Int32) : RM g this h (c_M_word h this x1 x2) (d_M_word ms x1 x2) := by
  unfold c_M_word d_M_word
  refine n_grd hm ?_
  refine n_pI hm (by decide) (by decide) (by decide) (fun h1 m1 q1 => ?_)
  refine n_hI (r_M_isRow q1 x1) (fun v3 h2 m2 q2 => ?_)
  refine n_if ?_ ?_
  · refine n_hI (r_M_refuse q2) (fun v5 h4 m4 q4 => ?_)
    exact n_rI q4
  · refine n_hI (r_M_sizeOf q2 x1) (fun v7 h6 m6 q6 => ?_)
    refine n_hI (r_M_isIn q6 x2 (0 : Int32) v7) (fun v9 h8 m8 q8 => ?_)
    refine n_if ?_ ?_
    · refine n_hI (r_M_refuse q8) (fun v11 h10 m10 q10 => ?_)
      exact n_rI q10
    · exact u_M_word_l36 FU q8 x1 x2 (0 : Int32) x2
def d_M_leaves (ms : MS) (x1 : Int32) : Option DR :=
  nm (mset ms 0 0 (0 : Int32)) fun m1 =>
  bI (d_M_isRow m1 x1) fun v3 m2 =>
  if v3 = 0 then
    dI (-1 : Int32) m2
  else
    eA m2 14 ((2611 : Int32) + x1) fun v7 =>
    dI v7 m2
theorem r_M_leaves {g : Nat → Nat} {this : Nat} {ms : MS} {h : PH} (hm : MRep g this ms h) (x1 : Int32) : RM g this h (c_M_leaves h this x1) (d_M_leaves ms x1) := by
  unfold c_M_leaves d_M_leaves
  refine n_grd hm ?_
  refine n_pI hm (by decide) (by decide) (by decide) (fun h1 m1 q1 => ?_)
  refine n_hI (r_M_isRow q1 x1) (fun v3 h2 m2 q2 => ?_)
  refine n_if ?_ ?_
  · exact n_rI q2
  · refine n_gQ (k := 14) q2 (by decide) (by decide) ?_
    refine n_nn ?_
    refine n_ldI (k := 14) q2 (by decide) (fun v7 => ?_)
    exact n_rI q2
def d_M_leaf_l41 (r41' : MS → Int32 → Int32 → Int32 → Int32 → Int32 → Option DR) (ms : MS) (x1 : Int32) (x2 : Int32) (x3 : Int32) (x4 : Int32) (x5 : Int32) : Option DR :=
  if x2 ≤ x5 then
    bI (d_M_leafAt ms x1 x2) fun v3 m2 =>
    eA m2 14 v3 fun v6 =>
    if x3 = 0 then
      dI v6 m2
    else
      if x3 = 1 then
        bI (d_M_onesIn m2 x1 x4 (x4 + v6)) fun v8 m7 =>
        dI v8 m7
      else
        if x3 = 2 then
          dI x4 m2
        else
          dI (-1 : Int32) m2
  else
    bI (d_M_leafAt ms x1 x5) fun v11 m10 =>
    eA m10 14 v11 fun v14 =>
    nm (x4 + v14) fun y15 =>
    r41' m10 x1 x2 x3 y15 (x5 + (1 : Int32))
theorem r_M_leaf_l41 {g : Nat → Nat} {this : Nat} {r41 : PH → Nat → Int32 → Int32 → Int32 → Int32 → Int32 → Option RH} {r41' : MS → Int32 → Int32 → Int32 → Int32 → Int32 → Option DR} (hr41 : ∀ {ms : MS} {h : PH} (_ : MRep g this ms h) (x1 : Int32) (x2 : Int32) (x3 : Int32) (x4 : Int32) (x5 : Int32), RM g this h (r41 h this x1 x2 x3 x4 x5) (r41' ms x1 x2 x3 x4 x5)) {ms : MS} {h : PH} (hm : MRep g this ms h) (x1 : Int32) (x2 : Int32) (x3 : Int32) (x4 : Int32) (x5 : Int32) : RM g this h (c_M_leaf_l41 r41 h this x1 x2 x3 x4 x5) (d_M_leaf_l41 r41' ms x1 x2 x3 x4 x5) := by
  unfold c_M_leaf_l41 d_M_leaf_l41
  refine n_if ?_ ?_
  · refine n_gQ (k := 14) hm (by decide) (by decide) ?_
    refine n_hI (r_M_leafAt hm x1 x2) (fun v3 h2 m2 q2 => ?_)
    refine n_nn ?_
    refine n_ldI (k := 14) q2 (by decide) (fun v6 => ?_)
    refine n_if ?_ ?_
    · exact n_rI q2
    · refine n_if ?_ ?_
      · refine n_hI (r_M_onesIn q2 x1 x4 (x4 + v6)) (fun v8 h7 m7 q7 => ?_)
        exact n_rI q7
      · refine n_if ?_ ?_
        · exact n_rI q2
        · exact n_rI q2
  · refine n_gQ (k := 14) hm (by decide) (by decide) ?_
    refine n_hI (r_M_leafAt hm x1 x5) (fun v11 h10 m10 q10 => ?_)
    refine n_nn ?_
    refine n_ldI (k := 14) q10 (by decide) (fun v14 => ?_)
    refine n_nm (fun y15 => ?_)
    exact hr41 q10 x1 x2 x3 y15 (x5 + (1 : Int32))
theorem u_M_leaf_l41 {g : Nat → Nat} {this : Nat} : ∀ (n : Nat) {ms : MS} {h : PH} (_ : MRep g this ms h) (x1 : Int32) (x2 : Int32) (x3 : Int32) (x4 : Int32) (x5 : Int32), RM g this h (itr (c_M_leaf_l41) (fun _ _ _ _ _ _ _ => none) n h this x1 x2 x3 x4 x5) (itr (d_M_leaf_l41) (fun _ _ _ _ _ _ => none) n ms x1 x2 x3 x4 x5)
  | 0 => fun _ _ _ _ _ _ => n_none
  | n + 1 => fun hm x1 x2 x3 x4 x5 => r_M_leaf_l41 (u_M_leaf_l41 n) hm x1 x2 x3 x4 x5
def d_M_leaf (ms : MS) (x1 : Int32) (x2 : Int32) (x3 : Int32) : Option DR :=
  nm (mset ms 0 0 (0 : Int32)) fun m1 =>
  bI (d_M_isRow m1 x1) fun v3 m2 =>
  if v3 = 0 then
    dI (-1 : Int32) m2
  else
    eA m2 14 ((2611 : Int32) + x1) fun v7 =>
    bI (d_M_isIn m2 x2 (0 : Int32) (v7 - (1 : Int32))) fun v9 m8 =>
    if v9 = 0 then
      dI (-1 : Int32) m8
    else
      itr (d_M_leaf_l41) (fun _ _ _ _ _ _ => none) FU m8 x1 x2 x3 (0 : Int32) (0 : Int32)
theorem r_M_leaf {g : Nat → Nat} {this : Nat} {ms : MS} {h : PH} (hm : MRep g this ms h) (x1 : Int32) (x2 : Int32) (x3 : Int32) : RM g this h (c_M_leaf h this x1 x2 x3) (d_M_leaf ms x1 x2 x3) := by
  unfold c_M_leaf d_M_leaf
  refine n_grd hm ?_
  refine n_pI hm (by decide) (by decide) (by decide) (fun h1 m1 q1 => ?_)
  refine n_hI (r_M_isRow q1 x1) (fun v3 h2 m2 q2 => ?_)
  refine n_if ?_ ?_
  · exact n_rI q2
  · refine n_gQ (k := 14) q2 (by decide) (by decide) ?_
    refine n_nn ?_
    refine n_ldI (k := 14) q2 (by decide) (fun v7 => ?_)
    refine n_hI (r_M_isIn q2 x2 (0 : Int32) (v7 - (1 : Int32))) (fun v9 h8 m8 q8 => ?_)
    refine n_if ?_ ?_
    · exact n_rI q8
    · exact u_M_leaf_l41 FU q8 x1 x2 x3 (0 : Int32) (0 : Int32)
def e_M_highOf (rg' : MS → Int32 → Option DR) (ms : MS) (x0 : Int32) : Option DR :=
  if (2 : Int32) ≤ x0 then
    nz (2 : Int32) <|
    bI (rg' ms ((x0 + (1 : Int32)) / (2 : Int32))) fun v2 m1 =>
    dI ((1 : Int32) + v2) m1
  else
    dI (0 : Int32) ms
theorem r_b_M_highOf {g : Nat → Nat} {this : Nat} {rg : PH → Int32 → Option RH} {rg' : MS → Int32 → Option DR} (hrg : ∀ {ms : MS} {h : PH} (_ : MRep g this ms h) (y0 : Int32), RM g this h (rg h y0) (rg' ms y0)) {ms : MS} {h : PH} (hm : MRep g this ms h) (x0 : Int32) : RM g this h (b_M_highOf rg h x0) (e_M_highOf rg' ms x0) := by
  unfold b_M_highOf e_M_highOf
  refine n_if ?_ ?_
  · refine n_nz ?_
    refine n_hI (hrg hm ((x0 + (1 : Int32)) / (2 : Int32))) (fun v2 h1 m1 q1 => ?_)
    exact n_rI q1
  · exact n_rI hm
def d_M_highOf : Nat → MS → Int32 → Option DR := itr e_M_highOf (fun _ _ => none)
theorem r_M_highOf {g : Nat → Nat} {this : Nat} : ∀ (d : Nat) {ms : MS} {h : PH} (_ : MRep g this ms h) (x0 : Int32), RM g this h (c_M_highOf d h x0) (d_M_highOf d ms x0)
  | 0 => fun _ _ => n_none
  | d + 1 => fun hm x0 => r_b_M_highOf (rg := c_M_highOf d) (rg' := d_M_highOf d) (fun {_ _} hm x0 => r_M_highOf d hm x0) hm x0
def d_M_innerOf (ms : MS) (x0 : Int32) : Option DR :=
  if (2 : Int32) ≤ x0 then
    dI (x0 - (1 : Int32)) ms
  else
    dI (0 : Int32) ms
theorem r_M_innerOf {g : Nat → Nat} {this : Nat} {ms : MS} {h : PH} (hm : MRep g this ms h) (x0 : Int32) : RM g this h (c_M_innerOf h x0) (d_M_innerOf ms x0) := by
  unfold c_M_innerOf d_M_innerOf
  refine n_if ?_ ?_
  · exact n_rI hm
  · exact n_rI hm
def e_M_mixedOf (rg' : MS → Int32 → Option DR) (ms : MS) (x0 : Int32) : Option DR :=
  if (2 : Int32) ≤ x0 then
    nz (2 : Int32) <|
    bI (rg' ms ((x0 + (1 : Int32)) / (2 : Int32))) fun v2 m1 =>
    nz (2 : Int32) <|
    bI (rg' m1 (x0 / (2 : Int32))) fun v4 m3 =>
    if x0 = (3 : Int32) then
      dI ((v2 + v4) + (1 : Int32)) m3
    else
      dI ((v2 + v4) + (0 : Int32)) m3
  else
    dI (0 : Int32) ms
theorem r_b_M_mixedOf {g : Nat → Nat} {this : Nat} {rg : PH → Int32 → Option RH} {rg' : MS → Int32 → Option DR} (hrg : ∀ {ms : MS} {h : PH} (_ : MRep g this ms h) (y0 : Int32), RM g this h (rg h y0) (rg' ms y0)) {ms : MS} {h : PH} (hm : MRep g this ms h) (x0 : Int32) : RM g this h (b_M_mixedOf rg h x0) (e_M_mixedOf rg' ms x0) := by
  unfold b_M_mixedOf e_M_mixedOf
  refine n_if ?_ ?_
  · refine n_nz ?_
    refine n_hI (hrg hm ((x0 + (1 : Int32)) / (2 : Int32))) (fun v2 h1 m1 q1 => ?_)
    refine n_nz ?_
    refine n_hI (hrg q1 (x0 / (2 : Int32))) (fun v4 h3 m3 q3 => ?_)
    refine n_if ?_ ?_
    · exact n_rI q3
    · exact n_rI q3
  · exact n_rI hm
def d_M_mixedOf : Nat → MS → Int32 → Option DR := itr e_M_mixedOf (fun _ _ => none)
theorem r_M_mixedOf {g : Nat → Nat} {this : Nat} : ∀ (d : Nat) {ms : MS} {h : PH} (_ : MRep g this ms h) (x0 : Int32), RM g this h (c_M_mixedOf d h x0) (d_M_mixedOf d ms x0)
  | 0 => fun _ _ => n_none
  | d + 1 => fun hm x0 => r_b_M_mixedOf (rg := c_M_mixedOf d) (rg' := d_M_mixedOf d) (fun {_ _} hm x0 => r_M_mixedOf d hm x0) hm x0
def d_M_costOf_l18 (r18' : MS → Int32 → Int32 → Int32 → Option DR) (ms : MS) (x1 : Int32) (x2 : Int32) (x3 : Int32) : Option DR :=
  eA ms 14 ((2611 : Int32) + x1) fun v4 =>
  if v4 ≤ x3 then
    dI x2 ms
  else
    bI (d_M_leafAt ms x1 x3) fun v7 m6 =>
    eA m6 14 v7 fun v10 =>
    nz (32 : Int32) <|
    nm (x2 + (((v10 + (31 : Int32)) / (32 : Int32)) + (4 : Int32))) fun y11 =>
    r18' m6 x1 y11 (x3 + (1 : Int32))
theorem r_M_costOf_l18 {g : Nat → Nat} {this : Nat} {r18 : PH → Nat → Int32 → Int32 → Int32 → Option RH} {r18' : MS → Int32 → Int32 → Int32 → Option DR} (hr18 : ∀ {ms : MS} {h : PH} (_ : MRep g this ms h) (x1 : Int32) (x2 : Int32) (x3 : Int32), RM g this h (r18 h this x1 x2 x3) (r18' ms x1 x2 x3)) {ms : MS} {h : PH} (hm : MRep g this ms h) (x1 : Int32) (x2 : Int32) (x3 : Int32) : RM g this h (c_M_costOf_l18 r18 h this x1 x2 x3) (d_M_costOf_l18 r18' ms x1 x2 x3) := by
  unfold c_M_costOf_l18 d_M_costOf_l18
  refine n_gQ (k := 14) hm (by decide) (by decide) ?_
  refine n_nn ?_
  refine n_ldI (k := 14) hm (by decide) (fun v4 => ?_)
  refine n_if ?_ ?_
  · exact n_rI hm
  · refine n_gQ (k := 14) hm (by decide) (by decide) ?_
    refine n_hI (r_M_leafAt hm x1 x3) (fun v7 h6 m6 q6 => ?_)
    refine n_nn ?_
    refine n_ldI (k := 14) q6 (by decide) (fun v10 => ?_)
    refine n_nz ?_
    refine n_nm (fun y11 => ?_)
    exact hr18 q6 x1 y11 (x3 + (1 : Int32))
theorem u_M_costOf_l18 {g : Nat → Nat} {this : Nat} : ∀ (n : Nat) {ms : MS} {h : PH} (_ : MRep g this ms h) (x1 : Int32) (x2 : Int32) (x3 : Int32), RM g this h (itr (c_M_costOf_l18) (fun _ _ _ _ _ => none) n h this x1 x2 x3) (itr (d_M_costOf_l18) (fun _ _ _ _ => none) n ms x1 x2 x3)
  | 0 => fun _ _ _ _ => n_none
  | n + 1 => fun hm x1 x2 x3 => r_M_costOf_l18 (u_M_costOf_l18 n) hm x1 x2 x3
def d_M_costOf (ms : MS) (x1 : Int32) : Option DR :=
  eA ms 14 ((2611 : Int32) + x1) fun v4 =>
  bI (d_M_innerOf ms v4) fun v6 m5 =>
  nm ((5 : Int32) * v6) fun y7 =>
  itr (d_M_costOf_l18) (fun _ _ _ _ => none) FU m5 x1 y7 (0 : Int32)
theorem r_M_costOf {g : Nat → Nat} {this : Nat} {ms : MS} {h : PH} (hm : MRep g this ms h) (x1 : Int32) : RM g this h (c_M_costOf h this x1) (d_M_costOf ms x1) := by
  unfold c_M_costOf d_M_costOf
  refine n_grd hm ?_
  refine n_gQ (k := 14) hm (by decide) (by decide) ?_
  refine n_nn ?_
  refine n_ldI (k := 14) hm (by decide) (fun v4 => ?_)
  refine n_hI (r_M_innerOf hm v4) (fun v6 h5 m5 q5 => ?_)
  refine n_nm (fun y7 => ?_)
  exact u_M_costOf_l18 FU q5 x1 y7 (0 : Int32)
def d_M_tree (ms : MS) (x1 : Int32) (x2 : Int32) : Option DR :=
  nm (mset ms 0 0 (0 : Int32)) fun m1 =>
  bI (d_M_isRow m1 x1) fun v3 m2 =>
  if v3 = 0 then
    dI (-1 : Int32) m2
  else
    eA m2 14 ((2611 : Int32) + x1) fun v7 =>
    if x2 = 0 then
      bI (d_M_highOf 12 m2 v7) fun v9 m8 =>
      dI v9 m8
    else
      if x2 = 1 then
        bI (d_M_innerOf m2 v7) fun v11 m10 =>
        dI v11 m10
      else
        if x2 = 2 then
          bI (d_M_mixedOf 12 m2 v7) fun v13 m12 =>
          dI v13 m12
        else
          if x2 = 3 then
            bI (d_M_costOf m2 x1) fun v15 m14 =>
            dI v15 m14
          else
            dI (-1 : Int32) m2
theorem r_M_tree {g : Nat → Nat} {this : Nat} {ms : MS} {h : PH} (hm : MRep g this ms h) (x1 : Int32) (x2 : Int32) : RM g this h (c_M_tree h this x1 x2) (d_M_tree ms x1 x2) := by
  unfold c_M_tree d_M_tree
  refine n_grd hm ?_
  refine n_pI hm (by decide) (by decide) (by decide) (fun h1 m1 q1 => ?_)
  refine n_hI (r_M_isRow q1 x1) (fun v3 h2 m2 q2 => ?_)
  refine n_if ?_ ?_
  · exact n_rI q2
  · refine n_gQ (k := 14) q2 (by decide) (by decide) ?_
    refine n_nn ?_
    refine n_ldI (k := 14) q2 (by decide) (fun v7 => ?_)
    refine n_if ?_ ?_
    · refine n_hI (r_M_highOf 12 q2 v7) (fun v9 h8 m8 q8 => ?_)
      exact n_rI q8
    · refine n_if ?_ ?_
      · refine n_hI (r_M_innerOf q2 v7) (fun v11 h10 m10 q10 => ?_)
        exact n_rI q10
      · refine n_if ?_ ?_
        · refine n_hI (r_M_mixedOf 12 q2 v7) (fun v13 h12 m12 q12 => ?_)
          exact n_rI q12
        · refine n_if ?_ ?_
          · refine n_hI (r_M_costOf q2 x1) (fun v15 h14 m14 q14 => ?_)
            exact n_rI q14
          · exact n_rI q2
def d_M_firstBits_j181 (ms : MS) (x3 : Int32) (x8 : Int64) : Option DR :=
  if 0 ≤ (lg_cmp x8 ((1 : Int64) <<< (x3.toInt64 &&& 63))) then
    nm (ms.1 26 0) fun v1 =>
    nm (mset ms 26 0 (v1 + (1 : Int32))) fun m2 =>
    nzL (2 : Int64) <|
    dL (x8 / (2 : Int64)) m2
  else
    dL x8 ms
theorem r_M_firstBits_j181 {g : Nat → Nat} {this : Nat} {ms : MS} {h : PH} (hm : MRep g this ms h) (x3 : Int32) (x8 : Int64) : RM g this h (c_M_firstBits_j181 h this x3 x8) (d_M_firstBits_j181 ms x3 x8) := by
  unfold c_M_firstBits_j181 d_M_firstBits_j181
  refine n_if ?_ ?_
  · refine n_gI hm (by decide) (by decide) (by decide) (fun v1 => ?_)
    refine n_pI hm (by decide) (by decide) (by decide) (fun h2 m2 q2 => ?_)
    refine n_nzL ?_
    exact n_rL q2
  · exact n_rL hm
def d_M_firstBits_j175 (ms : MS) (x3 : Int32) (x8 : Int64) : Option DR :=
  nm (x8 + (1 : Int64)) fun y1 =>
  d_M_firstBits_j181 ms x3 y1
theorem r_M_firstBits_j175 {g : Nat → Nat} {this : Nat} {ms : MS} {h : PH} (hm : MRep g this ms h) (x3 : Int32) (x8 : Int64) : RM g this h (c_M_firstBits_j175 h this x3 x8) (d_M_firstBits_j175 ms x3 x8) := by
  unfold c_M_firstBits_j175 d_M_firstBits_j175
  refine n_nm (fun y1 => ?_)
  exact (r_M_firstBits_j181 hm x3 y1)
def d_M_firstBits_l88 (r88' : MS → Int32 → Int64 → Int64 → Int64 → Int32 → Option DR) (ms : MS) (x3 : Int32) (x6 : Int64) (x8 : Int64) (x10 : Int64) (x12 : Int32) : Option DR :=
  if x3 ≤ x12 then
    if 0 < (lg_cmp ((2 : Int64) * x10) x6) then
      d_M_firstBits_j175 ms x3 x8
    else
      if (lg_cmp ((2 : Int64) * x10) x6) = 0 then
        nzL (2 : Int64) <|
        if (lg_cmp (x8 - x8 / (2 : Int64) * (2 : Int64)) (1 : Int64)) = 0 then
          d_M_firstBits_j175 ms x3 x8
        else
          d_M_firstBits_j181 ms x3 x8
      else
        d_M_firstBits_j181 ms x3 x8
  else
    nm (x10 * (2 : Int64)) fun y1 =>
    nm (x8 * (2 : Int64)) fun y2 =>
    if 0 ≤ (lg_cmp y1 x6) then
      nm (y1 - x6) fun y3 =>
      nm (y2 + (1 : Int64)) fun y4 =>
      r88' ms x3 x6 y4 y3 (x12 + (1 : Int32))
    else
      r88' ms x3 x6 y2 y1 (x12 + (1 : Int32))
theorem r_M_firstBits_l88 {g : Nat → Nat} {this : Nat} {r88 : PH → Nat → Int32 → Int64 → Int64 → Int64 → Int32 → Option RH} {r88' : MS → Int32 → Int64 → Int64 → Int64 → Int32 → Option DR} (hr88 : ∀ {ms : MS} {h : PH} (_ : MRep g this ms h) (x3 : Int32) (x6 : Int64) (x8 : Int64) (x10 : Int64) (x12 : Int32), RM g this h (r88 h this x3 x6 x8 x10 x12) (r88' ms x3 x6 x8 x10 x12)) {ms : MS} {h : PH} (hm : MRep g this ms h) (x3 : Int32) (x6 : Int64) (x8 : Int64) (x10 : Int64) (x12 : Int32) : RM g this h (c_M_firstBits_l88 r88 h this x3 x6 x8 x10 x12) (d_M_firstBits_l88 r88' ms x3 x6 x8 x10 x12) := by
  unfold c_M_firstBits_l88 d_M_firstBits_l88
  refine n_if ?_ ?_
  · refine n_if ?_ ?_
    · exact (r_M_firstBits_j175 hm x3 x8)
    · refine n_if ?_ ?_
      · refine n_nzL ?_
        refine n_if ?_ ?_
        · exact (r_M_firstBits_j175 hm x3 x8)
        · exact (r_M_firstBits_j181 hm x3 x8)
      · exact (r_M_firstBits_j181 hm x3 x8)
  · refine n_nm (fun y1 => ?_)
    refine n_nm (fun y2 => ?_)
    refine n_if ?_ ?_
    · refine n_nm (fun y3 => ?_)
      refine n_nm (fun y4 => ?_)
      exact hr88 hm x3 x6 y4 y3 (x12 + (1 : Int32))
    · exact hr88 hm x3 x6 y2 y1 (x12 + (1 : Int32))
theorem u_M_firstBits_l88 {g : Nat → Nat} {this : Nat} : ∀ (n : Nat) {ms : MS} {h : PH} (_ : MRep g this ms h) (x3 : Int32) (x6 : Int64) (x8 : Int64) (x10 : Int64) (x12 : Int32), RM g this h (itr (c_M_firstBits_l88) (fun _ _ _ _ _ _ _ => none) n h this x3 x6 x8 x10 x12) (itr (d_M_firstBits_l88) (fun _ _ _ _ _ _ => none) n ms x3 x6 x8 x10 x12)
  | 0 => fun _ _ _ _ _ _ => n_none
  | n + 1 => fun hm x3 x6 x8 x10 x12 => r_M_firstBits_l88 (u_M_firstBits_l88 n) hm x3 x6 x8 x10 x12
def d_M_firstBits_l46 (r46' : MS → Int32 → Int64 → Int64 → Option DR) (ms : MS) (x3 : Int32) (x4 : Int64) (x6 : Int64) : Option DR :=
  if 0 ≤ (lg_cmp x4 x6) then
    nm (x4 - x6) fun y1 =>
    itr (d_M_firstBits_l88) (fun _ _ _ _ _ _ => none) FU ms x3 x6 (1 : Int64) y1 (1 : Int32)
  else
    nm (x4 * (2 : Int64)) fun y2 =>
    nm (ms.1 26 0) fun v3 =>
    nm (mset ms 26 0 (v3 - (1 : Int32))) fun m4 =>
    r46' m4 x3 y2 x6
theorem r_M_firstBits_l46 {g : Nat → Nat} {this : Nat} {r46 : PH → Nat → Int32 → Int64 → Int64 → Option RH} {r46' : MS → Int32 → Int64 → Int64 → Option DR} (hr46 : ∀ {ms : MS} {h : PH} (_ : MRep g this ms h) (x3 : Int32) (x4 : Int64) (x6 : Int64), RM g this h (r46 h this x3 x4 x6) (r46' ms x3 x4 x6)) {ms : MS} {h : PH} (hm : MRep g this ms h) (x3 : Int32) (x4 : Int64) (x6 : Int64) : RM g this h (c_M_firstBits_l46 r46 h this x3 x4 x6) (d_M_firstBits_l46 r46' ms x3 x4 x6) := by
  unfold c_M_firstBits_l46 d_M_firstBits_l46
  refine n_if ?_ ?_
  · refine n_nm (fun y1 => ?_)
    exact u_M_firstBits_l88 FU hm x3 x6 (1 : Int64) y1 (1 : Int32)
  · refine n_nm (fun y2 => ?_)
    refine n_gI hm (by decide) (by decide) (by decide) (fun v3 => ?_)
    refine n_pI hm (by decide) (by decide) (by decide) (fun h4 m4 q4 => ?_)
    exact hr46 q4 x3 y2 x6
theorem u_M_firstBits_l46 {g : Nat → Nat} {this : Nat} : ∀ (n : Nat) {ms : MS} {h : PH} (_ : MRep g this ms h) (x3 : Int32) (x4 : Int64) (x6 : Int64), RM g this h (itr (c_M_firstBits_l46) (fun _ _ _ _ _ => none) n h this x3 x4 x6) (itr (d_M_firstBits_l46) (fun _ _ _ _ => none) n ms x3 x4 x6)
  | 0 => fun _ _ _ _ => n_none
  | n + 1 => fun hm x3 x4 x6 => r_M_firstBits_l46 (u_M_firstBits_l46 n) hm x3 x4 x6
def d_M_firstBits_l13 (r13' : MS → Int32 → Int64 → Int64 → Option DR) (ms : MS) (x3 : Int32) (x4 : Int64) (x6 : Int64) : Option DR :=
  if (lg_cmp x4 ((2 : Int64) * x6)) < 0 then
    itr (d_M_firstBits_l46) (fun _ _ _ _ => none) FU ms x3 x4 x6
  else
    nm (x6 * (2 : Int64)) fun y1 =>
    nm (ms.1 26 0) fun v2 =>
    nm (mset ms 26 0 (v2 + (1 : Int32))) fun m3 =>
    r13' m3 x3 x4 y1
theorem r_M_firstBits_l13 {g : Nat → Nat} {this : Nat} {r13 : PH → Nat → Int32 → Int64 → Int64 → Option RH} {r13' : MS → Int32 → Int64 → Int64 → Option DR} (hr13 : ∀ {ms : MS} {h : PH} (_ : MRep g this ms h) (x3 : Int32) (x4 : Int64) (x6 : Int64), RM g this h (r13 h this x3 x4 x6) (r13' ms x3 x4 x6)) {ms : MS} {h : PH} (hm : MRep g this ms h) (x3 : Int32) (x4 : Int64) (x6 : Int64) : RM g this h (c_M_firstBits_l13 r13 h this x3 x4 x6) (d_M_firstBits_l13 r13' ms x3 x4 x6) := by
  unfold c_M_firstBits_l13 d_M_firstBits_l13
  refine n_if ?_ ?_
  · exact u_M_firstBits_l46 FU hm x3 x4 x6
  · refine n_nm (fun y1 => ?_)
    refine n_gI hm (by decide) (by decide) (by decide) (fun v2 => ?_)
    refine n_pI hm (by decide) (by decide) (by decide) (fun h3 m3 q3 => ?_)
    exact hr13 q3 x3 x4 y1
theorem u_M_firstBits_l13 {g : Nat → Nat} {this : Nat} : ∀ (n : Nat) {ms : MS} {h : PH} (_ : MRep g this ms h) (x3 : Int32) (x4 : Int64) (x6 : Int64), RM g this h (itr (c_M_firstBits_l13) (fun _ _ _ _ _ => none) n h this x3 x4 x6) (itr (d_M_firstBits_l13) (fun _ _ _ _ => none) n ms x3 x4 x6)
  | 0 => fun _ _ _ _ => n_none
  | n + 1 => fun hm x3 x4 x6 => r_M_firstBits_l13 (u_M_firstBits_l13 n) hm x3 x4 x6
def d_M_firstBits (ms : MS) (x1 : Int32) (x2 : Int32) (x3 : Int32) : Option DR :=
  nm x1.toInt64 fun y1 =>
  nm x2.toInt64 fun y2 =>
  nm (mset ms 26 0 (0 : Int32)) fun m3 =>
  itr (d_M_firstBits_l13) (fun _ _ _ _ => none) FU m3 x3 y1 y2
theorem r_M_firstBits {g : Nat → Nat} {this : Nat} {ms : MS} {h : PH} (hm : MRep g this ms h) (x1 : Int32) (x2 : Int32) (x3 : Int32) : RM g this h (c_M_firstBits h this x1 x2 x3) (d_M_firstBits ms x1 x2 x3) := by
  unfold c_M_firstBits d_M_firstBits
  refine n_grd hm ?_
  refine n_nm (fun y1 => ?_)
  refine n_nm (fun y2 => ?_)
  refine n_pI hm (by decide) (by decide) (by decide) (fun h3 m3 q3 => ?_)
  exact u_M_firstBits_l13 FU q3 x3 y1 y2
def d_M_asFloat (ms : MS) (x1 : Int32) (x2 : Int32) : Option DR :=
  if x1 = 0 then
    dI (0 : Int32) ms
  else
    bL (d_M_firstBits ms x1 x2 (24 : Int32)) fun v2 m1 =>
    nm v2.toInt32 fun y3 =>
    nm (m1.1 26 0) fun v4 =>
    dI (((v4 + (127 : Int32)) <<< ((23 : Int32) &&& 31)) ||| (y3 - (8388608 : Int32))) m1
theorem r_M_asFloat {g : Nat → Nat} {this : Nat} {ms : MS} {h : PH} (hm : MRep g this ms h) (x1 : Int32) (x2 : Int32) : RM g this h (c_M_asFloat h this x1 x2) (d_M_asFloat ms x1 x2) := by
  unfold c_M_asFloat d_M_asFloat
  refine n_grd hm ?_
  refine n_if ?_ ?_
  · exact n_rI hm
  · refine n_hL (r_M_firstBits hm x1 x2 (24 : Int32)) (fun v2 h1 m1 q1 => ?_)
    refine n_nm (fun y3 => ?_)
    refine n_gI q1 (by decide) (by decide) (by decide) (fun v4 => ?_)
    exact n_rI q1
def d_M_dense (ms : MS) (x1 : Int32) (x2 : Int32) (x3 : Int32) : Option DR :=
  nm (mset ms 0 0 (0 : Int32)) fun m1 =>
  bI (d_M_isRow m1 x1) fun v3 m2 =>
  if v3 = 0 then
    bI (d_M_refuse m2) fun v5 m4 =>
    dI v5 m4
  else
    if x2 < 0 then
      bI (d_M_refuse m2) fun v7 m6 =>
      dI v7 m6
    else
      if x3 < (1 : Int32) then
        bI (d_M_refuse m2) fun v9 m8 =>
        dI v9 m8
      else
        bI (d_M_sizeOf m2 x1) fun v11 m10 =>
        if v11 < x3 then
          bI (d_M_refuse m10) fun v13 m12 =>
          dI v13 m12
        else
          bI (d_M_sizeOf m10 x1) fun v15 m14 =>
          if x2 ≤ (v15 - x3) then
            bI (d_M_onesIn m14 x1 x2 (x2 + x3)) fun v17 m16 =>
            bI (d_M_asFloat m16 v17 x3) fun v19 m18 =>
            dI v19 m18
          else
            bI (d_M_refuse m14) fun v21 m20 =>
            dI v21 m20
theorem r_M_dense {g : Nat → Nat} {this : Nat} {ms : MS} {h : PH} (hm : MRep g this ms h) (x1 : Int32) (x2 : Int32) (x3 : Int32) : RM g this h (c_M_dense h this x1 x2 x3) (d_M_dense ms x1 x2 x3) := by
  unfold c_M_dense d_M_dense
  refine n_grd hm ?_
  refine n_pI hm (by decide) (by decide) (by decide) (fun h1 m1 q1 => ?_)
  refine n_hI (r_M_isRow q1 x1) (fun v3 h2 m2 q2 => ?_)
  refine n_if ?_ ?_
  · refine n_hI (r_M_refuse q2) (fun v5 h4 m4 q4 => ?_)
    exact n_rI q4
  · refine n_if ?_ ?_
    · refine n_hI (r_M_refuse q2) (fun v7 h6 m6 q6 => ?_)
      exact n_rI q6
    · refine n_if ?_ ?_
      · refine n_hI (r_M_refuse q2) (fun v9 h8 m8 q8 => ?_)
        exact n_rI q8
      · refine n_hI (r_M_sizeOf q2 x1) (fun v11 h10 m10 q10 => ?_)
        refine n_if ?_ ?_
        · refine n_hI (r_M_refuse q10) (fun v13 h12 m12 q12 => ?_)
          exact n_rI q12
        · refine n_hI (r_M_sizeOf q10 x1) (fun v15 h14 m14 q14 => ?_)
          refine n_if ?_ ?_
          · refine n_hI (r_M_onesIn q14 x1 x2 (x2 + x3)) (fun v17 h16 m16 q16 => ?_)
            refine n_hI (r_M_asFloat q16 v17 x3) (fun v19 h18 m18 q18 => ?_)
            exact n_rI q18
          · refine n_hI (r_M_refuse q14) (fun v21 h20 m20 q20 => ?_)
            exact n_rI q20
def d_M_load (ms : MS) (x1 : Int32) : Option DR :=
  nm (mset ms 0 0 (0 : Int32)) fun m1 =>
  bI (d_M_isRow m1 x1) fun v3 m2 =>
  if v3 = 0 then
    bI (d_M_refuse m2) fun v5 m4 =>
    dI v5 m4
  else
    bI (d_M_sizeOf m2 x1) fun v7 m6 =>
    if v7 ≤ 0 then
      bI (d_M_refuse m6) fun v9 m8 =>
      dI v9 m8
    else
      bI (d_M_costOf m6 x1) fun v11 m10 =>
      bI (d_M_sizeOf m10 x1) fun v13 m12 =>
      bI (d_M_asFloat m12 ((32 : Int32) * v11) v13) fun v15 m14 =>
      dI v15 m14
theorem r_M_load {g : Nat → Nat} {this : Nat} {ms : MS} {h : PH} (hm : MRep g this ms h) (x1 : Int32) : RM g this h (c_M_load h this x1) (d_M_load ms x1) := by
  unfold c_M_load d_M_load
  refine n_grd hm ?_
  refine n_pI hm (by decide) (by decide) (by decide) (fun h1 m1 q1 => ?_)
  refine n_hI (r_M_isRow q1 x1) (fun v3 h2 m2 q2 => ?_)
  refine n_if ?_ ?_
  · refine n_hI (r_M_refuse q2) (fun v5 h4 m4 q4 => ?_)
    exact n_rI q4
  · refine n_hI (r_M_sizeOf q2 x1) (fun v7 h6 m6 q6 => ?_)
    refine n_if ?_ ?_
    · refine n_hI (r_M_refuse q6) (fun v9 h8 m8 q8 => ?_)
      exact n_rI q8
    · refine n_hI (r_M_costOf q6 x1) (fun v11 h10 m10 q10 => ?_)
      refine n_hI (r_M_sizeOf q10 x1) (fun v13 h12 m12 q12 => ?_)
      refine n_hI (r_M_asFloat q12 ((32 : Int32) * v11) v13) (fun v15 h14 m14 q14 => ?_)
      exact n_rI q14
def d_M_asDouble (ms : MS) (x1 : Int32) (x2 : Int32) : Option DR :=
  if x1 = 0 then
    dL (0 : Int64) ms
  else
    bL (d_M_firstBits ms x1 x2 (53 : Int32)) fun v2 m1 =>
    nm (m1.1 26 0) fun v3 =>
    dL (((v3.toInt64 + (1023 : Int64)) <<< ((52 : Int32).toInt64 &&& 63)) ||| (v2 - (4503599627370496 : Int64))) m1
theorem r_M_asDouble {g : Nat → Nat} {this : Nat} {ms : MS} {h : PH} (hm : MRep g this ms h) (x1 : Int32) (x2 : Int32) : RM g this h (c_M_asDouble h this x1 x2) (d_M_asDouble ms x1 x2) := by
  unfold c_M_asDouble d_M_asDouble
  refine n_grd hm ?_
  refine n_if ?_ ?_
  · exact n_rL hm
  · refine n_hL (r_M_firstBits hm x1 x2 (53 : Int32)) (fun v2 h1 m1 q1 => ?_)
    refine n_gI q1 (by decide) (by decide) (by decide) (fun v3 => ?_)
    exact n_rL q1
def d_M_centre_l35 (r35' : MS → Int32 → Int32 → Int32 → Int32 → Int32 → Option DR) (ms : MS) (x1 : Int32) (x2 : Int32) (x3 : Int32) (x4 : Int32) (x5 : Int32) : Option DR :=
  bI (d_M_sizeOf ms x1) fun v2 m1 =>
  if v2 ≤ x5 then
    if x3 = 0 then
      bI (d_M_refuse m1) fun v6 m5 =>
      dI v6 m5
    else
      bL (d_M_asDouble m1 x4 x3) fun v4 m3 =>
      if x2 = 0 then
        dI ((v4 >>> ((32 : Int32).toInt64 &&& 63)).toInt32) m3
      else
        dI v4.toInt32 m3
  else
    bI (d_M_bitOf m1 x1 x5) fun v8 m7 =>
    if v8 = 0 then
      r35' m7 x1 x2 x3 x4 (x5 + (1 : Int32))
    else
      nm (x4 + x5) fun y9 =>
      r35' m7 x1 x2 (x3 + (1 : Int32)) y9 (x5 + (1 : Int32))
theorem r_M_centre_l35 {g : Nat → Nat} {this : Nat} {r35 : PH → Nat → Int32 → Int32 → Int32 → Int32 → Int32 → Option RH} {r35' : MS → Int32 → Int32 → Int32 → Int32 → Int32 → Option DR} (hr35 : ∀ {ms : MS} {h : PH} (_ : MRep g this ms h) (x1 : Int32) (x2 : Int32) (x3 : Int32) (x4 : Int32) (x5 : Int32), RM g this h (r35 h this x1 x2 x3 x4 x5) (r35' ms x1 x2 x3 x4 x5)) {ms : MS} {h : PH} (hm : MRep g this ms h) (x1 : Int32) (x2 : Int32) (x3 : Int32) (x4 : Int32) (x5 : Int32) : RM g this h (c_M_centre_l35 r35 h this x1 x2 x3 x4 x5) (d_M_centre_l35 r35' ms x1 x2 x3 x4 x5) := by
  unfold c_M_centre_l35 d_M_centre_l35
  refine n_hI (r_M_sizeOf hm x1) (fun v2 h1 m1 q1 => ?_)
  refine n_if ?_ ?_
  · refine n_if ?_ ?_
    · refine n_hI (r_M_refuse q1) (fun v6 h5 m5 q5 => ?_)
      exact n_rI q5
    · refine n_hL (r_M_asDouble q1 x4 x3) (fun v4 h3 m3 q3 => ?_)
      refine n_if ?_ ?_
      · exact n_rI q3
      · exact n_rI q3
  · refine n_hI (r_M_bitOf q1 x1 x5) (fun v8 h7 m7 q7 => ?_)
    refine n_if ?_ ?_
    · exact hr35 q7 x1 x2 x3 x4 (x5 + (1 : Int32))
    · refine n_nm (fun y9 => ?_)
      exact hr35 q7 x1 x2 (x3 + (1 : Int32)) y9 (x5 + (1 : Int32))
theorem u_M_centre_l35 {g : Nat → Nat} {this : Nat} : ∀ (n : Nat) {ms : MS} {h : PH} (_ : MRep g this ms h) (x1 : Int32) (x2 : Int32) (x3 : Int32) (x4 : Int32) (x5 : Int32), RM g this h (itr (c_M_centre_l35) (fun _ _ _ _ _ _ _ => none) n h this x1 x2 x3 x4 x5) (itr (d_M_centre_l35) (fun _ _ _ _ _ _ => none) n ms x1 x2 x3 x4 x5)
  | 0 => fun _ _ _ _ _ _ => n_none
  | n + 1 => fun hm x1 x2 x3 x4 x5 => r_M_centre_l35 (u_M_centre_l35 n) hm x1 x2 x3 x4 x5
def d_M_centre (ms : MS) (x1 : Int32) (x2 : Int32) : Option DR :=
  nm (mset ms 0 0 (0 : Int32)) fun m1 =>
  bI (d_M_isRow m1 x1) fun v3 m2 =>
  if v3 = 0 then
    bI (d_M_refuse m2) fun v5 m4 =>
    dI v5 m4
  else
    bI (d_M_isIn m2 x2 (0 : Int32) (1 : Int32)) fun v7 m6 =>
    if v7 = 0 then
      bI (d_M_refuse m6) fun v9 m8 =>
      dI v9 m8
    else
      itr (d_M_centre_l35) (fun _ _ _ _ _ _ => none) FU m6 x1 x2 (0 : Int32) (0 : Int32) (0 : Int32)
theorem r_M_centre {g : Nat → Nat} {this : Nat} {ms : MS} {h : PH} (hm : MRep g this ms h) (x1 : Int32) (x2 : Int32) : RM g this h (c_M_centre h this x1 x2) (d_M_centre ms x1 x2) := by
  unfold c_M_centre d_M_centre
  refine n_grd hm ?_
  refine n_pI hm (by decide) (by decide) (by decide) (fun h1 m1 q1 => ?_)
  refine n_hI (r_M_isRow q1 x1) (fun v3 h2 m2 q2 => ?_)
  refine n_if ?_ ?_
  · refine n_hI (r_M_refuse q2) (fun v5 h4 m4 q4 => ?_)
    exact n_rI q4
  · refine n_hI (r_M_isIn q2 x2 (0 : Int32) (1 : Int32)) (fun v7 h6 m6 q6 => ?_)
    refine n_if ?_ ?_
    · refine n_hI (r_M_refuse q6) (fun v9 h8 m8 q8 => ?_)
      exact n_rI q8
    · exact u_M_centre_l35 FU q6 x1 x2 (0 : Int32) (0 : Int32) (0 : Int32)
def d_M_apart_l65 (r65' : MS → Int32 → Int32 → Int32 → Int32 → Option DR) (ms : MS) (x1 : Int32) (x2 : Int32) (x3 : Int32) (x4 : Int32) : Option DR :=
  bI (d_M_isThere ms x1 x4) fun v2 m1 =>
  if v2 = 0 then
    dI x3 m1
  else
    bI (d_M_isThere m1 x2 x4) fun v4 m3 =>
    if v4 = 0 then
      dI x3 m3
    else
      bI (d_M_bitOf m3 x1 x4) fun v6 m5 =>
      bI (d_M_bitOf m5 x2 x4) fun v8 m7 =>
      if v6 = v8 then
        r65' m7 x1 x2 x3 (x4 + (1 : Int32))
      else
        r65' m7 x1 x2 (x3 + (1 : Int32)) (x4 + (1 : Int32))
theorem r_M_apart_l65 {g : Nat → Nat} {this : Nat} {r65 : PH → Nat → Int32 → Int32 → Int32 → Int32 → Option RH} {r65' : MS → Int32 → Int32 → Int32 → Int32 → Option DR} (hr65 : ∀ {ms : MS} {h : PH} (_ : MRep g this ms h) (x1 : Int32) (x2 : Int32) (x3 : Int32) (x4 : Int32), RM g this h (r65 h this x1 x2 x3 x4) (r65' ms x1 x2 x3 x4)) {ms : MS} {h : PH} (hm : MRep g this ms h) (x1 : Int32) (x2 : Int32) (x3 : Int32) (x4 : Int32) : RM g this h (c_M_apart_l65 r65 h this x1 x2 x3 x4) (d_M_apart_l65 r65' ms x1 x2 x3 x4) := by
  unfold c_M_apart_l65 d_M_apart_l65
  refine n_hI (r_M_isThere hm x1 x4) (fun v2 h1 m1 q1 => ?_)
  refine n_if ?_ ?_
  · exact n_rI q1
  · refine n_hI (r_M_isThere q1 x2 x4) (fun v4 h3 m3 q3 => ?_)
    refine n_if ?_ ?_
    · exact n_rI q3
    · refine n_hI (r_M_bitOf q3 x1 x4) (fun v6 h5 m5 q5 => ?_)
      refine n_hI (r_M_bitOf q5 x2 x4) (fun v8 h7 m7 q7 => ?_)
      refine n_if ?_ ?_
      · exact hr65 q7 x1 x2 x3 (x4 + (1 : Int32))
      · exact hr65 q7 x1 x2 (x3 + (1 : Int32)) (x4 + (1 : Int32))
theorem u_M_apart_l65 {g : Nat → Nat} {this : Nat} : ∀ (n : Nat) {ms : MS} {h : PH} (_ : MRep g this ms h) (x1 : Int32) (x2 : Int32) (x3 : Int32) (x4 : Int32), RM g this h (itr (c_M_apart_l65) (fun _ _ _ _ _ _ => none) n h this x1 x2 x3 x4) (itr (d_M_apart_l65) (fun _ _ _ _ _ => none) n ms x1 x2 x3 x4)
  | 0 => fun _ _ _ _ _ => n_none
  | n + 1 => fun hm x1 x2 x3 x4 => r_M_apart_l65 (u_M_apart_l65 n) hm x1 x2 x3 x4
def d_M_apart (ms : MS) (x1 : Int32) (x2 : Int32) : Option DR :=
  nm (mset ms 0 0 (0 : Int32)) fun m1 =>
  bI (d_M_isRow m1 x1) fun v3 m2 =>
  if v3 = 0 then
    dI (-1 : Int32) m2
  else
    bI (d_M_isRow m2 x2) fun v5 m4 =>
    if v5 = 0 then
      dI (-1 : Int32) m4
    else
      bI (d_M_sizeOf m4 x1) fun v7 m6 =>
      bI (d_M_sizeOf m6 x2) fun v9 m8 =>
      if v7 ≤ v9 then
        bI (d_M_sizeOf m8 x2) fun v11 m10 =>
        bI (d_M_sizeOf m10 x1) fun v13 m12 =>
        nm (v11 - v13) fun y14 =>
        itr (d_M_apart_l65) (fun _ _ _ _ _ => none) FU m12 x1 x2 y14 (0 : Int32)
      else
        bI (d_M_sizeOf m8 x1) fun v16 m15 =>
        bI (d_M_sizeOf m15 x2) fun v18 m17 =>
        nm (v16 - v18) fun y19 =>
        itr (d_M_apart_l65) (fun _ _ _ _ _ => none) FU m17 x1 x2 y19 (0 : Int32)
theorem r_M_apart {g : Nat → Nat} {this : Nat} {ms : MS} {h : PH} (hm : MRep g this ms h) (x1 : Int32) (x2 : Int32) : RM g this h (c_M_apart h this x1 x2) (d_M_apart ms x1 x2) := by
  unfold c_M_apart d_M_apart
  refine n_grd hm ?_
  refine n_pI hm (by decide) (by decide) (by decide) (fun h1 m1 q1 => ?_)
  refine n_hI (r_M_isRow q1 x1) (fun v3 h2 m2 q2 => ?_)
  refine n_if ?_ ?_
  · exact n_rI q2
  · refine n_hI (r_M_isRow q2 x2) (fun v5 h4 m4 q4 => ?_)
    refine n_if ?_ ?_
    · exact n_rI q4
    · refine n_hI (r_M_sizeOf q4 x1) (fun v7 h6 m6 q6 => ?_)
      refine n_hI (r_M_sizeOf q6 x2) (fun v9 h8 m8 q8 => ?_)
      refine n_if ?_ ?_
      · refine n_hI (r_M_sizeOf q8 x2) (fun v11 h10 m10 q10 => ?_)
        refine n_hI (r_M_sizeOf q10 x1) (fun v13 h12 m12 q12 => ?_)
        refine n_nm (fun y14 => ?_)
        exact u_M_apart_l65 FU q12 x1 x2 y14 (0 : Int32)
      · refine n_hI (r_M_sizeOf q8 x1) (fun v16 h15 m15 q15 => ?_)
        refine n_hI (r_M_sizeOf q15 x2) (fun v18 h17 m17 q17 => ?_)
        refine n_nm (fun y19 => ?_)
        exact u_M_apart_l65 FU q17 x1 x2 y19 (0 : Int32)
def d_M_firstApart_l2 (r2' : MS → Int32 → Int32 → Int32 → Option DR) (ms : MS) (x1 : Int32) (x2 : Int32) (x3 : Int32) : Option DR :=
  bI (d_M_isThere ms x1 x3) fun v2 m1 =>
  if v2 = 0 then
    dI x3 m1
  else
    bI (d_M_isThere m1 x2 x3) fun v4 m3 =>
    if v4 = 0 then
      dI x3 m3
    else
      bI (d_M_bitOf m3 x1 x3) fun v6 m5 =>
      bI (d_M_bitOf m5 x2 x3) fun v8 m7 =>
      if v6 = v8 then
        r2' m7 x1 x2 (x3 + (1 : Int32))
      else
        dI x3 m7
theorem r_M_firstApart_l2 {g : Nat → Nat} {this : Nat} {r2 : PH → Nat → Int32 → Int32 → Int32 → Option RH} {r2' : MS → Int32 → Int32 → Int32 → Option DR} (hr2 : ∀ {ms : MS} {h : PH} (_ : MRep g this ms h) (x1 : Int32) (x2 : Int32) (x3 : Int32), RM g this h (r2 h this x1 x2 x3) (r2' ms x1 x2 x3)) {ms : MS} {h : PH} (hm : MRep g this ms h) (x1 : Int32) (x2 : Int32) (x3 : Int32) : RM g this h (c_M_firstApart_l2 r2 h this x1 x2 x3) (d_M_firstApart_l2 r2' ms x1 x2 x3) := by
  unfold c_M_firstApart_l2 d_M_firstApart_l2
  refine n_hI (r_M_isThere hm x1 x3) (fun v2 h1 m1 q1 => ?_)
  refine n_if ?_ ?_
  · exact n_rI q1
  · refine n_hI (r_M_isThere q1 x2 x3) (fun v4 h3 m3 q3 => ?_)
    refine n_if ?_ ?_
    · exact n_rI q3
    · refine n_hI (r_M_bitOf q3 x1 x3) (fun v6 h5 m5 q5 => ?_)
      refine n_hI (r_M_bitOf q5 x2 x3) (fun v8 h7 m7 q7 => ?_)
      refine n_if ?_ ?_
      · exact hr2 q7 x1 x2 (x3 + (1 : Int32))
      · exact n_rI q7
theorem u_M_firstApart_l2 {g : Nat → Nat} {this : Nat} : ∀ (n : Nat) {ms : MS} {h : PH} (_ : MRep g this ms h) (x1 : Int32) (x2 : Int32) (x3 : Int32), RM g this h (itr (c_M_firstApart_l2) (fun _ _ _ _ _ => none) n h this x1 x2 x3) (itr (d_M_firstApart_l2) (fun _ _ _ _ => none) n ms x1 x2 x3)
  | 0 => fun _ _ _ _ => n_none
  | n + 1 => fun hm x1 x2 x3 => r_M_firstApart_l2 (u_M_firstApart_l2 n) hm x1 x2 x3
def d_M_firstApart (ms : MS) (x1 : Int32) (x2 : Int32) : Option DR :=
  itr (d_M_firstApart_l2) (fun _ _ _ _ => none) FU ms x1 x2 (0 : Int32)
theorem r_M_firstApart {g : Nat → Nat} {this : Nat} {ms : MS} {h : PH} (hm : MRep g this ms h) (x1 : Int32) (x2 : Int32) : RM g this h (c_M_firstApart h this x1 x2) (d_M_firstApart ms x1 x2) := by
  unfold c_M_firstApart d_M_firstApart
  refine n_grd hm ?_
  exact u_M_firstApart_l2 FU hm x1 x2 (0 : Int32)
def d_M_areLike (ms : MS) (x1 : Int32) (x2 : Int32) : Option DR :=
  bI (d_M_sizeOf ms x1) fun v2 m1 =>
  bI (d_M_sizeOf m1 x2) fun v4 m3 =>
  if v2 = v4 then
    bI (d_M_firstApart m3 x1 x2) fun v6 m5 =>
    bI (d_M_sizeOf m5 x1) fun v8 m7 =>
    if v6 = v8 then
      dZ (1 : Int32) m7
    else
      dZ (0 : Int32) m7
  else
    dZ (0 : Int32) m3
theorem r_M_areLike {g : Nat → Nat} {this : Nat} {ms : MS} {h : PH} (hm : MRep g this ms h) (x1 : Int32) (x2 : Int32) : RM g this h (c_M_areLike h this x1 x2) (d_M_areLike ms x1 x2) := by
  unfold c_M_areLike d_M_areLike
  refine n_grd hm ?_
  refine n_hI (r_M_sizeOf hm x1) (fun v2 h1 m1 q1 => ?_)
  refine n_hI (r_M_sizeOf q1 x2) (fun v4 h3 m3 q3 => ?_)
  refine n_if ?_ ?_
  · refine n_hI (r_M_firstApart q3 x1 x2) (fun v6 h5 m5 q5 => ?_)
    refine n_hI (r_M_sizeOf q5 x1) (fun v8 h7 m7 q7 => ?_)
    refine n_if ?_ ?_
    · exact n_rZ q7
    · exact n_rZ q7
  · exact n_rZ q3
def d_M_differ (ms : MS) (x1 : Int32) (x2 : Int32) : Option DR :=
  nm (mset ms 0 0 (0 : Int32)) fun m1 =>
  bI (d_M_isRow m1 x1) fun v3 m2 =>
  if v3 = 0 then
    dI (-1 : Int32) m2
  else
    bI (d_M_isRow m2 x2) fun v5 m4 =>
    if v5 = 0 then
      dI (-1 : Int32) m4
    else
      bI (d_M_areLike m4 x1 x2) fun v7 m6 =>
      if v7 = 0 then
        bI (d_M_firstApart m6 x1 x2) fun v9 m8 =>
        dI v9 m8
      else
        dI (-1 : Int32) m6
theorem r_M_differ {g : Nat → Nat} {this : Nat} {ms : MS} {h : PH} (hm : MRep g this ms h) (x1 : Int32) (x2 : Int32) : RM g this h (c_M_differ h this x1 x2) (d_M_differ ms x1 x2) := by
  unfold c_M_differ d_M_differ
  refine n_grd hm ?_
  refine n_pI hm (by decide) (by decide) (by decide) (fun h1 m1 q1 => ?_)
  refine n_hI (r_M_isRow q1 x1) (fun v3 h2 m2 q2 => ?_)
  refine n_if ?_ ?_
  · exact n_rI q2
  · refine n_hI (r_M_isRow q2 x2) (fun v5 h4 m4 q4 => ?_)
    refine n_if ?_ ?_
    · exact n_rI q4
    · refine n_hI (r_M_areLike q4 x1 x2) (fun v7 h6 m6 q6 => ?_)
      refine n_if ?_ ?_
      · refine n_hI (r_M_firstApart q6 x1 x2) (fun v9 h8 m8 q8 => ?_)
        exact n_rI q8
      · exact n_rI q6
def d_M_areTapeBits_l2 (r2' : MS → Int32 → Int32 → Int32 → Option DR) (ms : MS) (x1 : Int32) (x2 : Int32) (x3 : Int32) : Option DR :=
  if x1 ≤ x3 then
    bI (d_M_isIn ms x1 (1 : Int32) x2) fun v2 m1 =>
    dZ v2 m1
  else
    eA ms 1 x3 fun v6 =>
    if v6 ≤ (1 : Int32) then
      r2' ms x1 x2 (x3 + (1 : Int32))
    else
      dZ (0 : Int32) ms
theorem r_M_areTapeBits_l2 {g : Nat → Nat} {this : Nat} {r2 : PH → Nat → Int32 → Int32 → Int32 → Option RH} {r2' : MS → Int32 → Int32 → Int32 → Option DR} (hr2 : ∀ {ms : MS} {h : PH} (_ : MRep g this ms h) (x1 : Int32) (x2 : Int32) (x3 : Int32), RM g this h (r2 h this x1 x2 x3) (r2' ms x1 x2 x3)) {ms : MS} {h : PH} (hm : MRep g this ms h) (x1 : Int32) (x2 : Int32) (x3 : Int32) : RM g this h (c_M_areTapeBits_l2 r2 h this x1 x2 x3) (d_M_areTapeBits_l2 r2' ms x1 x2 x3) := by
  unfold c_M_areTapeBits_l2 d_M_areTapeBits_l2
  refine n_if ?_ ?_
  · refine n_hI (r_M_isIn hm x1 (1 : Int32) x2) (fun v2 h1 m1 q1 => ?_)
    exact n_rZ q1
  · refine n_gQ (k := 1) hm (by decide) (by decide) ?_
    refine n_nn ?_
    refine n_ldI (k := 1) hm (by decide) (fun v6 => ?_)
    refine n_if ?_ ?_
    · exact hr2 hm x1 x2 (x3 + (1 : Int32))
    · exact n_rZ hm
theorem u_M_areTapeBits_l2 {g : Nat → Nat} {this : Nat} : ∀ (n : Nat) {ms : MS} {h : PH} (_ : MRep g this ms h) (x1 : Int32) (x2 : Int32) (x3 : Int32), RM g this h (itr (c_M_areTapeBits_l2) (fun _ _ _ _ _ => none) n h this x1 x2 x3) (itr (d_M_areTapeBits_l2) (fun _ _ _ _ => none) n ms x1 x2 x3)
  | 0 => fun _ _ _ _ => n_none
  | n + 1 => fun hm x1 x2 x3 => r_M_areTapeBits_l2 (u_M_areTapeBits_l2 n) hm x1 x2 x3
def d_M_areTapeBits (ms : MS) (x1 : Int32) (x2 : Int32) : Option DR :=
  itr (d_M_areTapeBits_l2) (fun _ _ _ _ => none) FU ms x1 x2 (0 : Int32)
theorem r_M_areTapeBits {g : Nat → Nat} {this : Nat} {ms : MS} {h : PH} (hm : MRep g this ms h) (x1 : Int32) (x2 : Int32) : RM g this h (c_M_areTapeBits h this x1 x2) (d_M_areTapeBits ms x1 x2) := by
  unfold c_M_areTapeBits d_M_areTapeBits
  refine n_grd hm ?_
  exact u_M_areTapeBits_l2 FU hm x1 x2 (0 : Int32)
def d_M_isOnTape_l3 (r3' : MS → Int32 → Int32 → Int32 → Int32 → Option DR) (ms : MS) (x1 : Int32) (x2 : Int32) (x3 : Int32) (x4 : Int32) : Option DR :=
  if x3 ≤ x4 then
    dZ (1 : Int32) ms
  else
    bI (d_M_bitOf ms x1 (x2 + x4)) fun v2 m1 =>
    eA m1 1 x4 fun v6 =>
    if v2 = v6 then
      r3' m1 x1 x2 x3 (x4 + (1 : Int32))
    else
      dZ (0 : Int32) m1
theorem r_M_isOnTape_l3 {g : Nat → Nat} {this : Nat} {r3 : PH → Nat → Int32 → Int32 → Int32 → Int32 → Option RH} {r3' : MS → Int32 → Int32 → Int32 → Int32 → Option DR} (hr3 : ∀ {ms : MS} {h : PH} (_ : MRep g this ms h) (x1 : Int32) (x2 : Int32) (x3 : Int32) (x4 : Int32), RM g this h (r3 h this x1 x2 x3 x4) (r3' ms x1 x2 x3 x4)) {ms : MS} {h : PH} (hm : MRep g this ms h) (x1 : Int32) (x2 : Int32) (x3 : Int32) (x4 : Int32) : RM g this h (c_M_isOnTape_l3 r3 h this x1 x2 x3 x4) (d_M_isOnTape_l3 r3' ms x1 x2 x3 x4) := by
  unfold c_M_isOnTape_l3 d_M_isOnTape_l3
  refine n_if ?_ ?_
  · exact n_rZ hm
  · refine n_hI (r_M_bitOf hm x1 (x2 + x4)) (fun v2 h1 m1 q1 => ?_)
    refine n_gQ (k := 1) q1 (by decide) (by decide) ?_
    refine n_nn ?_
    refine n_ldI (k := 1) q1 (by decide) (fun v6 => ?_)
    refine n_if ?_ ?_
    · exact hr3 q1 x1 x2 x3 (x4 + (1 : Int32))
    · exact n_rZ q1
theorem u_M_isOnTape_l3 {g : Nat → Nat} {this : Nat} : ∀ (n : Nat) {ms : MS} {h : PH} (_ : MRep g this ms h) (x1 : Int32) (x2 : Int32) (x3 : Int32) (x4 : Int32), RM g this h (itr (c_M_isOnTape_l3) (fun _ _ _ _ _ _ => none) n h this x1 x2 x3 x4) (itr (d_M_isOnTape_l3) (fun _ _ _ _ _ => none) n ms x1 x2 x3 x4)
  | 0 => fun _ _ _ _ _ => n_none
  | n + 1 => fun hm x1 x2 x3 x4 => r_M_isOnTape_l3 (u_M_isOnTape_l3 n) hm x1 x2 x3 x4
def d_M_isOnTape (ms : MS) (x1 : Int32) (x2 : Int32) (x3 : Int32) : Option DR :=
  itr (d_M_isOnTape_l3) (fun _ _ _ _ _ => none) FU ms x1 x2 x3 (0 : Int32)
theorem r_M_isOnTape {g : Nat → Nat} {this : Nat} {ms : MS} {h : PH} (hm : MRep g this ms h) (x1 : Int32) (x2 : Int32) (x3 : Int32) : RM g this h (c_M_isOnTape h this x1 x2 x3) (d_M_isOnTape ms x1 x2 x3) := by
  unfold c_M_isOnTape d_M_isOnTape
  refine n_grd hm ?_
  exact u_M_isOnTape_l3 FU hm x1 x2 x3 (0 : Int32)
def d_M_seek_l37 (r37' : MS → Int32 → Int32 → Int32 → Option DR) (ms : MS) (x1 : Int32) (x2 : Int32) (x3 : Int32) : Option DR :=
  bI (d_M_sizeOf ms x1) fun v2 m1 =>
  if v2 < (x3 + x2) then
    nm (m1.1 28 0) fun v3 =>
    dI v3 m1
  else
    bI (d_M_isOnTape m1 x1 x3 x2) fun v5 m4 =>
    if v5 = 0 then
      r37' m4 x1 x2 (x3 + (1 : Int32))
    else
      nm (m4.1 28 0) fun v7 =>
      sA m4 27 v7 x3 fun m10 =>
      nm (m10.1 28 0) fun v11 =>
      nm (mset m10 28 0 (v11 + (1 : Int32))) fun m12 =>
      r37' m12 x1 x2 (x3 + (1 : Int32))
theorem r_M_seek_l37 {g : Nat → Nat} {this : Nat} {r37 : PH → Nat → Int32 → Int32 → Int32 → Option RH} {r37' : MS → Int32 → Int32 → Int32 → Option DR} (hr37 : ∀ {ms : MS} {h : PH} (_ : MRep g this ms h) (x1 : Int32) (x2 : Int32) (x3 : Int32), RM g this h (r37 h this x1 x2 x3) (r37' ms x1 x2 x3)) {ms : MS} {h : PH} (hm : MRep g this ms h) (x1 : Int32) (x2 : Int32) (x3 : Int32) : RM g this h (c_M_seek_l37 r37 h this x1 x2 x3) (d_M_seek_l37 r37' ms x1 x2 x3) := by
  unfold c_M_seek_l37 d_M_seek_l37
  refine n_hI (r_M_sizeOf hm x1) (fun v2 h1 m1 q1 => ?_)
  refine n_if ?_ ?_
  · refine n_gI q1 (by decide) (by decide) (by decide) (fun v3 => ?_)
    exact n_rI q1
  · refine n_hI (r_M_isOnTape q1 x1 x3 x2) (fun v5 h4 m4 q4 => ?_)
    refine n_if ?_ ?_
    · exact hr37 q4 x1 x2 (x3 + (1 : Int32))
    · refine n_gQ (k := 27) q4 (by decide) (by decide) ?_
      refine n_gI q4 (by decide) (by decide) (by decide) (fun v7 => ?_)
      refine n_nn ?_
      refine n_stI (k := 27) q4 (by decide) (fun h10 m10 q10 => ?_)
      refine n_gI q10 (by decide) (by decide) (by decide) (fun v11 => ?_)
      refine n_pI q10 (by decide) (by decide) (by decide) (fun h12 m12 q12 => ?_)
      exact hr37 q12 x1 x2 (x3 + (1 : Int32))
theorem u_M_seek_l37 {g : Nat → Nat} {this : Nat} : ∀ (n : Nat) {ms : MS} {h : PH} (_ : MRep g this ms h) (x1 : Int32) (x2 : Int32) (x3 : Int32), RM g this h (itr (c_M_seek_l37) (fun _ _ _ _ _ => none) n h this x1 x2 x3) (itr (d_M_seek_l37) (fun _ _ _ _ => none) n ms x1 x2 x3)
  | 0 => fun _ _ _ _ => n_none
  | n + 1 => fun hm x1 x2 x3 => r_M_seek_l37 (u_M_seek_l37 n) hm x1 x2 x3
def d_M_seek (ms : MS) (x1 : Int32) : Option DR :=
  nm (mset ms 0 0 (0 : Int32)) fun m1 =>
  bI (d_M_take m1) fun v3 m2 =>
  bI (d_M_isRow m2 x1) fun v5 m4 =>
  if v5 = 0 then
    dI (-1 : Int32) m4
  else
    bI (d_M_areTapeBits m4 v3 (32 : Int32)) fun v7 m6 =>
    if v7 = 0 then
      dI (-1 : Int32) m6
    else
      nm (mset m6 28 0 (0 : Int32)) fun m8 =>
      itr (d_M_seek_l37) (fun _ _ _ _ => none) FU m8 x1 v3 (0 : Int32)
theorem r_M_seek {g : Nat → Nat} {this : Nat} {ms : MS} {h : PH} (hm : MRep g this ms h) (x1 : Int32) : RM g this h (c_M_seek h this x1) (d_M_seek ms x1) := by
  unfold c_M_seek d_M_seek
  refine n_grd hm ?_
  refine n_pI hm (by decide) (by decide) (by decide) (fun h1 m1 q1 => ?_)
  refine n_hI (r_M_take q1) (fun v3 h2 m2 q2 => ?_)
  refine n_hI (r_M_isRow q2 x1) (fun v5 h4 m4 q4 => ?_)
  refine n_if ?_ ?_
  · exact n_rI q4
  · refine n_hI (r_M_areTapeBits q4 v3 (32 : Int32)) (fun v7 h6 m6 q6 => ?_)
    refine n_if ?_ ?_
    · exact n_rI q6
    · refine n_pI q6 (by decide) (by decide) (by decide) (fun h8 m8 q8 => ?_)
      exact u_M_seek_l37 FU q8 x1 v3 (0 : Int32)
def d_M_seekAt (ms : MS) (x1 : Int32) : Option DR :=
  nm (mset ms 0 0 (0 : Int32)) fun m1 =>
  nm (m1.1 28 0) fun v2 =>
  bI (d_M_isIn m1 x1 (0 : Int32) (v2 - (1 : Int32))) fun v4 m3 =>
  if v4 = 0 then
    dI (-1 : Int32) m3
  else
    eA m3 27 x1 fun v8 =>
    dI v8 m3
theorem r_M_seekAt {g : Nat → Nat} {this : Nat} {ms : MS} {h : PH} (hm : MRep g this ms h) (x1 : Int32) : RM g this h (c_M_seekAt h this x1) (d_M_seekAt ms x1) := by
  unfold c_M_seekAt d_M_seekAt
  refine n_grd hm ?_
  refine n_pI hm (by decide) (by decide) (by decide) (fun h1 m1 q1 => ?_)
  refine n_gI q1 (by decide) (by decide) (by decide) (fun v2 => ?_)
  refine n_hI (r_M_isIn q1 x1 (0 : Int32) (v2 - (1 : Int32))) (fun v4 h3 m3 q3 => ?_)
  refine n_if ?_ ?_
  · exact n_rI q3
  · refine n_gQ (k := 27) q3 (by decide) (by decide) ?_
    refine n_nn ?_
    refine n_ldI (k := 27) q3 (by decide) (fun v8 => ?_)
    exact n_rI q3
def d_M_letters (ms : MS) : Option DR :=
  nm (mset ms 0 0 (0 : Int32)) fun m1 =>
  eA m1 14 (2615 : Int32) fun v5 =>
  dI v5 m1
theorem r_M_letters {g : Nat → Nat} {this : Nat} {ms : MS} {h : PH} (hm : MRep g this ms h) : RM g this h (c_M_letters h this) (d_M_letters ms) := by
  unfold c_M_letters d_M_letters
  refine n_grd hm ?_
  refine n_pI hm (by decide) (by decide) (by decide) (fun h1 m1 q1 => ?_)
  refine n_gQ (k := 14) q1 (by decide) (by decide) ?_
  refine n_nn ?_
  refine n_ldI (k := 14) q1 (by decide) (fun v5 => ?_)
  exact n_rI q1
def d_M_isLetterAt (ms : MS) (x1 : Int32) : Option DR :=
  eA ms 14 (2615 : Int32) fun v4 =>
  bI (d_M_isIn ms x1 (0 : Int32) (v4 - (1 : Int32))) fun v6 m5 =>
  dZ v6 m5
theorem r_M_isLetterAt {g : Nat → Nat} {this : Nat} {ms : MS} {h : PH} (hm : MRep g this ms h) (x1 : Int32) : RM g this h (c_M_isLetterAt h this x1) (d_M_isLetterAt ms x1) := by
  unfold c_M_isLetterAt d_M_isLetterAt
  refine n_grd hm ?_
  refine n_gQ (k := 14) hm (by decide) (by decide) ?_
  refine n_nn ?_
  refine n_ldI (k := 14) hm (by decide) (fun v4 => ?_)
  refine n_hI (r_M_isIn hm x1 (0 : Int32) (v4 - (1 : Int32))) (fun v6 h5 m5 q5 => ?_)
  exact n_rZ q5
def d_M_letter (ms : MS) (x1 : Int32) : Option DR :=
  nm (mset ms 0 0 (0 : Int32)) fun m1 =>
  bI (d_M_isLetterAt m1 x1) fun v3 m2 =>
  if v3 = 0 then
    dI (-1 : Int32) m2
  else
    eA m2 14 ((2616 : Int32) + x1) fun v7 =>
    dI v7 m2
theorem r_M_letter {g : Nat → Nat} {this : Nat} {ms : MS} {h : PH} (hm : MRep g this ms h) (x1 : Int32) : RM g this h (c_M_letter h this x1) (d_M_letter ms x1) := by
  unfold c_M_letter d_M_letter
  refine n_grd hm ?_
  refine n_pI hm (by decide) (by decide) (by decide) (fun h1 m1 q1 => ?_)
  refine n_hI (r_M_isLetterAt q1 x1) (fun v3 h2 m2 q2 => ?_)
  refine n_if ?_ ?_
  · exact n_rI q2
  · refine n_gQ (k := 14) q2 (by decide) (by decide) ?_
    refine n_nn ?_
    refine n_ldI (k := 14) q2 (by decide) (fun v7 => ?_)
    exact n_rI q2
def d_M_count_l38 (r38' : MS → Int32 → Int32 → Int32 → Int32 → Option DR) (ms : MS) (x1 : Int32) (x2 : Int32) (x3 : Int32) (x4 : Int32) : Option DR :=
  if x2 ≤ x4 then
    dI x3 ms
  else
    eA ms 14 ((2616 : Int32) + x4) fun v4 =>
    if v4 = x1 then
      r38' ms x1 x2 (x3 + (1 : Int32)) (x4 + (1 : Int32))
    else
      r38' ms x1 x2 x3 (x4 + (1 : Int32))
theorem r_M_count_l38 {g : Nat → Nat} {this : Nat} {r38 : PH → Nat → Int32 → Int32 → Int32 → Int32 → Option RH} {r38' : MS → Int32 → Int32 → Int32 → Int32 → Option DR} (hr38 : ∀ {ms : MS} {h : PH} (_ : MRep g this ms h) (x1 : Int32) (x2 : Int32) (x3 : Int32) (x4 : Int32), RM g this h (r38 h this x1 x2 x3 x4) (r38' ms x1 x2 x3 x4)) {ms : MS} {h : PH} (hm : MRep g this ms h) (x1 : Int32) (x2 : Int32) (x3 : Int32) (x4 : Int32) : RM g this h (c_M_count_l38 r38 h this x1 x2 x3 x4) (d_M_count_l38 r38' ms x1 x2 x3 x4) := by
  unfold c_M_count_l38 d_M_count_l38
  refine n_if ?_ ?_
  · exact n_rI hm
  · refine n_gQ (k := 14) hm (by decide) (by decide) ?_
    refine n_nn ?_
    refine n_ldI (k := 14) hm (by decide) (fun v4 => ?_)
    refine n_if ?_ ?_
    · exact hr38 hm x1 x2 (x3 + (1 : Int32)) (x4 + (1 : Int32))
    · exact hr38 hm x1 x2 x3 (x4 + (1 : Int32))
theorem u_M_count_l38 {g : Nat → Nat} {this : Nat} : ∀ (n : Nat) {ms : MS} {h : PH} (_ : MRep g this ms h) (x1 : Int32) (x2 : Int32) (x3 : Int32) (x4 : Int32), RM g this h (itr (c_M_count_l38) (fun _ _ _ _ _ _ => none) n h this x1 x2 x3 x4) (itr (d_M_count_l38) (fun _ _ _ _ _ => none) n ms x1 x2 x3 x4)
  | 0 => fun _ _ _ _ _ => n_none
  | n + 1 => fun hm x1 x2 x3 x4 => r_M_count_l38 (u_M_count_l38 n) hm x1 x2 x3 x4
def d_M_count (ms : MS) (x1 : Int32) (x2 : Int32) : Option DR :=
  nm (mset ms 0 0 (0 : Int32)) fun m1 =>
  bI (d_M_isIn m1 x1 (0 : Int32) (7 : Int32)) fun v3 m2 =>
  if v3 = 0 then
    dI (-1 : Int32) m2
  else
    eA m2 14 (2615 : Int32) fun v7 =>
    bI (d_M_isIn m2 x2 (0 : Int32) v7) fun v9 m8 =>
    if v9 = 0 then
      dI (-1 : Int32) m8
    else
      itr (d_M_count_l38) (fun _ _ _ _ _ => none) FU m8 x1 x2 (0 : Int32) (0 : Int32)
theorem r_M_count {g : Nat → Nat} {this : Nat} {ms : MS} {h : PH} (hm : MRep g this ms h) (x1 : Int32) (x2 : Int32) : RM g this h (c_M_count h this x1 x2) (d_M_count ms x1 x2) := by
  unfold c_M_count d_M_count
  refine n_grd hm ?_
  refine n_pI hm (by decide) (by decide) (by decide) (fun h1 m1 q1 => ?_)
  refine n_hI (r_M_isIn q1 x1 (0 : Int32) (7 : Int32)) (fun v3 h2 m2 q2 => ?_)
  refine n_if ?_ ?_
  · exact n_rI q2
  · refine n_gQ (k := 14) q2 (by decide) (by decide) ?_
    refine n_nn ?_
    refine n_ldI (k := 14) q2 (by decide) (fun v7 => ?_)
    refine n_hI (r_M_isIn q2 x2 (0 : Int32) v7) (fun v9 h8 m8 q8 => ?_)
    refine n_if ?_ ?_
    · exact n_rI q8
    · exact u_M_count_l38 FU q8 x1 x2 (0 : Int32) (0 : Int32)
def d_M_place_l26 (r26' : MS → Int32 → Int32 → Int32 → Int32 → Option DR) (ms : MS) (x1 : Int32) (x2 : Int32) (x3 : Int32) (x4 : Int32) : Option DR :=
  eA ms 14 (2615 : Int32) fun v4 =>
  if v4 ≤ x4 then
    dI (-1 : Int32) ms
  else
    eA ms 14 ((2616 : Int32) + x4) fun v8 =>
    if v8 = x1 then
      if x3 = x2 then
        dI x4 ms
      else
        r26' ms x1 x2 (x3 + (1 : Int32)) (x4 + (1 : Int32))
    else
      r26' ms x1 x2 x3 (x4 + (1 : Int32))
theorem r_M_place_l26 {g : Nat → Nat} {this : Nat} {r26 : PH → Nat → Int32 → Int32 → Int32 → Int32 → Option RH} {r26' : MS → Int32 → Int32 → Int32 → Int32 → Option DR} (hr26 : ∀ {ms : MS} {h : PH} (_ : MRep g this ms h) (x1 : Int32) (x2 : Int32) (x3 : Int32) (x4 : Int32), RM g this h (r26 h this x1 x2 x3 x4) (r26' ms x1 x2 x3 x4)) {ms : MS} {h : PH} (hm : MRep g this ms h) (x1 : Int32) (x2 : Int32) (x3 : Int32) (x4 : Int32) : RM g this h (c_M_place_l26 r26 h this x1 x2 x3 x4) (d_M_place_l26 r26' ms x1 x2 x3 x4) := by
  unfold c_M_place_l26 d_M_place_l26
  refine n_gQ (k := 14) hm (by decide) (by decide) ?_
  refine n_nn ?_
  refine n_ldI (k := 14) hm (by decide) (fun v4 => ?_)
  refine n_if ?_ ?_
  · exact n_rI hm
  · refine n_gQ (k := 14) hm (by decide) (by decide) ?_
    refine n_nn ?_
    refine n_ldI (k := 14) hm (by decide) (fun v8 => ?_)
    refine n_if ?_ ?_
    · refine n_if ?_ ?_
      · exact n_rI hm
      · exact hr26 hm x1 x2 (x3 + (1 : Int32)) (x4 + (1 : Int32))
    · exact hr26 hm x1 x2 x3 (x4 + (1 : Int32))
theorem u_M_place_l26 {g : Nat → Nat} {this : Nat} : ∀ (n : Nat) {ms : MS} {h : PH} (_ : MRep g this ms h) (x1 : Int32) (x2 : Int32) (x3 : Int32) (x4 : Int32), RM g this h (itr (c_M_place_l26) (fun _ _ _ _ _ _ => none) n h this x1 x2 x3 x4) (itr (d_M_place_l26) (fun _ _ _ _ _ => none) n ms x1 x2 x3 x4)
  | 0 => fun _ _ _ _ _ => n_none
  | n + 1 => fun hm x1 x2 x3 x4 => r_M_place_l26 (u_M_place_l26 n) hm x1 x2 x3 x4
def d_M_place (ms : MS) (x1 : Int32) (x2 : Int32) : Option DR :=
  nm (mset ms 0 0 (0 : Int32)) fun m1 =>
  bI (d_M_isIn m1 x1 (0 : Int32) (7 : Int32)) fun v3 m2 =>
  if v3 = 0 then
    dI (-1 : Int32) m2
  else
    if 0 ≤ x2 then
      itr (d_M_place_l26) (fun _ _ _ _ _ => none) FU m2 x1 x2 (0 : Int32) (0 : Int32)
    else
      dI (-1 : Int32) m2
theorem r_M_place {g : Nat → Nat} {this : Nat} {ms : MS} {h : PH} (hm : MRep g this ms h) (x1 : Int32) (x2 : Int32) : RM g this h (c_M_place h this x1 x2) (d_M_place ms x1 x2) := by
  unfold c_M_place d_M_place
  refine n_grd hm ?_
  refine n_pI hm (by decide) (by decide) (by decide) (fun h1 m1 q1 => ?_)
  refine n_hI (r_M_isIn q1 x1 (0 : Int32) (7 : Int32)) (fun v3 h2 m2 q2 => ?_)
  refine n_if ?_ ?_
  · exact n_rI q2
  · refine n_if ?_ ?_
    · exact u_M_place_l26 FU q2 x1 x2 (0 : Int32) (0 : Int32)
    · exact n_rI q2
def d_M_least_l43 (r33' : MS → Int32 → Int32 → Int32 → Int32 → Int32 → Option DR) (r43' : MS → Int32 → Int32 → Int32 → Int32 → Int32 → Int32 → Option DR) (ms : MS) (x1 : Int32) (x2 : Int32) (x3 : Int32) (x4 : Int32) (x5 : Int32) (x6 : Int32) : Option DR :=
  if x2 ≤ x6 then
    if x4 ≤ x3 then
      r33' ms x1 x2 x3 x4 (x5 + (1 : Int32))
    else
      dI x5 ms
  else
    eA ms 14 ((2616 : Int32) + x6) fun v4 =>
    if v4 = x5 then
      r43' ms x1 x2 x3 (x4 + (1 : Int32)) x5 (x6 + (1 : Int32))
    else
      r43' ms x1 x2 x3 x4 x5 (x6 + (1 : Int32))
theorem r_M_least_l43 {g : Nat → Nat} {this : Nat} {r33 : PH → Nat → Int32 → Int32 → Int32 → Int32 → Int32 → Option RH} {r33' : MS → Int32 → Int32 → Int32 → Int32 → Int32 → Option DR} {r43 : PH → Nat → Int32 → Int32 → Int32 → Int32 → Int32 → Int32 → Option RH} {r43' : MS → Int32 → Int32 → Int32 → Int32 → Int32 → Int32 → Option DR} (hr33 : ∀ {ms : MS} {h : PH} (_ : MRep g this ms h) (x1 : Int32) (x2 : Int32) (x3 : Int32) (x4 : Int32) (x5 : Int32), RM g this h (r33 h this x1 x2 x3 x4 x5) (r33' ms x1 x2 x3 x4 x5)) (hr43 : ∀ {ms : MS} {h : PH} (_ : MRep g this ms h) (x1 : Int32) (x2 : Int32) (x3 : Int32) (x4 : Int32) (x5 : Int32) (x6 : Int32), RM g this h (r43 h this x1 x2 x3 x4 x5 x6) (r43' ms x1 x2 x3 x4 x5 x6)) {ms : MS} {h : PH} (hm : MRep g this ms h) (x1 : Int32) (x2 : Int32) (x3 : Int32) (x4 : Int32) (x5 : Int32) (x6 : Int32) : RM g this h (c_M_least_l43 r33 r43 h this x1 x2 x3 x4 x5 x6) (d_M_least_l43 r33' r43' ms x1 x2 x3 x4 x5 x6) := by
  unfold c_M_least_l43 d_M_least_l43
  refine n_if ?_ ?_
  · refine n_if ?_ ?_
    · exact hr33 hm x1 x2 x3 x4 (x5 + (1 : Int32))
    · exact n_rI hm
  · refine n_gQ (k := 14) hm (by decide) (by decide) ?_
    refine n_nn ?_
    refine n_ldI (k := 14) hm (by decide) (fun v4 => ?_)
    refine n_if ?_ ?_
    · exact hr43 hm x1 x2 x3 (x4 + (1 : Int32)) x5 (x6 + (1 : Int32))
    · exact hr43 hm x1 x2 x3 x4 x5 (x6 + (1 : Int32))
theorem u_M_least_l43 {g : Nat → Nat} {this : Nat} {r33 : PH → Nat → Int32 → Int32 → Int32 → Int32 → Int32 → Option RH} {r33' : MS → Int32 → Int32 → Int32 → Int32 → Int32 → Option DR} (hr33 : ∀ {ms : MS} {h : PH} (_ : MRep g this ms h) (x1 : Int32) (x2 : Int32) (x3 : Int32) (x4 : Int32) (x5 : Int32), RM g this h (r33 h this x1 x2 x3 x4 x5) (r33' ms x1 x2 x3 x4 x5)) : ∀ (n : Nat) {ms : MS} {h : PH} (_ : MRep g this ms h) (x1 : Int32) (x2 : Int32) (x3 : Int32) (x4 : Int32) (x5 : Int32) (x6 : Int32), RM g this h (itr (c_M_least_l43 r33) (fun _ _ _ _ _ _ _ _ => none) n h this x1 x2 x3 x4 x5 x6) (itr (d_M_least_l43 r33') (fun _ _ _ _ _ _ _ => none) n ms x1 x2 x3 x4 x5 x6)
  | 0 => fun _ _ _ _ _ _ _ => n_none
  | n + 1 => fun hm x1 x2 x3 x4 x5 x6 => r_M_least_l43 hr33 (u_M_least_l43 hr33 n) hm x1 x2 x3 x4 x5 x6
def d_M_least_l33 (r33' : MS → Int32 → Int32 → Int32 → Int32 → Int32 → Option DR) (ms : MS) (x1 : Int32) (x2 : Int32) (x3 : Int32) (x4 : Int32) (x5 : Int32) : Option DR :=
  if (8 : Int32) ≤ x5 then
    dI (-1 : Int32) ms
  else
    itr (d_M_least_l43 r33') (fun _ _ _ _ _ _ _ => none) FU ms x1 x2 x3 x4 x5 x1
theorem r_M_least_l33 {g : Nat → Nat} {this : Nat} {r33 : PH → Nat → Int32 → Int32 → Int32 → Int32 → Int32 → Option RH} {r33' : MS → Int32 → Int32 → Int32 → Int32 → Int32 → Option DR} (hr33 : ∀ {ms : MS} {h : PH} (_ : MRep g this ms h) (x1 : Int32) (x2 : Int32) (x3 : Int32) (x4 : Int32) (x5 : Int32), RM g this h (r33 h this x1 x2 x3 x4 x5) (r33' ms x1 x2 x3 x4 x5)) {ms : MS} {h : PH} (hm : MRep g this ms h) (x1 : Int32) (x2 : Int32) (x3 : Int32) (x4 : Int32) (x5 : Int32) : RM g this h (c_M_least_l33 r33 h this x1 x2 x3 x4 x5) (d_M_least_l33 r33' ms x1 x2 x3 x4 x5) := by
  unfold c_M_least_l33 d_M_least_l33
  refine n_if ?_ ?_
  · exact n_rI hm
  · exact u_M_least_l43 hr33 FU hm x1 x2 x3 x4 x5 x1
theorem u_M_least_l33 {g : Nat → Nat} {this : Nat} : ∀ (n : Nat) {ms : MS} {h : PH} (_ : MRep g this ms h) (x1 : Int32) (x2 : Int32) (x3 : Int32) (x4 : Int32) (x5 : Int32), RM g this h (itr (c_M_least_l33) (fun _ _ _ _ _ _ _ => none) n h this x1 x2 x3 x4 x5) (itr (d_M_least_l33) (fun _ _ _ _ _ _ => none) n ms x1 x2 x3 x4 x5)
  | 0 => fun _ _ _ _ _ _ => n_none
  | n + 1 => fun hm x1 x2 x3 x4 x5 => r_M_least_l33 (u_M_least_l33 n) hm x1 x2 x3 x4 x5
def d_M_least (ms : MS) (x1 : Int32) (x2 : Int32) (x3 : Int32) : Option DR :=
  nm (mset ms 0 0 (0 : Int32)) fun m1 =>
  if x1 < 0 then
    dI (-1 : Int32) m1
  else
    eA m1 14 (2615 : Int32) fun v5 =>
    if v5 < x2 then
      dI (-1 : Int32) m1
    else
      if 0 ≤ x3 then
        itr (d_M_least_l33) (fun _ _ _ _ _ _ => none) FU m1 x1 x2 x3 (0 : Int32) (0 : Int32)
      else
        dI (-1 : Int32) m1
theorem r_M_least {g : Nat → Nat} {this : Nat} {ms : MS} {h : PH} (hm : MRep g this ms h) (x1 : Int32) (x2 : Int32) (x3 : Int32) : RM g this h (c_M_least h this x1 x2 x3) (d_M_least ms x1 x2 x3) := by
  unfold c_M_least d_M_least
  refine n_grd hm ?_
  refine n_pI hm (by decide) (by decide) (by decide) (fun h1 m1 q1 => ?_)
  refine n_if ?_ ?_
  · exact n_rI q1
  · refine n_gQ (k := 14) q1 (by decide) (by decide) ?_
    refine n_nn ?_
    refine n_ldI (k := 14) q1 (by decide) (fun v5 => ?_)
    refine n_if ?_ ?_
    · exact n_rI q1
    · refine n_if ?_ ?_
      · exact u_M_least_l33 FU q1 x1 x2 x3 (0 : Int32) (0 : Int32)
      · exact n_rI q1
def d_M_isInNode_j18 (ms : MS) (x0 : Int32) (x1 : Int32) : Option DR :=
  if x0 ≤ (2 : Int32) then
    dZ (0 : Int32) ms
  else
    nz (2 : Int32) <|
    if (x1 / (2 : Int32)) = (x0 - (3 : Int32)) then
      dZ (1 : Int32) ms
    else
      dZ (0 : Int32) ms
theorem r_M_isInNode_j18 {g : Nat → Nat} {this : Nat} {ms : MS} {h : PH} (hm : MRep g this ms h) (x0 : Int32) (x1 : Int32) : RM g this h (c_M_isInNode_j18 h x0 x1) (d_M_isInNode_j18 ms x0 x1) := by
  unfold c_M_isInNode_j18 d_M_isInNode_j18
  refine n_if ?_ ?_
  · exact n_rZ hm
  · refine n_nz ?_
    refine n_if ?_ ?_
    · exact n_rZ hm
    · exact n_rZ hm
def d_M_isInNode (ms : MS) (x0 : Int32) (x1 : Int32) : Option DR :=
  if x0 = 0 then
    dZ (1 : Int32) ms
  else
    if (3 : Int32) ≤ x0 then
      d_M_isInNode_j18 ms x0 x1
    else
      nz (4 : Int32) <|
      if (x1 / (4 : Int32)) = (x0 - (1 : Int32)) then
        dZ (1 : Int32) ms
      else
        d_M_isInNode_j18 ms x0 x1
theorem r_M_isInNode {g : Nat → Nat} {this : Nat} {ms : MS} {h : PH} (hm : MRep g this ms h) (x0 : Int32) (x1 : Int32) : RM g this h (c_M_isInNode h x0 x1) (d_M_isInNode ms x0 x1) := by
  unfold c_M_isInNode d_M_isInNode
  refine n_if ?_ ?_
  · exact n_rZ hm
  · refine n_if ?_ ?_
    · exact (r_M_isInNode_j18 hm x0 x1)
    · refine n_nz ?_
      refine n_if ?_ ?_
      · exact n_rZ hm
      · exact (r_M_isInNode_j18 hm x0 x1)
def d_M_node_l26 (r26' : MS → Int32 → Int32 → Int32 → Int32 → Option DR) (ms : MS) (x1 : Int32) (x2 : Int32) (x3 : Int32) (x4 : Int32) : Option DR :=
  eA ms 14 (2615 : Int32) fun v4 =>
  if v4 ≤ x4 then
    dI (-1 : Int32) ms
  else
    eA ms 14 ((2616 : Int32) + x4) fun v8 =>
    bI (d_M_isInNode ms x1 v8) fun v10 m9 =>
    if v10 = 0 then
      r26' m9 x1 x2 x3 (x4 + (1 : Int32))
    else
      if x3 = x2 then
        if x1 = 0 then
          dI ((v8 >>> ((2 : Int32) &&& 31)) &&& (1 : Int32)) m9
        else
          if (3 : Int32) ≤ x1 then
            dI ((v8 >>> ((0 : Int32) &&& 31)) &&& (1 : Int32)) m9
          else
            dI ((v8 >>> ((1 : Int32) &&& 31)) &&& (1 : Int32)) m9
      else
        r26' m9 x1 x2 (x3 + (1 : Int32)) (x4 + (1 : Int32))
theorem r_M_node_l26 {g : Nat → Nat} {this : Nat} {r26 : PH → Nat → Int32 → Int32 → Int32 → Int32 → Option RH} {r26' : MS → Int32 → Int32 → Int32 → Int32 → Option DR} (hr26 : ∀ {ms : MS} {h : PH} (_ : MRep g this ms h) (x1 : Int32) (x2 : Int32) (x3 : Int32) (x4 : Int32), RM g this h (r26 h this x1 x2 x3 x4) (r26' ms x1 x2 x3 x4)) {ms : MS} {h : PH} (hm : MRep g this ms h) (x1 : Int32) (x2 : Int32) (x3 : Int32) (x4 : Int32) : RM g this h (c_M_node_l26 r26 h this x1 x2 x3 x4) (d_M_node_l26 r26' ms x1 x2 x3 x4) := by
  unfold c_M_node_l26 d_M_node_l26
  refine n_gQ (k := 14) hm (by decide) (by decide) ?_
  refine n_nn ?_
  refine n_ldI (k := 14) hm (by decide) (fun v4 => ?_)
  refine n_if ?_ ?_
  · exact n_rI hm
  · refine n_gQ (k := 14) hm (by decide) (by decide) ?_
    refine n_nn ?_
    refine n_ldI (k := 14) hm (by decide) (fun v8 => ?_)
    refine n_hI (r_M_isInNode hm x1 v8) (fun v10 h9 m9 q9 => ?_)
    refine n_if ?_ ?_
    · exact hr26 q9 x1 x2 x3 (x4 + (1 : Int32))
    · refine n_if ?_ ?_
      · refine n_if ?_ ?_
        · exact n_rI q9
        · refine n_if ?_ ?_
          · exact n_rI q9
          · exact n_rI q9
      · exact hr26 q9 x1 x2 (x3 + (1 : Int32)) (x4 + (1 : Int32))
theorem u_M_node_l26 {g : Nat → Nat} {this : Nat} : ∀ (n : Nat) {ms : MS} {h : PH} (_ : MRep g this ms h) (x1 : Int32) (x2 : Int32) (x3 : Int32) (x4 : Int32), RM g this h (itr (c_M_node_l26) (fun _ _ _ _ _ _ => none) n h this x1 x2 x3 x4) (itr (d_M_node_l26) (fun _ _ _ _ _ => none) n ms x1 x2 x3 x4)
  | 0 => fun _ _ _ _ _ => n_none
  | n + 1 => fun hm x1 x2 x3 x4 => r_M_node_l26 (u_M_node_l26 n) hm x1 x2 x3 x4
def d_M_node (ms : MS) (x1 : Int32) (x2 : Int32) : Option DR :=
  nm (mset ms 0 0 (0 : Int32)) fun m1 =>
  bI (d_M_isIn m1 x1 (0 : Int32) (6 : Int32)) fun v3 m2 =>
  if v3 = 0 then
    dI (-1 : Int32) m2
  else
    if 0 ≤ x2 then
      itr (d_M_node_l26) (fun _ _ _ _ _ => none) FU m2 x1 x2 (0 : Int32) (0 : Int32)
    else
      dI (-1 : Int32) m2
theorem r_M_node {g : Nat → Nat} {this : Nat} {ms : MS} {h : PH} (hm : MRep g this ms h) (x1 : Int32) (x2 : Int32) : RM g this h (c_M_node h this x1 x2) (d_M_node ms x1 x2) := by
  unfold c_M_node d_M_node
  refine n_grd hm ?_
  refine n_pI hm (by decide) (by decide) (by decide) (fun h1 m1 q1 => ?_)
  refine n_hI (r_M_isIn q1 x1 (0 : Int32) (6 : Int32)) (fun v3 h2 m2 q2 => ?_)
  refine n_if ?_ ?_
  · exact n_rI q2
  · refine n_if ?_ ?_
    · exact u_M_node_l26 FU q2 x1 x2 (0 : Int32) (0 : Int32)
    · exact n_rI q2
def d_M_whyPut (ms : MS) (x1 : Int32) (x2 : Int32) (x3 : Int32) : Option DR :=
  bI (d_M_sizeOf ms x1) fun v2 m1 =>
  bI (d_M_isIn m1 x2 (0 : Int32) v2) fun v4 m3 =>
  if v4 = 0 then
    dI (1 : Int32) m3
  else
    bI (d_M_sizeOf m3 x1) fun v6 m5 =>
    if (v6 + x3) ≤ (600 : Int32) then
      dI (0 : Int32) m5
    else
      dI (2 : Int32) m5
theorem r_M_whyPut {g : Nat → Nat} {this : Nat} {ms : MS} {h : PH} (hm : MRep g this ms h) (x1 : Int32) (x2 : Int32) (x3 : Int32) : RM g this h (c_M_whyPut h this x1 x2 x3) (d_M_whyPut ms x1 x2 x3) := by
  unfold c_M_whyPut d_M_whyPut
  refine n_grd hm ?_
  refine n_hI (r_M_sizeOf hm x1) (fun v2 h1 m1 q1 => ?_)
  refine n_hI (r_M_isIn q1 x2 (0 : Int32) v2) (fun v4 h3 m3 q3 => ?_)
  refine n_if ?_ ?_
  · exact n_rI q3
  · refine n_hI (r_M_sizeOf q3 x1) (fun v6 h5 m5 q5 => ?_)
    refine n_if ?_ ?_
    · exact n_rI q5
    · exact n_rI q5
def d_M_areThere (ms : MS) (x0 : Int32) (x1 : Int32) (x2 : Int32) : Option DR :=
  if x0 < 0 then
    dZ (0 : Int32) ms
  else
    if x2 < x1 then
      dZ (0 : Int32) ms
    else
      if (x2 - x1) < x0 then
        dZ (0 : Int32) ms
      else
        dZ (1 : Int32) ms
theorem r_M_areThere {g : Nat → Nat} {this : Nat} {ms : MS} {h : PH} (hm : MRep g this ms h) (x0 : Int32) (x1 : Int32) (x2 : Int32) : RM g this h (c_M_areThere h x0 x1 x2) (d_M_areThere ms x0 x1 x2) := by
  unfold c_M_areThere d_M_areThere
  refine n_if ?_ ?_
  · exact n_rZ hm
  · refine n_if ?_ ?_
    · exact n_rZ hm
    · refine n_if ?_ ?_
      · exact n_rZ hm
      · exact n_rZ hm
def d_M_refusal_j82 (ms : MS) (x2 : Int32) (x3 : Int32) (x4 : Int32) : Option DR :=
  bI (d_M_sizeOf ms x2) fun v2 m1 =>
  bI (d_M_areThere m1 x3 x4 v2) fun v4 m3 =>
  if v4 = 0 then
    dI (1 : Int32) m3
  else
    dI (0 : Int32) m3
theorem r_M_refusal_j82 {g : Nat → Nat} {this : Nat} {ms : MS} {h : PH} (hm : MRep g this ms h) (x2 : Int32) (x3 : Int32) (x4 : Int32) : RM g this h (c_M_refusal_j82 h this x2 x3 x4) (d_M_refusal_j82 ms x2 x3 x4) := by
  unfold c_M_refusal_j82 d_M_refusal_j82
  refine n_hI (r_M_sizeOf hm x2) (fun v2 h1 m1 q1 => ?_)
  refine n_hI (r_M_areThere q1 x3 x4 v2) (fun v4 h3 m3 q3 => ?_)
  refine n_if ?_ ?_
  · exact n_rI q3
  · exact n_rI q3
def d_M_refusal (ms : MS) (x1 : Int32) (x2 : Int32) (x3 : Int32) (x4 : Int32) : Option DR :=
  if x1 = 0 then
    bI (d_M_whyPut ms x2 x3 (1 : Int32)) fun v2 m1 =>
    dI v2 m1
  else
    if x1 = 1 then
      bI (d_M_isThere ms x2 x3) fun v4 m3 =>
      if v4 = 0 then
        dI (1 : Int32) m3
      else
        bI (d_M_bitOf m3 x2 x3) fun v6 m5 =>
        if v6 = x4 then
          dI (2 : Int32) m5
        else
          dI (0 : Int32) m5
    else
      if x1 = 2 then
        d_M_refusal_j82 ms x2 x3 x4
      else
        if x1 = 3 then
          d_M_refusal_j82 ms x2 x3 x4
        else
          if x1 = 4 then
            bI (d_M_sizeOf ms x4) fun v8 m7 =>
            if v8 = 0 then
              dI (1 : Int32) m7
            else
              bI (d_M_sizeOf m7 x2) fun v10 m9 =>
              bI (d_M_sizeOf m9 x4) fun v12 m11 =>
              if (v10 + v12) ≤ (600 : Int32) then
                dI (0 : Int32) m11
              else
                dI (2 : Int32) m11
          else
            if x1 = 5 then
              bI (d_M_isThere ms x2 x3) fun v14 m13 =>
              if v14 = 0 then
                dI (1 : Int32) m13
              else
                bI (d_M_sizeOf m13 x4) fun v16 m15 =>
                bI (d_M_sizeOf m15 x2) fun v18 m17 =>
                if ((v16 + v18) - x3) ≤ (600 : Int32) then
                  dI (0 : Int32) m17
                else
                  dI (2 : Int32) m17
            else
              if x1 = 6 then
                eA ms 14 (2615 : Int32) fun v22 =>
                bI (d_M_isIn ms x3 (0 : Int32) v22) fun v24 m23 =>
                if v24 = 0 then
                  dI (1 : Int32) m23
                else
                  eA m23 14 (2615 : Int32) fun v28 =>
                  if v28 = (200 : Int32) then
                    dI (2 : Int32) m23
                  else
                    dI (0 : Int32) m23
              else
                eA ms 14 (2615 : Int32) fun v32 =>
                bI (d_M_areThere ms x3 x4 v32) fun v34 m33 =>
                if v34 = 0 then
                  dI (1 : Int32) m33
                else
                  dI (0 : Int32) m33
theorem r_M_refusal {g : Nat → Nat} {this : Nat} {ms : MS} {h : PH} (hm : MRep g this ms h) (x1 : Int32) (x2 : Int32) (x3 : Int32) (x4 : Int32) : RM g this h (c_M_refusal h this x1 x2 x3 x4) (d_M_refusal ms x1 x2 x3 x4) := by
  unfold c_M_refusal d_M_refusal
  refine n_grd hm ?_
  refine n_if ?_ ?_
  · refine n_hI (r_M_whyPut hm x2 x3 (1 : Int32)) (fun v2 h1 m1 q1 => ?_)
    exact n_rI q1
  · refine n_if ?_ ?_
    · refine n_hI (r_M_isThere hm x2 x3) (fun v4 h3 m3 q3 => ?_)
      refine n_if ?_ ?_
      · exact n_rI q3
      · refine n_hI (r_M_bitOf q3 x2 x3) (fun v6 h5 m5 q5 => ?_)
        refine n_if ?_ ?_
        · exact n_rI q5
        · exact n_rI q5
    · refine n_if ?_ ?_
      · exact (r_M_refusal_j82 hm x2 x3 x4)
      · refine n_if ?_ ?_
        · exact (r_M_refusal_j82 hm x2 x3 x4)
        · refine n_if ?_ ?_
          · refine n_hI (r_M_sizeOf hm x4) (fun v8 h7 m7 q7 => ?_)
            refine n_if ?_ ?_
            · exact n_rI q7
            · refine n_hI (r_M_sizeOf q7 x2) (fun v10 h9 m9 q9 => ?_)
              refine n_hI (r_M_sizeOf q9 x4) (fun v12 h11 m11 q11 => ?_)
              refine n_if ?_ ?_
              · exact n_rI q11
              · exact n_rI q11
          · refine n_if ?_ ?_
            · refine n_hI (r_M_isThere hm x2 x3) (fun v14 h13 m13 q13 => ?_)
              refine n_if ?_ ?_
              · exact n_rI q13
              · refine n_hI (r_M_sizeOf q13 x4) (fun v16 h15 m15 q15 => ?_)
                refine n_hI (r_M_sizeOf q15 x2) (fun v18 h17 m17 q17 => ?_)
                refine n_if ?_ ?_
                · exact n_rI q17
                · exact n_rI q17
            · refine n_if ?_ ?_
              · refine n_gQ (k := 14) hm (by decide) (by decide) ?_
                refine n_nn ?_
                refine n_ldI (k := 14) hm (by decide) (fun v22 => ?_)
                refine n_hI (r_M_isIn hm x3 (0 : Int32) v22) (fun v24 h23 m23 q23 => ?_)
                refine n_if ?_ ?_
                · exact n_rI q23
                · refine n_gQ (k := 14) q23 (by decide) (by decide) ?_
                  refine n_nn ?_
                  refine n_ldI (k := 14) q23 (by decide) (fun v28 => ?_)
                  refine n_if ?_ ?_
                  · exact n_rI q23
                  · exact n_rI q23
              · refine n_gQ (k := 14) hm (by decide) (by decide) ?_
                refine n_nn ?_
                refine n_ldI (k := 14) hm (by decide) (fun v32 => ?_)
                refine n_hI (r_M_areThere hm x3 x4 v32) (fun v34 h33 m33 q33 => ?_)
                refine n_if ?_ ?_
                · exact n_rI q33
                · exact n_rI q33
def d_M_save_l2 (r2' : MS → Nat → Int32 → Int32 → Option DR) (ms : MS) (x1 : Nat) (x2 : Int32) (x3 : Int32) : Option DR :=
  if (3213 : Int32) ≤ x3 then
    dV ms
  else
    eA ms 14 ((2607 : Int32) + x3) fun v4 =>
    sA ms x1 (x2 + x3) v4 fun m5 =>
    r2' m5 x1 x2 (x3 + (1 : Int32))
theorem r_M_save_l2 {g : Nat → Nat} {this : Nat} {r2 : PH → Nat → Nat → Int32 → Int32 → Option RH} {r2' : MS → Nat → Int32 → Int32 → Option DR} (hr2 : ∀ {ms : MS} {h : PH} (_ : MRep g this ms h) (x1 : Nat) (x2 : Int32) (x3 : Int32) (_ : (x1, mLn x1) ∈ iArr), RM g this h (r2 h this (g x1) x2 x3) (r2' ms x1 x2 x3)) {ms : MS} {h : PH} (hm : MRep g this ms h) (x1 : Nat) (x2 : Int32) (x3 : Int32) (hx1 : (x1, mLn x1) ∈ iArr) : RM g this h (c_M_save_l2 r2 h this (g x1) x2 x3) (d_M_save_l2 r2' ms x1 x2 x3) := by
  unfold c_M_save_l2 d_M_save_l2
  refine n_if ?_ ?_
  · exact n_rV hm
  · refine n_gQ (k := 14) hm (by decide) (by decide) ?_
    refine n_nn ?_
    refine n_ldI (k := 14) hm (by decide) (fun v4 => ?_)
    refine n_stI (k := x1) hm hx1 (fun h5 m5 q5 => ?_)
    exact hr2 q5 x1 x2 (x3 + (1 : Int32)) hx1
theorem u_M_save_l2 {g : Nat → Nat} {this : Nat} : ∀ (n : Nat) {ms : MS} {h : PH} (_ : MRep g this ms h) (x1 : Nat) (x2 : Int32) (x3 : Int32) (_ : (x1, mLn x1) ∈ iArr), RM g this h (itr (c_M_save_l2) (fun _ _ _ _ _ => none) n h this (g x1) x2 x3) (itr (d_M_save_l2) (fun _ _ _ _ => none) n ms x1 x2 x3)
  | 0 => fun _ _ _ _ _ => n_none
  | n + 1 => fun hm x1 x2 x3 k0 => r_M_save_l2 (u_M_save_l2 n) hm x1 x2 x3 k0
def d_M_save (ms : MS) (x1 : Nat) (x2 : Int32) : Option DR :=
  itr (d_M_save_l2) (fun _ _ _ _ => none) FU ms x1 x2 (0 : Int32)
theorem r_M_save {g : Nat → Nat} {this : Nat} {ms : MS} {h : PH} (hm : MRep g this ms h) (x1 : Nat) (x2 : Int32) (hx1 : (x1, mLn x1) ∈ iArr) : RM g this h (c_M_save h this (g x1) x2) (d_M_save ms x1 x2) := by
  unfold c_M_save d_M_save
  refine n_grd hm ?_
  exact u_M_save_l2 FU hm x1 x2 (0 : Int32) hx1
def d_M_snap_j50 (ms : MS) : Option DR :=
  nm (ms.1 24 0) fun v2 =>
  bV (d_M_save ms 17 ((3213 : Int32) * v2)) fun m5 =>
  nm (m5.1 24 0) fun v6 =>
  nm (mset m5 24 0 (v6 + (1 : Int32))) fun m7 =>
  dV m7
theorem r_M_snap_j50 {g : Nat → Nat} {this : Nat} {ms : MS} {h : PH} (hm : MRep g this ms h) : RM g this h (c_M_snap_j50 h this) (d_M_snap_j50 ms) := by
  unfold c_M_snap_j50 d_M_snap_j50
  refine n_gQ (k := 17) hm (by decide) (by decide) ?_
  refine n_gI hm (by decide) (by decide) (by decide) (fun v2 => ?_)
  refine n_nn ?_
  refine n_hV (r_M_save hm 17 ((3213 : Int32) * v2) (by decide)) (fun h5 m5 q5 => ?_)
  refine n_gI q5 (by decide) (by decide) (by decide) (fun v6 => ?_)
  refine n_pI q5 (by decide) (by decide) (by decide) (fun h7 m7 q7 => ?_)
  exact n_rV q7
def d_M_snap_l11 (r11' : MS → Int32 → Option DR) (ms : MS) (x1 : Int32) : Option DR :=
  if (22491 : Int32) ≤ x1 then
    nm (ms.1 24 0) fun v1 =>
    nm (mset ms 24 0 (v1 - (1 : Int32))) fun m2 =>
    d_M_snap_j50 m2
  else
    eA ms 17 (x1 + (3213 : Int32)) fun v7 =>
    sA ms 17 x1 v7 fun m10 =>
    r11' m10 (x1 + (1 : Int32))
theorem r_M_snap_l11 {g : Nat → Nat} {this : Nat} {r11 : PH → Nat → Int32 → Option RH} {r11' : MS → Int32 → Option DR} (hr11 : ∀ {ms : MS} {h : PH} (_ : MRep g this ms h) (x1 : Int32), RM g this h (r11 h this x1) (r11' ms x1)) {ms : MS} {h : PH} (hm : MRep g this ms h) (x1 : Int32) : RM g this h (c_M_snap_l11 r11 h this x1) (d_M_snap_l11 r11' ms x1) := by
  unfold c_M_snap_l11 d_M_snap_l11
  refine n_if ?_ ?_
  · refine n_gI hm (by decide) (by decide) (by decide) (fun v1 => ?_)
    refine n_pI hm (by decide) (by decide) (by decide) (fun h2 m2 q2 => ?_)
    exact (r_M_snap_j50 q2)
  · refine n_gQ (k := 17) hm (by decide) (by decide) ?_
    refine n_gQ (k := 17) hm (by decide) (by decide) ?_
    refine n_nn ?_
    refine n_ldI (k := 17) hm (by decide) (fun v7 => ?_)
    refine n_nn ?_
    refine n_stI (k := 17) hm (by decide) (fun h10 m10 q10 => ?_)
    exact hr11 q10 (x1 + (1 : Int32))
theorem u_M_snap_l11 {g : Nat → Nat} {this : Nat} : ∀ (n : Nat) {ms : MS} {h : PH} (_ : MRep g this ms h) (x1 : Int32), RM g this h (itr (c_M_snap_l11) (fun _ _ _ => none) n h this x1) (itr (d_M_snap_l11) (fun _ _ => none) n ms x1)
  | 0 => fun _ _ => n_none
  | n + 1 => fun hm x1 => r_M_snap_l11 (u_M_snap_l11 n) hm x1
def d_M_snap (ms : MS) : Option DR :=
  nm (ms.1 24 0) fun v1 =>
  if v1 = (8 : Int32) then
    itr (d_M_snap_l11) (fun _ _ => none) FU ms (0 : Int32)
  else
    d_M_snap_j50 ms
theorem r_M_snap {g : Nat → Nat} {this : Nat} {ms : MS} {h : PH} (hm : MRep g this ms h) : RM g this h (c_M_snap h this) (d_M_snap ms) := by
  unfold c_M_snap d_M_snap
  refine n_grd hm ?_
  refine n_gI hm (by decide) (by decide) (by decide) (fun v1 => ?_)
  refine n_if ?_ ?_
  · exact u_M_snap_l11 FU hm (0 : Int32)
  · exact (r_M_snap_j50 hm)
def d_M_joinLeaves_l45 (r45' : MS → Int32 → Int32 → Int32 → Option DR) (ms : MS) (x1 : Int32) (x2 : Int32) (x3 : Int32) : Option DR :=
  eA ms 14 ((2611 : Int32) + x1) fun v4 =>
  if v4 ≤ x3 then
    eA ms 14 ((2611 : Int32) + x1) fun v9 =>
    bI (d_M_leafAt ms x1 v9) fun v11 m10 =>
    sA m10 14 v11 (0 : Int32) fun m14 =>
    bI (d_M_leafAt m14 x1 x2) fun v17 m16 =>
    eA m16 14 v17 fun v20 =>
    eA m16 14 (1 : Int32) fun v24 =>
    if v20 ≤ ((2 : Int32) * v24) then
      dV m16
    else
      bV (d_M_splitLeaf m16 x1 x2) fun m25 =>
      dV m25
  else
    bI (d_M_leafAt ms x1 x3) fun v28 m27 =>
    bI (d_M_leafAt m27 x1 (x3 + (1 : Int32))) fun v31 m30 =>
    eA m30 14 v31 fun v34 =>
    sA m30 14 v28 v34 fun m37 =>
    r45' m37 x1 x2 (x3 + (1 : Int32))
theorem r_M_joinLeaves_l45 {g : Nat → Nat} {this : Nat} {r45 : PH → Nat → Int32 → Int32 → Int32 → Option RH} {r45' : MS → Int32 → Int32 → Int32 → Option DR} (hr45 : ∀ {ms : MS} {h : PH} (_ : MRep g this ms h) (x1 : Int32) (x2 : Int32) (x3 : Int32), RM g this h (r45 h this x1 x2 x3) (r45' ms x1 x2 x3)) {ms : MS} {h : PH} (hm : MRep g this ms h) (x1 : Int32) (x2 : Int32) (x3 : Int32) : RM g this h (c_M_joinLeaves_l45 r45 h this x1 x2 x3) (d_M_joinLeaves_l45 r45' ms x1 x2 x3) := by
  unfold c_M_joinLeaves_l45 d_M_joinLeaves_l45
  refine n_gQ (k := 14) hm (by decide) (by decide) ?_
  refine n_nn ?_
  refine n_ldI (k := 14) hm (by decide) (fun v4 => ?_)
  refine n_if ?_ ?_
  · refine n_gQ (k := 14) hm (by decide) (by decide) ?_
    refine n_gQ (k := 14) hm (by decide) (by decide) ?_
    refine n_nn ?_
    refine n_ldI (k := 14) hm (by decide) (fun v9 => ?_)
    refine n_hI (r_M_leafAt hm x1 v9) (fun v11 h10 m10 q10 => ?_)
    refine n_nn ?_
    refine n_stI (k := 14) q10 (by decide) (fun h14 m14 q14 => ?_)
    refine n_gQ (k := 14) q14 (by decide) (by decide) ?_
    refine n_hI (r_M_leafAt q14 x1 x2) (fun v17 h16 m16 q16 => ?_)
    refine n_nn ?_
    refine n_ldI (k := 14) q16 (by decide) (fun v20 => ?_)
    refine n_gQ (k := 14) q16 (by decide) (by decide) ?_
    refine n_nn ?_
    refine n_ldI (k := 14) q16 (by decide) (fun v24 => ?_)
    refine n_if ?_ ?_
    · exact n_rV q16
    · refine n_hV (r_M_splitLeaf q16 x1 x2) (fun h25 m25 q25 => ?_)
      exact n_rV q25
  · refine n_gQ (k := 14) hm (by decide) (by decide) ?_
    refine n_hI (r_M_leafAt hm x1 x3) (fun v28 h27 m27 q27 => ?_)
    refine n_gQ (k := 14) q27 (by decide) (by decide) ?_
    refine n_hI (r_M_leafAt q27 x1 (x3 + (1 : Int32))) (fun v31 h30 m30 q30 => ?_)
    refine n_nn ?_
    refine n_ldI (k := 14) q30 (by decide) (fun v34 => ?_)
    refine n_nn ?_
    refine n_stI (k := 14) q30 (by decide) (fun h37 m37 q37 => ?_)
    exact hr45 q37 x1 x2 (x3 + (1 : Int32))
theorem u_M_joinLeaves_l45 {g : Nat → Nat} {this : Nat} : ∀ (n : Nat) {ms : MS} {h : PH} (_ : MRep g this ms h) (x1 : Int32) (x2 : Int32) (x3 : Int32), RM g this h (itr (c_M_joinLeaves_l45) (fun _ _ _ _ _ => none) n h this x1 x2 x3) (itr (d_M_joinLeaves_l45) (fun _ _ _ _ => none) n ms x1 x2 x3)
  | 0 => fun _ _ _ _ => n_none
  | n + 1 => fun hm x1 x2 x3 => r_M_joinLeaves_l45 (u_M_joinLeaves_l45 n) hm x1 x2 x3
def d_M_joinLeaves (ms : MS) (x1 : Int32) (x2 : Int32) : Option DR :=
  bI (d_M_leafAt ms x1 x2) fun v3 m2 =>
  eA m2 14 v3 fun v6 =>
  bI (d_M_leafAt m2 x1 (x2 + (1 : Int32))) fun v9 m8 =>
  eA m8 14 v9 fun v12 =>
  sA m8 14 v3 (v6 + v12) fun m13 =>
  eA m13 14 ((2611 : Int32) + x1) fun v17 =>
  sA m13 14 ((2611 : Int32) + x1) (v17 - (1 : Int32)) fun m18 =>
  nm (x2 + (1 : Int32)) fun y19 =>
  itr (d_M_joinLeaves_l45) (fun _ _ _ _ => none) FU m18 x1 x2 y19
theorem r_M_joinLeaves {g : Nat → Nat} {this : Nat} {ms : MS} {h : PH} (hm : MRep g this ms h) (x1 : Int32) (x2 : Int32) : RM g this h (c_M_joinLeaves h this x1 x2) (d_M_joinLeaves ms x1 x2) := by
  unfold c_M_joinLeaves d_M_joinLeaves
  refine n_grd hm ?_
  refine n_gQ (k := 14) hm (by decide) (by decide) ?_
  refine n_hI (r_M_leafAt hm x1 x2) (fun v3 h2 m2 q2 => ?_)
  refine n_nn ?_
  refine n_ldI (k := 14) q2 (by decide) (fun v6 => ?_)
  refine n_gQ (k := 14) q2 (by decide) (by decide) ?_
  refine n_hI (r_M_leafAt q2 x1 (x2 + (1 : Int32))) (fun v9 h8 m8 q8 => ?_)
  refine n_nn ?_
  refine n_ldI (k := 14) q8 (by decide) (fun v12 => ?_)
  refine n_stI (k := 14) q8 (by decide) (fun h13 m13 q13 => ?_)
  refine n_gQ (k := 14) q13 (by decide) (by decide) ?_
  refine n_nn ?_
  refine n_ldI (k := 14) q13 (by decide) (fun v17 => ?_)
  refine n_stI (k := 14) q13 (by decide) (fun h18 m18 q18 => ?_)
  refine n_nm (fun y19 => ?_)
  exact u_M_joinLeaves_l45 FU q18 x1 x2 y19
def d_M_takeBit_l35 (r35' : MS → Int32 → Int32 → Int32 → Int32 → Option DR) (ms : MS) (x1 : Int32) (x3 : Int32) (x4 : Int32) (x5 : Int32) : Option DR :=
  bI (d_M_sizeOf ms x1) fun v2 m1 =>
  if v2 ≤ x5 then
    bI (d_M_sizeOf m1 x1) fun v5 m4 =>
    sA m4 14 (x3 + v5) (0 : Int32) fun m8 =>
    bI (d_M_leafAt m8 x1 x4) fun v11 m10 =>
    eA m10 14 v11 fun v14 =>
    sA m10 14 v11 (v14 - (1 : Int32)) fun m15 =>
    eA m15 14 ((2611 : Int32) + x1) fun v19 =>
    if v19 = (1 : Int32) then
      bI (d_M_leafAt m15 x1 x4) fun v38 m37 =>
      eA m37 14 v38 fun v41 =>
      if v41 = 0 then
        sA m37 14 ((2611 : Int32) + x1) (0 : Int32) fun m45 =>
        dV m45
      else
        dV m37
    else
      bI (d_M_leafAt m15 x1 x4) fun v22 m21 =>
      eA m21 14 v22 fun v25 =>
      eA m21 14 (1 : Int32) fun v29 =>
      if v29 ≤ v25 then
        dV m21
      else
        eA m21 14 ((2611 : Int32) + x1) fun v33 =>
        if (v33 - (1 : Int32)) ≤ x4 then
          bV (d_M_joinLeaves m21 x1 (x4 - (1 : Int32))) fun m34 =>
          dV m34
        else
          bV (d_M_joinLeaves m21 x1 x4) fun m35 =>
          dV m35
  else
    eA m1 14 ((x3 + x5) + (1 : Int32)) fun v50 =>
    sA m1 14 (x3 + x5) v50 fun m53 =>
    r35' m53 x1 x3 x4 (x5 + (1 : Int32))
theorem r_M_takeBit_l35 {g : Nat → Nat} {this : Nat} {r35 : PH → Nat → Int32 → Int32 → Int32 → Int32 → Option RH} {r35' : MS → Int32 → Int32 → Int32 → Int32 → Option DR} (hr35 : ∀ {ms : MS} {h : PH} (_ : MRep g this ms h) (x1 : Int32) (x3 : Int32) (x4 : Int32) (x5 : Int32), RM g this h (r35 h this x1 x3 x4 x5) (r35' ms x1 x3 x4 x5)) {ms : MS} {h : PH} (hm : MRep g this ms h) (x1 : Int32) (x3 : Int32) (x4 : Int32) (x5 : Int32) : RM g this h (c_M_takeBit_l35 r35 h this x1 x3 x4 x5) (d_M_takeBit_l35 r35' ms x1 x3 x4 x5) := by
  unfold c_M_takeBit_l35 d_M_takeBit_l35
  refine n_hI (r_M_sizeOf hm x1) (fun v2 h1 m1 q1 => ?_)
  refine n_if ?_ ?_
  · refine n_gQ (k := 14) q1 (by decide) (by decide) ?_
    refine n_hI (r_M_sizeOf q1 x1) (fun v5 h4 m4 q4 => ?_)
    refine n_nn ?_
    refine n_stI (k := 14) q4 (by decide) (fun h8 m8 q8 => ?_)
    refine n_gQ (k := 14) q8 (by decide) (by decide) ?_
    refine n_hI (r_M_leafAt q8 x1 x4) (fun v11 h10 m10 q10 => ?_)
    refine n_nn ?_
    refine n_ldI (k := 14) q10 (by decide) (fun v14 => ?_)
    refine n_stI (k := 14) q10 (by decide) (fun h15 m15 q15 => ?_)
    refine n_gQ (k := 14) q15 (by decide) (by decide) ?_
    refine n_nn ?_
    refine n_ldI (k := 14) q15 (by decide) (fun v19 => ?_)
    refine n_if ?_ ?_
    · refine n_gQ (k := 14) q15 (by decide) (by decide) ?_
      refine n_hI (r_M_leafAt q15 x1 x4) (fun v38 h37 m37 q37 => ?_)
      refine n_nn ?_
      refine n_ldI (k := 14) q37 (by decide) (fun v41 => ?_)
      refine n_if ?_ ?_
      · refine n_gQ (k := 14) q37 (by decide) (by decide) ?_
        refine n_nn ?_
        refine n_stI (k := 14) q37 (by decide) (fun h45 m45 q45 => ?_)
        exact n_rV q45
      · exact n_rV q37
    · refine n_gQ (k := 14) q15 (by decide) (by decide) ?_
      refine n_hI (r_M_leafAt q15 x1 x4) (fun v22 h21 m21 q21 => ?_)
      refine n_nn ?_
      refine n_ldI (k := 14) q21 (by decide) (fun v25 => ?_)
      refine n_gQ (k := 14) q21 (by decide) (by decide) ?_
      refine n_nn ?_
      refine n_ldI (k := 14) q21 (by decide) (fun v29 => ?_)
      refine n_if ?_ ?_
      · exact n_rV q21
      · refine n_gQ (k := 14) q21 (by decide) (by decide) ?_
        refine n_nn ?_
        refine n_ldI (k := 14) q21 (by decide) (fun v33 => ?_)
        refine n_if ?_ ?_
        · refine n_hV (r_M_joinLeaves q21 x1 (x4 - (1 : Int32))) (fun h34 m34 q34 => ?_)
          exact n_rV q34
        · refine n_hV (r_M_joinLeaves q21 x1 x4) (fun h35 m35 q35 => ?_)
          exact n_rV q35
  · refine n_gQ (k := 14) q1 (by decide) (by decide) ?_
    refine n_gQ (k := 14) q1 (by decide) (by decide) ?_
    refine n_nn ?_
    refine n_ldI (k := 14) q1 (by decide) (fun v50 => ?_)
    refine n_nn ?_
    refine n_stI (k := 14) q1 (by decide) (fun h53 m53 q53 => ?_)
    exact hr35 q53 x1 x3 x4 (x5 + (1 : Int32))
theorem u_M_takeBit_l35 {g : Nat → Nat} {this : Nat} : ∀ (n : Nat) {ms : MS} {h : PH} (_ : MRep g this ms h) (x1 : Int32) (x3 : Int32) (x4 : Int32) (x5 : Int32), RM g this h (itr (c_M_takeBit_l35) (fun _ _ _ _ _ _ => none) n h this x1 x3 x4 x5) (itr (d_M_takeBit_l35) (fun _ _ _ _ _ => none) n ms x1 x3 x4 x5)
  | 0 => fun _ _ _ _ _ => n_none
  | n + 1 => fun hm x1 x3 x4 x5 => r_M_takeBit_l35 (u_M_takeBit_l35 n) hm x1 x3 x4 x5
def d_M_takeBit (ms : MS) (x1 : Int32) (x2 : Int32) : Option DR :=
  nm ((3420 : Int32) + ((600 : Int32) * x1)) fun y1 =>
  bI (d_M_leafOf ms x1 x2) fun v3 m2 =>
  eA m2 14 ((2607 : Int32) + x1) fun v7 =>
  sA m2 14 ((2607 : Int32) + x1) (v7 - (1 : Int32)) fun m8 =>
  itr (d_M_takeBit_l35) (fun _ _ _ _ _ => none) FU m8 x1 y1 v3 x2
theorem r_M_takeBit {g : Nat → Nat} {this : Nat} {ms : MS} {h : PH} (hm : MRep g this ms h) (x1 : Int32) (x2 : Int32) : RM g this h (c_M_takeBit h this x1 x2) (d_M_takeBit ms x1 x2) := by
  unfold c_M_takeBit d_M_takeBit
  refine n_grd hm ?_
  refine n_nm (fun y1 => ?_)
  refine n_hI (r_M_leafOf hm x1 x2) (fun v3 h2 m2 q2 => ?_)
  refine n_gQ (k := 14) q2 (by decide) (by decide) ?_
  refine n_nn ?_
  refine n_ldI (k := 14) q2 (by decide) (fun v7 => ?_)
  refine n_stI (k := 14) q2 (by decide) (fun h8 m8 q8 => ?_)
  exact u_M_takeBit_l35 FU q8 x1 y1 v3 x2
def d_M_moves_l47 (r47' : MS → Int32 → Int32 → Int32 → Int32 → Option DR) (ms : MS) (x1 : Int32) (x2 : Int32) (x4 : Int32) (x5 : Int32) : Option DR :=
  if x4 ≤ x5 then
    dV ms
  else
    bV (d_M_takeBit ms x1 x2) fun m1 =>
    r47' m1 x1 x2 x4 (x5 + (1 : Int32))
theorem r_M_moves_l47 {g : Nat → Nat} {this : Nat} {r47 : PH → Nat → Int32 → Int32 → Int32 → Int32 → Option RH} {r47' : MS → Int32 → Int32 → Int32 → Int32 → Option DR} (hr47 : ∀ {ms : MS} {h : PH} (_ : MRep g this ms h) (x1 : Int32) (x2 : Int32) (x4 : Int32) (x5 : Int32), RM g this h (r47 h this x1 x2 x4 x5) (r47' ms x1 x2 x4 x5)) {ms : MS} {h : PH} (hm : MRep g this ms h) (x1 : Int32) (x2 : Int32) (x4 : Int32) (x5 : Int32) : RM g this h (c_M_moves_l47 r47 h this x1 x2 x4 x5) (d_M_moves_l47 r47' ms x1 x2 x4 x5) := by
  unfold c_M_moves_l47 d_M_moves_l47
  refine n_if ?_ ?_
  · exact n_rV hm
  · refine n_hV (r_M_takeBit hm x1 x2) (fun h1 m1 q1 => ?_)
    exact hr47 q1 x1 x2 x4 (x5 + (1 : Int32))
theorem u_M_moves_l47 {g : Nat → Nat} {this : Nat} : ∀ (n : Nat) {ms : MS} {h : PH} (_ : MRep g this ms h) (x1 : Int32) (x2 : Int32) (x4 : Int32) (x5 : Int32), RM g this h (itr (c_M_moves_l47) (fun _ _ _ _ _ _ => none) n h this x1 x2 x4 x5) (itr (d_M_moves_l47) (fun _ _ _ _ _ => none) n ms x1 x2 x4 x5)
  | 0 => fun _ _ _ _ _ => n_none
  | n + 1 => fun hm x1 x2 x4 x5 => r_M_moves_l47 (u_M_moves_l47 n) hm x1 x2 x4 x5
def d_M_moves_l12 (r12' : MS → Int32 → Int32 → Int32 → Int32 → Int32 → Option DR) (ms : MS) (x1 : Int32) (x2 : Int32) (x3 : Int32) (x4 : Int32) (x5 : Int32) : Option DR :=
  if x4 ≤ x5 then
    itr (d_M_moves_l47) (fun _ _ _ _ _ => none) FU ms x1 x2 x4 (0 : Int32)
  else
    bI (d_M_sizeOf ms x3) fun v2 m1 =>
    bI (d_M_bitOf m1 x1 (x2 + x5)) fun v4 m3 =>
    bV (d_M_putBit m3 x3 v2 v4) fun m5 =>
    r12' m5 x1 x2 x3 x4 (x5 + (1 : Int32))
theorem r_M_moves_l12 {g : Nat → Nat} {this : Nat} {r12 : PH → Nat → Int32 → Int32 → Int32 → Int32 → Int32 → Option RH} {r12' : MS → Int32 → Int32 → Int32 → Int32 → Int32 → Option DR} (hr12 : ∀ {ms : MS} {h : PH} (_ : MRep g this ms h) (x1 : Int32) (x2 : Int32) (x3 : Int32) (x4 : Int32) (x5 : Int32), RM g this h (r12 h this x1 x2 x3 x4 x5) (r12' ms x1 x2 x3 x4 x5)) {ms : MS} {h : PH} (hm : MRep g this ms h) (x1 : Int32) (x2 : Int32) (x3 : Int32) (x4 : Int32) (x5 : Int32) : RM g this h (c_M_moves_l12 r12 h this x1 x2 x3 x4 x5) (d_M_moves_l12 r12' ms x1 x2 x3 x4 x5) := by
  unfold c_M_moves_l12 d_M_moves_l12
  refine n_if ?_ ?_
  · exact u_M_moves_l47 FU hm x1 x2 x4 (0 : Int32)
  · refine n_hI (r_M_sizeOf hm x3) (fun v2 h1 m1 q1 => ?_)
    refine n_hI (r_M_bitOf q1 x1 (x2 + x5)) (fun v4 h3 m3 q3 => ?_)
    refine n_hV (r_M_putBit q3 x3 v2 v4) (fun h5 m5 q5 => ?_)
    exact hr12 q5 x1 x2 x3 x4 (x5 + (1 : Int32))
theorem u_M_moves_l12 {g : Nat → Nat} {this : Nat} : ∀ (n : Nat) {ms : MS} {h : PH} (_ : MRep g this ms h) (x1 : Int32) (x2 : Int32) (x3 : Int32) (x4 : Int32) (x5 : Int32), RM g this h (itr (c_M_moves_l12) (fun _ _ _ _ _ _ _ => none) n h this x1 x2 x3 x4 x5) (itr (d_M_moves_l12) (fun _ _ _ _ _ _ => none) n ms x1 x2 x3 x4 x5)
  | 0 => fun _ _ _ _ _ _ => n_none
  | n + 1 => fun hm x1 x2 x3 x4 x5 => r_M_moves_l12 (u_M_moves_l12 n) hm x1 x2 x3 x4 x5
def d_M_moves (ms : MS) (x1 : Int32) (x2 : Int32) (x3 : Int32) : Option DR :=
  bI (d_M_sizeOf ms x1) fun v2 m1 =>
  nm (v2 - x2) fun y3 =>
  itr (d_M_moves_l12) (fun _ _ _ _ _ _ => none) FU m1 x1 x2 x3 y3 (0 : Int32)
theorem r_M_moves {g : Nat → Nat} {this : Nat} {ms : MS} {h : PH} (hm : MRep g this ms h) (x1 : Int32) (x2 : Int32) (x3 : Int32) : RM g this h (c_M_moves h this x1 x2 x3) (d_M_moves ms x1 x2 x3) := by
  unfold c_M_moves d_M_moves
  refine n_grd hm ?_
  refine n_hI (r_M_sizeOf hm x1) (fun v2 h1 m1 q1 => ?_)
  refine n_nm (fun y3 => ?_)
  exact u_M_moves_l12 FU q1 x1 x2 x3 y3 (0 : Int32)
def d_M_live_l75 (r75' : MS → Int32 → Int32 → Int32 → Int32 → Option DR) (ms : MS) (x2 : Int32) (x3 : Int32) (x4 : Int32) (x5 : Int32) : Option DR :=
  if x4 ≤ x5 then
    dV ms
  else
    bV (d_M_takeBit ms x2 x3) fun m1 =>
    r75' m1 x2 x3 x4 (x5 + (1 : Int32))
theorem r_M_live_l75 {g : Nat → Nat} {this : Nat} {r75 : PH → Nat → Int32 → Int32 → Int32 → Int32 → Option RH} {r75' : MS → Int32 → Int32 → Int32 → Int32 → Option DR} (hr75 : ∀ {ms : MS} {h : PH} (_ : MRep g this ms h) (x2 : Int32) (x3 : Int32) (x4 : Int32) (x5 : Int32), RM g this h (r75 h this x2 x3 x4 x5) (r75' ms x2 x3 x4 x5)) {ms : MS} {h : PH} (hm : MRep g this ms h) (x2 : Int32) (x3 : Int32) (x4 : Int32) (x5 : Int32) : RM g this h (c_M_live_l75 r75 h this x2 x3 x4 x5) (d_M_live_l75 r75' ms x2 x3 x4 x5) := by
  unfold c_M_live_l75 d_M_live_l75
  refine n_if ?_ ?_
  · exact n_rV hm
  · refine n_hV (r_M_takeBit hm x2 x3) (fun h1 m1 q1 => ?_)
    exact hr75 q1 x2 x3 x4 (x5 + (1 : Int32))
theorem u_M_live_l75 {g : Nat → Nat} {this : Nat} : ∀ (n : Nat) {ms : MS} {h : PH} (_ : MRep g this ms h) (x2 : Int32) (x3 : Int32) (x4 : Int32) (x5 : Int32), RM g this h (itr (c_M_live_l75) (fun _ _ _ _ _ _ => none) n h this x2 x3 x4 x5) (itr (d_M_live_l75) (fun _ _ _ _ _ => none) n ms x2 x3 x4 x5)
  | 0 => fun _ _ _ _ _ => n_none
  | n + 1 => fun hm x2 x3 x4 x5 => r_M_live_l75 (u_M_live_l75 n) hm x2 x3 x4 x5
def d_M_live_l98 (r98' : MS → Int32 → Int32 → Int32 → Int32 → Option DR) (ms : MS) (x2 : Int32) (x3 : Int32) (x4 : Int32) (x5 : Int32) : Option DR :=
  if (x3 + x4) ≤ x5 then
    dV ms
  else
    bI (d_M_bitOf ms x2 x5) fun v3 m2 =>
    sA m2 14 (((3420 : Int32) + ((600 : Int32) * x2)) + x5) ((1 : Int32) - v3) fun m6 =>
    r98' m6 x2 x3 x4 (x5 + (1 : Int32))
theorem r_M_live_l98 {g : Nat → Nat} {this : Nat} {r98 : PH → Nat → Int32 → Int32 → Int32 → Int32 → Option RH} {r98' : MS → Int32 → Int32 → Int32 → Int32 → Option DR} (hr98 : ∀ {ms : MS} {h : PH} (_ : MRep g this ms h) (x2 : Int32) (x3 : Int32) (x4 : Int32) (x5 : Int32), RM g this h (r98 h this x2 x3 x4 x5) (r98' ms x2 x3 x4 x5)) {ms : MS} {h : PH} (hm : MRep g this ms h) (x2 : Int32) (x3 : Int32) (x4 : Int32) (x5 : Int32) : RM g this h (c_M_live_l98 r98 h this x2 x3 x4 x5) (d_M_live_l98 r98' ms x2 x3 x4 x5) := by
  unfold c_M_live_l98 d_M_live_l98
  refine n_if ?_ ?_
  · exact n_rV hm
  · refine n_gQ (k := 14) hm (by decide) (by decide) ?_
    refine n_hI (r_M_bitOf hm x2 x5) (fun v3 h2 m2 q2 => ?_)
    refine n_nn ?_
    refine n_stI (k := 14) q2 (by decide) (fun h6 m6 q6 => ?_)
    exact hr98 q6 x2 x3 x4 (x5 + (1 : Int32))
theorem u_M_live_l98 {g : Nat → Nat} {this : Nat} : ∀ (n : Nat) {ms : MS} {h : PH} (_ : MRep g this ms h) (x2 : Int32) (x3 : Int32) (x4 : Int32) (x5 : Int32), RM g this h (itr (c_M_live_l98) (fun _ _ _ _ _ _ => none) n h this x2 x3 x4 x5) (itr (d_M_live_l98) (fun _ _ _ _ _ => none) n ms x2 x3 x4 x5)
  | 0 => fun _ _ _ _ _ => n_none
  | n + 1 => fun hm x2 x3 x4 x5 => r_M_live_l98 (u_M_live_l98 n) hm x2 x3 x4 x5
def d_M_live_l168 (r168' : MS → Int32 → Int32 → Int32 → Option DR) (ms : MS) (x3 : Int32) (x4 : Int32) (x5 : Int32) : Option DR :=
  if x5 ≤ x3 then
    sA ms 14 ((2616 : Int32) + x3) x4 fun m4 =>
    eA m4 14 (2615 : Int32) fun v8 =>
    sA m4 14 (2615 : Int32) (v8 + (1 : Int32)) fun m9 =>
    dV m9
  else
    eA ms 14 (((2616 : Int32) + x5) - (1 : Int32)) fun v14 =>
    sA ms 14 ((2616 : Int32) + x5) v14 fun m17 =>
    r168' m17 x3 x4 (x5 + (-1 : Int32))
theorem r_M_live_l168 {g : Nat → Nat} {this : Nat} {r168 : PH → Nat → Int32 → Int32 → Int32 → Option RH} {r168' : MS → Int32 → Int32 → Int32 → Option DR} (hr168 : ∀ {ms : MS} {h : PH} (_ : MRep g this ms h) (x3 : Int32) (x4 : Int32) (x5 : Int32), RM g this h (r168 h this x3 x4 x5) (r168' ms x3 x4 x5)) {ms : MS} {h : PH} (hm : MRep g this ms h) (x3 : Int32) (x4 : Int32) (x5 : Int32) : RM g this h (c_M_live_l168 r168 h this x3 x4 x5) (d_M_live_l168 r168' ms x3 x4 x5) := by
  unfold c_M_live_l168 d_M_live_l168
  refine n_if ?_ ?_
  · refine n_gQ (k := 14) hm (by decide) (by decide) ?_
    refine n_nn ?_
    refine n_stI (k := 14) hm (by decide) (fun h4 m4 q4 => ?_)
    refine n_gQ (k := 14) q4 (by decide) (by decide) ?_
    refine n_nn ?_
    refine n_ldI (k := 14) q4 (by decide) (fun v8 => ?_)
    refine n_stI (k := 14) q4 (by decide) (fun h9 m9 q9 => ?_)
    exact n_rV q9
  · refine n_gQ (k := 14) hm (by decide) (by decide) ?_
    refine n_gQ (k := 14) hm (by decide) (by decide) ?_
    refine n_nn ?_
    refine n_ldI (k := 14) hm (by decide) (fun v14 => ?_)
    refine n_nn ?_
    refine n_stI (k := 14) hm (by decide) (fun h17 m17 q17 => ?_)
    exact hr168 q17 x3 x4 (x5 + (-1 : Int32))
theorem u_M_live_l168 {g : Nat → Nat} {this : Nat} : ∀ (n : Nat) {ms : MS} {h : PH} (_ : MRep g this ms h) (x3 : Int32) (x4 : Int32) (x5 : Int32), RM g this h (itr (c_M_live_l168) (fun _ _ _ _ _ => none) n h this x3 x4 x5) (itr (d_M_live_l168) (fun _ _ _ _ => none) n ms x3 x4 x5)
  | 0 => fun _ _ _ _ => n_none
  | n + 1 => fun hm x3 x4 x5 => r_M_live_l168 (u_M_live_l168 n) hm x3 x4 x5
def d_M_live_l245 (r245' : MS → Int32 → Int32 → Option DR) (ms : MS) (x4 : Int32) (x5 : Int32) : Option DR :=
  if (200 : Int32) ≤ x5 then
    dV ms
  else
    eA ms 14 (2615 : Int32) fun v5 =>
    if v5 ≤ x5 then
      sA ms 14 ((2616 : Int32) + x5) (0 : Int32) fun m8 =>
      r245' m8 x4 (x5 + (1 : Int32))
    else
      eA ms 14 (((2616 : Int32) + x5) + x4) fun v12 =>
      sA ms 14 ((2616 : Int32) + x5) v12 fun m15 =>
      r245' m15 x4 (x5 + (1 : Int32))
theorem r_M_live_l245 {g : Nat → Nat} {this : Nat} {r245 : PH → Nat → Int32 → Int32 → Option RH} {r245' : MS → Int32 → Int32 → Option DR} (hr245 : ∀ {ms : MS} {h : PH} (_ : MRep g this ms h) (x4 : Int32) (x5 : Int32), RM g this h (r245 h this x4 x5) (r245' ms x4 x5)) {ms : MS} {h : PH} (hm : MRep g this ms h) (x4 : Int32) (x5 : Int32) : RM g this h (c_M_live_l245 r245 h this x4 x5) (d_M_live_l245 r245' ms x4 x5) := by
  unfold c_M_live_l245 d_M_live_l245
  refine n_if ?_ ?_
  · exact n_rV hm
  · refine n_gQ (k := 14) hm (by decide) (by decide) ?_
    refine n_gQ (k := 14) hm (by decide) (by decide) ?_
    refine n_nn ?_
    refine n_ldI (k := 14) hm (by decide) (fun v5 => ?_)
    refine n_if ?_ ?_
    · refine n_nn ?_
      refine n_stI (k := 14) hm (by decide) (fun h8 m8 q8 => ?_)
      exact hr245 q8 x4 (x5 + (1 : Int32))
    · refine n_gQ (k := 14) hm (by decide) (by decide) ?_
      refine n_nn ?_
      refine n_ldI (k := 14) hm (by decide) (fun v12 => ?_)
      refine n_nn ?_
      refine n_stI (k := 14) hm (by decide) (fun h15 m15 q15 => ?_)
      exact hr245 q15 x4 (x5 + (1 : Int32))
theorem u_M_live_l245 {g : Nat → Nat} {this : Nat} : ∀ (n : Nat) {ms : MS} {h : PH} (_ : MRep g this ms h) (x4 : Int32) (x5 : Int32), RM g this h (itr (c_M_live_l245) (fun _ _ _ _ => none) n h this x4 x5) (itr (d_M_live_l245) (fun _ _ _ => none) n ms x4 x5)
  | 0 => fun _ _ _ => n_none
  | n + 1 => fun hm x4 x5 => r_M_live_l245 (u_M_live_l245 n) hm x4 x5
def d_M_live (ms : MS) (x1 : Int32) (x2 : Int32) (x3 : Int32) (x4 : Int32) : Option DR :=
  if x1 = 0 then
    bV (d_M_putBit ms x2 x3 x4) fun m1 =>
    dV m1
  else
    if x1 = 1 then
      sA ms 14 (((3420 : Int32) + ((600 : Int32) * x2)) + x3) x4 fun m5 =>
      dV m5
    else
      if x1 = 2 then
        itr (d_M_live_l75) (fun _ _ _ _ _ => none) FU ms x2 x3 x4 (0 : Int32)
      else
        if x1 = 3 then
          itr (d_M_live_l98) (fun _ _ _ _ _ => none) FU ms x2 x3 x4 x3
        else
          if x1 = 4 then
            bV (d_M_moves ms x4 (0 : Int32) x2) fun m6 =>
            dV m6
          else
            if x1 = 5 then
              bV (d_M_moves ms x2 x3 x4) fun m7 =>
              dV m7
            else
              if x1 = 6 then
                eA ms 14 (2615 : Int32) fun v11 =>
                itr (d_M_live_l168) (fun _ _ _ _ => none) FU ms x3 x4 v11
              else
                eA ms 14 (2615 : Int32) fun v15 =>
                sA ms 14 (2615 : Int32) (v15 - x4) fun m16 =>
                itr (d_M_live_l245) (fun _ _ _ => none) FU m16 x4 x3
theorem r_M_live {g : Nat → Nat} {this : Nat} {ms : MS} {h : PH} (hm : MRep g this ms h) (x1 : Int32) (x2 : Int32) (x3 : Int32) (x4 : Int32) : RM g this h (c_M_live h this x1 x2 x3 x4) (d_M_live ms x1 x2 x3 x4) := by
  unfold c_M_live d_M_live
  refine n_grd hm ?_
  refine n_if ?_ ?_
  · refine n_hV (r_M_putBit hm x2 x3 x4) (fun h1 m1 q1 => ?_)
    exact n_rV q1
  · refine n_if ?_ ?_
    · refine n_gQ (k := 14) hm (by decide) (by decide) ?_
      refine n_nn ?_
      refine n_stI (k := 14) hm (by decide) (fun h5 m5 q5 => ?_)
      exact n_rV q5
    · refine n_if ?_ ?_
      · exact u_M_live_l75 FU hm x2 x3 x4 (0 : Int32)
      · refine n_if ?_ ?_
        · exact u_M_live_l98 FU hm x2 x3 x4 x3
        · refine n_if ?_ ?_
          · refine n_hV (r_M_moves hm x4 (0 : Int32) x2) (fun h6 m6 q6 => ?_)
            exact n_rV q6
          · refine n_if ?_ ?_
            · refine n_hV (r_M_moves hm x2 x3 x4) (fun h7 m7 q7 => ?_)
              exact n_rV q7
            · refine n_if ?_ ?_
              · refine n_gQ (k := 14) hm (by decide) (by decide) ?_
                refine n_nn ?_
                refine n_ldI (k := 14) hm (by decide) (fun v11 => ?_)
                exact u_M_live_l168 FU hm x3 x4 v11
              · refine n_gQ (k := 14) hm (by decide) (by decide) ?_
                refine n_nn ?_
                refine n_ldI (k := 14) hm (by decide) (fun v15 => ?_)
                refine n_stI (k := 14) hm (by decide) (fun h16 m16 q16 => ?_)
                exact u_M_live_l245 FU q16 x4 x3
def d_M_act (ms : MS) (x1 : Int32) (x2 : Int32) (x3 : Int32) (x4 : Int32) (x5 : Int32) : Option DR :=
  if x5 = 0 then
    dI (-1 : Int32) ms
  else
    bI (d_M_refusal ms x1 x2 x3 x4) fun v2 m1 =>
    if v2 = 0 then
      bV (d_M_snap m1) fun m3 =>
      bV (d_M_live m3 x1 x2 x3 x4) fun m4 =>
      dI (0 : Int32) m4
    else
      dI v2 m1
theorem r_M_act {g : Nat → Nat} {this : Nat} {ms : MS} {h : PH} (hm : MRep g this ms h) (x1 : Int32) (x2 : Int32) (x3 : Int32) (x4 : Int32) (x5 : Int32) : RM g this h (c_M_act h this x1 x2 x3 x4 x5) (d_M_act ms x1 x2 x3 x4 x5) := by
  unfold c_M_act d_M_act
  refine n_grd hm ?_
  refine n_if ?_ ?_
  · exact n_rI hm
  · refine n_hI (r_M_refusal hm x1 x2 x3 x4) (fun v2 h1 m1 q1 => ?_)
    refine n_if ?_ ?_
    · refine n_hV (r_M_snap q1) (fun h3 m3 q3 => ?_)
      refine n_hV (r_M_live q3 x1 x2 x3 x4) (fun h4 m4 q4 => ?_)
      exact n_rI q4
    · exact n_rI q1
def d_M_put (ms : MS) (x1 : Int32) (x2 : Int32) (x3 : Int32) : Option DR :=
  nm (mset ms 0 0 (0 : Int32)) fun m1 =>
  bI (d_M_isRow m1 x1) fun v3 m2 =>
  if v3 = 0 then
    bI (d_M_act m2 (0 : Int32) x1 x2 x3 (0 : Int32)) fun v5 m4 =>
    dI v5 m4
  else
    bI (d_M_isBit m2 x3) fun v7 m6 =>
    if v7 = 0 then
      bI (d_M_act m6 (0 : Int32) x1 x2 x3 (0 : Int32)) fun v9 m8 =>
      dI v9 m8
    else
      bI (d_M_act m6 (0 : Int32) x1 x2 x3 (1 : Int32)) fun v11 m10 =>
      dI v11 m10
theorem r_M_put {g : Nat → Nat} {this : Nat} {ms : MS} {h : PH} (hm : MRep g this ms h) (x1 : Int32) (x2 : Int32) (x3 : Int32) : RM g this h (c_M_put h this x1 x2 x3) (d_M_put ms x1 x2 x3) := by
  unfold c_M_put d_M_put
  refine n_grd hm ?_
  refine n_pI hm (by decide) (by decide) (by decide) (fun h1 m1 q1 => ?_)
  refine n_hI (r_M_isRow q1 x1) (fun v3 h2 m2 q2 => ?_)
  refine n_if ?_ ?_
  · refine n_hI (r_M_act q2 (0 : Int32) x1 x2 x3 (0 : Int32)) (fun v5 h4 m4 q4 => ?_)
    exact n_rI q4
  · refine n_hI (r_M_isBit q2 x3) (fun v7 h6 m6 q6 => ?_)
    refine n_if ?_ ?_
    · refine n_hI (r_M_act q6 (0 : Int32) x1 x2 x3 (0 : Int32)) (fun v9 h8 m8 q8 => ?_)
      exact n_rI q8
    · refine n_hI (r_M_act q6 (0 : Int32) x1 x2 x3 (1 : Int32)) (fun v11 h10 m10 q10 => ?_)
      exact n_rI q10
def d_M_set (ms : MS) (x1 : Int32) (x2 : Int32) (x3 : Int32) : Option DR :=
  nm (mset ms 0 0 (0 : Int32)) fun m1 =>
  bI (d_M_isRow m1 x1) fun v3 m2 =>
  if v3 = 0 then
    bI (d_M_act m2 (1 : Int32) x1 x2 x3 (0 : Int32)) fun v5 m4 =>
    dI v5 m4
  else
    bI (d_M_isBit m2 x3) fun v7 m6 =>
    if v7 = 0 then
      bI (d_M_act m6 (1 : Int32) x1 x2 x3 (0 : Int32)) fun v9 m8 =>
      dI v9 m8
    else
      bI (d_M_act m6 (1 : Int32) x1 x2 x3 (1 : Int32)) fun v11 m10 =>
      dI v11 m10
theorem r_M_set {g : Nat → Nat} {this : Nat} {ms : MS} {h : PH} (hm : MRep g this ms h) (x1 : Int32) (x2 : Int32) (x3 : Int32) : RM g this h (c_M_set h this x1 x2 x3) (d_M_set ms x1 x2 x3) := by
  unfold c_M_set d_M_set
  refine n_grd hm ?_
  refine n_pI hm (by decide) (by decide) (by decide) (fun h1 m1 q1 => ?_)
  refine n_hI (r_M_isRow q1 x1) (fun v3 h2 m2 q2 => ?_)
  refine n_if ?_ ?_
  · refine n_hI (r_M_act q2 (1 : Int32) x1 x2 x3 (0 : Int32)) (fun v5 h4 m4 q4 => ?_)
    exact n_rI q4
  · refine n_hI (r_M_isBit q2 x3) (fun v7 h6 m6 q6 => ?_)
    refine n_if ?_ ?_
    · refine n_hI (r_M_act q6 (1 : Int32) x1 x2 x3 (0 : Int32)) (fun v9 h8 m8 q8 => ?_)
      exact n_rI q8
    · refine n_hI (r_M_act q6 (1 : Int32) x1 x2 x3 (1 : Int32)) (fun v11 h10 m10 q10 => ?_)
      exact n_rI q10
def d_M_cut (ms : MS) (x1 : Int32) (x2 : Int32) (x3 : Int32) : Option DR :=
  nm (mset ms 0 0 (0 : Int32)) fun m1 =>
  bI (d_M_isRow m1 x1) fun v3 m2 =>
  if v3 = 0 then
    bI (d_M_act m2 (2 : Int32) x1 x2 x3 (0 : Int32)) fun v5 m4 =>
    dI v5 m4
  else
    bI (d_M_isIn m2 x3 (1 : Int32) (600 : Int32)) fun v7 m6 =>
    if v7 = 0 then
      bI (d_M_act m6 (2 : Int32) x1 x2 x3 (0 : Int32)) fun v9 m8 =>
      dI v9 m8
    else
      bI (d_M_act m6 (2 : Int32) x1 x2 x3 (1 : Int32)) fun v11 m10 =>
      dI v11 m10
theorem r_M_cut {g : Nat → Nat} {this : Nat} {ms : MS} {h : PH} (hm : MRep g this ms h) (x1 : Int32) (x2 : Int32) (x3 : Int32) : RM g this h (c_M_cut h this x1 x2 x3) (d_M_cut ms x1 x2 x3) := by
  unfold c_M_cut d_M_cut
  refine n_grd hm ?_
  refine n_pI hm (by decide) (by decide) (by decide) (fun h1 m1 q1 => ?_)
  refine n_hI (r_M_isRow q1 x1) (fun v3 h2 m2 q2 => ?_)
  refine n_if ?_ ?_
  · refine n_hI (r_M_act q2 (2 : Int32) x1 x2 x3 (0 : Int32)) (fun v5 h4 m4 q4 => ?_)
    exact n_rI q4
  · refine n_hI (r_M_isIn q2 x3 (1 : Int32) (600 : Int32)) (fun v7 h6 m6 q6 => ?_)
    refine n_if ?_ ?_
    · refine n_hI (r_M_act q6 (2 : Int32) x1 x2 x3 (0 : Int32)) (fun v9 h8 m8 q8 => ?_)
      exact n_rI q8
    · refine n_hI (r_M_act q6 (2 : Int32) x1 x2 x3 (1 : Int32)) (fun v11 h10 m10 q10 => ?_)
      exact n_rI q10
def d_M_turn (ms : MS) (x1 : Int32) (x2 : Int32) (x3 : Int32) : Option DR :=
  nm (mset ms 0 0 (0 : Int32)) fun m1 =>
  bI (d_M_isRow m1 x1) fun v3 m2 =>
  if v3 = 0 then
    bI (d_M_act m2 (3 : Int32) x1 x2 x3 (0 : Int32)) fun v5 m4 =>
    dI v5 m4
  else
    bI (d_M_isIn m2 x3 (1 : Int32) (600 : Int32)) fun v7 m6 =>
    if v7 = 0 then
      bI (d_M_act m6 (3 : Int32) x1 x2 x3 (0 : Int32)) fun v9 m8 =>
      dI v9 m8
    else
      bI (d_M_act m6 (3 : Int32) x1 x2 x3 (1 : Int32)) fun v11 m10 =>
      dI v11 m10
theorem r_M_turn {g : Nat → Nat} {this : Nat} {ms : MS} {h : PH} (hm : MRep g this ms h) (x1 : Int32) (x2 : Int32) (x3 : Int32) : RM g this h (c_M_turn h this x1 x2 x3) (d_M_turn ms x1 x2 x3) := by
  unfold c_M_turn d_M_turn
  refine n_grd hm ?_
  refine n_pI hm (by decide) (by decide) (by decide) (fun h1 m1 q1 => ?_)
  refine n_hI (r_M_isRow q1 x1) (fun v3 h2 m2 q2 => ?_)
  refine n_if ?_ ?_
  · refine n_hI (r_M_act q2 (3 : Int32) x1 x2 x3 (0 : Int32)) (fun v5 h4 m4 q4 => ?_)
    exact n_rI q4
  · refine n_hI (r_M_isIn q2 x3 (1 : Int32) (600 : Int32)) (fun v7 h6 m6 q6 => ?_)
    refine n_if ?_ ?_
    · refine n_hI (r_M_act q6 (3 : Int32) x1 x2 x3 (0 : Int32)) (fun v9 h8 m8 q8 => ?_)
      exact n_rI q8
    · refine n_hI (r_M_act q6 (3 : Int32) x1 x2 x3 (1 : Int32)) (fun v11 h10 m10 q10 => ?_)
      exact n_rI q10
def d_M_paste_l54 (r54' : MS → Int32 → Int32 → Int32 → Int32 → Option DR) (ms : MS) (x1 : Int32) (x2 : Int32) (x3 : Int32) (x5 : Int32) : Option DR :=
  if x3 ≤ x5 then
    dI (0 : Int32) ms
  else
    eA ms 1 x5 fun v4 =>
    bV (d_M_putBit ms x1 (x2 + x5) v4) fun m5 =>
    r54' m5 x1 x2 x3 (x5 + (1 : Int32))
theorem r_M_paste_l54 {g : Nat → Nat} {this : Nat} {r54 : PH → Nat → Int32 → Int32 → Int32 → Int32 → Option RH} {r54' : MS → Int32 → Int32 → Int32 → Int32 → Option DR} (hr54 : ∀ {ms : MS} {h : PH} (_ : MRep g this ms h) (x1 : Int32) (x2 : Int32) (x3 : Int32) (x5 : Int32), RM g this h (r54 h this x1 x2 x3 x5) (r54' ms x1 x2 x3 x5)) {ms : MS} {h : PH} (hm : MRep g this ms h) (x1 : Int32) (x2 : Int32) (x3 : Int32) (x5 : Int32) : RM g this h (c_M_paste_l54 r54 h this x1 x2 x3 x5) (d_M_paste_l54 r54' ms x1 x2 x3 x5) := by
  unfold c_M_paste_l54 d_M_paste_l54
  refine n_if ?_ ?_
  · exact n_rI hm
  · refine n_gQ (k := 1) hm (by decide) (by decide) ?_
    refine n_nn ?_
    refine n_ldI (k := 1) hm (by decide) (fun v4 => ?_)
    refine n_hV (r_M_putBit hm x1 (x2 + x5) v4) (fun h5 m5 q5 => ?_)
    exact hr54 q5 x1 x2 x3 (x5 + (1 : Int32))
theorem u_M_paste_l54 {g : Nat → Nat} {this : Nat} : ∀ (n : Nat) {ms : MS} {h : PH} (_ : MRep g this ms h) (x1 : Int32) (x2 : Int32) (x3 : Int32) (x5 : Int32), RM g this h (itr (c_M_paste_l54) (fun _ _ _ _ _ _ => none) n h this x1 x2 x3 x5) (itr (d_M_paste_l54) (fun _ _ _ _ _ => none) n ms x1 x2 x3 x5)
  | 0 => fun _ _ _ _ _ => n_none
  | n + 1 => fun hm x1 x2 x3 x5 => r_M_paste_l54 (u_M_paste_l54 n) hm x1 x2 x3 x5
def d_M_paste (ms : MS) (x1 : Int32) (x2 : Int32) : Option DR :=
  nm (mset ms 0 0 (0 : Int32)) fun m1 =>
  bI (d_M_take m1) fun v3 m2 =>
  bI (d_M_isRow m2 x1) fun v5 m4 =>
  if v5 = 0 then
    dI (-1 : Int32) m4
  else
    bI (d_M_areTapeBits m4 v3 (64 : Int32)) fun v7 m6 =>
    if v7 = 0 then
      dI (-1 : Int32) m6
    else
      bI (d_M_whyPut m6 x1 x2 v3) fun v9 m8 =>
      if v9 = 0 then
        bV (d_M_snap m8) fun m10 =>
        itr (d_M_paste_l54) (fun _ _ _ _ _ => none) FU m10 x1 x2 v3 (0 : Int32)
      else
        dI v9 m8
theorem r_M_paste {g : Nat → Nat} {this : Nat} {ms : MS} {h : PH} (hm : MRep g this ms h) (x1 : Int32) (x2 : Int32) : RM g this h (c_M_paste h this x1 x2) (d_M_paste ms x1 x2) := by
  unfold c_M_paste d_M_paste
  refine n_grd hm ?_
  refine n_pI hm (by decide) (by decide) (by decide) (fun h1 m1 q1 => ?_)
  refine n_hI (r_M_take q1) (fun v3 h2 m2 q2 => ?_)
  refine n_hI (r_M_isRow q2 x1) (fun v5 h4 m4 q4 => ?_)
  refine n_if ?_ ?_
  · exact n_rI q4
  · refine n_hI (r_M_areTapeBits q4 v3 (64 : Int32)) (fun v7 h6 m6 q6 => ?_)
    refine n_if ?_ ?_
    · exact n_rI q6
    · refine n_hI (r_M_whyPut q6 x1 x2 v3) (fun v9 h8 m8 q8 => ?_)
      refine n_if ?_ ?_
      · refine n_hV (r_M_snap q8) (fun h10 m10 q10 => ?_)
        exact u_M_paste_l54 FU q10 x1 x2 v3 (0 : Int32)
      · exact n_rI q8
def d_M_areTwo (ms : MS) (x1 : Int32) (x2 : Int32) : Option DR :=
  bI (d_M_isRow ms x1) fun v2 m1 =>
  if v2 = 0 then
    dZ (0 : Int32) m1
  else
    bI (d_M_isRow m1 x2) fun v4 m3 =>
    if v4 = 0 then
      dZ (0 : Int32) m3
    else
      if x1 = x2 then
        dZ (0 : Int32) m3
      else
        dZ (1 : Int32) m3
theorem r_M_areTwo {g : Nat → Nat} {this : Nat} {ms : MS} {h : PH} (hm : MRep g this ms h) (x1 : Int32) (x2 : Int32) : RM g this h (c_M_areTwo h this x1 x2) (d_M_areTwo ms x1 x2) := by
  unfold c_M_areTwo d_M_areTwo
  refine n_grd hm ?_
  refine n_hI (r_M_isRow hm x1) (fun v2 h1 m1 q1 => ?_)
  refine n_if ?_ ?_
  · exact n_rZ q1
  · refine n_hI (r_M_isRow q1 x2) (fun v4 h3 m3 q3 => ?_)
    refine n_if ?_ ?_
    · exact n_rZ q3
    · refine n_if ?_ ?_
      · exact n_rZ q3
      · exact n_rZ q3
def d_M_join (ms : MS) (x1 : Int32) (x2 : Int32) : Option DR :=
  nm (mset ms 0 0 (0 : Int32)) fun m1 =>
  bI (d_M_areTwo m1 x1 x2) fun v3 m2 =>
  bI (d_M_act m2 (4 : Int32) x1 (0 : Int32) x2 v3) fun v5 m4 =>
  dI v5 m4
theorem r_M_join {g : Nat → Nat} {this : Nat} {ms : MS} {h : PH} (hm : MRep g this ms h) (x1 : Int32) (x2 : Int32) : RM g this h (c_M_join h this x1 x2) (d_M_join ms x1 x2) := by
  unfold c_M_join d_M_join
  refine n_grd hm ?_
  refine n_pI hm (by decide) (by decide) (by decide) (fun h1 m1 q1 => ?_)
  refine n_hI (r_M_areTwo q1 x1 x2) (fun v3 h2 m2 q2 => ?_)
  refine n_hI (r_M_act q2 (4 : Int32) x1 (0 : Int32) x2 v3) (fun v5 h4 m4 q4 => ?_)
  exact n_rI q4
def d_M_split (ms : MS) (x1 : Int32) (x2 : Int32) (x3 : Int32) : Option DR :=
  nm (mset ms 0 0 (0 : Int32)) fun m1 =>
  bI (d_M_areTwo m1 x1 x3) fun v3 m2 =>
  bI (d_M_act m2 (5 : Int32) x1 x2 x3 v3) fun v5 m4 =>
  dI v5 m4
theorem r_M_split {g : Nat → Nat} {this : Nat} {ms : MS} {h : PH} (hm : MRep g this ms h) (x1 : Int32) (x2 : Int32) (x3 : Int32) : RM g this h (c_M_split h this x1 x2 x3) (d_M_split ms x1 x2 x3) := by
  unfold c_M_split d_M_split
  refine n_grd hm ?_
  refine n_pI hm (by decide) (by decide) (by decide) (fun h1 m1 q1 => ?_)
  refine n_hI (r_M_areTwo q1 x1 x3) (fun v3 h2 m2 q2 => ?_)
  refine n_hI (r_M_act q2 (5 : Int32) x1 x2 x3 v3) (fun v5 h4 m4 q4 => ?_)
  exact n_rI q4
def d_M_type (ms : MS) (x1 : Int32) (x2 : Int32) : Option DR :=
  nm (mset ms 0 0 (0 : Int32)) fun m1 =>
  bI (d_M_isIn m1 x2 (0 : Int32) (7 : Int32)) fun v3 m2 =>
  bI (d_M_act m2 (6 : Int32) (0 : Int32) x1 x2 v3) fun v5 m4 =>
  dI v5 m4
theorem r_M_type {g : Nat → Nat} {this : Nat} {ms : MS} {h : PH} (hm : MRep g this ms h) (x1 : Int32) (x2 : Int32) : RM g this h (c_M_type h this x1 x2) (d_M_type ms x1 x2) := by
  unfold c_M_type d_M_type
  refine n_grd hm ?_
  refine n_pI hm (by decide) (by decide) (by decide) (fun h1 m1 q1 => ?_)
  refine n_hI (r_M_isIn q1 x2 (0 : Int32) (7 : Int32)) (fun v3 h2 m2 q2 => ?_)
  refine n_hI (r_M_act q2 (6 : Int32) (0 : Int32) x1 x2 v3) (fun v5 h4 m4 q4 => ?_)
  exact n_rI q4
def d_M_erase (ms : MS) (x1 : Int32) (x2 : Int32) : Option DR :=
  nm (mset ms 0 0 (0 : Int32)) fun m1 =>
  bI (d_M_isIn m1 x2 (1 : Int32) (200 : Int32)) fun v3 m2 =>
  bI (d_M_act m2 (7 : Int32) (0 : Int32) x1 x2 v3) fun v5 m4 =>
  dI v5 m4
theorem r_M_erase {g : Nat → Nat} {this : Nat} {ms : MS} {h : PH} (hm : MRep g this ms h) (x1 : Int32) (x2 : Int32) : RM g this h (c_M_erase h this x1 x2) (d_M_erase ms x1 x2) := by
  unfold c_M_erase d_M_erase
  refine n_grd hm ?_
  refine n_pI hm (by decide) (by decide) (by decide) (fun h1 m1 q1 => ?_)
  refine n_hI (r_M_isIn q1 x2 (1 : Int32) (200 : Int32)) (fun v3 h2 m2 q2 => ?_)
  refine n_hI (r_M_act q2 (7 : Int32) (0 : Int32) x1 x2 v3) (fun v5 h4 m4 q4 => ?_)
  exact n_rI q4
def d_M_comeBack_l2 (r2' : MS → Nat → Int32 → Int32 → Option DR) (ms : MS) (x1 : Nat) (x2 : Int32) (x3 : Int32) : Option DR :=
  if (3213 : Int32) ≤ x3 then
    dV ms
  else
    eA ms x1 (x2 + x3) fun v2 =>
    sA ms 14 ((2607 : Int32) + x3) v2 fun m5 =>
    r2' m5 x1 x2 (x3 + (1 : Int32))
theorem r_M_comeBack_l2 {g : Nat → Nat} {this : Nat} {r2 : PH → Nat → Nat → Int32 → Int32 → Option RH} {r2' : MS → Nat → Int32 → Int32 → Option DR} (hr2 : ∀ {ms : MS} {h : PH} (_ : MRep g this ms h) (x1 : Nat) (x2 : Int32) (x3 : Int32) (_ : (x1, mLn x1) ∈ iArr), RM g this h (r2 h this (g x1) x2 x3) (r2' ms x1 x2 x3)) {ms : MS} {h : PH} (hm : MRep g this ms h) (x1 : Nat) (x2 : Int32) (x3 : Int32) (hx1 : (x1, mLn x1) ∈ iArr) : RM g this h (c_M_comeBack_l2 r2 h this (g x1) x2 x3) (d_M_comeBack_l2 r2' ms x1 x2 x3) := by
  unfold c_M_comeBack_l2 d_M_comeBack_l2
  refine n_if ?_ ?_
  · exact n_rV hm
  · refine n_gQ (k := 14) hm (by decide) (by decide) ?_
    refine n_ldI (k := x1) hm hx1 (fun v2 => ?_)
    refine n_nn ?_
    refine n_stI (k := 14) hm (by decide) (fun h5 m5 q5 => ?_)
    exact hr2 q5 x1 x2 (x3 + (1 : Int32)) hx1
theorem u_M_comeBack_l2 {g : Nat → Nat} {this : Nat} : ∀ (n : Nat) {ms : MS} {h : PH} (_ : MRep g this ms h) (x1 : Nat) (x2 : Int32) (x3 : Int32) (_ : (x1, mLn x1) ∈ iArr), RM g this h (itr (c_M_comeBack_l2) (fun _ _ _ _ _ => none) n h this (g x1) x2 x3) (itr (d_M_comeBack_l2) (fun _ _ _ _ => none) n ms x1 x2 x3)
  | 0 => fun _ _ _ _ _ => n_none
  | n + 1 => fun hm x1 x2 x3 k0 => r_M_comeBack_l2 (u_M_comeBack_l2 n) hm x1 x2 x3 k0
def d_M_comeBack (ms : MS) (x1 : Nat) (x2 : Int32) : Option DR :=
  itr (d_M_comeBack_l2) (fun _ _ _ _ => none) FU ms x1 x2 (0 : Int32)
theorem r_M_comeBack {g : Nat → Nat} {this : Nat} {ms : MS} {h : PH} (hm : MRep g this ms h) (x1 : Nat) (x2 : Int32) (hx1 : (x1, mLn x1) ∈ iArr) : RM g this h (c_M_comeBack h this (g x1) x2) (d_M_comeBack ms x1 x2) := by
  unfold c_M_comeBack d_M_comeBack
  refine n_grd hm ?_
  exact u_M_comeBack_l2 FU hm x1 x2 (0 : Int32) hx1
def d_M_undo (ms : MS) : Option DR :=
  nm (mset ms 0 0 (0 : Int32)) fun m1 =>
  nm (m1.1 24 0) fun v2 =>
  if v2 = 0 then
    dI (-1 : Int32) m1
  else
    nm (m1.1 24 0) fun v3 =>
    nm (mset m1 24 0 (v3 - (1 : Int32))) fun m4 =>
    nm (m4.1 24 0) fun v6 =>
    bV (d_M_comeBack m4 17 ((3213 : Int32) * v6)) fun m9 =>
    nm (m9.1 24 0) fun v10 =>
    dI v10 m9
theorem r_M_undo {g : Nat → Nat} {this : Nat} {ms : MS} {h : PH} (hm : MRep g this ms h) : RM g this h (c_M_undo h this) (d_M_undo ms) := by
  unfold c_M_undo d_M_undo
  refine n_grd hm ?_
  refine n_pI hm (by decide) (by decide) (by decide) (fun h1 m1 q1 => ?_)
  refine n_gI q1 (by decide) (by decide) (by decide) (fun v2 => ?_)
  refine n_if ?_ ?_
  · exact n_rI q1
  · refine n_gI q1 (by decide) (by decide) (by decide) (fun v3 => ?_)
    refine n_pI q1 (by decide) (by decide) (by decide) (fun h4 m4 q4 => ?_)
    refine n_gQ (k := 17) q4 (by decide) (by decide) ?_
    refine n_gI q4 (by decide) (by decide) (by decide) (fun v6 => ?_)
    refine n_nn ?_
    refine n_hV (r_M_comeBack q4 17 ((3213 : Int32) * v6) (by decide)) (fun h9 m9 q9 => ?_)
    refine n_gI q9 (by decide) (by decide) (by decide) (fun v10 => ?_)
    exact n_rI q9
def d_M_draw (ms : MS) (x1 : Int32) : Option DR :=
  nm (ms.1 29 0) fun v1 =>
  nm (mset ms 29 0 ((v1 * (1103515245 : Int32)) + (12345 : Int32))) fun m2 =>
  nm (m2.1 29 0) fun v3 =>
  nz x1 <|
  dI (((v3.toUInt32 >>> ((8 : Int32).toUInt32 &&& Int32.toUInt32 31)).toInt32) - ((v3.toUInt32 >>> ((8 : Int32).toUInt32 &&& Int32.toUInt32 31)).toInt32) / x1 * x1) m2
theorem r_M_draw {g : Nat → Nat} {this : Nat} {ms : MS} {h : PH} (hm : MRep g this ms h) (x1 : Int32) : RM g this h (c_M_draw h this x1) (d_M_draw ms x1) := by
  unfold c_M_draw d_M_draw
  refine n_grd hm ?_
  refine n_gI hm (by decide) (by decide) (by decide) (fun v1 => ?_)
  refine n_pI hm (by decide) (by decide) (by decide) (fun h2 m2 q2 => ?_)
  refine n_gI q2 (by decide) (by decide) (by decide) (fun v3 => ?_)
  refine n_nz ?_
  exact n_rI q2
def d_M_doIf (ms : MS) (x1 : Int32) (x2 : Int32) (x3 : Int32) (x4 : Int32) : Option DR :=
  bI (d_M_refusal ms x1 x2 x3 x4) fun v2 m1 =>
  if v2 = 0 then
    bV (d_M_live m1 x1 x2 x3 x4) fun m3 =>
    dZ (1 : Int32) m3
  else
    dZ (0 : Int32) m1
theorem r_M_doIf {g : Nat → Nat} {this : Nat} {ms : MS} {h : PH} (hm : MRep g this ms h) (x1 : Int32) (x2 : Int32) (x3 : Int32) (x4 : Int32) : RM g this h (c_M_doIf h this x1 x2 x3 x4) (d_M_doIf ms x1 x2 x3 x4) := by
  unfold c_M_doIf d_M_doIf
  refine n_grd hm ?_
  refine n_hI (r_M_refusal hm x1 x2 x3 x4) (fun v2 h1 m1 q1 => ?_)
  refine n_if ?_ ?_
  · refine n_hV (r_M_live q1 x1 x2 x3 x4) (fun h3 m3 q3 => ?_)
    exact n_rZ q3
  · exact n_rZ q1
def d_M_drawsDeed_j121 (ms : MS) (x2 : Int32) (x3 : Int32) (x4 : Int32) (s0 : Int32) : Option DR :=
  bI (d_M_doIf ms s0 x2 x3 x4) fun v2 m1 =>
  if v2 = 0 then
    dZ (0 : Int32) m1
  else
    dZ (1 : Int32) m1
theorem r_M_drawsDeed_j121 {g : Nat → Nat} {this : Nat} {ms : MS} {h : PH} (hm : MRep g this ms h) (x2 : Int32) (x3 : Int32) (x4 : Int32) (s0 : Int32) : RM g this h (c_M_drawsDeed_j121 h x2 x3 x4 s0 this) (d_M_drawsDeed_j121 ms x2 x3 x4 s0) := by
  unfold c_M_drawsDeed_j121 d_M_drawsDeed_j121
  refine n_hI (r_M_doIf hm s0 x2 x3 x4) (fun v2 h1 m1 q1 => ?_)
  refine n_if ?_ ?_
  · exact n_rZ q1
  · exact n_rZ q1
def d_M_drawsDeed (ms : MS) : Option DR :=
  bI (d_M_draw ms (8 : Int32)) fun v2 m1 =>
  eA m1 14 (0 : Int32) fun v6 =>
  bI (d_M_draw m1 v6) fun v8 m7 =>
  bI (d_M_sizeOf m7 v8) fun v10 m9 =>
  bI (d_M_draw m9 (v10 + (1 : Int32))) fun v12 m11 =>
  if (3 : Int32) ≤ v2 then
    if v2 = (3 : Int32) then
      bI (d_M_draw m11 (8 : Int32)) fun v24 m23 =>
      bI (d_M_doIf m23 (2 : Int32) v8 v12 (v24 + (1 : Int32))) fun v26 m25 =>
      dZ v26 m25
    else
      if (6 : Int32) ≤ v2 then
        eA m11 14 (0 : Int32) fun v16 =>
        bI (d_M_draw m11 v16) fun v18 m17 =>
        if v18 = v8 then
          dZ (0 : Int32) m17
        else
          if v2 = (6 : Int32) then
            d_M_drawsDeed_j121 m17 v8 v12 v18 (4 : Int32)
          else
            d_M_drawsDeed_j121 m17 v8 v12 v18 (5 : Int32)
      else
        bI (d_M_draw m11 (40 : Int32)) fun v20 m19 =>
        bI (d_M_doIf m19 (3 : Int32) v8 v12 (v20 + (1 : Int32))) fun v22 m21 =>
        dZ v22 m21
  else
    bI (d_M_draw m11 (2 : Int32)) fun v28 m27 =>
    bI (d_M_doIf m27 (0 : Int32) v8 v12 v28) fun v30 m29 =>
    dZ v30 m29
theorem r_M_drawsDeed {g : Nat → Nat} {this : Nat} {ms : MS} {h : PH} (hm : MRep g this ms h) : RM g this h (c_M_drawsDeed h this) (d_M_drawsDeed ms) := by
  unfold c_M_drawsDeed d_M_drawsDeed
  refine n_grd hm ?_
  refine n_hI (r_M_draw hm (8 : Int32)) (fun v2 h1 m1 q1 => ?_)
  refine n_gQ (k := 14) q1 (by decide) (by decide) ?_
  refine n_nn ?_
  refine n_ldI (k := 14) q1 (by decide) (fun v6 => ?_)
  refine n_hI (r_M_draw q1 v6) (fun v8 h7 m7 q7 => ?_)
  refine n_hI (r_M_sizeOf q7 v8) (fun v10 h9 m9 q9 => ?_)
  refine n_hI (r_M_draw q9 (v10 + (1 : Int32))) (fun v12 h11 m11 q11 => ?_)
  refine n_if ?_ ?_
  · refine n_if ?_ ?_
    · refine n_hI (r_M_draw q11 (8 : Int32)) (fun v24 h23 m23 q23 => ?_)
      refine n_hI (r_M_doIf q23 (2 : Int32) v8 v12 (v24 + (1 : Int32))) (fun v26 h25 m25 q25 => ?_)
      exact n_rZ q25
    · refine n_if ?_ ?_
      · refine n_gQ (k := 14) q11 (by decide) (by decide) ?_
        refine n_nn ?_
        refine n_ldI (k := 14) q11 (by decide) (fun v16 => ?_)
        refine n_hI (r_M_draw q11 v16) (fun v18 h17 m17 q17 => ?_)
        refine n_if ?_ ?_
        · exact n_rZ q17
        · refine n_if ?_ ?_
          · exact (r_M_drawsDeed_j121 q17 v8 v12 v18 (4 : Int32))
          · exact (r_M_drawsDeed_j121 q17 v8 v12 v18 (5 : Int32))
      · refine n_hI (r_M_draw q11 (40 : Int32)) (fun v20 h19 m19 q19 => ?_)
        refine n_hI (r_M_doIf q19 (3 : Int32) v8 v12 (v20 + (1 : Int32))) (fun v22 h21 m21 q21 => ?_)
        exact n_rZ q21
  · refine n_hI (r_M_draw q11 (2 : Int32)) (fun v28 h27 m27 q27 => ?_)
    refine n_hI (r_M_doIf q27 (0 : Int32) v8 v12 v28) (fun v30 h29 m29 q29 => ?_)
    exact n_rZ q29
def d_M_stay (ms : MS) (x1 : Int32) : Option DR :=
  bV (d_M_save ms 18 (0 : Int32)) fun m4 =>
  bV (d_M_comeBack m4 19 (0 : Int32)) fun m8 =>
  if x1 = 0 then
    dV m8
  else
    bV (d_M_snap m8) fun m9 =>
    bV (d_M_comeBack m9 18 (0 : Int32)) fun m13 =>
    dV m13
theorem r_M_stay {g : Nat → Nat} {this : Nat} {ms : MS} {h : PH} (hm : MRep g this ms h) (x1 : Int32) : RM g this h (c_M_stay h this x1) (d_M_stay ms x1) := by
  unfold c_M_stay d_M_stay
  refine n_grd hm ?_
  refine n_gQ (k := 18) hm (by decide) (by decide) ?_
  refine n_nn ?_
  refine n_hV (r_M_save hm 18 (0 : Int32) (by decide)) (fun h4 m4 q4 => ?_)
  refine n_gQ (k := 19) q4 (by decide) (by decide) ?_
  refine n_nn ?_
  refine n_hV (r_M_comeBack q4 19 (0 : Int32) (by decide)) (fun h8 m8 q8 => ?_)
  refine n_if ?_ ?_
  · exact n_rV q8
  · refine n_hV (r_M_snap q8) (fun h9 m9 q9 => ?_)
    refine n_gQ (k := 18) q9 (by decide) (by decide) ?_
    refine n_nn ?_
    refine n_hV (r_M_comeBack q9 18 (0 : Int32) (by decide)) (fun h13 m13 q13 => ?_)
    exact n_rV q13
def d_M_drawn_l47 (r47' : MS → Int32 → Int32 → Int32 → Option DR) (ms : MS) (x1 : Int32) (x3 : Int32) (x4 : Int32) : Option DR :=
  if x1 ≤ x4 then
    if x3 ≤ 0 then
      bV (d_M_stay ms (0 : Int32)) fun m1 =>
      dI x3 m1
    else
      bV (d_M_stay ms (1 : Int32)) fun m2 =>
      dI x3 m2
  else
    bI (d_M_drawsDeed ms) fun v4 m3 =>
    if v4 = 0 then
      r47' m3 x1 x3 (x4 + (1 : Int32))
    else
      r47' m3 x1 (x3 + (1 : Int32)) (x4 + (1 : Int32))
theorem r_M_drawn_l47 {g : Nat → Nat} {this : Nat} {r47 : PH → Nat → Int32 → Int32 → Int32 → Option RH} {r47' : MS → Int32 → Int32 → Int32 → Option DR} (hr47 : ∀ {ms : MS} {h : PH} (_ : MRep g this ms h) (x1 : Int32) (x3 : Int32) (x4 : Int32), RM g this h (r47 h this x1 x3 x4) (r47' ms x1 x3 x4)) {ms : MS} {h : PH} (hm : MRep g this ms h) (x1 : Int32) (x3 : Int32) (x4 : Int32) : RM g this h (c_M_drawn_l47 r47 h this x1 x3 x4) (d_M_drawn_l47 r47' ms x1 x3 x4) := by
  unfold c_M_drawn_l47 d_M_drawn_l47
  refine n_if ?_ ?_
  · refine n_if ?_ ?_
    · refine n_hV (r_M_stay hm (0 : Int32)) (fun h1 m1 q1 => ?_)
      exact n_rI q1
    · refine n_hV (r_M_stay hm (1 : Int32)) (fun h2 m2 q2 => ?_)
      exact n_rI q2
  · refine n_hI (r_M_drawsDeed hm) (fun v4 h3 m3 q3 => ?_)
    refine n_if ?_ ?_
    · exact hr47 q3 x1 x3 (x4 + (1 : Int32))
    · exact hr47 q3 x1 (x3 + (1 : Int32)) (x4 + (1 : Int32))
theorem u_M_drawn_l47 {g : Nat → Nat} {this : Nat} : ∀ (n : Nat) {ms : MS} {h : PH} (_ : MRep g this ms h) (x1 : Int32) (x3 : Int32) (x4 : Int32), RM g this h (itr (c_M_drawn_l47) (fun _ _ _ _ _ => none) n h this x1 x3 x4) (itr (d_M_drawn_l47) (fun _ _ _ _ => none) n ms x1 x3 x4)
  | 0 => fun _ _ _ _ => n_none
  | n + 1 => fun hm x1 x3 x4 => r_M_drawn_l47 (u_M_drawn_l47 n) hm x1 x3 x4
def d_M_drawn (ms : MS) (x1 : Int32) (x2 : Int32) : Option DR :=
  nm (mset ms 0 0 (0 : Int32)) fun m1 =>
  bI (d_M_isIn m1 x1 (1 : Int32) (60 : Int32)) fun v3 m2 =>
  if v3 = 0 then
    dI (-1 : Int32) m2
  else
    eA m2 14 (0 : Int32) fun v7 =>
    if v7 = 0 then
      dI (0 : Int32) m2
    else
      bV (d_M_save m2 19 (0 : Int32)) fun m11 =>
      nm (mset m11 29 0 x2) fun m12 =>
      itr (d_M_drawn_l47) (fun _ _ _ _ => none) FU m12 x1 (0 : Int32) (0 : Int32)
theorem r_M_drawn {g : Nat → Nat} {this : Nat} {ms : MS} {h : PH} (hm : MRep g this ms h) (x1 : Int32) (x2 : Int32) : RM g this h (c_M_drawn h this x1 x2) (d_M_drawn ms x1 x2) := by
  unfold c_M_drawn d_M_drawn
  refine n_grd hm ?_
  refine n_pI hm (by decide) (by decide) (by decide) (fun h1 m1 q1 => ?_)
  refine n_hI (r_M_isIn q1 x1 (1 : Int32) (60 : Int32)) (fun v3 h2 m2 q2 => ?_)
  refine n_if ?_ ?_
  · exact n_rI q2
  · refine n_gQ (k := 14) q2 (by decide) (by decide) ?_
    refine n_nn ?_
    refine n_ldI (k := 14) q2 (by decide) (fun v7 => ?_)
    refine n_if ?_ ?_
    · exact n_rI q2
    · refine n_gQ (k := 19) q2 (by decide) (by decide) ?_
      refine n_nn ?_
      refine n_hV (r_M_save q2 19 (0 : Int32) (by decide)) (fun h11 m11 q11 => ?_)
      refine n_pI q11 (by decide) (by decide) (by decide) (fun h12 m12 q12 => ?_)
      exact u_M_drawn_l47 FU q12 x1 (0 : Int32) (0 : Int32)
def d_M_readRowName (ms : MS) : Option DR :=
  bI (d_M_isName ms) fun v2 m1 =>
  if v2 = 0 then
    bI (d_M_bad m1 (1 : Int32)) fun v19 m18 =>
    dZ v19 m18
  else
    eA m1 14 (0 : Int32) fun v7 =>
    nm (m1.2 12 0) fun v8 =>
    bI (d_M_findIn m1 20 v7 v8) fun v12 m11 =>
    nm (mset m11 13 0 v12) fun m13 =>
    nm (m13.1 13 0) fun v14 =>
    if v14 = (-1 : Int32) then
      bI (d_M_bad m13 (3 : Int32)) fun v17 m16 =>
      dZ v17 m16
    else
      bV (d_M_go m13) fun m15 =>
      dZ (1 : Int32) m15
theorem r_M_readRowName {g : Nat → Nat} {this : Nat} {ms : MS} {h : PH} (hm : MRep g this ms h) : RM g this h (c_M_readRowName h this) (d_M_readRowName ms) := by
  unfold c_M_readRowName d_M_readRowName
  refine n_grd hm ?_
  refine n_hI (r_M_isName hm) (fun v2 h1 m1 q1 => ?_)
  refine n_if ?_ ?_
  · refine n_hI (r_M_bad q1 (1 : Int32)) (fun v19 h18 m18 q18 => ?_)
    exact n_rZ q18
  · refine n_gQ (k := 20) q1 (by decide) (by decide) ?_
    refine n_gQ (k := 14) q1 (by decide) (by decide) ?_
    refine n_nn ?_
    refine n_ldI (k := 14) q1 (by decide) (fun v7 => ?_)
    refine n_gL q1 (fun v8 => ?_)
    refine n_nn ?_
    refine n_hI (r_M_findIn q1 20 v7 v8 (by decide)) (fun v12 h11 m11 q11 => ?_)
    refine n_pI q11 (by decide) (by decide) (by decide) (fun h13 m13 q13 => ?_)
    refine n_gI q13 (by decide) (by decide) (by decide) (fun v14 => ?_)
    refine n_if ?_ ?_
    · refine n_hI (r_M_bad q13 (3 : Int32)) (fun v17 h16 m16 q16 => ?_)
      exact n_rZ q16
    · refine n_hV (r_M_go q13) (fun h15 m15 q15 => ?_)
      exact n_rZ q15
def d_M_keep (ms : MS) (x1 : Int32) (x2 : Int32) : Option DR :=
  if x2 = 0 then
    dZ x2 ms
  else
    nm (ms.1 13 0) fun v2 =>
    sA ms 30 x1 v2 fun m5 =>
    dZ x2 m5
theorem r_M_keep {g : Nat → Nat} {this : Nat} {ms : MS} {h : PH} (hm : MRep g this ms h) (x1 : Int32) (x2 : Int32) : RM g this h (c_M_keep h this x1 x2) (d_M_keep ms x1 x2) := by
  unfold c_M_keep d_M_keep
  refine n_grd hm ?_
  refine n_if ?_ ?_
  · exact n_rZ hm
  · refine n_gQ (k := 30) hm (by decide) (by decide) ?_
    refine n_gI hm (by decide) (by decide) (by decide) (fun v2 => ?_)
    refine n_nn ?_
    refine n_stI (k := 30) hm (by decide) (fun h5 m5 q5 => ?_)
    exact n_rZ q5
def d_M_readOther (ms : MS) (x1 : Int32) : Option DR :=
  bI (d_M_isName ms) fun v2 m1 =>
  if v2 = 0 then
    bI (d_M_bad m1 (1 : Int32)) fun v35 m34 =>
    dZ v35 m34
  else
    eA m1 14 (0 : Int32) fun v8 =>
    nm (m1.2 12 0) fun v9 =>
    bI (d_M_findIn m1 20 v8 v9) fun v13 m12 =>
    sA m12 30 (x1 + (3 : Int32)) v13 fun m16 =>
    eA m16 30 (x1 + (3 : Int32)) fun v20 =>
    if v20 = (-1 : Int32) then
      bI (d_M_bad m16 (3 : Int32)) fun v22 m21 =>
      dZ v22 m21
    else
      eA m16 30 (x1 + (3 : Int32)) fun v26 =>
      eA m16 30 (x1 + (1 : Int32)) fun v30 =>
      if v26 = v30 then
        bI (d_M_bad m16 (3 : Int32)) fun v33 m32 =>
        dZ v33 m32
      else
        bV (d_M_go m16) fun m31 =>
        dZ (1 : Int32) m31
theorem r_M_readOther {g : Nat → Nat} {this : Nat} {ms : MS} {h : PH} (hm : MRep g this ms h) (x1 : Int32) : RM g this h (c_M_readOther h this x1) (d_M_readOther ms x1) := by
  unfold c_M_readOther d_M_readOther
  refine n_grd hm ?_
  refine n_hI (r_M_isName hm) (fun v2 h1 m1 q1 => ?_)
  refine n_if ?_ ?_
  · refine n_hI (r_M_bad q1 (1 : Int32)) (fun v35 h34 m34 q34 => ?_)
    exact n_rZ q34
  · refine n_gQ (k := 30) q1 (by decide) (by decide) ?_
    refine n_gQ (k := 20) q1 (by decide) (by decide) ?_
    refine n_gQ (k := 14) q1 (by decide) (by decide) ?_
    refine n_nn ?_
    refine n_ldI (k := 14) q1 (by decide) (fun v8 => ?_)
    refine n_gL q1 (fun v9 => ?_)
    refine n_nn ?_
    refine n_hI (r_M_findIn q1 20 v8 v9 (by decide)) (fun v13 h12 m12 q12 => ?_)
    refine n_nn ?_
    refine n_stI (k := 30) q12 (by decide) (fun h16 m16 q16 => ?_)
    refine n_gQ (k := 30) q16 (by decide) (by decide) ?_
    refine n_nn ?_
    refine n_ldI (k := 30) q16 (by decide) (fun v20 => ?_)
    refine n_if ?_ ?_
    · refine n_hI (r_M_bad q16 (3 : Int32)) (fun v22 h21 m21 q21 => ?_)
      exact n_rZ q21
    · refine n_gQ (k := 30) q16 (by decide) (by decide) ?_
      refine n_nn ?_
      refine n_ldI (k := 30) q16 (by decide) (fun v26 => ?_)
      refine n_gQ (k := 30) q16 (by decide) (by decide) ?_
      refine n_nn ?_
      refine n_ldI (k := 30) q16 (by decide) (fun v30 => ?_)
      refine n_if ?_ ?_
      · refine n_hI (r_M_bad q16 (3 : Int32)) (fun v33 h32 m32 q32 => ?_)
        exact n_rZ q32
      · refine n_hV (r_M_go q16) (fun h31 m31 q31 => ?_)
        exact n_rZ q31
def d_M_readBookLine_j147 (ms : MS) (x2 : Int32) : Option DR :=
  bI (d_M_readOther ms x2) fun v2 m1 =>
  if v2 = 0 then
    dZ (0 : Int32) m1
  else
    bI (d_M_readEnd m1) fun v4 m3 =>
    if v4 = 0 then
      dZ (0 : Int32) m3
    else
      dZ (1 : Int32) m3
theorem r_M_readBookLine_j147 {g : Nat → Nat} {this : Nat} {ms : MS} {h : PH} (hm : MRep g this ms h) (x2 : Int32) : RM g this h (c_M_readBookLine_j147 h this x2) (d_M_readBookLine_j147 ms x2) := by
  unfold c_M_readBookLine_j147 d_M_readBookLine_j147
  refine n_hI (r_M_readOther hm x2) (fun v2 h1 m1 q1 => ?_)
  refine n_if ?_ ?_
  · exact n_rZ q1
  · refine n_hI (r_M_readEnd q1) (fun v4 h3 m3 q3 => ?_)
    refine n_if ?_ ?_
    · exact n_rZ q3
    · exact n_rZ q3
def d_M_readBookLine_j226 (ms : MS) (s0 : Int32) (s1 : Int32) : Option DR :=
  bI (d_M_keep ms s1 s0) fun v2 m1 =>
  if v2 = 0 then
    dZ (0 : Int32) m1
  else
    bI (d_M_readEnd m1) fun v4 m3 =>
    if v4 = 0 then
      dZ (0 : Int32) m3
    else
      dZ (1 : Int32) m3
theorem r_M_readBookLine_j226 {g : Nat → Nat} {this : Nat} {ms : MS} {h : PH} (hm : MRep g this ms h) (s0 : Int32) (s1 : Int32) : RM g this h (c_M_readBookLine_j226 h this s0 s1 this) (d_M_readBookLine_j226 ms s0 s1) := by
  unfold c_M_readBookLine_j226 d_M_readBookLine_j226
  refine n_hI (r_M_keep hm s1 s0) (fun v2 h1 m1 q1 => ?_)
  refine n_if ?_ ?_
  · exact n_rZ q1
  · refine n_hI (r_M_readEnd q1) (fun v4 h3 m3 q3 => ?_)
    refine n_if ?_ ?_
    · exact n_rZ q3
    · exact n_rZ q3
def d_M_readBookLine_j223 (ms : MS) (s0 : Int32) (s1 : Int32) (s3 : Int32) : Option DR :=
  bI (d_M_readNumber ms s1 s0) fun v2 m1 =>
  d_M_readBookLine_j226 m1 v2 s3
theorem r_M_readBookLine_j223 {g : Nat → Nat} {this : Nat} {ms : MS} {h : PH} (hm : MRep g this ms h) (s0 : Int32) (s1 : Int32) (s3 : Int32) : RM g this h (c_M_readBookLine_j223 h this s0 s1 this s3 this) (d_M_readBookLine_j223 ms s0 s1 s3) := by
  unfold c_M_readBookLine_j223 d_M_readBookLine_j223
  refine n_hI (r_M_readNumber hm s1 s0) (fun v2 h1 m1 q1 => ?_)
  exact (r_M_readBookLine_j226 q1 v2 s3)
def d_M_readBookLine_j189 (ms : MS) (x1 : Int32) (x2 : Int32) (s0 : Int32) : Option DR :=
  if s0 = 0 then
    if x1 = (6 : Int32) then
      d_M_readBookLine_j223 ms (7 : Int32) (0 : Int32) (x2 + (3 : Int32))
    else
      d_M_readBookLine_j223 ms (1 : Int32) (0 : Int32) (x2 + (3 : Int32))
  else
    bI (d_M_readNumber ms (1 : Int32) (600 : Int32)) fun v2 m1 =>
    d_M_readBookLine_j226 m1 v2 (x2 + (3 : Int32))
theorem r_M_readBookLine_j189 {g : Nat → Nat} {this : Nat} {ms : MS} {h : PH} (hm : MRep g this ms h) (x1 : Int32) (x2 : Int32) (s0 : Int32) : RM g this h (c_M_readBookLine_j189 h this x1 x2 s0) (d_M_readBookLine_j189 ms x1 x2 s0) := by
  unfold c_M_readBookLine_j189 d_M_readBookLine_j189
  refine n_if ?_ ?_
  · refine n_if ?_ ?_
    · exact (r_M_readBookLine_j223 hm (7 : Int32) (0 : Int32) (x2 + (3 : Int32)))
    · exact (r_M_readBookLine_j223 hm (1 : Int32) (0 : Int32) (x2 + (3 : Int32)))
  · refine n_hI (r_M_readNumber hm (1 : Int32) (600 : Int32)) (fun v2 h1 m1 q1 => ?_)
    exact (r_M_readBookLine_j226 q1 v2 (x2 + (3 : Int32)))
def d_M_readBookLine_j184 (ms : MS) (x1 : Int32) (x2 : Int32) : Option DR :=
  d_M_readBookLine_j189 ms x1 x2 (1 : Int32)
theorem r_M_readBookLine_j184 {g : Nat → Nat} {this : Nat} {ms : MS} {h : PH} (hm : MRep g this ms h) (x1 : Int32) (x2 : Int32) : RM g this h (c_M_readBookLine_j184 h this x1 x2) (d_M_readBookLine_j184 ms x1 x2) := by
  unfold c_M_readBookLine_j184 d_M_readBookLine_j184
  exact (r_M_readBookLine_j189 hm x1 x2 (1 : Int32))
def d_M_readBookLine_j137 (ms : MS) (x1 : Int32) (x2 : Int32) : Option DR :=
  if x1 = (4 : Int32) then
    d_M_readBookLine_j147 ms x2
  else
    if x1 = (5 : Int32) then
      d_M_readBookLine_j147 ms x2
    else
      if x1 = (2 : Int32) then
        d_M_readBookLine_j184 ms x1 x2
      else
        if x1 = (3 : Int32) then
          d_M_readBookLine_j184 ms x1 x2
        else
          if x1 = (7 : Int32) then
            d_M_readBookLine_j184 ms x1 x2
          else
            d_M_readBookLine_j189 ms x1 x2 (0 : Int32)
theorem r_M_readBookLine_j137 {g : Nat → Nat} {this : Nat} {ms : MS} {h : PH} (hm : MRep g this ms h) (x1 : Int32) (x2 : Int32) : RM g this h (c_M_readBookLine_j137 h this x1 x2) (d_M_readBookLine_j137 ms x1 x2) := by
  unfold c_M_readBookLine_j137 d_M_readBookLine_j137
  refine n_if ?_ ?_
  · exact (r_M_readBookLine_j147 hm x2)
  · refine n_if ?_ ?_
    · exact (r_M_readBookLine_j147 hm x2)
    · refine n_if ?_ ?_
      · exact (r_M_readBookLine_j184 hm x1 x2)
      · refine n_if ?_ ?_
        · exact (r_M_readBookLine_j184 hm x1 x2)
        · refine n_if ?_ ?_
          · exact (r_M_readBookLine_j184 hm x1 x2)
          · exact (r_M_readBookLine_j189 hm x1 x2 (0 : Int32))
def d_M_readBookLine_j112 (ms : MS) (x1 : Int32) (x2 : Int32) : Option DR :=
  if x1 = (4 : Int32) then
    d_M_readBookLine_j137 ms x1 x2
  else
    bI (d_M_readNumber ms (0 : Int32) (999 : Int32)) fun v2 m1 =>
    bI (d_M_keep m1 (x2 + (2 : Int32)) v2) fun v4 m3 =>
    if v4 = 0 then
      dZ (0 : Int32) m3
    else
      d_M_readBookLine_j137 m3 x1 x2
theorem r_M_readBookLine_j112 {g : Nat → Nat} {this : Nat} {ms : MS} {h : PH} (hm : MRep g this ms h) (x1 : Int32) (x2 : Int32) : RM g this h (c_M_readBookLine_j112 h this x1 x2) (d_M_readBookLine_j112 ms x1 x2) := by
  unfold c_M_readBookLine_j112 d_M_readBookLine_j112
  refine n_if ?_ ?_
  · exact (r_M_readBookLine_j137 hm x1 x2)
  · refine n_hI (r_M_readNumber hm (0 : Int32) (999 : Int32)) (fun v2 h1 m1 q1 => ?_)
    refine n_hI (r_M_keep q1 (x2 + (2 : Int32)) v2) (fun v4 h3 m3 q3 => ?_)
    refine n_if ?_ ?_
    · exact n_rZ q3
    · exact (r_M_readBookLine_j137 q3 x1 x2)
def d_M_readBookLine_l4 (r4' : MS → Int32 → Int32 → Option DR) (ms : MS) (x1 : Int32) (x2 : Int32) : Option DR :=
  if (7 : Int32) < x2 then
    if x1 = (-1 : Int32) then
      bI (d_M_bad ms (1 : Int32)) fun v24 m23 =>
      dZ v24 m23
    else
      nm (ms.1 32 0) fun v1 =>
      if v1 = (40 : Int32) then
        bI (d_M_bad ms (4 : Int32)) fun v22 m21 =>
        dZ v22 m21
      else
        nm (ms.1 32 0) fun v2 =>
        nm ((4 : Int32) * v2) fun y3 =>
        sA ms 30 y3 x1 fun m7 =>
        sA m7 30 (y3 + (1 : Int32)) (0 : Int32) fun m11 =>
        sA m11 30 (y3 + (2 : Int32)) (0 : Int32) fun m15 =>
        bV (d_M_go m15) fun m16 =>
        if (6 : Int32) ≤ x1 then
          d_M_readBookLine_j112 m16 x1 y3
        else
          bI (d_M_readRowName m16) fun v18 m17 =>
          bI (d_M_keep m17 (y3 + (1 : Int32)) v18) fun v20 m19 =>
          if v20 = 0 then
            dZ (0 : Int32) m19
          else
            d_M_readBookLine_j112 m19 x1 y3
  else
    bI (d_M_isWord ms ((3 : Int32) + x2)) fun v26 m25 =>
    if v26 = 0 then
      r4' m25 x1 (x2 + (1 : Int32))
    else
      r4' m25 x2 (x2 + (1 : Int32))
theorem r_M_readBookLine_l4 {g : Nat → Nat} {this : Nat} {r4 : PH → Nat → Int32 → Int32 → Option RH} {r4' : MS → Int32 → Int32 → Option DR} (hr4 : ∀ {ms : MS} {h : PH} (_ : MRep g this ms h) (x1 : Int32) (x2 : Int32), RM g this h (r4 h this x1 x2) (r4' ms x1 x2)) {ms : MS} {h : PH} (hm : MRep g this ms h) (x1 : Int32) (x2 : Int32) : RM g this h (c_M_readBookLine_l4 r4 h this x1 x2) (d_M_readBookLine_l4 r4' ms x1 x2) := by
  unfold c_M_readBookLine_l4 d_M_readBookLine_l4
  refine n_if ?_ ?_
  · refine n_if ?_ ?_
    · refine n_hI (r_M_bad hm (1 : Int32)) (fun v24 h23 m23 q23 => ?_)
      exact n_rZ q23
    · refine n_gI hm (by decide) (by decide) (by decide) (fun v1 => ?_)
      refine n_if ?_ ?_
      · refine n_hI (r_M_bad hm (4 : Int32)) (fun v22 h21 m21 q21 => ?_)
        exact n_rZ q21
      · refine n_gI hm (by decide) (by decide) (by decide) (fun v2 => ?_)
        refine n_nm (fun y3 => ?_)
        refine n_gQ (k := 30) hm (by decide) (by decide) ?_
        refine n_nn ?_
        refine n_stI (k := 30) hm (by decide) (fun h7 m7 q7 => ?_)
        refine n_gQ (k := 30) q7 (by decide) (by decide) ?_
        refine n_nn ?_
        refine n_stI (k := 30) q7 (by decide) (fun h11 m11 q11 => ?_)
        refine n_gQ (k := 30) q11 (by decide) (by decide) ?_
        refine n_nn ?_
        refine n_stI (k := 30) q11 (by decide) (fun h15 m15 q15 => ?_)
        refine n_hV (r_M_go q15) (fun h16 m16 q16 => ?_)
        refine n_if ?_ ?_
        · exact (r_M_readBookLine_j112 q16 x1 y3)
        · refine n_hI (r_M_readRowName q16) (fun v18 h17 m17 q17 => ?_)
          refine n_hI (r_M_keep q17 (y3 + (1 : Int32)) v18) (fun v20 h19 m19 q19 => ?_)
          refine n_if ?_ ?_
          · exact n_rZ q19
          · exact (r_M_readBookLine_j112 q19 x1 y3)
  · refine n_hI (r_M_isWord hm ((3 : Int32) + x2)) (fun v26 h25 m25 q25 => ?_)
    refine n_if ?_ ?_
    · exact hr4 q25 x1 (x2 + (1 : Int32))
    · exact hr4 q25 x2 (x2 + (1 : Int32))
theorem u_M_readBookLine_l4 {g : Nat → Nat} {this : Nat} : ∀ (n : Nat) {ms : MS} {h : PH} (_ : MRep g this ms h) (x1 : Int32) (x2 : Int32), RM g this h (itr (c_M_readBookLine_l4) (fun _ _ _ _ => none) n h this x1 x2) (itr (d_M_readBookLine_l4) (fun _ _ _ => none) n ms x1 x2)
  | 0 => fun _ _ _ => n_none
  | n + 1 => fun hm x1 x2 => r_M_readBookLine_l4 (u_M_readBookLine_l4 n) hm x1 x2
def d_M_readBookLine (ms : MS) : Option DR :=
  itr (d_M_readBookLine_l4) (fun _ _ _ => none) FU ms (-1 : Int32) (0 : Int32)
theorem r_M_readBookLine {g : Nat → Nat} {this : Nat} {ms : MS} {h : PH} (hm : MRep g this ms h) : RM g this h (c_M_readBookLine h this) (d_M_readBookLine ms) := by
  unfold c_M_readBookLine d_M_readBookLine
  refine n_grd hm ?_
  exact u_M_readBookLine_l4 FU hm (-1 : Int32) (0 : Int32)
def d_M_goBy (ms : MS) (x1 : Int32) : Option DR :=
  eA ms 30 x1 fun v4 =>
  eA ms 30 (x1 + (1 : Int32)) fun v8 =>
  eA ms 30 (x1 + (2 : Int32)) fun v12 =>
  eA ms 30 (x1 + (3 : Int32)) fun v16 =>
  bI (d_M_refusal ms v4 v8 v12 v16) fun v18 m17 =>
  if v18 = 0 then
    eA m17 30 (x1 + (1 : Int32)) fun v22 =>
    eA m17 30 (x1 + (2 : Int32)) fun v26 =>
    eA m17 30 (x1 + (3 : Int32)) fun v30 =>
    bV (d_M_live m17 v4 v22 v26 v30) fun m31 =>
    dI (0 : Int32) m31
  else
    dI (((10 : Int32) * v4) + v18) m17
theorem r_M_goBy {g : Nat → Nat} {this : Nat} {ms : MS} {h : PH} (hm : MRep g this ms h) (x1 : Int32) : RM g this h (c_M_goBy h this x1) (d_M_goBy ms x1) := by
  unfold c_M_goBy d_M_goBy
  refine n_grd hm ?_
  refine n_gQ (k := 30) hm (by decide) (by decide) ?_
  refine n_nn ?_
  refine n_ldI (k := 30) hm (by decide) (fun v4 => ?_)
  refine n_gQ (k := 30) hm (by decide) (by decide) ?_
  refine n_nn ?_
  refine n_ldI (k := 30) hm (by decide) (fun v8 => ?_)
  refine n_gQ (k := 30) hm (by decide) (by decide) ?_
  refine n_nn ?_
  refine n_ldI (k := 30) hm (by decide) (fun v12 => ?_)
  refine n_gQ (k := 30) hm (by decide) (by decide) ?_
  refine n_nn ?_
  refine n_ldI (k := 30) hm (by decide) (fun v16 => ?_)
  refine n_hI (r_M_refusal hm v4 v8 v12 v16) (fun v18 h17 m17 q17 => ?_)
  refine n_if ?_ ?_
  · refine n_gQ (k := 30) q17 (by decide) (by decide) ?_
    refine n_nn ?_
    refine n_ldI (k := 30) q17 (by decide) (fun v22 => ?_)
    refine n_gQ (k := 30) q17 (by decide) (by decide) ?_
    refine n_nn ?_
    refine n_ldI (k := 30) q17 (by decide) (fun v26 => ?_)
    refine n_gQ (k := 30) q17 (by decide) (by decide) ?_
    refine n_nn ?_
    refine n_ldI (k := 30) q17 (by decide) (fun v30 => ?_)
    refine n_hV (r_M_live q17 v4 v22 v26 v30) (fun h31 m31 q31 => ?_)
    exact n_rI q31
  · exact n_rI q17
def d_M_allBits_l4 (r4' : MS → Int32 → Int32 → Option DR) (ms : MS) (x1 : Int32) (x2 : Int32) : Option DR :=
  eA ms 14 (0 : Int32) fun v4 =>
  if v4 ≤ x2 then
    dI x1 ms
  else
    bI (d_M_sizeOf ms x2) fun v6 m5 =>
    nm (x1 + v6) fun y7 =>
    r4' m5 y7 (x2 + (1 : Int32))
theorem r_M_allBits_l4 {g : Nat → Nat} {this : Nat} {r4 : PH → Nat → Int32 → Int32 → Option RH} {r4' : MS → Int32 → Int32 → Option DR} (hr4 : ∀ {ms : MS} {h : PH} (_ : MRep g this ms h) (x1 : Int32) (x2 : Int32), RM g this h (r4 h this x1 x2) (r4' ms x1 x2)) {ms : MS} {h : PH} (hm : MRep g this ms h) (x1 : Int32) (x2 : Int32) : RM g this h (c_M_allBits_l4 r4 h this x1 x2) (d_M_allBits_l4 r4' ms x1 x2) := by
  unfold c_M_allBits_l4 d_M_allBits_l4
  refine n_gQ (k := 14) hm (by decide) (by decide) ?_
  refine n_nn ?_
  refine n_ldI (k := 14) hm (by decide) (fun v4 => ?_)
  refine n_if ?_ ?_
  · exact n_rI hm
  · refine n_hI (r_M_sizeOf hm x2) (fun v6 h5 m5 q5 => ?_)
    refine n_nm (fun y7 => ?_)
    exact hr4 q5 y7 (x2 + (1 : Int32))
theorem u_M_allBits_l4 {g : Nat → Nat} {this : Nat} : ∀ (n : Nat) {ms : MS} {h : PH} (_ : MRep g this ms h) (x1 : Int32) (x2 : Int32), RM g this h (itr (c_M_allBits_l4) (fun _ _ _ _ => none) n h this x1 x2) (itr (d_M_allBits_l4) (fun _ _ _ => none) n ms x1 x2)
  | 0 => fun _ _ _ => n_none
  | n + 1 => fun hm x1 x2 => r_M_allBits_l4 (u_M_allBits_l4 n) hm x1 x2
def d_M_allBits (ms : MS) : Option DR :=
  itr (d_M_allBits_l4) (fun _ _ _ => none) FU ms (0 : Int32) (0 : Int32)
theorem r_M_allBits {g : Nat → Nat} {this : Nat} {ms : MS} {h : PH} (hm : MRep g this ms h) : RM g this h (c_M_allBits h this) (d_M_allBits ms) := by
  unfold c_M_allBits d_M_allBits
  refine n_grd hm ?_
  exact u_M_allBits_l4 FU hm (0 : Int32) (0 : Int32)
def d_M_book_j166 (ms : MS) (x2 : Int32) (x3 : Int32) (s0 : Int32) : Option DR :=
  bV (d_M_stay ms s0) fun m1 =>
  if x3 = 0 then
    dI (-1 : Int32) m1
  else
    dI x2 m1
theorem r_M_book_j166 {g : Nat → Nat} {this : Nat} {ms : MS} {h : PH} (hm : MRep g this ms h) (x2 : Int32) (x3 : Int32) (s0 : Int32) : RM g this h (c_M_book_j166 h x2 x3 s0 this) (d_M_book_j166 ms x2 x3 s0) := by
  unfold c_M_book_j166 d_M_book_j166
  refine n_hV (r_M_stay hm s0) (fun h1 m1 q1 => ?_)
  refine n_if ?_ ?_
  · exact n_rI q1
  · exact n_rI q1
def d_M_book_j165 (ms : MS) (x2 : Int32) (x3 : Int32) : Option DR :=
  d_M_book_j166 ms x2 x3 (0 : Int32)
theorem r_M_book_j165 {g : Nat → Nat} {this : Nat} {ms : MS} {h : PH} (hm : MRep g this ms h) (x2 : Int32) (x3 : Int32) : RM g this h (c_M_book_j165 h x2 x3 this) (d_M_book_j165 ms x2 x3) := by
  unfold c_M_book_j165 d_M_book_j165
  exact (r_M_book_j166 hm x2 x3 (0 : Int32))
def d_M_book_j108 (ms : MS) (x1 : Int32) (x2 : Int32) (x3 : Int32) : Option DR :=
  sA ms 31 (0 : Int32) x3 fun m4 =>
  sA m4 31 (1 : Int32) x2 fun m8 =>
  bI (d_M_allBits m8) fun v11 m10 =>
  sA m10 31 (2 : Int32) v11 fun m14 =>
  eA m14 14 (2615 : Int32) fun v19 =>
  sA m14 31 (3 : Int32) v19 fun m22 =>
  zP m22 33 (1 : Int32) fun m23 =>
  if x1 = (1 : Int32) then
    if x2 ≤ 0 then
      d_M_book_j165 m23 x2 x3
    else
      d_M_book_j166 m23 x2 x3 (1 : Int32)
  else
    d_M_book_j165 m23 x2 x3
theorem r_M_book_j108 {g : Nat → Nat} {this : Nat} {ms : MS} {h : PH} (hm : MRep g this ms h) (x1 : Int32) (x2 : Int32) (x3 : Int32) : RM g this h (c_M_book_j108 h this x1 x2 x3) (d_M_book_j108 ms x1 x2 x3) := by
  unfold c_M_book_j108 d_M_book_j108
  refine n_gQ (k := 31) hm (by decide) (by decide) ?_
  refine n_nn ?_
  refine n_stI (k := 31) hm (by decide) (fun h4 m4 q4 => ?_)
  refine n_gQ (k := 31) q4 (by decide) (by decide) ?_
  refine n_nn ?_
  refine n_stI (k := 31) q4 (by decide) (fun h8 m8 q8 => ?_)
  refine n_gQ (k := 31) q8 (by decide) (by decide) ?_
  refine n_hI (r_M_allBits q8) (fun v11 h10 m10 q10 => ?_)
  refine n_nn ?_
  refine n_stI (k := 31) q10 (by decide) (fun h14 m14 q14 => ?_)
  refine n_gQ (k := 31) q14 (by decide) (by decide) ?_
  refine n_gQ (k := 14) q14 (by decide) (by decide) ?_
  refine n_nn ?_
  refine n_ldI (k := 14) q14 (by decide) (fun v19 => ?_)
  refine n_nn ?_
  refine n_stI (k := 31) q14 (by decide) (fun h22 m22 q22 => ?_)
  refine n_pZ q22 (by decide) (by decide) (by decide) (fun h23 m23 q23 => ?_)
  refine n_if ?_ ?_
  · refine n_if ?_ ?_
    · exact (r_M_book_j165 q23 x2 x3)
    · exact (r_M_book_j166 q23 x2 x3 (1 : Int32))
  · exact (r_M_book_j165 q23 x2 x3)
def d_M_book_l78 (r78' : MS → Int32 → Int32 → Int32 → Option DR) (ms : MS) (x1 : Int32) (x2 : Int32) (x3 : Int32) : Option DR :=
  nm (ms.1 32 0) fun v1 =>
  if v1 ≤ x2 then
    d_M_book_j108 ms x1 x2 x3
  else
    if x3 = 0 then
      bI (d_M_goBy ms ((4 : Int32) * x2)) fun v3 m2 =>
      if v3 = 0 then
        r78' m2 x1 (x2 + (1 : Int32)) v3
      else
        r78' m2 x1 x2 v3
    else
      d_M_book_j108 ms x1 x2 x3
theorem r_M_book_l78 {g : Nat → Nat} {this : Nat} {r78 : PH → Nat → Int32 → Int32 → Int32 → Option RH} {r78' : MS → Int32 → Int32 → Int32 → Option DR} (hr78 : ∀ {ms : MS} {h : PH} (_ : MRep g this ms h) (x1 : Int32) (x2 : Int32) (x3 : Int32), RM g this h (r78 h this x1 x2 x3) (r78' ms x1 x2 x3)) {ms : MS} {h : PH} (hm : MRep g this ms h) (x1 : Int32) (x2 : Int32) (x3 : Int32) : RM g this h (c_M_book_l78 r78 h this x1 x2 x3) (d_M_book_l78 r78' ms x1 x2 x3) := by
  unfold c_M_book_l78 d_M_book_l78
  refine n_gI hm (by decide) (by decide) (by decide) (fun v1 => ?_)
  refine n_if ?_ ?_
  · exact (r_M_book_j108 hm x1 x2 x3)
  · refine n_if ?_ ?_
    · refine n_hI (r_M_goBy hm ((4 : Int32) * x2)) (fun v3 h2 m2 q2 => ?_)
      refine n_if ?_ ?_
      · exact hr78 q2 x1 (x2 + (1 : Int32)) v3
      · exact hr78 q2 x1 x2 v3
    · exact (r_M_book_j108 hm x1 x2 x3)
theorem u_M_book_l78 {g : Nat → Nat} {this : Nat} : ∀ (n : Nat) {ms : MS} {h : PH} (_ : MRep g this ms h) (x1 : Int32) (x2 : Int32) (x3 : Int32), RM g this h (itr (c_M_book_l78) (fun _ _ _ _ _ => none) n h this x1 x2 x3) (itr (d_M_book_l78) (fun _ _ _ _ => none) n ms x1 x2 x3)
  | 0 => fun _ _ _ _ => n_none
  | n + 1 => fun hm x1 x2 x3 => r_M_book_l78 (u_M_book_l78 n) hm x1 x2 x3
def d_M_book_l30 (r30' : MS → Int32 → Option DR) (ms : MS) (x1 : Int32) : Option DR :=
  nm (ms.1 7 0) fun v1 =>
  if v1 = 0 then
    bV (d_M_save ms 19 (0 : Int32)) fun m5 =>
    itr (d_M_book_l78) (fun _ _ _ _ => none) FU m5 x1 (0 : Int32) (0 : Int32)
  else
    bI (d_M_readBookLine ms) fun v7 m6 =>
    if v7 = 0 then
      nm (m6.1 11 0) fun v10 =>
      dI ((-2 : Int32) - v10) m6
    else
      nm (m6.1 32 0) fun v8 =>
      nm (mset m6 32 0 (v8 + (1 : Int32))) fun m9 =>
      r30' m9 x1
theorem r_M_book_l30 {g : Nat → Nat} {this : Nat} {r30 : PH → Nat → Int32 → Option RH} {r30' : MS → Int32 → Option DR} (hr30 : ∀ {ms : MS} {h : PH} (_ : MRep g this ms h) (x1 : Int32), RM g this h (r30 h this x1) (r30' ms x1)) {ms : MS} {h : PH} (hm : MRep g this ms h) (x1 : Int32) : RM g this h (c_M_book_l30 r30 h this x1) (d_M_book_l30 r30' ms x1) := by
  unfold c_M_book_l30 d_M_book_l30
  refine n_gI hm (by decide) (by decide) (by decide) (fun v1 => ?_)
  refine n_if ?_ ?_
  · refine n_gQ (k := 19) hm (by decide) (by decide) ?_
    refine n_nn ?_
    refine n_hV (r_M_save hm 19 (0 : Int32) (by decide)) (fun h5 m5 q5 => ?_)
    exact u_M_book_l78 FU q5 x1 (0 : Int32) (0 : Int32)
  · refine n_hI (r_M_readBookLine hm) (fun v7 h6 m6 q6 => ?_)
    refine n_if ?_ ?_
    · refine n_gI q6 (by decide) (by decide) (by decide) (fun v10 => ?_)
      exact n_rI q6
    · refine n_gI q6 (by decide) (by decide) (by decide) (fun v8 => ?_)
      refine n_pI q6 (by decide) (by decide) (by decide) (fun h9 m9 q9 => ?_)
      exact hr30 q9 x1
theorem u_M_book_l30 {g : Nat → Nat} {this : Nat} : ∀ (n : Nat) {ms : MS} {h : PH} (_ : MRep g this ms h) (x1 : Int32), RM g this h (itr (c_M_book_l30) (fun _ _ _ => none) n h this x1) (itr (d_M_book_l30) (fun _ _ => none) n ms x1)
  | 0 => fun _ _ => n_none
  | n + 1 => fun hm x1 => r_M_book_l30 (u_M_book_l30 n) hm x1
def d_M_book (ms : MS) (x1 : Int32) : Option DR :=
  nm (mset ms 0 0 (0 : Int32)) fun m1 =>
  bI (d_M_isIn m1 x1 (0 : Int32) (1 : Int32)) fun v3 m2 =>
  if v3 = 0 then
    dI (-1000 : Int32) m2
  else
    bV (d_M_begin m2 (400 : Int32)) fun m4 =>
    nm (mset m4 32 0 (0 : Int32)) fun m5 =>
    itr (d_M_book_l30) (fun _ _ => none) FU m5 x1
theorem r_M_book {g : Nat → Nat} {this : Nat} {ms : MS} {h : PH} (hm : MRep g this ms h) (x1 : Int32) : RM g this h (c_M_book h this x1) (d_M_book ms x1) := by
  unfold c_M_book d_M_book
  refine n_grd hm ?_
  refine n_pI hm (by decide) (by decide) (by decide) (fun h1 m1 q1 => ?_)
  refine n_hI (r_M_isIn q1 x1 (0 : Int32) (1 : Int32)) (fun v3 h2 m2 q2 => ?_)
  refine n_if ?_ ?_
  · exact n_rI q2
  · refine n_hV (r_M_begin q2 (400 : Int32)) (fun h4 m4 q4 => ?_)
    refine n_pI q4 (by decide) (by decide) (by decide) (fun h5 m5 q5 => ?_)
    exact u_M_book_l30 FU q5 x1
def d_M_told (ms : MS) (x1 : Int32) : Option DR :=
  nm (mset ms 0 0 (0 : Int32)) fun m1 =>
  nm (m1.1 33 0) fun v2 =>
  if v2 = 0 then
    dI (-1 : Int32) m1
  else
    bI (d_M_isIn m1 x1 (0 : Int32) (3 : Int32)) fun v4 m3 =>
    if v4 = 0 then
      dI (-1 : Int32) m3
    else
      eA m3 31 x1 fun v8 =>
      dI v8 m3
theorem r_M_told {g : Nat → Nat} {this : Nat} {ms : MS} {h : PH} (hm : MRep g this ms h) (x1 : Int32) : RM g this h (c_M_told h this x1) (d_M_told ms x1) := by
  unfold c_M_told d_M_told
  refine n_grd hm ?_
  refine n_pI hm (by decide) (by decide) (by decide) (fun h1 m1 q1 => ?_)
  refine n_gI q1 (by decide) (by decide) (by decide) (fun v2 => ?_)
  refine n_if ?_ ?_
  · exact n_rI q1
  · refine n_hI (r_M_isIn q1 x1 (0 : Int32) (3 : Int32)) (fun v4 h3 m3 q3 => ?_)
    refine n_if ?_ ?_
    · exact n_rI q3
    · refine n_gQ (k := 31) q3 (by decide) (by decide) ?_
      refine n_nn ?_
      refine n_ldI (k := 31) q3 (by decide) (fun v8 => ?_)
      exact n_rI q3
def e_M_readBracket (rg' : Nat → MS → Option DR) (ms : MS) : Option DR :=
  bI (rg' 0 ms) fun v2 m1 =>
  if v2 = 0 then
    dZ (0 : Int32) m1
  else
    bI (d_M_isSign m1 (41 : Int32)) fun v4 m3 =>
    if v4 = 0 then
      bI (d_M_bad m3 (1 : Int32)) fun v7 m6 =>
      dZ v7 m6
    else
      bV (d_M_go m3) fun m5 =>
      dZ (1 : Int32) m5
theorem r_b_M_readBracket {g : Nat → Nat} {this : Nat} {rg : Nat → PH → Nat → Option RH} {rg' : Nat → MS → Option DR} (hrg : ∀ (sel : Nat) {ms : MS} {h : PH} (_ : MRep g this ms h), RM g this h (rg sel h this) (rg' sel ms)) {ms : MS} {h : PH} (hm : MRep g this ms h) : RM g this h (b_M_readBracket rg h this) (e_M_readBracket rg' ms) := by
  unfold b_M_readBracket e_M_readBracket
  refine n_grd hm ?_
  refine n_hI (n_grd hm (hrg 0 hm)) (fun v2 h1 m1 q1 => ?_)
  refine n_if ?_ ?_
  · exact n_rZ q1
  · refine n_hI (r_M_isSign q1 (41 : Int32)) (fun v4 h3 m3 q3 => ?_)
    refine n_if ?_ ?_
    · refine n_hI (r_M_bad q3 (1 : Int32)) (fun v7 h6 m6 q6 => ?_)
      exact n_rZ q6
    · refine n_hV (r_M_go q3) (fun h5 m5 q5 => ?_)
      exact n_rZ q5
def d_M_saysOne (ms : MS) (x1 : Int32) (x2 : Int32) (x3 : Int32) (x4 : Int32) : Option DR :=
  nm (ms.1 35 0) fun v1 =>
  nm ((4 : Int32) * v1) fun y2 =>
  sA ms 34 y2 x1 fun m6 =>
  sA m6 34 (y2 + (1 : Int32)) x2 fun m10 =>
  sA m10 34 (y2 + (2 : Int32)) x3 fun m14 =>
  sA m14 34 (y2 + (3 : Int32)) x4 fun m18 =>
  nm (m18.1 35 0) fun v19 =>
  nm (mset m18 35 0 (v19 + (1 : Int32))) fun m20 =>
  nm (m20.1 35 0) fun v21 =>
  dI (v21 - (1 : Int32)) m20
theorem r_M_saysOne {g : Nat → Nat} {this : Nat} {ms : MS} {h : PH} (hm : MRep g this ms h) (x1 : Int32) (x2 : Int32) (x3 : Int32) (x4 : Int32) : RM g this h (c_M_saysOne h this x1 x2 x3 x4) (d_M_saysOne ms x1 x2 x3 x4) := by
  unfold c_M_saysOne d_M_saysOne
  refine n_grd hm ?_
  refine n_gI hm (by decide) (by decide) (by decide) (fun v1 => ?_)
  refine n_nm (fun y2 => ?_)
  refine n_gQ (k := 34) hm (by decide) (by decide) ?_
  refine n_nn ?_
  refine n_stI (k := 34) hm (by decide) (fun h6 m6 q6 => ?_)
  refine n_gQ (k := 34) q6 (by decide) (by decide) ?_
  refine n_nn ?_
  refine n_stI (k := 34) q6 (by decide) (fun h10 m10 q10 => ?_)
  refine n_gQ (k := 34) q10 (by decide) (by decide) ?_
  refine n_nn ?_
  refine n_stI (k := 34) q10 (by decide) (fun h14 m14 q14 => ?_)
  refine n_gQ (k := 34) q14 (by decide) (by decide) ?_
  refine n_nn ?_
  refine n_stI (k := 34) q14 (by decide) (fun h18 m18 q18 => ?_)
  refine n_gI q18 (by decide) (by decide) (by decide) (fun v19 => ?_)
  refine n_pI q18 (by decide) (by decide) (by decide) (fun h20 m20 q20 => ?_)
  refine n_gI q20 (by decide) (by decide) (by decide) (fun v21 => ?_)
  exact n_rI q20
def e_M_readNot (rg' : Nat → MS → Option DR) (ms : MS) : Option DR :=
  bI (rg' 2 ms) fun v2 m1 =>
  if v2 = 0 then
    dZ (0 : Int32) m1
  else
    nm (m1.1 38 0) fun v3 =>
    bI (d_M_saysOne m1 (1 : Int32) v3 (0 : Int32) (0 : Int32)) fun v5 m4 =>
    nm (mset m4 38 0 v5) fun m6 =>
    dZ (1 : Int32) m6
theorem r_b_M_readNot {g : Nat → Nat} {this : Nat} {rg : Nat → PH → Nat → Option RH} {rg' : Nat → MS → Option DR} (hrg : ∀ (sel : Nat) {ms : MS} {h : PH} (_ : MRep g this ms h), RM g this h (rg sel h this) (rg' sel ms)) {ms : MS} {h : PH} (hm : MRep g this ms h) : RM g this h (b_M_readNot rg h this) (e_M_readNot rg' ms) := by
  unfold b_M_readNot e_M_readNot
  refine n_grd hm ?_
  refine n_hI (n_grd hm (hrg 2 hm)) (fun v2 h1 m1 q1 => ?_)
  refine n_if ?_ ?_
  · exact n_rZ q1
  · refine n_gI q1 (by decide) (by decide) (by decide) (fun v3 => ?_)
    refine n_hI (r_M_saysOne q1 (1 : Int32) v3 (0 : Int32) (0 : Int32)) (fun v5 h4 m4 q4 => ?_)
    refine n_pI q4 (by decide) (by decide) (by decide) (fun h6 m6 q6 => ?_)
    exact n_rZ q6
def d_M_readOf (ms : MS) (x1 : Int32) : Option DR :=
  bI (d_M_readRowName ms) fun v2 m1 =>
  if v2 = 0 then
    dZ (0 : Int32) m1
  else
    nm (m1.1 13 0) fun v3 =>
    bI (d_M_saysOne m1 ((50 : Int32) + x1) v3 (0 : Int32) (0 : Int32)) fun v5 m4 =>
    nm (mset m4 38 0 v5) fun m6 =>
    dZ (1 : Int32) m6
theorem r_M_readOf {g : Nat → Nat} {this : Nat} {ms : MS} {h : PH} (hm : MRep g this ms h) (x1 : Int32) : RM g this h (c_M_readOf h this x1) (d_M_readOf ms x1) := by
  unfold c_M_readOf d_M_readOf
  refine n_grd hm ?_
  refine n_hI (r_M_readRowName hm) (fun v2 h1 m1 q1 => ?_)
  refine n_if ?_ ?_
  · exact n_rZ q1
  · refine n_gI q1 (by decide) (by decide) (by decide) (fun v3 => ?_)
    refine n_hI (r_M_saysOne q1 ((50 : Int32) + x1) v3 (0 : Int32) (0 : Int32)) (fun v5 h4 m4 q4 => ?_)
    refine n_pI q4 (by decide) (by decide) (by decide) (fun h6 m6 q6 => ?_)
    exact n_rZ q6
def d_M_readCompare_j33 (ms : MS) (x1 : Int32) : Option DR :=
  nm (ms.1 9 0) fun v1 =>
  bV (d_M_go ms) fun m2 =>
  bI (d_M_readNumber m2 (0 : Int32) (999 : Int32)) fun v4 m3 =>
  if v4 = 0 then
    dZ (0 : Int32) m3
  else
    nm (m3.1 13 0) fun v5 =>
    bI (d_M_saysOne m3 ((50 : Int32) + x1) (0 : Int32) v5 v1) fun v7 m6 =>
    nm (mset m6 38 0 v7) fun m8 =>
    dZ (1 : Int32) m8
theorem r_M_readCompare_j33 {g : Nat → Nat} {this : Nat} {ms : MS} {h : PH} (hm : MRep g this ms h) (x1 : Int32) : RM g this h (c_M_readCompare_j33 h this x1) (d_M_readCompare_j33 ms x1) := by
  unfold c_M_readCompare_j33 d_M_readCompare_j33
  refine n_gI hm (by decide) (by decide) (by decide) (fun v1 => ?_)
  refine n_hV (r_M_go hm) (fun h2 m2 q2 => ?_)
  refine n_hI (r_M_readNumber q2 (0 : Int32) (999 : Int32)) (fun v4 h3 m3 q3 => ?_)
  refine n_if ?_ ?_
  · exact n_rZ q3
  · refine n_gI q3 (by decide) (by decide) (by decide) (fun v5 => ?_)
    refine n_hI (r_M_saysOne q3 ((50 : Int32) + x1) (0 : Int32) v5 v1) (fun v7 h6 m6 q6 => ?_)
    refine n_pI q6 (by decide) (by decide) (by decide) (fun h8 m8 q8 => ?_)
    exact n_rZ q8
def d_M_readCompare (ms : MS) (x1 : Int32) : Option DR :=
  bI (d_M_isSign ms (60 : Int32)) fun v2 m1 =>
  if v2 = 0 then
    bI (d_M_isSign m1 (61 : Int32)) fun v4 m3 =>
    if v4 = 0 then
      bI (d_M_isSign m3 (62 : Int32)) fun v6 m5 =>
      if v6 = 0 then
        bI (d_M_bad m5 (1 : Int32)) fun v8 m7 =>
        dZ v8 m7
      else
        d_M_readCompare_j33 m5 x1
    else
      d_M_readCompare_j33 m3 x1
  else
    d_M_readCompare_j33 m1 x1
theorem r_M_readCompare {g : Nat → Nat} {this : Nat} {ms : MS} {h : PH} (hm : MRep g this ms h) (x1 : Int32) : RM g this h (c_M_readCompare h this x1) (d_M_readCompare ms x1) := by
  unfold c_M_readCompare d_M_readCompare
  refine n_grd hm ?_
  refine n_hI (r_M_isSign hm (60 : Int32)) (fun v2 h1 m1 q1 => ?_)
  refine n_if ?_ ?_
  · refine n_hI (r_M_isSign q1 (61 : Int32)) (fun v4 h3 m3 q3 => ?_)
    refine n_if ?_ ?_
    · refine n_hI (r_M_isSign q3 (62 : Int32)) (fun v6 h5 m5 q5 => ?_)
      refine n_if ?_ ?_
      · refine n_hI (r_M_bad q5 (1 : Int32)) (fun v8 h7 m7 q7 => ?_)
        exact n_rZ q7
      · exact (r_M_readCompare_j33 q5 x1)
    · exact (r_M_readCompare_j33 q3 x1)
  · exact (r_M_readCompare_j33 q1 x1)
def d_M_readSaid_j166 (rg' : Nat → MS → Option DR) (ms : MS) (x3 : Int32) : Option DR :=
  nm (ms.1 37 0) fun v1 =>
  nm (mset ms 37 0 (v1 - (1 : Int32))) fun m2 =>
  dZ x3 m2
theorem r_M_readSaid_j166 {g : Nat → Nat} {this : Nat} {rg : Nat → PH → Nat → Option RH} {rg' : Nat → MS → Option DR} (hrg : ∀ (sel : Nat) {ms : MS} {h : PH} (_ : MRep g this ms h), RM g this h (rg sel h this) (rg' sel ms)) {ms : MS} {h : PH} (hm : MRep g this ms h) (x3 : Int32) : RM g this h (c_M_readSaid_j166 rg h this x3) (d_M_readSaid_j166 rg' ms x3) := by
  unfold c_M_readSaid_j166 d_M_readSaid_j166
  refine n_gI hm (by decide) (by decide) (by decide) (fun v1 => ?_)
  refine n_pI hm (by decide) (by decide) (by decide) (fun h2 m2 q2 => ?_)
  exact n_rZ q2
def d_M_readSaid_j165 (rg' : Nat → MS → Option DR) (ms : MS) (s0 : Int32) : Option DR :=
  d_M_readSaid_j166 rg' ms s0
theorem r_M_readSaid_j165 {g : Nat → Nat} {this : Nat} {rg : Nat → PH → Nat → Option RH} {rg' : Nat → MS → Option DR} (hrg : ∀ (sel : Nat) {ms : MS} {h : PH} (_ : MRep g this ms h), RM g this h (rg sel h this) (rg' sel ms)) {ms : MS} {h : PH} (hm : MRep g this ms h) (s0 : Int32) : RM g this h (c_M_readSaid_j165 rg h this s0) (d_M_readSaid_j165 rg' ms s0) := by
  unfold c_M_readSaid_j165 d_M_readSaid_j165
  exact (r_M_readSaid_j166 hrg hm s0)
def d_M_readSaid_j46 (rg' : Nat → MS → Option DR) (ms : MS) (x1 : Int32) (x2 : Int32) : Option DR :=
  nm (ms.1 36 0) fun v1 =>
  if v1 = (20 : Int32) then
    bI (d_M_bad ms (4 : Int32)) fun v3 m2 =>
    dZ v3 m2
  else
    nm (ms.1 37 0) fun v4 =>
    if v4 = (8 : Int32) then
      bI (d_M_bad ms (4 : Int32)) fun v22 m21 =>
      dZ v22 m21
    else
      nm (ms.1 36 0) fun v5 =>
      nm (mset ms 36 0 (v5 + (1 : Int32))) fun m6 =>
      nm (m6.1 37 0) fun v7 =>
      nm (mset m6 37 0 (v7 + (1 : Int32))) fun m8 =>
      bV (d_M_go m8) fun m9 =>
      if x1 = 0 then
        if x2 = (13 : Int32) then
          bI (rg' 3 m9) fun v18 m17 =>
          d_M_readSaid_j166 rg' m17 v18
        else
          if (16 : Int32) ≤ x2 then
            if (18 : Int32) ≤ x2 then
              bI (d_M_readCompare m9 x2) fun v11 m10 =>
              d_M_readSaid_j165 rg' m10 v11
            else
              bI (d_M_readOf m9 x2) fun v13 m12 =>
              d_M_readSaid_j165 rg' m12 v13
          else
            bI (d_M_saysOne m9 ((50 : Int32) + x2) (0 : Int32) (0 : Int32) (0 : Int32)) fun v15 m14 =>
            nm (mset m14 38 0 v15) fun m16 =>
            d_M_readSaid_j166 rg' m16 (1 : Int32)
      else
        bI (rg' 4 m9) fun v20 m19 =>
        d_M_readSaid_j166 rg' m19 v20
theorem r_M_readSaid_j46 {g : Nat → Nat} {this : Nat} {rg : Nat → PH → Nat → Option RH} {rg' : Nat → MS → Option DR} (hrg : ∀ (sel : Nat) {ms : MS} {h : PH} (_ : MRep g this ms h), RM g this h (rg sel h this) (rg' sel ms)) {ms : MS} {h : PH} (hm : MRep g this ms h) (x1 : Int32) (x2 : Int32) : RM g this h (c_M_readSaid_j46 rg h this x1 x2) (d_M_readSaid_j46 rg' ms x1 x2) := by
  unfold c_M_readSaid_j46 d_M_readSaid_j46
  refine n_gI hm (by decide) (by decide) (by decide) (fun v1 => ?_)
  refine n_if ?_ ?_
  · refine n_hI (r_M_bad hm (4 : Int32)) (fun v3 h2 m2 q2 => ?_)
    exact n_rZ q2
  · refine n_gI hm (by decide) (by decide) (by decide) (fun v4 => ?_)
    refine n_if ?_ ?_
    · refine n_hI (r_M_bad hm (4 : Int32)) (fun v22 h21 m21 q21 => ?_)
      exact n_rZ q21
    · refine n_gI hm (by decide) (by decide) (by decide) (fun v5 => ?_)
      refine n_pI hm (by decide) (by decide) (by decide) (fun h6 m6 q6 => ?_)
      refine n_gI q6 (by decide) (by decide) (by decide) (fun v7 => ?_)
      refine n_pI q6 (by decide) (by decide) (by decide) (fun h8 m8 q8 => ?_)
      refine n_hV (r_M_go q8) (fun h9 m9 q9 => ?_)
      refine n_if ?_ ?_
      · refine n_if ?_ ?_
        · refine n_hI (n_grd q9 (hrg 3 q9)) (fun v18 h17 m17 q17 => ?_)
          exact (r_M_readSaid_j166 hrg q17 v18)
        · refine n_if ?_ ?_
          · refine n_if ?_ ?_
            · refine n_hI (r_M_readCompare q9 x2) (fun v11 h10 m10 q10 => ?_)
              exact (r_M_readSaid_j165 hrg q10 v11)
            · refine n_hI (r_M_readOf q9 x2) (fun v13 h12 m12 q12 => ?_)
              exact (r_M_readSaid_j165 hrg q12 v13)
          · refine n_hI (r_M_saysOne q9 ((50 : Int32) + x2) (0 : Int32) (0 : Int32) (0 : Int32)) (fun v15 h14 m14 q14 => ?_)
            refine n_pI q14 (by decide) (by decide) (by decide) (fun h16 m16 q16 => ?_)
            exact (r_M_readSaid_j166 hrg q16 (1 : Int32))
      · refine n_hI (n_grd q9 (hrg 4 q9)) (fun v20 h19 m19 q19 => ?_)
        exact (r_M_readSaid_j166 hrg q19 v20)
def d_M_readSaid_j30 (rg' : Nat → MS → Option DR) (ms : MS) (x1 : Int32) (x2 : Int32) : Option DR :=
  if x1 = 0 then
    if x2 ≤ (22 : Int32) then
      d_M_readSaid_j46 rg' ms x1 x2
    else
      bI (d_M_bad ms (1 : Int32)) fun v2 m1 =>
      dZ v2 m1
  else
    d_M_readSaid_j46 rg' ms x1 x2
theorem r_M_readSaid_j30 {g : Nat → Nat} {this : Nat} {rg : Nat → PH → Nat → Option RH} {rg' : Nat → MS → Option DR} (hrg : ∀ (sel : Nat) {ms : MS} {h : PH} (_ : MRep g this ms h), RM g this h (rg sel h this) (rg' sel ms)) {ms : MS} {h : PH} (hm : MRep g this ms h) (x1 : Int32) (x2 : Int32) : RM g this h (c_M_readSaid_j30 rg h this x1 x2) (d_M_readSaid_j30 rg' ms x1 x2) := by
  unfold c_M_readSaid_j30 d_M_readSaid_j30
  refine n_if ?_ ?_
  · refine n_if ?_ ?_
    · exact (r_M_readSaid_j46 hrg hm x1 x2)
    · refine n_hI (r_M_bad hm (1 : Int32)) (fun v2 h1 m1 q1 => ?_)
      exact n_rZ q1
  · exact (r_M_readSaid_j46 hrg hm x1 x2)
def d_M_readSaid_l10 (rg' : Nat → MS → Option DR) (r10' : MS → Int32 → Int32 → Option DR) (ms : MS) (x1 : Int32) (x2 : Int32) : Option DR :=
  if (22 : Int32) < x2 then
    d_M_readSaid_j30 rg' ms x1 x2
  else
    bI (d_M_isWord ms x2) fun v2 m1 =>
    if v2 = 0 then
      r10' m1 x1 (x2 + (1 : Int32))
    else
      d_M_readSaid_j30 rg' m1 x1 x2
theorem r_M_readSaid_l10 {g : Nat → Nat} {this : Nat} {rg : Nat → PH → Nat → Option RH} {rg' : Nat → MS → Option DR} {r10 : PH → Nat → Int32 → Int32 → Option RH} {r10' : MS → Int32 → Int32 → Option DR} (hrg : ∀ (sel : Nat) {ms : MS} {h : PH} (_ : MRep g this ms h), RM g this h (rg sel h this) (rg' sel ms)) (hr10 : ∀ {ms : MS} {h : PH} (_ : MRep g this ms h) (x1 : Int32) (x2 : Int32), RM g this h (r10 h this x1 x2) (r10' ms x1 x2)) {ms : MS} {h : PH} (hm : MRep g this ms h) (x1 : Int32) (x2 : Int32) : RM g this h (c_M_readSaid_l10 rg r10 h this x1 x2) (d_M_readSaid_l10 rg' r10' ms x1 x2) := by
  unfold c_M_readSaid_l10 d_M_readSaid_l10
  refine n_if ?_ ?_
  · exact (r_M_readSaid_j30 hrg hm x1 x2)
  · refine n_hI (r_M_isWord hm x2) (fun v2 h1 m1 q1 => ?_)
    refine n_if ?_ ?_
    · exact hr10 q1 x1 (x2 + (1 : Int32))
    · exact (r_M_readSaid_j30 hrg q1 x1 x2)
theorem u_M_readSaid_l10 {g : Nat → Nat} {this : Nat} {rg : Nat → PH → Nat → Option RH} {rg' : Nat → MS → Option DR} (hrg : ∀ (sel : Nat) {ms : MS} {h : PH} (_ : MRep g this ms h), RM g this h (rg sel h this) (rg' sel ms)) : ∀ (n : Nat) {ms : MS} {h : PH} (_ : MRep g this ms h) (x1 : Int32) (x2 : Int32), RM g this h (itr (c_M_readSaid_l10 rg) (fun _ _ _ _ => none) n h this x1 x2) (itr (d_M_readSaid_l10 rg') (fun _ _ _ => none) n ms x1 x2)
  | 0 => fun _ _ _ => n_none
  | n + 1 => fun hm x1 x2 => r_M_readSaid_l10 hrg (u_M_readSaid_l10 hrg n) hm x1 x2
def e_M_readSaid (rg' : Nat → MS → Option DR) (ms : MS) : Option DR :=
  bI (d_M_isSign ms (40 : Int32)) fun v2 m1 =>
  itr (d_M_readSaid_l10 rg') (fun _ _ _ => none) FU m1 v2 (13 : Int32)
theorem r_b_M_readSaid {g : Nat → Nat} {this : Nat} {rg : Nat → PH → Nat → Option RH} {rg' : Nat → MS → Option DR} (hrg : ∀ (sel : Nat) {ms : MS} {h : PH} (_ : MRep g this ms h), RM g this h (rg sel h this) (rg' sel ms)) {ms : MS} {h : PH} (hm : MRep g this ms h) : RM g this h (b_M_readSaid rg h this) (e_M_readSaid rg' ms) := by
  unfold b_M_readSaid e_M_readSaid
  refine n_grd hm ?_
  refine n_hI (r_M_isSign hm (40 : Int32)) (fun v2 h1 m1 q1 => ?_)
  exact u_M_readSaid_l10 hrg FU q1 v2 (13 : Int32)
def d_M_readAnd_l14 (rg' : Nat → MS → Option DR) (r14' : MS → Int32 → Option DR) (ms : MS) (x1 : Int32) : Option DR :=
  bI (d_M_isWord ms (12 : Int32)) fun v2 m1 =>
  if v2 = 0 then
    nm (mset m1 38 0 x1) fun m3 =>
    dZ (1 : Int32) m3
  else
    bV (d_M_go m1) fun m4 =>
    bI (rg' 2 m4) fun v6 m5 =>
    if v6 = 0 then
      dZ (0 : Int32) m5
    else
      nm (m5.1 38 0) fun v7 =>
      bI (d_M_saysOne m5 (2 : Int32) x1 v7 (0 : Int32)) fun v9 m8 =>
      r14' m8 v9
theorem r_M_readAnd_l14 {g : Nat → Nat} {this : Nat} {rg : Nat → PH → Nat → Option RH} {rg' : Nat → MS → Option DR} {r14 : PH → Nat → Int32 → Option RH} {r14' : MS → Int32 → Option DR} (hrg : ∀ (sel : Nat) {ms : MS} {h : PH} (_ : MRep g this ms h), RM g this h (rg sel h this) (rg' sel ms)) (hr14 : ∀ {ms : MS} {h : PH} (_ : MRep g this ms h) (x1 : Int32), RM g this h (r14 h this x1) (r14' ms x1)) {ms : MS} {h : PH} (hm : MRep g this ms h) (x1 : Int32) : RM g this h (c_M_readAnd_l14 rg r14 h this x1) (d_M_readAnd_l14 rg' r14' ms x1) := by
  unfold c_M_readAnd_l14 d_M_readAnd_l14
  refine n_hI (r_M_isWord hm (12 : Int32)) (fun v2 h1 m1 q1 => ?_)
  refine n_if ?_ ?_
  · refine n_pI q1 (by decide) (by decide) (by decide) (fun h3 m3 q3 => ?_)
    exact n_rZ q3
  · refine n_hV (r_M_go q1) (fun h4 m4 q4 => ?_)
    refine n_hI (n_grd q4 (hrg 2 q4)) (fun v6 h5 m5 q5 => ?_)
    refine n_if ?_ ?_
    · exact n_rZ q5
    · refine n_gI q5 (by decide) (by decide) (by decide) (fun v7 => ?_)
      refine n_hI (r_M_saysOne q5 (2 : Int32) x1 v7 (0 : Int32)) (fun v9 h8 m8 q8 => ?_)
      exact hr14 q8 v9
theorem u_M_readAnd_l14 {g : Nat → Nat} {this : Nat} {rg : Nat → PH → Nat → Option RH} {rg' : Nat → MS → Option DR} (hrg : ∀ (sel : Nat) {ms : MS} {h : PH} (_ : MRep g this ms h), RM g this h (rg sel h this) (rg' sel ms)) : ∀ (n : Nat) {ms : MS} {h : PH} (_ : MRep g this ms h) (x1 : Int32), RM g this h (itr (c_M_readAnd_l14 rg) (fun _ _ _ => none) n h this x1) (itr (d_M_readAnd_l14 rg') (fun _ _ => none) n ms x1)
  | 0 => fun _ _ => n_none
  | n + 1 => fun hm x1 => r_M_readAnd_l14 hrg (u_M_readAnd_l14 hrg n) hm x1
def e_M_readAnd (rg' : Nat → MS → Option DR) (ms : MS) : Option DR :=
  bI (rg' 2 ms) fun v2 m1 =>
  if v2 = 0 then
    dZ (0 : Int32) m1
  else
    nm (m1.1 38 0) fun v3 =>
    itr (d_M_readAnd_l14 rg') (fun _ _ => none) FU m1 v3
theorem r_b_M_readAnd {g : Nat → Nat} {this : Nat} {rg : Nat → PH → Nat → Option RH} {rg' : Nat → MS → Option DR} (hrg : ∀ (sel : Nat) {ms : MS} {h : PH} (_ : MRep g this ms h), RM g this h (rg sel h this) (rg' sel ms)) {ms : MS} {h : PH} (hm : MRep g this ms h) : RM g this h (b_M_readAnd rg h this) (e_M_readAnd rg' ms) := by
  unfold b_M_readAnd e_M_readAnd
  refine n_grd hm ?_
  refine n_hI (n_grd hm (hrg 2 hm)) (fun v2 h1 m1 q1 => ?_)
  refine n_if ?_ ?_
  · exact n_rZ q1
  · refine n_gI q1 (by decide) (by decide) (by decide) (fun v3 => ?_)
    exact u_M_readAnd_l14 hrg FU q1 v3
def d_M_readOr_l14 (rg' : Nat → MS → Option DR) (r14' : MS → Int32 → Option DR) (ms : MS) (x1 : Int32) : Option DR :=
  bI (d_M_isWord ms (11 : Int32)) fun v2 m1 =>
  if v2 = 0 then
    nm (mset m1 38 0 x1) fun m3 =>
    dZ (1 : Int32) m3
  else
    bV (d_M_go m1) fun m4 =>
    bI (rg' 1 m4) fun v6 m5 =>
    if v6 = 0 then
      dZ (0 : Int32) m5
    else
      nm (m5.1 38 0) fun v7 =>
      bI (d_M_saysOne m5 (3 : Int32) x1 v7 (0 : Int32)) fun v9 m8 =>
      r14' m8 v9
theorem r_M_readOr_l14 {g : Nat → Nat} {this : Nat} {rg : Nat → PH → Nat → Option RH} {rg' : Nat → MS → Option DR} {r14 : PH → Nat → Int32 → Option RH} {r14' : MS → Int32 → Option DR} (hrg : ∀ (sel : Nat) {ms : MS} {h : PH} (_ : MRep g this ms h), RM g this h (rg sel h this) (rg' sel ms)) (hr14 : ∀ {ms : MS} {h : PH} (_ : MRep g this ms h) (x1 : Int32), RM g this h (r14 h this x1) (r14' ms x1)) {ms : MS} {h : PH} (hm : MRep g this ms h) (x1 : Int32) : RM g this h (c_M_readOr_l14 rg r14 h this x1) (d_M_readOr_l14 rg' r14' ms x1) := by
  unfold c_M_readOr_l14 d_M_readOr_l14
  refine n_hI (r_M_isWord hm (11 : Int32)) (fun v2 h1 m1 q1 => ?_)
  refine n_if ?_ ?_
  · refine n_pI q1 (by decide) (by decide) (by decide) (fun h3 m3 q3 => ?_)
    exact n_rZ q3
  · refine n_hV (r_M_go q1) (fun h4 m4 q4 => ?_)
    refine n_hI (n_grd q4 (hrg 1 q4)) (fun v6 h5 m5 q5 => ?_)
    refine n_if ?_ ?_
    · exact n_rZ q5
    · refine n_gI q5 (by decide) (by decide) (by decide) (fun v7 => ?_)
      refine n_hI (r_M_saysOne q5 (3 : Int32) x1 v7 (0 : Int32)) (fun v9 h8 m8 q8 => ?_)
      exact hr14 q8 v9
theorem u_M_readOr_l14 {g : Nat → Nat} {this : Nat} {rg : Nat → PH → Nat → Option RH} {rg' : Nat → MS → Option DR} (hrg : ∀ (sel : Nat) {ms : MS} {h : PH} (_ : MRep g this ms h), RM g this h (rg sel h this) (rg' sel ms)) : ∀ (n : Nat) {ms : MS} {h : PH} (_ : MRep g this ms h) (x1 : Int32), RM g this h (itr (c_M_readOr_l14 rg) (fun _ _ _ => none) n h this x1) (itr (d_M_readOr_l14 rg') (fun _ _ => none) n ms x1)
  | 0 => fun _ _ => n_none
  | n + 1 => fun hm x1 => r_M_readOr_l14 hrg (u_M_readOr_l14 hrg n) hm x1
def e_M_readOr (rg' : Nat → MS → Option DR) (ms : MS) : Option DR :=
  bI (rg' 1 ms) fun v2 m1 =>
  if v2 = 0 then
    dZ (0 : Int32) m1
  else
    nm (m1.1 38 0) fun v3 =>
    itr (d_M_readOr_l14 rg') (fun _ _ => none) FU m1 v3
theorem r_b_M_readOr {g : Nat → Nat} {this : Nat} {rg : Nat → PH → Nat → Option RH} {rg' : Nat → MS → Option DR} (hrg : ∀ (sel : Nat) {ms : MS} {h : PH} (_ : MRep g this ms h), RM g this h (rg sel h this) (rg' sel ms)) {ms : MS} {h : PH} (hm : MRep g this ms h) : RM g this h (b_M_readOr rg h this) (e_M_readOr rg' ms) := by
  unfold b_M_readOr e_M_readOr
  refine n_grd hm ?_
  refine n_hI (n_grd hm (hrg 1 hm)) (fun v2 h1 m1 q1 => ?_)
  refine n_if ?_ ?_
  · exact n_rZ q1
  · refine n_gI q1 (by decide) (by decide) (by decide) (fun v3 => ?_)
    exact u_M_readOr_l14 hrg FU q1 v3
def e_g_rd (rg' : Nat → MS → Option DR) (sel : Nat) : MS → Option DR := match sel with
  | 0 => e_M_readOr rg'
  | 1 => e_M_readAnd rg'
  | 2 => e_M_readSaid rg'
  | 3 => e_M_readNot rg'
  | _ => e_M_readBracket rg'
def d_g_rd : Nat → Nat → MS → Option DR := itr e_g_rd (fun _ _ => none)
theorem r_g_rd {g : Nat → Nat} {this : Nat} : ∀ (d : Nat) (sel : Nat) {ms : MS} {h : PH} (_ : MRep g this ms h), RM g this h (c_g_rd d sel h this) (d_g_rd d sel ms)
  | 0, _ => fun _ => n_none
  | d + 1, 0 => fun hm => r_b_M_readOr (rg := c_g_rd d) (rg' := d_g_rd d) (fun sel {_ _} hm => r_g_rd d sel hm) hm
  | d + 1, 1 => fun hm => r_b_M_readAnd (rg := c_g_rd d) (rg' := d_g_rd d) (fun sel {_ _} hm => r_g_rd d sel hm) hm
  | d + 1, 2 => fun hm => r_b_M_readSaid (rg := c_g_rd d) (rg' := d_g_rd d) (fun sel {_ _} hm => r_g_rd d sel hm) hm
  | d + 1, 3 => fun hm => r_b_M_readNot (rg := c_g_rd d) (rg' := d_g_rd d) (fun sel {_ _} hm => r_g_rd d sel hm) hm
  | d + 1, sel + 4 => fun hm => r_b_M_readBracket (rg := c_g_rd d) (rg' := d_g_rd d) (fun sel {_ _} hm => r_g_rd d sel hm) hm
def d_M_readOr (d : Nat) (ms : MS) : Option DR := d_g_rd d 0 ms
theorem r_M_readOr {g : Nat → Nat} {this : Nat} (d : Nat) {ms : MS} {h : PH} (hm : MRep g this ms h) : RM g this h (c_M_readOr d h this) (d_M_readOr d ms) := r_g_rd d 0 hm
def d_M_readAnd (d : Nat) (ms : MS) : Option DR := d_g_rd d 1 ms
theorem r_M_readAnd {g : Nat → Nat} {this : Nat} (d : Nat) {ms : MS} {h : PH} (hm : MRep g this ms h) : RM g this h (c_M_readAnd d h this) (d_M_readAnd d ms) := r_g_rd d 1 hm
def d_M_readSaid (d : Nat) (ms : MS) : Option DR := d_g_rd d 2 ms
theorem r_M_readSaid {g : Nat → Nat} {this : Nat} (d : Nat) {ms : MS} {h : PH} (hm : MRep g this ms h) : RM g this h (c_M_readSaid d h this) (d_M_readSaid d ms) := r_g_rd d 2 hm
def d_M_readNot (d : Nat) (ms : MS) : Option DR := d_g_rd d 3 ms
theorem r_M_readNot {g : Nat → Nat} {this : Nat} (d : Nat) {ms : MS} {h : PH} (hm : MRep g this ms h) : RM g this h (c_M_readNot d h this) (d_M_readNot d ms) := r_g_rd d 3 hm
def d_M_readBracket (d : Nat) (ms : MS) : Option DR := d_g_rd d 4 ms
theorem r_M_readBracket {g : Nat → Nat} {this : Nat} (d : Nat) {ms : MS} {h : PH} (hm : MRep g this ms h) : RM g this h (c_M_readBracket d h this) (d_M_readBracket d ms) := r_g_rd d 4 hm
def d_M_sentence_l79 (r79' : MS → Int32 → Option DR) (ms : MS) (x1 : Int32) : Option DR :=
  if (240 : Int32) ≤ x1 then
    nm (ms.1 36 0) fun v1 =>
    dI v1 ms
  else
    eA ms 34 x1 fun v6 =>
    sA ms 14 ((5822 : Int32) + x1) v6 fun m9 =>
    r79' m9 (x1 + (1 : Int32))
theorem r_M_sentence_l79 {g : Nat → Nat} {this : Nat} {r79 : PH → Nat → Int32 → Option RH} {r79' : MS → Int32 → Option DR} (hr79 : ∀ {ms : MS} {h : PH} (_ : MRep g this ms h) (x1 : Int32), RM g this h (r79 h this x1) (r79' ms x1)) {ms : MS} {h : PH} (hm : MRep g this ms h) (x1 : Int32) : RM g this h (c_M_sentence_l79 r79 h this x1) (d_M_sentence_l79 r79' ms x1) := by
  unfold c_M_sentence_l79 d_M_sentence_l79
  refine n_if ?_ ?_
  · refine n_gI hm (by decide) (by decide) (by decide) (fun v1 => ?_)
    exact n_rI hm
  · refine n_gQ (k := 14) hm (by decide) (by decide) ?_
    refine n_gQ (k := 34) hm (by decide) (by decide) ?_
    refine n_nn ?_
    refine n_ldI (k := 34) hm (by decide) (fun v6 => ?_)
    refine n_nn ?_
    refine n_stI (k := 14) hm (by decide) (fun h9 m9 q9 => ?_)
    exact hr79 q9 (x1 + (1 : Int32))
theorem u_M_sentence_l79 {g : Nat → Nat} {this : Nat} : ∀ (n : Nat) {ms : MS} {h : PH} (_ : MRep g this ms h) (x1 : Int32), RM g this h (itr (c_M_sentence_l79) (fun _ _ _ => none) n h this x1) (itr (d_M_sentence_l79) (fun _ _ => none) n ms x1)
  | 0 => fun _ _ => n_none
  | n + 1 => fun hm x1 => r_M_sentence_l79 (u_M_sentence_l79 n) hm x1
def d_M_sentence (ms : MS) : Option DR :=
  bV (d_M_begin ms (200 : Int32)) fun m1 =>
  nm (mset m1 35 0 (0 : Int32)) fun m2 =>
  nm (mset m2 36 0 (0 : Int32)) fun m3 =>
  nm (mset m3 37 0 (0 : Int32)) fun m4 =>
  bI (d_M_readOr 64 m4) fun v6 m5 =>
  if v6 = 0 then
    nm (m5.1 11 0) fun v20 =>
    dI ((-1 : Int32) - v20) m5
  else
    nm (m5.1 7 0) fun v7 =>
    if v7 = 0 then
      sA m5 14 (5820 : Int32) (1 : Int32) fun m11 =>
      nm (m11.1 38 0) fun v13 =>
      sA m11 14 (5821 : Int32) v13 fun m16 =>
      itr (d_M_sentence_l79) (fun _ _ => none) FU m16 (0 : Int32)
    else
      bI (d_M_bad m5 (1 : Int32)) fun v18 m17 =>
      nm (m17.1 11 0) fun v19 =>
      dI ((-1 : Int32) - v19) m17
theorem r_M_sentence {g : Nat → Nat} {this : Nat} {ms : MS} {h : PH} (hm : MRep g this ms h) : RM g this h (c_M_sentence h this) (d_M_sentence ms) := by
  unfold c_M_sentence d_M_sentence
  refine n_grd hm ?_
  refine n_hV (r_M_begin hm (200 : Int32)) (fun h1 m1 q1 => ?_)
  refine n_pI q1 (by decide) (by decide) (by decide) (fun h2 m2 q2 => ?_)
  refine n_pI q2 (by decide) (by decide) (by decide) (fun h3 m3 q3 => ?_)
  refine n_pI q3 (by decide) (by decide) (by decide) (fun h4 m4 q4 => ?_)
  refine n_hI (n_grd q4 (r_M_readOr 64 q4)) (fun v6 h5 m5 q5 => ?_)
  refine n_if ?_ ?_
  · refine n_gI q5 (by decide) (by decide) (by decide) (fun v20 => ?_)
    exact n_rI q5
  · refine n_gI q5 (by decide) (by decide) (by decide) (fun v7 => ?_)
    refine n_if ?_ ?_
    · refine n_gQ (k := 14) q5 (by decide) (by decide) ?_
      refine n_nn ?_
      refine n_stI (k := 14) q5 (by decide) (fun h11 m11 q11 => ?_)
      refine n_gQ (k := 14) q11 (by decide) (by decide) ?_
      refine n_gI q11 (by decide) (by decide) (by decide) (fun v13 => ?_)
      refine n_nn ?_
      refine n_stI (k := 14) q11 (by decide) (fun h16 m16 q16 => ?_)
      exact u_M_sentence_l79 FU q16 (0 : Int32)
    · refine n_hI (r_M_bad q5 (1 : Int32)) (fun v18 h17 m17 q17 => ?_)
      refine n_gI q17 (by decide) (by decide) (by decide) (fun v19 => ?_)
      exact n_rI q17
def d_M_onesOf (ms : MS) (x1 : Int32) : Option DR :=
  bI (d_M_sizeOf ms x1) fun v2 m1 =>
  bI (d_M_onesIn m1 x1 (0 : Int32) v2) fun v4 m3 =>
  dI v4 m3
theorem r_M_onesOf {g : Nat → Nat} {this : Nat} {ms : MS} {h : PH} (hm : MRep g this ms h) (x1 : Int32) : RM g this h (c_M_onesOf h this x1) (d_M_onesOf ms x1) := by
  unfold c_M_onesOf d_M_onesOf
  refine n_grd hm ?_
  refine n_hI (r_M_sizeOf hm x1) (fun v2 h1 m1 q1 => ?_)
  refine n_hI (r_M_onesIn q1 x1 (0 : Int32) v2) (fun v4 h3 m3 q3 => ?_)
  exact n_rI q3
def d_M_beginsWith (ms : MS) (x1 : Int32) (x2 : Int32) : Option DR :=
  bI (d_M_sizeOf ms x2) fun v2 m1 =>
  bI (d_M_sizeOf m1 x1) fun v4 m3 =>
  if v4 < v2 then
    dZ (0 : Int32) m3
  else
    bI (d_M_firstApart m3 x1 x2) fun v6 m5 =>
    bI (d_M_sizeOf m5 x2) fun v8 m7 =>
    if v6 = v8 then
      dZ (1 : Int32) m7
    else
      dZ (0 : Int32) m7
theorem r_M_beginsWith {g : Nat → Nat} {this : Nat} {ms : MS} {h : PH} (hm : MRep g this ms h) (x1 : Int32) (x2 : Int32) : RM g this h (c_M_beginsWith h this x1 x2) (d_M_beginsWith ms x1 x2) := by
  unfold c_M_beginsWith d_M_beginsWith
  refine n_grd hm ?_
  refine n_hI (r_M_sizeOf hm x2) (fun v2 h1 m1 q1 => ?_)
  refine n_hI (r_M_sizeOf q1 x1) (fun v4 h3 m3 q3 => ?_)
  refine n_if ?_ ?_
  · exact n_rZ q3
  · refine n_hI (r_M_firstApart q3 x1 x2) (fun v6 h5 m5 q5 => ?_)
    refine n_hI (r_M_sizeOf q5 x2) (fun v8 h7 m7 q7 => ?_)
    refine n_if ?_ ?_
    · exact n_rZ q7
    · exact n_rZ q7
def d_M_holds_j291 (rg' : MS → Int32 → Int32 → Option DR) (ms : MS) (x3 : Int32) (x5 : Int32) (s0 : Int32) : Option DR :=
  eA ms 14 (x3 + (3 : Int32)) fun v4 =>
  if v4 = (60 : Int32) then
    if x5 ≤ s0 then
      dZ (0 : Int32) ms
    else
      dZ (1 : Int32) ms
  else
    eA ms 14 (x3 + (3 : Int32)) fun v8 =>
    if v8 = (61 : Int32) then
      if s0 = x5 then
        dZ (1 : Int32) ms
      else
        dZ (0 : Int32) ms
    else
      if s0 ≤ x5 then
        dZ (0 : Int32) ms
      else
        dZ (1 : Int32) ms
theorem r_M_holds_j291 {g : Nat → Nat} {this : Nat} {rg : PH → Nat → Int32 → Int32 → Option RH} {rg' : MS → Int32 → Int32 → Option DR} (hrg : ∀ {ms : MS} {h : PH} (_ : MRep g this ms h) (y0 : Int32) (y1 : Int32), RM g this h (rg h this y0 y1) (rg' ms y0 y1)) {ms : MS} {h : PH} (hm : MRep g this ms h) (x3 : Int32) (x5 : Int32) (s0 : Int32) : RM g this h (c_M_holds_j291 rg h this x3 x5 s0) (d_M_holds_j291 rg' ms x3 x5 s0) := by
  unfold c_M_holds_j291 d_M_holds_j291
  refine n_gQ (k := 14) hm (by decide) (by decide) ?_
  refine n_nn ?_
  refine n_ldI (k := 14) hm (by decide) (fun v4 => ?_)
  refine n_if ?_ ?_
  · refine n_if ?_ ?_
    · exact n_rZ hm
    · exact n_rZ hm
  · refine n_gQ (k := 14) hm (by decide) (by decide) ?_
    refine n_nn ?_
    refine n_ldI (k := 14) hm (by decide) (fun v8 => ?_)
    refine n_if ?_ ?_
    · refine n_if ?_ ?_
      · exact n_rZ hm
      · exact n_rZ hm
    · refine n_if ?_ ?_
      · exact n_rZ hm
      · exact n_rZ hm
def e_M_holds (rg' : MS → Int32 → Int32 → Option DR) (ms : MS) (x1 : Int32) (x2 : Int32) : Option DR :=
  nm ((5822 : Int32) + ((4 : Int32) * x1)) fun y1 =>
  eA ms 14 (y1 + (1 : Int32)) fun v5 =>
  eA ms 14 (y1 + (2 : Int32)) fun v9 =>
  eA ms 14 y1 fun v13 =>
  if v13 = 1 then
    bI (rg' ms v5 x2) fun v15 m14 =>
    if v15 = 0 then
      dZ (1 : Int32) m14
    else
      dZ (0 : Int32) m14
  else
    if v13 = 2 then
      bI (rg' ms v5 x2) fun v17 m16 =>
      if v17 = 0 then
        dZ (0 : Int32) m16
      else
        bI (rg' m16 v9 x2) fun v19 m18 =>
        if v19 = 0 then
          dZ (0 : Int32) m18
        else
          dZ (1 : Int32) m18
    else
      if v13 = 3 then
        bI (rg' ms v5 x2) fun v21 m20 =>
        if v21 = 0 then
          bI (rg' m20 v9 x2) fun v23 m22 =>
          if v23 = 0 then
            dZ (0 : Int32) m22
          else
            dZ (1 : Int32) m22
        else
          dZ (1 : Int32) m20
      else
        if v13 = 64 then
          bI (d_M_sizeOf ms x2) fun v25 m24 =>
          if v25 = 0 then
            dZ (1 : Int32) m24
          else
            dZ (0 : Int32) m24
        else
          if v13 = 65 then
            bI (d_M_onesOf ms x2) fun v27 m26 =>
            nz (2 : Int32) <|
            if (v27 - v27 / (2 : Int32) * (2 : Int32)) = 0 then
              dZ (1 : Int32) m26
            else
              dZ (0 : Int32) m26
          else
            if v13 = 66 then
              bI (d_M_areLike ms x2 v5) fun v29 m28 =>
              dZ v29 m28
            else
              if v13 = 67 then
                bI (d_M_beginsWith ms x2 v5) fun v31 m30 =>
                dZ v31 m30
              else
                eA ms 14 y1 fun v35 =>
                nm (v35 - (50 : Int32)) fun y36 =>
                if y36 = (18 : Int32) then
                  bI (d_M_sizeOf ms x2) fun v46 m45 =>
                  d_M_holds_j291 rg' m45 y1 v9 v46
                else
                  if y36 = (19 : Int32) then
                    bI (d_M_onesOf ms x2) fun v44 m43 =>
                    d_M_holds_j291 rg' m43 y1 v9 v44
                  else
                    if y36 = (20 : Int32) then
                      bI (d_M_runsOf ms x2) fun v42 m41 =>
                      d_M_holds_j291 rg' m41 y1 v9 v42
                    else
                      if y36 = (21 : Int32) then
                        eA ms 14 ((2611 : Int32) + x2) fun v40 =>
                        d_M_holds_j291 rg' ms y1 v9 v40
                      else
                        d_M_holds_j291 rg' ms y1 v9 x2
theorem r_b_M_holds {g : Nat → Nat} {this : Nat} {rg : PH → Nat → Int32 → Int32 → Option RH} {rg' : MS → Int32 → Int32 → Option DR} (hrg : ∀ {ms : MS} {h : PH} (_ : MRep g this ms h) (y0 : Int32) (y1 : Int32), RM g this h (rg h this y0 y1) (rg' ms y0 y1)) {ms : MS} {h : PH} (hm : MRep g this ms h) (x1 : Int32) (x2 : Int32) : RM g this h (b_M_holds rg h this x1 x2) (e_M_holds rg' ms x1 x2) := by
  unfold b_M_holds e_M_holds
  refine n_grd hm ?_
  refine n_nm (fun y1 => ?_)
  refine n_gQ (k := 14) hm (by decide) (by decide) ?_
  refine n_nn ?_
  refine n_ldI (k := 14) hm (by decide) (fun v5 => ?_)
  refine n_gQ (k := 14) hm (by decide) (by decide) ?_
  refine n_nn ?_
  refine n_ldI (k := 14) hm (by decide) (fun v9 => ?_)
  refine n_gQ (k := 14) hm (by decide) (by decide) ?_
  refine n_nn ?_
  refine n_ldI (k := 14) hm (by decide) (fun v13 => ?_)
  refine n_if ?_ ?_
  · refine n_hI (n_grd hm (hrg hm v5 x2)) (fun v15 h14 m14 q14 => ?_)
    refine n_if ?_ ?_
    · exact n_rZ q14
    · exact n_rZ q14
  · refine n_if ?_ ?_
    · refine n_hI (n_grd hm (hrg hm v5 x2)) (fun v17 h16 m16 q16 => ?_)
      refine n_if ?_ ?_
      · exact n_rZ q16
      · refine n_hI (n_grd q16 (hrg q16 v9 x2)) (fun v19 h18 m18 q18 => ?_)
        refine n_if ?_ ?_
        · exact n_rZ q18
        · exact n_rZ q18
    · refine n_if ?_ ?_
      · refine n_hI (n_grd hm (hrg hm v5 x2)) (fun v21 h20 m20 q20 => ?_)
        refine n_if ?_ ?_
        · refine n_hI (n_grd q20 (hrg q20 v9 x2)) (fun v23 h22 m22 q22 => ?_)
          refine n_if ?_ ?_
          · exact n_rZ q22
          · exact n_rZ q22
        · exact n_rZ q20
      · refine n_if ?_ ?_
        · refine n_hI (r_M_sizeOf hm x2) (fun v25 h24 m24 q24 => ?_)
          refine n_if ?_ ?_
          · exact n_rZ q24
          · exact n_rZ q24
        · refine n_if ?_ ?_
          · refine n_hI (r_M_onesOf hm x2) (fun v27 h26 m26 q26 => ?_)
            refine n_nz ?_
            refine n_if ?_ ?_
            · exact n_rZ q26
            · exact n_rZ q26
          · refine n_if ?_ ?_
            · refine n_hI (r_M_areLike hm x2 v5) (fun v29 h28 m28 q28 => ?_)
              exact n_rZ q28
            · refine n_if ?_ ?_
              · refine n_hI (r_M_beginsWith hm x2 v5) (fun v31 h30 m30 q30 => ?_)
                exact n_rZ q30
              · refine n_gQ (k := 14) hm (by decide) (by decide) ?_
                refine n_nn ?_
                refine n_ldI (k := 14) hm (by decide) (fun v35 => ?_)
                refine n_nm (fun y36 => ?_)
                refine n_if ?_ ?_
                · refine n_hI (r_M_sizeOf hm x2) (fun v46 h45 m45 q45 => ?_)
                  exact (r_M_holds_j291 hrg q45 y1 v9 v46)
                · refine n_if ?_ ?_
                  · refine n_hI (r_M_onesOf hm x2) (fun v44 h43 m43 q43 => ?_)
                    exact (r_M_holds_j291 hrg q43 y1 v9 v44)
                  · refine n_if ?_ ?_
                    · refine n_hI (r_M_runsOf hm x2) (fun v42 h41 m41 q41 => ?_)
                      exact (r_M_holds_j291 hrg q41 y1 v9 v42)
                    · refine n_if ?_ ?_
                      · refine n_gQ (k := 14) hm (by decide) (by decide) ?_
                        refine n_nn ?_
                        refine n_ldI (k := 14) hm (by decide) (fun v40 => ?_)
                        exact (r_M_holds_j291 hrg hm y1 v9 v40)
                      · exact (r_M_holds_j291 hrg hm y1 v9 x2)
def d_M_holds : Nat → MS → Int32 → Int32 → Option DR := itr e_M_holds (fun _ _ _ => none)
theorem r_M_holds {g : Nat → Nat} {this : Nat} : ∀ (d : Nat) {ms : MS} {h : PH} (_ : MRep g this ms h) (x1 : Int32) (x2 : Int32), RM g this h (c_M_holds d h this x1 x2) (d_M_holds d ms x1 x2)
  | 0 => fun _ _ _ => n_none
  | d + 1 => fun hm x1 x2 => r_b_M_holds (rg := c_M_holds d) (rg' := d_M_holds d) (fun {_ _} hm x1 x2 => r_M_holds d hm x1 x2) hm x1 x2
def d_M_said_l22 (r22' : MS → Int32 → Int32 → Int32 → Option DR) (ms : MS) (x1 : Int32) (x2 : Int32) (x3 : Int32) : Option DR :=
  eA ms 14 (0 : Int32) fun v4 =>
  if v4 ≤ x3 then
    if x1 = (-1 : Int32) then
      dI x2 ms
    else
      dI (-1 : Int32) ms
  else
    eA ms 14 (5821 : Int32) fun v8 =>
    bI (d_M_holds 64 ms v8 x3) fun v10 m9 =>
    if v10 = 0 then
      r22' m9 x1 x2 (x3 + (1 : Int32))
    else
      if x2 = x1 then
        dI x3 m9
      else
        r22' m9 x1 (x2 + (1 : Int32)) (x3 + (1 : Int32))
theorem r_M_said_l22 {g : Nat → Nat} {this : Nat} {r22 : PH → Nat → Int32 → Int32 → Int32 → Option RH} {r22' : MS → Int32 → Int32 → Int32 → Option DR} (hr22 : ∀ {ms : MS} {h : PH} (_ : MRep g this ms h) (x1 : Int32) (x2 : Int32) (x3 : Int32), RM g this h (r22 h this x1 x2 x3) (r22' ms x1 x2 x3)) {ms : MS} {h : PH} (hm : MRep g this ms h) (x1 : Int32) (x2 : Int32) (x3 : Int32) : RM g this h (c_M_said_l22 r22 h this x1 x2 x3) (d_M_said_l22 r22' ms x1 x2 x3) := by
  unfold c_M_said_l22 d_M_said_l22
  refine n_gQ (k := 14) hm (by decide) (by decide) ?_
  refine n_nn ?_
  refine n_ldI (k := 14) hm (by decide) (fun v4 => ?_)
  refine n_if ?_ ?_
  · refine n_if ?_ ?_
    · exact n_rI hm
    · exact n_rI hm
  · refine n_gQ (k := 14) hm (by decide) (by decide) ?_
    refine n_nn ?_
    refine n_ldI (k := 14) hm (by decide) (fun v8 => ?_)
    refine n_hI (n_grd hm (r_M_holds 64 hm v8 x3)) (fun v10 h9 m9 q9 => ?_)
    refine n_if ?_ ?_
    · exact hr22 q9 x1 x2 (x3 + (1 : Int32))
    · refine n_if ?_ ?_
      · exact n_rI q9
      · exact hr22 q9 x1 (x2 + (1 : Int32)) (x3 + (1 : Int32))
theorem u_M_said_l22 {g : Nat → Nat} {this : Nat} : ∀ (n : Nat) {ms : MS} {h : PH} (_ : MRep g this ms h) (x1 : Int32) (x2 : Int32) (x3 : Int32), RM g this h (itr (c_M_said_l22) (fun _ _ _ _ _ => none) n h this x1 x2 x3) (itr (d_M_said_l22) (fun _ _ _ _ => none) n ms x1 x2 x3)
  | 0 => fun _ _ _ _ => n_none
  | n + 1 => fun hm x1 x2 x3 => r_M_said_l22 (u_M_said_l22 n) hm x1 x2 x3
def d_M_said (ms : MS) (x1 : Int32) : Option DR :=
  nm (mset ms 0 0 (0 : Int32)) fun m1 =>
  eA m1 14 (5820 : Int32) fun v5 =>
  if v5 = 0 then
    dI (-1 : Int32) m1
  else
    itr (d_M_said_l22) (fun _ _ _ _ => none) FU m1 x1 (0 : Int32) (0 : Int32)
theorem r_M_said {g : Nat → Nat} {this : Nat} {ms : MS} {h : PH} (hm : MRep g this ms h) (x1 : Int32) : RM g this h (c_M_said h this x1) (d_M_said ms x1) := by
  unfold c_M_said d_M_said
  refine n_grd hm ?_
  refine n_pI hm (by decide) (by decide) (by decide) (fun h1 m1 q1 => ?_)
  refine n_gQ (k := 14) q1 (by decide) (by decide) ?_
  refine n_nn ?_
  refine n_ldI (k := 14) q1 (by decide) (fun v5 => ?_)
  refine n_if ?_ ?_
  · exact n_rI q1
  · exact u_M_said_l22 FU q1 x1 (0 : Int32) (0 : Int32)
def d_M_image_l51 (r51' : MS → Int32 → Int32 → Option DR) (ms : MS) (x1 : Int32) (x2 : Int32) : Option DR :=
  if (4 : Int32) ≤ x2 then
    sA ms 23 x1 (vp_nar .boolean (1 : Int32)) fun m4 =>
    dZ (1 : Int32) m4
  else
    eL ms 20 x2 fun v9 =>
    sL ms 22 (((4 : Int32) * x1) + x2) v9 fun m12 =>
    r51' m12 x1 (x2 + (1 : Int32))
theorem r_M_image_l51 {g : Nat → Nat} {this : Nat} {r51 : PH → Nat → Int32 → Int32 → Option RH} {r51' : MS → Int32 → Int32 → Option DR} (hr51 : ∀ {ms : MS} {h : PH} (_ : MRep g this ms h) (x1 : Int32) (x2 : Int32), RM g this h (r51 h this x1 x2) (r51' ms x1 x2)) {ms : MS} {h : PH} (hm : MRep g this ms h) (x1 : Int32) (x2 : Int32) : RM g this h (c_M_image_l51 r51 h this x1 x2) (d_M_image_l51 r51' ms x1 x2) := by
  unfold c_M_image_l51 d_M_image_l51
  refine n_if ?_ ?_
  · refine n_gQ (k := 23) hm (by decide) (by decide) ?_
    refine n_nn ?_
    refine n_stZ hm (fun h4 m4 q4 => ?_)
    exact n_rZ q4
  · refine n_gQ (k := 22) hm (by decide) (by decide) ?_
    refine n_gQ (k := 20) hm (by decide) (by decide) ?_
    refine n_nn ?_
    refine n_ldL (k := 20) hm (by decide) (fun v9 => ?_)
    refine n_nn ?_
    refine n_stL (k := 22) hm (by decide) (fun h12 m12 q12 => ?_)
    exact hr51 q12 x1 (x2 + (1 : Int32))
theorem u_M_image_l51 {g : Nat → Nat} {this : Nat} : ∀ (n : Nat) {ms : MS} {h : PH} (_ : MRep g this ms h) (x1 : Int32) (x2 : Int32), RM g this h (itr (c_M_image_l51) (fun _ _ _ _ => none) n h this x1 x2) (itr (d_M_image_l51) (fun _ _ _ => none) n ms x1 x2)
  | 0 => fun _ _ _ => n_none
  | n + 1 => fun hm x1 x2 => r_M_image_l51 (u_M_image_l51 n) hm x1 x2
def d_M_image_l18 (r18' : MS → Int32 → Int32 → Option DR) (ms : MS) (x1 : Int32) (x2 : Int32) : Option DR :=
  if (6062 : Int32) ≤ x2 then
    itr (d_M_image_l51) (fun _ _ _ => none) FU ms x1 (0 : Int32)
  else
    eA ms 14 x2 fun v5 =>
    sA ms 16 (((6062 : Int32) * x1) + x2) v5 fun m8 =>
    r18' m8 x1 (x2 + (1 : Int32))
theorem r_M_image_l18 {g : Nat → Nat} {this : Nat} {r18 : PH → Nat → Int32 → Int32 → Option RH} {r18' : MS → Int32 → Int32 → Option DR} (hr18 : ∀ {ms : MS} {h : PH} (_ : MRep g this ms h) (x1 : Int32) (x2 : Int32), RM g this h (r18 h this x1 x2) (r18' ms x1 x2)) {ms : MS} {h : PH} (hm : MRep g this ms h) (x1 : Int32) (x2 : Int32) : RM g this h (c_M_image_l18 r18 h this x1 x2) (d_M_image_l18 r18' ms x1 x2) := by
  unfold c_M_image_l18 d_M_image_l18
  refine n_if ?_ ?_
  · exact u_M_image_l51 FU hm x1 (0 : Int32)
  · refine n_gQ (k := 16) hm (by decide) (by decide) ?_
    refine n_gQ (k := 14) hm (by decide) (by decide) ?_
    refine n_nn ?_
    refine n_ldI (k := 14) hm (by decide) (fun v5 => ?_)
    refine n_nn ?_
    refine n_stI (k := 16) hm (by decide) (fun h8 m8 q8 => ?_)
    exact hr18 q8 x1 (x2 + (1 : Int32))
theorem u_M_image_l18 {g : Nat → Nat} {this : Nat} : ∀ (n : Nat) {ms : MS} {h : PH} (_ : MRep g this ms h) (x1 : Int32) (x2 : Int32), RM g this h (itr (c_M_image_l18) (fun _ _ _ _ => none) n h this x1 x2) (itr (d_M_image_l18) (fun _ _ _ => none) n ms x1 x2)
  | 0 => fun _ _ _ => n_none
  | n + 1 => fun hm x1 x2 => r_M_image_l18 (u_M_image_l18 n) hm x1 x2
def d_M_image (ms : MS) (x1 : Int32) : Option DR :=
  nm (mset ms 0 0 (0 : Int32)) fun m1 =>
  bI (d_M_isIn m1 x1 (0 : Int32) (1 : Int32)) fun v3 m2 =>
  if v3 = 0 then
    dZ (0 : Int32) m2
  else
    itr (d_M_image_l18) (fun _ _ _ => none) FU m2 x1 (0 : Int32)
theorem r_M_image {g : Nat → Nat} {this : Nat} {ms : MS} {h : PH} (hm : MRep g this ms h) (x1 : Int32) : RM g this h (c_M_image h this x1) (d_M_image ms x1) := by
  unfold c_M_image d_M_image
  refine n_grd hm ?_
  refine n_pI hm (by decide) (by decide) (by decide) (fun h1 m1 q1 => ?_)
  refine n_hI (r_M_isIn q1 x1 (0 : Int32) (1 : Int32)) (fun v3 h2 m2 q2 => ?_)
  refine n_if ?_ ?_
  · exact n_rZ q2
  · exact u_M_image_l18 FU q2 x1 (0 : Int32)
def d_M_restore_l60 (r60' : MS → Int32 → Int32 → Option DR) (ms : MS) (x1 : Int32) (x2 : Int32) : Option DR :=
  if (4 : Int32) ≤ x2 then
    nm (mset ms 24 0 (0 : Int32)) fun m1 =>
    dZ (1 : Int32) m1
  else
    eL ms 22 (((4 : Int32) * x1) + x2) fun v6 =>
    sL ms 20 x2 v6 fun m9 =>
    r60' m9 x1 (x2 + (1 : Int32))
theorem r_M_restore_l60 {g : Nat → Nat} {this : Nat} {r60 : PH → Nat → Int32 → Int32 → Option RH} {r60' : MS → Int32 → Int32 → Option DR} (hr60 : ∀ {ms : MS} {h : PH} (_ : MRep g this ms h) (x1 : Int32) (x2 : Int32), RM g this h (r60 h this x1 x2) (r60' ms x1 x2)) {ms : MS} {h : PH} (hm : MRep g this ms h) (x1 : Int32) (x2 : Int32) : RM g this h (c_M_restore_l60 r60 h this x1 x2) (d_M_restore_l60 r60' ms x1 x2) := by
  unfold c_M_restore_l60 d_M_restore_l60
  refine n_if ?_ ?_
  · refine n_pI hm (by decide) (by decide) (by decide) (fun h1 m1 q1 => ?_)
    exact n_rZ q1
  · refine n_gQ (k := 20) hm (by decide) (by decide) ?_
    refine n_gQ (k := 22) hm (by decide) (by decide) ?_
    refine n_nn ?_
    refine n_ldL (k := 22) hm (by decide) (fun v6 => ?_)
    refine n_nn ?_
    refine n_stL (k := 20) hm (by decide) (fun h9 m9 q9 => ?_)
    exact hr60 q9 x1 (x2 + (1 : Int32))
theorem u_M_restore_l60 {g : Nat → Nat} {this : Nat} : ∀ (n : Nat) {ms : MS} {h : PH} (_ : MRep g this ms h) (x1 : Int32) (x2 : Int32), RM g this h (itr (c_M_restore_l60) (fun _ _ _ _ => none) n h this x1 x2) (itr (d_M_restore_l60) (fun _ _ _ => none) n ms x1 x2)
  | 0 => fun _ _ _ => n_none
  | n + 1 => fun hm x1 x2 => r_M_restore_l60 (u_M_restore_l60 n) hm x1 x2
def d_M_restore_l27 (r27' : MS → Int32 → Int32 → Option DR) (ms : MS) (x1 : Int32) (x2 : Int32) : Option DR :=
  if (6062 : Int32) ≤ x2 then
    itr (d_M_restore_l60) (fun _ _ _ => none) FU ms x1 (0 : Int32)
  else
    eA ms 16 (((6062 : Int32) * x1) + x2) fun v5 =>
    sA ms 14 x2 v5 fun m8 =>
    r27' m8 x1 (x2 + (1 : Int32))
theorem r_M_restore_l27 {g : Nat → Nat} {this : Nat} {r27 : PH → Nat → Int32 → Int32 → Option RH} {r27' : MS → Int32 → Int32 → Option DR} (hr27 : ∀ {ms : MS} {h : PH} (_ : MRep g this ms h) (x1 : Int32) (x2 : Int32), RM g this h (r27 h this x1 x2) (r27' ms x1 x2)) {ms : MS} {h : PH} (hm : MRep g this ms h) (x1 : Int32) (x2 : Int32) : RM g this h (c_M_restore_l27 r27 h this x1 x2) (d_M_restore_l27 r27' ms x1 x2) := by
  unfold c_M_restore_l27 d_M_restore_l27
  refine n_if ?_ ?_
  · exact u_M_restore_l60 FU hm x1 (0 : Int32)
  · refine n_gQ (k := 14) hm (by decide) (by decide) ?_
    refine n_gQ (k := 16) hm (by decide) (by decide) ?_
    refine n_nn ?_
    refine n_ldI (k := 16) hm (by decide) (fun v5 => ?_)
    refine n_nn ?_
    refine n_stI (k := 14) hm (by decide) (fun h8 m8 q8 => ?_)
    exact hr27 q8 x1 (x2 + (1 : Int32))
theorem u_M_restore_l27 {g : Nat → Nat} {this : Nat} : ∀ (n : Nat) {ms : MS} {h : PH} (_ : MRep g this ms h) (x1 : Int32) (x2 : Int32), RM g this h (itr (c_M_restore_l27) (fun _ _ _ _ => none) n h this x1 x2) (itr (d_M_restore_l27) (fun _ _ _ => none) n ms x1 x2)
  | 0 => fun _ _ _ => n_none
  | n + 1 => fun hm x1 x2 => r_M_restore_l27 (u_M_restore_l27 n) hm x1 x2
def d_M_restore (ms : MS) (x1 : Int32) : Option DR :=
  nm (mset ms 0 0 (0 : Int32)) fun m1 =>
  bI (d_M_isIn m1 x1 (0 : Int32) (1 : Int32)) fun v3 m2 =>
  if v3 = 0 then
    dZ (0 : Int32) m2
  else
    eA m2 23 x1 fun v7 =>
    if v7 = 0 then
      dZ (0 : Int32) m2
    else
      itr (d_M_restore_l27) (fun _ _ _ => none) FU m2 x1 (0 : Int32)
theorem r_M_restore {g : Nat → Nat} {this : Nat} {ms : MS} {h : PH} (hm : MRep g this ms h) (x1 : Int32) : RM g this h (c_M_restore h this x1) (d_M_restore ms x1) := by
  unfold c_M_restore d_M_restore
  refine n_grd hm ?_
  refine n_pI hm (by decide) (by decide) (by decide) (fun h1 m1 q1 => ?_)
  refine n_hI (r_M_isIn q1 x1 (0 : Int32) (1 : Int32)) (fun v3 h2 m2 q2 => ?_)
  refine n_if ?_ ?_
  · exact n_rZ q2
  · refine n_gQ (k := 23) q2 (by decide) (by decide) ?_
    refine n_nn ?_
    refine n_ldZ q2 (fun v7 => ?_)
    refine n_if ?_ ?_
    · exact n_rZ q2
    · exact u_M_restore_l27 FU q2 x1 (0 : Int32)
def d_M_total (ms : MS) (x1 : Int32) : Option DR :=
  nm (mset ms 0 0 (0 : Int32)) fun m1 =>
  if x1 = 0 then
    eA m1 14 (0 : Int32) fun v5 =>
    dI v5 m1
  else
    if x1 = 1 then
      eA m1 14 (1 : Int32) fun v9 =>
      dI v9 m1
    else
      if x1 = 2 then
        bI (d_M_allBits m1) fun v11 m10 =>
        dI v11 m10
      else
        if x1 = 3 then
          nm (m1.1 2 0) fun v12 =>
          dI v12 m1
        else
          dI (-1 : Int32) m1
theorem r_M_total {g : Nat → Nat} {this : Nat} {ms : MS} {h : PH} (hm : MRep g this ms h) (x1 : Int32) : RM g this h (c_M_total h this x1) (d_M_total ms x1) := by
  unfold c_M_total d_M_total
  refine n_grd hm ?_
  refine n_pI hm (by decide) (by decide) (by decide) (fun h1 m1 q1 => ?_)
  refine n_if ?_ ?_
  · refine n_gQ (k := 14) q1 (by decide) (by decide) ?_
    refine n_nn ?_
    refine n_ldI (k := 14) q1 (by decide) (fun v5 => ?_)
    exact n_rI q1
  · refine n_if ?_ ?_
    · refine n_gQ (k := 14) q1 (by decide) (by decide) ?_
      refine n_nn ?_
      refine n_ldI (k := 14) q1 (by decide) (fun v9 => ?_)
      exact n_rI q1
    · refine n_if ?_ ?_
      · refine n_hI (r_M_allBits q1) (fun v11 h10 m10 q10 => ?_)
        exact n_rI q10
      · refine n_if ?_ ?_
        · refine n_gI q1 (by decide) (by decide) (by decide) (fun v12 => ?_)
          exact n_rI q1
        · exact n_rI q1
