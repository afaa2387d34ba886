/-! PURE SIDE: both sides: the tape, numbers of all -/
set_option maxRecDepth 100000
def byt (v : Int32) (k : Nat) : Nat := (v.toBitVec >>> k).toNat % 256
theorem bytA : ∀ (n : Fin 256), (Int8.ofBitVec (BitVec.ofFin n)).toInt32 = ii (sbv n.val) := by decide +kernel
theorem byt1 (v : Int32) (k : Fin 4) : (v >>> (ii ((8 * k.val : Nat) : Int) &&& 31)).toInt8 = Int8.ofBitVec (BitVec.ofFin ⟨byt v (8 * k.val), Nat.mod_lt _ (by decide)⟩) := by
  apply Int8.toBitVec_inj.1
  have e : (v >>> (ii ((8 * k.val : Nat) : Int) &&& 31)).toBitVec = v.toBitVec.sshiftRight (8 * k.val) := by
    rw [Int32.toBitVec_shiftRight]
    match k with
    | 0 => rfl
    | 1 => rfl
    | 2 => rfl
    | 3 => rfl
  show ((v >>> (ii ((8 * k.val : Nat) : Int) &&& 31)).toBitVec).signExtend 8 = _
  rw [e]
  apply BitVec.eq_of_toNat_eq
  show _ = byt v (8 * k.val)
  unfold byt
  have : (v.toBitVec >>> (8 * k.val)).toNat % 256 = ((v.toBitVec >>> (8 * k.val)).setWidth 8).toNat := by
    rw [BitVec.toNat_setWidth]
  rw [this]
  congr 1
  apply BitVec.eq_of_getLsbD_eq
  intro i hi
  rw [BitVec.getLsbD_signExtend, BitVec.getLsbD_setWidth, BitVec.getLsbD_ushiftRight, BitVec.getLsbD_sshiftRight]
  have hk := k.isLt
  have h1 : i < 32 := by omega
  have h2 : 8 * k.val + i < 32 := by omega
  simp [h1, h2, hi]
theorem byt2 (v : Int32) (k : Fin 4) : ((v.toUInt32 >>> ((ii ((8 * k.val : Nat) : Int)).toUInt32 &&& Int32.toUInt32 31)).toInt32) &&& (255 : Int32) = ii (byt v (8 * k.val)) := by
  apply Int32.toBitVec_inj.1
  rw [Int32.toBitVec_and]
  have e : ((v.toUInt32 >>> ((ii ((8 * k.val : Nat) : Int)).toUInt32 &&& Int32.toUInt32 31)).toInt32).toBitVec = v.toBitVec >>> (8 * k.val) := by
    show ((v.toUInt32 >>> ((ii ((8 * k.val : Nat) : Int)).toUInt32 &&& Int32.toUInt32 31))).toBitVec = _
    rw [UInt32.toBitVec_shiftRight]
    match k with
    | 0 => rfl
    | 1 => rfl
    | 2 => rfl
    | 3 => rfl
  rw [e]
  apply BitVec.eq_of_toNat_eq
  rw [BitVec.toNat_and]
  have e2 : (ii (byt v (8 * k.val))).toBitVec = BitVec.ofInt 32 (byt v (8 * k.val) : Int) := rfl
  rw [e2, BitVec.toNat_ofInt]
  show _ &&& 255 = _
  unfold byt
  rw [show (255 : Nat) = 2 ^ 8 - 1 from rfl, Nat.and_two_pow_sub_one_eq_mod]
  omega
theorem byt_lt {v : Int32} {k : Nat} : byt v k < 256 := Nat.mod_lt _ (by decide)
theorem byt3 (v : Int32) (k : Fin 4) : vp_nar .byte ((v >>> (ii ((8 * k.val : Nat) : Int) &&& 31)).toInt8.toInt32) = ii (sbv (byt v (8 * k.val))) := by
  rw [vp_nar_byte, Int8.toInt8_toInt32, byt1, bytA]
def tp1 (tp : Nat → Nat) (n c : Nat) : Nat → Nat := fun i => if i = n then c else tp i
def tp4 (tp : Nat → Nat) (n : Nat) (v : Int32) : Nat → Nat := tp1 (tp1 (tp1 (tp1 tp n (byt v 24)) (n + 1) (byt v 16)) (n + 2) (byt v 8)) (n + 3) (byt v 0)
theorem tp1_lt {tp : Nat → Nat} {n c : Nat} (h : ∀ i, tp i < 256) (hc : c < 256) : ∀ i, tp1 tp n c i < 256 := fun i => by
  unfold tp1
  by_cases e : i = n
  · rw [if_pos e]; exact hc
  · rw [if_neg e]; exact h i
theorem tp4_lt {tp : Nat → Nat} {n : Nat} {v : Int32} (h : ∀ i, tp i < 256) : ∀ i, tp4 tp n v i < 256 := tp1_lt (tp1_lt (tp1_lt (tp1_lt h byt_lt) byt_lt) byt_lt) byt_lt
def TPf (f : Nat → Int32) (tp : Nat → Nat) : Prop := ∀ i, i < 940 → f i = ii (sbv (tp i))
theorem TPf.up {f : Nat → Int32} {tp : Nat → Nat} {n c : Nat} {v : Int32} (P : TPf f tp) (e : v = ii (sbv c)) : TPf (upd f n v) (tp1 tp n c) := fun i hi => by
  show (if i = n then v else f i) = _
  unfold tp1
  by_cases q : i = n
  · rw [if_pos q, if_pos q]; exact e
  · rw [if_neg q, if_neg q]; exact P i hi
theorem hset_two {h : PH} {a b : Nat} {c d c' d' : PC} : hset (hset (hset (hset h a c) b d) a c') b d' = hset (hset h a c') b d' := by
  refine Prod.ext ?_ rfl
  funext x
  show va_up (va_up (va_up (va_up h.1 a (some c)) b (some d)) a (some c')) b (some d') x = va_up (va_up h.1 a (some c')) b (some d') x
  unfold va_up
  by_cases e1 : x = b
  · simp [e1]
  · by_cases e2 : x = a
    · simp [e1, e2]
    · simp [e1, e2]
section
variable {b : Nat → Nat} {h : PH} {held : Int} {rm z z' : Nat} {ft skm um : Int} {ht : Bool} {sn : Option Nat} {Q : Rt → PH → Prop}
abbrev HT (b : Nat → Nat) (h : PH) (held : Int) (rm z z' : Nat) (ft skm um : Int) (ht : Bool) (sn : Option Nat) (f : Nat → Int32) (n : Nat) : PH := hset (hset h (b 1) (.inl (2, 940, .inl f))) (b 0) (bC b n held rm z z' ft skm um ht sn)
theorem four_step {r : PH → Nat → Int32 → Int32 → Option RH} {f : Nat → Int32} {n : Nat} {v : Int32} {k : Fin 4} (ne : b 1 ≠ b 0) (hn : n < 940) (kk : Ends (r (HT b h held rm z z' ft skm um ht sn (upd f n (ii (sbv (byt v (8 * k.val))))) (n + 1)) (b 0) v (ii ((8 * k.val : Nat) : Int) + (-8 : Int32))) Q) : Ends (c_B_four_l3 r (HT b h held rm z z' ft skm um ht sn f n) (b 0) v (ii ((8 * k.val : Nat) : Int))) Q := by
  have hk := k.isLt
  unfold c_B_four_l3
  refine q_neg _ (ii_ltF (b := 0) (by omega)) ?_
  refine q_gQr up_eq (by decide) rfl ?_
  refine q_gI up_eq (by decide) rfl ?_
  refine q_nn ?_
  refine q_stB (n := 940) (up_nx ne up_eq) (by omega) ?_
  refine q_gI (up_nx (Ne.symm ne) up_eq) (by decide) rfl ?_
  refine q_pI (up_nx (Ne.symm ne) up_eq) (by decide) (Nat.le_of_ble_eq_true rfl) ?_
  rw [Int.toNat_natCast, byt3, add1]
  have e := hset_two (h := h) (a := b 1) (b := b 0) (c := .inl (2, 940, .inl f)) (d := bC b n held rm z z' ft skm um ht sn) (c' := .inl (2, 940, .inl (upd f n (ii (sbv (byt v (8 * k.val))))))) (d' := bC b (n + 1 : Nat) held rm z z' ft skm um ht sn)
  have kk' := kk
  unfold HT at kk'
  rw [← e] at kk'
  exact kk'
theorem b_four {K : PH → Option RH} {f : Nat → Int32} {tp : Nat → Nat} {n : Nat} {v : Int32} (ne : b 1 ≠ b 0) (hn : n + 4 ≤ 940) (P : TPf f tp) (kk : ∀ f', TPf f' (tp4 tp n v) → Ends (K (HT b h held rm z z' ft skm um ht sn f' (n + 4))) Q) : Ends (hV (c_B_four (HT b h held rm z z' ft skm um ht sn f n) (b 0) v) noX K) Q := by
  have e : EV (c_B_four (HT b h held rm z z' ft skm um ht sn f n) (b 0) v) (fun h' => ∃ f', TPf f' (tp4 tp n v) ∧ h' = HT b h held rm z z' ft skm um ht sn f' (n + 4)) := by
    refine EV.of ?_
    unfold c_B_four
    refine q_grd up_eq (by decide) ?_
    obtain ⟨fu, hfu⟩ : ∃ x, FU = x + 1 + 1 + 1 + 1 + 1 := ⟨99995, rfl⟩
    rw [hfu, itr_succ]
    refine four_step (k := 3) ne (by omega) ?_
    rw [itr_succ]
    refine four_step (k := 2) ne (by omega) ?_
    rw [itr_succ]
    refine four_step (k := 1) ne (by omega) ?_
    rw [itr_succ]
    refine four_step (k := 0) ne (by omega) ?_
    rw [itr_succ]
    unfold c_B_four_l3
    refine q_pos _ (by decide) ?_
    exact q_rV ⟨rfl, _, (((P.up rfl).up rfl).up rfl).up rfl, rfl⟩
  exact q_hV e fun h' ⟨f', p, e⟩ => by rw [e]; exact kk f' p
end
section
variable {ms : MS} {Q : Option Value → MS → Prop}
def TPm (ms : MS) (tp : Nat → Nat) (n : Nat) : Prop := (∀ i, i < 940 → ms.1 1 i = ii (tp i)) ∧ ms.1 2 0 = ii n
theorem come_step {r : MS → Int32 → Int32 → Option DR} {tp : Nat → Nat} {n : Nat} {v : Int32} {k : Fin 4} (P : TPm ms tp n) (hn : n < 940) (kk : ∀ m', TPm m' (tp1 tp n (byt v (8 * k.val))) (n + 1) → m'.2 = ms.2 → (∀ j, j ≠ 1 → j ≠ 2 → m'.1 j = ms.1 j) → DE (r m' v (ii ((8 * k.val : Nat) : Int) + (-8 : Int32))) Q) : DE (d_M_come_l3 r ms v (ii ((8 * k.val : Nat) : Int))) Q := by
  have hk := k.isLt
  unfold d_M_come_l3
  refine d_neg _ (ii_ltF (b := 0) (by omega)) ?_
  rw [P.2]
  refine d_nm ?_
  refine d_sA (N := 940) rfl (n := n) (by omega) ?_
  rw [ms_nk (by decide), P.2]
  refine d_nm ?_
  refine d_nm ?_
  rw [byt2, add1]
  refine kk _ ⟨fun i hi => ?_, by rw [ms_eq]; rfl⟩ rfl fun j h1 h2 => by rw [ms_nk h2, ms_nk h1]
  rw [ms_nk (by decide), ms_if]
  unfold tp1
  by_cases q : i = n
  · rw [if_pos q, if_pos q]
  · rw [if_neg q, if_neg q]; exact P.1 i hi
theorem m_come {tp : Nat → Nat} {n : Nat} {v : Int32} (P : TPm ms tp n) (hn : n + 4 ≤ 940) : DV (d_M_come ms v) (fun m' => TPm m' (tp4 tp n v) (n + 4) ∧ m'.2 = ms.2 ∧ ∀ j, j ≠ 1 → j ≠ 2 → m'.1 j = ms.1 j) := by
  refine DV.of ?_
  unfold d_M_come
  obtain ⟨fu, hfu⟩ : ∃ x, FU = x + 1 + 1 + 1 + 1 + 1 := ⟨99995, rfl⟩
  rw [hfu, itr_succ]
  refine come_step (k := 3) P (by omega) fun m1 p1 a1 c1 => ?_
  rw [itr_succ]
  refine come_step (k := 2) p1 (by omega) fun m2 p2 a2 c2 => ?_
  rw [itr_succ]
  refine come_step (k := 1) p2 (by omega) fun m3 p3 a3 c3 => ?_
  rw [itr_succ]
  refine come_step (k := 0) p3 (by omega) fun m4 p4 a4 c4 => ?_
  rw [itr_succ]
  unfold d_M_come_l3
  refine d_pos _ (by decide) ?_
  exact d_dV ⟨rfl, p4, a4.trans (a3.trans (a2.trans a1)), fun j h1 h2 => (c4 j h1 h2).trans ((c3 j h1 h2).trans ((c2 j h1 h2).trans (c1 j h1 h2)))⟩
end
