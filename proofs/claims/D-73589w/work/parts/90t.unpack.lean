/-! PURE SIDE: ropes unpacked; what is told of the tree -/
set_option maxRecDepth 100000
/-- while leaves are laid anew -/
def UI (own : Nat → Nat) (ρ B a : Nat) (h : PH) (low : Nat) (mx at_ : Int) (w : Nat) (ls : LL) (nu : Nat) (H : PH) (row : Nat → Option Nat) (n : Nat) (t c : Int) : Prop :=
  H.1 ρ = some (ropeC w none false low mx 0 t c at_) ∧ Row (ow own h.2.1.1 ρ) ρ H w row ∧ Loose H row (ls.take n) ∧ Wf H ∧ PK (ow own h.2.1.1 ρ) B H a ls ∧ RF own ρ h H ∧ H.2.1.1 + 2 * nul row = h.2.1.1 + 2 * nu ∧ H.2.1.2 + 7 * nul row = h.2.1.2 + 7 * nu
section
variable {own own' : Nat → Nat} {ρ B a : Nat} {h h' h1 h2 H H' : PH} {w low nu n : Nat} {mx at_ t c : Int} {row : Nat → Option Nat} {ls ls0 : LL} {bt : Bool} {root : Option Nat}
theorem q_alen2 {b t n : Nat} {f : (Nat → Int32) ⊕ (Nat → Int64) ⊕ (Nat → UInt32) ⊕ (Nat → UInt64) ⊕ (Nat → Option Nat)} {K : Int32 → Option RH} {Q : Rt → PH → Prop} (e : h.1 b = some (.inl (t, n, f))) (ht : t < 13) (kk : Ends (K (ii (n : Int))) Q) : Ends (alen h b K) Q := q_alen e ht kk
theorem UI.only {p : Nat} {x x' : List Bool} (wf : Wf h) (hB : B ≠ ρ) (U : UI own ρ B a h low mx at_ w ls nu H row n t c) (hn : n < 152) (hp : row n = some p) (e : LeafL H p x) (e' : LeafL H' p x') (o : Only H H' p) : UI own ρ B a h low mx at_ w ls nu H' row n t c := by
  obtain ⟨u1, u2, u3, u4, u5, u6, u7, u8⟩ := U
  obtain ⟨o1, o2, -⟩ := u2.2.2.1 n p hn hp
  have rf := o.rF e o1 o2 u4
  refine ⟨o.kd e u1 rfl, u2.only e e' o, fun j l ej => ?_, o.wf e u4, u5.rf rf hB, rf_ow2 u6 wf rf, by rw [o.1]; exact u7, by rw [o.1]; exact u8⟩
  obtain ⟨q, q1, q2⟩ := u3 j l ej
  have hj := at_lt ej
  rw [List.length_take] at hj
  refine ⟨q, q1, q2.only e o fun z => ?_⟩
  rw [z] at q1
  have := u2.2.2.2 j n p (by omega) hn q1 hp
  omega
theorem UI.set {t' c' : Int} (wf : Wf h) (hB : B ≠ ρ) (r1 : ow own h.2.1.1 ρ ρ = ρ) (U : UI own ρ B a h low mx at_ w ls nu H row n t c) : UI own ρ B a h low mx at_ w ls nu (hset H ρ (ropeC w none false low mx 0 t' c' at_)) row n t' c' := by
  obtain ⟨u1, u2, u3, u4, u5, u6, u7, u8⟩ := U
  have rf : RF (ow own h.2.1.1 ρ) ρ H (hset H ρ (ropeC w none false low mx 0 t' c' at_)) := RF.set u4 u1 r1 rfl
  exact ⟨up_eq, u2.bf u1 (fun x d n e => up_nx n e), u3.bf u1 (fun x d n e => up_nx n e), u4.setE u1, u5.rf rf hB, rf_ow2 u6 wf rf, u7, u8⟩
theorem unp_l24 {p : Nat} {l : List Bool} {r6 : PH → Nat → Nat → Int32 → Option RH} {Q : Rt → PH → Prop} (wf : Wf h) (hB : B ≠ ρ) (r1 : ow own h.2.1.1 ρ ρ = ρ) (hT : ls.flatten.length ≤ 600) (hN : ls.length ≤ 150) (hn : ls[n]? = some l) (hl : l.length ≤ 64) (hp : row n = some p) (hr : ∀ H, UI own ρ B a h low mx at_ w ls nu H row n ((ls.take n).flatten.length + l.length : Nat) ((cnt (ls.take n).flatten : Int) + cnt l) → LeafL H p l → Ends (r6 H ρ a (ii (n + 1 : Nat))) Q) : ∀ (m fu k : Nat) (H : PH), m < fu → k + m = l.length → UI own ρ B a h low mx at_ w ls nu H row n ((ls.take n).flatten.length + k : Nat) (cnt (ls.take n).flatten) → LeafL H p (l.take k) → Ends (itr (c_R_unpack_l24 r6) (fun _ _ _ _ _ _ => none) fu H ρ a (ii n) (some p) (ii k)) Q := by
  have hnl := at_lt hn
  have hsp : ls.flatten = (ls.take n).flatten ++ (l ++ (ls.drop (n + 1)).flatten) := by
    conv => lhs; rw [split_at hn]
    rw [List.flatten_append, List.flatten_cons]
  have hlen : (ls.take n).flatten.length + l.length ≤ ls.flatten.length := by
    rw [hsp, List.length_append, List.length_append]; omega
  have hbit : ∀ k, k < l.length → gb ls.flatten ((ls.take n).flatten.length + k) = gb l k := fun k hk => by
    rw [hsp, gb_app, if_neg (by omega), Nat.add_sub_cancel_left, gb_app, if_pos hk]
  intro m
  induction m with
  | zero =>
    intro fu k H hf hk U e
    obtain ⟨fu, rfl⟩ : ∃ x, fu = x + 1 := ⟨fu - 1, by omega⟩
    have U' := U
    obtain ⟨u1, u2, u3, u4, ⟨ba, sa, f, g, p1, p2, p3, p4, p5, p6⟩, u6, u7, u8⟩ := U'
    have hk2 : k = l.length := by omega
    subst hk2
    rw [List.take_length] at e
    obtain ⟨tt, ea⟩ := e.ln
    have hgn : g (Int.toNat (n : Int)) = ii l.length := by rw [Int.toNat_natCast]; exact p5 n l hn
    rw [itr_succ]
    unfold c_R_unpack_l24
    refine q_gQr p1 (by decide) rfl ?_
    refine q_nn ?_
    refine q_ldI p4 (by omega) ?_
    rw [hgn]
    refine q_pos _ (ii_leT (by omega)) ?_
    refine q_gI u1 (by decide) rfl ?_
    refine q_nn ?_
    refine q_gI ea (by decide) rfl ?_
    refine q_pI u1 (by decide) (Nat.le_of_ble_eq_true rfl) ?_
    rw [ii_add, il_1, ii_add]
    have ne := leafE_ne e.e u1
    have Ls := UI.set (t' := ((ls.take n).flatten.length + l.length : Nat)) (c' := (cnt (ls.take n).flatten : Int) + cnt l) wf hB r1 U
    exact hr _ Ls (e.frame fun x d hx hc => up_nx (by rcases hx with hx | hx <;> (rw [hx]; first | exact ne.1 | exact ne.2)) hc)
  | succ m ih =>
    intro fu k H hf hk U e
    obtain ⟨fu, rfl⟩ : ∃ x, fu = x + 1 := ⟨fu - 1, by omega⟩
    have U' := U
    obtain ⟨u1, u2, u3, u4, ⟨ba, sa, f, g, p1, p2, p3, p4, p5, p6⟩, u6, u7, u8⟩ := U'
    have hgn : g (Int.toNat (n : Int)) = ii l.length := by rw [Int.toNat_natCast]; exact p5 n l hn
    rw [itr_succ]
    unfold c_R_unpack_l24
    refine q_gQr p1 (by decide) rfl ?_
    refine q_nn ?_
    refine q_ldI p4 (by omega) ?_
    rw [hgn]
    refine q_neg _ (ii_leF (by omega)) ?_
    refine q_gQr p1 (by decide) rfl ?_
    refine q_gI u1 (by decide) rfl ?_
    rw [il_64]
    refine q_nz (by decide) ?_
    refine q_nn ?_
    rw [div64 (by omega)]
    refine q_ldL p3 (by omega) ?_
    refine q_gI u1 (by decide) rfl ?_
    refine q_nz (by decide) ?_
    refine q_nn ?_
    rw [div64 (by omega), mod64 (by omega), shr_bit (by omega), Int.toNat_natCast, p6 _ (by omega), hbit k (by omega)]
    have hlk : (l.take k).length = k := by rw [List.length_take]; omega
    refine q_hV (s_insert e (by omega) (by omega)) fun h18 ⟨g1, g2⟩ => ?_
    have ei : insB k (gb l k) (l.take k) = l.take (k + 1) := by
      unfold insB
      rw [List.take_of_length_le (by omega), List.drop_of_length_le (by omega), gb_at (by omega), List.take_append_getElem]
    rw [ei] at g1
    have U18 := UI.only wf hB U (by omega) hp e g1 g2
    refine q_gI U18.1 (by decide) rfl ?_
    refine q_pI U18.1 (by decide) (Nat.le_of_ble_eq_true rfl) ?_
    rw [il_1, ii_add, ii_add]
    have x1 : ((((ls.take n).flatten.length + k : Nat) : Int) + 1) = (((ls.take n).flatten.length + (k + 1) : Nat) : Int) := by omega
    rw [x1]
    have ne := leafE_ne g1.e U18.1
    exact ih fu (k + 1) _ (by omega) (by omega) (UI.set (t' := ((ls.take n).flatten.length + (k + 1) : Nat)) (c' := cnt (ls.take n).flatten) wf hB r1 U18) (g1.frame fun x d hx hc => up_nx (by rcases hx with hx | hx <;> (rw [hx]; first | exact ne.1 | exact ne.2)) hc)
theorem unp_l6 (wf : Wf h) (hB : B ≠ ρ) (r1 : own ρ = ρ) (hls : LsB low ls) : ∀ (m fu n : Nat) (H : PH) (row : Nat → Option Nat), m < fu → n + m = ls.length → UI own ρ B a h low mx at_ w ls nu H row n (ls.take n).flatten.length (cnt (ls.take n).flatten) → EV (itr (c_R_unpack_l6) (fun _ _ _ _ => none) fu H ρ a (ii n)) (fun h' => ∃ nu', RP (ow own h.2.1.1 ρ) ρ h' low ls nu' false ∧ RF own ρ h h' ∧ h'.2.1.1 + 2 * nu' = h.2.1.1 + 2 * nu ∧ h'.2.1.2 + 7 * nu' = h.2.1.2 + 7 * nu) := by
  have own1 : ow own h.2.1.1 ρ ρ = ρ := by
    by_cases q : ρ < h.2.1.1
    · rw [ow_lt q]; exact r1
    · rw [ow_ge (by omega)]
  have hN := hls.len
  intro m
  induction m with
  | zero =>
    intro fu n H row hf hm U
    obtain ⟨fu, rfl⟩ : ∃ x, fu = x + 1 := ⟨fu - 1, by omega⟩
    obtain ⟨u1, u2, u3, u4, ⟨ba, sa, f, g, p1, p2, p3, p4, p5, p6⟩, u6, u7, u8⟩ := U
    refine EV.of ?_
    rw [itr_succ]
    unfold c_R_unpack_l6
    refine q_gQr p1 (by decide) rfl ?_
    refine q_nn ?_
    refine q_alen2 p4 (by decide) ?_
    refine q_pos _ (ii_leT (by omega)) ?_
    refine q_gQr p1 (by decide) rfl ?_
    refine q_nn ?_
    refine q_alen2 p4 (by decide) ?_
    refine q_pI u1 (by decide) (Nat.le_of_ble_eq_true rfl) ?_
    rw [List.take_of_length_le (by omega)] at u1 u3
    refine q_rV ⟨rfl, nul row, ⟨own1, hls, w, row, none, mx, at_, u2.bf u1 (fun x d n e => up_nx n e), rfl, ?_, (fun q => by cases q), fun _ => ⟨rfl, u3.bf u1 (fun x d n e => up_nx n e)⟩⟩, rf_ow2 u6 wf (RF.set u4 u1 own1 rfl), u7, u8⟩
    rw [up_eq, List.take_of_length_le (by omega)]
    rfl
  | succ m ih =>
    intro fu n H row hf hm U
    obtain ⟨fu, rfl⟩ : ∃ x, fu = x + 1 := ⟨fu - 1, by omega⟩
    have U' := U
    obtain ⟨u1, u2, u3, u4, ⟨ba, sa, f, g, p1, p2, p3, p4, p5, p6⟩, u6, u7, u8⟩ := U'
    have hn : ls[n]? = some ls[n] := List.getElem?_eq_getElem (by omega)
    have hb := hls.leaf (List.mem_of_getElem? hn)
    refine EV.of ?_
    rw [itr_succ]
    unfold c_R_unpack_l6
    refine q_gQr p1 (by decide) rfl ?_
    refine q_nn ?_
    refine q_alen2 p4 (by decide) ?_
    refine q_neg _ (ii_leF (by omega)) ?_
    refine q_hQ (s_fresh u1 rfl u2 u4 own1 (show n < 152 by omega)) fun v h10 ⟨p, row1, g1, ek, ej, Ra, La, er9, fr, rf9, y1, y2⟩ => ?_
    subst g1
    rw [ow_ow u6.1] at Ra
    have U10 : UI own ρ B a h low mx at_ w ls nu h10 row1 n (ls.take n).flatten.length (cnt (ls.take n).flatten) := ⟨er9, Ra, u3.fresh u2 Ra (by rw [List.length_take]; omega) (by omega) ek ej fr, rf9.wf, U.2.2.2.2.1.rf rf9 hB, rf_ow2 u6 wf rf9, by omega, by omega⟩
    refine unp_l24 wf hB own1 hls.2.1 hN hn hb.2 ek (fun H' U2 e2 => ?_) ls[n].length FU 0 h10 (by unfold FU; omega) (by omega) U10 La
    rw [← take_flat hn] at U2
    have ec : ((cnt (ls.take n).flatten : Int) + cnt ls[n]) = (cnt (ls.take (n + 1)).flatten : Int) := by
      rw [← List.take_append_getElem (show n < ls.length by omega), List.flatten_append, cnt_app]
      simp
    rw [ec] at U2
    obtain ⟨v1, v2, v3, v4, v5, v6, v7, v8⟩ := U2
    refine Ends.ofEV (ih fu (n + 1) H' row1 (by omega) (by omega) ⟨v1, v2, fun j l e => ?_, v4, v5, v6, v7, v8⟩) fun h' q => ⟨rfl, q⟩
    rw [← List.take_append_getElem (show n < ls.length by omega)] at e
    have hlt : (ls.take n).length = n := by rw [List.length_take]; omega
    by_cases c : j < n
    · rw [List.getElem?_append_left (by omega)] at e
      exact v3 j l e
    · rw [List.getElem?_append_right (by omega), hlt] at e
      have hj := at_lt e
      simp at hj
      have hj2 : j = n := by omega
      subst hj2
      rw [Nat.sub_self] at e
      injection e with e
      rw [← e]
      exact ⟨p, ek, e2⟩
theorem p_unpack (R : RP own ρ h low ls0 nu bt) (wf : Wf h) (P : PK own B h a ls) (hB : B ≠ ρ) (hls : LsB low ls) : EV (c_R_unpack h ρ a) (fun h' => ∃ nu', RP (ow own h.2.1.1 ρ) ρ h' low ls nu' false ∧ RF own ρ h h' ∧ h'.2.1.1 + 2 * nu' = h.2.1.1 + 2 * nu ∧ h'.2.1.2 + 7 * nu' = h.2.1.2 + 7 * nu) := by
  obtain ⟨w0, root0, mx0, at0, e0⟩ := R.cell
  refine EV.of ?_
  unfold c_R_unpack
  refine q_grd e0 (by decide) ?_
  refine q_hV (p_clear R wf) fun h1 ⟨R1, f1, z1⟩ => ?_
  obtain ⟨r1, r2, w, row, root, mx, at_, r3, r4, r5, r6, r7⟩ := R1
  obtain ⟨r8, L⟩ := r7 rfl
  subst r8
  have wf1 := f1.wf
  have z11 : h1.2.1.1 = h.2.1.1 := by rw [z1]
  have ol : ∀ x c, h1.1 x = some c → ow own h.2.1.1 ρ x = own x := fun x c e => ow_lt (by have := wf1.lt e; omega)
  refine Ends.ofEV (unp_l6 (mx := mx) (at_ := at_) (w := w) (nu := nu) wf hB r1 hls ls.length FU 0 h1 row (by have := hls.len; unfold FU; omega) (by omega) ⟨r5, r3.ow ol, (fun k l e => by cases e), wf1, (P.rf f1 hB).owx ol, f1, by rw [z1, r4], by rw [z1, r4]⟩) fun h' q => ⟨rfl, q⟩
/-- what the leaves and the tree cost -/
def cst (ls : LL) : Nat := (ls.map fun l => (l.length + 31) / 32 + 4).sum + 5 * (ls.length - 1)
theorem cost_l4 {fs : List Value} (er : h.1 ρ = some (.inr (4, fs))) (e0 : fs[0]? = some (.ref w)) (e5 : fs[5]? = some (.int (ii ls.length))) (ew : h.1 w = some (.inl (4, 152, .inr (.inr (.inr (.inr row)))))) (hN : ls.length ≤ 150) (hl : ∀ (k : Nat) (l : List Bool), ls[k]? = some l → l.length ≤ 64 ∧ ∃ p gs, row k = some p ∧ h.1 p = some (.inr (9, gs)) ∧ gs[0]? = some (.int (ii l.length))) : ∀ (m fu k : Nat) (s : Int), m < fu → k + m = ls.length → EI (itr (c_R_cost_l4) (fun _ _ _ _ => none) fu h ρ (ii s) (ii k)) (fun v h' => v = ii (s + (((ls.drop k).map fun l => (l.length + 31) / 32 + 4).sum + 5 * (ls.length - 1) : Nat)) ∧ h' = h) := by
  intro m
  induction m with
  | zero =>
    intro fu k s hf hk
    obtain ⟨fu, rfl⟩ : ∃ x, fu = x + 1 := ⟨fu - 1, by omega⟩
    refine EI.of ?_
    rw [itr_succ]
    unfold c_R_cost_l4
    refine q_gI er (by decide) e5 ?_
    refine q_pos _ (ii_leT (by omega)) ?_
    have ef : c_R_folds h ρ = rI (ii ls.length) h := by
      refine eqI ?_
      unfold c_R_folds
      refine q_grd er (by decide) ?_
      refine q_gI er (by decide) e5 ?_
      exact q_rI ⟨rfl, rfl⟩
    refine q_hIe ef ?_
    refine q_rI ⟨_, rfl, ?_, rfl⟩
    rw [il_1, il_5, il_0, ii_sub, List.drop_of_length_le (by omega)]
    by_cases c : (0 : Int) < (ls.length : Int) - 1
    · rw [if_pos (ii_ltT (by omega)), ii_mul, ii_add]
      congr 1
      simp
      omega
    · rw [if_neg (ii_ltF (by omega)), ii_mul, ii_add]
      congr 1
      simp
      omega
  | succ m ih =>
    intro fu k s hf hk
    obtain ⟨fu, rfl⟩ : ∃ x, fu = x + 1 := ⟨fu - 1, by omega⟩
    have hn : ls[k]? = some ls[k] := List.getElem?_eq_getElem (by omega)
    obtain ⟨h64, p, gs, q1, q2, q3⟩ := hl k _ hn
    refine EI.of ?_
    rw [itr_succ]
    unfold c_R_cost_l4
    refine q_gI er (by decide) e5 ?_
    refine q_neg _ (ii_leF (by omega)) ?_
    refine q_gQr er (by decide) e0 ?_
    refine q_nn ?_
    refine q_ldQn ew (by decide) (by omega) q1 ?_
    refine q_nn ?_
    refine q_gI q2 (by decide) q3 ?_
    refine q_nz (by decide) ?_
    have x1 : ii s + ((ii (ls[k].length : Int) + (32 : Int32) - (1 : Int32)) / (32 : Int32) + (4 : Int32)) = ii (s + (((ls[k].length + 31) / 32 + 4 : Nat) : Int)) := by
      rw [il_32, il_1, il_4, ii_add, ii_sub, ii_div (by omega), ii_add, ii_add]
      congr 1
      omega
    rw [x1]
    refine q_nm ?_
    rw [il_1, ii_add]
    have := List.drop_eq_getElem_cons (show k < ls.length by omega)
    refine Ends.ofEI (ih fu (k + 1) (s + (((ls[k].length + 31) / 32 + 4 : Nat) : Int)) (by omega) (by omega)) fun v h' ⟨g1, g2⟩ => ⟨v, rfl, ?_, g2⟩
    rw [g1, this, List.map_cons, List.sum_cons]
    congr 1
    omega
theorem Tree.lens {d b : Nat} : ∀ {a lo hi : Nat} {xs : LX}, Tree own ρ b h d a xs lo hi → ∀ p, p ∈ xs → ∃ gs, h.1 p.1 = some (.inr (9, gs)) ∧ gs[0]? = some (.int (ii p.2.length)) := by
  induction d with
  | zero => intro a lo hi xs T; exact absurd T id
  | succ d ih =>
    intro a lo hi xs T p hp
    rcases T with ⟨l, q, q1, -, -, -, -, -⟩ | ⟨ka, k0, k1, m, m', w, x0, x1, ⟨-, -, -, -, t0, t1⟩, -, q⟩
    · subst q
      rw [List.mem_singleton.mp hp]
      obtain ⟨t, e⟩ := q1.ln
      exact ⟨_, e, rfl⟩
    · have key : ∀ p, p ∈ x0 ++ x1 → ∃ gs, h.1 p.1 = some (.inr (9, gs)) ∧ gs[0]? = some (.int (ii p.2.length)) := fun p hp => by
        rcases List.mem_append.mp hp with hp | hp
        · exact ih t0 p hp
        · exact ih t1 p hp
      rw [q] at hp
      unfold trn at hp
      cases w
      · exact key p hp
      · obtain ⟨p', hp', e⟩ := List.mem_map.mp (show p ∈ (x0 ++ x1).map (fun p => (p.1, p.2.map not)) from hp)
        have := key p' hp'
        rw [← e]
        simp only [List.length_map]
        exact this
theorem p_cost (R : RP own ρ h low ls nu bt) : c_R_cost h ρ = rI (ii (cst ls)) h := by
  have hbd := R.bnd
  obtain ⟨r1, r2, w, row, root, mx, at_, r3, r4, r5, r6, r7⟩ := R
  have key : ∀ (k : Nat) (l : List Bool), ls[k]? = some l → l.length ≤ 64 ∧ ∃ p gs, row k = some p ∧ h.1 p = some (.inr (9, gs)) ∧ gs[0]? = some (.int (ii l.length)) := by
    intro k l e
    refine ⟨(r2.leaf (List.mem_of_getElem? e)).2, ?_⟩
    cases bt with
    | false =>
      obtain ⟨p, p1, p2⟩ := (r7 rfl).2 k l e
      obtain ⟨t, c⟩ := p2.ln
      exact ⟨p, _, p1, c, rfl⟩
    | true =>
      rcases (r6 rfl).2 with ⟨B1, B2⟩ | ⟨a, xs, b, hi, e1, e2, e3, e4, T⟩
      · subst B1; cases e
      · rw [← e2, List.getElem?_map] at e
        cases hk : xs[k]? with
        | none => rw [hk] at e; cases e
        | some p =>
          rw [hk] at e
          injection e with e
          obtain ⟨gs, g1, g2⟩ := T.lens p (List.mem_of_getElem? hk)
          rw [← e]
          exact ⟨p.1, gs, e3 k p hk, g1, g2⟩
  refine eqI ?_
  unfold c_R_cost
  refine q_grd r5 (by decide) ?_
  refine Ends.ofEI (cost_l4 (s := 0) (k := 0) r5 rfl rfl r3.1 (by omega) key ls.length FU (by unfold FU; omega) (by omega)) fun v h' ⟨g1, g2⟩ => ⟨?_, g2⟩
  rw [g1, List.drop_zero]
  unfold cst
  rw [Int.zero_add]
theorem p_height (R : RP own ρ h low ls nu true) : ∃ root, (∃ fs, h.1 ρ = some (.inr (4, fs)) ∧ fs[1]? = some (va_rf root) ∧ fs[4]? = some (.int (ii (mxd 12 ls.length)))) ∧ c_R_height 12 h ρ root = rI (ii (hgt 12 ls.length)) h := by
  obtain ⟨r1, r2, w, row, root, mx, at_, r3, r4, r5, r6, r7⟩ := R
  obtain ⟨rm, Bt⟩ := r6 rfl
  subst rm
  refine ⟨root, ⟨_, r5, rfl, rfl⟩, ?_⟩
  rcases Bt with ⟨B1, B2⟩ | ⟨a, xs, b, hi, e1, e2, e3, e4, T⟩
  · subst B1
    subst B2
    show b_R_height (c_R_height 11) h ρ none = _
    unfold b_R_height
    rw [grd_eq r5 (by decide)]
    rfl
  · subst e1
    have hxl : xs.length = ls.length := by rw [← e2, List.length_map]
    rw [← hxl]
    exact t_height 12 12 a b hi xs h _ (Nat.le_refl _) T r5 (by decide)
end
