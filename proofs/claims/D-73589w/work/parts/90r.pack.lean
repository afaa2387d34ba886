/-! PURE SIDE: ropes kept packed -/
set_option maxRecDepth 100000
def PK (own : Nat → Nat) (B : Nat) (h : PH) (a : Nat) (ls : LL) : Prop := ∃ ba sa f g, h.1 a = some (.inr (11, [.ref ba, .ref sa])) ∧ (own ba = B ∧ own sa = B) ∧ h.1 ba = some (.inl (1, (ls.flatten.length + 63) / 64, .inr (.inl f))) ∧ h.1 sa = some (.inl (0, ls.length, .inl g)) ∧ (∀ (k : Nat) (l : List Bool), ls[k]? = some l → g k = ii l.length) ∧ ∀ j, j < ls.flatten.length → wb (f (j / 64)) (j % 64) = gb ls.flatten j
def HB (h : PH) (a3 a7 nb n : Nat) (f : Nat → Int64) (g : Nat → Int32) : PH := hset (hset h a3 (.inl (1, nb, .inr (.inl f)))) a7 (.inl (0, n, .inl g))
def zb (l : List Bool) (to : Nat) (f : Nat → Int64) (nb : Nat) : Prop := ∀ j, j < 64 * nb → wb (f (j / 64)) (j % 64) = if j < to then gb l j else false
theorem hset_same {h : PH} {a : Nat} {c : PC} (e : h.1 a = some c) : hset h a c = h := by
  refine Prod.ext ?_ rfl
  funext x
  show va_up h.1 a (some c) x = h.1 x
  unfold va_up
  by_cases q : x = a
  · rw [if_pos q, q, e]
  · rw [if_neg q]
theorem hset_comm {h : PH} {a b : Nat} {c d : PC} (n : a ≠ b) : hset (hset h a c) b d = hset (hset h b d) a c := by
  refine Prod.ext ?_ rfl
  funext x
  show va_up (va_up h.1 a (some c)) b (some d) x = va_up (va_up h.1 b (some d)) a (some c) x
  unfold va_up
  by_cases q : x = a
  · have : ¬ x = b := fun z => n (by rw [← q, z])
    simp [q, n]
  · simp [q]
section
variable {own own' : Nat → Nat} {ρ B : Nat} {h h' h1 h2 : PH} {w low nu a3 a7 nb : Nat} {row : Nat → Option Nat} {ls : LL} {bt : Bool} {root : Option Nat}
theorem PK.fr {a : Nat} (P : PK own B h a ls) (o : ∀ x c, h.1 x = some c → (own x = B ∨ rK c = false) → h'.1 x = some c) : PK own B h' a ls := by
  obtain ⟨ba, sa, f, g, p1, p2, p3, p4, p5, p6⟩ := P
  exact ⟨ba, sa, f, g, o _ _ p1 (Or.inr rfl), p2, o _ _ p3 (Or.inl p2.1), o _ _ p4 (Or.inr rfl), p5, p6⟩
theorem PK.rf {a : Nat} (P : PK own B h a ls) (o : RF own ρ h h') (n : B ≠ ρ) : PK own B h' a ls := P.fr fun x c e q => by
  rcases q with q | q
  · exact o.ow e (by rw [q]; exact n)
  · exact o.kd e q
theorem PK.owx {a : Nat} (P : PK own B h a ls) (o : ∀ x c, h.1 x = some c → own' x = own x) : PK own' B h a ls := by
  obtain ⟨ba, sa, f, g, p1, p2, p3, p4, p5, p6⟩ := P
  exact ⟨ba, sa, f, g, p1, ⟨(o _ _ p3).trans p2.1, (o _ _ p4).trans p2.2⟩, p3, p4, p5, p6⟩
theorem p_all (R : RP own ρ h low ls nu bt) (wf : Wf h) : EQ (c_R_all h ρ) (fun v h' => ∃ w row, v = some w ∧ Row own ρ h' w row ∧ Loose h' row ls ∧ RP own ρ h' low ls nu bt ∧ RF own ρ h h' ∧ h'.2 = h.2) := by
  have R' := R
  have hbd := R.bnd
  obtain ⟨r1, r2, w, row, root, mx, at_, r3, r4, r5, r6, r7⟩ := R
  refine EQ.of ?_
  unfold c_R_all
  refine q_grd r5 (by decide) ?_
  have sn : c_R_settle 12 h ρ none = rV h := by
    show b_R_settle (c_R_settle 11) h ρ none = _
    unfold b_R_settle
    rw [grd_eq r5 (by decide)]
    rfl
  cases bt with
  | false =>
    obtain ⟨r8, L⟩ := r7 rfl
    subst r8
    refine q_gQn r5 (by decide) rfl ?_
    rw [grd_eq r5 (by decide)]
    refine q_hVe sn ?_
    refine q_gQr r5 (by decide) rfl ?_
    exact q_rQ ⟨some w, rfl, w, row, rfl, r3, L, R', RF.rf wf, rfl⟩
  | true =>
    obtain ⟨rm, Bt⟩ := r6 rfl
    rcases Bt with ⟨B1, B2⟩ | ⟨a, xs, b, hi, e1, e2, e3, e4, T⟩
    · subst B2
      subst B1
      refine q_gQn r5 (by decide) rfl ?_
      rw [grd_eq r5 (by decide)]
      refine q_hVe sn ?_
      refine q_gQr r5 (by decide) rfl ?_
      exact q_rQ ⟨some w, rfl, w, row, rfl, r3, (fun k l e => by cases e), R', RF.rf wf, rfl⟩
    · subst e1
      have hxl : xs.length = ls.length := by rw [← e2, List.length_map]
      have nd := xs_nodup r3 (by omega) e3
      refine q_gQr r5 (by decide) rfl ?_
      refine q_hVg r5 (by decide) (t_settle 12 12 a b hi xs h _ (Nat.le_refl _) T nd r5) fun h3 ⟨g1, g2, g3⟩ => ?_
      have er3 := g3.kd r5 rfl
      refine q_gQr er3 (by decide) rfl ?_
      refine q_rQ ⟨some w, rfl, w, row, rfl, r3.tf T g1 rfl e3 e4.2 g3, ?_, ?_, g3.rF wf, g3.1⟩
      · intro k l e
        rw [← e2, List.getElem?_map] at e
        cases hk : xs[k]? with
        | none => rw [hk] at e; cases e
        | some p =>
          rw [hk] at e
          injection e with e
          refine ⟨p.1, e3 k p hk, ?_⟩
          rw [← e]
          exact g2 p (List.mem_of_getElem? hk)
      · rw [r4]
        exact RP.tree r1 r2 r3 T g1 rfl e2 e3 e4 g3 er3 rm
theorem pack_l57 {n p : Nat} {l : List Bool} {g : Nat → Int32} {r33 : PH → Nat → Nat → Nat → Int32 → Option Nat → Int32 → Option RH} {Q : Rt → PH → Prop} (h37 : a3 ≠ a7) (hnb : ls.flatten.length ≤ 64 * nb) (hnb2 : nb ≤ 100) (hN : ls.length ≤ 152) (hn : ls[n]? = some l) (hrow : row n = some p) (hw : ∀ f g, (HB h a3 a7 nb ls.length f g).1 w = some (.inl (4, 152, .inr (.inr (.inr (.inr row)))))) (hp : ∀ f g, LeafL (HB h a3 a7 nb ls.length f g) p l) (hg : g n = ii l.length) (hr : ∀ f', zb ls.flatten ((ls.take n).flatten.length + l.length) f' nb → Ends (r33 (HB h a3 a7 nb ls.length f' g) ρ a3 a7 (ii ((ls.take n).flatten.length + l.length : Nat)) (some w) (ii (n + 1 : Nat))) Q) : ∀ (m fu k : Nat) (f : Nat → Int64), m < fu → k + m = l.length → zb ls.flatten ((ls.take n).flatten.length + k) f nb → Ends (itr (c_R_pack_l57 r33) (fun _ _ _ _ _ _ _ _ => none) fu (HB h a3 a7 nb ls.length f g) ρ a3 a7 (ii ((ls.take n).flatten.length + k : Nat)) (some w) (ii n) (ii k)) Q := by
  have hnl := at_lt hn
  have hsp : ls.flatten = (ls.take n).flatten ++ (l ++ (ls.drop (n + 1)).flatten) := by
    conv => lhs; rw [split_at hn]
    rw [List.flatten_append, List.flatten_cons]
  have hlen : (ls.take n).flatten.length + l.length ≤ ls.flatten.length := by
    rw [hsp, List.length_append, List.length_append]; omega
  have hbit : ∀ k, k < l.length → gb ls.flatten ((ls.take n).flatten.length + k) = gb l k := fun k hk => by
    rw [hsp, gb_app, if_neg (by omega), Nat.add_sub_cancel_left, gb_app, if_pos hk]
  have ea7 : ∀ f, (HB h a3 a7 nb ls.length f g).1 a7 = some (.inl (0, ls.length, .inl g)) := fun f => up_eq
  have ea3 : ∀ f, (HB h a3 a7 nb ls.length f g).1 a3 = some (.inl (1, nb, .inr (.inl f))) := fun f => up_nx h37 up_eq
  have hl64 := (hp (fun _ => 0) g).1
  have hgn : g (Int.toNat (n : Int)) = ii l.length := by rw [Int.toNat_natCast]; exact hg
  intro m
  induction m with
  | zero =>
    intro fu k f hf hk hz
    obtain ⟨fu, rfl⟩ : ∃ x, fu = x + 1 := ⟨fu - 1, by omega⟩
    rw [itr_succ]
    unfold c_R_pack_l57
    refine q_ldI (ea7 f) (by omega) ?_
    rw [hgn]
    refine q_pos _ (ii_leT (by omega)) ?_
    have e1 : k = l.length := by omega
    subst e1
    rw [il_1, ii_add]
    exact hr f hz
  | succ m ih =>
    intro fu k f hf hk hz
    obtain ⟨fu, rfl⟩ : ∃ x, fu = x + 1 := ⟨fu - 1, by omega⟩
    rw [itr_succ]
    unfold c_R_pack_l57
    refine q_ldI (ea7 f) (by omega) ?_
    rw [hgn]
    refine q_neg _ (ii_leF (by omega)) ?_
    refine q_nn ?_
    refine q_ldQn (hw f g) (by decide) (by omega) hrow ?_
    refine q_nn ?_
    refine q_hIe ((hp f g).gb (by omega)) ?_
    have e1 : ii (((ls.take n).flatten.length + k : Nat) : Int) + (1 : Int32) = ii (((ls.take n).flatten.length + (k + 1) : Nat) : Int) := by rw [il_1, ii_add]; congr 1
    have e2 : ii (k : Int) + (1 : Int32) = ii ((k + 1 : Nat) : Int) := by rw [il_1, ii_add]; congr 1
    rw [e1, e2]
    have hb := hbit k (by omega)
    cases hv : gb l k with
    | true =>
      refine q_pos _ (by first | trivial | rfl | decide) ?_
      rw [il_64]
      refine q_nz (by decide) ?_
      rw [div64 (by omega), mod64 (by omega)]
      refine q_ldL (ea3 f) (by omega) ?_
      refine q_nz (by decide) ?_
      refine q_stL (ea3 f) (by omega) ?_
      rw [Int.toNat_natCast]
      have hh : ∀ v, hset (HB h a3 a7 nb ls.length f g) a3 (.inl (1, nb, .inr (.inl v))) = HB h a3 a7 nb ls.length v g := fun v => by
        unfold HB
        rw [hset_comm (Ne.symm h37), hset_hset]
      rw [hh]
      refine ih fu (k + 1) _ (by omega) (by omega) ?_
      intro j hj
      have z := hz j hj
      unfold vp_updL
      by_cases c1 : j / 64 = ((ls.take n).flatten.length + k) / 64
      · rw [if_pos c1, wb_or, shl_bit (by omega) (by omega), ← c1, z]
        by_cases c2 : j = (ls.take n).flatten.length + k
        · have c3 : j % 64 = ((ls.take n).flatten.length + k) % 64 := by rw [c2]
          rw [if_neg (by omega), if_pos (by omega), c2, hb, hv]
          simp
        · have c3 : ¬ j % 64 = ((ls.take n).flatten.length + k) % 64 := by omega
          simp only [c3, decide_false, Bool.or_false]
          by_cases c4 : j < (ls.take n).flatten.length + k
          · rw [if_pos c4, if_pos (by omega)]
          · rw [if_neg c4, if_neg (by omega)]
      · rw [if_neg c1, z]
        have c2 : ¬ j = (ls.take n).flatten.length + k := fun q => c1 (by rw [q])
        by_cases c4 : j < (ls.take n).flatten.length + k
        · rw [if_pos c4, if_pos (by omega)]
        · rw [if_neg c4, if_neg (by omega)]
    | false =>
      refine q_neg _ (by first | decide | (intro z; exact absurd z (by decide))) ?_
      refine ih fu (k + 1) f (by omega) (by omega) ?_
      intro j hj
      rw [hz j hj]
      by_cases c2 : j = (ls.take n).flatten.length + k
      · rw [if_neg (by omega), if_pos (by omega), c2, hb, hv]
      · by_cases c4 : j < (ls.take n).flatten.length + k
        · rw [if_pos c4, if_pos (by omega)]
        · rw [if_neg c4, if_neg (by omega)]
theorem take_flat {ls : LL} {n : Nat} {l : List Bool} (hn : ls[n]? = some l) : (ls.take (n + 1)).flatten.length = (ls.take n).flatten.length + l.length := by
  have hk := at_lt hn
  rw [List.getElem?_eq_getElem hk] at hn
  injection hn with hn
  rw [← List.take_append_getElem hk, hn, List.flatten_append, List.length_append]
  simp
theorem pack_l33 {fs : List Value} {Q : Rt → PH → Prop} (h37 : a3 ≠ a7) (hnb : ls.flatten.length ≤ 64 * nb) (hnb2 : nb ≤ 100) (hN : ls.length ≤ 152) (hw : ∀ f g, (HB h a3 a7 nb ls.length f g).1 w = some (.inl (4, 152, .inr (.inr (.inr (.inr row)))))) (her : ∀ f g, (HB h a3 a7 nb ls.length f g).1 ρ = some (.inr (4, fs))) (hfs : fs[5]? = some (.int (ii ls.length))) (hL : ∀ f g, Loose (HB h a3 a7 nb ls.length f g) row ls) (fin : ∀ f g, zb ls.flatten ls.flatten.length f nb → (∀ (k : Nat) (l : List Bool), ls[k]? = some l → g k = ii l.length) → Ends (newO (HB h a3 a7 nb ls.length f g) 11 [.null, .null] fun a2 h3 => hV (c_P_init h3 a2 a3 a7) noX fun h4 => rQ (some a2) h4) Q) : ∀ (m fu n : Nat) (f : Nat → Int64) (g : Nat → Int32), m < fu → n + m = ls.length → zb ls.flatten (ls.take n).flatten.length f nb → (∀ (k : Nat) (l : List Bool), k < n → ls[k]? = some l → g k = ii l.length) → Ends (itr (c_R_pack_l33) (fun _ _ _ _ _ _ _ => none) fu (HB h a3 a7 nb ls.length f g) ρ a3 a7 (ii (ls.take n).flatten.length) (some w) (ii n)) Q := by
  intro m
  induction m with
  | zero =>
    intro fu n f g hf hm hz hg
    obtain ⟨fu, rfl⟩ : ∃ x, fu = x + 1 := ⟨fu - 1, by omega⟩
    rw [itr_succ]
    unfold c_R_pack_l33
    refine q_gI (her f g) (by decide) hfs ?_
    refine q_pos _ (ii_leT (by omega)) ?_
    rw [List.take_of_length_le (by omega)] at hz
    exact fin f g hz fun k l e => hg k l (by have := at_lt e; omega) e
  | succ m ih =>
    intro fu n f g hf hm hz hg
    obtain ⟨fu, rfl⟩ : ∃ x, fu = x + 1 := ⟨fu - 1, by omega⟩
    have hn : ls[n]? = some ls[n] := List.getElem?_eq_getElem (by omega)
    obtain ⟨p, lp, -⟩ := hL f g n _ hn
    have lpa : ∀ f g, LeafL (HB h a3 a7 nb ls.length f g) p ls[n] := fun f g => by
      obtain ⟨p', lp', e'⟩ := hL f g n _ hn
      rw [lp] at lp'
      injection lp' with lp'
      rw [lp']; exact e'
    obtain ⟨tt, ea⟩ := (lpa f g).ln
    rw [itr_succ]
    unfold c_R_pack_l33
    refine q_gI (her f g) (by decide) hfs ?_
    refine q_neg _ (ii_leF (by omega)) ?_
    refine q_nn ?_
    refine q_ldQn (hw f g) (by decide) (by omega) lp ?_
    refine q_nn ?_
    refine q_gI ea (by decide) rfl ?_
    refine q_stI (n := ls.length) (f := g) up_eq (by omega) ?_
    have hh : hset (HB h a3 a7 nb ls.length f g) a7 (.inl (0, ls.length, .inl (upd g (Int.toNat (n : Int)) (ii ls[n].length)))) = HB h a3 a7 nb ls.length f (upd g n (ii ls[n].length)) := by
      unfold HB
      rw [hset_hset, Int.toNat_natCast]
    rw [hh]
    refine pack_l57 h37 hnb hnb2 hN hn lp hw lpa (by simp [upd]) (fun f' hz' => ?_) ls[n].length FU 0 f (by have := (lpa f g).1; unfold FU; omega) (by omega) hz
    rw [← take_flat hn] at hz' ⊢
    refine ih fu (n + 1) f' _ (by omega) (by omega) hz' fun k l hk e => ?_
    by_cases c : k = n
    · subst c
      rw [hn] at e
      injection e with e
      rw [← e]
      simp [upd]
    · have := hg k l (by omega) e
      simp [upd, c, this]
end
