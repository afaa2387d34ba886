/-! PURE SIDE: letters placed, typed, erased -/
set_option maxRecDepth 100000
def pn (l c : Nat) : Nat := if l = 0 then 7 + c else if l = 1 then 3 + c / 2 else if l = 2 then 1 + c / 4 else 0
theorem pn_kid : ∀ (l : Fin 3) (c : Fin 8), kidN (pn (l.val + 1) c.val) ((c.val / 2 ^ l.val) % 2 == 1) = pn l.val c.val ∧ pn (l.val + 1) c.val < 7 ∧ inN (pn l.val c.val) c.val = true := by decide +kernel
theorem pn_ix : ∀ (l : Fin 3) (c : Fin 8), ((((1 : Int32) <<< (((2 : Int32) - ii (l.val : Int)) &&& 31)) - (1 : Int32)) + (ii (c.val : Int) >>> ((ii (l.val : Int) + (1 : Int32)) &&& 31))) = ii (pn (l.val + 1) c.val : Int) := by decide +kernel
theorem lev_uniq : ∀ (j n : Fin 7) (c : Fin 8), levN j.val = levN n.val → inN j.val c.val = true → inN n.val c.val = true → j.val = n.val := by decide +kernel
theorem bit_nat {x : Nat} : ii ((x % 2 : Nat) : Int) = ii (bn (x % 2 == 1)) := by
  have : x % 2 = 0 ∨ x % 2 = 1 := by omega
  rcases this with q | q <;> (rw [q]; rfl)
section
variable {B z low : Nat} {R : Nat → Nat} {rows seed : Int32} {own N : Nat → Nat} {Tb : Nat → Bool} {A : Nat → LL} {h : PH} {T : List Nat}
theorem z_place_l61 {c J : Nat} (hc : c < 8) (hJ : J < T.length) (hTJ : T[J] = c) (L : Lt A T) : ∀ (m fu l : Nat) (h : PH) (own N : Nat → Nat) (Tb : Nat → Bool), m < fu → l + m = 3 → SR own B h z low A R N Tb rows seed → Wf h → (∀ n, n < 7 → Tb (4 + n) = true) → EI (itr (c_S_placeOf_l61) (fun _ _ _ _ _ => none) fu h z (ii c) (ii (pos (pn l c) J T)) (ii l)) (fun v h' => v = ii J ∧ SO own B z low R N h A rows seed 0 0 h') := by
  obtain ⟨L1, L2, L3⟩ := L
  intro m
  induction m with
  | zero =>
    intro fu l h own N Tb hf hl S wf hT
    obtain ⟨fu, rfl⟩ : ∃ x, fu = x + 1 := ⟨fu - 1, by omega⟩
    refine EI.of ?_
    rw [itr_succ]
    unfold c_S_placeOf_l61
    rw [il_3]
    refine q_pos _ (ii_leT (by omega)) ?_
    refine q_rI ⟨_, rfl, ?_, SO.rf S wf⟩
    have : l = 3 := by omega
    subst this
    have e : pn 3 c = 0 := rfl
    rw [e, pos0 (by omega)]
  | succ m ih =>
    intro fu l h own N Tb hf hl S wf hT
    obtain ⟨fu, rfl⟩ : ∃ x, fu = x + 1 := ⟨fu - 1, by omega⟩
    have hl3 : l < 3 := by omega
    obtain ⟨k1, k2, k3⟩ := pn_kid ⟨l, hl3⟩ ⟨c, hc⟩
    have kx := pn_ix ⟨l, hl3⟩ ⟨c, hc⟩
    have kb := bits_c ⟨c, hc⟩ ⟨l, hl3⟩
    simp only at k1 k2 k3 kx kb
    have hA := L3 _ k2
    refine EI.of ?_
    rw [itr_succ]
    unfold c_S_placeOf_l61
    rw [il_3]
    refine q_neg _ (ii_leF (by omega)) ?_
    rw [kx, kb, bit_nat]
    refine q_nd S k2 ?_
    have P := S.2.1 (4 + pn (l + 1) c) (by omega)
    rw [hT _ k2] at P
    have sn := sel_NB (b := ((c / 2 ^ l) % 2 == 1)) (n := pn (l + 1) c) L2 k2 hJ (by rw [k1, hTJ]; exact k3)
    rw [k1] at sn
    refine q_hI (p_where P wf (by rw [hA]; exact sn.2)) fun v h8 ⟨g1, g2, g3, g4⟩ => ?_
    rw [hA, sn.1] at g1
    subst g1
    obtain ⟨S2, G2⟩ := S.lift wf (show 4 + pn (l + 1) c < 11 by omega) (fun _ _ => rfl) g2 g3
    rw [va_up_same, va_up_same] at S2
    rw [il_1, ii_add]
    refine Ends.ofEI (ih fu (l + 1) h8 own N _ (by omega) (by omega) S2 G2.wf (fun n hn => ?_)) fun v h' ⟨q1, q2⟩ => ⟨v, rfl, q1, SO.trans (c1 := 0) (s1 := 0) wf S2 G2 (by rw [g4]; exact Nat.le_refl _) (by rw [g4]; exact Nat.le_refl _) q2⟩
    by_cases e : 4 + n = 4 + pn (l + 1) c
    · rw [e, up_at]
    · rw [va_up_ne _ _ e]; exact hT n hn
theorem z_place_l31 {c J na : Nat} {nf : Nat → Option Nat} (hc : c < 8) (hJ : J < T.length) (hTJ : T[J] = c) (L : Lt A T) (e5 : ∀ k, k < 7 → nf k = some (R (4 + k))) : ∀ (m fu k : Nat) (h : PH) (own N : Nat → Nat) (Tb : Nat → Bool), m < fu → k + m = 7 → SR own B h z low A R N Tb rows seed → Wf h → h.1 na = some (.inl (7, 7, .inr (.inr (.inr (.inr nf))))) → (∀ n, n < k → Tb (4 + n) = true) → EI (itr (c_S_placeOf_l31) (fun _ _ _ _ _ _ _ => none) fu h z (ii c) (ii (pos (7 + c) J T)) (some na) (ii 7) (ii k)) (fun v h' => v = ii J ∧ SO own B z low R N h A rows seed (900 * m) (4800 * m) h') := by
  intro m
  induction m with
  | zero =>
    intro fu k h own N Tb hf hk S wf en hT
    obtain ⟨fu, rfl⟩ : ∃ x, fu = x + 1 := ⟨fu - 1, by omega⟩
    refine EI.of ?_
    rw [itr_succ]
    unfold c_S_placeOf_l31
    refine q_pos _ (ii_leT (by omega)) ?_
    exact Ends.ofEI (z_place_l61 hc hJ hTJ L 3 FU 0 h own N Tb (by unfold FU; omega) (by omega) S wf (fun n hn => hT n (by omega))) fun v h' ⟨q1, q2⟩ => ⟨v, rfl, q1, q2⟩
  | succ m ih =>
    intro fu k h own N Tb hf hk S wf en hT
    obtain ⟨fu, rfl⟩ : ∃ x, fu = x + 1 := ⟨fu - 1, by omega⟩
    refine EI.of ?_
    rw [itr_succ]
    unfold c_S_placeOf_l31
    refine q_neg _ (ii_leF (by omega)) ?_
    refine q_nn ?_
    refine q_ldQn en (by decide) (by omega) (e5 k (by omega)) ?_
    refine q_nn ?_
    refine q_hQ (p_ready (S.2.1 (4 + k) (by omega)) wf) fun v h6 ⟨g1, g2, g3, g4, g5⟩ => ?_
    obtain ⟨S2, G2⟩ := S.lift wf (show 4 + k < 11 by omega) (fun x hx => ow_lt hx) g2 g3
    rw [va_up_same, va_up_same] at S2
    rw [il_1, ii_add]
    refine Ends.ofEI (ih fu (k + 1) h6 _ N _ (by omega) (by omega) S2 G2.wf (g3.kd en rfl) (fun n hn => ?_)) fun v h' ⟨q1, q2⟩ => ⟨v, rfl, q1, (SO.trans (c1 := 900) (s1 := 4800) wf S2 G2 (by omega) (by omega) q2).wk (by omega) (by omega)⟩
    by_cases e : 4 + n = 4 + k
    · rw [e, up_at]
    · rw [va_up_ne _ _ e]; exact hT n (by omega)
theorem z_place_at {c J : Nat} (hc : c < 8) (hJ : J < T.length) (hTJ : T[J] = c) (L : Lt A T) (S : SR own B h z low A R N Tb rows seed) (wf : Wf h) : EI (c_S_placeOf h z (ii c) (ii (pos (7 + c) J T))) (fun v h' => v = ii J ∧ SO own B z low R N h A rows seed 6300 33600 h') := by
  have tl : (A 4).flatten.length = T.length := by have := L.2.2 0 (by decide); rw [show 4 = 4 + 0 from rfl, this, NB0]
  have L1 := L.1
  have pb := pos_bd (T := T) (n := 7 + c) (i := J)
  refine EI.of ?_
  unfold c_S_placeOf
  refine S.grd ?_
  refine q_neg _ (ii_ltF (b := 0) (by omega)) ?_
  refine q_hIe (z_typed S) ?_
  rw [tl]
  refine q_hI (z_ahead (Nat.le_refl _) hc L S wf) fun v h3 ⟨g1, own1, N1, T1, S1, G1, y1, y2⟩ => ?_
  subst g1
  have lt : pos (7 + c) J T < pos (7 + c) T.length T := by
    unfold pos
    rw [List.take_length]
    have e := T_split hJ
    have e2 := congrArg (fun l => (l.filter (inN (7 + c))).length) e
    simp only [List.filter_append, List.length_append] at e2
    rw [e2, List.filter_cons, if_pos (by rw [hTJ]; exact (pn_kid ⟨0, by decide⟩ ⟨c, hc⟩).2.2), List.length_cons]
    omega
  have pb2 := pos_bd (T := T) (n := 7 + c) (i := T.length)
  refine q_pos _ (ii_ltT (by omega)) ?_
  obtain ⟨ra, na, rf, nf, e1, e2, e3, e4, e5⟩ := S1.cell
  refine q_gQr e1 (by decide) rfl ?_
  refine q_nn ?_
  refine q_alen2 e3 (by decide) ?_
  rw [il_0]
  refine Ends.ofEI (z_place_l31 hc hJ hTJ L e5 7 FU 0 h3 own1 N1 T1 (by unfold FU; omega) (by omega) S1 G1.wf e3 (fun n hn => by omega)) fun v h' ⟨q1, q2⟩ => ⟨v, rfl, q1, SO.trans wf S1 G1 y1 y2 q2⟩
theorem z_place_none {c k : Nat} (hc : c < 8) (hk : k < 2147483648) (hk2 : pos (7 + c) T.length T ≤ k) (L : Lt A T) (S : SR own B h z low A R N Tb rows seed) (wf : Wf h) : EI (c_S_placeOf h z (ii c) (ii k)) (fun v h' => v = ii (-1) ∧ SO own B z low R N h A rows seed 0 0 h') := by
  have tl : (A 4).flatten.length = T.length := by have := L.2.2 0 (by decide); rw [show 4 = 4 + 0 from rfl, this, NB0]
  have L1 := L.1
  have pb2 := pos_bd (T := T) (n := 7 + c) (i := T.length)
  refine EI.of ?_
  unfold c_S_placeOf
  refine S.grd ?_
  refine q_neg _ (ii_ltF (b := 0) (by omega)) ?_
  refine q_hIe (z_typed S) ?_
  rw [tl]
  refine q_hI (z_ahead (Nat.le_refl _) hc L S wf) fun v h3 ⟨g1, so⟩ => ?_
  subst g1
  refine q_neg _ (ii_ltF (by omega)) ?_
  rw [il_1, ii_neg]
  exact q_rI ⟨_, rfl, rfl, so⟩
/-- a letter typed -/
theorem z_types_l8 {i c : Nat} (hi : i ≤ T.length) (hT : T.length < 200) (hc : c < 8) (h8 : L8 T) : ∀ (m fu n : Nat) (h : PH) (own N : Nat → Nat) (Tb : Nat → Bool) (A : Nat → LL), m < fu → n < 15 → levN n = m → inN n c = true → SR own B h z low A R N Tb rows seed → Wf h → (∀ j, j < 7 → (A (4 + j)).flatten = NB (if m < levN j then insT i c T else T) j) → EV (itr (c_S_types_l8) (fun _ _ _ _ _ _ => none) fu h z (ii c) (ii n) (ii (pos n i T)) (ii ((m : Int) - 1))) (fun h' => ∃ A', (∀ k, k < 4 → A' k = A k) ∧ (∀ j, j < 7 → (A' (4 + j)).flatten = NB (insT i c T) j) ∧ SO own B z low R N h A' rows seed 0 0 h') := by
  intro m
  induction m with
  | zero =>
    intro fu n h own N Tb A hf hn hl hin S wf hA
    obtain ⟨fu, rfl⟩ : ∃ x, fu = x + 1 := ⟨fu - 1, by omega⟩
    refine EV.of ?_
    rw [itr_succ]
    unfold c_S_types_l8
    refine q_pos _ (ii_ltT (b := 0) (by omega)) ?_
    refine q_rV ⟨rfl, A, fun _ _ => rfl, fun j hj => ?_, SO.rf S wf⟩
    rw [hA j hj, if_pos]
    have := kid_lev ⟨j, hj⟩ true
    simp only at this
    omega
  | succ m ih =>
    intro fu n h own N Tb A hf hn hl hin S wf hA
    obtain ⟨fu, rfl⟩ : ∃ x, fu = x + 1 := ⟨fu - 1, by omega⟩
    have hn7 : n < 7 := by
      refine Nat.lt_of_not_le fun q => ?_
      have : levN n = 0 := by unfold levN; rw [if_neg (by omega), if_neg (by omega), if_neg (by omega)]
      omega
    have hm3 : m < 3 := by
      have : levN n ≤ 3 := by unfold levN; split <;> (try split) <;> (try split) <;> omega
      omega
    have hAn : (A (4 + n)).flatten = NB T n := by rw [hA n hn7, if_neg (by omega)]
    have pb := pos_bd (T := T) (n := n) (i := i)
    have ple := pos_le (T := T) (n := n) (i := i)
    have nbl : (NB T n).length ≤ T.length := by rw [NB_len]; exact List.length_filter_le _ _
    refine EV.of ?_
    rw [itr_succ]
    unfold c_S_types_l8
    refine q_neg _ (ii_ltF (b := 0) (by omega)) ?_
    have x0 : (((m + 1 : Nat) : Int) - 1) = (m : Int) := by omega
    rw [x0]
    have hb := bits_c ⟨c, hc⟩ ⟨m, hm3⟩
    have hp := path_c ⟨c, hc⟩ ⟨n, hn7⟩ hin
    simp only at hb hp
    rw [hl] at hp
    have e2 : m + 1 - 1 = m := by omega
    rw [e2] at hp
    rw [hb, bit_nat, ← hp]
    refine q_nm ?_
    refine q_nd S hn7 ?_
    refine q_hI (p_before (S.2.1 (4 + n) (by omega)) wf (by rw [hAn]; exact ple)) fun v h8' ⟨g1, g2, g3, g4⟩ => ?_
    rw [hAn, cb_pos h8 hn7] at g1
    subst g1
    obtain ⟨own1, N1, T1, S1, G1, y1, y2⟩ := SO.read S wf (by omega) g2 g3 g4
    refine q_nd S1 hn7 ?_
    refine q_hV (p_insert (S1.2.1 (4 + n) (by omega)) G1.wf (by rw [hAn]; exact ple) (by rw [hAn]; omega)) fun h16 ⟨nu', g1, g2, g3, g4⟩ => ?_
    have hp1 : ∀ l, l ∈ A (4 + n) → 1 ≤ l.length := fun l hl => ((S1.2.1 (4 + n) (by omega)).2.1.leaf hl).1
    have fi := insL_fl (low := low) (b := bitN n c) (i := pos n i T) (ls := A (4 + n)) (by rw [hAn]; exact ple) hp1
    obtain ⟨own2, N2, T2, S2, G2, y3, y4⟩ := SO.one (c := 0) (s := 0) S1 G1.wf (show 4 + n < 11 by omega) (fun x hx => ow_lt hx) g1 g2 (Nat.le_of_eq g3) (Nat.le_of_eq g4)
    have kl := kid_lev ⟨n, hn7⟩ (bitN n c)
    have kt := kid_lt ⟨n, hn7⟩ (bitN n c)
    have ki := kid_in ⟨n, hn7⟩ ⟨c, hc⟩ (bitN n c)
    simp only at kl kt ki
    have b1 := bn_le (bitN n c)
    simp only [il_1, il_2, ii_mul, ii_add, ii_neg]
    have x2 : (2 * (n : Int) + 1 + bn (bitN n c)) = (kidN n (bitN n c) : Int) := by unfold kidN; omega
    rw [x2]
    refine q_nm ?_
    refine Ends.ofEV (ih fu (kidN n (bitN n c)) h16 own2 N2 T2 _ (by omega) kt.1 (by omega) (by rw [ki, hin]; simp) S2 G2.wf (fun j hj => ?_)) fun h' ⟨A', q1, q2, q3⟩ => ⟨rfl, A', fun k hk => ?_, q2, SO.trans wf S1 G1 y1 y2 (SO.trans G1.wf S2 G2 y3 y4 q3)⟩
    · by_cases e : 4 + j = 4 + n
      · have ej : j = n := by omega
        subst ej
        rw [up_at, fi, hAn, if_pos (by omega), NB_ins, if_pos hin]
      · rw [va_up_ne _ _ e, hA j hj]
        by_cases c1 : m + 1 < levN j
        · rw [if_pos c1, if_pos (by omega)]
        · rw [if_neg c1]
          by_cases c2 : m < levN j
          · rw [if_pos c2, NB_ins]
            by_cases c3 : inN j c = true
            · exfalso
              have lv : levN j = m + 1 := by omega
              have := lev_uniq ⟨j, hj⟩ ⟨n, hn7⟩ ⟨c, hc⟩ (by simp only; omega) c3 hin
              simp only at this
              omega
            · rw [if_neg c3]
          · rw [if_neg c2]
    · rw [q1 k hk, va_up_ne _ _ (by omega)]
end
