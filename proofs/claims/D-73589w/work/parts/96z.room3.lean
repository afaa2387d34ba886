/-! PURE SIDE: rooms: letters, by the component -/
set_option maxRecDepth 100000
abbrev rsT (S : RS) (l : List Nat) : RS := (S.1, S.2.1, S.2.2.1, S.2.2.2.1, S.2.2.2.2.1 ++ l, S.2.2.2.2.2)
section
variable {b own0 own N R' : Nat → Nat} {T : Nat → Bool} {A : Nat → LL} {f : Nat → Nat} {n ro na z' m C0 S0 : Nat} {hl : Bool} {rows seed : Int32} {t t' : Tk} {h h0 h1 h' : PH} {Z : Rt → PH → Prop} {S : RS}
theorem wLets_drop {j : Nat} (hj : j < t.p - t.at_) : (wLets f t).drop j = (f (t.at_ + j) - 97) :: (wLets f t).drop (j + 1) := by
  unfold wLets
  rw [← List.map_drop, ← List.map_drop, seg_drop hj, List.map_cons]
theorem wAll_at {lo hi ex j : Nat} (w : wAll f t lo hi ex = true) (hj : j < t.p - t.at_) : (lo ≤ f (t.at_ + j) ∧ f (t.at_ + j) ≤ hi) ∨ f (t.at_ + j) = ex := by
  unfold wAll at w
  rw [List.all_eq_true] at w
  have hm : f (t.at_ + j) ∈ seg f t.at_ t.p := List.mem_of_mem_drop (by rw [seg_drop hj]; exact List.mem_cons_self)
  have := w _ hm
  simp only [Bool.or_eq_true, decide_eq_true_eq] at this
  exact this
theorem insT_end {c : Nat} {l : List Nat} : insT l.length c l = l ++ [c] := by
  unfold insT
  rw [List.take_length, List.drop_length]
theorem r_lets {r68 : PH → Nat → Option RH} (h1 : t.k = 1) (w : wAll f t 97 104 97 = true) : ∀ (k fu j : Nat) (S : RS) (own N : Nat → Nat) (T : Nat → Bool) (A : Nat → LL) (h : PH), k < fu → j + k = t.p - t.at_ → JR b f n ro z' hl t h → TS b own0 R' z' ro na h0 C0 S0 rows seed S m own N T A h → S.T.length + k ≤ 200 → (∀ own' N' T' A' h', JR b f n ro z' hl t h' → TS b own0 R' z' ro na h0 C0 S0 rows seed (rsT S ((wLets f t).drop j)) m own' N' T' A' h' → Ends (hV (grd h' (b 5) [5] (c_D_next h' (b 5))) noX fun h2 => r68 h2 (b 5)) Z) → Ends (itr (c_DR_readLine_l121 r68) (fun _ _ _ => none) fu h (b 5) (ii j)) Z := by
  intro k
  induction k with
  | zero =>
    intro fu j S own N T A h hf hj J I hlen kk
    obtain ⟨fu, rfl⟩ : ∃ x, fu = x + 1 := ⟨fu - 1, by omega⟩
    have J' := J
    obtain ⟨⟨v, mn, nmv, e, tv⟩, _⟩ := J
    have tp := J'.ok.1.1
    have hn := RJ.hn J'
    rw [itr_succ]
    unfold c_DR_readLine_l121
    refine q_gI e (by decide) rfl ?_
    rw [(tv.1 h1).1]
    refine q_pos _ (ii_leT (by omega)) ?_
    refine kk own N T A h J' ?_
    rw [List.drop_of_length_le (by unfold wLets; rw [List.length_map, seg_len]; omega)]
    have : rsT S [] = S := by
      show (S.1, S.2.1, S.2.2.1, S.2.2.2.1, S.2.2.2.2.1 ++ [], S.2.2.2.2.2) = S
      rw [List.append_nil]
    rw [this]
    exact I
  | succ k ih =>
    intro fu j S own N T A h hf hj J I hlen kk
    obtain ⟨fu, rfl⟩ : ∃ x, fu = x + 1 := ⟨fu - 1, by omega⟩
    have J' := J
    obtain ⟨⟨v, mn, nmv, e, tv⟩, TBx, _⟩ := J
    obtain ⟨⟨fs, a1, a2, a3⟩, ⟨g, a4, a5⟩, a6, a7⟩ := TBx
    have tp := J'.ok.1.1
    have hat := (J'.ok.2.1 h1).2
    have hn := RJ.hn J'
    have wf := RJ.wf J'
    have Sr := I.1
    have Lx := I.2.1.2.2
    have hrc : 97 ≤ f (t.at_ + j) ∧ f (t.at_ + j) ≤ 104 := by
      have := wAll_at (j := j) w (by omega)
      omega
    have sb : sbv (f (t.at_ + j)) = (f (t.at_ + j) : Int) := by unfold sbv; rw [if_pos (by omega)]
    rw [itr_succ]
    unfold c_DR_readLine_l121
    refine q_gI e (by decide) rfl ?_
    rw [(tv.1 h1).1]
    refine q_neg _ (ii_leF (by omega)) ?_
    refine q_gQr e (by decide) rfl ?_
    refine q_gQr e (by decide) rfl ?_
    refine q_nn ?_
    refine q_hIe (z_typed Sr) ?_
    refine q_gQr e (by decide) rfl ?_
    refine q_nn ?_
    refine q_gQr a1 (by decide) a2 ?_
    refine q_gI e (by decide) rfl ?_
    refine q_nn ?_
    rw [ii_add]
    refine q_ldI a4 (by omega) ?_
    rw [show ((t.at_ : Int) + (j : Int)).toNat = t.at_ + j by omega, a5 _ (by omega), sb]
    refine q_nn ?_
    have ec : ii (f (t.at_ + j) : Int) - (97 : Int32) = ii ((f (t.at_ + j) - 97 : Nat) : Int) := by
      rw [show (97 : Int32) = ii 97 from ii_lit 97, ii_sub]
      congr 1
      omega
    rw [ec, Lx.len]
    refine q_hV (z_types (i := S.T.length) (c := f (t.at_ + j) - 97) (Nat.le_refl _) (by omega) (by omega) Lx Sr wf) fun h2 ⟨A', k1, L2, so⟩ => ?_
    rw [insT_end] at L2
    obtain ⟨own2, N2, T2, I2, G2⟩ := I.so (S' := rsT S [f (t.at_ + j) - 97]) wf so ⟨rfl, rfl, rfl⟩ ⟨fun q hq => by rw [k1 q hq]; exact I.2.1.2.1 q hq, L2⟩
    have J2 := JR.gf J' G2 I.zc
    rw [add1]
    refine ih fu (j + 1) (rsT S [f (t.at_ + j) - 97]) own2 N2 T2 _ h2 (by omega) (by omega) J2 I2 ?_ fun own3 N3 T3 A3 h3 J3 I3 => ?_
    · show (S.T ++ [f (t.at_ + j) - 97]).length + k ≤ 200
      rw [List.length_append, List.length_singleton]; omega
    · refine kk own3 N3 T3 A3 h3 J3 ?_
      have : rsT (rsT S [f (t.at_ + j) - 97]) ((wLets f t).drop (j + 1)) = rsT S ((wLets f t).drop j) := by
        show (S.1, S.2.1, S.2.2.1, S.2.2.2.1, S.2.2.2.2.1 ++ [f (t.at_ + j) - 97] ++ (wLets f t).drop (j + 1), S.2.2.2.2.2) = (S.1, S.2.1, S.2.2.1, S.2.2.2.1, S.2.2.2.2.1 ++ (wLets f t).drop j, S.2.2.2.2.2)
        rw [wLets_drop (j := j) (by omega), List.append_assoc]
        rfl
      rw [this] at I3
      exact I3
theorem r_rmLt : ∀ (k fu : Nat) (t : Tk) (S : RS) (own N : Nat → Nat) (T : Nat → Bool) (A : Nat → LL) (h : PH), k < fu → 1 ≤ k → (t.k = 1 → n + 1 < k + t.p) → JR b f n ro z' hl t h → TS b own0 R' z' ro na h0 C0 S0 rows seed S m own N T A h → (∀ kd pl, rmLt f n k S.T t = .inl (kd, pl) → ∀ t' S' own' N' T' A' h1 h', JR b f n ro z' hl t' h1 → TS b own0 R' z' ro na h0 C0 S0 rows seed S' m own' N' T' A' h1 → TH b h1 kd pl h' → Z (.inr (b 2, 0)) h') → (∀ l t', rmLt f n k S.T t = .inr (l, t') → ∀ own' N' T' A' h', JR b f n ro z' hl t' h' → TS b own0 R' z' ro na h0 C0 S0 rows seed (S.1, S.2.1, S.2.2.1, S.2.2.2.1, l, S.2.2.2.2.2) m own' N' T' A' h' → Z (.inl none) h') → Ends (itr (c_DR_readLine_l68) (fun _ _ => none) fu h (b 5)) Z := by
  intro k
  induction k with
  | zero => intro fu t S own N T A h hf h1; omega
  | succ k ih =>
    intro fu t S own N T A h hf _ had J I kf kk
    obtain ⟨fu, rfl⟩ : ∃ x, fu = x + 1 := ⟨fu - 1, by omega⟩
    have J' := J
    obtain ⟨⟨v, mn, nmv, e, tv⟩, _⟩ := J
    have tp := J'.ok.1.1
    have tb := J'.ok.1.2.2
    have hn := RJ.hn J'
    have Sr := I.1
    have Lx := I.2.1.2.2
    have hT := Lx.1
    rw [itr_succ]
    unfold c_DR_readLine_l68
    refine q_gI e (by decide) rfl ?_
    by_cases c1 : t.k = 1
    · refine q_pos _ (by rw [c1]; rfl) ?_
      have hat := (J'.ok.2.1 c1).2
      refine q_hIe (p_isOf (lo := 97) (hi := 104) (ex := 97) J' c1 (by decide)) ?_
      refine r_must (c := wAll f t 97 104 97 = true) (k := 2) J' (J'.grd (by decide)) (bn_dec _) rfl (fun w h' th => kf 2 t.at_ (by rw [rmLt, if_neg (fun q => q c1), if_pos (by cases hw : wAll f t 97 104 97 with | false => rfl | true => exact absurd hw w)]) t S own N T A h h' J' I th) fun w => ?_
      refine q_gQr e (by decide) rfl ?_
      refine q_nn ?_
      refine q_hIe (z_typed Sr) ?_
      refine q_gI e (by decide) rfl ?_
      rw [(tv.1 c1).1, Lx.len, ii_add]
      have er : rmLt f n (k + 1) S.T t = if 200 < S.T.length + (t.p - t.at_) then .inl (4, t.at_) else rmLt f n k (S.T ++ wLets f t) (nx f n 900 t) := by
        rw [rmLt, if_neg (fun q => q c1), if_neg (by rw [w]; decide)]
      have word : ¬ 200 < S.T.length + (t.p - t.at_) → Ends (itr (c_DR_readLine_l121 (itr (c_DR_readLine_l68) (fun _ _ => none) fu)) (fun _ _ _ => none) FU h (b 5) (0 : Int32)) Z := fun cw => by
        rw [if_neg cw] at er
        refine r_lets c1 w (t.p - t.at_) FU 0 S own N T A h (by unfold FU; omega) (by omega) J' I (by omega) fun own2 N2 T2 A2 h2 J2 I2 => ?_
        rw [List.drop_zero] at I2
        refine r_next J2 (J2.grd (by decide)) fun h3 J3 o3 => ?_
        have I3 := I2.onl J2 o3 (RJ.wf J3)
        exact ih fu (nx f n 900 t) (rsT S (wLets f t)) own2 N2 T2 A2 h3 (by omega) (by have := had c1; omega) (fun q => by have w3 : t.p < (nx f n 900 t).p := tok_mu (f := f) tp q; have := had c1; omega) J3 I3 (fun kd pl ee => kf kd pl (by rw [er]; exact ee)) (fun l t' ee own4 N4 T4 A4 h4 J4 I4 => kk l t' (by rw [er]; exact ee) own4 N4 T4 A4 h4 J4 I4)
      by_cases cw : 200 < S.T.length + (t.p - t.at_)
      · refine q_pos _ (ii_ltT (a := 200) (by omega)) ?_
        refine r_must (c := False) (k := 4) J' (J'.grd (by decide)) rfl rfl (fun _ h' th => kf 4 t.at_ (by rw [er, if_pos cw]) t S own N T A h h' J' I th) fun q => q.elim
      · refine q_neg _ (ii_ltF (a := 200) (by omega)) ?_
        refine r_must (c := True) (k := 4) J' (J'.grd (by decide)) rfl rfl (fun q => absurd True.intro q) fun _ => word cw
    · refine q_neg _ (ii_eqF (b := 1) (by omega)) ?_
      exact q_rV (kk S.T t (by rw [rmLt, if_pos c1]) own N T A h J' I)
end
