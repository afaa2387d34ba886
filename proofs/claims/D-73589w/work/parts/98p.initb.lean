/-! PURE SIDE: the start: the component is made -/
set_option maxRecDepth 100000
def bI (B n : Nat) (k : Nat) : Nat := [B, n, n + 1, n + 2, n + 3, n + 56, n + 57, n + 63, n + 60, n + 61, n + 62, n + 66, n + 59, n + 58, n + 64, n + 65, n + 67].getD k 0
def oI (B n : Nat) (x : Nat) : Nat := if x = n + 60 then n + 60 else if x = n + 62 then n + 62 else if n + 9 ≤ x ∧ x < n + 31 then n + 9 + 2 * ((x - (n + 9)) / 2) else if n + 34 ≤ x ∧ x < n + 56 then n + 34 + 2 * ((x - (n + 34)) / 2) else if x < n + 67 then B else n + 67
abbrev obj0 : List Value := [.null, .int 0, .int 0, .null, .null, .null, .null, .null, .null, .null, .null, .int 0, .null, .int 0, .null, .int 0, .null, .int 0, .null, .null, .null]
section
variable {h h1 : PH} {B : Nat} {fs : List Value} {ad : Nat → Nat} {Z : Rt → PH → Prop}
theorem StrA.gr {a n k : Nat} {c : List Value} (S : StrA h a n k) (eB : h.1 B = some (.inr (0, c))) (G : Gr B h h1) : StrA h1 a n k := S.ne G.1 fun x c' e q => G.2.2.2 x c' e fun y => by
  rw [y, eB] at e
  injection e with e
  rw [← e] at q
  rcases q with q | q
  · exact absurd q (by show ¬ (2 * 0 = 25); decide)
  · exact absurd q (by show ¬ (200 ≤ 2 * 0); decide)
theorem pq_gr {a n k0 k : Nat} {K : PH → Option RH} (eB : h.1 B = some (.inr (0, fs))) (hk : k < fs.length) (S : StrA h1 a n k0) (o : ∀ x c, h.1 x = some c → h1.1 x = some c) (w1 : Wf h1) (s1 : h1.2 = ((h.2.1.1 + 1, h.2.1.2 + n), h.2.2)) (kk : ∀ h', h'.1 B = some (.inr (0, fs.set k (.ref a))) → StrA h' a n k0 → Gr B h h' → h'.2.1 = (h.2.1.1 + 1, h.2.1.2 + n) → Ends (K h') Z) : Ends (pQ h1 B [0] k (some a) K) Z := by
  have eB1 := o _ _ eB
  refine q_pQ eB1 (by decide) hk ?_
  have G : Gr B h1 (hset h1 B (.inr (0, fs.set k (va_rf (some a))))) := ⟨rfl, w1.setE eB1, Nat.le_refl _, fun x c e n => up_nx n e⟩
  refine kk _ up_eq (S.gr eB1 G) ⟨by show h1.2.2 = _; rw [s1], G.2.1, by show h.2.1.1 ≤ h1.2.1.1; rw [s1]; exact Nat.le_succ _, fun x c e n => up_nx n (o _ _ e)⟩ (by show h1.2.1 = _; rw [s1])
theorem pi_gr {k : Nat} {v : Int32} {K : PH → Option RH} (eB : h.1 B = some (.inr (0, fs))) (hk : k < fs.length) (w : Wf h) (kk : ∀ h', h'.1 B = some (.inr (0, fs.set k (.int v))) → Gr B h h' → h'.2.1 = h.2.1 → Ends (K h') Z) : Ends (pI h B [0] k v K) Z := by
  refine q_pI eB (by decide) hk ?_
  exact kk _ up_eq ⟨rfl, w.setE eB, Nat.le_refl _, fun x c e n => up_nx n e⟩ rfl
theorem SR0.gr {own : Nat → Nat} {z : Nat} {R N : Nat → Nat} {rows seed : Int32} {c : List Value} (S : SR0 own B h z R N rows seed) (eB : h.1 B = some (.inr (0, c))) (G : Gr B h h1) : SR0 own B h1 z R N rows seed := S.kp (fun _ _ _ => rfl) fun x c' e q => G.2.2.2 x c' e fun y => by
  rw [y, eB] at e
  injection e with e
  rw [← e] at q
  rcases q with q | q | q
  · exact absurd q (by show ¬ (rK (.inr (0, c)) = true); decide +revert)
  · exact absurd q (by show ¬ (2 * 0 = 6); decide)
  · exact absurd q (by show ¬ (2 * 0 = 15); decide)
theorem SR.gr {own : Nat → Nat} {z low : Nat} {A : Nat → LL} {R N : Nat → Nat} {T : Nat → Bool} {rows seed : Int32} {c : List Value} (S : SR own B h z low A R N T rows seed) (eB : h.1 B = some (.inr (0, c))) (G : Gr B h h1) : SR own B h1 z low A R N T rows seed := S.kp (fun _ _ _ => rfl) fun x c' e q => G.2.2.2 x c' e fun y => by
  rw [y, eB] at e
  injection e with e
  rw [← e] at q
  rcases q with q | q | q
  · exact absurd q (by show ¬ (rK (.inr (0, c)) = true); decide +revert)
  · exact absurd q (by show ¬ (2 * 0 = 6); decide)
  · exact absurd q (by show ¬ (2 * 0 = 15); decide)
theorem i_B (e : h.1 B = some (.inr (0, obj0))) (w : Wf h) (eh : h.2.2 = ad) (T : ∀ k, k < 23 → h.1 (ad k) = some (.inr (100 + k, []))) : EV (c_B_init h B) (fun h' => CB (bI B h.2.1.1) (oI B h.2.1.1) X0 (h.2.1.1 + 67 + 6688) (h.2.1.2 + 30000) h' ∧ Wf h' ∧ h'.2.1.1 = h.2.1.1 + 67 ∧ h'.2.1.2 ≤ h.2.1.2 + 6592 ∧ h'.2.2 = ad) := by
  have lt := w.lt e
  obtain ⟨n, en⟩ : ∃ n, h.2.1.1 = n := ⟨_, rfl⟩
  obtain ⟨m, em⟩ : ∃ m, h.2.1.2 = m := ⟨_, rfl⟩
  rw [en] at lt
  have TB' : ∀ k, k < 23 → ad k ≠ B := fun k hk y => by
    have q := T k hk
    rw [y, e] at q
    injection q with q
    injection q with q
    injection q with q _
    omega
  refine EV.of ?_
  unfold c_B_init
  refine q_grd e (by decide) ?_
  refine n_arr (z := 940) (t := 2) e (by decide) (Nat.le_of_ble_eq_true rfl) w (by decide) fun a1 f1 g1 G1 z1 => ?_
  rw [en] at f1 g1
  have s1 : a1.2.1.1 = n + 1 := by rw [z1]; show h.2.1.1 + 1 = _; omega
  have t1 : a1.2.1.2 = m + 940 := by rw [z1]; show h.2.1.2 + 940 = _; omega
  refine n_fault f1 (Nat.le_of_ble_eq_true rfl) G1.2.1 fun a2 f2 g2 G2 z2 => ?_
  rw [s1] at f2 g2
  have s2 : a2.2.1.1 = n + 2 := by rw [z2]; show a1.2.1.1 + 1 = _; omega
  have t2 : a2.2.1.2 = m + 948 := by rw [z2]; show a1.2.1.2 + 8 = _; omega
  have T2 : ∀ k, k < 23 → a2.1 (ad k) = some (.inr (100 + k, [])) := fun k hk => (G1.trans G2).2.2.2 _ _ (T k hk) (TB' k hk)
  have eh2 : a2.2.2 = ad := by rw [(G1.trans G2).1]; exact eh
  refine n_str3_0 G2.2.1 eh2 T2 fun y3 u1 u2 u3 u4 => ?_
  refine pq_gr f2 (Nat.le_of_ble_eq_true rfl) u1 u2 u3 u4 fun a3 f3 g3 G3 z3 => ?_
  rw [s2] at f3 g3
  have s3 : a3.2.1.1 = n + 3 := by rw [z3]; show a2.2.1.1 + 1 = _; omega
  have t3 : a3.2.1.2 = m + 951 := by rw [z3]; show a2.2.1.2 + 3 = _; omega
  have T3 : ∀ k, k < 23 → a3.1 (ad k) = some (.inr (100 + k, [])) := fun k hk => G3.2.2.2 _ _ (T2 k hk) (TB' k hk)
  have eh3 : a3.2.2 = ad := by rw [G3.1]; exact eh2
  refine n_str20_3 G3.2.1 eh3 T3 fun y4 v1 v2 v3 v4 => ?_
  refine pq_gr f3 (Nat.le_of_ble_eq_true rfl) v1 v2 v3 v4 fun a4 f4 g4 G4 z4 => ?_
  rw [s3] at f4 g4
  have s4 : a4.2.1.1 = n + 4 := by rw [z4]; show a3.2.1.1 + 1 = _; omega
  have t4 : a4.2.1.2 = m + 971 := by rw [z4]; show a3.2.1.2 + 20 = _; omega
  refine n_room f4 (Nat.le_of_ble_eq_true rfl) G4.2.1 fun a5 f5 g5 g5' G5 z5 => ?_
  rw [s4] at f5 g5 g5'
  have s5 : a5.2.1.1 = n + 6 := by rw [z5]; show a4.2.1.1 + 2 = _; omega
  have t5 : a5.2.1.2 = m + 978 := by rw [z5]; show a4.2.1.2 + 7 = _; omega
  refine n_state f5 (Nat.le_of_ble_eq_true rfl) G5.2.1 fun a6 f6 g6 G6 z6 => ?_
  rw [s5] at f6 g6
  have s6 : a6.2.1.1 = n + 31 := by rw [z6]; show a5.2.1.1 + 25 = _; omega
  have t6 : a6.2.1.2 = m + 2764 := by rw [z6]; show a5.2.1.2 + 1786 = _; omega
  refine n_state f6 (Nat.le_of_ble_eq_true rfl) G6.2.1 fun a7 f7 g7 G7 z7 => ?_
  rw [s6] at f7 g7
  have s7 : a7.2.1.1 = n + 56 := by rw [z7]; show a6.2.1.1 + 25 = _; omega
  have t7 : a7.2.1.2 = m + 4550 := by rw [z7]; show a6.2.1.2 + 1786 = _; omega
  refine n_rr f7 (Nat.le_of_ble_eq_true rfl) G7.2.1 fun a8 f8 g8 G8 z8 => ?_
  rw [s7] at f8 g8
  have s8 : a8.2.1.1 = n + 57 := by rw [z8]; show a7.2.1.1 + 1 = _; omega
  have t8 : a8.2.1.2 = m + 4562 := by rw [z8]; show a7.2.1.2 + 12 = _; omega
  have G48 : Gr B a4 a8 := G5.trans (G6.trans (G7.trans G8))
  have T8 : ∀ k, k < 23 → a8.1 (ad k) = some (.inr (100 + k, [])) := fun k hk => (G4.trans G48).2.2.2 _ _ (T3 k hk) (TB' k hk)
  have eh8 : a8.2.2 = ad := by rw [(G4.trans G48).1]; exact eh3
  refine n_br f8 (Nat.le_of_ble_eq_true rfl) G8.2.1 eh8 T8 fun a9 f9 g9 g9' g9'' G9 z9 => ?_
  rw [s8] at f9 g9 g9' g9''
  have s9 : a9.2.1.1 = n + 60 := by rw [z9]; show a8.2.1.1 + 3 = _; omega
  have t9 : a9.2.1.2 = m + 4622 := by rw [z9]; show a8.2.1.2 + 60 = _; omega
  -- the states begin
  have oR : ∀ j, j < 11 → oI B n (n + 6 + 3 + 2 * j) = n + 6 + 3 + 2 * j ∧ oI B n (n + 6 + 4 + 2 * j) = n + 6 + 3 + 2 * j := fun j hj => by
    unfold oI
    constructor
    · rw [if_neg (by omega), if_neg (by omega), if_pos (by omega)]; omega
    · rw [if_neg (by omega), if_neg (by omega), if_pos (by omega)]; omega
  have oR' : ∀ j, j < 11 → oI B n (n + 31 + 3 + 2 * j) = n + 31 + 3 + 2 * j ∧ oI B n (n + 31 + 4 + 2 * j) = n + 31 + 3 + 2 * j := fun j hj => by
    unfold oI
    constructor
    · rw [if_neg (by omega), if_neg (by omega), if_neg (by omega), if_pos (by omega)]; omega
    · rw [if_neg (by omega), if_neg (by omega), if_neg (by omega), if_pos (by omega)]; omega
  have oB : ∀ x, x < n + 9 ∨ (31 + n ≤ x ∧ x < n + 34) ∨ (n + 56 ≤ x ∧ x < n + 60) ∨ x = n + 61 ∨ (n + 63 ≤ x ∧ x < n + 67) → oI B n x = B := fun x hx => by
    unfold oI
    rw [if_neg (by omega), if_neg (by omega), if_neg (by omega), if_neg (by omega), if_pos (by omega)]
  have S6 := ((g6 (oI B n) oR).gr f6 G7).gr f7 G8 |>.gr f8 G9
  have S7 := ((g7 (oI B n) oR').gr f7 G8).gr f8 G9
  have rm9 : a9.1 (n + 4) = some (.inr (2, [.ref (n + 5), .int 0, .int (ii (8 : Nat))])) := (G6.trans (G7.trans (G8.trans G9))).2.2.2 _ _ g5 (by omega)
  refine q_gQr f9 (by decide) rfl ?_
  refine q_gQr f9 (by decide) rfl ?_
  refine q_nn ?_
  refine q_nn ?_
  refine q_hV (z_begin (low' := 8) S6 G9.2.1 rm9 (by decide)) fun b1 ⟨SA, GA, zA⟩ => ?_
  obtain ⟨ra, na, rf, nf, ez6, _⟩ := S6.1
  obtain ⟨ra', na', rf', nf', ez7, _⟩ := S7.1
  have zz : n + 6 ≠ n + 31 := by omega
  have fb1 : b1.1 B = _ := GA.kd f9 (by omega) rfl
  have rm1 : b1.1 (n + 4) = some (.inr (2, [.ref (n + 5), .int 0, .int (ii (8 : Nat))])) := GA.kd rm9 (by omega) rfl
  have S7b : SR0 (oI B n) B b1 (n + 31) (fun j => n + 31 + 3 + 2 * j) (fun _ => 152) 0 0 := S7.gf GA G9.2.1 ez6 zz (fun k hk => by
    rw [oB _ (by omega)]
    show B ≠ n + 31 + 3 + 2 * k
    omega) (fun j k hj hk => by
    show n + 6 + 3 + 2 * j ≠ n + 31 + 3 + 2 * k
    omega)
  refine q_gQr fb1 (by decide) rfl ?_
  refine q_gQr fb1 (by decide) rfl ?_
  refine q_nn ?_
  refine q_nn ?_
  refine q_hV (z_begin (low' := 8) S7b GA.wf rm1 (by decide)) fun b2 ⟨SB, GB', zB⟩ => ?_
  obtain ⟨rb, nb, rg, ng, ezb, _⟩ := S7b.1
  have fb2 : b2.1 B = _ := GB'.kd fb1 (by omega) rfl
  have SA2 : SR (oI B n) B b2 (n + 6) 8 (fun _ => []) (fun j => n + 6 + 3 + 2 * j) (fun _ => 152) (fun _ => false) 0 0 := SA.gx (GX.gf GB') GA.wf ezb zz (fun k hk => by
    rw [oB _ (by omega)]
    show B ≠ n + 6 + 3 + 2 * k
    omega) (fun j k hj hk => by
    show n + 6 + 3 + 2 * j ≠ n + 31 + 3 + 2 * k
    omega)
  have s10 : b2.2.1.1 = n + 60 := by rw [zB, zA]; exact s9
  have t10 : b2.2.1.2 = m + 4622 := by rw [zB, zA]; exact t9
  refine n_arr (z := 600) (t := 0) fb2 (by decide) (Nat.le_of_ble_eq_true rfl) GB'.wf (by decide) fun c1 k1 l1 H1 w1 => ?_
  rw [s10] at k1 l1
  have s11 : c1.2.1.1 = n + 61 := by rw [w1]; show b2.2.1.1 + 1 = _; omega
  have t11 : c1.2.1.2 = m + 5222 := by rw [w1]; show b2.2.1.2 + 600 = _; omega
  refine pi_gr k1 (Nat.le_of_ble_eq_true rfl) H1.2.1 fun c2 k2 H2 w2 => ?_
  have s12 : c2.2.1.1 = n + 61 := by rw [w2]; exact s11
  have t12 : c2.2.1.2 = m + 5222 := by rw [w2]; exact t11
  refine n_arr (z := 8) (t := 9) k2 (by decide) (Nat.le_of_ble_eq_true rfl) H2.2.1 (by decide) fun c3 k3 l3 H3 w3 => ?_
  rw [s12] at k3 l3
  have s13 : c3.2.1.1 = n + 62 := by rw [w3]; show c2.2.1.1 + 1 = _; omega
  have t13 : c3.2.1.2 = m + 5230 := by rw [w3]; show c2.2.1.2 + 8 = _; omega
  refine n_arr (z := 4) (t := 0) k3 (by decide) (Nat.le_of_ble_eq_true rfl) H3.2.1 (by decide) fun c4 k4 l4 H4 w4 => ?_
  rw [s13] at k4 l4
  have s14 : c4.2.1.1 = n + 63 := by rw [w4]; show c3.2.1.1 + 1 = _; omega
  have t14 : c4.2.1.2 = m + 5234 := by rw [w4]; show c3.2.1.2 + 4 = _; omega
  -- all that stood ahead of the states' begin
  have kb : ∀ x c, a9.1 x = some c → x ≠ n + 6 → x ≠ n + 31 → (rK c = false ∨ oI B n x = B) → b2.1 x = some c := fun x c q n1 n2 q2 => by
    have q1 : b1.1 x = some c := GA.2.2.2.2.2 x c q n1 (q2.elim Or.inr fun y => Or.inl fun k hk z => by
      rw [y] at z
      have z : B = n + 6 + 3 + 2 * k := z
      omega)
    exact GB'.2.2.2.2.2 x c q1 n2 (q2.elim Or.inr fun y => Or.inl fun k hk z => by
      rw [y] at z
      have z : B = n + 31 + 3 + 2 * k := z
      omega)
  have eb2 : b2.2.2 = ad := by rw [GB'.2.2.1, GA.2.2.1, G9.1]; exact eh8
  have T9 : ∀ k, k < 23 → a9.1 (ad k) = some (.inr (100 + k, [])) := fun k hk => G9.2.2.2 _ _ (T8 k hk) (TB' k hk)
  have Tn : ∀ k, k < 23 → ad k < n := fun k hk => by
    have := w.lt (T k hk)
    omega
  have Tb2 : ∀ k, k < 23 → b2.1 (ad k) = some (.inr (100 + k, [])) := fun k hk => kb _ _ (T9 k hk) (by have := Tn k hk; omega) (by have := Tn k hk; omega) (Or.inr (oB _ (by have := Tn k hk; omega)))
  have H14 : Gr B b2 c4 := H1.trans (H2.trans (H3.trans H4))
  have Tc4 : ∀ k, k < 23 → c4.1 (ad k) = some (.inr (100 + k, [])) := fun k hk => H14.2.2.2 _ _ (Tb2 k hk) (TB' k hk)
  refine n_sr k4 (Nat.le_of_ble_eq_true rfl) H4.2.1 (by rw [H14.1]; exact eb2) Tc4 fun c5 k5 l5 l5' l5'' H5 w5 => ?_
  rw [s14] at k5 l5 l5' l5''
  have s15 : c5.2.1.1 = n + 66 := by rw [w5]; show c4.2.1.1 + 3 = _; omega
  have t15 : c5.2.1.2 = m + 5255 := by rw [w5]; show c4.2.1.2 + 21 = _; omega
  refine n_arr (z := 2) (t := 11) k5 (by decide) (Nat.le_of_ble_eq_true rfl) H5.2.1 (by decide) fun c6 k6 l6 H6 w6 => ?_
  rw [s15] at k6 l6
  have s16 : c6.2.1.1 = n + 67 := by rw [w6]; show c5.2.1.1 + 1 = _; omega
  have t16 : c6.2.1.2 = m + 5257 := by rw [w6]; show c5.2.1.2 + 2 = _; omega
  -- the end
  have HB : Gr B b2 c6 := H14.trans (H5.trans H6)
  have fin : ∀ x c, a9.1 x = some c → x ≠ B → x < n + 6 ∨ n + 56 ≤ x → (rK c = false ∨ oI B n x = B) → c6.1 x = some c := fun x c q n1 n2 q2 => HB.2.2.2 _ _ (kb x c q (by omega) (by omega) q2) n1
  have stf : ∀ {a k i : Nat}, StrA a9 a k i → StrA c6 a k i := fun {a k i} S => S.ne (by rw [HB.1, eb2, G9.1]; exact eh8.symm) fun x c q q2 => by
    have nB : x ≠ B := fun y => by
      rw [y, f9] at q
      injection q with q
      rw [← q] at q2
      rcases q2 with q2 | q2
      · exact absurd q2 (by show ¬ (2 * 0 = 25); decide)
      · exact absurd q2 (by show ¬ (200 ≤ 2 * 0); decide)
    have nz : x ≠ n + 6 := fun y => by
      rw [y, ez6] at q
      injection q with q
      rw [← q] at q2
      rcases q2 with q2 | q2
      · exact absurd q2 (by show ¬ (2 * 3 = 25); decide)
      · exact absurd q2 (by show ¬ (200 ≤ 2 * 3); decide)
    have nz' : x ≠ n + 31 := fun y => by
      rw [y, ez7] at q
      injection q with q
      rw [← q] at q2
      rcases q2 with q2 | q2
      · exact absurd q2 (by show ¬ (2 * 3 = 25); decide)
      · exact absurd q2 (by show ¬ (200 ≤ 2 * 3); decide)
    refine HB.2.2.2 _ _ (kb x c q nz nz' (Or.inl ?_)) nB
    unfold rK tK
    simp only [Bool.or_eq_false_iff, beq_eq_false_iff_ne]
    omega
  have G19 : Gr B a1 a9 := G2.trans (G3.trans (G4.trans (G48.trans G9)))
  have G29 : Gr B a2 a9 := G3.trans (G4.trans (G48.trans G9))
  have G59 : Gr B a5 a9 := G6.trans (G7.trans (G8.trans G9))
  have ec6 : c6.2.2 = ad := by rw [HB.1]; exact eb2
  have tape : c6.1 n = some (.inl (2, 940, .inl (fun _ => 0))) := fin _ _ (G19.2.2.2 _ _ g1 (by omega)) (by omega) (by omega) (Or.inl rfl)
  obtain ⟨gs, g2, g2'⟩ := g2
  have flt : c6.1 (n + 1) = some (.inr (1, gs)) := fin _ _ (G29.2.2.2 _ _ g2 (by omega)) (by omega) (by omega) (Or.inl rfl)
  have lines : StrA c6 (n + 2) 3 0 := stf ((g3.gr f3 (G4.trans G48)).gr f8 G9)
  have words : StrA c6 (n + 3) 20 3 := stf ((g4.gr f4 G48).gr f8 G9)
  have room : c6.1 (n + 4) = some (.inr (2, [.ref (n + 5), .int 0, .int 8])) := fin _ _ (G59.2.2.2 _ _ g5 (by omega)) (by omega) (by omega) (Or.inl rfl)
  have names : c6.1 (n + 5) = some (.inl (1, 4, .inr (.inl (fun _ => 0)))) := fin _ _ (G59.2.2.2 _ _ g5' (by omega)) (by omega) (by omega) (Or.inr (oB _ (by omega)))
  have rrd : c6.1 (n + 56) = some (rdC 5 B 900 0 0 0 0 0 0 .null .null 0) := fin _ _ (G9.2.2.2 _ _ g8 (by omega)) (by omega) (by omega) (Or.inl rfl)
  have brd : c6.1 (n + 57) = some (rdC 6 B 400 0 0 0 0 0 0 (.ref (n + 57 + 1)) (.ref (n + 57 + 2)) 0) := fin _ _ g9 (by omega) (by omega) (Or.inl rfl)
  have heads : StrA c6 (n + 57 + 1) 8 3 := stf g9'
  obtain ⟨df, g9''⟩ := g9''
  have dds : c6.1 (n + 57 + 2) = some (qA 10 40 df) := fin _ _ g9'' (by omega) (by omega) (Or.inl rfl)
  have sks : c6.1 (n + 60) = some (.inl (0, 600, .inl (fun _ => 0))) := (H2.trans (H3.trans (H4.trans (H5.trans H6)))).2.2.2 _ _ l1 (by omega)
  have ahd : c6.1 (n + 61) = some (qA 9 8 (fun _ => none)) := (H4.trans (H5.trans H6)).2.2.2 _ _ l3 (by omega)
  have tld : c6.1 (n + 62) = some (.inl (0, 4, .inl (fun _ => 0))) := (H5.trans H6).2.2.2 _ _ l4 (by omega)
  have srd : c6.1 (n + 63) = some (rdC 7 B 200 0 0 0 0 0 0 (.ref (n + 63 + 1)) (.ref (n + 63 + 2)) 0) := H6.2.2.2 _ _ l5 (by omega)
  have mks : StrA c6 (n + 63 + 1) 4 14 := l5'.gr k5 H6
  have cns : StrA c6 (n + 63 + 2) 5 18 := l5''.gr k5 H6
  have txt : TxC c6 := fun k hk => by rw [ec6]; exact HB.2.2.2 _ _ (Tb2 k hk) (TB' k hk)
  have SAf := SA2.gr fb2 HB
  have SBf := (SB.any).gr fb2 HB
  rw [en]
  refine q_rV ⟨rfl, ⟨0, n + 4, n + 6, n + 31, -1, none, (fun j => n + 6 + 3 + 2 * j), (fun j => n + 31 + 3 + 2 * j), (fun _ => 152), (fun _ => 152), (fun _ => false), 0, 0, 0, ?_, Or.inr ⟨rfl, rfl⟩, ⟨⟨⟨_, tape, fun i _ => rfl⟩, ⟨⟨_, _, _, _, _, _, _, _, _, rrd⟩, ⟨_, _, _, _, _, _, _, brd⟩, ⟨_, _, _, _, _, _, _, srd⟩, ⟨gs, flt, g2'⟩, ⟨df, dds⟩⟩, ⟨lines, words, heads, mks, cns, txt⟩⟩, ⟨?_, _, sks, fun k x hx => by cases hx⟩, ⟨?_, _, tld, fun t ht => by cases ht⟩, ⟨_, ahd, fun j p hj => by cases hj⟩, ⟨_, l6, (fun a ha => by cases ha), fun k hk => rfl⟩, ⟨n + 5, _, room, oB _ (by omega), oB _ (by omega), names, fun r hr => absurd hr (Nat.not_lt_zero r)⟩, rfl⟩, ⟨SAf, SBf, ⟨⟨oB _ (by omega), oB _ (by omega)⟩, fun k hk => ?_, fun k hk => ?_, fun j k hj hk => ?_, zz, ?_⟩, HB.2.1.2.1⟩, ?_, ?_⟩, ?_, s16, ?_, ec6⟩
  all_goals sorry
end
