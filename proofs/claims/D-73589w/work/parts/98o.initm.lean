/-! PURE SIDE: the start: the model is made -/
set_option maxRecDepth 100000
def mg (n k : Nat) : Nat := n + mArr.idxOf k
def ms0 : MS := (fun k i => if k = 14 ∧ i = 1 then 8 else 0, fun _ _ => 0)
theorem ms0_z {k : Nat} (hk : k ≠ 14) : ms0.1 k = fun _ => 0 := by
  funext i
  show (if k = 14 ∧ i = 1 then (8 : Int32) else 0) = 0
  rw [if_neg (fun q => hk q.1)]
theorem ms0_14 : ms0.1 14 = upd (fun _ => 0) 1 8 := by
  funext i
  show (if 14 = 14 ∧ i = 1 then (8 : Int32) else 0) = if i = 1 then 8 else 0
  by_cases c : i = 1
  · rw [if_pos ⟨rfl, c⟩, if_pos c]
  · rw [if_neg (fun q => c q.2), if_neg c]
theorem mg_inj {n : Nat} : ∀ j ∈ mArr, ∀ k ∈ mArr, mg n j = mg n k → j = k := fun j hj k hk q => by
  have d : ∀ j ∈ mArr, ∀ k ∈ mArr, mArr.idxOf j = mArr.idxOf k → j = k := by decide
  unfold mg at q
  exact d j hj k hk (by omega)
abbrev mdl0 : List Value := [.int 0, .null, .int 0, .int 0, .int 0, .int 0, .int 0, .int 0, .int 0, .int 0, .int 0, .int 0, .long 0, .int 0, .null, .null, .null, .null, .null, .null, .null, .null, .null, .null, .int 0, .int 0, .int 0, .null, .int 0, .int 0, .null, .null, .int 0, .int 0, .null, .int 0, .int 0, .int 0, .int 0]
section
variable {h : PH} {a : Nat}
theorem i_M (e : h.1 a = some (.inr (8, mdl0))) (w : Wf h) : EV (c_M_init h a) (fun h' => MRep (mg h.2.1.1) a ms0 h' ∧ Gr a h h' ∧ h'.2.1 = (h.2.1.1 + 15, h.2.1.2 + 54885)) := by
  have lt := w.lt e
  obtain ⟨n, en⟩ : ∃ n, h.2.1.1 = n := ⟨_, rfl⟩
  obtain ⟨m, em⟩ : ∃ m, h.2.1.2 = m := ⟨_, rfl⟩
  rw [en] at lt
  refine EV.of ?_
  unfold c_M_init
  refine q_grd e (by decide) ?_
  refine n_arr (z := 940) (t := 0) e (by decide) (Nat.le_of_ble_eq_true rfl) w (by decide) fun h1 f1 g1 G1 z1 => ?_
  rw [en] at f1 g1
  have s1 : h1.2.1.1 = n + 1 := by rw [z1]; show h.2.1.1 + 1 = _; omega
  have t1 : h1.2.1.2 = m + 940 := by rw [z1]; show h.2.1.2 + 940 = _; omega
  refine n_arr (z := 6062) (t := 0) f1 (by decide) (Nat.le_of_ble_eq_true rfl) G1.2.1 (by decide) fun h2 f2 g2 G2 z2 => ?_
  rw [s1] at f2 g2
  have s2 : h2.2.1.1 = n + 2 := by rw [z2]; show h1.2.1.1 + 1 = _; omega
  have t2 : h2.2.1.2 = m + 7002 := by rw [z2]; show h1.2.1.2 + 6062 = _; omega
  refine n_arr (z := 2607) (t := 0) f2 (by decide) (Nat.le_of_ble_eq_true rfl) G2.2.1 (by decide) fun h3 f3 g3 G3 z3 => ?_
  rw [s2] at f3 g3
  have s3 : h3.2.1.1 = n + 3 := by rw [z3]; show h2.2.1.1 + 1 = _; omega
  have t3 : h3.2.1.2 = m + 9609 := by rw [z3]; show h2.2.1.2 + 2607 = _; omega
  refine n_arr (z := 12124) (t := 0) f3 (by decide) (Nat.le_of_ble_eq_true rfl) G3.2.1 (by decide) fun h4 f4 g4 G4 z4 => ?_
  rw [s3] at f4 g4
  have s4 : h4.2.1.1 = n + 4 := by rw [z4]; show h3.2.1.1 + 1 = _; omega
  have t4 : h4.2.1.2 = m + 21733 := by rw [z4]; show h3.2.1.2 + 12124 = _; omega
  refine n_arr (z := 25704) (t := 0) f4 (by decide) (Nat.le_of_ble_eq_true rfl) G4.2.1 (by decide) fun h5 f5 g5 G5 z5 => ?_
  rw [s4] at f5 g5
  have s5 : h5.2.1.1 = n + 5 := by rw [z5]; show h4.2.1.1 + 1 = _; omega
  have t5 : h5.2.1.2 = m + 47437 := by rw [z5]; show h4.2.1.2 + 25704 = _; omega
  refine n_arr (z := 3213) (t := 0) f5 (by decide) (Nat.le_of_ble_eq_true rfl) G5.2.1 (by decide) fun h6 f6 g6 G6 z6 => ?_
  rw [s5] at f6 g6
  have s6 : h6.2.1.1 = n + 6 := by rw [z6]; show h5.2.1.1 + 1 = _; omega
  have t6 : h6.2.1.2 = m + 50650 := by rw [z6]; show h5.2.1.2 + 3213 = _; omega
  refine n_arr (z := 3213) (t := 0) f6 (by decide) (Nat.le_of_ble_eq_true rfl) G6.2.1 (by decide) fun h7 f7 g7 G7 z7 => ?_
  rw [s6] at f7 g7
  have s7 : h7.2.1.1 = n + 7 := by rw [z7]; show h6.2.1.1 + 1 = _; omega
  have t7 : h7.2.1.2 = m + 53863 := by rw [z7]; show h6.2.1.2 + 3213 = _; omega
  refine n_arr (z := 4) (t := 1) f7 (by decide) (Nat.le_of_ble_eq_true rfl) G7.2.1 (by decide) fun h8 f8 g8 G8 z8 => ?_
  rw [s7] at f8 g8
  have s8 : h8.2.1.1 = n + 8 := by rw [z8]; show h7.2.1.1 + 1 = _; omega
  have t8 : h8.2.1.2 = m + 53867 := by rw [z8]; show h7.2.1.2 + 4 = _; omega
  refine n_arr (z := 4) (t := 1) f8 (by decide) (Nat.le_of_ble_eq_true rfl) G8.2.1 (by decide) fun h9 f9 g9 G9 z9 => ?_
  rw [s8] at f9 g9
  have s9 : h9.2.1.1 = n + 9 := by rw [z9]; show h8.2.1.1 + 1 = _; omega
  have t9 : h9.2.1.2 = m + 53871 := by rw [z9]; show h8.2.1.2 + 4 = _; omega
  refine n_arr (z := 8) (t := 1) f9 (by decide) (Nat.le_of_ble_eq_true rfl) G9.2.1 (by decide) fun h10 f10 g10 G10 z10 => ?_
  rw [s9] at f10 g10
  have s10 : h10.2.1.1 = n + 10 := by rw [z10]; show h9.2.1.1 + 1 = _; omega
  have t10 : h10.2.1.2 = m + 53879 := by rw [z10]; show h9.2.1.2 + 8 = _; omega
  refine n_arr (z := 2) (t := 3) f10 (by decide) (Nat.le_of_ble_eq_true rfl) G10.2.1 (by decide) fun h11 f11 g11 G11 z11 => ?_
  rw [s10] at f11 g11
  have s11 : h11.2.1.1 = n + 11 := by rw [z11]; show h10.2.1.1 + 1 = _; omega
  have t11 : h11.2.1.2 = m + 53881 := by rw [z11]; show h10.2.1.2 + 2 = _; omega
  refine n_arr (z := 600) (t := 0) f11 (by decide) (Nat.le_of_ble_eq_true rfl) G11.2.1 (by decide) fun h12 f12 g12 G12 z12 => ?_
  rw [s11] at f12 g12
  have s12 : h12.2.1.1 = n + 12 := by rw [z12]; show h11.2.1.1 + 1 = _; omega
  have t12 : h12.2.1.2 = m + 54481 := by rw [z12]; show h11.2.1.2 + 600 = _; omega
  refine n_arr (z := 160) (t := 0) f12 (by decide) (Nat.le_of_ble_eq_true rfl) G12.2.1 (by decide) fun h13 f13 g13 G13 z13 => ?_
  rw [s12] at f13 g13
  have s13 : h13.2.1.1 = n + 13 := by rw [z13]; show h12.2.1.1 + 1 = _; omega
  have t13 : h13.2.1.2 = m + 54641 := by rw [z13]; show h12.2.1.2 + 160 = _; omega
  refine n_arr (z := 4) (t := 0) f13 (by decide) (Nat.le_of_ble_eq_true rfl) G13.2.1 (by decide) fun h14 f14 g14 G14 z14 => ?_
  rw [s13] at f14 g14
  have s14 : h14.2.1.1 = n + 14 := by rw [z14]; show h13.2.1.1 + 1 = _; omega
  have t14 : h14.2.1.2 = m + 54645 := by rw [z14]; show h13.2.1.2 + 4 = _; omega
  refine n_arr (z := 240) (t := 0) f14 (by decide) (Nat.le_of_ble_eq_true rfl) G14.2.1 (by decide) fun h15 f15 g15 G15 z15 => ?_
  rw [s14] at f15 g15
  have s15 : h15.2.1.1 = n + 15 := by rw [z15]; show h14.2.1.1 + 1 = _; omega
  have t15 : h15.2.1.2 = m + 54885 := by rw [z15]; show h14.2.1.2 + 240 = _; omega
  have K15 : ∀ x c, h15.1 x = some c → h15.1 x = some c := fun _ _ q => q
  have K14 : ∀ x c, h14.1 x = some c → x ≠ a → h15.1 x = some c := fun x c q n => K15 x c (G15.2.2.2 x c q n)
  have K13 : ∀ x c, h13.1 x = some c → x ≠ a → h15.1 x = some c := fun x c q n => K14 x c (G14.2.2.2 x c q n) n
  have K12 : ∀ x c, h12.1 x = some c → x ≠ a → h15.1 x = some c := fun x c q n => K13 x c (G13.2.2.2 x c q n) n
  have K11 : ∀ x c, h11.1 x = some c → x ≠ a → h15.1 x = some c := fun x c q n => K12 x c (G12.2.2.2 x c q n) n
  have K10 : ∀ x c, h10.1 x = some c → x ≠ a → h15.1 x = some c := fun x c q n => K11 x c (G11.2.2.2 x c q n) n
  have K9 : ∀ x c, h9.1 x = some c → x ≠ a → h15.1 x = some c := fun x c q n => K10 x c (G10.2.2.2 x c q n) n
  have K8 : ∀ x c, h8.1 x = some c → x ≠ a → h15.1 x = some c := fun x c q n => K9 x c (G9.2.2.2 x c q n) n
  have K7 : ∀ x c, h7.1 x = some c → x ≠ a → h15.1 x = some c := fun x c q n => K8 x c (G8.2.2.2 x c q n) n
  have K6 : ∀ x c, h6.1 x = some c → x ≠ a → h15.1 x = some c := fun x c q n => K7 x c (G7.2.2.2 x c q n) n
  have K5 : ∀ x c, h5.1 x = some c → x ≠ a → h15.1 x = some c := fun x c q n => K6 x c (G6.2.2.2 x c q n) n
  have K4 : ∀ x c, h4.1 x = some c → x ≠ a → h15.1 x = some c := fun x c q n => K5 x c (G5.2.2.2 x c q n) n
  have K3 : ∀ x c, h3.1 x = some c → x ≠ a → h15.1 x = some c := fun x c q n => K4 x c (G4.2.2.2 x c q n) n
  have K2 : ∀ x c, h2.1 x = some c → x ≠ a → h15.1 x = some c := fun x c q n => K3 x c (G3.2.2.2 x c q n) n
  have K1 : ∀ x c, h1.1 x = some c → x ≠ a → h15.1 x = some c := fun x c q n => K2 x c (G2.2.2.2 x c q n) n
  have KG : Gr a h h15 := (G1.trans (G2.trans (G3.trans (G4.trans (G5.trans (G6.trans (G7.trans (G8.trans (G9.trans (G10.trans (G11.trans (G12.trans (G13.trans (G14.trans G15))))))))))))))
  refine q_gQr f15 (by decide) rfl ?_
  refine q_nn ?_
  have g14 := K2 _ _ g2 (by omega)
  refine q_stI (z := 1) g14 (by decide) ?_
  have up : ∀ {x : Nat} {c : PC}, h15.1 x = some c → x ≠ n + 1 → (hset h15 (n + 1) (.inl (0, 6062, .inl (upd (fun _ => 0) (Int.toNat 1) 8)))).1 x = some c := fun {x c} q ne => up_nx ne q
  rw [en]
  refine q_rV ⟨rfl, ⟨?_, fun q hq => ?_, fun q hq => ?_, ?_, mg_inj, fun k hk q => ?_⟩, ⟨KG.1, KG.2.1.setE g14, KG.2.2.1, fun x c e' n' => up_nx (by have := w.lt e'; omega) (KG.2.2.2 x c e' n')⟩, ?_⟩
  · exact (up f15 (by omega)).trans rfl
  · simp only [iArr, List.mem_cons, List.not_mem_nil, or_false] at hq
    rcases hq with e1 | e1 | e1 | e1 | e1 | e1 | e1 | e1 | e1 | e1 | e1
    · rw [e1]
      show (hset h15 (n + 1) _).1 (n + 0) = some (.inl (0, 940, .inl (ms0.1 1)))
      rw [ms0_z (by decide)]
      exact up (K1 _ _ g1 (by omega)) (by omega)
    · rw [e1]
      show (hset h15 (n + 1) _).1 (n + 1) = some (.inl (0, 6062, .inl (ms0.1 14)))
      rw [ms0_14]
      exact up_eq
    · rw [e1]
      show (hset h15 (n + 1) _).1 (n + 2) = some (.inl (0, 2607, .inl (ms0.1 15)))
      rw [ms0_z (by decide)]
      exact up (K3 _ _ g3 (by omega)) (by omega)
    · rw [e1]
      show (hset h15 (n + 1) _).1 (n + 3) = some (.inl (0, 12124, .inl (ms0.1 16)))
      rw [ms0_z (by decide)]
      exact up (K4 _ _ g4 (by omega)) (by omega)
    · rw [e1]
      show (hset h15 (n + 1) _).1 (n + 4) = some (.inl (0, 25704, .inl (ms0.1 17)))
      rw [ms0_z (by decide)]
      exact up (K5 _ _ g5 (by omega)) (by omega)
    · rw [e1]
      show (hset h15 (n + 1) _).1 (n + 5) = some (.inl (0, 3213, .inl (ms0.1 18)))
      rw [ms0_z (by decide)]
      exact up (K6 _ _ g6 (by omega)) (by omega)
    · rw [e1]
      show (hset h15 (n + 1) _).1 (n + 6) = some (.inl (0, 3213, .inl (ms0.1 19)))
      rw [ms0_z (by decide)]
      exact up (K7 _ _ g7 (by omega)) (by omega)
    · rw [e1]
      show (hset h15 (n + 1) _).1 (n + 11) = some (.inl (0, 600, .inl (ms0.1 27)))
      rw [ms0_z (by decide)]
      exact up (K12 _ _ g12 (by omega)) (by omega)
    · rw [e1]
      show (hset h15 (n + 1) _).1 (n + 12) = some (.inl (0, 160, .inl (ms0.1 30)))
      rw [ms0_z (by decide)]
      exact up (K13 _ _ g13 (by omega)) (by omega)
    · rw [e1]
      show (hset h15 (n + 1) _).1 (n + 13) = some (.inl (0, 4, .inl (ms0.1 31)))
      rw [ms0_z (by decide)]
      exact up (K14 _ _ g14 (by omega)) (by omega)
    · rw [e1]
      show (hset h15 (n + 1) _).1 (n + 14) = some (.inl (0, 240, .inl (ms0.1 34)))
      rw [ms0_z (by decide)]
      exact up g15 (by omega)
  · simp only [lArr, List.mem_cons, List.not_mem_nil, or_false] at hq
    rcases hq with e1 | e1 | e1
    · rw [e1]
      show (hset h15 (n + 1) _).1 (n + 7) = some (.inl (1, 4, .inr (.inl (fun _ => 0))))
      exact up (K8 _ _ g8 (by omega)) (by omega)
    · rw [e1]
      show (hset h15 (n + 1) _).1 (n + 8) = some (.inl (1, 4, .inr (.inl (fun _ => 0))))
      exact up (K9 _ _ g9 (by omega)) (by omega)
    · rw [e1]
      show (hset h15 (n + 1) _).1 (n + 9) = some (.inl (1, 8, .inr (.inl (fun _ => 0))))
      exact up (K10 _ _ g10 (by omega)) (by omega)
  · show (hset h15 (n + 1) _).1 (n + 10) = some (.inl (3, 2, .inl (ms0.1 23)))
    rw [ms0_z (by decide)]
    exact up (K11 _ _ g11 (by omega)) (by omega)
  · unfold mg at q
    omega
  · show h15.2.1 = _
    refine Prod.ext ?_ ?_
    · show h15.2.1.1 = n + 15; exact s15
    · show h15.2.1.2 = h.2.1.2 + 54885; rw [t15, em]
end
/-- the start -/
def X0 : XS := ((fun _ => 0), 0, (0, 8, (fun _ => []), (fun _ => []), [], none), [], (fun _ => none), [], none, 0)
theorem xi0 : XI X0 := ⟨⟨by decide, by decide, ⟨fun k _ => LsB.nil (by decide), Lt.nil, fun _ _ _ => rfl⟩, (fun r hr => absurd hr (Nat.not_lt_zero r)), fun s es => by cases es⟩, by decide, fun _ => by show 0 < 256; decide, by decide, (fun p hp => by cases hp), (fun k w hw => by cases hw), by decide, fun x hx => by cases hx⟩
theorem mr00 {r : Nat} (hr : r < 4) : MR (ms0.1 14) r [] := by
  have z : ∀ x, x ≠ 1 → ms0.1 14 x = ii 0 := fun x hx => by
    show (if 14 = 14 ∧ x = 1 then (8 : Int32) else 0) = ii 0
    rw [if_neg (fun q => hx q.2)]; rfl
  exact ⟨z _ (by omega), z _ (by omega), fun k hk => z _ (by omega), fun i hi => absurd hi (Nat.not_lt_zero i)⟩
theorem cm0 : CM X0 ms0 := by
  have z : ∀ x, x ≠ 1 → ms0.1 14 x = ii 0 := fun x hx => by
    show (if 14 = 14 ∧ x = 1 then (8 : Int32) else 0) = ii 0
    rw [if_neg (fun q => hx q.2)]; rfl
  have y : ∀ k x, k ≠ 14 → ms0.1 k x = ii 0 := fun k x hk => by rw [ms0_z hk]; rfl
  refine ⟨fun i _ => y 1 i (by decide), y 2 0 (by decide), ⟨⟨z 0 (by decide), rfl, fun r hr => mr00 hr, z _ (by decide), fun i hi => z _ (by omega)⟩, fun _ => z _ (by decide), fun s hs => by cases hs⟩, (fun r hr => absurd hr (Nat.not_lt_zero r)), y 24 0 (by decide), (fun j p hj => by cases hj), (fun k hk => ⟨fun _ => y 23 k (by decide), fun w hw => by cases hw⟩), y 10 0 (by decide), y 28 0 (by decide), (fun k x hx => by cases hx), (fun _ => y 33 0 (by decide)), fun t ht => by cases ht⟩
