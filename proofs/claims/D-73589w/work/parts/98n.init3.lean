/-! PURE SIDE: the start: the readers -/
set_option maxRecDepth 100000
abbrev rdl0 : List Value := [.int 0, .int 0, .int 0, .int 0, .int 0, .int 0, .long 0, .null, .null, .null, .int 0, .null]
section
variable {h h0 h1 : PH} {Z : Rt → PH → Prop} {B : Nat} {fs : List Value} {ad : Nat → Nat}
theorem i_D {cls a : Nat} {most : Int32} (hc : cls ∈ [5, 6, 7]) (e : h.1 a = some (.inr (cls, [.int 0, .int 0, .int 0, .int 0, .int 0, .int 0, .long 0, .null, .null, .null, .int 0, .ref B]))) : c_D_init h a B most = rV (hset h a (.inr (cls, [.int most, .int 0, .int 0, .int 0, .int 0, .int 0, .long 0, .ref B, .null, .null, .int 0, .ref B]))) := by
  have : Ends (c_D_init h a B most) (fun r h' => r = .inl none ∧ h' = hset h a (.inr (cls, [.int most, .int 0, .int 0, .int 0, .int 0, .int 0, .long 0, .ref B, .null, .null, .int 0, .ref B]))) := by
    unfold c_D_init
    refine q_grd e hc ?_
    refine q_pQ e hc (Nat.le_of_ble_eq_true rfl) ?_
    refine q_pI up_eq hc (Nat.le_of_ble_eq_true rfl) ?_
    rw [hset_hset]
    exact q_rV ⟨rfl, rfl⟩
  obtain ⟨r, h', w1, w2, w3⟩ := this
  rw [w1, w2, w3]; rfl
/-- what all readers begin with -/
theorem i_rd {cls a : Nat} {most : Int32} {K : PH → Option RH} (hc : cls ∈ [5, 6, 7]) (e : h.1 a = some (.inr (cls, rdl0))) (w : Wf h) (kk : ∀ h', h'.1 a = some (.inr (cls, [.int most, .int 0, .int 0, .int 0, .int 0, .int 0, .long 0, .ref B, .null, .null, .int 0, .ref B])) → (∀ x c, h.1 x = some c → x ≠ a → h'.1 x = some c) → Wf h' → h'.2 = h.2 → Ends (K h') Z) : Ends (pQ h a [cls] 11 (some B) fun h1 => hV (c_D_init h1 a B most) noX K) Z := by
  refine q_pQ e List.mem_cons_self (Nat.le_of_ble_eq_true rfl) ?_
  refine q_hVe (i_D hc up_eq) ?_
  rw [hset_hset]
  exact kk _ up_eq (fun x c e' n => up_nx n e') (w.setE e) rfl
/-- the reader of rooms -/
theorem n_rr {K : PH → Option RH} (e : h.1 B = some (.inr (0, fs))) (hi : 9 < fs.length) (w : Wf h) (kk : ∀ h', h'.1 B = some (.inr (0, fs.set 9 (.ref h.2.1.1))) → h'.1 h.2.1.1 = some (rdC 5 B 900 0 0 0 0 0 0 .null .null 0) → Gr B h h' → h'.2.1 = (h.2.1.1 + 1, h.2.1.2 + 12) → Ends (K h') Z) : Ends (newO h 5 [.int 0, .int 0, .int 0, .int 0, .int 0, .int 0, .long 0, .null, .null, .null, .int 0, .null] fun a h50 => hV (c_DR_init h50 a B) noX fun h51 => pQ h51 B [0] 9 (some a) K) Z := by
  have lt := w.lt e
  refine q_newO ?_
  have w3 : Wf (hnew h 12 (.inr (5, rdl0))) := w.new
  have e3 : (hnew h 12 (.inr (5, rdl0))).1 h.2.1.1 = some (.inr (5, rdl0)) := new_eq
  have s3 : (hnew h 12 (.inr (5, rdl0))).2 = ((h.2.1.1 + 1, h.2.1.2 + 12), h.2.2) := rfl
  have o3 : ∀ x c, h.1 x = some c → (hnew h 12 (.inr (5, rdl0))).1 x = some c := fun x c e => new_old w e
  show Ends (hV (c_DR_init (hnew h 12 (.inr (5, rdl0))) h.2.1.1 B) noX _) Z
  generalize hnew h 12 (.inr (5, rdl0)) = h3 at *
  have ki : EV (c_DR_init h3 h.2.1.1 B) (fun h4 => h4.1 h.2.1.1 = some (rdC 5 B 900 0 0 0 0 0 0 .null .null 0) ∧ (∀ x c, h3.1 x = some c → x ≠ h.2.1.1 → h4.1 x = some c) ∧ Wf h4 ∧ h4.2 = h3.2) := by
    refine EV.of ?_
    unfold c_DR_init
    refine q_grd e3 (by decide) ?_
    refine i_rd (by decide) e3 w3 fun h4 f1 f2 f3 f4 => ?_
    exact q_rV ⟨rfl, f1, f2, f3, f4⟩
  refine q_hV ki fun h4 ⟨f1, f2, f3, f4⟩ => ?_
  have eB := f2 _ _ (o3 _ _ e) (by omega)
  refine q_pQ eB (by decide) hi ?_
  refine kk _ up_eq (up_nx (by omega) f1) ⟨?_, f3.setE eB, ?_, fun x c' e' n => up_nx n (f2 _ _ (o3 _ _ e') (Nat.ne_of_lt (w.lt e')))⟩ ?_
  · show h4.2.2 = _
    rw [f4, s3]
  · show h.2.1.1 ≤ h4.2.1.1
    rw [f4, s3]; exact Nat.le_succ _
  · show h4.2.1 = _
    rw [f4, s3]
/-- the reader of books -/
theorem n_br {K : PH → Option RH} (e : h.1 B = some (.inr (0, fs))) (hi : 10 < fs.length) (w : Wf h) (eh : h.2.2 = ad) (T : ∀ k, k < 23 → h.1 (ad k) = some (.inr (100 + k, []))) (kk : ∀ h', h'.1 B = some (.inr (0, fs.set 10 (.ref h.2.1.1))) → h'.1 h.2.1.1 = some (rdC 6 B 400 0 0 0 0 0 0 (.ref (h.2.1.1 + 1)) (.ref (h.2.1.1 + 2)) 0) → StrA h' (h.2.1.1 + 1) 8 3 → (∃ f, h'.1 (h.2.1.1 + 2) = some (qA 10 40 f)) → Gr B h h' → h'.2.1 = (h.2.1.1 + 3, h.2.1.2 + 60) → Ends (K h') Z) : Ends (newO h 6 [.int 0, .int 0, .int 0, .int 0, .int 0, .int 0, .long 0, .null, .null, .null, .int 0, .null] fun a h54 => hV (c_DB_init h54 a B) noX fun h55 => pQ h55 B [0] 10 (some a) K) Z := by
  have lt := w.lt e
  refine q_newO ?_
  have w3 : Wf (hnew h 12 (.inr (6, rdl0))) := w.new
  have e3 : (hnew h 12 (.inr (6, rdl0))).1 h.2.1.1 = some (.inr (6, rdl0)) := new_eq
  have s3 : (hnew h 12 (.inr (6, rdl0))).2 = ((h.2.1.1 + 1, h.2.1.2 + 12), h.2.2) := rfl
  have o3 : ∀ x c, h.1 x = some c → (hnew h 12 (.inr (6, rdl0))).1 x = some c := fun x c e => new_old w e
  show Ends (hV (c_DB_init (hnew h 12 (.inr (6, rdl0))) h.2.1.1 B) noX _) Z
  generalize hnew h 12 (.inr (6, rdl0)) = h3 at *
  have ki : EV (c_DB_init h3 h.2.1.1 B) (fun h4 => h4.1 h.2.1.1 = some (rdC 6 B 400 0 0 0 0 0 0 (.ref (h.2.1.1 + 1)) (.ref (h.2.1.1 + 2)) 0) ∧ StrA h4 (h.2.1.1 + 1) 8 3 ∧ (∃ f, h4.1 (h.2.1.1 + 2) = some (qA 10 40 f)) ∧ Gr h.2.1.1 h3 h4 ∧ h4.2.1 = (h.2.1.1 + 3, h.2.1.2 + 60)) := by
    refine EV.of ?_
    unfold c_DB_init
    refine q_grd e3 (by decide) ?_
    refine i_rd (by decide) e3 w3 fun h4 f1 f2 f3 f4 => ?_
    have s4 : h4.2.1.1 = h.2.1.1 + 1 := by rw [f4, s3]
    have t4 : ∀ k, k < 23 → h4.1 (ad k) = some (.inr (100 + k, [])) := fun k hk => f2 _ _ (o3 _ _ (T k hk)) (Nat.ne_of_lt (w.lt (T k hk)))
    refine n_str8_3 f3 (by rw [f4, s3]; exact eh) t4 fun h5 g1 g2 g3 g4 => ?_
    have s5 : h5.2.1.1 = h.2.1.1 + 2 := by rw [g4]; show h4.2.1.1 + 1 = _; omega
    refine q_pQ (g2 _ _ f1) (by decide) (Nat.le_of_ble_eq_true rfl) ?_
    have w6 : Wf (hset h5 h.2.1.1 (.inr (6, [.int 400, .int 0, .int 0, .int 0, .int 0, .int 0, .long 0, .ref B, .ref h4.2.1.1, .null, .int 0, .ref B]))) := g3.setE (g2 _ _ f1)
    have e6 : (hset h5 h.2.1.1 (.inr (6, [.int 400, .int 0, .int 0, .int 0, .int 0, .int 0, .long 0, .ref B, .ref h4.2.1.1, .null, .int 0, .ref B]))).1 h.2.1.1 = _ := up_eq
    have G6 : StrA (hset h5 h.2.1.1 (.inr (6, [.int 400, .int 0, .int 0, .int 0, .int 0, .int 0, .long 0, .ref B, .ref h4.2.1.1, .null, .int 0, .ref B]))) h4.2.1.1 8 3 := g1.ne rfl fun x c e' k => up_nx (fun y => by
      rw [y, g2 _ _ f1] at e'
      injection e' with e'
      rw [← e'] at k
      rcases k with k | k
      · exact absurd k (by show ¬ (2 * 6 = 25); decide)
      · exact absurd k (by show ¬ (200 ≤ 2 * 6); decide)) e'
    have z6 : (hset h5 h.2.1.1 (.inr (6, [.int 400, .int 0, .int 0, .int 0, .int 0, .int 0, .long 0, .ref B, .ref h4.2.1.1, .null, .int 0, .ref B]))).2 = h5.2 := rfl
    have o6 : ∀ x c, h5.1 x = some c → x ≠ h.2.1.1 → (hset h5 h.2.1.1 (.inr (6, [.int 400, .int 0, .int 0, .int 0, .int 0, .int 0, .long 0, .ref B, .ref h4.2.1.1, .null, .int 0, .ref B]))).1 x = some c := fun x c e' n => up_nx n e'
    show Ends (newA (hset h5 h.2.1.1 (.inr (6, [.int 400, .int 0, .int 0, .int 0, .int 0, .int 0, .long 0, .ref B, .ref h4.2.1.1, .null, .int 0, .ref B]))) 10 (40 : Int32) _ _) _
    generalize hset h5 h.2.1.1 (.inr (6, [.int 400, .int 0, .int 0, .int 0, .int 0, .int 0, .long 0, .ref B, .ref h4.2.1.1, .null, .int 0, .ref B])) = h6 at *
    have s6 : h6.2.1.1 = h.2.1.1 + 2 := by rw [z6]; exact s5
    refine n_arr (z := 40) (t := 10) e6 (by decide) (Nat.le_of_ble_eq_true rfl) w6 (by decide) fun h7 i1 i2 i3 i4 => ?_
    rw [s6] at i1 i2
    rw [s4] at i1 G6
    refine q_rV ⟨rfl, i1, G6.ne i3.1 (fun x c e' k => i3.2.2.2 x c e' fun y => by
      rw [y, e6] at e'
      injection e' with e'
      rw [← e'] at k
      rcases k with k | k
      · exact absurd k (by show ¬ (2 * 6 = 25); decide)
      · exact absurd k (by show ¬ (200 ≤ 2 * 6); decide)), ⟨_, i2⟩, ⟨?_, i3.2.1, ?_, fun x c e' n => i3.2.2.2 x c (o6 x c (g2 x c (f2 x c e' n)) n) n⟩, ?_⟩
    · rw [i3.1, z6, g4]; show h4.2.2 = _; rw [f4]
    · have := i3.2.2.1; rw [s3]; show h.2.1.1 + 1 ≤ _; omega
    · rw [i4, z6, g4]
      refine Prod.ext ?_ ?_
      · show h4.2.1.1 + 1 + 1 = _; omega
      · show h4.2.1.2 + 8 + 40 = _; rw [f4, s3]
  refine q_hV ki fun h4 ⟨f1, f2, f3, f4, f5⟩ => ?_
  have eB := f4.2.2.2 _ _ (o3 _ _ e) (by omega)
  refine q_pQ eB (by decide) hi ?_
  obtain ⟨ff1, f3⟩ := f3
  refine kk _ up_eq (up_nx (by omega) f1) (f2.ne rfl fun x c e' k => up_nx (fun y => by
      rw [y, eB] at e'
      injection e' with e'
      rw [← e'] at k
      rcases k with k | k
      · exact absurd k (by show ¬ (2 * 0 = 25); decide)
      · exact absurd k (by show ¬ (200 ≤ 2 * 0); decide)) e') ⟨ff1, up_nx (by omega) f3⟩ ⟨?_, f4.2.1.setE eB, ?_, fun x c' e' n => up_nx n (f4.2.2.2 _ _ (o3 _ _ e') (Nat.ne_of_lt (w.lt e')))⟩ f5
  · show h4.2.2 = _
    rw [f4.1, s3]
  · show h.2.1.1 ≤ h4.2.1.1
    rw [f5]; show h.2.1.1 ≤ h.2.1.1 + 3; omega
/-- the reader of sentences -/
theorem n_sr {K : PH → Option RH} (e : h.1 B = some (.inr (0, fs))) (hi : 18 < fs.length) (w : Wf h) (eh : h.2.2 = ad) (T : ∀ k, k < 23 → h.1 (ad k) = some (.inr (100 + k, []))) (kk : ∀ h', h'.1 B = some (.inr (0, fs.set 18 (.ref h.2.1.1))) → h'.1 h.2.1.1 = some (rdC 7 B 200 0 0 0 0 0 0 (.ref (h.2.1.1 + 1)) (.ref (h.2.1.1 + 2)) 0) → StrA h' (h.2.1.1 + 1) 4 14 → StrA h' (h.2.1.1 + 2) 5 18 → Gr B h h' → h'.2.1 = (h.2.1.1 + 3, h.2.1.2 + 21) → Ends (K h') Z) : Ends (newO h 7 [.int 0, .int 0, .int 0, .int 0, .int 0, .int 0, .long 0, .null, .null, .null, .int 0, .null] fun a h54 => hV (c_DS_init h54 a B) noX fun h55 => pQ h55 B [0] 18 (some a) K) Z := by
  have lt := w.lt e
  refine q_newO ?_
  have w3 : Wf (hnew h 12 (.inr (7, rdl0))) := w.new
  have e3 : (hnew h 12 (.inr (7, rdl0))).1 h.2.1.1 = some (.inr (7, rdl0)) := new_eq
  have s3 : (hnew h 12 (.inr (7, rdl0))).2 = ((h.2.1.1 + 1, h.2.1.2 + 12), h.2.2) := rfl
  have o3 : ∀ x c, h.1 x = some c → (hnew h 12 (.inr (7, rdl0))).1 x = some c := fun x c e => new_old w e
  show Ends (hV (c_DS_init (hnew h 12 (.inr (7, rdl0))) h.2.1.1 B) noX _) Z
  generalize hnew h 12 (.inr (7, rdl0)) = h3 at *
  have strNe : ∀ {g : PH} {a n k : Nat} {l : List Value} {c : PC}, StrA g a n k → g.1 h.2.1.1 = some (.inr (7, l)) → StrA (hset g h.2.1.1 c) a n k := fun {g a n k l c} s q => s.ne rfl fun x c e' k => up_nx (fun y => by
      rw [y, q] at e'
      injection e' with e'
      rw [← e'] at k
      rcases k with k | k
      · exact absurd k (by show ¬ (2 * 7 = 25); decide)
      · exact absurd k (by show ¬ (200 ≤ 2 * 7); decide)) e'
  have ki : EV (c_DS_init h3 h.2.1.1 B) (fun h4 => h4.1 h.2.1.1 = some (rdC 7 B 200 0 0 0 0 0 0 (.ref (h.2.1.1 + 1)) (.ref (h.2.1.1 + 2)) 0) ∧ StrA h4 (h.2.1.1 + 1) 4 14 ∧ StrA h4 (h.2.1.1 + 2) 5 18 ∧ Gr h.2.1.1 h3 h4 ∧ h4.2.1 = (h.2.1.1 + 3, h.2.1.2 + 21)) := by
    refine EV.of ?_
    unfold c_DS_init
    refine q_grd e3 (by decide) ?_
    refine i_rd (by decide) e3 w3 fun h4 f1 f2 f3 f4 => ?_
    have s4 : h4.2.1.1 = h.2.1.1 + 1 := by rw [f4, s3]
    have t4 : ∀ k, k < 23 → h4.1 (ad k) = some (.inr (100 + k, [])) := fun k hk => f2 _ _ (o3 _ _ (T k hk)) (Nat.ne_of_lt (w.lt (T k hk)))
    refine n_str4_14 f3 (by rw [f4, s3]; exact eh) t4 fun h5 g1 g2 g3 g4 => ?_
    have s5 : h5.2.1.1 = h.2.1.1 + 2 := by rw [g4]; show h4.2.1.1 + 1 = _; omega
    refine q_pQ (g2 _ _ f1) (by decide) (Nat.le_of_ble_eq_true rfl) ?_
    rw [s4]
    rw [s4] at g1
    have w6 : Wf (hset h5 h.2.1.1 (.inr (7, [.int 200, .int 0, .int 0, .int 0, .int 0, .int 0, .long 0, .ref B, .ref (h.2.1.1 + 1), .null, .int 0, .ref B]))) := g3.setE (g2 _ _ f1)
    have e6 : (hset h5 h.2.1.1 (.inr (7, [.int 200, .int 0, .int 0, .int 0, .int 0, .int 0, .long 0, .ref B, .ref (h.2.1.1 + 1), .null, .int 0, .ref B]))).1 h.2.1.1 = _ := up_eq
    have G6 : StrA (hset h5 h.2.1.1 (.inr (7, [.int 200, .int 0, .int 0, .int 0, .int 0, .int 0, .long 0, .ref B, .ref (h.2.1.1 + 1), .null, .int 0, .ref B]))) (h.2.1.1 + 1) 4 14 := strNe g1 (g2 _ _ f1)
    have z6 : (hset h5 h.2.1.1 (.inr (7, [.int 200, .int 0, .int 0, .int 0, .int 0, .int 0, .long 0, .ref B, .ref (h.2.1.1 + 1), .null, .int 0, .ref B]))).2 = h5.2 := rfl
    have o6 : ∀ x c, h5.1 x = some c → x ≠ h.2.1.1 → (hset h5 h.2.1.1 (.inr (7, [.int 200, .int 0, .int 0, .int 0, .int 0, .int 0, .long 0, .ref B, .ref (h.2.1.1 + 1), .null, .int 0, .ref B]))).1 x = some c := fun x c e' n => up_nx n e'
    show Ends (newA (hset h5 h.2.1.1 (.inr (7, [.int 200, .int 0, .int 0, .int 0, .int 0, .int 0, .long 0, .ref B, .ref (h.2.1.1 + 1), .null, .int 0, .ref B]))) 12 (5 : Int32) _ _) _
    generalize hset h5 h.2.1.1 (.inr (7, [.int 200, .int 0, .int 0, .int 0, .int 0, .int 0, .long 0, .ref B, .ref (h.2.1.1 + 1), .null, .int 0, .ref B])) = h6 at *
    have s6 : h6.2.1.1 = h.2.1.1 + 2 := by rw [z6]; exact s5
    have t6 : ∀ k, k < 23 → h6.1 (ad k) = some (.inr (100 + k, [])) := fun k hk => o6 _ _ (g2 _ _ (t4 k hk)) (Nat.ne_of_lt (w.lt (T k hk)))
    refine n_str5_18 w6 (by rw [z6, g4]; show h4.2.2 = _; rw [f4, s3]; exact eh) t6 fun h7 i1 i2 i3 i4 => ?_
    refine q_pQ (i2 _ _ e6) (by decide) (Nat.le_of_ble_eq_true rfl) ?_
    rw [s6]
    rw [s6] at i1
    refine q_rV ⟨rfl, up_eq, strNe (G6.ne (by rw [i4]) fun x c e' _ => i2 x c e') (i2 _ _ e6), strNe i1 (i2 _ _ e6), ⟨?_, i3.setE (i2 _ _ e6), ?_, fun x c e' n => up_nx n (i2 _ _ (o6 x c (g2 x c (f2 x c e' n)) n))⟩, ?_⟩
    · show h7.2.2 = _
      rw [i4]; show h6.2.2 = _; rw [z6, g4]; show h4.2.2 = _; rw [f4]
    · show h3.2.1.1 ≤ h7.2.1.1
      rw [i4, s3]; show h.2.1.1 + 1 ≤ h6.2.1.1 + 1; omega
    · show h7.2.1 = _
      rw [i4]
      refine Prod.ext ?_ ?_
      · show h6.2.1.1 + 1 = _; omega
      · show h6.2.1.2 + 5 = _; rw [z6, g4]; show h4.2.1.2 + 4 + 5 = _; rw [f4, s3]
  refine q_hV ki fun h4 ⟨f1, f2, f3, f4, f5⟩ => ?_
  have eB := f4.2.2.2 _ _ (o3 _ _ e) (by omega)
  refine q_pQ eB (by decide) hi ?_
  have strB : ∀ {a n k : Nat} {c : PC}, StrA h4 a n k → StrA (hset h4 B c) a n k := fun {a n k c} s => s.ne rfl fun x c e' k => up_nx (fun y => by
      rw [y, eB] at e'
      injection e' with e'
      rw [← e'] at k
      rcases k with k | k
      · exact absurd k (by show ¬ (2 * 0 = 25); decide)
      · exact absurd k (by show ¬ (200 ≤ 2 * 0); decide)) e'
  refine kk _ up_eq (up_nx (by omega) f1) (strB f2) (strB f3) ⟨?_, f4.2.1.setE eB, ?_, fun x c' e' n => up_nx n (f4.2.2.2 _ _ (o3 _ _ e') (Nat.ne_of_lt (w.lt e')))⟩ f5
  · show h4.2.2 = _
    rw [f4.1, s3]
  · show h.2.1.1 ≤ h4.2.1.1
    rw [f5]; show h.2.1.1 ≤ h.2.1.1 + 3; omega
end
