/-! PURE SIDE: the start: steps of the making -/
set_option maxRecDepth 100000
/-- all cells but one stay, new ones come -/
def Gr (a : Nat) (h h' : PH) : Prop := h'.2.2 = h.2.2 ∧ Wf h' ∧ h.2.1.1 ≤ h'.2.1.1 ∧ ∀ x c, h.1 x = some c → x ≠ a → h'.1 x = some c
section
variable {a c k : Nat} {fs : List Value} {cs : List Nat} {h h0 h1 h2 : PH} {Z : Rt → PH → Prop}
theorem Gr.trans (o : Gr a h h1) (k : Gr a h1 h2) : Gr a h h2 := ⟨k.1.trans o.1, k.2.1, Nat.le_trans o.2.2.1 k.2.2.1, fun x c e n => k.2.2.2 x c (o.2.2.2 x c e n) n⟩
/-- an array into a field -/
theorem n_arr {t : Nat} {z : Int} {ini : (Nat → Int32) ⊕ (Nat → Int64) ⊕ (Nat → UInt32) ⊕ (Nat → UInt64) ⊕ (Nat → Option Nat)} {K : PH → Option RH} (e : h.1 a = some (.inr (c, fs))) (hc : c ∈ cs) (hk : k < fs.length) (w : Wf h) (hz : 0 ≤ z ∧ z ≤ 65536) (kk : ∀ h', h'.1 a = some (.inr (c, fs.set k (.ref h.2.1.1))) → h'.1 h.2.1.1 = some (.inl (t, z.toNat, ini)) → Gr a h h' → h'.2.1 = (h.2.1.1 + 1, h.2.1.2 + z.toNat) → Ends (K h') Z) : Ends (newA h t (ii z) ini fun a1 h2 => pQ h2 a cs k (some a1) K) Z := by
  have lt := w.lt e
  refine q_newA hz ?_
  refine q_pQ (new_old w e) hc hk ?_
  exact kk _ up_eq (up_nx (Nat.ne_of_gt lt) new_eq) ⟨rfl, w.new.setE (new_old w e), Nat.le_succ _, fun x c' e' n => up_nx n (new_old w e')⟩ rfl
/-- while text constants come into a row -/
def Sb (h0 : PH) (a n : Nat) (f : Nat → Option Nat) (h : PH) : Prop := h.2 = h0.2 ∧ h.1 a = some (qA 12 n f) ∧ Wf h ∧ ∀ x c, h0.1 x = some c → x ≠ a → h.1 x = some c
theorem n_sto {ad : Nat → Nat} {n j i : Nat} {f : Nat → Option Nat} {K : PH → Option RH} {x : Int32} (B : Sb h0 a n f h) (eh : h0.2.2 = ad) (T : ∀ k, k < 23 → h0.1 (ad k) = some (.inr (100 + k, [])) ∧ ad k ≠ a) (ex : x = ii (j : Int)) (hi : i < 23) (hj : j < n ∧ n ≤ 100) (kk : ∀ h', Sb h0 a n (va_up f j (some (ad i))) h' → Ends (K h') Z) : Ends (stQ h a x (some (h.2.2 i)) K) Z := by
  obtain ⟨b1, b2, b3, b4⟩ := B
  have e2 : h.2.2 i = ad i := by rw [b1, eh]
  subst ex
  rw [e2]
  obtain ⟨t1, t2⟩ := T i hi
  refine q_stQ (t := 12) b2 (by decide) (by omega) (b4 _ _ t1 t2) ?_ ?_
  · show ((12 == 4 && (100 + i) == 9) || (12 == 5 && ((100 + i) == 9 || (100 + i) == 10)) || (12 == 6 && (100 + i) == 10) || (12 == 7 && (100 + i) == 4) || (12 == 8 && (100 + i) == 11) || (12 == 10 && (100 + i) == 12) || (12 == 11 && (100 + i) == 18) || (12 == 12 && decide (100 ≤ 100 + i))) = true
    simp
  · rw [Int.toNat_natCast]
    exact kk _ ⟨b1, up_eq, b3.setE b2, fun y c' e' n => up_nx n (b4 y c' e' n)⟩
theorem n_str3_0 {ad : Nat → Nat} {K : Nat → PH → Option RH} (w : Wf h) (eh : h.2.2 = ad) (T : ∀ k, k < 23 → h.1 (ad k) = some (.inr (100 + k, []))) (kk : ∀ h', StrA h' h.2.1.1 3 0 → (∀ x c, h.1 x = some c → h'.1 x = some c) → Wf h' → h'.2 = ((h.2.1.1 + 1, h.2.1.2 + 3), h.2.2) → Ends (K h.2.1.1 h') Z) : Ends (newA h 12 (3 : Int32) (.inr (.inr (.inr (.inr (fun _ => none))))) fun a8 g0 => stQ g0 a8 (0 : Int32) (some (g0.2.2 0)) fun g1 => stQ g1 a8 (1 : Int32) (some (g1.2.2 1)) fun g2 => stQ g2 a8 (2 : Int32) (some (g2.2.2 2)) fun g3 => K a8 g3) Z := by
  refine q_newA (z := 3) (by decide) ?_
  have B0 : Sb (hnew h 3 (qA 12 3 (fun _ => none))) h.2.1.1 3 (fun _ => none) (hnew h 3 (qA 12 3 (fun _ => none))) := ⟨rfl, new_eq, w.new, fun _ _ e _ => e⟩
  have T0 : ∀ k, k < 23 → (hnew h 3 (qA 12 3 (fun _ => none))).1 (ad k) = some (.inr (100 + k, [])) ∧ ad k ≠ h.2.1.1 := fun k hk => ⟨new_old w (T k hk), Nat.ne_of_lt (w.lt (T k hk))⟩
  have eh0 : (hnew h 3 (qA 12 3 (fun _ => none))).2.2 = ad := eh
  refine n_sto (j := 0) (i := 0) B0 eh0 T0 rfl (by decide) (by decide) fun g1 B1 => ?_
  refine n_sto (j := 1) (i := 1) B1 eh0 T0 rfl (by decide) (by decide) fun g2 B2 => ?_
  refine n_sto (j := 2) (i := 2) B2 eh0 T0 rfl (by decide) (by decide) fun g3 B3 => ?_
  obtain ⟨b1, b2, b3, b4⟩ := B3
  refine kk g3 ⟨_, b2, fun j hj => ?_⟩ (fun x c e => b4 x c (new_old w e) (Nat.ne_of_lt (w.lt e))) b3 (by rw [b1]; rfl)
  have eg : g3.2.2 = ad := by rw [b1]; exact eh
  rw [eg]
  match j, hj with
  | 0, _ => rfl
  | 1, _ => rfl
  | 2, _ => rfl
theorem n_str20_3 {ad : Nat → Nat} {K : Nat → PH → Option RH} (w : Wf h) (eh : h.2.2 = ad) (T : ∀ k, k < 23 → h.1 (ad k) = some (.inr (100 + k, []))) (kk : ∀ h', StrA h' h.2.1.1 20 3 → (∀ x c, h.1 x = some c → h'.1 x = some c) → Wf h' → h'.2 = ((h.2.1.1 + 1, h.2.1.2 + 20), h.2.2) → Ends (K h.2.1.1 h') Z) : Ends (newA h 12 (20 : Int32) (.inr (.inr (.inr (.inr (fun _ => none))))) fun a8 g0 => stQ g0 a8 (0 : Int32) (some (g0.2.2 3)) fun g1 => stQ g1 a8 (1 : Int32) (some (g1.2.2 4)) fun g2 => stQ g2 a8 (2 : Int32) (some (g2.2.2 5)) fun g3 => stQ g3 a8 (3 : Int32) (some (g3.2.2 6)) fun g4 => stQ g4 a8 (4 : Int32) (some (g4.2.2 7)) fun g5 => stQ g5 a8 (5 : Int32) (some (g5.2.2 8)) fun g6 => stQ g6 a8 (6 : Int32) (some (g6.2.2 9)) fun g7 => stQ g7 a8 (7 : Int32) (some (g7.2.2 10)) fun g8 => stQ g8 a8 (8 : Int32) (some (g8.2.2 11)) fun g9 => stQ g9 a8 (9 : Int32) (some (g9.2.2 12)) fun g10 => stQ g10 a8 (10 : Int32) (some (g10.2.2 13)) fun g11 => stQ g11 a8 (11 : Int32) (some (g11.2.2 14)) fun g12 => stQ g12 a8 (12 : Int32) (some (g12.2.2 15)) fun g13 => stQ g13 a8 (13 : Int32) (some (g13.2.2 16)) fun g14 => stQ g14 a8 (14 : Int32) (some (g14.2.2 17)) fun g15 => stQ g15 a8 (15 : Int32) (some (g15.2.2 18)) fun g16 => stQ g16 a8 (16 : Int32) (some (g16.2.2 19)) fun g17 => stQ g17 a8 (17 : Int32) (some (g17.2.2 20)) fun g18 => stQ g18 a8 (18 : Int32) (some (g18.2.2 21)) fun g19 => stQ g19 a8 (19 : Int32) (some (g19.2.2 22)) fun g20 => K a8 g20) Z := by
  refine q_newA (z := 20) (by decide) ?_
  have B0 : Sb (hnew h 20 (qA 12 20 (fun _ => none))) h.2.1.1 20 (fun _ => none) (hnew h 20 (qA 12 20 (fun _ => none))) := ⟨rfl, new_eq, w.new, fun _ _ e _ => e⟩
  have T0 : ∀ k, k < 23 → (hnew h 20 (qA 12 20 (fun _ => none))).1 (ad k) = some (.inr (100 + k, [])) ∧ ad k ≠ h.2.1.1 := fun k hk => ⟨new_old w (T k hk), Nat.ne_of_lt (w.lt (T k hk))⟩
  have eh0 : (hnew h 20 (qA 12 20 (fun _ => none))).2.2 = ad := eh
  refine n_sto (j := 0) (i := 3) B0 eh0 T0 rfl (by decide) (by decide) fun g1 B1 => ?_
  refine n_sto (j := 1) (i := 4) B1 eh0 T0 rfl (by decide) (by decide) fun g2 B2 => ?_
  refine n_sto (j := 2) (i := 5) B2 eh0 T0 rfl (by decide) (by decide) fun g3 B3 => ?_
  refine n_sto (j := 3) (i := 6) B3 eh0 T0 rfl (by decide) (by decide) fun g4 B4 => ?_
  refine n_sto (j := 4) (i := 7) B4 eh0 T0 rfl (by decide) (by decide) fun g5 B5 => ?_
  refine n_sto (j := 5) (i := 8) B5 eh0 T0 rfl (by decide) (by decide) fun g6 B6 => ?_
  refine n_sto (j := 6) (i := 9) B6 eh0 T0 rfl (by decide) (by decide) fun g7 B7 => ?_
  refine n_sto (j := 7) (i := 10) B7 eh0 T0 rfl (by decide) (by decide) fun g8 B8 => ?_
  refine n_sto (j := 8) (i := 11) B8 eh0 T0 rfl (by decide) (by decide) fun g9 B9 => ?_
  refine n_sto (j := 9) (i := 12) B9 eh0 T0 rfl (by decide) (by decide) fun g10 B10 => ?_
  refine n_sto (j := 10) (i := 13) B10 eh0 T0 rfl (by decide) (by decide) fun g11 B11 => ?_
  refine n_sto (j := 11) (i := 14) B11 eh0 T0 rfl (by decide) (by decide) fun g12 B12 => ?_
  refine n_sto (j := 12) (i := 15) B12 eh0 T0 rfl (by decide) (by decide) fun g13 B13 => ?_
  refine n_sto (j := 13) (i := 16) B13 eh0 T0 rfl (by decide) (by decide) fun g14 B14 => ?_
  refine n_sto (j := 14) (i := 17) B14 eh0 T0 rfl (by decide) (by decide) fun g15 B15 => ?_
  refine n_sto (j := 15) (i := 18) B15 eh0 T0 rfl (by decide) (by decide) fun g16 B16 => ?_
  refine n_sto (j := 16) (i := 19) B16 eh0 T0 rfl (by decide) (by decide) fun g17 B17 => ?_
  refine n_sto (j := 17) (i := 20) B17 eh0 T0 rfl (by decide) (by decide) fun g18 B18 => ?_
  refine n_sto (j := 18) (i := 21) B18 eh0 T0 rfl (by decide) (by decide) fun g19 B19 => ?_
  refine n_sto (j := 19) (i := 22) B19 eh0 T0 rfl (by decide) (by decide) fun g20 B20 => ?_
  obtain ⟨b1, b2, b3, b4⟩ := B20
  refine kk g20 ⟨_, b2, fun j hj => ?_⟩ (fun x c e => b4 x c (new_old w e) (Nat.ne_of_lt (w.lt e))) b3 (by rw [b1]; rfl)
  have eg : g20.2.2 = ad := by rw [b1]; exact eh
  rw [eg]
  match j, hj with
  | 0, _ => rfl
  | 1, _ => rfl
  | 2, _ => rfl
  | 3, _ => rfl
  | 4, _ => rfl
  | 5, _ => rfl
  | 6, _ => rfl
  | 7, _ => rfl
  | 8, _ => rfl
  | 9, _ => rfl
  | 10, _ => rfl
  | 11, _ => rfl
  | 12, _ => rfl
  | 13, _ => rfl
  | 14, _ => rfl
  | 15, _ => rfl
  | 16, _ => rfl
  | 17, _ => rfl
  | 18, _ => rfl
  | 19, _ => rfl
  | j + 20, hj => exact absurd hj (by omega)
theorem n_str8_3 {ad : Nat → Nat} {K : Nat → PH → Option RH} (w : Wf h) (eh : h.2.2 = ad) (T : ∀ k, k < 23 → h.1 (ad k) = some (.inr (100 + k, []))) (kk : ∀ h', StrA h' h.2.1.1 8 3 → (∀ x c, h.1 x = some c → h'.1 x = some c) → Wf h' → h'.2 = ((h.2.1.1 + 1, h.2.1.2 + 8), h.2.2) → Ends (K h.2.1.1 h') Z) : Ends (newA h 12 (8 : Int32) (.inr (.inr (.inr (.inr (fun _ => none))))) fun a8 g0 => stQ g0 a8 (0 : Int32) (some (g0.2.2 3)) fun g1 => stQ g1 a8 (1 : Int32) (some (g1.2.2 4)) fun g2 => stQ g2 a8 (2 : Int32) (some (g2.2.2 5)) fun g3 => stQ g3 a8 (3 : Int32) (some (g3.2.2 6)) fun g4 => stQ g4 a8 (4 : Int32) (some (g4.2.2 7)) fun g5 => stQ g5 a8 (5 : Int32) (some (g5.2.2 8)) fun g6 => stQ g6 a8 (6 : Int32) (some (g6.2.2 9)) fun g7 => stQ g7 a8 (7 : Int32) (some (g7.2.2 10)) fun g8 => K a8 g8) Z := by
  refine q_newA (z := 8) (by decide) ?_
  have B0 : Sb (hnew h 8 (qA 12 8 (fun _ => none))) h.2.1.1 8 (fun _ => none) (hnew h 8 (qA 12 8 (fun _ => none))) := ⟨rfl, new_eq, w.new, fun _ _ e _ => e⟩
  have T0 : ∀ k, k < 23 → (hnew h 8 (qA 12 8 (fun _ => none))).1 (ad k) = some (.inr (100 + k, [])) ∧ ad k ≠ h.2.1.1 := fun k hk => ⟨new_old w (T k hk), Nat.ne_of_lt (w.lt (T k hk))⟩
  have eh0 : (hnew h 8 (qA 12 8 (fun _ => none))).2.2 = ad := eh
  refine n_sto (j := 0) (i := 3) B0 eh0 T0 rfl (by decide) (by decide) fun g1 B1 => ?_
  refine n_sto (j := 1) (i := 4) B1 eh0 T0 rfl (by decide) (by decide) fun g2 B2 => ?_
  refine n_sto (j := 2) (i := 5) B2 eh0 T0 rfl (by decide) (by decide) fun g3 B3 => ?_
  refine n_sto (j := 3) (i := 6) B3 eh0 T0 rfl (by decide) (by decide) fun g4 B4 => ?_
  refine n_sto (j := 4) (i := 7) B4 eh0 T0 rfl (by decide) (by decide) fun g5 B5 => ?_
  refine n_sto (j := 5) (i := 8) B5 eh0 T0 rfl (by decide) (by decide) fun g6 B6 => ?_
  refine n_sto (j := 6) (i := 9) B6 eh0 T0 rfl (by decide) (by decide) fun g7 B7 => ?_
  refine n_sto (j := 7) (i := 10) B7 eh0 T0 rfl (by decide) (by decide) fun g8 B8 => ?_
  obtain ⟨b1, b2, b3, b4⟩ := B8
  refine kk g8 ⟨_, b2, fun j hj => ?_⟩ (fun x c e => b4 x c (new_old w e) (Nat.ne_of_lt (w.lt e))) b3 (by rw [b1]; rfl)
  have eg : g8.2.2 = ad := by rw [b1]; exact eh
  rw [eg]
  match j, hj with
  | 0, _ => rfl
  | 1, _ => rfl
  | 2, _ => rfl
  | 3, _ => rfl
  | 4, _ => rfl
  | 5, _ => rfl
  | 6, _ => rfl
  | 7, _ => rfl
theorem n_str4_14 {ad : Nat → Nat} {K : Nat → PH → Option RH} (w : Wf h) (eh : h.2.2 = ad) (T : ∀ k, k < 23 → h.1 (ad k) = some (.inr (100 + k, []))) (kk : ∀ h', StrA h' h.2.1.1 4 14 → (∀ x c, h.1 x = some c → h'.1 x = some c) → Wf h' → h'.2 = ((h.2.1.1 + 1, h.2.1.2 + 4), h.2.2) → Ends (K h.2.1.1 h') Z) : Ends (newA h 12 (4 : Int32) (.inr (.inr (.inr (.inr (fun _ => none))))) fun a8 g0 => stQ g0 a8 (0 : Int32) (some (g0.2.2 14)) fun g1 => stQ g1 a8 (1 : Int32) (some (g1.2.2 15)) fun g2 => stQ g2 a8 (2 : Int32) (some (g2.2.2 16)) fun g3 => stQ g3 a8 (3 : Int32) (some (g3.2.2 17)) fun g4 => K a8 g4) Z := by
  refine q_newA (z := 4) (by decide) ?_
  have B0 : Sb (hnew h 4 (qA 12 4 (fun _ => none))) h.2.1.1 4 (fun _ => none) (hnew h 4 (qA 12 4 (fun _ => none))) := ⟨rfl, new_eq, w.new, fun _ _ e _ => e⟩
  have T0 : ∀ k, k < 23 → (hnew h 4 (qA 12 4 (fun _ => none))).1 (ad k) = some (.inr (100 + k, [])) ∧ ad k ≠ h.2.1.1 := fun k hk => ⟨new_old w (T k hk), Nat.ne_of_lt (w.lt (T k hk))⟩
  have eh0 : (hnew h 4 (qA 12 4 (fun _ => none))).2.2 = ad := eh
  refine n_sto (j := 0) (i := 14) B0 eh0 T0 rfl (by decide) (by decide) fun g1 B1 => ?_
  refine n_sto (j := 1) (i := 15) B1 eh0 T0 rfl (by decide) (by decide) fun g2 B2 => ?_
  refine n_sto (j := 2) (i := 16) B2 eh0 T0 rfl (by decide) (by decide) fun g3 B3 => ?_
  refine n_sto (j := 3) (i := 17) B3 eh0 T0 rfl (by decide) (by decide) fun g4 B4 => ?_
  obtain ⟨b1, b2, b3, b4⟩ := B4
  refine kk g4 ⟨_, b2, fun j hj => ?_⟩ (fun x c e => b4 x c (new_old w e) (Nat.ne_of_lt (w.lt e))) b3 (by rw [b1]; rfl)
  have eg : g4.2.2 = ad := by rw [b1]; exact eh
  rw [eg]
  match j, hj with
  | 0, _ => rfl
  | 1, _ => rfl
  | 2, _ => rfl
  | 3, _ => rfl
theorem n_str5_18 {ad : Nat → Nat} {K : Nat → PH → Option RH} (w : Wf h) (eh : h.2.2 = ad) (T : ∀ k, k < 23 → h.1 (ad k) = some (.inr (100 + k, []))) (kk : ∀ h', StrA h' h.2.1.1 5 18 → (∀ x c, h.1 x = some c → h'.1 x = some c) → Wf h' → h'.2 = ((h.2.1.1 + 1, h.2.1.2 + 5), h.2.2) → Ends (K h.2.1.1 h') Z) : Ends (newA h 12 (5 : Int32) (.inr (.inr (.inr (.inr (fun _ => none))))) fun a8 g0 => stQ g0 a8 (0 : Int32) (some (g0.2.2 18)) fun g1 => stQ g1 a8 (1 : Int32) (some (g1.2.2 19)) fun g2 => stQ g2 a8 (2 : Int32) (some (g2.2.2 20)) fun g3 => stQ g3 a8 (3 : Int32) (some (g3.2.2 21)) fun g4 => stQ g4 a8 (4 : Int32) (some (g4.2.2 22)) fun g5 => K a8 g5) Z := by
  refine q_newA (z := 5) (by decide) ?_
  have B0 : Sb (hnew h 5 (qA 12 5 (fun _ => none))) h.2.1.1 5 (fun _ => none) (hnew h 5 (qA 12 5 (fun _ => none))) := ⟨rfl, new_eq, w.new, fun _ _ e _ => e⟩
  have T0 : ∀ k, k < 23 → (hnew h 5 (qA 12 5 (fun _ => none))).1 (ad k) = some (.inr (100 + k, [])) ∧ ad k ≠ h.2.1.1 := fun k hk => ⟨new_old w (T k hk), Nat.ne_of_lt (w.lt (T k hk))⟩
  have eh0 : (hnew h 5 (qA 12 5 (fun _ => none))).2.2 = ad := eh
  refine n_sto (j := 0) (i := 18) B0 eh0 T0 rfl (by decide) (by decide) fun g1 B1 => ?_
  refine n_sto (j := 1) (i := 19) B1 eh0 T0 rfl (by decide) (by decide) fun g2 B2 => ?_
  refine n_sto (j := 2) (i := 20) B2 eh0 T0 rfl (by decide) (by decide) fun g3 B3 => ?_
  refine n_sto (j := 3) (i := 21) B3 eh0 T0 rfl (by decide) (by decide) fun g4 B4 => ?_
  refine n_sto (j := 4) (i := 22) B4 eh0 T0 rfl (by decide) (by decide) fun g5 B5 => ?_
  obtain ⟨b1, b2, b3, b4⟩ := B5
  refine kk g5 ⟨_, b2, fun j hj => ?_⟩ (fun x c e => b4 x c (new_old w e) (Nat.ne_of_lt (w.lt e))) b3 (by rw [b1]; rfl)
  have eg : g5.2.2 = ad := by rw [b1]; exact eh
  rw [eg]
  match j, hj with
  | 0, _ => rfl
  | 1, _ => rfl
  | 2, _ => rfl
  | 3, _ => rfl
  | 4, _ => rfl
end
