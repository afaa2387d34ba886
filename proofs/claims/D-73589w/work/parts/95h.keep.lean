/-! PURE SIDE: both sides: what is kept for undo; deeds -/
set_option maxRecDepth 100000
/-- the component's side, opened -/
def CBo (b own : Nat → Nat) (X : XS) (held : Int) (rm z z' : Nat) (skm : Int) (sn : Option Nat) (R R' N N' : Nat → Nat) (Tb : Nat → Bool) (seed rows' seed' : Int32) (h : PH) : Prop := h.1 (b 0) = some (bC b X.len held rm z z' X.ft skm X.L.length X.td.isSome sn) ∧ skOk skm X.sk ∧ RD b own h X rm sn ∧ ST b own X.w z z' R R' N N' Tb seed rows' seed' h
abbrev xK (X : XS) (A : Nat → LL) (T : List Nat) : XS := (X.1, X.2.1, (X.w.n, X.w.low, X.w.nm, A, T, X.w.sn), keepU X.L (X.w.A, X.w.T), X.2.2.2.2)
abbrev xL (X : XS) (L : List SN) : XS := (X.1, X.2.1, X.2.2.1, L, X.2.2.2.2)
theorem keepU_le {L : List SN} {p : SN} (h : L.length ≤ 8) : (keepU L p).length ≤ 8 := by
  unfold keepU
  by_cases c : L.length = 8
  · rw [if_pos c, List.length_append, List.length_drop]; simp; omega
  · rw [if_neg c, List.length_append]; simp; omega
section
variable {b own own' : Nat → Nat} {X : XS} {h h' : PH} {held : Int} {rm z z' : Nat} {skm : Int} {sn : Option Nat} {R R' N N' : Nat → Nat} {Tb : Nat → Bool} {seed rows' seed' : Int32} {c s : Nat}
theorem CBo.cb (O : CBo b own X held rm z z' skm sn R R' N N' Tb seed rows' seed' h) (z1 : h.2.1.1 + 2 * (s11 N + s11 N') ≤ c) (z2 : h.2.1.2 + 7 * (s11 N + s11 N') ≤ s) : CB b own X c s h := ⟨held, rm, z, z', skm, sn, R, R', N, N', Tb, seed, rows', seed', O.1, O.2.1, O.2.2.1, O.2.2.2, z1, z2⟩
/-- an act within the state of now -/
theorem CBo.gf {A2 : Nat → LL} {T : List Nat} {N2 : Nat → Nat} {T2 : Nat → Bool} {seed2 : Int32} (O : CBo b own X held rm z z' skm sn R R' N N' Tb seed rows' seed' h) (S2 : SR own' (b 0) h' z X.w.low A2 R N2 T2 (ii X.w.n) seed2) (G : GF own own' R z h h') : CBo b own' (xA X A2 T) held rm z z' skm sn R R' N2 N' T2 seed2 rows' seed' h' ∧ FX own own' (b 0) (b 16) h h' ∧ KX b own own' 0 h h' := by
  obtain ⟨e0, sk, D, S⟩ := O
  obtain ⟨fs, ez⟩ := S.zc
  have K : KX b own own' 0 h h' := S.kx G D
  exact ⟨⟨G.kd e0 (kd_ne e0 ez rfl) rfl, sk, D.kx K, S.gf S2 G⟩, S.fx G, K⟩
theorem CBo.so {A2 : Nat → LL} {T : List Nat} {seed2 : Int32} {c s : Nat} (O : CBo b own X held rm z z' skm sn R R' N N' Tb seed rows' seed' h) (k : SO own (b 0) z X.w.low R N h A2 (ii X.w.n) seed2 c s h') : ∃ own' N2 T2, CBo b own' (xA X A2 T) held rm z z' skm sn R R' N2 N' T2 seed2 rows' seed' h' ∧ FX own own' (b 0) (b 16) h h' ∧ KX b own own' 0 h h' ∧ h'.2.1.1 + 2 * s11 N2 ≤ h.2.1.1 + 2 * s11 N + c ∧ h'.2.1.2 + 7 * s11 N2 ≤ h.2.1.2 + 7 * s11 N + s := by
  obtain ⟨own', N2, T2, S2, G, y1, y2⟩ := k
  obtain ⟨a1, a2, a3⟩ := O.gf (T := T) S2 G
  exact ⟨own', N2, T2, a1, a2, a3, y1, y2⟩
theorem CBo.lsb (O : CBo b own X held rm z z' skm sn R R' N N' Tb seed rows' seed' h) {k : Nat} (hk : k < 11) : LsB X.w.low (X.w.A k) := (O.2.2.2.1.2.1 k hk).2.1
/-- the object written, all else as it was -/
theorem CBo.b0 {X' : XS} {held2 : Int} {rm2 : Nat} {skm2 : Int} {sn2 : Option Nat} (O : CBo b own X held rm z z' skm sn R R' N N' Tb seed rows' seed' h) (D : RD b own h X' rm2 sn2) (hw : X'.w.low = X.w.low ∧ X'.w.A = X.w.A ∧ X'.w.n = X.w.n) (sk : skOk skm2 X'.sk) : CBo b own X' held2 rm2 z z' skm2 sn2 R R' N N' Tb seed rows' seed' (hset h (b 0) (bC b X'.len held2 rm2 z z' X'.ft skm2 X'.L.length X'.td.isSome sn2)) ∧ FX own own (b 0) (b 16) h (hset h (b 0) (bC b X'.len held2 rm2 z z' X'.ft skm2 X'.L.length X'.td.isSome sn2)) := by
  obtain ⟨e0, _, _, S⟩ := O
  obtain ⟨n8, n10⟩ := D.ne8 e0 (by show 2 * 0 ≠ 1; decide)
  have S' := S.set (c := bC b X'.len held2 rm2 z z' X'.ft skm2 X'.L.length X'.td.isSome sn2) e0 rfl
  refine ⟨⟨up_eq, sk, D.kx (KX.set e0 (fun q => (ff q rfl).elim) rfl (Or.inr rfl) (fun q => absurd q n8) (fun q => absurd q n10)), ?_⟩, FX.set S.2.2.2 e0 (nP rfl rfl rfl)⟩
  unfold ST at S' ⊢
  rw [hw.1, hw.2.1, hw.2.2]
  exact S'
theorem rd_undo {f g : Nat → Option Nat} {L : List SN} (D : RD b own h X rm sn) (e9 : h.1 (b 9) = some (qA 9 8 f)) (hg : ∀ (j : Nat) (p : SN), L[j]? = some p → ∃ a, g j = some a ∧ PA own (b 0) h a p.1) : RD b own (hset h (b 9) (qA 9 8 g)) (xL X L) rm sn := by
  obtain ⟨n8, n10⟩ := D.ne8 e9 (by show 2 * 9 + 1 ≠ 1; decide)
  have K : KX b own own 19 h (hset h (b 9) (qA 9 8 g)) := KX.set e9 (fun _ => rfl) rfl (Or.inr rfl) (fun q => absurd q n8) (fun q => absurd q n10)
  obtain ⟨⟨p1, p2, p3⟩, p4, p5, p6, p7, p8, p9⟩ := D
  refine ⟨⟨p1.kx K, p2.kx K, p3.kx K⟩, p4.kx K, p5.kx K, ⟨g, up_eq, fun j p hj => ?_⟩, p7.kx K, p8.im K.2.1 K.2.2.1, p9.im K.2.1 K.2.2.1⟩
  obtain ⟨a, q1, q2⟩ := hg j p hj
  exact ⟨a, q1, q2.im K.2.1 K.2.2.1⟩
theorem b_keep {len ft : Int} {ht : Bool} {L : List SN} {x : SN} {p : Nat} (e0 : h.1 (b 0) = some (bC b len held rm z z' ft skm L.length ht sn)) (U : UdR b own h L) (hL : L.length ≤ 8) (P : PA own (b 0) h p x.1) : EV (c_B_keep h (b 0) p) (fun h' => ∃ g, h' = hset (hset h (b 9) (qA 9 8 g)) (b 0) (bC b len held rm z z' ft skm (keepU L x).length ht sn) ∧ ∀ (j : Nat) (q : SN), (keepU L x)[j]? = some q → ∃ a, g j = some a ∧ PA own (b 0) h a q.1) := by
  obtain ⟨f, e9, hf⟩ := U
  have n09 : b 0 ≠ b 9 := kd_ne e0 e9 rfl
  obtain ⟨fp, p1, p2⟩ := P
  refine EV.of ?_
  unfold c_B_keep
  refine q_grd e0 (by decide) ?_
  refine q_gI e0 (by decide) rfl ?_
  by_cases c : L.length = 8
  · refine q_pos _ (by rw [c]; rfl) ?_
    refine q_gQr e0 (by decide) rfl ?_
    refine q_gQr e0 (by decide) rfl ?_
    refine q_nn ?_
    refine q_nn ?_
    have hel : elsOk h 9 f 1 7 = true := by
      unfold elsOk
      rw [List.all_eq_true]
      intro i hi
      have hi := List.mem_range.mp hi
      obtain ⟨a, q1, q2, q3, _⟩ := hf (1 + i) (L[1 + i]'(by omega)) (List.getElem?_eq_getElem (by omega))
      rw [q1]
      dsimp only
      rw [q3]
      rfl
    refine q_cpQ2 (sp := 1) (dp := 0) (n := 7) e9 (by decide) (by decide) hel ?_
    refine q_gI (up_nx n09 e0) (by decide) rfl ?_
    refine q_pI (up_nx n09 e0) (by decide) (Nat.le_of_ble_eq_true rfl) ?_
    unfold c_B_keep_j34
    refine q_gQr up_eq (by decide) rfl ?_
    refine q_gI up_eq (by decide) rfl ?_
    refine q_nn ?_
    rw [c, sub1]
    have np : p ≠ b 9 := kd_ne p1 e9 rfl
    have np0 : p ≠ b 0 := kd_ne p1 e0 rfl
    refine q_stQ (z := 7) (up_nx (Ne.symm n09) up_eq) (by decide) (by decide) (up_nx np0 (up_nx np p1)) rfl ?_
    refine q_gI (up_nx n09 up_eq) (by decide) rfl ?_
    refine q_pI (up_nx n09 up_eq) (by decide) (Nat.le_of_ble_eq_true rfl) ?_
    refine q_rV ⟨rfl, va_up (va_cpy f f 1 0 7) 7 (some p), ?_, fun j q hj => ?_⟩
    · have e := hset_two (h := h) (a := b 9) (b := b 0) (c := qA 9 8 (va_cpy f f 1 0 7)) (d := bC b len held rm z z' ft skm 7 ht sn) (c' := qA 9 8 (va_up (va_cpy f f 1 0 7) 7 (some p))) (d' := bC b len held rm z z' ft skm (keepU L x).length ht sn)
      rw [← e]
      have kl : (keepU L x).length = 8 := by
        unfold keepU; rw [if_pos c, List.length_append, List.length_drop, c]; rfl
      rw [kl]
      rfl
    · unfold keepU at hj
      rw [if_pos c] at hj
      by_cases cj : j < 7
      · rw [List.getElem?_append_left (by rw [List.length_drop]; omega), List.getElem?_drop] at hj
        obtain ⟨a, q1, q2⟩ := hf (1 + j) q hj
        refine ⟨a, ?_, q2⟩
        unfold va_up va_cpy
        rw [if_neg (by omega), if_pos (by omega), Nat.sub_zero]
        exact q1
      · rw [List.getElem?_append_right (by rw [List.length_drop]; omega), List.length_drop, c] at hj
        have j7 : j - (8 - 1) = 0 := by
          by_cases w : j - (8 - 1) = 0
          · exact w
          · rw [List.getElem?_eq_none (by simp; omega)] at hj
            cases hj
        have : j = 7 := by omega
        subst this
        rw [j7] at hj
        injection hj with hj
        subst hj
        exact ⟨p, va_up_self _ _ _, fp, p1, p2⟩
  · refine q_neg _ (ii_eqF (b := 8) (by omega)) ?_
    unfold c_B_keep_j34
    refine q_gQr e0 (by decide) rfl ?_
    refine q_gI e0 (by decide) rfl ?_
    refine q_nn ?_
    refine q_stQ e9 (by decide) (by omega) p1 rfl ?_
    refine q_gI (up_nx n09 e0) (by decide) rfl ?_
    refine q_pI (up_nx n09 e0) (by decide) (Nat.le_of_ble_eq_true rfl) ?_
    refine q_rV ⟨rfl, va_up f L.length (some p), ?_, fun j q hj => ?_⟩
    · rw [Int.toNat_natCast, add1]
      have kl : ((keepU L x).length : Int) = (L.length : Int) + 1 := by
        unfold keepU; rw [if_neg c, List.length_append]; rfl
      rw [kl]
      rfl
    · unfold keepU at hj
      rw [if_neg c] at hj
      by_cases cj : j < L.length
      · rw [List.getElem?_append_left cj] at hj
        obtain ⟨a, q1, q2⟩ := hf j q hj
        exact ⟨a, by unfold va_up; rw [if_neg (by omega)]; exact q1, q2⟩
      · rw [List.getElem?_append_right (by omega)] at hj
        have j7 : j - L.length = 0 := by
          by_cases w : j - L.length = 0
          · exact w
          · rw [List.getElem?_eq_none (by simp; omega)] at hj
            cases hj
        rw [j7] at hj
        injection hj with hj
        subst hj
        exact ⟨p, by unfold va_up; rw [if_pos (by omega)], fp, p1, p2⟩
/-- kept: the object's cells -/
theorem CBo.keep {x : SN} {p : Nat} (O : CBo b own X held rm z z' skm sn R R' N N' Tb seed rows' seed' h) (hL : X.L.length ≤ 8) (P : PA own (b 0) h p x.1) : EV (c_B_keep h (b 0) p) (fun h' => CBo b own (xL X (keepU X.L x)) held rm z z' skm sn R R' N N' Tb seed rows' seed' h' ∧ FX own own (b 0) (b 16) h h' ∧ h'.2 = h.2) := by
  have O' := O
  obtain ⟨e0, sk, D, S⟩ := O
  refine (b_keep e0 D.2.2.2.1 hL P).mono fun h' ⟨g, e, hg⟩ => ?_
  subst e
  obtain ⟨f, e9, _⟩ := D.2.2.2.1
  have n09 : b 0 ≠ b 9 := kd_ne e0 e9 rfl
  have D1 := rd_undo (L := keepU X.L x) D e9 hg
  have S1 := S.set (c := qA 9 8 g) e9 rfl
  have O1 : CBo b own X held rm z z' skm sn R R' N N' Tb seed rows' seed' (hset h (b 9) (qA 9 8 f)) := by rw [hset_same e9]; exact O'
  have F1 : FX own own (b 0) (b 16) h (hset h (b 9) (qA 9 8 g)) := FX.set S.2.2.2 e9 (nP rfl rfl rfl)
  obtain ⟨n8, n10⟩ := D1.ne8 (up_nx n09 e0) (by show 2 * 0 ≠ 1; decide)
  refine ⟨⟨up_eq, sk, D1.kx (KX.set (up_nx n09 e0) (fun q => (ff q rfl).elim) rfl (Or.inr rfl) (fun q => absurd q n8) (fun q => absurd q n10)), S1.set (up_nx n09 e0) rfl⟩, F1.trans (FX.set S1.2.2.2 (up_nx n09 e0) (nP rfl rfl rfl)) S.2.2.2, rfl⟩
end
