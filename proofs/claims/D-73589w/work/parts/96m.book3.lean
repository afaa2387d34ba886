/-! PURE SIDE: books: what is told of them; the model does the lines -/
set_option maxRecDepth 100000
abbrev xT (X : XS) (t : Nat → Int) : XS := (X.1, X.2.1, X.2.2.1, X.2.2.2.1, X.2.2.2.2.1, X.2.2.2.2.2.1, some t, X.2.2.2.2.2.2.2)
def tdV (w j bits ty : Nat) : Nat → Int := fun k => if k = 0 then w else if k = 1 then j else if k = 2 then bits else ty
section
variable {b own own' : Nat → Nat} {X : XS} {h h1 h' : PH} {held : Int} {rm z z' : Nat} {skm : Int} {sn : Option Nat} {R R' N N' : Nat → Nat} {Tb : Nat → Bool} {seed rows' seed' : Int32} {c s : Nat} {Z : Rt → PH → Prop}
theorem rd_told {f g : Nat → Int32} {t : Nat → Int} (D : RD b own h X rm sn) (nb : b 10 ≠ b 0 ∧ b 10 ≠ b 8) (e : h.1 (b 10) = some (.inl (0, 4, .inl f))) (hg : ∀ k, k < 4 → g k = ii (t k)) : RD b own (hset h (b 10) (.inl (0, 4, .inl g))) (xT X t) rm sn := by
  have o10 := D.k8.2.1
  have K : KX b own own 1010 h (hset h (b 10) (.inl (0, 4, .inl g))) := KX.set e (fun q => (ff q rfl).elim) rfl (Or.inl (by rw [o10]; exact nb.1)) (fun q => absurd q nb.2) (fun _ => rfl)
  obtain ⟨⟨p1, p2, p3⟩, p4, p5, p6, p7, p8, p9⟩ := D
  exact ⟨⟨p1.kx K, p2.kx K, p3.kx K⟩, p4.kx K, ⟨o10, g, up_eq, fun t' ht k hk => by injection ht with ht; rw [← ht]; exact hg k hk⟩, p6.kx K, p7.kx K, p8.im K.2.1 K.2.2.1, p9.im K.2.1 K.2.2.1⟩
/-- what is told of a book -/
theorem b_told4 {x1 x3 : Int32} {w j : Nat} {x2 : Option Nat} (O : CBo b own X held rm z z' skm sn R R' N N' Tb seed rows' seed' h) (L : Lt X.w.A X.w.T) (kk : ∀ h1, CBo b own (xT X (tdV w j ((X.w.A 0).flatten.length + (X.w.A 1).flatten.length + (X.w.A 2).flatten.length + (X.w.A 3).flatten.length) X.w.T.length)) held rm z z' skm sn R R' N N' Tb seed rows' seed' h1 → FX own own (b 0) (b 16) h h1 → (∀ x c, h.1 x = some c → x ≠ b 0 → x ≠ b 10 → h1.1 x = some c) → h1.2 = h.2 → Ends (if x1 = 0 then gQ h1 (b 0) [0] 7 fun v31 => nn x2 fun a32 => nn v31 fun a34 => hV (c_S_unpack h1 a34 a32) noX fun h36 => rI x3 h36 else if ii (j : Int) ≤ 0 then rI x3 h1 else nn x2 fun a28 => hV (c_B_keep h1 (b 0) a28) noX fun h30 => rI x3 h30) Z) : Ends (c_B_book_j186 h (b 0) x1 x2 x3 (ii w) (ii j)) Z := by
  obtain ⟨e0, sk, D, S⟩ := O
  have Ap := S.2.2.1
  have wf := S.2.2.2
  obtain ⟨d0, f, d1, d2⟩ := D.2.2.1
  have ap := Ap.2.2.2.2.2
  have n0 : b 0 ≠ b 10 := Ne.symm ap.2.2.2.1
  have n108 : b 10 ≠ b 8 := fun q => by
    obtain ⟨_, g8, g81, _⟩ := D.2.1
    rw [q, g81] at d1
    injection d1 with d1
    injection d1 with d1
    injection d1 with _ d1
    injection d1 with d1 _
    exact absurd d1 (by decide)
  have St : ∀ g : Nat → Int32, ST b own X.w z z' R R' N N' Tb seed rows' seed' (hset h (b 10) (.inl (0, 4, .inl g))) := fun g => ⟨S.1.mk (M := b 10) (fun k hk => (Ap.2.1 k hk).2.2) (fun x c e q => up_nx (fun y => by
    rw [y, d1] at e
    injection e with e
    rcases q with q | q
    · exact q (by rw [y]; exact d0)
    · rw [← e] at q; exact ff rfl q) e), S.2.1.mk (M := b 10) (fun k hk => (Ap.2.2.1 k hk).2.2) (fun x c e q => up_nx (fun y => by
    rw [y, d1] at e
    injection e with e
    rcases q with q | q
    · exact q (by rw [y]; exact d0)
    · rw [← e] at q; exact ff rfl q) e), Ap, wf.setE d1⟩
  unfold c_B_book_j186
  refine q_gQr e0 (by decide) rfl ?_
  refine q_nn ?_
  refine q_stI (z := 0) d1 (by decide) ?_
  refine q_gQr (up_nx n0 e0) (by decide) rfl ?_
  refine q_nn ?_
  refine q_stI (z := 1) up_eq (by decide) ?_
  rw [hset_hset]
  refine q_gQr (up_nx n0 e0) (by decide) rfl ?_
  refine q_gQr (up_nx n0 e0) (by decide) rfl ?_
  refine q_nn ?_
  refine q_hIe (z_bits (St _).1) ?_
  refine q_nn ?_
  refine q_stI (z := 2) up_eq (by decide) ?_
  rw [hset_hset]
  refine q_gQr (up_nx n0 e0) (by decide) rfl ?_
  refine q_gQr (up_nx n0 e0) (by decide) rfl ?_
  refine q_nn ?_
  refine q_hIe (z_typed (St _).1) ?_
  refine q_nn ?_
  refine q_stI (z := 3) up_eq (by decide) ?_
  rw [hset_hset, L.len]
  refine q_pZ (up_nx n0 e0) (by decide) (Nat.le_of_ble_eq_true rfl) (Or.inr rfl) ?_
  have hg : ∀ k, k < 4 → upd (upd (upd (upd f (Int.toNat 0) (ii w)) (Int.toNat 1) (ii j)) (Int.toNat 2) (ii (((X.w.A 0).flatten.length + (X.w.A 1).flatten.length + (X.w.A 2).flatten.length + (X.w.A 3).flatten.length : Nat) : Int))) (Int.toNat 3) (ii (X.w.T.length : Int)) k = ii (tdV w j ((X.w.A 0).flatten.length + (X.w.A 1).flatten.length + (X.w.A 2).flatten.length + (X.w.A 3).flatten.length) X.w.T.length k) := fun k hk => by
    match k, hk with
    | 0, _ => rfl
    | 1, _ => rfl
    | 2, _ => rfl
    | 3, _ => rfl
  have D1 := rd_told D ⟨Ne.symm n0, n108⟩ d1 hg
  obtain ⟨m8, m10⟩ := D1.ne8 (up_nx n0 e0) (by show 2 * 0 ≠ 1; decide)
  refine kk _ ⟨up_eq, sk, D1.kx (KX.set (up_nx n0 e0) (fun q => (ff q rfl).elim) rfl (Or.inr rfl) (fun q => absurd q m8) (fun q => absurd q m10)), (St _).set (up_nx n0 e0) rfl⟩ ((FX.set wf d1 (nPo rfl (by rw [d0]; exact Ne.symm n0) (by rw [d0]; exact ap.2.2.2.2))).trans (FX.set (wf.setE d1) (up_nx n0 e0) (nP rfl rfl rfl)) wf) (fun x c e q1 q2 => up_nx q1 (up_nx q2 e)) rfl
end
section
variable {m0 ms : MS} {ds : List DD} {low n : Nat} {Z : Option Value → MS → Prop}
/-- lines done by the model -/
theorem m_goBy {A : Nat → LL} {T : List Nat} {k : Nat} {d : DD} (M : MO (ms.1 14) low n A T) (I : IV low A) (L : Lt A T) (hn : n ≤ 4) (ok : DdOk n d) (hk : k < 40) (l : ms.1 30 (4 * k) = ii d.1 ∧ ms.1 30 (4 * k + 1) = ii d.2.1 ∧ ms.1 30 (4 * k + 2) = ii d.2.2.1 ∧ ms.1 30 (4 * k + 3) = ii d.2.2.2) : DI (d_M_goBy ms (ii (4 * k : Nat))) (fun v m' => (why A d.1 d.2.1 d.2.2.1 d.2.2.2 ≠ 0 ∧ v = ii (why A d.1 d.2.1 d.2.2.1 d.2.2.2 + 10 * d.1 : Nat) ∧ m' = ms) ∨ (why A d.1 d.2.1 d.2.2.1 d.2.2.2 = 0 ∧ v = ii (0 : Nat) ∧ GM ms m' ∧ ∀ A' T', DoSp low A T d.1 d.2.1 d.2.2.1 d.2.2.2 A' T' → MO (m'.1 14) low n A' T')) := by
  have dk := ok.ok hn
  have k0 := dk
  obtain ⟨k1, k2, k3, k4, k5, k6, k7, k8, k9⟩ := dk
  have e1 : ii ((4 * k : Nat) : Int) + (1 : Int32) = ii ((4 * k + 1 : Nat) : Int) := by rw [il_1, ii_add]; rfl
  have e2 : ii ((4 * k : Nat) : Int) + (2 : Int32) = ii ((4 * k + 2 : Nat) : Int) := by rw [il_2, ii_add]; rfl
  have e3 : ii ((4 * k : Nat) : Int) + (3 : Int32) = ii ((4 * k + 3 : Nat) : Int) := by rw [il_3, ii_add]; rfl
  have rf := m_refusal (r := d.2.1) (z := (d.2.2.1 : Int)) M I.len L.len L.1 k1 k2 (by omega) k4 (fun q => (k7 q).1) (fun _ => by omega)
  rw [if_neg (by omega), Int.toNat_natCast] at rf
  have wl := why_le (A := A) (what := d.1) (r := d.2.1) (i := d.2.2.1) (x := d.2.2.2)
  refine DI.of ?_
  unfold d_M_goBy
  rw [e1, e2, e3]
  refine d_eA (N := 160) rfl (n := 4 * k) (by omega) l.1 ?_
  refine d_eA (N := 160) rfl (n := 4 * k + 1) (by omega) l.2.1 ?_
  refine d_eA (N := 160) rfl (n := 4 * k + 2) (by omega) l.2.2.1 ?_
  refine d_eA (N := 160) rfl (n := 4 * k + 3) (by omega) l.2.2.2 ?_
  refine d_bIe rf ?_
  by_cases c : why A d.1 d.2.1 d.2.2.1 d.2.2.2 = 0
  · refine d_pos _ (by rw [c]; rfl) ?_
    refine d_eA (N := 160) rfl (n := 4 * k + 1) (by omega) l.2.1 ?_
    refine d_eA (N := 160) rfl (n := 4 * k + 2) (by omega) l.2.2.1 ?_
    refine d_eA (N := 160) rfl (n := 4 * k + 3) (by omega) l.2.2.2 ?_
    refine d_bV (m_does M I L k0 c) fun m1 ⟨g1, q1⟩ => ?_
    exact d_dI ⟨_, rfl, Or.inr ⟨c, rfl, g1, q1⟩⟩
  · refine d_neg _ (ii_eq0F (by omega)) ?_
    refine d_dI ⟨_, rfl, Or.inl ⟨c, ?_, rfl⟩⟩
    rw [il_10, ii_mul, ii_add]
    congr 1
    omega
theorem m_run {x1 : Int32} {A' : Nat → LL} {T' : List Nat} {w j : Nat} (hn : n ≤ 4) (hds : ds.length ≤ 40) (hdd : ∀ d, d ∈ ds → DdOk n d) (kk : ∀ m', GM ms m' → MO (m'.1 14) low n A' T' → DE (d_M_book_j108 m' x1 (ii j) (ii w)) Z) : ∀ (es : List DD) (fu k jj : Nat) (A : Nat → LL) (T : List Nat) (m' : MS), es = ds.drop k → k ≤ ds.length → es.length + 2 < fu → k + jj = j → RunR low es A T w jj A' T' → MO (m'.1 14) low n A T → GM ms m' → LnR ms ds → ms.1 32 0 = ii ds.length → IV low A → Lt A T → DE (itr (d_M_book_l78) (fun _ _ _ _ => none) fu m' x1 (ii k) (ii (0 : Nat))) Z := by
  intro es
  induction es with
  | nil =>
    intro fu k jj A T m' he hk hf hj hR M G Ln n32 Iv Lv
    obtain ⟨fu, rfl⟩ : ∃ x, fu = x + 1 := ⟨fu - 1, by omega⟩
    obtain ⟨r1, r2, r3, r4⟩ := hR
    have hk2 : ds.length ≤ k := by
      have := congrArg List.length he
      rw [List.length_drop, List.length_nil] at this
      omega
    rw [itr_succ]
    unfold d_M_book_l78
    rw [G.2.1 32 (by decide), n32]
    refine d_nm ?_
    refine d_pos _ (ii_leT (by omega)) ?_
    have := kk m' G (by rw [r3, r4]; exact M)
    rw [r1, ← hj, r2, Nat.add_zero] at this
    exact this
  | cons d es ih =>
    intro fu k jj A T m' he hk hf hj hR M G Ln n32 Iv Lv
    obtain ⟨fu, rfl⟩ : ∃ x, fu = x + 1 := ⟨fu - 1, by omega⟩
    rw [List.length_cons] at hf
    have hk2 : k < ds.length := by
      have := congrArg List.length he
      rw [List.length_drop, List.length_cons] at this
      omega
    have hd : ds[k]? = some d := by
      have : (ds.drop k)[0]? = some d := by rw [← he]; rfl
      rw [List.getElem?_drop, Nat.add_zero] at this
      exact this
    have hes : es = ds.drop (k + 1) := by
      have := congrArg (List.drop 1) he
      rw [List.drop_drop] at this
      exact this
    have ln := Ln k d hd
    rw [← G.2.1 30 (by decide)] at ln
    rw [itr_succ]
    unfold d_M_book_l78
    rw [G.2.1 32 (by decide), n32]
    refine d_nm ?_
    refine d_neg _ (ii_leF (by omega)) ?_
    refine d_pos _ rfl ?_
    have e4 : (4 : Int32) * ii (k : Int) = ii ((4 * k : Nat) : Int) := by rw [il_4, ii_mul]; rfl
    rw [e4]
    refine d_bI (m_goBy M Iv Lv hn (hdd d (List.mem_of_getElem? hd)) (by omega) ln) fun v m1 q => ?_
    have wl := why_le (A := A) (what := d.1) (r := d.2.1) (i := d.2.2.1) (x := d.2.2.2)
    have d8 := (hdd d (List.mem_of_getElem? hd)).1
    rcases q with ⟨c, ev, em⟩ | ⟨c, ev, g1, q1⟩
    · subst ev em
      refine d_neg _ (ii_eq0F (by omega)) ?_
      rcases hR with ⟨_, r1, r2, r3, r4⟩ | ⟨c', _⟩
      · obtain ⟨fu, rfl⟩ : ∃ x, fu = x + 1 := ⟨fu - 1, by omega⟩
        rw [itr_succ]
        rw [G.2.1 32 (by decide), n32]
        refine d_nm ?_
        refine d_neg _ (ii_leF (by omega)) ?_
        refine d_neg _ (ii_eq0F (by omega)) ?_
        have := kk m1 G (by rw [r3, r4]; exact M)
        rw [r1, ← hj, r2, Nat.add_zero] at this
        exact this
      · exact absurd c' c
    · subst ev
      refine d_pos _ rfl ?_
      rcases hR with ⟨c', _⟩ | ⟨_, A1, T1, k1, iv1, sp, r1, r2⟩
      · exact absurd c c'
      · rw [add1]
        exact ih fu (k + 1) k1 A1 T1 m1 hes (by omega) (by omega) (by omega) r2 (q1 A1 T1 sp) (G.trans g1) Ln n32 iv1.1 iv1.2
end
