/-! PURE SIDE: a state: eleven ropes -/
set_option maxRecDepth 100000
def s11 (N : Nat → Nat) : Nat := N 0 + N 1 + N 2 + N 3 + N 4 + N 5 + N 6 + N 7 + N 8 + N 9 + N 10
theorem s11_up {N : Nat → Nat} {k v : Nat} (hk : k < 11) : s11 (va_up N k v) + N k = s11 N + v := by
  unfold s11 va_up
  match k, hk with
  | 0, _ => simp; omega
  | 1, _ => simp; omega
  | 2, _ => simp; omega
  | 3, _ => simp; omega
  | 4, _ => simp; omega
  | 5, _ => simp; omega
  | 6, _ => simp; omega
  | 7, _ => simp; omega
  | 8, _ => simp; omega
  | 9, _ => simp; omega
  | 10, _ => simp; omega
def SR (own : Nat → Nat) (B : Nat) (h : PH) (z low : Nat) (A : Nat → LL) (R N : Nat → Nat) (T : Nat → Bool) (rows seed : Int32) : Prop :=
  (∃ ra na rf nf, h.1 z = some (.inr (3, [.ref ra, .ref na, .int rows, .int seed])) ∧ h.1 ra = some (.inl (7, 4, .inr (.inr (.inr (.inr rf))))) ∧ h.1 na = some (.inl (7, 7, .inr (.inr (.inr (.inr nf))))) ∧ (∀ k, k < 4 → rf k = some (R k)) ∧ (∀ k, k < 7 → nf k = some (R (4 + k)))) ∧ (∀ k, k < 11 → RP own (R k) h low (A k) (N k) (T k)) ∧ (∀ j k, j < 11 → k < 11 → R j = R k → j = k) ∧ ∀ k, k < 11 → R k ≠ B
/-- acts within a state -/
def GF (own own' : Nat → Nat) (R : Nat → Nat) (z : Nat) (h h' : PH) : Prop := h.2.1.1 ≤ h'.2.1.1 ∧ h.2.1.2 ≤ h'.2.1.2 ∧ h'.2.2 = h.2.2 ∧ Wf h' ∧ (∀ x, x < h.2.1.1 → own' x = own x) ∧ ∀ x c, h.1 x = some c → x ≠ z → ((∀ k, k < 11 → own x ≠ R k) ∨ rK c = false) → h'.1 x = some c
def SO (own : Nat → Nat) (B z low : Nat) (R N : Nat → Nat) (h : PH) (A' : Nat → LL) (rows' seed' : Int32) (c s : Nat) (h' : PH) : Prop := ∃ own' N' T', SR own' B h' z low A' R N' T' rows' seed' ∧ GF own own' R z h h' ∧ h'.2.1.1 + 2 * s11 N' ≤ h.2.1.1 + 2 * s11 N + c ∧ h'.2.1.2 + 7 * s11 N' ≤ h.2.1.2 + 7 * s11 N + s
section
variable {own own' own1 own2 : Nat → Nat} {B z low : Nat} {h h' h1 h2 : PH} {A A' : Nat → LL} {R N N' : Nat → Nat} {T T' : Nat → Bool} {rows seed rows' seed' : Int32} {Q : Rt → PH → Prop}
theorem GF.rf (w : Wf h) : GF own own R z h h := ⟨Nat.le_refl _, Nat.le_refl _, rfl, w, fun _ _ => rfl, fun _ _ e _ _ => e⟩
theorem GF.trans (o : GF own own1 R z h h1) (k : GF own1 own2 R z h1 h2) (w : Wf h) : GF own own2 R z h h2 := ⟨Nat.le_trans o.1 k.1, Nat.le_trans o.2.1 k.2.1, k.2.2.1.trans o.2.2.1, k.2.2.2.1, fun x hx => (k.2.2.2.2.1 x (Nat.lt_of_lt_of_le hx o.1)).trans (o.2.2.2.2.1 x hx), fun x c e n q => k.2.2.2.2.2 x c (o.2.2.2.2.2 x c e n q) n (by rw [o.2.2.2.2.1 x (w.lt e)]; exact q)⟩
theorem GF.wf (o : GF own own' R z h h') : Wf h' := o.2.2.2.1
theorem GF.kd {x : Nat} {c : PC} (o : GF own own' R z h h') (e : h.1 x = some c) (n : x ≠ z) (k : rK c = false) : h'.1 x = some c := o.2.2.2.2.2 x c e n (Or.inr k)
theorem SR.cell (S : SR own B h z low A R N T rows seed) : ∃ ra na rf nf, h.1 z = some (.inr (3, [.ref ra, .ref na, .int rows, .int seed])) ∧ h.1 ra = some (.inl (7, 4, .inr (.inr (.inr (.inr rf))))) ∧ h.1 na = some (.inl (7, 7, .inr (.inr (.inr (.inr nf))))) ∧ (∀ k, k < 4 → rf k = some (R k)) ∧ (∀ k, k < 7 → nf k = some (R (4 + k))) := S.1
theorem SR.grd {P : Option RH} (S : SR own B h z low A R N T rows seed) (kk : Ends P Q) : Ends (grd h z [3] P) Q := by
  obtain ⟨ra, na, rf, nf, e1, -⟩ := S.1
  exact q_grd e1 (by decide) kk
theorem q_rp {r : Nat} {K : Nat → Option RH} (S : SR own B h z low A R N T rows seed) (hr : r < 4) (kk : Ends (K (R r)) Q) : Ends (gQ h z [3] 0 fun v1 => nn v1 fun a2 => ldQ h a2 (ii (r : Int)) fun v4 => nn v4 fun a5 => K a5) Q := by
  obtain ⟨ra, na, rf, nf, e1, e2, e3, e4, e5⟩ := S.1
  refine q_gQr e1 (by decide) rfl ?_
  refine q_nn ?_
  refine q_ldQn e2 (by decide) (by omega) (e4 r hr) ?_
  exact q_nn kk
theorem q_nd {n : Nat} {K : Nat → Option RH} (S : SR own B h z low A R N T rows seed) (hn : n < 7) (kk : Ends (K (R (4 + n))) Q) : Ends (gQ h z [3] 1 fun v1 => nn v1 fun a2 => ldQ h a2 (ii (n : Int)) fun v4 => nn v4 fun a5 => K a5) Q := by
  obtain ⟨ra, na, rf, nf, e1, e2, e3, e4, e5⟩ := S.1
  refine q_gQr e1 (by decide) rfl ?_
  refine q_nn ?_
  refine q_ldQn e3 (by decide) (by omega) (e5 n hn) ?_
  exact q_nn kk
theorem RF.gf {k : Nat} (o : RF own (R k) h h') (hk : k < 11) (ho : ∀ x, x < h.2.1.1 → own' x = own x) : GF own own' R z h h' := ⟨o.1, o.2.1, o.2.2.1, o.wf, ho, fun x c e _ q => o.2.2.2.2 x c e (by
  rcases q with q | q
  · exact Or.inl (q k hk)
  · exact Or.inr q)⟩
theorem up_at {α : Type} {f : Nat → α} {k : Nat} {v : α} : va_up f k v k = v := va_up_self _ _ _
/-- an act on one rope is one on the state -/
theorem SR.lift {k nu' : Nat} {l' : LL} {bt' : Bool} (S : SR own B h z low A R N T rows seed) (wf : Wf h) (hk : k < 11) (ho : ∀ x, x < h.2.1.1 → own' x = own x) (P : RP own' (R k) h' low l' nu' bt') (o : RF own (R k) h h') : SR own' B h' z low (va_up A k l') R (va_up N k nu') (va_up T k bt') rows seed ∧ GF own own' R z h h' := by
  obtain ⟨⟨ra, na, rf, nf, e1, e2, e3, e4, e5⟩, s2, s3, s4⟩ := S
  refine ⟨⟨⟨ra, na, rf, nf, o.kd e1 rfl, o.kd e2 rfl, o.kd e3 rfl, e4, e5⟩, fun j hj => ?_, s3, s4⟩, o.gf hk ho⟩
  by_cases c : j = k
  · subst c
    rw [up_at, up_at, up_at]
    exact P
  · rw [va_up_ne _ _ c, va_up_ne _ _ c, va_up_ne _ _ c]
    have n : R j ≠ R k := fun q => c (s3 j k hj hk q)
    exact ((s2 j hj).owx fun x cc e => ho x (wf.lt e)).fr fun x cc hx e => o.ow e (by rw [← ho x (wf.lt e), hx]; exact n)
theorem va_up_same {α : Type} {f : Nat → α} {k : Nat} : va_up f k (f k) = f := by
  funext x
  unfold va_up
  by_cases c : x = k
  · rw [if_pos c, c]
  · rw [if_neg c]
theorem SO.rf (S : SR own B h z low A R N T rows seed) (wf : Wf h) : SO own B z low R N h A rows seed 0 0 h := ⟨own, N, T, S, GF.rf wf, Nat.le_refl _, Nat.le_refl _⟩
theorem SO.one {k nu' c s : Nat} {l' : LL} {bt' : Bool} (S : SR own B h z low A R N T rows seed) (wf : Wf h) (hk : k < 11) (ho : ∀ x, x < h.2.1.1 → own' x = own x) (P : RP own' (R k) h' low l' nu' bt') (o : RF own (R k) h h') (z1 : h'.2.1.1 + 2 * nu' ≤ h.2.1.1 + 2 * N k + c) (z2 : h'.2.1.2 + 7 * nu' ≤ h.2.1.2 + 7 * N k + s) : SO own B z low R N h (va_up A k l') rows seed c s h' := by
  obtain ⟨S', G⟩ := S.lift wf hk ho P o
  have := s11_up (N := N) (v := nu') hk
  exact ⟨own', va_up N k nu', va_up T k bt', S', G, by omega, by omega⟩
theorem SO.trans {c1 s1 c2 s2 : Nat} {A1 : Nat → LL} {own1 N1 T1} (wf : Wf h) (S1 : SR own1 B h1 z low A1 R N1 T1 rows seed) (G : GF own own1 R z h h1) (z1 : h1.2.1.1 + 2 * s11 N1 ≤ h.2.1.1 + 2 * s11 N + c1) (z2 : h1.2.1.2 + 7 * s11 N1 ≤ h.2.1.2 + 7 * s11 N + s1) (k : SO own1 B z low R N1 h1 A' rows' seed' c2 s2 h') : SO own B z low R N h A' rows' seed' (c1 + c2) (s1 + s2) h' := by
  obtain ⟨own2, N2, T2, S2, G2, y1, y2⟩ := k
  exact ⟨own2, N2, T2, S2, G.trans G2 wf, by omega, by omega⟩
theorem SO.wk {c s c' s' : Nat} (k : SO own B z low R N h A' rows' seed' c s h') (hc : c ≤ c') (hs : s ≤ s') : SO own B z low R N h A' rows' seed' c' s' h' := by
  obtain ⟨own2, N2, T2, S2, G2, y1, y2⟩ := k
  exact ⟨own2, N2, T2, S2, G2, by omega, by omega⟩
theorem ow_old {x n ρ : Nat} (h : x < n) : ow own n ρ x = own x := ow_lt h
/-- reading a rope -/
theorem SO.read {k : Nat} {bt' : Bool} (S : SR own B h z low A R N T rows seed) (wf : Wf h) (hk : k < 11) (P : RP own (R k) h' low (A k) (N k) bt') (o : RF own (R k) h h') (z1 : h'.2 = h.2) : SO own B z low R N h A rows seed 0 0 h' := by
  have := SO.one (c := 0) (s := 0) S wf hk (fun _ _ => rfl) P o (by rw [z1]; exact Nat.le_refl _) (by rw [z1]; exact Nat.le_refl _)
  rw [va_up_same] at this
  exact this
theorem z_typed (S : SR own B h z low A R N T rows seed) : c_S_typed h z = rI (ii (A 4).flatten.length) h := by
  refine eqI ?_
  unfold c_S_typed
  refine S.grd ?_
  rw [il_0]
  refine q_nd (n := 0) S (by decide) ?_
  refine q_hIe (p_wide (S.2.1 4 (by decide))) ?_
  exact q_rI ⟨rfl, rfl⟩
end
def why (A : Nat → LL) (what r i x : Nat) : Nat := match what with
  | 0 => if (A r).flatten.length < i then 1 else if (A r).flatten.length = 600 then 2 else 0
  | 1 => if (A r).flatten.length ≤ i then 1 else if bn (gb (A r).flatten i) = x then 2 else 0
  | 2 => if (A r).flatten.length < i + x then 1 else 0
  | 3 => if (A r).flatten.length < i + x then 1 else 0
  | 4 => if (A x).flatten.length = 0 then 1 else if 600 < (A r).flatten.length + (A x).flatten.length then 2 else 0
  | 5 => if (A r).flatten.length ≤ i then 1 else if 600 < (A x).flatten.length + (A r).flatten.length - i then 2 else 0
  | 6 => if (A 4).flatten.length < i then 1 else if (A 4).flatten.length = 200 then 2 else 0
  | _ => if (A 4).flatten.length < i + x then 1 else 0
section
variable {own own' own1 own2 : Nat → Nat} {B z low : Nat} {h h' h1 h2 : PH} {A A' : Nat → LL} {R N N' : Nat → Nat} {T T' : Nat → Bool} {rows seed rows' seed' : Int32} {Q : Rt → PH → Prop}
theorem z_why {what r i x : Nat} (S : SR own B h z low A R N T rows seed) (wf : Wf h) (hw : what < 8) (hr : r < 4) (hi : i < 2147483648) (hx : x ≤ 600) (hi2 : 2 ≤ what → i ≤ 999) (hx4 : what = 4 ∨ what = 5 → x < 4) : EI (c_S_whyNot h z (ii what) (ii r) (ii i) (ii x)) (fun v h' => v = ii (why A what r i x) ∧ SO own B z low R N h A rows seed 0 0 h') := by
  have br := (S.2.1 r (by omega)).bnd
  have b4 := (S.2.1 4 (by omega)).bnd
  have rfl' := SO.rf S wf
  refine EI.of ?_
  unfold c_S_whyNot
  refine S.grd ?_
  have lit : ∀ k : Nat, k < 8 → what ≠ k → ¬ ii (what : Int) = ii (k : Int) := fun k hk n => ii_eqF (by omega)
  match what, hw with
  | 0, _ =>
    refine q_pos _ rfl ?_
    refine q_rp S hr ?_
    refine q_hIe (p_wide (S.2.1 r (by omega))) ?_
    simp only [why]
    by_cases c1 : (A r).flatten.length < i
    · refine q_neg _ (ii_leF (by omega)) ?_
      refine q_rI ⟨_, rfl, ?_, rfl'⟩
      rw [if_pos c1]; rfl
    · refine q_pos _ (ii_leT (by omega)) ?_
      refine q_rp S hr ?_
      refine q_hIe (p_wide (S.2.1 r (by omega))) ?_
      by_cases c2 : (A r).flatten.length = 600
      · refine q_pos _ (ii_eqT (b := 600) (by omega)) ?_
        refine q_rI ⟨_, rfl, ?_, rfl'⟩
        rw [if_neg c1, if_pos c2]; rfl
      · refine q_neg _ (ii_eqF (b := 600) (by omega)) ?_
        refine q_rI ⟨_, rfl, ?_, rfl'⟩
        rw [if_neg c1, if_neg c2]; rfl
  | 1, _ =>
    refine q_neg _ (by decide) ?_
    refine q_pos _ rfl ?_
    refine q_rp S hr ?_
    refine q_hIe (p_wide (S.2.1 r (by omega))) ?_
    simp only [why]
    by_cases c1 : (A r).flatten.length ≤ i
    · refine q_neg _ (ii_ltF (by omega)) ?_
      refine q_rI ⟨_, rfl, ?_, rfl'⟩
      rw [if_pos c1]; rfl
    · refine q_pos _ (ii_ltT (by omega)) ?_
      refine q_rp S hr ?_
      refine q_hI (p_get (S.2.1 r (by omega)) wf (by omega)) fun v h3 ⟨g1, g2, g3, g4⟩ => ?_
      subst g1
      have so := SO.read S wf (by omega) g2 g3 g4
      have b1 := bn_le (gb (A r).flatten i)
      by_cases c2 : bn (gb (A r).flatten i) = x
      · refine q_pos _ (ii_eqT (by omega)) ?_
        refine q_rI ⟨_, rfl, ?_, so⟩
        rw [if_neg c1, if_pos c2]; rfl
      · refine q_neg _ (ii_eqF (by omega)) ?_
        refine q_rI ⟨_, rfl, ?_, so⟩
        rw [if_neg c1, if_neg c2]; rfl
  | 2, _ =>
    refine q_neg _ (by decide) ?_
    refine q_neg _ (by decide) ?_
    refine q_pos _ rfl ?_
    unfold c_S_whyNot_j120
    refine q_rp S hr ?_
    refine q_hIe (p_wide (S.2.1 r (by omega))) ?_
    rw [ii_add]
    simp only [why]
    have := hi2 (by decide)
    by_cases c1 : (A r).flatten.length < i + x
    · refine q_neg _ (ii_leF (by omega)) ?_
      refine q_rI ⟨_, rfl, ?_, rfl'⟩
      rw [if_pos c1]; rfl
    · refine q_pos _ (ii_leT (by omega)) ?_
      refine q_rI ⟨_, rfl, ?_, rfl'⟩
      rw [if_neg c1]; rfl
  | 3, _ =>
    refine q_neg _ (by decide) ?_
    refine q_neg _ (by decide) ?_
    refine q_neg _ (by decide) ?_
    refine q_pos _ rfl ?_
    unfold c_S_whyNot_j120
    refine q_rp S hr ?_
    refine q_hIe (p_wide (S.2.1 r (by omega))) ?_
    rw [ii_add]
    simp only [why]
    have := hi2 (by decide)
    by_cases c1 : (A r).flatten.length < i + x
    · refine q_neg _ (ii_leF (by omega)) ?_
      refine q_rI ⟨_, rfl, ?_, rfl'⟩
      rw [if_pos c1]; rfl
    · refine q_pos _ (ii_leT (by omega)) ?_
      refine q_rI ⟨_, rfl, ?_, rfl'⟩
      rw [if_neg c1]; rfl
  | 4, _ =>
    have hx4 := hx4 (Or.inl rfl)
    have bx := (S.2.1 x (by omega)).bnd
    refine q_neg _ (by decide) ?_
    refine q_neg _ (by decide) ?_
    refine q_neg _ (by decide) ?_
    refine q_neg _ (by decide) ?_
    refine q_pos _ rfl ?_
    refine q_rp S hx4 ?_
    refine q_hIe (p_wide (S.2.1 x (by omega))) ?_
    simp only [why]
    by_cases c1 : (A x).flatten.length = 0
    · refine q_pos _ (ii_eqT (b := 0) (by omega)) ?_
      refine q_rI ⟨_, rfl, ?_, rfl'⟩
      rw [if_pos c1]; rfl
    · refine q_neg _ (ii_eq0F (by omega)) ?_
      refine q_rp S hr ?_
      refine q_hIe (p_wide (S.2.1 r (by omega))) ?_
      refine q_rp S hx4 ?_
      refine q_hIe (p_wide (S.2.1 x (by omega))) ?_
      rw [ii_add]
      by_cases c2 : 600 < (A r).flatten.length + (A x).flatten.length
      · refine q_neg _ (ii_leF (b := 600) (by omega)) ?_
        refine q_rI ⟨_, rfl, ?_, rfl'⟩
        rw [if_neg c1, if_pos c2]; rfl
      · refine q_pos _ (ii_leT (b := 600) (by omega)) ?_
        refine q_rI ⟨_, rfl, ?_, rfl'⟩
        rw [if_neg c1, if_neg c2]; rfl
  | 5, _ =>
    have hx4 := hx4 (Or.inr rfl)
    have bx := (S.2.1 x (by omega)).bnd
    refine q_neg _ (by decide) ?_
    refine q_neg _ (by decide) ?_
    refine q_neg _ (by decide) ?_
    refine q_neg _ (by decide) ?_
    refine q_neg _ (by decide) ?_
    refine q_pos _ rfl ?_
    refine q_rp S hr ?_
    refine q_hIe (p_wide (S.2.1 r (by omega))) ?_
    simp only [why]
    by_cases c1 : (A r).flatten.length ≤ i
    · refine q_neg _ (ii_ltF (by omega)) ?_
      refine q_rI ⟨_, rfl, ?_, rfl'⟩
      rw [if_pos c1]; rfl
    · refine q_pos _ (ii_ltT (by omega)) ?_
      refine q_rp S hx4 ?_
      refine q_hIe (p_wide (S.2.1 x (by omega))) ?_
      refine q_rp S hr ?_
      refine q_hIe (p_wide (S.2.1 r (by omega))) ?_
      rw [ii_add, ii_sub]
      by_cases c2 : 600 < (A x).flatten.length + (A r).flatten.length - i
      · refine q_neg _ (ii_leF (b := 600) (by omega)) ?_
        refine q_rI ⟨_, rfl, ?_, rfl'⟩
        rw [if_neg c1, if_pos c2]; rfl
      · refine q_pos _ (ii_leT (b := 600) (by omega)) ?_
        refine q_rI ⟨_, rfl, ?_, rfl'⟩
        rw [if_neg c1, if_neg c2]; rfl
  | 6, _ =>
    refine q_neg _ (by decide) ?_
    refine q_neg _ (by decide) ?_
    refine q_neg _ (by decide) ?_
    refine q_neg _ (by decide) ?_
    refine q_neg _ (by decide) ?_
    refine q_neg _ (by decide) ?_
    refine q_pos _ rfl ?_
    refine q_hIe (z_typed S) ?_
    simp only [why]
    by_cases c1 : (A 4).flatten.length < i
    · refine q_neg _ (ii_leF (by omega)) ?_
      refine q_rI ⟨_, rfl, ?_, rfl'⟩
      rw [if_pos c1]; rfl
    · refine q_pos _ (ii_leT (by omega)) ?_
      refine q_hIe (z_typed S) ?_
      by_cases c2 : (A 4).flatten.length = 200
      · refine q_pos _ (ii_eqT (b := 200) (by omega)) ?_
        refine q_rI ⟨_, rfl, ?_, rfl'⟩
        rw [if_neg c1, if_pos c2]; rfl
      · refine q_neg _ (ii_eqF (b := 200) (by omega)) ?_
        refine q_rI ⟨_, rfl, ?_, rfl'⟩
        rw [if_neg c1, if_neg c2]; rfl
  | 7, _ =>
    refine q_neg _ (by decide) ?_
    refine q_neg _ (by decide) ?_
    refine q_neg _ (by decide) ?_
    refine q_neg _ (by decide) ?_
    refine q_neg _ (by decide) ?_
    refine q_neg _ (by decide) ?_
    refine q_neg _ (by decide) ?_
    refine q_hIe (z_typed S) ?_
    rw [ii_add]
    simp only [why]
    have := hi2 (by decide)
    by_cases c1 : (A 4).flatten.length < i + x
    · refine q_neg _ (ii_leF (by omega)) ?_
      refine q_rI ⟨_, rfl, ?_, rfl'⟩
      rw [if_pos c1]; rfl
    · refine q_pos _ (ii_leT (by omega)) ?_
      refine q_rI ⟨_, rfl, ?_, rfl'⟩
      rw [if_neg c1]; rfl
end
