/-! PURE SIDE: a state packed, unpacked, begun -/
set_option maxRecDepth 100000
def PA (own : Nat → Nat) (B : Nat) (h : PH) (a : Nat) (A : Nat → LL) : Prop := ∃ f, h.1 a = some (.inl (8, 11, .inr (.inr (.inr (.inr f))))) ∧ ∀ k, k < 11 → ∃ p, f k = some p ∧ PK own B h p (A k)
section
variable {B z low : Nat} {R : Nat → Nat} {rows seed : Int32}
theorem PA.gf {own own' : Nat → Nat} {h h' : PH} {a : Nat} {A : Nat → LL} {fs : List Value} (P : PA own B h a A) (o : GF own own' R z h h') (wf : Wf h) (ez : h.1 z = some (.inr (3, fs))) (hB : ∀ k, k < 11 → R k ≠ B) : PA own' B h' a A := by
  obtain ⟨f, p1, p2⟩ := P
  refine ⟨f, o.kd p1 (kd_ne p1 ez rfl) rfl, fun k hk => ?_⟩
  obtain ⟨p, q1, q2⟩ := p2 k hk
  exact ⟨p, q1, q2.gf o wf ez hB⟩
theorem GF.set {own : Nat → Nat} {h : PH} {x : Nat} {c d : PC} (wf : Wf h) (e : h.1 x = some d) (hx : x = z) : GF own own R z h (hset h x c) := ⟨Nat.le_refl _, Nat.le_refl _, rfl, wf.setE e, fun _ _ => rfl, fun y c' e' n _ => up_nx (by rw [hx]; exact n) e'⟩
theorem RP.kp {own : Nat → Nat} {ρ : Nat} {h h' : PH} {low nu : Nat} {ls : LL} {bt : Bool} (P : RP own ρ h low ls nu bt) (o : ∀ x c, h.1 x = some c → rK c = true → h'.1 x = some c) : RP own ρ h' low ls nu bt := by
  obtain ⟨r1, r2, w, row, root, mx, at_, r3, r4, r5, r6, r7⟩ := P
  have lk : ∀ p, LeafE h p → LeafE h' p := fun p e => by
    obtain ⟨n, oo, t, wd, e1, e2⟩ := e
    exact ⟨n, oo, t, wd, o _ _ e1 rfl, o _ _ e2 rfl⟩
  have ll : ∀ p l, LeafL h p l → LeafL h' p l := fun p l e => by
    obtain ⟨a1, g, ⟨s, v, g1, g2, g3⟩, a3⟩ := e
    exact ⟨a1, g, ⟨s, v, o _ _ g1 rfl, o _ _ g2 rfl, g3⟩, a3⟩
  have tk : ∀ (d b : Nat) (a lo hi : Nat) (xs : LX), Tree own ρ b h d a xs lo hi → Tree own ρ b h' d a xs lo hi := by
    intro d b
    induction d with
    | zero => intro a lo hi xs T; exact absurd T id
    | succ d ih =>
      intro a lo hi xs T
      rcases T with ⟨l, q, q1, q2, q3, q4, q5, q6⟩ | ⟨ka, k0, k1, m, m', w, x0, x1, ⟨u1, ⟨t, f, f1, f2, f3, f4, f5⟩, u3, u4, t0, t1⟩, e, q⟩
      · exact Or.inl ⟨l, q, ll _ _ q1, q2, q3, q4, q5, q6⟩
      · have ft : rK (.inl (t, 2, .inr (.inr (.inr (.inr f))))) = true := by
          have : t = 4 ∨ t = 5 ∨ t = 6 := by omega
          rcases this with q | q | q <;> (subst q; rfl)
        exact Or.inr ⟨ka, k0, k1, m, m', w, x0, x1, ⟨u1, ⟨t, f, o _ _ f1 ft, f2, f3, f4, f5⟩, u3, u4, ih _ _ _ _ t0, ih _ _ _ _ t1⟩, o _ _ e rfl, q⟩
  refine ⟨r1, r2, w, row, root, mx, at_, ⟨o _ _ r3.1 rfl, r3.2.1, fun k a hk e => ⟨(r3.2.2.1 k a hk e).1, (r3.2.2.1 k a hk e).2.1, lk a (r3.2.2.1 k a hk e).2.2⟩, r3.2.2.2⟩, r4, o _ _ r5 rfl, fun q => ⟨(r6 q).1, ?_⟩, fun q => ⟨(r7 q).1, fun k l e => ?_⟩⟩
  · rcases (r6 q).2 with Bt | ⟨a, xs, b, hi, e1, e2, e3, e4, T⟩
    · exact Or.inl Bt
    · exact Or.inr ⟨a, xs, b, hi, e1, e2, e3, e4, tk _ _ _ _ _ _ T⟩
  · obtain ⟨p, p1, p2⟩ := (r7 q).2 k l e
    exact ⟨p, p1, ll p l p2⟩
theorem z_pack_l8 {a0 : Nat} : ∀ (m fu k : Nat) (h : PH) (own : Nat → Nat) (N : Nat → Nat) (T : Nat → Bool) (A : Nat → LL) (f : Nat → Option Nat), m < fu → k + m = 11 → SR own B h z low A R N T rows seed → Wf h → h.1 a0 = some (.inl (8, 11, .inr (.inr (.inr (.inr f))))) → (∀ j, j < k → ∃ p, f j = some p ∧ PK own B h p (A j)) → EQ (itr (c_S_pack_l8) (fun _ _ _ _ => none) fu h z a0 (ii k)) (fun v h' => v = some a0 ∧ ∃ own' N' T', SR own' B h' z low A R N' T' rows seed ∧ h'.2.1.1 + 2 * s11 N' ≤ h.2.1.1 + 2 * s11 N + 3 * m ∧ h'.2.1.2 + 7 * s11 N' ≤ h.2.1.2 + 7 * s11 N + 170 * m ∧ PA own' B h' a0 A ∧ h.2.1.1 ≤ h'.2.1.1 ∧ h.2.1.2 ≤ h'.2.1.2 ∧ h'.2.2 = h.2.2 ∧ Wf h' ∧ (∀ x, x < h.2.1.1 → own' x = own x) ∧ ∀ x c, h.1 x = some c → x ≠ z → x ≠ a0 → ((∀ k, k < 11 → own x ≠ R k) ∨ rK c = false) → h'.1 x = some c) := by
  intro m
  induction m with
  | zero =>
    intro fu k h own N T A f hf hk S wf ea hP
    obtain ⟨fu, rfl⟩ : ∃ x, fu = x + 1 := ⟨fu - 1, by omega⟩
    refine EQ.of ?_
    rw [itr_succ]
    unfold c_S_pack_l8
    refine q_alen2 ea (by decide) ?_
    refine q_pos _ (ii_leT (by omega)) ?_
    exact q_rQ ⟨some a0, rfl, rfl, own, N, T, S, Nat.le_refl _, Nat.le_refl _, ⟨f, ea, fun j hj => hP j (by omega)⟩, Nat.le_refl _, Nat.le_refl _, rfl, wf, fun _ _ => rfl, fun _ _ e _ _ _ => e⟩
  | succ m ih =>
    intro fu k h own N T A f hf hk S wf ea hP
    obtain ⟨fu, rfl⟩ : ∃ x, fu = x + 1 := ⟨fu - 1, by omega⟩
    have hk11 : k < 11 := by omega
    obtain ⟨ra, na, rf, nf, z1, -⟩ := S.cell
    have naz : a0 ≠ z := kd_ne ea z1 rfl
    refine EQ.of ?_
    rw [itr_succ]
    have key : ∀ h8 p, PK (ow own h.2.1.1 B) B h8 p (A k) → RP (ow own h.2.1.1 B) (R k) h8 low (A k) (N k) (T k) → RF own (R k) h h8 → h8.2.1.1 ≤ h.2.1.1 + 3 → h8.2.1.2 ≤ h.2.1.2 + 170 → Ends (stQ h8 a0 (ii k) (some p) fun h10 => itr (c_S_pack_l8) (fun _ _ _ _ => none) fu h10 z a0 (ii k + ii 1)) (fun r h' => ∃ v, r = .inl (some (va_rf v)) ∧ v = some a0 ∧ ∃ own' N' T', SR own' B h' z low A R N' T' rows seed ∧ h'.2.1.1 + 2 * s11 N' ≤ h.2.1.1 + 2 * s11 N + 3 * (m + 1) ∧ h'.2.1.2 + 7 * s11 N' ≤ h.2.1.2 + 7 * s11 N + 170 * (m + 1) ∧ PA own' B h' a0 A ∧ h.2.1.1 ≤ h'.2.1.1 ∧ h.2.1.2 ≤ h'.2.1.2 ∧ h'.2.2 = h.2.2 ∧ Wf h' ∧ (∀ x, x < h.2.1.1 → own' x = own x) ∧ ∀ x c, h.1 x = some c → x ≠ z → x ≠ a0 → ((∀ k, k < 11 → own x ≠ R k) ∨ rK c = false) → h'.1 x = some c) := by
      intro h8 p g2 g3 g4 g5 g6
      obtain ⟨S1, G1⟩ := S.lift wf hk11 (fun x hx => ow_lt hx) g3 g4
      rw [va_up_same, va_up_same, va_up_same] at S1
      have ea8 := g4.kd ea rfl
      have g2' := g2
      obtain ⟨ba, sa, ff, gg, p1, p2, p3, p4, p5, p6⟩ := g2'
      refine q_stQ ea8 (by decide) (by omega) p1 rfl ?_
      rw [Int.toNat_natCast, ii_add]
      have w8 := g4.wf
      obtain ⟨ra8, na8, rf8, nf8, y1, y2, y3, y4, y5⟩ := S1.cell
      have kp : ∀ c, ∀ x d, h8.1 x = some d → x ≠ a0 → (hset h8 a0 c).1 x = some d := fun c x d e n => up_nx n e
      have n1 : z ≠ a0 := kd_ne y1 ea8 rfl
      have n2 : ra8 ≠ a0 := kd_ne y2 ea8 rfl
      have n3 : na8 ≠ a0 := kd_ne y3 ea8 rfl
      have nk : ∀ x d, h8.1 x = some d → rK d = true → x ≠ a0 := fun x d e k q => by
        rw [q, ea8] at e
        injection e with e
        rw [← e] at k
        cases k
      have rkk : ∀ c, SR (ow own h.2.1.1 B) B (hset h8 a0 c) z low A R N T rows seed := by
        intro c
        refine ⟨⟨ra8, na8, rf8, nf8, kp c _ _ y1 n1, kp c _ _ y2 n2, kp c _ _ y3 n3, y4, y5⟩, fun j hj => ?_, S1.2.2.1, S1.2.2.2⟩
        refine RP.kp (S1.2.1 j hj) fun x d e kx => kp c x d e (nk x d e kx)
      have PKk : ∀ c q l, PK (ow own h.2.1.1 B) B h8 q l → PK (ow own h.2.1.1 B) B (hset h8 a0 c) q l := fun c q l P => by
        obtain ⟨ba, sa, ff, gg, p1, p2, p3, p4, p5, p6⟩ := P
        exact ⟨ba, sa, ff, gg, kp c _ _ p1 (kd_ne p1 ea8 rfl), p2, kp c _ _ p3 (kd_ne p3 ea8 rfl), kp c _ _ p4 (kd_ne p4 ea8 rfl), p5, p6⟩
      have x1 : ((k : Int) + 1) = ((k + 1 : Nat) : Int) := by omega
      rw [x1]
      refine Ends.ofEQ (ih fu (k + 1) _ _ N T A _ (by omega) (by omega) (rkk _) (w8.setE ea8) up_eq (fun j hj => ?_)) fun v h' ⟨q1, own', N', T', q2, q3, q4, q5, q6, q7, q8, q9, q10, q11⟩ => ?_
      · by_cases c : j = k
        · subst c
          exact ⟨p, va_up_self _ _ _, PKk _ _ _ g2⟩
        · obtain ⟨p', e1, e2⟩ := hP j (by omega)
          exact ⟨p', (va_up_ne _ _ c).trans e1, PKk _ _ _ (e2.gf G1 wf z1 S.2.2.2)⟩
      · have b1 := g4.1
        have b2 := g4.2.1
        have b3 : (hset h8 a0 (.inl (8, 11, .inr (.inr (.inr (.inr (va_up f k (some p)))))))).2 = h8.2 := rfl
        rw [b3] at q3 q4 q6 q7 q8 q10
        refine ⟨v, rfl, q1, own', N', T', q2, by omega, by omega, q5, by omega, by omega, q8.trans g4.2.2.1, q9, fun x hx => (q10 x (by omega)).trans (ow_lt hx), fun x c e n n' q => q11 x c (kp _ x c (g4.2.2.2.2 x c e ?_) n') n n' (by rw [ow_lt (wf.lt e)]; exact q)⟩
        rcases q with q | q
        · exact Or.inl (q k hk11)
        · exact Or.inr q
    unfold c_S_pack_l8
    refine q_alen2 ea (by decide) ?_
    refine q_neg _ (ii_leF (by omega)) ?_
    simp only [il_4, il_1]
    by_cases h4 : k < 4
    · refine q_neg _ (ii_leF (by omega)) ?_
      refine q_rp S h4 ?_
      refine q_hQ (p_pack (S.2.1 k hk11) wf (Ne.symm (S.2.2.2 k hk11))) fun v h8 ⟨p, g1, g2, g3, g4, g5, g6⟩ => ?_
      subst g1
      exact key h8 p g2 g3 g4 g5 g6
    · refine q_pos _ (ii_leT (by omega)) ?_
      rw [ii_sub]
      have x1 : ((k : Int) - 4) = ((k - 4 : Nat) : Int) := by omega
      rw [x1]
      refine q_nd S (by omega) ?_
      have x2 : 4 + (k - 4) = k := by omega
      rw [x2]
      refine q_hQ (p_pack (S.2.1 k hk11) wf (Ne.symm (S.2.2.2 k hk11))) fun v h8 ⟨p, g1, g2, g3, g4, g5, g6⟩ => ?_
      subst g1
      exact key h8 p g2 g3 g4 g5 g6
end
