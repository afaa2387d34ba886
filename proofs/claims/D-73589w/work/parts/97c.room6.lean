/-! PURE SIDE: rooms: all lines, by the component -/
set_option maxRecDepth 100000
section
variable {f : Nat → Nat} {n most p : Nat}
theorem tok_ge (hp : p ≤ n) : p ≤ (tok f n most p).p := by
  have sk := skp_le (f := f) (n := n) (n - p) p hp
  unfold tok tkQ
  split
  · show p ≤ skp f n (n - p) p; omega
  · split
    · show p ≤ skp f n (n - p) p; omega
    · split
      · have := (runE_le (f := f) (n := n) (n - skp f n (n - p) p) (skp f n (n - p) p) sk.2).1
        show p ≤ runE f n (n - skp f n (n - p) p) (skp f n (n - p) p)
        omega
      · show p ≤ skp f n (n - p) p + 1; omega
theorem tok_mu3 (hp : p ≤ n) (h3 : (tok f n most p).k = 3) : p < (tok f n most p).p := by
  have sk := skp_le (f := f) (n := n) (n - p) p hp
  unfold tok at h3 ⊢
  unfold tkQ at h3 ⊢
  by_cases c1 : most < n ∧ most ≤ skp f n (n - p) p
  · rw [if_pos c1] at h3
    exact absurd h3 (by show ¬ (4 = 3); decide)
  rw [if_neg c1] at h3 ⊢
  by_cases c2 : n ≤ skp f n (n - p) p
  · rw [if_pos c2] at h3
    exact absurd h3 (by show ¬ (0 = 3); decide)
  rw [if_neg c2] at h3 ⊢
  by_cases c3 : alN (f (skp f n (n - p) p))
  · rw [if_pos c3] at h3 ⊢
    show p < runE f n (n - skp f n (n - p) p) (skp f n (n - p) p)
    obtain ⟨k, ek⟩ : ∃ k, n - skp f n (n - p) p = k + 1 := ⟨n - skp f n (n - p) p - 1, by omega⟩
    rw [ek, runE, if_pos ⟨by omega, c3⟩]
    have := (runE_le (f := f) (n := n) k (skp f n (n - p) p + 1) (by omega)).1
    omega
  · rw [if_neg c3] at h3 ⊢
    show p < skp f n (n - p) p + 1
    omega
/-- a token at or behind p -/
def Aft (f : Nat → Nat) (n p : Nat) (t : Tk) : Prop := ∃ q, p ≤ q ∧ q ≤ n ∧ t = tok f n 900 q
theorem Aft.nx {t : Tk} (hn : n ≤ 940) (a : Aft f n p t) : Aft f n p (nx f n 900 t) := by
  obtain ⟨q, h1, h2, h3⟩ := a
  subst h3
  exact ⟨(tok f n 900 q).p, Nat.le_trans h1 (tok_ge h2), (tok_le h2 (by decide) hn).1, rfl⟩
theorem rmR_aft {l' : List Bool} {t' : Tk} (hn : n ≤ 940) : ∀ (k : Nat) (l : List Bool) (t : Tk), Aft f n p t → rmR f n k l t = .inr (l', t') → Aft f n p t' ∧ (l.length ≤ 600 → l'.length ≤ 600) := by
  intro k
  induction k with
  | zero => intro l t a e; cases e
  | succ k ih =>
    intro l t a e
    rw [rmR] at e
    by_cases c1 : t.k ≠ 1
    · rw [if_pos c1] at e
      injection e with e
      injection e with e1 e2
      subst e1 e2
      exact ⟨a, fun q => q⟩
    rw [if_neg c1] at e
    by_cases c2 : wAll f t 105 105 111 = false
    · rw [if_pos c2] at e; cases e
    rw [if_neg c2] at e
    by_cases c3 : 600 < l.length + (t.p - t.at_)
    · rw [if_pos c3] at e; cases e
    rw [if_neg c3] at e
    obtain ⟨i1, i2⟩ := ih _ _ (a.nx hn) e
    refine ⟨i1, fun _ => i2 ?_⟩
    unfold wBits
    rw [List.length_append, List.length_map, seg_len]
    omega
theorem rmLt_aft {l' : List Nat} {t' : Tk} (hn : n ≤ 940) : ∀ (k : Nat) (l : List Nat) (t : Tk), Aft f n p t → rmLt f n k l t = .inr (l', t') → Aft f n p t' := by
  intro k
  induction k with
  | zero => intro l t a e; cases e
  | succ k ih =>
    intro l t a e
    rw [rmLt] at e
    by_cases c1 : t.k ≠ 1
    · rw [if_pos c1] at e
      injection e with e
      injection e with e1 e2
      subst e1 e2
      exact a
    rw [if_neg c1] at e
    by_cases c2 : wAll f t 97 104 97 = false
    · rw [if_pos c2] at e; cases e
    rw [if_neg c2] at e
    by_cases c3 : 200 < l.length + (t.p - t.at_)
    · rw [if_pos c3] at e; cases e
    rw [if_neg c3] at e
    exact ih _ _ (a.nx hn) e
theorem rmW_ok {w : Nat} {S S' : RS} {t t' : Tk} (hn : n ≤ 940) (a : Aft f n p t) (T : TkOk f n t) (hS : RSo S) (c1 : w = 1 → S.n < 4) (e : rmW f n w S t = .inr (S', t')) : Aft f n p t' ∧ RSo S' := by
  unfold rmW at e
  by_cases w0 : w = 0
  · rw [if_pos w0] at e
    unfold rmV at e
    by_cases d1 : t.k ≠ 2
    · rw [if_pos d1] at e; cases e
    rw [if_neg d1] at e
    by_cases d2 : ¬ (4 ≤ nv (seg f t.at_ t.p) ∧ nv (seg f t.at_ t.p) ≤ 32)
    · rw [if_pos d2] at e; cases e
    rw [if_neg d2] at e
    injection e with e
    injection e with e1 e2
    subst e1 e2
    exact ⟨a.nx hn, hS⟩
  rw [if_neg w0] at e
  by_cases w1 : w = 1
  · rw [if_pos w1] at e
    have h4 := c1 w1
    unfold rmN at e
    by_cases d1 : nmOk f t = false
    · rw [if_pos d1] at e; cases e
    rw [if_neg d1] at e
    by_cases d2 : ofN S.nm (seg f t.at_ t.p) S.n 0 ≠ -1
    · rw [if_pos d2] at e; cases e
    rw [if_neg d2] at e
    cases hr : rmR f n 942 [] (nx f n 900 t) with
    | inl x => rw [hr] at e; cases e
    | inr x =>
      obtain ⟨l, tx⟩ := x
      rw [hr] at e
      injection e with e
      injection e with e1 e2
      subst e1 e2
      refine ⟨(rmR_aft hn _ _ _ (a.nx hn) hr).1, by show S.n + 1 ≤ 4; omega, fun r hr' => ?_, fun r hr' => ?_⟩
      · show okN (va_up S.nm S.n (seg f t.at_ t.p) r)
        have hr' : r < S.n + 1 := hr'
        by_cases c : r = S.n
        · rw [c, up_at]
          exact (T.2.1 (nmOk_k (by cases hk : nmOk f t with | true => rfl | false => exact absurd hk d1))).1
        · rw [va_up_ne _ _ c]; exact hS.2.1 r (by omega)
      · show va_up S.bs S.n l r = []
        have hr' : S.n + 1 ≤ r := hr'
        rw [va_up_ne _ _ (by omega)]
        exact hS.2.2 r (by omega)
  rw [if_neg w1] at e
  unfold rmT at e
  cases hr : rmLt f n 942 S.T t with
  | inl x => rw [hr] at e; cases e
  | inr x =>
    obtain ⟨l, tx⟩ := x
    rw [hr] at e
    injection e with e
    injection e with e1 e2
    subst e1 e2
    exact ⟨rmLt_aft hn _ _ _ a hr, hS⟩
end
