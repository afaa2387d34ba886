/-! PURE SIDE: rooms: the model: the words of a row -/
set_option maxRecDepth 100000
section
variable {m0 ms : MS} {f : Nat → Nat} {n k : Nat} {t : Tk} {S : RS} {Z : Option Value → MS → Prop}
theorem RL.bit {r : Nat} {c : Bool} (L : RL m0 f n S k t ms) (hr : r < 4) (hl : (S.bs r).length < 600) : RL m0 f n (rsB S r [c]) k t (mset (mset ms 15 (207 + 600 * r + (S.bs r).length) (ii (bn c))) 15 (2 + r) (ii ((S.bs r).length + 1 : Nat))) := by
  obtain ⟨l1, l2, l3, l4, l5, l6, l7⟩ := L
  refine ⟨(l1.set (by decide)).set (by decide), (l2.set (by decide)).set (by decide), (l3.set (by decide)).set (by decide), l4, l5.bit hr hl ?_ ms_eq (fun x h1 h2 => by rw [ms_ne h2, ms_ne h1]), l6, by rw [ms_nk (by decide), ms_nk (by decide)]; exact l7⟩
  rw [ms_ne (by omega), ms_eq]
theorem s_word {r86 : MS → Int32 → Option DR} {r : Nat} (hr : r < 4) (h1 : t.k = 1) : ∀ (m fu j : Nat) (S : RS) (ms : MS), m < fu → j + m = t.p - t.at_ → RL m0 f n S k t ms → (S.bs r).length + m ≤ 600 → (∀ m', RL m0 f n (rsB S r ((wBits f t).drop j)) k t m' → DE (bV (d_M_go m') fun m2 => r86 m2 (ii r)) Z) → DE (itr (d_M_readRow_l142 r86) (fun _ _ _ => none) fu ms (ii r) (ii ((t.at_ + j : Nat) : Int))) Z := by
  intro m
  induction m with
  | zero =>
    intro fu j S ms hf hj L hlen kk
    obtain ⟨fu, rfl⟩ : ∃ x, fu = x + 1 := ⟨fu - 1, by omega⟩
    have T := L.2.2.2.1
    have hat := (T.2.1 h1).2
    have hp := T.1.1
    have hn := L.2.2.1.2.2.2.1
    rw [itr_succ]
    unfold d_M_readRow_l142
    rw [L.2.1.1]
    refine d_nm ?_
    refine d_pos _ (ii_leT (by omega)) ?_
    refine kk ms ?_
    rw [List.drop_of_length_le (by unfold wBits; rw [List.length_map, seg_len]; omega)]
    have : rsB S r [] = S := by
      show (S.1, S.2.1, S.2.2.1, va_up S.2.2.2.1 r (S.2.2.2.1 r ++ []), S.2.2.2.2) = S
      rw [List.append_nil, up_self]
    rw [this]
    exact L
  | succ m ih =>
    intro fu j S ms hf hj L hlen kk
    obtain ⟨fu, rfl⟩ : ∃ x, fu = x + 1 := ⟨fu - 1, by omega⟩
    have T := L.2.2.2.1
    have hat := (T.2.1 h1).2
    have hp := T.1.1
    have B := L.2.2.1
    have hn := B.2.2.2.1
    have hc := B.2.2.2.2.1 (t.at_ + j)
    have ej : ii ((t.at_ + j : Nat) : Int) + (1 : Int32) = ii ((t.at_ + (j + 1) : Nat) : Int) := by rw [add1]; rfl
    have e2 : (2 : Int32) + ii (r : Int) = ii ((2 + r : Nat) : Int) := by rw [il_2, ii_add]; rfl
    have e7 : ((207 : Int32) + ((600 : Int32) * ii (r : Int))) + ii ((S.bs r).length : Int) = ii ((207 + 600 * r + (S.bs r).length : Nat) : Int) := by
      rw [show (207 : Int32) = ii 207 from ii_lit 207, show (600 : Int32) = ii 600 from ii_lit 600, ii_mul, ii_add, ii_add]
      congr 1
    have step : ∀ (c : Bool) (v : Int32), v = ii (bn c) → c = decide (f (t.at_ + j) = 105) → DE (d_M_readRow_j188 r86 (itr (d_M_readRow_l142 r86) (fun _ _ _ => none) fu) ms (ii r) (ii ((t.at_ + j : Nat) : Int)) v (ii ((207 + 600 * r + (S.bs r).length : Nat) : Int))) Z := fun c v ev ec => by
      subst ev
      unfold d_M_readRow_j188
      refine d_sA (N := 2607) rfl (n := 207 + 600 * r + (S.bs r).length) (by omega) ?_
      rw [e2]
      refine d_eA (N := 2607) rfl (n := 2 + r) (by omega) (v := ii ((S.bs r).length : Int)) (by rw [ms_ne (by omega)]; exact (L.2.2.2.2.1.2.2.1 r hr).1) ?_
      refine d_sA (N := 2607) rfl (n := 2 + r) (by omega) ?_
      rw [ej, add1]
      refine ih fu (j + 1) (rsB S r [c]) _ (by omega) (by omega) (L.bit (c := c) hr (by omega)) ?_ fun m' L' => kk m' ?_
      · show (va_up S.bs r (S.bs r ++ [c]) r).length + m ≤ 600
        rw [up_at, List.length_append, List.length_singleton]; omega
      · have : rsB (rsB S r [c]) r ((wBits f t).drop (j + 1)) = rsB S r ((wBits f t).drop j) := by
          show (S.1, S.2.1, S.2.2.1, va_up (va_up S.2.2.2.1 r (S.2.2.2.1 r ++ [c])) r (va_up S.2.2.2.1 r (S.2.2.2.1 r ++ [c]) r ++ (wBits f t).drop (j + 1)), S.2.2.2.2) = (S.1, S.2.1, S.2.2.1, va_up S.2.2.2.1 r (S.2.2.2.1 r ++ (wBits f t).drop j), S.2.2.2.2)
          rw [up_at, up_up, wBits_drop (j := j) (by omega), ec, List.append_assoc]
          rfl
        rw [this] at L'
        exact L'
    rw [itr_succ]
    unfold d_M_readRow_l142
    rw [L.2.1.1]
    refine d_nm ?_
    refine d_neg _ (ii_leF (by omega)) ?_
    rw [e2]
    refine d_eA (N := 2607) rfl (n := 2 + r) (by omega) (L.2.2.2.2.1.2.2.1 r hr).1 ?_
    refine d_eA (N := 940) rfl (n := t.at_ + j) (by omega) (B.1 _ (by omega)) ?_
    rw [e7]
    by_cases c : f (t.at_ + j) = 105
    · refine d_pos _ (by rw [c]; rfl) ?_
      exact step true 1 rfl (decide_eq_true c).symm
    · refine d_neg _ (ii_eqF (b := 105) (by omega)) ?_
      exact step false 0 rfl (decide_eq_false c).symm
end
