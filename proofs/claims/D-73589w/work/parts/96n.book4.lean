/-! PURE SIDE: books: the model reads all lines; both sides -/
set_option maxRecDepth 100000
section
variable {m0 ms : MS} {f : Nat → Nat} {n : Nat} {ds : List DD} {t : Tk} {Z : Option Value → MS → Prop} {nm : Nat → List Nat} {m : Nat}
theorem bkA_s {l c : Nat} {t : Tk} (h : t.k ≠ 0) : bkA f n nm m (l + 1) c t = (match bkE f n (bkL f n nm m c t) with
    | .inl e => .inl e
    | .inr (d, t') => match bkA f n nm m l (c + 1) t' with
      | .inl e => .inl e
      | .inr ds => .inr (d :: ds)) := by
  rw [bkA, if_neg h]
  cases hb : bkL f n nm m c t with
  | inl e => rfl
  | inr q =>
    obtain ⟨d, t'⟩ := q
    show (if isSg f t' 59 = false then _ else _) = _
    unfold bkE
    dsimp only
    by_cases c : isSg f t' 59 = false
    · rw [if_pos c, if_pos c]
    · rw [if_neg c, if_neg c]
      rfl
theorem s_bkA {x1 : Int32} (hm : m ≤ 4) (h0 : m0.1 14 0 = ii m) (A : ∀ r, r < m → m0.2 20 r = ll (n27 (nm r)) ∧ okN (nm r)) : ∀ (l fu : Nat) (ds : List DD) (t : Tk) (ms : MS), l + ds.length = 41 → ds.length ≤ 40 → l < fu → LI m0 f n ds t ms → (∀ k pl, bkA f n nm m l ds.length t = .inl (k, pl) → ∀ m', FT m0 k pl m' → DE (dI (ii (-2 - (pl : Int))) m') Z) → (∀ es, bkA f n nm m l ds.length t = .inr es → ∀ m', GB m0 m' → LnR m' (ds ++ es) → m'.1 32 0 = ii (ds ++ es).length → DE (bV (d_M_save m' 19 (0 : Int32)) fun m5 => itr (d_M_book_l78) (fun _ _ _ _ => none) FU m5 x1 (0 : Int32) (0 : Int32)) Z) → DE (itr (d_M_book_l30) (fun _ _ => none) fu ms x1) Z := by
  intro l
  induction l with
  | zero => intro fu ds t ms hl hc; omega
  | succ l ih =>
    intro fu ds t ms hl hc hf L kf kk
    obtain ⟨fu, rfl⟩ : ∃ x, fu = x + 1 := ⟨fu - 1, by omega⟩
    have tb := L.2.2.2.2.1.1
    rw [itr_succ]
    unfold d_M_book_l30
    rw [L.2.2.1.2.2.1]
    refine d_nm ?_
    by_cases c0 : t.k = 0
    · refine d_pos _ (by rw [c0]; rfl) ?_
      exact kk [] (by rw [bkA, if_pos c0]) ms L.1 (by rw [List.append_nil]; exact L.2.1) (by rw [List.append_nil]; exact L.2.2.2.2.2)
    · have mk : mkd t.k ≠ 0 ∧ mkd t.k ≤ 5 := by
        unfold mkd
        rw [if_neg c0]
        split <;> omega
      refine d_neg _ (ii_eq0F (by omega)) ?_
      have e : DE (d_M_readBookLine ms) (fun r m' => (r = some (.int 0) ∧ ∃ k pl, bkE f n (bkL f n nm m ds.length t) = .inl (k, pl) ∧ FT m0 k pl m') ∨ (r = some (.int 1) ∧ ∃ d t', bkE f n (bkL f n nm m ds.length t) = .inr (d, t') ∧ LI m0 f n ds t' m' ∧ m'.1 30 (4 * ds.length) = ii d.1 ∧ m'.1 30 (4 * ds.length + 1) = ii d.2.1 ∧ m'.1 30 (4 * ds.length + 2) = ii d.2.2.1 ∧ m'.1 30 (4 * ds.length + 3) = ii d.2.2.2)) := s_bkL L hm h0 A hc (fun k pl e m' ft => Or.inl ⟨rfl, k, pl, e, ft⟩) (fun d t' e m' L' q0 q1 q2 q3 => Or.inr ⟨rfl, d, t', e, L', q0, q1, q2, q3⟩)
      obtain ⟨r, m1, e1, e2⟩ := e
      rcases e2 with ⟨q1, k, pl, q2, q3⟩ | ⟨q1, d, t', q2, L', p0, p1, p2, p3⟩
      · subst q1
        refine d_bIe e1 ?_
        refine d_pos _ rfl ?_
        rw [q3.2.2]
        refine d_nm ?_
        rw [show (-2 : Int32) = ii (-2) from rfl, ii_sub]
        exact kf k pl (by rw [bkA_s c0, q2]) m1 q3
      · subst q1
        refine d_bIe e1 ?_
        refine d_neg _ (by decide) ?_
        rw [L'.2.2.2.2.2]
        refine d_nm ?_
        refine d_nm ?_
        have hlt : ds.length < 40 := by
          cases hb : bkL f n nm m ds.length t with
          | inl e => rw [hb] at q2; cases q2
          | inr q => exact bkL_lt (d := q.1) (t' := q.2) hb
        rw [add1]
        have el : (ds ++ [d]).length = ds.length + 1 := by rw [List.length_append]; rfl
        have L2 : LI m0 f n (ds ++ [d]) t' (mset m1 32 0 (ii ((ds.length : Int) + 1))) := by
          refine ⟨L'.1.set (by decide), fun j dd hj => ?_, L'.2.2.1.set (by decide), L'.2.2.2.1.set (by decide), L'.2.2.2.2.1, by rw [ms_eq, el]; rfl⟩
          rw [ms_nk (by decide)]
          by_cases cj : j < ds.length
          · rw [List.getElem?_append_left cj] at hj
            exact L'.2.1 j dd hj
          · rw [List.getElem?_append_right (by omega)] at hj
            have j0 : j - ds.length = 0 := by
              by_cases w : j - ds.length = 0
              · exact w
              · rw [List.getElem?_eq_none (by simp; omega)] at hj
                cases hj
            rw [j0] at hj
            injection hj with hj
            subst hj
            have : j = ds.length := by omega
            subst this
            exact ⟨p0, p1, p2, p3⟩
        refine ih fu (ds ++ [d]) t' _ (by rw [el]; omega) (by rw [el]; omega) (by omega) L2 (fun k pl eB m' ft => kf k pl ?_ m' ft) (fun es eB m' g1 g2 g3 => kk (d :: es) ?_ m' g1 ?_ ?_)
        · rw [bkA_s c0, q2]
          rw [el] at eB
          dsimp only
          rw [eB]
        · rw [bkA_s c0, q2]
          rw [el] at eB
          dsimp only
          rw [eB]
        · rw [List.append_assoc] at g2; exact g2
        · rw [List.append_assoc] at g3; exact g3
/-- lines that were read may be asked for -/
theorem bkX_ok {what r i : Nat} {d : DD} {t t' : Tk} (hm : m ≤ 4) (hw : what < 8) (hr : what ≤ 5 → r < m) (hr6 : 6 ≤ what → r = 0) (hi : i ≤ 999) (e : bkX f n nm m what r i t = .inr (d, t')) : DdOk m d := by
  unfold bkX at e
  by_cases c : what = 4 ∨ what = 5
  · rw [if_pos c] at e
    by_cases c1 : nmOk f t = false
    · rw [if_pos c1] at e; cases e
    · rw [if_neg c1] at e
      by_cases c2 : ofN nm (seg f t.at_ t.p) m 0 = -1 ∨ ofN nm (seg f t.at_ t.p) m 0 = r
      · rw [if_pos c2] at e; cases e
      · rw [if_neg c2] at e
        injection e with e
        injection e with e _
        subst e
        rcases ofN_le (nm := nm) (l := seg f t.at_ t.p) m 0 with q | ⟨s, q1, q2⟩
        · exact absurd (Or.inl q) c2
        · rw [q1]
          have : s ≠ r := fun w => c2 (Or.inr (by rw [q1, w]))
          refine ⟨hw, hr, hr6, hi, by show (s : Int).toNat ≤ 600; omega, fun _ => ⟨by show (s : Int).toNat < m; omega, by show (s : Int).toNat ≠ r; omega⟩, fun z => ?_, fun z => ?_, fun z => ?_⟩
          · have z : what ≤ 1 := z
            omega
          · have z : what = 2 ∨ what = 3 := z
            omega
          · have z : what = 6 := z
            omega
  · rw [if_neg c] at e
    by_cases c1 : t.k ≠ 2
    · rw [if_pos c1] at e; cases e
    · rw [if_neg c1] at e
      by_cases c2 : ¬ (bkLo what ≤ nv (seg f t.at_ t.p) ∧ nv (seg f t.at_ t.p) ≤ bkHi what)
      · rw [if_pos c2] at e; cases e
      · rw [if_neg c2] at e
        rw [Classical.not_not] at c2
        injection e with e
        injection e with e _
        subst e
        have bh : bkHi what ≤ 600 ∧ (what ≤ 1 → bkHi what = 1) ∧ (what = 6 → bkHi what = 7) ∧ (what = 2 ∨ what = 3 → bkLo what = 1) := by
          unfold bkHi bkLo
          refine ⟨by repeat' split
                     all_goals omega, fun z => by rw [if_pos (by omega)], fun z => by rw [if_neg (by omega), if_pos z], fun z => by rw [if_pos (by omega)]⟩
        refine ⟨hw, hr, hr6, hi, by show nv (seg f t.at_ t.p) ≤ 600; omega, fun z => absurd z c, fun z => ?_, fun z => ?_, fun z => ?_⟩
        · have := bh.2.1 z
          show nv (seg f t.at_ t.p) ≤ 1
          omega
        · have := bh.2.2.2 z
          show 1 ≤ nv (seg f t.at_ t.p)
          omega
        · have := bh.2.2.1 z
          show nv (seg f t.at_ t.p) < 8
          omega
theorem bkI_ok {what r : Nat} {d : DD} {t t' : Tk} (hm : m ≤ 4) (hw : what < 8) (hr : what ≤ 5 → r < m) (hr6 : 6 ≤ what → r = 0) (e : bkI f n nm m what r t = .inr (d, t')) : DdOk m d := by
  unfold bkI at e
  by_cases c : what = 4
  · rw [if_pos c] at e
    exact bkX_ok hm hw hr hr6 (by omega) e
  · rw [if_neg c] at e
    by_cases c1 : t.k ≠ 2
    · rw [if_pos c1] at e; cases e
    · rw [if_neg c1] at e
      by_cases c2 : ¬ (0 ≤ nv (seg f t.at_ t.p) ∧ nv (seg f t.at_ t.p) ≤ 999)
      · rw [if_pos c2] at e; cases e
      · rw [if_neg c2] at e
        rw [Classical.not_not] at c2
        exact bkX_ok hm hw hr hr6 c2.2 e
theorem bkL_ok {c : Nat} {d : DD} {t t' : Tk} (hm : m ≤ 4) (e : bkL f n nm m c t = .inr (d, t')) : DdOk m d := by
  unfold bkL at e
  have fk := fkw_le (f := f) (t := t) (k0 := 3) 8 0
  by_cases c1 : fkw f t 3 8 0 = -1
  · rw [if_pos c1] at e; cases e
  rw [if_neg c1] at e
  by_cases c2 : 40 ≤ c
  · rw [if_pos c2] at e; cases e
  rw [if_neg c2] at e
  unfold bkR at e
  by_cases c3 : (fkw f t 3 8 0).toNat ≤ 5
  · rw [if_pos c3] at e
    by_cases c4 : nmOk f (nx f n 400 t) = false
    · rw [if_pos c4] at e; cases e
    rw [if_neg c4] at e
    by_cases c5 : ofN nm (seg f (nx f n 400 t).at_ (nx f n 400 t).p) m 0 = -1
    · rw [if_pos c5] at e; cases e
    rw [if_neg c5] at e
    rcases ofN_le (nm := nm) (l := seg f (nx f n 400 t).at_ (nx f n 400 t).p) m 0 with q | ⟨s, q1, q2⟩
    · exact absurd q c5
    · exact bkI_ok hm (by omega) (fun _ => by rw [q1]; show (s : Int).toNat < m; omega) (fun z => by omega) e
  · rw [if_neg c3] at e
    exact bkI_ok hm (by omega) (fun z => by omega) (fun _ => rfl) e
theorem bkA_ok (hm : m ≤ 4) : ∀ (l c : Nat) (t : Tk) (es : List DD), bkA f n nm m l c t = .inr es → ∀ d, d ∈ es → DdOk m d := by
  intro l
  induction l with
  | zero =>
    intro c t es e d hd
    rw [bkA] at e
    injection e with e
    subst e
    cases hd
  | succ l ih =>
    intro c t es e d hd
    by_cases c0 : t.k = 0
    · rw [bkA, if_pos c0] at e
      injection e with e
      subst e
      cases hd
    · rw [bkA_s c0] at e
      cases hb : bkL f n nm m c t with
      | inl q => rw [hb] at e; cases e
      | inr q =>
        obtain ⟨d1, t1⟩ := q
        rw [hb] at e
        unfold bkE at e
        dsimp only at e
        by_cases c1 : isSg f t1 59 = false
        · rw [if_pos c1] at e; cases e
        · rw [if_neg c1] at e
          dsimp only at e
          cases h2 : bkA f n nm m l (c + 1) (nx f n 400 t1) with
          | inl q => rw [h2] at e; cases e
          | inr es2 =>
            rw [h2] at e
            injection e with e
            subst e
            rcases List.mem_cons.mp hd with w | w
            · rw [w]; exact bkL_ok hm hb
            · exact ih (c + 1) _ es2 h2 d w
end
