/-! THE MODEL FLATTENED: writes, calls, ends -/
set_option maxRecDepth 100000
section
variable {g : Nat → Nat} {this : Nat} {ms : MS} {h : PH} {P : Option RH} {P' : Option (Option Value × MS)}
theorem mF_set {k : Nat} {v : Int32} (h2 : k ∉ mArr) (h3 : k ≠ 12) : mF g (mset ms k 0 v) = (mF g ms).set k (.int v) := by
  apply List.ext_getElem?
  intro j
  by_cases hj : j < 39
  · rw [mF_at hj, List.getElem?_set]
    by_cases e : k = j
    · subst e
      have hl : (mF g ms).length = 39 := by unfold mF; simp
      rw [if_pos rfl, if_pos (by rw [hl]; exact hj)]
      unfold mV
      rw [if_neg h2, if_neg h3]
      simp [mset]
    · rw [if_neg e, mF_at hj]
      unfold mV
      have : ¬ (j = k) := fun q => e q.symm
      simp [mset, this]
  · have hl : (mF g ms).length = 39 := by unfold mF; simp
    have hl2 : (mF g (mset ms k 0 v)).length = 39 := by unfold mF; simp
    rw [List.getElem?_eq_none (by omega), List.getElem?_eq_none (by rw [List.length_set]; omega)]
theorem mF_setL {v : Int64} : mF g (msetL ms 12 0 v) = (mF g ms).set 12 (.long v) := by
  apply List.ext_getElem?
  intro j
  by_cases hj : j < 39
  · rw [mF_at hj, List.getElem?_set]
    by_cases e : 12 = j
    · subst e
      have hl : (mF g ms).length = 39 := by unfold mF; simp
      rw [if_pos rfl, if_pos (by rw [hl]; exact hj)]
      unfold mV
      rw [if_neg (by decide), if_pos rfl]
      simp [msetL]
    · rw [if_neg e, mF_at hj]
      unfold mV
      have : ¬ (j = 12) := fun q => e q.symm
      simp [msetL, this]
  · have hl : (mF g ms).length = 39 := by unfold mF; simp
    have hl2 : (mF g (msetL ms 12 0 v)).length = 39 := by unfold mF; simp
    rw [List.getElem?_eq_none (by omega), List.getElem?_eq_none (by rw [List.length_set]; omega)]
/-- arrays keep their ints -/
theorem mF_arr {k i : Nat} {v : Int32} (h2 : k ∈ mArr) : mF g (mset ms k i v) = mF g ms := by
  unfold mF
  refine List.map_congr_left fun j _ => ?_
  unfold mV
  by_cases e : j ∈ mArr
  · rw [if_pos e, if_pos e]
  · rw [if_neg e, if_neg e]
    have : ¬ (j = k) := fun q => e (q ▸ h2)
    simp [mset, this]
theorem mF_arrL {k i : Nat} {v : Int64} (h2 : k ∈ mArr) : mF g (msetL ms k i v) = mF g ms := by
  unfold mF
  refine List.map_congr_left fun j _ => ?_
  unfold mV
  by_cases e : j ∈ mArr
  · rw [if_pos e, if_pos e]
  · rw [if_neg e, if_neg e]
    have : ¬ (12 = k) := fun q => by rw [← q] at h2; exact absurd h2 (by decide)
    simp [msetL, this]
theorem mset_ne {k i j : Nat} {v : Int32} (e : j ≠ k) : (mset ms k i v).1 j = ms.1 j := by
  funext x
  show (if j = k ∧ x = i then v else ms.1 j x) = _
  rw [if_neg (fun q => e q.1)]
theorem msetL_ne {k i j : Nat} {v : Int64} (e : j ≠ k) : (msetL ms k i v).2 j = ms.2 j := by
  funext x
  show (if j = k ∧ x = i then v else ms.2 j x) = _
  rw [if_neg (fun q => e q.1)]
theorem iArr_m {q : Nat × Nat} (hq : q ∈ iArr) : q.1 ∈ mArr := by
  simp only [iArr, List.mem_cons, List.not_mem_nil, or_false] at hq
  rcases hq with e | e | e | e | e | e | e | e | e | e | e <;> (rw [e]; decide)
theorem lArr_m {q : Nat × Nat} (hq : q ∈ lArr) : q.1 ∈ mArr := by
  simp only [lArr, List.mem_cons, List.not_mem_nil, or_false] at hq
  rcases hq with e | e | e <;> (rw [e]; decide)
theorem MKeep.obj {c : PC} : MKeep g this h (hset h this c) := ⟨rfl, fun a h1 _ => by show va_up h.1 this _ a = _; rw [va_up, if_neg h1]⟩
theorem MKeep.arr {k : Nat} {c : PC} (hk : k ∈ mArr) : MKeep g this h (hset h (g k) c) := ⟨rfl, fun a _ h2 => by show va_up h.1 (g k) _ a = _; rw [va_up, if_neg (h2 k hk)]⟩
theorem up_ne {a b : Nat} {c : PC} (e : b ≠ a) : (hset h a c).1 b = h.1 b := by show va_up h.1 a _ b = _; rw [va_up, if_neg e]
theorem up_eq {a : Nat} {c : PC} : (hset h a c).1 a = some c := va_up_self _ _ _
theorem MRep.put {k : Nat} {v : Int32} (hm : MRep g this ms h) (h2 : k ∉ mArr) (h3 : k ≠ 12) : MRep g this (mset ms k 0 v) (hset h this (.inr (8, (mF g ms).set k (.int v)))) := by
  obtain ⟨m1, m2, m3, m4, m5, m6⟩ := hm
  refine ⟨by rw [up_eq, mF_set h2 h3], fun q hq => ?_, fun q hq => ?_, ?_, m5, m6⟩
  · rw [up_ne (m6 _ (iArr_m hq)), mset_ne (k := k) (j := q.1) (fun e => h2 (by rw [← e]; exact iArr_m hq))]; exact m2 q hq
  · rw [up_ne (m6 _ (lArr_m hq))]; exact m3 q hq
  · rw [up_ne (m6 23 (by decide)), mset_ne (k := k) (j := 23) (fun e => h2 (by rw [← e]; decide))]; exact m4
theorem MRep.putL {v : Int64} (hm : MRep g this ms h) : MRep g this (msetL ms 12 0 v) (hset h this (.inr (8, (mF g ms).set 12 (.long v)))) := by
  obtain ⟨m1, m2, m3, m4, m5, m6⟩ := hm
  refine ⟨by rw [up_eq, mF_setL], fun q hq => ?_, fun q hq => ?_, ?_, m5, m6⟩
  · rw [up_ne (m6 _ (iArr_m hq))]; exact m2 q hq
  · rw [up_ne (m6 _ (lArr_m hq)), msetL_ne (k := 12) (j := q.1) (fun e => absurd (show 12 ∈ mArr by rw [← e]; exact lArr_m hq) (by decide))]; exact m3 q hq
  · rw [up_ne (m6 23 (by decide))]; exact m4
theorem MRep.st {k n i : Nat} {v : Int32} (hm : MRep g this ms h) (hk : (k, n) ∈ iArr) : MRep g this (mset ms k i v) (hset h (g k) (.inl (0, n, .inl (upd (ms.1 k) i v)))) := by
  obtain ⟨m1, m2, m3, m4, m5, m6⟩ := hm
  have hkm : k ∈ mArr := iArr_m hk
  have hks : (mset ms k i v).1 k = upd (ms.1 k) i v := by
    funext x
    show (if k = k ∧ x = i then v else ms.1 k x) = if x = i then v else ms.1 k x
    simp
  refine ⟨by rw [up_ne (fun e => m6 k hkm e.symm), mF_arr hkm]; exact m1, fun q hq => ?_, fun q hq => ?_, ?_, m5, m6⟩
  · by_cases e : q.1 = k
    · have hn : q.2 = n := by
        have a1 := m2 q hq
        have a2 := m2 (k, n) hk
        rw [e] at a1
        have a3 : some (Sum.inl (0, q.2, Sum.inl (ms.1 k))) = (some (Sum.inl (0, n, Sum.inl (ms.1 k))) : Option PC) := a1.symm.trans a2
        injection a3 with a3
        injection a3 with a3
        injection a3 with _ a3
        injection a3
      rw [e, up_eq, hks, hn]
    · rw [up_ne (fun q' => e (m5 _ (iArr_m hq) _ hkm q')), mset_ne (k := k) (j := q.1) e]; exact m2 q hq
  · have e : q.1 ≠ k := fun e => by
      have a1 := m3 q hq
      have a2 := m2 (k, n) hk
      rw [e] at a1
      rw [a1] at a2
      injection a2 with a2
      injection a2 with a2
      injection a2 with a2 _
      cases a2
    rw [up_ne (fun q' => e (m5 _ (lArr_m hq) _ hkm q'))]; exact m3 q hq
  · have e : 23 ≠ k := fun e => by
      have a2 := m2 (k, n) hk
      rw [← e] at a2
      rw [m4] at a2
      injection a2 with a2
      injection a2 with a2
      injection a2 with a2 _
      cases a2
    rw [up_ne (fun q' => e (m5 23 (by decide) _ hkm q')), mset_ne (k := k) (j := 23) e]; exact m4
end
