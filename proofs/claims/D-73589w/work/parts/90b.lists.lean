/-! PURE SIDE: lists of bits -/
set_option maxRecDepth 100000
def cnt (l : List Bool) : Nat := l.count true
def insB (i : Nat) (b : Bool) (l : List Bool) : List Bool := l.take i ++ b :: l.drop i
def remB (i : Nat) (l : List Bool) : List Bool := l.take i ++ l.drop (i + 1)
def flp (f t : Nat) (l : List Bool) : List Bool := l.mapIdx (fun j b => if f ≤ j ∧ j < t then !b else b)
/-- the first n of a row -/
def tk {α : Type} (n : Nat) (f : Nat → α) : List α := (List.range n).map f
theorem tk_len {α : Type} {n : Nat} {f : Nat → α} : (tk n f).length = n := by simp [tk]
theorem tk_at {α : Type} {n j : Nat} {f : Nat → α} (h : j < n) : (tk n f)[j]? = some (f j) := by simp [tk, h]
theorem tk_at' {α : Type} {n j : Nat} {f : Nat → α} : (tk n f)[j]? = if j < n then some (f j) else none := by
  by_cases h : j < n
  · rw [if_pos h, tk_at h]
  · rw [if_neg h]; exact List.getElem?_eq_none (by rw [tk_len]; omega)
theorem tk_get {α : Type} {n j : Nat} {f : Nat → α} (h : j < (tk n f).length) : (tk n f)[j] = f j := by simp [tk]
theorem tk_congr {α : Type} {n : Nat} {f g : Nat → α} (h : ∀ j, j < n → f j = g j) : tk n f = tk n g := by
  unfold tk
  exact List.map_congr_left fun j hj => h j (List.mem_range.mp hj)
theorem tk_ext {α : Type} {n : Nat} {f : Nat → α} {l : List α} (hl : l.length = n) (h : ∀ j (hj : j < l.length), l[j] = f j) : l = tk n f := by
  apply List.ext_getElem
  · rw [tk_len, hl]
  · intro j h1 h2
    rw [tk_get, h j h1]
theorem tk_succ {α : Type} {n : Nat} {f : Nat → α} : tk (n + 1) f = tk n f ++ [f n] := by simp [tk, List.range_succ]
theorem tk_zero {α : Type} {f : Nat → α} : tk 0 f = [] := rfl
theorem tk_map {α β : Type} {n : Nat} {f : Nat → α} {g : α → β} : (tk n f).map g = tk n (fun j => g (f j)) := by simp [tk]
theorem cnt_nil : cnt [] = 0 := rfl
theorem cnt_app (a b : List Bool) : cnt (a ++ b) = cnt a + cnt b := by simp [cnt]
theorem cnt_cons (x : Bool) (a : List Bool) : (cnt (x :: a) : Int) = bn x + cnt a := by
  cases x
  · simp [cnt, bn]
  · simp [cnt, bn]; omega
theorem cnt_le (l : List Bool) : cnt l ≤ l.length := List.count_le_length
theorem cnt_not (l : List Bool) : cnt (l.map not) + cnt l = l.length := by
  induction l with
  | nil => rfl
  | cons x l ih =>
    have h1 := cnt_cons x l
    have h2 := cnt_cons (!x) (l.map not)
    rw [List.map_cons, List.length_cons]
    cases x
    · have h3 : cnt ((!false) :: l.map not) = cnt (l.map not) + 1 := by rw [bn] at h2; simp at h2 ⊢; omega
      rw [h3]; simp [bn] at h1; omega
    · have h3 : cnt ((!true) :: l.map not) = cnt (l.map not) := by rw [bn] at h2; simp at h2 ⊢; omega
      rw [h3]; simp [bn] at h1; omega
theorem insB_len {i : Nat} {b : Bool} {l : List Bool} : (insB i b l).length = l.length + 1 := by simp [insB]; omega
theorem insB_cnt {i : Nat} {b : Bool} {l : List Bool} : (cnt (insB i b l) : Int) = cnt l + bn b := by
  have h : cnt l = cnt (l.take i) + cnt (l.drop i) := by rw [← cnt_app, List.take_append_drop]
  have h2 := cnt_cons b (l.drop i)
  unfold insB
  rw [cnt_app]; omega
theorem insB_at {i j : Nat} {b : Bool} {l : List Bool} (hi : i ≤ l.length) : (insB i b l)[j]? = if j < i then l[j]? else if j = i then some b else l[j - 1]? := by
  unfold insB
  have hm : (l.take i).length = i := by rw [List.length_take]; omega
  by_cases h1 : j < i
  · rw [if_pos h1, List.getElem?_append_left (by omega), List.getElem?_take_of_lt h1]
  · rw [if_neg h1, List.getElem?_append_right (by omega), hm]
    by_cases h2 : j = i
    · rw [if_pos h2]; simp [h2]
    · rw [if_neg h2]
      obtain ⟨m, hm⟩ : ∃ m, j - i = m + 1 := ⟨j - i - 1, by omega⟩
      rw [hm, List.getElem?_cons_succ, List.getElem?_drop]
      congr 1; omega
theorem insB_tk {n k : Nat} {b : Bool} {f : Nat → Bool} (hk : k ≤ n) : tk (n + 1) (fun j => if j < k then f j else if j = k then b else f (j - 1)) = insB k b (tk n f) := by
  apply List.ext_getElem?
  intro j
  rw [insB_at (by rw [tk_len]; exact hk), tk_at', tk_at', tk_at']
  by_cases h1 : j < k
  · simp only [h1, if_true]; rw [if_pos (by omega), if_pos (by omega)]
  · by_cases h2 : j = k
    · subst h2; simp [h1]; omega
    · simp only [h1, h2, if_false]
      by_cases h3 : j < n + 1
      · rw [if_pos h3, if_pos (by omega)]
      · rw [if_neg h3, if_neg (by omega)]
theorem remB_len {i : Nat} {l : List Bool} (h : i < l.length) : (remB i l).length + 1 = l.length := by simp [remB]; omega
theorem remB_cnt {i : Nat} {l : List Bool} (h : i < l.length) : (cnt (remB i l) : Int) + bn l[i] = cnt l := by
  have e : l = l.take i ++ l[i] :: l.drop (i + 1) := by rw [List.getElem_cons_drop, List.take_append_drop]
  have h1 := congrArg cnt e
  rw [cnt_app] at h1
  have h2 := cnt_cons l[i] (l.drop (i + 1))
  unfold remB
  rw [cnt_app]; omega
theorem remB_at {i j : Nat} {l : List Bool} (hi : i < l.length) : (remB i l)[j]? = if j < i then l[j]? else l[j + 1]? := by
  unfold remB
  have hm : (l.take i).length = i := by rw [List.length_take]; omega
  by_cases h1 : j < i
  · rw [if_pos h1, List.getElem?_append_left (by omega), List.getElem?_take_of_lt h1]
  · rw [if_neg h1, List.getElem?_append_right (by omega), hm, List.getElem?_drop]
    congr 1; omega
theorem remB_tk {n k : Nat} {f : Nat → Bool} (hk : k < n + 1) : tk n (fun j => if j < k then f j else f (j + 1)) = remB k (tk (n + 1) f) := by
  apply List.ext_getElem?
  intro j
  rw [remB_at (by rw [tk_len]; exact hk), tk_at', tk_at', tk_at']
  by_cases h1 : j < k
  · simp only [h1, if_true]
    by_cases h3 : j < n
    · rw [if_pos h3, if_pos (by omega)]
    · rw [if_neg h3]; omega
  · simp only [h1, if_false]
    by_cases h3 : j < n
    · rw [if_pos h3, if_pos (by omega)]
    · rw [if_neg h3, if_neg (by omega)]
theorem set_tk {α : Type} {n k : Nat} {b : α} {f : Nat → α} : tk n (fun j => if j = k then b else f j) = (tk n f).set k b := by
  apply List.ext_getElem?
  intro j
  rw [tk_at', List.getElem?_set, tk_at', tk_len]
  by_cases h1 : j = k
  · subst h1; simp
  · simp only [h1, if_false]
    have h2 : ¬ k = j := fun e => h1 e.symm
    simp only [h2, if_false]
theorem set_cnt {k : Nat} {b : Bool} {l : List Bool} (h : k < l.length) : (cnt (l.set k b) : Int) = cnt l + bn b - bn l[k] := by
  have e : l = l.take k ++ l[k] :: l.drop (k + 1) := by rw [List.getElem_cons_drop, List.take_append_drop]
  have e2 : l.set k b = l.take k ++ b :: l.drop (k + 1) := List.set_eq_take_append_cons_drop.trans (if_pos h)
  have h1 := congrArg cnt e
  rw [cnt_app] at h1
  have h2 := cnt_cons l[k] (l.drop (k + 1))
  have h3 := cnt_cons b (l.drop (k + 1))
  rw [e2, cnt_app]; omega
theorem flp_len {f t : Nat} {l : List Bool} : (flp f t l).length = l.length := by simp [flp]
theorem flp_at {f t j : Nat} {l : List Bool} : (flp f t l)[j]? = l[j]?.map (fun b => if f ≤ j ∧ j < t then !b else b) := by simp [flp]
theorem flp_app {f t : Nat} {a b : List Bool} : flp f t (a ++ b) = flp f t a ++ flp (f - a.length) (t - a.length) b := by
  unfold flp
  rw [List.mapIdx_append]
  congr 1
  apply List.ext_getElem?
  intro j
  rw [List.getElem?_mapIdx, List.getElem?_mapIdx]
  congr 1
  funext x
  have : (f ≤ j + a.length ∧ j + a.length < t) ↔ (f - a.length ≤ j ∧ j < t - a.length) := by omega
  simp only [this]
theorem flp_none {f t : Nat} {l : List Bool} (h : t ≤ f) : flp f t l = l := by
  apply List.ext_getElem?
  intro j
  rw [flp_at]
  have : ¬ (f ≤ j ∧ j < t) := by omega
  simp [this]
theorem flp_far {f t : Nat} {l : List Bool} (h : l.length ≤ f) : flp f t l = l := by
  apply List.ext_getElem?
  intro j
  rw [flp_at]
  by_cases h1 : j < l.length
  · have : ¬ (f ≤ j ∧ j < t) := by omega
    simp [this]
  · rw [List.getElem?_eq_none (by omega)]; rfl
theorem flp_all {t : Nat} {l : List Bool} (h : l.length ≤ t) : flp 0 t l = l.map not := by
  apply List.ext_getElem?
  intro j
  rw [flp_at, List.getElem?_map]
  by_cases h1 : j < l.length
  · have : (0 ≤ j ∧ j < t) := by omega
    simp [this]
  · rw [List.getElem?_eq_none (by omega)]; rfl
theorem flp_min {f t m : Nat} {l : List Bool} (h : l.length ≤ m) : flp (min f m) (min t m) l = flp f t l := by
  apply List.ext_getElem?
  intro j
  rw [flp_at, flp_at]
  by_cases h1 : j < l.length
  · have : (min f m ≤ j ∧ j < min t m) ↔ (f ≤ j ∧ j < t) := by omega
    simp only [this]
  · rw [List.getElem?_eq_none (by omega)]; rfl
theorem flp_tk {f t n : Nat} {g : Nat → Bool} : flp f t (tk n g) = tk n (fun j => if f ≤ j ∧ j < t then !(g j) else g j) := by
  apply List.ext_getElem?
  intro j
  rw [flp_at, tk_at', tk_at']
  by_cases h : j < n
  · rw [if_pos h, if_pos h]; rfl
  · rw [if_neg h, if_neg h]; rfl
