/-! PURE SIDE: tokens; the component's reader goes to the next one -/
set_option maxRecDepth 100000
abbrev isLt (c : Nat) : Prop := 97 ≤ c ∧ c ≤ 122
abbrev isDg (c : Nat) : Prop := 48 ≤ c ∧ c ≤ 57
abbrev alN (c : Nat) : Prop := isLt c ∨ isDg c
def skp (f : Nat → Nat) (n : Nat) : Nat → Nat → Nat
  | 0, p => p
  | m + 1, p => if p < n ∧ (f p = 32 ∨ f p = 10) then skp f n m (p + 1) else p
def runE (f : Nat → Nat) (n : Nat) : Nat → Nat → Nat
  | 0, p => p
  | m + 1, p => if p < n ∧ alN (f p) then runE f n m (p + 1) else p
def seg (f : Nat → Nat) (a p : Nat) : List Nat := (List.range (p - a)).map fun i => f (a + i)
def allS (f : Nat → Nat) (sm : Bool) (a p : Nat) : Bool := (seg f a p).all fun c => decide (isLt c) == sm
def nv (l : List Nat) : Nat := l.foldl (fun a c => 10 * a + (c - 48)) 0
/-- a token: its sort (0 stop, 1 word, 2 number, 3 sign, 4 wrong), where it is, what is behind it -/
abbrev Tk : Type := Nat × Nat × Nat
abbrev Tk.k (t : Tk) : Nat := t.1
abbrev Tk.at_ (t : Tk) : Nat := t.2.1
abbrev Tk.p (t : Tk) : Nat := t.2.2
def tkW (f : Nat → Nat) (q e : Nat) : Nat := if allS f (decide (isLt (f q))) q e = true ∧ e - q ≤ (if isLt (f q) then 7 else 3) then (if isLt (f q) then 1 else 2) else 4
def tkQ (f : Nat → Nat) (n most q : Nat) : Tk := if most < n ∧ most ≤ q then (4, most, q) else if n ≤ q then (0, q, q) else if alN (f q) then (tkW f q (runE f n (n - q) q), q, runE f n (n - q) q) else (if f q = 59 ∨ f q = 40 ∨ f q = 41 ∨ (60 ≤ f q ∧ f q ≤ 62) then 3 else 4, q, q + 1)
def tok (f : Nat → Nat) (n most p : Nat) : Tk := tkQ f n most (skp f n (n - p) p)
theorem seg_succ {f : Nat → Nat} {a p : Nat} (h : a ≤ p) : seg f a (p + 1) = seg f a p ++ [f p] := by
  unfold seg
  rw [show p + 1 - a = (p - a) + 1 by omega, List.range_succ, List.map_append, List.map_cons, List.map_nil, show a + (p - a) = p by omega]
theorem seg_len {f : Nat → Nat} {a p : Nat} : (seg f a p).length = p - a := by unfold seg; rw [List.length_map, List.length_range]
theorem seg_0 {f : Nat → Nat} {a : Nat} : seg f a a = [] := by unfold seg; rw [Nat.sub_self]; rfl
theorem allS_succ {f : Nat → Nat} {sm : Bool} {a p : Nat} (h : a ≤ p) : allS f sm a (p + 1) = (allS f sm a p && (decide (isLt (f p)) == sm)) := by
  unfold allS
  rw [seg_succ h, List.all_append, List.all_cons, List.all_nil, Bool.and_true]
theorem n256_app {l : List Nat} {c : Nat} : n256 (l ++ [c]) = 256 * n256 l + c := by unfold n256; rw [List.foldl_append]; rfl
theorem n27_app {l : List Nat} {c : Nat} : n27 (l ++ [c]) = 27 * n27 l + (c - 96) := by unfold n27; rw [List.foldl_append]; rfl
theorem nv_app {l : List Nat} {c : Nat} : nv (l ++ [c]) = 10 * nv l + (c - 48) := by unfold nv; rw [List.foldl_append]; rfl
theorem n256_lt {l : List Nat} (h : ∀ c, c ∈ l → c < 256) : n256 l < 256 ^ l.length := by
  have key : ∀ (l : List Nat) (a k : Nat), a < 256 ^ k → (∀ c, c ∈ l → c < 256) → l.foldl (fun a c => 256 * a + c) a < 256 ^ (k + l.length) := by
    intro l
    induction l with
    | nil => intro a k ha _; exact ha
    | cons x t ih =>
      intro a k ha hl
      have hx := hl x List.mem_cons_self
      have := ih (256 * a + x) (k + 1) (by rw [Nat.pow_succ]; omega) (fun c hc => hl c (List.mem_cons_of_mem _ hc))
      rw [List.length_cons, List.foldl_cons, show k + (t.length + 1) = k + 1 + t.length by omega]
      exact this
  have := key l 0 0 (by decide) h
  rw [Nat.zero_add] at this
  exact this
theorem n27_lt {l : List Nat} (h : ∀ c, c ∈ l → c ≤ 122) : n27 l < 27 ^ l.length := by
  have key : ∀ (l : List Nat) (a k : Nat), a < 27 ^ k → (∀ c, c ∈ l → c ≤ 122) → l.foldl (fun a c => 27 * a + (c - 96)) a < 27 ^ (k + l.length) := by
    intro l
    induction l with
    | nil => intro a k ha _; exact ha
    | cons x t ih =>
      intro a k ha hl
      have hx := hl x List.mem_cons_self
      have := ih (27 * a + (x - 96)) (k + 1) (by rw [Nat.pow_succ]; omega) (fun c hc => hl c (List.mem_cons_of_mem _ hc))
      rw [List.length_cons, List.foldl_cons, show k + (t.length + 1) = k + 1 + t.length by omega]
      exact this
  have := key l 0 0 (by decide) h
  rw [Nat.zero_add] at this
  exact this
theorem nv_lt {l : List Nat} (h : ∀ c, c ∈ l → c ≤ 57) : nv l < 10 ^ l.length := by
  have key : ∀ (l : List Nat) (a k : Nat), a < 10 ^ k → (∀ c, c ∈ l → c ≤ 57) → l.foldl (fun a c => 10 * a + (c - 48)) a < 10 ^ (k + l.length) := by
    intro l
    induction l with
    | nil => intro a k ha _; exact ha
    | cons x t ih =>
      intro a k ha hl
      have hx := hl x List.mem_cons_self
      have := ih (10 * a + (x - 48)) (k + 1) (by rw [Nat.pow_succ]; omega) (fun c hc => hl c (List.mem_cons_of_mem _ hc))
      rw [List.length_cons, List.foldl_cons, show k + (t.length + 1) = k + 1 + t.length by omega]
      exact this
  have := key l 0 0 (by decide) h
  rw [Nat.zero_add] at this
  exact this
theorem ll_sh8 (N : Nat) : ll (N : Int) <<< ((8 : Int32).toInt64 &&& 63) = ll ((N * 256 : Nat) : Int) := by
  apply Int64.toBitVec_inj.1
  have e2 : ((8 : Int32).toInt64 &&& 63) = 8 := by decide
  rw [e2, Int64.toBitVec_shiftLeft]
  show (BitVec.ofInt 64 (N : Int)) <<< (8 : Nat) = BitVec.ofInt 64 ((N * 256 : Nat) : Int)
  apply BitVec.eq_of_toNat_eq
  rw [BitVec.toNat_shiftLeft, BitVec.toNat_ofInt, BitVec.toNat_ofInt, Nat.shiftLeft_eq]
  omega
theorem or8 {N c : Nat} (hN : N < 281474976710656) (hc : c < 256) : ll ((N * 256 : Nat) : Int) ||| ll (c : Int) = ll ((256 * N + c : Nat) : Int) := by
  apply Int64.toBitVec_inj.1
  rw [Int64.toBitVec_or]
  show BitVec.ofInt 64 ((N * 256 : Nat) : Int) ||| BitVec.ofInt 64 (c : Int) = BitVec.ofInt 64 ((256 * N + c : Nat) : Int)
  apply BitVec.eq_of_toNat_eq
  rw [BitVec.toNat_or, BitVec.toNat_ofInt, BitVec.toNat_ofInt, BitVec.toNat_ofInt]
  have h1 : (((N * 256 : Nat) : Int) % (2 ^ 64 : Nat)).toNat = N * 256 := by omega
  have h2 : ((c : Int) % (2 ^ 64 : Nat)).toNat = c := by omega
  have h3 : (((256 * N + c : Nat) : Int) % (2 ^ 64 : Nat)).toNat = 256 * N + c := by omega
  rw [h1, h2, h3, Nat.mul_comm N 256]
  exact (Nat.two_pow_add_eq_or_of_lt (i := 8) hc N).symm
theorem sb255 : ∀ c : Fin 256, ii (sbv c.val) &&& (255 : Int32) = ii (c.val : Int) := by decide +kernel
/-- what the reader has of a token -/
def TkV (f : Nat → Nat) (t : Tk) (v mn : Int32) (nm : Int64) : Prop := (t.k = 1 → mn = ii ((t.p - t.at_ : Nat) : Int) ∧ nm = ll (n256 (seg f t.at_ t.p))) ∧ (t.k = 2 → v = ii (nv (seg f t.at_ t.p))) ∧ (t.k = 3 → v = ii (f t.at_))
/-- what a reader reads -/
def TB (b : Nat → Nat) (h : PH) (f : Nat → Nat) (n : Nat) : Prop := (∃ fs, h.1 (b 0) = some (.inr (0, fs)) ∧ fs[0]? = some (.ref (b 1)) ∧ fs[2]? = some (.int (ii n))) ∧ (∃ g, h.1 (b 1) = some (.inl (2, 940, .inl g)) ∧ ∀ i, i < 940 → g i = ii (sbv (f i))) ∧ n ≤ 940 ∧ ∀ i, f i < 256
abbrev RDC (b : Nat → Nat) (cls : Nat) (most : Int) (x8 x9 : Value) (x10 : Int32) (p at_ tk v mn : Int32) (nm : Int64) : PC := rdC cls (b 0) most p at_ tk v mn nm x8 x9 x10
section
variable {b : Nat → Nat} {h : PH} {f : Nat → Nat} {n cls ρ : Nat} {most : Int} {x8 x9 : Value} {x10 p_ at_ tk v mn : Int32} {nm : Int64} {Q : Rt → PH → Prop}
theorem TB.set {c d : PC} (T : TB b h f n) (e : h.1 ρ = some d) (k : kd d ≠ 0 ∧ kd d ≠ 5) : TB b (hset h ρ c) f n := by
  obtain ⟨⟨fs, a1, a2, a3⟩, ⟨g, a4, a5⟩, a6⟩ := T
  have n0 : b 0 ≠ ρ := fun q => by
    rw [q, e] at a1
    injection a1 with a1
    rw [a1] at k
    exact k.1 rfl
  have n1 : b 1 ≠ ρ := fun q => by
    rw [q, e] at a4
    injection a4 with a4
    rw [a4] at k
    exact k.2 rfl
  exact ⟨⟨fs, up_nx n0 a1, a2, a3⟩, ⟨g, up_nx n1 a4, a5⟩, a6⟩
theorem clk (hc : cls = 5 ∨ cls = 6 ∨ cls = 7) {l : List Value} : kd (.inr (cls, l) : PC) ≠ 0 ∧ kd (.inr (cls, l) : PC) ≠ 5 := by
  show 2 * cls ≠ 0 ∧ 2 * cls ≠ 5
  omega
theorem clm (hc : cls = 5 ∨ cls = 6 ∨ cls = 7) : cls ∈ [5, 6, 7] := by
  rcases hc with q | q | q <;> (subst q; decide)
theorem p_peek {p : Nat} (hc : cls = 5 ∨ cls = 6 ∨ cls = 7) (T : TB b h f n) (e : h.1 ρ = some (RDC b cls most x8 x9 x10 (ii p) at_ tk v mn nm)) (hp : p ≤ 2000) : c_D_peek h ρ = rI (ii (if p < n then (f p : Int) else -1)) h := by
  obtain ⟨⟨fs, a1, a2, a3⟩, ⟨g, a4, a5⟩, a6, a7⟩ := T
  refine eqI ?_
  unfold c_D_peek
  refine q_grd e (clm hc) ?_
  refine q_gI e (clm hc) rfl ?_
  refine q_gQr e (clm hc) rfl ?_
  refine q_nn ?_
  refine q_gI a1 (by decide) a3 ?_
  by_cases c : p < n
  · rw [if_pos c]
    refine q_neg _ (ii_leF (by omega)) ?_
    refine q_gQr e (clm hc) rfl ?_
    refine q_nn ?_
    refine q_gQr a1 (by decide) a2 ?_
    refine q_gI e (clm hc) rfl ?_
    refine q_nn ?_
    refine q_ldI a4 (by omega) ?_
    rw [Int.toNat_natCast, a5 p (by omega), sb255 ⟨f p, a7 p⟩]
    exact q_rI ⟨rfl, rfl⟩
  · rw [if_neg c]
    refine q_pos _ (ii_leT (by omega)) ?_
    exact q_rI ⟨rfl, rfl⟩
theorem p_isL {x : Int} (hc : cls = 5 ∨ cls = 6 ∨ cls = 7) (e : h.1 ρ = some (RDC b cls most x8 x9 x10 p_ at_ tk v mn nm)) (hx : -1 ≤ x ∧ x < 256) : c_D_isLetter h ρ (ii x) = rI (ii (bn (decide (97 ≤ x ∧ x ≤ 122)))) h := by
  refine eqI ?_
  unfold c_D_isLetter
  refine q_grd e (clm hc) ?_
  rw [il_97, il_122]
  refine q_hIe (b_isIn (by omega)) ?_
  cases decide (97 ≤ x ∧ x ≤ 122)
  · exact q_rZ0 ⟨rfl, rfl⟩
  · exact q_rZ1 ⟨rfl, rfl⟩
theorem p_isD {x : Int} (hc : cls = 5 ∨ cls = 6 ∨ cls = 7) (e : h.1 ρ = some (RDC b cls most x8 x9 x10 p_ at_ tk v mn nm)) (hx : -1 ≤ x ∧ x < 256) : c_D_isDigit h ρ (ii x) = rI (ii (bn (decide (48 ≤ x ∧ x ≤ 57)))) h := by
  refine eqI ?_
  unfold c_D_isDigit
  refine q_grd e (clm hc) ?_
  rw [il_48, il_57]
  refine q_hIe (b_isIn (by omega)) ?_
  cases decide (48 ≤ x ∧ x ≤ 57)
  · exact q_rZ0 ⟨rfl, rfl⟩
  · exact q_rZ1 ⟨rfl, rfl⟩
/-- while a word or number is read -/
def RdI (f : Nat → Nat) (sm : Bool) (q p : Nat) (is : Bool) (v : Int32) (nm : Int64) : Prop := is = allS f sm q p ∧ (is = true → sm = true → nm = ll (n256 ((seg f q p).take 7))) ∧ (is = true → sm = false → v = ii (nv ((seg f q p).take 3)))
theorem take_one {l : List Nat} {c k : Nat} : (l ++ [c]).take k = if l.length < k then l.take k ++ [c] else l.take k := by
  by_cases h : l.length < k
  · rw [if_pos h, List.take_of_length_le (by rw [List.length_append]; simp; omega), List.take_of_length_le (by omega)]
  · rw [if_neg h, List.take_append_of_le_length (by omega)]
theorem seg_m {f : Nat → Nat} {sm : Bool} {a p : Nat} (h : allS f sm a p = true) : ∀ c, c ∈ seg f a p → decide (isLt c) = sm := by
  intro c hc
  have := List.all_eq_true.mp h c hc
  exact beq_iff_eq.mp this
theorem seg_run {f : Nat → Nat} {n a : Nat} : ∀ (m p : Nat), a ≤ p → (∀ c, c ∈ seg f a p → alN c) → ∀ c, c ∈ seg f a (runE f n m p) → alN c := by
  intro m
  induction m with
  | zero => intro p _ h; exact h
  | succ m ih =>
    intro p hp h
    unfold runE
    by_cases c : p < n ∧ alN (f p)
    · rw [if_pos c]
      refine ih (p + 1) (by omega) fun d hd => ?_
      rw [seg_succ hp] at hd
      rcases List.mem_append.mp hd with q | q
      · exact h d q
      · rw [List.mem_singleton.mp q]; exact c.2
    · rw [if_neg c]; exact h
theorem RdI.step {sm is : Bool} {q p : Nat} (I : RdI f sm q p is v nm) (hq : q ≤ p) (hf : alN (f p)) (hs : ∀ c, c ∈ seg f q p → alN c) : RdI f sm q (p + 1) (is && (decide (isLt (f p)) == sm)) (if p - q < 3 then ii (10 * v.toInt + f p - 48) else v) (if p - q < 7 then (nm <<< ((8 : Int32).toInt64 &&& 63)) ||| ll (f p) else nm) := by
  obtain ⟨i1, i2, i3⟩ := I
  refine ⟨by rw [allS_succ hq, i1], fun h1 h2 => ?_, fun h1 h2 => ?_⟩
  · rw [Bool.and_eq_true] at h1
    rw [i2 h1.1 h2, seg_succ hq, take_one, seg_len]
    by_cases c : p - q < 7
    · rw [if_pos c, if_pos c, n256_app, ll_sh8, or8]
      · have hl : ∀ c, c ∈ (seg f q p).take 7 → c < 256 := fun c hc => by
          have := hs c (List.mem_of_mem_take hc)
          omega
        have := n256_lt hl
        have l6 : ((seg f q p).take 7).length ≤ 6 := by rw [List.length_take, seg_len]; omega
        exact Nat.lt_of_lt_of_le this (Nat.pow_le_pow_right (by decide) l6)
      · omega
    · rw [if_neg c, if_neg c]
  · rw [Bool.and_eq_true] at h1
    rw [seg_succ hq, take_one, seg_len]
    by_cases c : p - q < 3
    · rw [if_pos c, if_pos c, nv_app]
      have hl : ∀ c, c ∈ (seg f q p).take 3 → c ≤ 57 := fun c hc => by
        have h3 := hs c (List.mem_of_mem_take hc)
        have h4 := seg_m (by rw [← i1]; exact h1.1) c (List.mem_of_mem_take hc)
        rw [h2, decide_eq_false_iff_not] at h4
        omega
      have l2 : ((seg f q p).take 3).length ≤ 2 := by rw [List.length_take, seg_len]; omega
      have b1 := Nat.lt_of_lt_of_le (nv_lt hl) (Nat.pow_le_pow_right (by decide) l2)
      rw [i3 h1.1 h2, ii_toInt (by omega)]
      have h5 := beq_iff_eq.mp h1.2
      rw [h2, decide_eq_false_iff_not] at h5
      congr 1
      omega
    · rw [if_neg c, if_neg c, i3 h1.1 h2]
end
