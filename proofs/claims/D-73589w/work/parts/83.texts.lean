/-! THE START: text constants -/
set_option maxRecDepth 100000
theorem strLen_lt : ((List.range 23).all fun i => decide (strLen.getD i 0 < 8)) = true := by decide
/-- one text constant -/
def txOk (A : Nat → Prop) (b : Nat) (s : State) (i : Nat) (q : Nat × Nat) : Prop := (tmS i).eval #[Value.ref b] s none [] s = some (.ref q.1) ∧ va_O "java/lang/String" q.1 A s s.heap ∧ va_OF "java/lang/String" "code\x72" "B" (.int 0) q.1 A s s.heap ∧ va_OF "java/lang/String" "value" "[B" (.ref q.2) q.1 A s s.heap ∧ va_T .byte q.2 (strLen.getD i 0) (fun j => .int ((strByt.getD i []).getD j 0)) A s s.heap
theorem tx_one {A : Nat → Prop} {b : Nat} {s : State} (hA : ∀ a : Nat, a < s.heap.size → ¬ A a) (hg : nrw.before #[Value.ref b] s = true) {i : Nat} (hi : i < 23) : ∃ q, txOk A b s i q := by
  have hlt : strLen.getD i 0 < 8 := of_decide_eq_true (List.all_eq_true.mp strLen_lt i (List.mem_range.mpr hi))
  have hr : ∀ w ∈ strReq i, w.before #[Value.ref b] s = true := fun w hw => strReq_at hg hi hw
  have z : ∀ k, k < 1 → k = 0 := fun k hk => by omega
  obtain ⟨adK, adV, h1, h2⟩ := vk_Sof (args := #[Value.ref b]) (s := s) (N := 1) (tm := fun _ => tmS i) (len := [strLen.getD i 0]) (byt := [strByt.getD i []]) (A := A) (fun k hk => by cases z k hk; show strLen.getD i 0 < 2 ^ 31; omega)
    (fun k _ => hr _ (by simp [strReq])) (fun k _ => hr _ (by simp [strReq])) (fun k _ => hr _ (by simp [strReq])) (fun k hk => by cases z k hk; exact hr _ (by simp [strReq]))
    (fun k hk j hj => by
      cases z k hk
      refine hr _ (List.mem_append_right _ (List.mem_map.mpr ⟨j, List.mem_range.mpr hj, rfl⟩)))
    (fun k j hk hj e => absurd ((z k hk).trans (z j hj).symm) e) hA
  exact ⟨(adK 0, adV 0), h2 0 (by decide), h1.1 0 (by decide)⟩
theorem tx_diff : ((List.range 23).all fun i => (List.range 23).all fun j => decide (i = j) || !(decide (strLen.getD i 0 = strLen.getD j 0) && (List.range (strLen.getD i 0)).all fun k => decide ((strByt.getD i []).getD k 0 = (strByt.getD j []).getD k 0))) = true := by decide +kernel
theorem tx_inj {A : Nat → Prop} {b : Nat} {s : State} {i j : Nat} {p q : Nat × Nat} (hi : i < 23) (hj : j < 23) (h1 : txOk A b s i p) (h2 : txOk A b s j q) (e : p.1 = q.1) : i = j := by
  have li : strLen.getD i 0 < 8 := of_decide_eq_true (List.all_eq_true.mp strLen_lt i (List.mem_range.mpr hi))
  have lj : strLen.getD j 0 < 8 := of_decide_eq_true (List.all_eq_true.mp strLen_lt j (List.mem_range.mpr hj))
  obtain ⟨-, -, -, ⟨cf, k, fi, f, cell, a1, a2, a3, a4, a5, a6⟩, ⟨ca, t1, t2, t3, t4, t5, t6, t7⟩⟩ := h1
  obtain ⟨-, -, -, ⟨cf', k', fi', f', cell', b1, b2, b3, b4, b5, b6⟩, ⟨cb, u1, u2, u3, u4, u5, u6, u7⟩⟩ := h2
  rw [b1] at a1
  cases a1
  rw [e] at a3
  rw [b3] at a3
  cases a3
  rw [b5] at a5
  have e5 : q.2 = p.2 := by
    injection a5 with a5
    injection a5
  rw [e5] at u1
  rw [u1] at t1
  cases t1
  have hl : strLen.getD i 0 = strLen.getD j 0 := by
    have := t5.symm.trans u5
    have h3 := congrArg Int32.toInt this
    rw [Int32.toInt_ofNat_of_lt (by omega), Int32.toInt_ofNat_of_lt (by omega)] at h3
    omega
  have hd := List.all_eq_true.mp (List.all_eq_true.mp tx_diff i (List.mem_range.mpr hi)) j (List.mem_range.mpr hj)
  simp only [Bool.or_eq_true, decide_eq_true_eq, Bool.not_eq_true', Bool.and_eq_false_iff, decide_eq_false_iff_not] at hd
  rcases hd with hd | hd | hd
  · exact hd
  · exact absurd hl hd
  · exfalso
    have hall : ((List.range (strLen.getD i 0)).all fun k => decide ((strByt.getD i []).getD k 0 = (strByt.getD j []).getD k 0)) = true := by
      refine List.all_eq_true.mpr fun k hk => decide_eq_true ?_
      have hk' := List.mem_range.mp hk
      have e1 := t6 k hk'
      have e2 := u6 k (by rw [← hl]; exact hk')
      rw [e1] at e2
      injection e2 with e3
      injection e3
    rw [hall] at hd
    cases hd
