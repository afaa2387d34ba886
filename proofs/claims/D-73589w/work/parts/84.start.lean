/-! THE START: KK and CK -/
set_option maxRecDepth 100000
theorem eqR' {args : Array Value} {s : State} {t u : Term} {a : Nat} (h : (Cond.eq u t).before args s = true) (ht : t.eval args s none [] s = some (.ref a)) : u.eval args s none [] s = some (.ref a) := by
  cases hu : u.eval args s none [] s with
  | none => simp [Cond.before, Cond.holds, Cond.value, ht, hu] at h
  | some v =>
    cases v <;> simp [Cond.before, Cond.holds, Cond.value, ht, hu] at h ⊢
    exact h
theorem str_eval {b : Nat} {s : State} {u : Term} (hu : ∃ c k, u = .string c k) {v : Option Value} (h : u.eval #[Value.ref b] s none [] s = v) : u.eval #[] s none [] s = v := by
  obtain ⟨c, k, rfl⟩ := hu
  exact h
theorem strRef_args {b : Nat} {s : State} {c t : String} {k : Nat} (h : (Cond.stringRef c k t).before #[Value.ref b] s = true) : (Cond.stringRef c k t).before #[] s = true := h
theorem st_str {b : Nat} {s : State} (hts : ∀ w ∈ lw_tbl, w.before #[Value.ref b] s = true) (hg : nrw.before #[Value.ref b] s = true) {ad : Nat → Nat} (had : ∀ i, i < 23 → (tmS i).eval #[Value.ref b] s none [] s = some (.ref (ad i))) : ∀ q ∈ strTab, vk_R q.1 q.2.1 q.2.2.1 (ad q.2.2.2) s := by
  intro q hq
  have h := List.all_eq_true.mp strTab_ok q hq
  simp only [Bool.and_eq_true, Bool.or_eq_true, decide_eq_true_eq] at h
  obtain ⟨⟨h1, h2⟩, h3⟩ := h
  refine ⟨strRef_args (hts _ h2), str_eval (b := b) ⟨_, _, rfl⟩ ?_⟩
  rcases h3 with (⟨e1, e2⟩ | h3) | h3
  · rw [e1, e2]; exact had _ h1
  · exact eqR' (flat_of_before _ hg _ h3) (had _ h1)
  · exact va_eqR (flat_of_before _ hg _ h3) (had _ h1)
theorem zq_val {C n d : String} {A : Nat → Prop} {s : State} {H : Heap} (h : va_Zq C n d A s H) : ∃ z : Nat, va_Z C n d (va_rf (zO z)) A s H := by
  rcases h with h | ⟨t, h⟩
  · exact ⟨0, h⟩
  · exact ⟨t + 1, h⟩
theorem st_all {b L : Nat} {xs : Nat → Int32} {s : State} (hts : ∀ w ∈ lw_tbl, w.before #[Value.ref b] s = true) (hg : nrw.before #[Value.ref b] s = true) (hX : va_X b L xs s s.heap) (hbl : b < s.heap.size) :
    ∃ G : GG, G.2.1 = s.heap.size ∧ KK G s ∧ CK G s s.heap ∧ G.2.2.1 300 = b ∧ G.2.2.1 301 = L ∧ (∀ j, Int32.ofNat (G.2.2.1 (400 + j)) = xs j) ∧ (∀ i j, i < 23 → j < 23 → G.2.2.1 i = G.2.2.1 j → i = j) ∧ ∀ i, i < 23 → G.2.2.1 i < s.heap.size := by
  obtain ⟨D, hD⟩ := st_cl hts
  obtain ⟨dA, hdA⟩ := st_ar hts
  have hA : ∀ a : Nat, a < s.heap.size → ¬ s.heap.size ≤ a := fun a h => Nat.not_le.mpr h
  have h0 : ∀ i : Nat, ∃ q : Nat × Nat, i < 23 → txOk (fun q => s.heap.size ≤ q) b s i q := fun i => by
    by_cases hi : i < 23
    · obtain ⟨q, hq⟩ := tx_one (A := fun q => s.heap.size ≤ q) hA hg hi
      exact ⟨q, fun _ => hq⟩
    · exact ⟨(0, 0), fun h => absurd h hi⟩
  obtain ⟨ad, had⟩ := Classical.axiomOfChoice h0
  have hz1 := vx_Zqof (A := fun q => s.heap.size ≤ q) (hts _ (by first | exact lw_all_tbl q178 | exact q178)) (hts _ (by first | exact lw_all_tbl q111 | exact q111)) (flat_of_before _ hg (Cond.isRef (.static "java/lang/Throwable" "UNASSIGNED_STACK" "[Ljava/lang/StackTraceElement;")) (by decide +kernel)) hA
  have hz2 := vx_Zqof (A := fun q => s.heap.size ≤ q) (hts _ (by first | exact lw_all_tbl q180 | exact q180)) (hts _ (by first | exact lw_all_tbl q111 | exact q111)) (flat_of_before _ hg (Cond.isRef (.static "java/lang/Throwable" "SUPPRESSED_SENTINEL" "Ljava/util/List;")) (by decide +kernel)) hA
  have hz3 := vx_Zqof (A := fun q => s.heap.size ≤ q) (hts _ (by first | exact lw_all_tbl q661 | exact q661)) (hts _ (by first | exact lw_all_tbl q124 | exact q124)) (flat_of_before _ hg (Cond.isRef (.static "jdk/internal/util/Preconditions" "SIOOBE_FORMATTER" "Ljava/util/function/BiFunction;")) (by decide +kernel)) hA
  have hz4 := va_Zof (A := fun q => s.heap.size ≤ q) (hts _ (by first | exact lw_all_tbl q645 | exact q645)) (hts _ (by first | exact lw_all_tbl q122 | exact q122)) (va_eqt (flat_of_before _ hg (Cond.eq (.static "java/lang/String" "COMPACT_STRINGS" "Z") (.int 1)) (by decide +kernel))) hA
  obtain ⟨v1, hv1⟩ := zq_val hz1.1
  obtain ⟨v2, hv2⟩ := zq_val hz2.1
  obtain ⟨v3, hv3⟩ := zq_val hz3.1
  let f : Nat → Nat := fun k => if k < 23 then (ad k).1 else if k < 100 then 0 else if k < 200 then (ad (k - 100)).2 else if k = 200 then v1 else if k = 201 then v2 else if k = 202 then v3 else if k = 300 then b else if k = 301 then L else (xs (k - 400)).toUInt32.toNat
  have f1 : ∀ i, i < 23 → f i = (ad i).1 := fun i hi => if_pos hi
  have f2 : ∀ i, i < 23 → f (100 + i) = (ad i).2 := fun i hi => by
    show (if 100 + i < 23 then _ else if 100 + i < 100 then _ else if 100 + i < 200 then (ad (100 + i - 100)).2 else _) = _
    rw [if_neg (by omega), if_neg (by omega), if_pos (by omega), Nat.add_sub_cancel_left]
  have f4 : ∀ j, Int32.ofNat (f (400 + j)) = xs j := fun j => by
    show Int32.ofNat (if 400 + j < 23 then _ else if 400 + j < 100 then _ else if 400 + j < 200 then _ else if 400 + j = 200 then _ else if 400 + j = 201 then _ else if 400 + j = 202 then _ else if 400 + j = 300 then _ else if 400 + j = 301 then _ else (xs (400 + j - 400)).toUInt32.toNat) = _
    rw [if_neg (by omega), if_neg (by omega), if_neg (by omega), if_neg (by omega), if_neg (by omega), if_neg (by omega), if_neg (by omega), if_neg (by omega), Nat.add_sub_cancel_left]
    show (Int32.ofNat (xs j).toUInt32.toNat) = xs j
    apply Int32.toBitVec_inj.mp
    apply BitVec.eq_of_toNat_eq
    simp
  refine ⟨((D, dA), s.heap.size, f, fun _ => 0), rfl, ⟨⟨hD, hdA⟩, fun w hw hk => va_Nw.of (nw_tab hk) (hts w hw), st_ao hts, st_fw hts, ?_, ?_, (show (Cond.arrayOver (.array (.object RX14))).before #[Value.ref b] s = true from hts _ (by first | exact lw_all_tbl q451 | exact q451)), st_sel hts⟩, ⟨⟨?_, ?_⟩, hz1, hz2, hz4, hv3, hv1, hv2, ?_⟩, rfl, rfl, f4, ?_, ?_⟩
  · intro q hq
    simp only [ncTab, List.mem_cons, List.not_mem_nil, or_false] at hq
    rcases hq with e | e
    · rw [e]; exact va_Nc.of (flat_of_before _ hg (Cond.not (.castable RX12 RX13)) (by decide +kernel))
    · rw [e]; exact va_Nc.of (flat_of_before _ hg (Cond.not (.castable RX13 RX12)) (by decide +kernel))
  · exact st_str hts hg (ad := f) (fun i hi => by rw [f1 i hi]; exact (had i hi).1)
  · intro i hi
    show va_O _ (f i) _ _ _ ∧ va_OF _ _ _ _ (f i) _ _ _ ∧ va_OF _ _ _ (.ref (f (100 + i))) (f i) _ _ _ ∧ va_T _ (f (100 + i)) _ _ _ _ _
    rw [f1 i hi, f2 i hi]
    exact (had i hi).2
  · intro i j hi hj e
    have e' : (ad i).1 = (ad j).1 := by rw [← f1 i hi, ← f1 j hj]; exact e
    exact tx_inj hi hj (had i hi) (had j hj) e'
  · obtain ⟨scr, g1, g2, g3, g4, g5⟩ := hX
    refine ⟨scr, g1, g2, g3, Nat.le_of_eq g4.symm, ?_, fun j hj => ?_, Nat.not_le.mpr hbl⟩
    · show scr.slots.size.toInt32 = Int32.ofNat L
      rw [g4]
    · show scr.slots[j]? = some (.int (Int32.ofNat (f (400 + j))))
      rw [f4 j]; exact g5 j hj
  · intro i j hi hj e
    have e' : (ad i).1 = (ad j).1 := by rw [← f1 i hi, ← f1 j hj]; exact e
    exact tx_inj hi hj (had i hi) (had j hj) e'
  · intro i hi
    show f i < s.heap.size
    rw [f1 i hi]
    obtain ⟨-, ⟨cell, c1, -⟩, -⟩ := had i hi
    exact (Array.getElem?_eq_some_iff.mp c1).1
