/-! PURE SIDE: rooms: the model: what it has read; words of rows -/
set_option maxRecDepth 100000
abbrev grF : List Nat := [5, 6, 7, 8, 9, 13, 15, 25]
def GR (m0 ms : MS) : Prop := (∀ k, k ∉ grF → ms.1 k = m0.1 k) ∧ ∀ k, k ≠ 12 → k ≠ 21 → ms.2 k = m0.2 k
def M15 (a : Nat → Int32) (S : RS) (k : Nat) : Prop := a 0 = ii k ∧ a 1 = ii S.lo ∧ (∀ r, r < 4 → a (2 + r) = ii (S.bs r).length ∧ (S.bs r).length ≤ 600 ∧ ∀ i, i < (S.bs r).length → a (207 + 600 * r + i) = ii (bn (gb (S.bs r) i))) ∧ a 6 = ii S.T.length ∧ S.T.length ≤ 200 ∧ ∀ i, i < 200 → a (7 + i) = ii (S.T.getD i 0 : Nat)
def RL (m0 : MS) (f : Nat → Nat) (n : Nat) (S : RS) (k : Nat) (t : Tk) (ms : MS) : Prop := GR m0 ms ∧ MkV f t ms ∧ MB ms f n 900 ∧ TkOk f n t ∧ M15 (ms.1 15) S k ∧ (∀ r, r < k → ms.2 21 r = ll (n27 (S.nm r))) ∧ ms.1 25 0 = ii (bn S.hl)
section
variable {m0 ms : MS} {f : Nat → Nat} {n k : Nat} {t : Tk} {S : RS} {Z : Option Value → MS → Prop}
theorem GR.set {q i : Nat} {v : Int32} (G : GR m0 ms) (hq : q ∈ grF) : GR m0 (mset ms q i v) := ⟨fun j hj => (ms_nk fun w => hj (by rw [w]; exact hq)).trans (G.1 j hj), G.2⟩
theorem GR.gp {ms' : MS} (G : GR m0 ms) (o : GP ms ms') : GR m0 ms' := ⟨fun k hk => (o.1 k (fun q => hk ((by decide : ∀ k, k ∈ gpF → k ∈ grF) k q))).trans (G.1 k hk), fun k h1 h2 => (o.2 k h1).trans (G.2 k h1 h2)⟩
theorem M15.bit {a a' : Nat → Int32} {r : Nat} {c : Bool} (M : M15 a S k) (hr : r < 4) (hl : (S.bs r).length < 600) (e1 : a' (207 + 600 * r + (S.bs r).length) = ii (bn c)) (e2 : a' (2 + r) = ii ((S.bs r).length + 1 : Nat)) (e : ∀ x, x ≠ 207 + 600 * r + (S.bs r).length → x ≠ 2 + r → a' x = a x) : M15 a' (rsB S r [c]) k := by
  obtain ⟨m1, m2, m3, m4, m5, m6⟩ := M
  refine ⟨(e _ (by omega) (by omega)).trans m1, (e _ (by omega) (by omega)).trans m2, fun q hq => ?_, (e _ (by omega) (by omega)).trans m4, m5, fun i hi => (e _ (by omega) (by omega)).trans (m6 i hi)⟩
  obtain ⟨w1, w2, w3⟩ := m3 q hq
  show a' (2 + q) = ii (va_up S.bs r (S.bs r ++ [c]) q).length ∧ (va_up S.bs r (S.bs r ++ [c]) q).length ≤ 600 ∧ ∀ i, i < (va_up S.bs r (S.bs r ++ [c]) q).length → a' (207 + 600 * q + i) = ii (bn (gb (va_up S.bs r (S.bs r ++ [c]) q) i))
  by_cases cq : q = r
  · subst cq
    rw [up_at, List.length_append, List.length_singleton]
    refine ⟨e2, by omega, fun i hi => ?_⟩
    rw [gb_app]
    by_cases ci : i = (S.bs q).length
    · rw [if_neg (by omega), ci, Nat.sub_self]; exact e1
    · rw [if_pos (by omega), e _ (by omega) (by omega)]; exact w3 i (by omega)
  · rw [va_up_ne _ _ cq]
    refine ⟨(e _ (by omega) (by omega)).trans w1, w2, fun i hi => (e _ (by omega) (by omega)).trans (w3 i hi)⟩
end
