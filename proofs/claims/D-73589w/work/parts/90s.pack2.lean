/-! PURE SIDE: ropes packed and unpacked -/
set_option maxRecDepth 100000
section
variable {own own' : Nat → Nat} {ρ B : Nat} {h h' h1 h2 : PH} {w low nu a3 a7 nb : Nat} {row : Nat → Option Nat} {ls ls0 : LL} {bt : Bool} {root : Option Nat}
theorem p_pack (R : RP own ρ h low ls nu bt) (wf : Wf h) (hB : B ≠ ρ) : EQ (c_R_pack h ρ) (fun v h' => ∃ a, v = some a ∧ PK (ow own h.2.1.1 B) B h' a ls ∧ RP (ow own h.2.1.1 B) ρ h' low ls nu bt ∧ RF own ρ h h' ∧ h'.2.1.1 ≤ h.2.1.1 + 3 ∧ h'.2.1.2 ≤ h.2.1.2 + 170) := by
  have hbd := R.bnd
  obtain ⟨w0, root0, mx0, at0, e0⟩ := R.cell
  have R0 := R.owx (own' := ow own h.2.1.1 B) fun x c hx => ow_lt (wf.lt hx)
  refine EQ.of ?_
  unfold c_R_pack
  refine q_grd e0 (by decide) ?_
  refine q_hIe (p_wide R) ?_
  have x1 : (ii (ls.flatten.length : Int) + (64 : Int32) - (1 : Int32)) / (64 : Int32) = ii (((ls.flatten.length + 63) / 64 : Nat) : Int) := by
    rw [il_64, il_1, ii_add, ii_sub, ii_div (by omega)]
    congr 1
    omega
  rw [x1]
  refine q_nz (by decide) ?_
  refine q_newA (by omega) ?_
  rw [Int.toNat_natCast]
  obtain ⟨nb, hnb⟩ : ∃ nb, nb = (ls.flatten.length + 63) / 64 := ⟨_, rfl⟩
  rw [← hnb]
  have w4 := wf.new (n := nb) (c := .inl (1, nb, .inr (.inl (fun _ => 0))))
  have R4 : RP (ow own h.2.1.1 B) ρ (hnew h nb (.inl (1, nb, .inr (.inl (fun _ => 0))))) low ls nu bt := R0.fr fun x c _ e => new_old wf e
  refine q_hIe (p_folds R4) ?_
  refine q_newA (by omega) ?_
  rw [Int.toNat_natCast]
  have w8 := w4.new (n := ls.length) (c := .inl (0, ls.length, .inl (fun _ => 0)))
  have R8 : RP (ow own h.2.1.1 B) ρ (hnew (hnew h nb (.inl (1, nb, .inr (.inl (fun _ => 0))))) ls.length (.inl (0, ls.length, .inl (fun _ => 0)))) low ls nu bt := R4.fr fun x c _ e => new_old w4 e
  refine q_hQ (p_all R8 w8) fun v h9 ⟨w, row, g1, Rw, L, R9, rf9, z9⟩ => ?_
  subst g1
  have oa3 : ow own h.2.1.1 B h.2.1.1 = B := ow_ge (Nat.le_refl _)
  have oa7 : ow own h.2.1.1 B (h.2.1.1 + 1) = B := ow_ge (by omega)
  have e3 : h9.1 h.2.1.1 = some (.inl (1, nb, .inr (.inl (fun _ => 0)))) := rf9.ow (new_old w4 new_eq) (by rw [oa3]; exact hB)
  have e7 : h9.1 (h.2.1.1 + 1) = some (.inl (0, ls.length, .inl (fun _ => 0))) := rf9.ow (x := h.2.1.1 + 1) new_eq (by rw [oa7]; exact hB)
  have w9 := rf9.wf
  have z91 : h9.2.1.1 = h.2.1.1 + 2 := by rw [z9]; rfl
  have z92 : h9.2.1.2 = h.2.1.2 + nb + ls.length := by rw [z9]; rfl
  have z93 : h9.2.2 = h.2.2 := by rw [z9]; rfl
  have n37 : h.2.1.1 ≠ h.2.1.1 + 1 := by omega
  obtain ⟨w', root', mx', at', er9⟩ := R9.cell
  have hH : HB h9 h.2.1.1 (h.2.1.1 + 1) nb ls.length (fun _ => 0) (fun _ => 0) = h9 := by
    unfold HB
    rw [hset_same e3, hset_same e7]
  have kp : ∀ f g x c, h9.1 x = some c → x ≠ h.2.1.1 → x ≠ h.2.1.1 + 1 → (HB h9 h.2.1.1 (h.2.1.1 + 1) nb ls.length f g).1 x = some c := fun f g x c e n1 n2 => up_nx n2 (up_nx n1 e)
  have kr : ∀ f g x c, h9.1 x = some c → ow own h.2.1.1 B x = ρ → (HB h9 h.2.1.1 (h.2.1.1 + 1) nb ls.length f g).1 x = some c := fun f g x c e o => kp f g x c e (fun q => hB (by rw [← o, q, oa3])) (fun q => hB (by rw [← o, q, oa7]))
  have wH : ∀ f g, Wf (HB h9 h.2.1.1 (h.2.1.1 + 1) nb ls.length f g) := fun f g => (w9.setE e3).setE (up_nx (Ne.symm n37) e7)
  have key := pack_l33 (Q := fun r h' => ∃ v, r = .inl (some (va_rf v)) ∧ ∃ a, v = some a ∧ PK (ow own h.2.1.1 B) B h' a ls ∧ RP (ow own h.2.1.1 B) ρ h' low ls nu bt ∧ RF own ρ h h' ∧ h'.2.1.1 ≤ h.2.1.1 + 3 ∧ h'.2.1.2 ≤ h.2.1.2 + 170) (h := h9) (a3 := h.2.1.1) (a7 := h.2.1.1 + 1) (nb := nb) (ls := ls) (ρ := ρ) (w := w) (row := row) n37 (by omega) (by omega) (by omega) (fun f g => kr f g _ _ Rw.1 Rw.2.1) (fun f g => kr f g _ _ er9 R9.1) rfl (fun f g => L.fr Rw (by omega) (fun x c o e => kr f g x c e o)) ?_ ls.length FU 0 (fun _ => 0) (fun _ => 0) (by unfold FU; omega) (by omega) (fun j _ => by rw [if_neg (by simp)]; unfold wb; simp) (fun k l hk => by omega)
  · rw [hH] at key
    rw [il_0]
    exact key
  · intro f g hz hg
    refine q_newO ?_
    have lN : (HB h9 h.2.1.1 (h.2.1.1 + 1) nb ls.length f g).2 = h9.2 := rfl
    have l1 : (HB h9 h.2.1.1 (h.2.1.1 + 1) nb ls.length f g).2.1.1 = h.2.1.1 + 2 := by rw [lN]; exact z91
    have l2 : (HB h9 h.2.1.1 (h.2.1.1 + 1) nb ls.length f g).2.1.2 = h.2.1.2 + nb + ls.length := by rw [lN]; exact z92
    have l3 : (HB h9 h.2.1.1 (h.2.1.1 + 1) nb ls.length f g).2.2 = h.2.2 := by rw [lN]; exact z93
    have wHH := wH f g
    have c3 : (HB h9 h.2.1.1 (h.2.1.1 + 1) nb ls.length f g).1 h.2.1.1 = some (.inl (1, nb, .inr (.inl f))) := up_nx n37 up_eq
    have c7 : (HB h9 h.2.1.1 (h.2.1.1 + 1) nb ls.length f g).1 (h.2.1.1 + 1) = some (.inl (0, ls.length, .inl g)) := up_eq
    have RH : RP (ow own h.2.1.1 B) ρ (HB h9 h.2.1.1 (h.2.1.1 + 1) nb ls.length f g) low ls nu bt := R9.fr fun x c o e => kr f g x c e o
    have rfH : ∀ x c, h.1 x = some c → (own x ≠ ρ ∨ rK c = false) → (HB h9 h.2.1.1 (h.2.1.1 + 1) nb ls.length f g).1 x = some c := fun x c e q => by
      have lx := wf.lt e
      exact kp f g x c (rf9.2.2.2.2 x c (new_old w4 (new_old wf e)) (by rw [ow_lt lx]; exact q)) (by omega) (by omega)
    generalize HB h9 h.2.1.1 (h.2.1.1 + 1) nb ls.length f g = H at *
    refine q_hV (Q1 := fun h' => h' = hset (hnew H ([.null, .null] : List Value).length (.inr (11, [.null, .null]))) H.2.1.1 (.inr (11, [.ref h.2.1.1, .ref (h.2.1.1 + 1)]))) (EV.of ?_) fun h' g' => ?_
    · unfold c_P_init
      refine q_grd new_eq (by decide) ?_
      refine q_pQ new_eq (by decide) (Nat.le_of_ble_eq_true rfl) ?_
      refine q_pQ up_eq (by decide) (Nat.le_of_ble_eq_true rfl) ?_
      rw [hset_hset]
      exact q_rV ⟨rfl, rfl⟩
    · subst g'
      have old : ∀ x c, H.1 x = some c → (hset (hnew H ([.null, .null] : List Value).length (.inr (11, [.null, .null]))) H.2.1.1 (.inr (11, [.ref h.2.1.1, .ref (h.2.1.1 + 1)]))).1 x = some c := fun x c e => up_nx (Nat.ne_of_lt (wHH.lt e)) (new_old wHH e)
      refine q_rQ ⟨some H.2.1.1, rfl, H.2.1.1, rfl, ⟨h.2.1.1, h.2.1.1 + 1, f, g, up_eq, ⟨oa3, oa7⟩, ?_, old _ _ c7, hg, fun j hj => ?_⟩, RH.fr fun x c _ e => old x c e, ⟨?_, ?_, ?_, (wHH.new).setE new_eq, fun x c e q => old x c (rfH x c e q)⟩, ?_, ?_⟩
      · rw [← hnb]; exact old _ _ c3
      · rw [hz j (by omega), if_pos hj]
      · show h.2.1.1 ≤ H.2.1.1 + 1; omega
      · show h.2.1.2 ≤ H.2.1.2 + 2; omega
      · exact l3
      · show H.2.1.1 + 1 ≤ _; omega
      · show H.2.1.2 + 2 ≤ _; omega
end
