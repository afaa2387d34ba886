/-! PURE SIDE: rooms: a new room, the tried state begun, by the component -/
set_option maxRecDepth 100000
section
variable {b own own' : Nat → Nat} {X : XS} {h h1 h' : PH} {held : Int} {rm z z' : Nat} {skm : Int} {sn : Option Nat} {R R' N N' : Nat → Nat} {Tb : Nat → Bool} {seed rows' seed' : Int32} {Z : Rt → PH → Prop}
theorem b_room0 {K : Nat → PH → Option RH} (O : CBo b own X held rm z z' skm sn R R' N N' Tb seed rows' seed' h) (kk : ∀ h9, TS b own R' z' h.2.1.1 (h.2.1.1 + 1) h (h.2.1.1 + 2 + 2 * s11 N') (h.2.1.2 + 7 + 7 * s11 N') (ii (0 : Nat)) seed' rs0 0 (ow own h.2.1.1 (b 0)) N' (fun _ => false) (fun _ => []) h9 → (∀ x c, h.1 x = some c → kd c = 10 → h9.1 x = some c) → Ends (K h.2.1.1 h9) Z) : Ends (newO h 2 [.null, .int 0, .int 0] fun a3 h4 => hV (c_O_init h4 a3) noX fun h5 => gQ h5 (b 0) [0] 8 fun v6 => nn v6 fun a7 => hV (c_S_begin h5 a7 a3) noX fun h9 => K a3 h9) Z := by
  obtain ⟨e0, sk, D, S1, S2, Ap, wf⟩ := O
  refine q_newO ?_
  have w4 : Wf (hnew h 3 (.inr (2, [.null, .int 0, .int 0]))) := wf.new
  have e4 : (hnew h 3 (.inr (2, [.null, .int 0, .int 0]))).1 h.2.1.1 = some (.inr (2, [.null, .int 0, .int 0])) := new_eq
  have z4 : (hnew h 3 (.inr (2, [.null, .int 0, .int 0]))).2 = ((h.2.1.1 + 1, h.2.1.2 + 3), h.2.2) := rfl
  have o4 : ∀ x c, h.1 x = some c → (hnew h 3 (.inr (2, [.null, .int 0, .int 0]))).1 x = some c := fun x c e => new_old wf e
  show Ends (hV (c_O_init (hnew h 3 (.inr (2, [.null, .int 0, .int 0]))) h.2.1.1) noX _) Z
  generalize hnew h 3 (.inr (2, [.null, .int 0, .int 0])) = h4 at *
  have z41 : h4.2.1.1 = h.2.1.1 + 1 := by rw [z4]
  have ki : c_O_init h4 h.2.1.1 = rV (hset (hnew h4 4 (.inl (1, 4, .inr (.inl (fun _ => 0))))) h.2.1.1 (.inr (2, [.ref h4.2.1.1, .int 0, .int 8]))) := by
    have : Ends (c_O_init h4 h.2.1.1) (fun r h' => r = .inl none ∧ h' = hset (hnew h4 4 (.inl (1, 4, .inr (.inl (fun _ => 0))))) h.2.1.1 (.inr (2, [.ref h4.2.1.1, .int 0, .int 8]))) := by
      unfold c_O_init
      refine q_grd e4 (by decide) ?_
      refine q_newA (z := 4) (by decide) ?_
      refine q_pQ (new_old w4 e4) (by decide) (Nat.le_of_ble_eq_true rfl) ?_
      refine q_pI up_eq (by decide) (Nat.le_of_ble_eq_true rfl) ?_
      rw [hset_hset]
      exact q_rV ⟨rfl, rfl⟩
    obtain ⟨r, h', y1, y2, y3⟩ := this
    rw [y1, y2, y3]; rfl
  refine q_hVe ki ?_
  have w5 : Wf (hset (hnew h4 4 (.inl (1, 4, .inr (.inl (fun _ => 0))))) h.2.1.1 (.inr (2, [.ref h4.2.1.1, .int 0, .int 8]))) := w4.new.setE (new_old w4 e4)
  have er5 : (hset (hnew h4 4 (.inl (1, 4, .inr (.inl (fun _ => 0))))) h.2.1.1 (.inr (2, [.ref h4.2.1.1, .int 0, .int 8]))).1 h.2.1.1 = some (.inr (2, [.ref h4.2.1.1, .int 0, .int 8])) := up_eq
  have en5 : (hset (hnew h4 4 (.inl (1, 4, .inr (.inl (fun _ => 0))))) h.2.1.1 (.inr (2, [.ref h4.2.1.1, .int 0, .int 8]))).1 h4.2.1.1 = some (.inl (1, 4, .inr (.inl (fun _ => 0)))) := up_nx (by omega) new_eq
  have z5 : (hset (hnew h4 4 (.inl (1, 4, .inr (.inl (fun _ => 0))))) h.2.1.1 (.inr (2, [.ref h4.2.1.1, .int 0, .int 8]))).2 = ((h4.2.1.1 + 1, h4.2.1.2 + 4), h4.2.2) := rfl
  have o5 : ∀ x c, h.1 x = some c → (hset (hnew h4 4 (.inl (1, 4, .inr (.inl (fun _ => 0))))) h.2.1.1 (.inr (2, [.ref h4.2.1.1, .int 0, .int 8]))).1 x = some c := fun x c e => up_nx (Nat.ne_of_lt (wf.lt e)) (new_old w4 (o4 x c e))
  generalize hset (hnew h4 4 (.inl (1, 4, .inr (.inl (fun _ => 0))))) h.2.1.1 (.inr (2, [.ref h4.2.1.1, .int 0, .int 8])) = h5 at *
  have ho : ∀ x c, h.1 x = some c → ow own h.2.1.1 (b 0) x = own x := fun x c e => ow_lt (wf.lt e)
  have S5 : SR0 (ow own h.2.1.1 (b 0)) (b 0) h5 z' R' N' rows' seed' := S2.kp ho fun x c e _ => o5 x c e
  refine q_gQr (o5 _ _ e0) (by decide) rfl ?_
  refine q_nn ?_
  obtain ⟨h9, b1, S9, G9, z9⟩ := z_begin (low' := 8) S5 w5 er5 (by decide)
  refine q_hVe b1 ?_
  obtain ⟨ra, na', rf, nf, ez, _⟩ := S5.1
  have s5 : h5.2.1.1 = h.2.1.1 + 2 := by rw [z5]; show h4.2.1.1 + 1 = _; omega
  have s5' : h5.2.1.2 = h.2.1.2 + 7 := by rw [z5]; show h4.2.1.2 + 4 = _; rw [z4]
  have G5 : GX own (ow own h.2.1.1 (b 0)) R' z' h h5 := ⟨by omega, by omega, by rw [z5]; show h4.2.2 = _; rw [z4], w5, fun x hx => ow_lt hx, fun x c e _ _ _ => o5 x c e⟩
  refine kk h9 ⟨S9, ⟨by decide, fun r hr => ⟨rfl, Nat.zero_le _⟩, Lt.nil⟩, ⟨ow_ge (Nat.le_refl _), ow_ge (Nat.le_succ _)⟩, ⟨?_, fun _ => 0, ?_, fun r hr => absurd hr (Nat.not_lt_zero r)⟩, G5.trans (GX.gf G9) wf, ⟨Nat.le_refl _, Nat.le_succ _, wf⟩, by rw [z9]; omega, by rw [z9]; omega⟩ (fun x c e k => G9.kd (o5 x c e) (fun w => by
    have e' := o5 x c e
    rw [w, ez] at e'
    injection e' with e'
    rw [← e'] at k
    exact absurd k (by show ¬ (2 * 3 = 10); decide)) (by unfold rK tK; rw [k]; rfl))
  · rw [z41] at er5
    exact G9.kd er5 (kd_ne er5 ez rfl) rfl
  · rw [z41] at en5
    exact G9.2.2.2.2.2 _ _ en5 (kd_ne en5 ez rfl) (Or.inl fun k hk w => S5.2.2.2 k hk (by rw [← w]; exact ow_ge (Nat.le_succ _)))
end
