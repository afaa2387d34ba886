/-! ROW: a call through the interface Cond -/
set_option maxRecDepth 100000
theorem gS_g {β : Type} {h : PH} {a : Nat} {K : Nat → Option β} {z : β} (e : gS h a K = some z) : ∃ i fs, i < 23 ∧ h.1 a = some (.inr (100 + i, fs)) := by
  obtain ⟨i, fs, hi, hc, -⟩ := gS_some e
  exact ⟨i, fs, hi, hc⟩
def dspC {β : Type} (h : PH) (b : Nat) (f : Nat → Option β) : Option β := match h.1 b with
  | some (.inr q) => if q.1 = 13 then f 0 else if q.1 = 14 then f 1 else if q.1 = 15 then f 2 else if q.1 = 16 then f 3 else if q.1 = 17 then f 4 else none
  | _ => none
abbrev RgC : Type := Nat → PH → Nat → Nat → Int32 → Option RH
def CondM (rg : RgC) (lev : Nat) : Prop := (∀ (h : PH) (this : Nat) (x1 : Nat) (x2 : Int32), MM yX16_is (ws_ yX16_is cX16_is 3 (some .boolean)) lev [.ref this, .ref x1, .int x2] h (rg 0 h this x1 x2)) ∧ (∀ (h : PH) (this : Nat) (x1 : Nat) (x2 : Int32), MM yX17_is (ws_ yX17_is cX17_is 5 (some .boolean)) lev [.ref this, .ref x1, .int x2] h (rg 1 h this x1 x2)) ∧ (∀ (h : PH) (this : Nat) (x1 : Nat) (x2 : Int32), MM yX18_is (ws_ yX18_is cX18_is 5 (some .boolean)) lev [.ref this, .ref x1, .int x2] h (rg 2 h this x1 x2)) ∧ (∀ (h : PH) (this : Nat) (x1 : Nat) (x2 : Int32), MM yX19_is (ws_ yX19_is cX19_is 3 (some .boolean)) lev [.ref this, .ref x1, .int x2] h (rg 3 h this x1 x2)) ∧ (∀ (h : PH) (this : Nat) (x1 : Nat) (x2 : Int32), MM yX20_is (ws_ yX20_is cX20_is 3 (some .boolean)) lev [.ref this, .ref x1, .int x2] h (rg 4 h this x1 x2))
section
variable {own : String} {cc : ByteArray} {nL lev : Nat} {ret : Option FieldType} {hh : List (Nat × Nat × Nat × Nat)} {ini : Bool}
variable {h : PH} {pc : Nat} {lv : List (Nat × Value)} {st : List Value} {P P1 P2 : Option RH}
theorem x_callFC {index lev' b o count : Nat} {x : Int32} {rest : List Value} {rg : RgC} {Kc : Int32 → PH → Option RH} (s0 : SiF own index 13 yX16_is cX16_is 3) (s1 : SiF own index 14 yX17_is cX17_is 5) (s2 : SiF own index 15 yX18_is cX18_is 5) (s3 : SiF own index 16 yX19_is cX19_is 3) (s4 : SiF own index 17 yX20_is cX20_is 3) (hM : CondM rg lev') (hlv : lev' + 1 ≤ lev) (hr : (rest.map fun v => v.category).sum ≤ 8) (d : decode cc pc = .ok (.invokeinterface index count, 5))
    (kn : ∀ i h2, Sim (own, cc, nL, lev, ret, hh, ini) h2 (pc + 5) lv (.int i :: rest) (Kc i h2)) : Sim (own, cc, nL, lev, ret, hh, ini) h pc lv (.int x :: .ref o :: .ref b :: rest) (hI (dspC h b fun i => rg i h b o x) noX Kc) := by
  unfold dspC
  cases hc : h.1 b with
  | none => exact Sim.none
  | some z =>
    cases z with
    | inl y => exact Sim.none
    | inr q =>
      obtain ⟨c, fs⟩ := q
      dsimp only
      by_cases e : c = 13
      · subst e; rw [if_pos rfl]
        exact x_callF1 (As := [.ref o, .int x]) (rest := rest) s0 (hM.1 h b o x) ⟨fs, hc⟩ rfl rfl hlv hr d kn
      rw [if_neg e]
      by_cases e : c = 14
      · subst e; rw [if_pos rfl]
        exact x_callF1 (As := [.ref o, .int x]) (rest := rest) s1 (hM.2.1 h b o x) ⟨fs, hc⟩ rfl rfl hlv hr d kn
      rw [if_neg e]
      by_cases e : c = 15
      · subst e; rw [if_pos rfl]
        exact x_callF1 (As := [.ref o, .int x]) (rest := rest) s2 (hM.2.2.1 h b o x) ⟨fs, hc⟩ rfl rfl hlv hr d kn
      rw [if_neg e]
      by_cases e : c = 16
      · subst e; rw [if_pos rfl]
        exact x_callF1 (As := [.ref o, .int x]) (rest := rest) s3 (hM.2.2.2.1 h b o x) ⟨fs, hc⟩ rfl rfl hlv hr d kn
      rw [if_neg e]
      by_cases e : c = 17
      · subst e; rw [if_pos rfl]
        exact x_callF1 (As := [.ref o, .int x]) (rest := rest) s4 (hM.2.2.2.2 h b o x) ⟨fs, hc⟩ rfl rfl hlv hr d kn
      rw [if_neg e]
      exact Sim.none
end
