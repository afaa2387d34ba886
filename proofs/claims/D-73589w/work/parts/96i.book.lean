/-! PURE SIDE: books: what is read; a line, by the component -/
set_option maxRecDepth 100000
abbrev DD : Type := Nat × Nat × Nat × Nat
abbrev BL : Type := (Nat × Nat) ⊕ (DD × Tk)
def bkLo (what : Nat) : Nat := if what = 2 ∨ what = 3 ∨ what = 7 then 1 else 0
def bkHi (what : Nat) : Nat := if what < 2 then 1 else if what = 6 then 7 else 600
def bkX (f : Nat → Nat) (n : Nat) (nm : Nat → List Nat) (m what r i : Nat) (t : Tk) : BL := if what = 4 ∨ what = 5 then (if nmOk f t = false then .inl (1, t.at_) else if ofN nm (seg f t.at_ t.p) m 0 = -1 ∨ ofN nm (seg f t.at_ t.p) m 0 = r then .inl (3, t.at_) else .inr ((what, r, i, (ofN nm (seg f t.at_ t.p) m 0).toNat), nx f n 400 t)) else (if t.k ≠ 2 then .inl (1, t.at_) else if ¬ (bkLo what ≤ nv (seg f t.at_ t.p) ∧ nv (seg f t.at_ t.p) ≤ bkHi what) then .inl (2, t.at_) else .inr ((what, r, i, nv (seg f t.at_ t.p)), nx f n 400 t))
def bkI (f : Nat → Nat) (n : Nat) (nm : Nat → List Nat) (m what r : Nat) (t : Tk) : BL := if what = 4 then bkX f n nm m what r 0 t else (if t.k ≠ 2 then .inl (1, t.at_) else if ¬ (0 ≤ nv (seg f t.at_ t.p) ∧ nv (seg f t.at_ t.p) ≤ 999) then .inl (2, t.at_) else bkX f n nm m what r (nv (seg f t.at_ t.p)) (nx f n 400 t))
def bkR (f : Nat → Nat) (n : Nat) (nm : Nat → List Nat) (m what : Nat) (t : Tk) : BL := if what ≤ 5 then (if nmOk f t = false then .inl (1, t.at_) else if ofN nm (seg f t.at_ t.p) m 0 = -1 then .inl (3, t.at_) else bkI f n nm m what (ofN nm (seg f t.at_ t.p) m 0).toNat (nx f n 400 t)) else bkI f n nm m what 0 t
def bkL (f : Nat → Nat) (n : Nat) (nm : Nat → List Nat) (m c : Nat) (t : Tk) : BL := if fkw f t 3 8 0 = -1 then .inl (1, t.at_) else if 40 ≤ c then .inl (4, t.at_) else bkR f n nm m (fkw f t 3 8 0).toNat (nx f n 400 t)
/-- all lines -/
def bkA (f : Nat → Nat) (n : Nat) (nm : Nat → List Nat) (m : Nat) : Nat → Nat → Tk → (Nat × Nat) ⊕ List DD
  | 0, _, _ => .inr []
  | l + 1, c, t => if t.k = 0 then .inr [] else match bkL f n nm m c t with
    | .inl e => .inl e
    | .inr (d, t') => if isSg f t' 59 = false then .inl (1, t'.at_) else match bkA f n nm m l (c + 1) (nx f n 400 t') with
      | .inl e => .inl e
      | .inr ds => .inr (d :: ds)
/-- a deed as it is read -/
def DdOk (m : Nat) (d : DD) : Prop := d.1 < 8 ∧ (d.1 ≤ 5 → d.2.1 < m) ∧ (6 ≤ d.1 → d.2.1 = 0) ∧ d.2.2.1 ≤ 999 ∧ d.2.2.2 ≤ 600 ∧ (d.1 = 4 ∨ d.1 = 5 → d.2.2.2 < m ∧ d.2.2.2 ≠ d.2.1) ∧ (d.1 ≤ 1 → d.2.2.2 ≤ 1) ∧ (d.1 = 2 ∨ d.1 = 3 → 1 ≤ d.2.2.2) ∧ (d.1 = 6 → d.2.2.2 < 8)
theorem DdOk.ok {m : Nat} {d : DD} (h : DdOk m d) (hm : m ≤ 4) : DoOk d.1 d.2.1 d.2.2.1 d.2.2.2 := by
  obtain ⟨h1, h2, h3, h4, h5, h6, h7, h8, h9⟩ := h
  refine ⟨h1, ?_, by omega, h5, fun _ => by omega, h7, fun q => ⟨by have := h6 q; omega, (h6 q).2⟩, h8, h9⟩
  by_cases c : d.1 ≤ 5
  · have := h2 c; omega
  · have := h3 (by omega); omega
abbrev ddC (d : DD) : PC := .inr (12, [.int (ii d.1), .int (ii d.2.1), .int (ii d.2.2.1), .int (ii d.2.2.2)])
/-- while one line is read -/
def FrL (b : Nat → Nat) (h h1 : PH) : Prop := h1.2.2 = h.2.2 ∧ Wf h1 ∧ h.2.1.1 ≤ h1.2.1.1 ∧ h.2.1.2 ≤ h1.2.1.2 ∧ h1.2.1.1 ≤ h.2.1.1 + 1 ∧ h1.2.1.2 ≤ h.2.1.2 + 4 ∧ ∀ x c, h.1 x = some c → x ≠ b 6 → h1.1 x = some c
section
variable {b : Nat → Nat} {f : Nat → Nat} {n m rm na : Nat} {nm : Nat → List Nat} {x10 : Int32} {t : Tk} {h h0 h1 h2 : PH} {Z : Rt → PH → Prop} {fs : List Value} {lo : Value}
theorem FrL.onl (o : FrL b h h1) (k : Onl (b 6) h1 h2) (w : Wf h2) : FrL b h h2 := by
  obtain ⟨o1, o2, o3, o4, o5, o6, o7⟩ := o
  obtain ⟨k1, k2, _⟩ := k
  refine ⟨by rw [k1]; exact o1, w, by rw [k1]; exact o3, by rw [k1]; exact o4, by rw [k1]; exact o5, by rw [k1]; exact o6, fun x c e q => ?_⟩
  rw [k2 x q]
  exact o7 x c e q
theorem FrL.of (k : Onl (b 6) h h1) (w : Wf h) (w1 : Wf h1) : FrL b h h1 := FrL.onl ⟨rfl, w, Nat.le_refl _, Nat.le_refl _, by omega, by omega, fun _ _ e _ => e⟩ k w1
abbrev JB (b : Nat → Nat) (f : Nat → Nat) (n : Nat) (x10 : Int32) (t : Tk) (h : PH) : Prop := RJ b f n 6 (b 6) 400 (.ref (b 13)) (.ref (b 12)) x10 t h
/-- what a book's reader knows of the room -/
def RmB (b : Nat → Nat) (h : PH) (rm na : Nat) (nm : Nat → List Nat) (m : Nat) : Prop := (∃ fs, h.1 (b 0) = some (.inr (0, fs)) ∧ fs[6]? = some (.ref rm)) ∧ (∃ lo, h.1 rm = some (.inr (2, [.ref na, .int (ii m), lo]))) ∧ NmA h na nm m
theorem RmB.fr (R : RmB b h rm na nm m) (o : ∀ x c, h.1 x = some c → (kd c = 0 ∨ kd c = 4 ∨ kd c = 3) → h1.1 x = some c) : RmB b h1 rm na nm m := by
  obtain ⟨⟨fs, a1, a2⟩, ⟨lo, b1⟩, ⟨g, c1, c2, c3⟩⟩ := R
  exact ⟨⟨fs, o _ _ a1 (Or.inl rfl), a2⟩, ⟨lo, o _ _ b1 (Or.inr (Or.inl rfl))⟩, ⟨g, o _ _ c1 (Or.inr (Or.inr rfl)), c2, c3⟩⟩
theorem JB.ne (J : JB b f n x10 t h) {x : Nat} {c : PC} (e : h.1 x = some c) (k : kd c ≠ 12) : x ≠ b 6 := fun q => by
  obtain ⟨fs, e6, k6⟩ := J.cell
  rw [q, e6] at e
  injection e with e
  rw [← e, k6] at k
  exact k rfl
theorem RmB.frl (R : RmB b h rm na nm m) (J : JB b f n x10 t h) (o : FrL b h h1) : RmB b h1 rm na nm m := R.fr fun x c e q => o.2.2.2.2.2.2 x c e (J.ne e (by omega))
theorem RmB.onl (R : RmB b h rm na nm m) (J : JB b f n x10 t h) (o : Onl (b 6) h h1) : RmB b h1 rm na nm m := R.fr fun x c e q => by
  rw [o.2.1 x (J.ne e (by omega))]
  exact e
/-- the cells of the room are gone through -/
theorem q_room {K : Nat → Int32 → Option RH} (J : JB b f n x10 t h) (R : RmB b h rm na nm m) (k : Ends (K na (ii m)) Z) : Ends (gQ h (b 6) [6] 11 fun v1 => nn v1 fun a2 => gQ h a2 [0] 6 fun v4 => nn v4 fun a5 => gQ h a5 [2] 0 fun v7 => gQ h (b 6) [6] 11 fun v8 => nn v8 fun a9 => gQ h a9 [0] 6 fun v11 => nn v11 fun a12 => gI h a12 [2] 1 fun v14 => nn v7 fun a15 => K a15 v14) Z := by
  obtain ⟨⟨fs, a1, a2⟩, ⟨lo, b1⟩, _⟩ := R
  obtain ⟨⟨v, mn, nmv, e, tv⟩, _⟩ := J
  refine q_gQr e (by decide) rfl ?_
  refine q_nn ?_
  refine q_gQr a1 (by decide) a2 ?_
  refine q_nn ?_
  refine q_gQr b1 (by decide) rfl ?_
  refine q_gQr e (by decide) rfl ?_
  refine q_nn ?_
  refine q_gQr a1 (by decide) a2 ?_
  refine q_nn ?_
  refine q_gI b1 (by decide) rfl ?_
  exact q_nn k
theorem p_deed {a : Nat} {x1 x2 x3 x4 : Int32} {l : List Value} (e : h.1 a = some (.inr (12, l))) (hl : l.length = 4) : c_E_init h a x1 x2 x3 x4 = rV (hset h a (.inr (12, [.int x1, .int x2, .int x3, .int x4]))) := by
  obtain ⟨v1, v2, v3, v4, rfl⟩ : ∃ v1 v2 v3 v4, l = [v1, v2, v3, v4] := by
    match l, hl with
    | [v1, v2, v3, v4], _ => exact ⟨v1, v2, v3, v4, rfl⟩
  have : Ends (c_E_init h a x1 x2 x3 x4) (fun r h' => r = .inl none ∧ h' = hset h a (.inr (12, [.int x1, .int x2, .int x3, .int x4]))) := by
    unfold c_E_init
    refine q_grd e (by decide) ?_
    refine q_pI e (by decide) (Nat.le_of_ble_eq_true rfl) ?_
    refine q_pI up_eq (by decide) (Nat.le_of_ble_eq_true rfl) ?_
    rw [hset_hset]
    refine q_pI up_eq (by decide) (Nat.le_of_ble_eq_true rfl) ?_
    rw [hset_hset]
    refine q_pI up_eq (by decide) (Nat.le_of_ble_eq_true rfl) ?_
    rw [hset_hset]
    exact q_rV ⟨rfl, rfl⟩
  obtain ⟨r, h', z1, z2, z3⟩ := this
  rw [z1, z2, z3]; rfl
theorem JB.new {l : Nat} {c : PC} (J : JB b f n x10 t h) : JB b f n x10 t (hnew h l c) := J.other rfl J.wf.new fun x c e _ => new_old J.wf e
theorem JB.set {a : Nat} {c d : PC} (J : JB b f n x10 t h) (e : h.1 a = some d) (k : kd d = 24) : JB b f n x10 t (hset h a c) := J.other rfl (J.wf.setE e) fun x c' e' q => up_nx (fun w => by
  subst w
  rw [e] at e'
  injection e' with e'
  subst e'
  rcases q with q | q | q | q | q | q
  · omega
  · omega
  · omega
  · omega
  · omega
  · obtain ⟨fs, e6, k6⟩ := J.cell
    rw [q, e6] at e
    injection e with e
    rw [← e, k6] at k
    omega) e'
/-- the book's reader is whole -/
def K6 (b : Nat → Nat) (h : PH) : Prop := ∃ p at_ tk v mn nm x10, h.1 (b 6) = some (rdC 6 (b 0) 400 p at_ tk v mn nm (.ref (b 13)) (.ref (b 12)) x10)
def FrK (b : Nat → Nat) (h h1 : PH) : Prop := FrL b h h1 ∧ K6 b h1
theorem JB.k6 (J : JB b f n x10 t h) : K6 b h := by
  obtain ⟨⟨v, mn, nm, e, _⟩, _⟩ := J
  exact ⟨_, _, _, _, _, _, _, e⟩
/-- what comes last -/
theorem r_bkX {what r i : Nat} {K : Option Nat → PH → Option RH} (J : JB b f n x10 t h) (R : RmB b h rm na nm m) (hw : what < 8) (hr : r ≤ 4) (hi : i ≤ 999) (kf : ∀ k pl, bkX f n nm m what r i t = .inl (k, pl) → ∀ h1 h', FrK b h h1 → TH b h1 k pl h' → Z (.inr (b 2, 0)) h') (kk : ∀ d t', bkX f n nm m what r i t = .inr (d, t') → ∀ a h1, JB b f n x10 t' h1 → FrL b h h1 → h.2.1.1 ≤ a → h1.1 a = some (ddC d) → Ends (K (some a) h1) Z) : Ends (hQ (c_DB_readLine_j98 h (b 6) (ii what) (ii r) (ii i)) rX K) Z := by
  have hm : m ≤ 4 := R.2.2.choose_spec.2.1
  refine hQ_hQ ?_
  have fr0 : FrK b h h := ⟨⟨rfl, J.wf, Nat.le_refl _, Nat.le_refl _, by omega, by omega, fun _ _ e _ => e⟩, JB.k6 J⟩
  have j109 : (what = 4 ∨ what = 5) → Ends (c_DB_readLine_j109 h (b 6) (ii what) (ii r) (ii i)) (fun r h' => (∃ v, r = .inl (some (va_rf v)) ∧ Ends (K v h') Z) ∨ (∃ q, r = .inr q ∧ Z (.inr q) h')) := by
    intro w
    have ex : ∀ z, bkX f n nm m what r i t = z → (if nmOk f t = false then .inl (1, t.at_) else if ofN nm (seg f t.at_ t.p) m 0 = -1 ∨ ofN nm (seg f t.at_ t.p) m 0 = r then .inl (3, t.at_) else .inr ((what, r, i, (ofN nm (seg f t.at_ t.p) m 0).toNat), nx f n 400 t)) = z := fun z hz => by
      unfold bkX at hz
      rw [if_pos w] at hz
      exact hz
    have ex2 : bkX f n nm m what r i t = (if nmOk f t = false then .inl (1, t.at_) else if ofN nm (seg f t.at_ t.p) m 0 = -1 ∨ ofN nm (seg f t.at_ t.p) m 0 = r then .inl (3, t.at_) else .inr ((what, r, i, (ofN nm (seg f t.at_ t.p) m 0).toNat), nx f n 400 t)) := (ex _ rfl).symm
    unfold c_DB_readLine_j109
    refine q_room J R ?_
    refine r_look J R.2.2 (J.grd (by decide)) rfl (fun z h' th => Or.inr ⟨_, rfl, kf 1 t.at_ (by rw [ex2, if_pos z]) h h' fr0 th⟩) (fun z1 z2 h' th => Or.inr ⟨_, rfl, kf 3 t.at_ (by rw [ex2, if_neg (by rw [z1]; decide), if_pos (Or.inl z2)]) h h' fr0 th⟩) fun z s es hs => ?_
    have j147 : ∀ {c : Prop} [Decidable c] {x : Int32}, x = ii (bn (decide c)) → (c ↔ s ≠ r) → Ends (c_DB_readLine_j147 h (b 6) (ii what) (ii r) (ii i) (ii s) x (b 6)) (fun r h' => (∃ v, r = .inl (some (va_rf v)) ∧ Ends (K v h') Z) ∨ (∃ q, r = .inr q ∧ Z (.inr q) h')) := by
      intro c _ x hx hcs
      unfold c_DB_readLine_j147
      refine r_must (c := c) (k := 3) J (J.grd (by decide)) hx rfl (fun nc h' th => Or.inr ⟨_, rfl, kf 3 t.at_ (by rw [ex2, if_neg (by rw [z]; decide), if_pos (Or.inr (by rw [es]; have : ¬ s ≠ r := fun w => nc (hcs.2 w); omega))]) h h' fr0 th⟩) fun yc => ?_
      refine r_next J (J.grd (by decide)) fun h1 J1 o1 => ?_
      refine q_newO ?_
      have J2 := JB.new (l := 4) (c := .inr (12, [.int 0, .int 0, .int 0, .int 0])) J1
      refine q_hVe (p_deed new_eq rfl) ?_
      have J3 := JB.set (c := ddC (what, r, i, s)) J2 new_eq rfl
      refine q_rQ (Or.inl ⟨_, rfl, ?_⟩)
      have f1 := FrL.of o1 J.wf J1.wf
      have z1 : h1.2 = h.2 := o1.1
      refine kk (what, r, i, s) (nx f n 400 t) (by rw [ex2, if_neg (by rw [z]; decide), if_neg (by rw [es]; intro w; have := hcs.1 yc; omega), es]; rfl) _ _ J3 ⟨by show h1.2.2 = _; rw [z1], J3.wf, ?_, ?_, ?_, ?_, fun x c e q => ?_⟩ (by rw [z1]; exact Nat.le_refl _) up_eq
      · show h.2.1.1 ≤ h1.2.1.1 + 1; rw [z1]; omega
      · show h.2.1.2 ≤ h1.2.1.2 + 4; rw [z1]; omega
      · show h1.2.1.1 + 1 ≤ _; rw [z1]; omega
      · show h1.2.1.2 + 4 ≤ _; rw [z1]; omega
      · have e1 := f1.2.2.2.2.2.2 x c e q
        exact up_nx (Nat.ne_of_lt (J1.wf.lt e1)) (new_old J1.wf e1)
    by_cases c : s = r
    · refine q_pos _ (by rw [c]) ?_
      exact j147 (c := False) rfl ⟨fun z => z.elim, fun z => absurd c z⟩
    · refine q_neg _ (ii_eqF (by omega)) ?_
      exact j147 (c := True) rfl ⟨fun _ => c, fun _ => True.intro⟩
  have j214 : ∀ {hi' lo' : Int32}, ¬ (what = 4 ∨ what = 5) → lo' = ii (bkLo what) → hi' = ii (bkHi what) → Ends (c_DB_readLine_j214 h (b 6) (ii what) (ii r) (ii i) lo' hi') (fun r h' => (∃ v, r = .inl (some (va_rf v)) ∧ Ends (K v h') Z) ∨ (∃ q, r = .inr q ∧ Z (.inr q) h')) := by
    intro hi' lo' w el eh
    have ex2 : bkX f n nm m what r i t = (if t.k ≠ 2 then .inl (1, t.at_) else if ¬ (bkLo what ≤ nv (seg f t.at_ t.p) ∧ nv (seg f t.at_ t.p) ≤ bkHi what) then .inl (2, t.at_) else .inr ((what, r, i, nv (seg f t.at_ t.p)), nx f n 400 t)) := by
      unfold bkX
      rw [if_neg w]
    unfold c_DB_readLine_j214
    refine q_newO ?_
    have J2 := JB.new (l := 4) (c := .inr (12, [.int 0, .int 0, .int 0, .int 0])) J
    have fr2 : FrL b h (hnew h 4 (.inr (12, [.int 0, .int 0, .int 0, .int 0]))) := ⟨rfl, J.wf.new, Nat.le_succ _, Nat.le_add_right _ _, Nat.le_refl _, Nat.le_refl _, fun x c e _ => new_old J.wf e⟩
    have hb : bkLo what ≤ 1000 ∧ bkHi what ≤ 1000 := by
      unfold bkLo bkHi
      constructor
      · split <;> omega
      · repeat' split
        all_goals omega
    refine r_number J2 (J2.grd (by decide)) el eh hb (fun z h' th => Or.inr ⟨_, rfl, kf 1 t.at_ (by rw [ex2, if_pos z]) _ h' ⟨fr2, JB.k6 J2⟩ th⟩) (fun z1 z2 h' th => Or.inr ⟨_, rfl, kf 2 t.at_ (by rw [ex2, if_neg (fun q => q z1), if_pos z2]) _ h' ⟨fr2, JB.k6 J2⟩ th⟩) fun z1 z2 h3 J3 o3 => ?_
    have na6 : h.2.1.1 ≠ b 6 := by
      obtain ⟨gs, e6, _⟩ := J.cell
      exact Nat.ne_of_gt (J.wf.lt e6)
    have ed : h3.1 h.2.1.1 = some (.inr (12, [.int 0, .int 0, .int 0, .int 0])) := by
      rw [o3.2.1 _ na6]
      exact new_eq
    refine q_hVe (p_deed ed rfl) ?_
    have J4 := JB.set (c := ddC (what, r, i, nv (seg f t.at_ t.p))) J3 ed rfl
    refine q_rQ (Or.inl ⟨_, rfl, ?_⟩)
    have f3 := fr2.onl o3 J3.wf
    refine kk (what, r, i, nv (seg f t.at_ t.p)) (nx f n 400 t) (by rw [ex2, if_neg (fun q => q z1), if_neg (fun q => q z2)]) _ _ J4 ⟨f3.1, J4.wf, f3.2.2.1, f3.2.2.2.1, f3.2.2.2.2.1, f3.2.2.2.2.2.1, fun x c e q => ?_⟩ (Nat.le_refl _) up_eq
    exact up_nx (Nat.ne_of_lt (J.wf.lt e)) (f3.2.2.2.2.2.2 x c e q)
  have j189 : ∀ {lo' : Int32}, ¬ (what = 4 ∨ what = 5) → lo' = ii (bkLo what) → Ends (c_DB_readLine_j189 h (b 6) (ii what) (ii r) (ii i) lo') (fun r h' => (∃ v, r = .inl (some (va_rf v)) ∧ Ends (K v h') Z) ∨ (∃ q, r = .inr q ∧ Z (.inr q) h')) := by
    intro lo' w el
    unfold c_DB_readLine_j189
    by_cases c2 : 2 ≤ what
    · refine q_pos _ (ii_leT (a := 2) (by omega)) ?_
      by_cases c6 : what = 6
      · refine q_pos _ (by rw [c6]; rfl) ?_
        exact j214 w el (by unfold bkHi; rw [if_neg (by omega), if_pos c6]; rfl)
      · refine q_neg _ (ii_eqF (b := 6) (by omega)) ?_
        exact j214 w el (by unfold bkHi; rw [if_neg (by omega), if_neg c6]; rfl)
    · refine q_neg _ (ii_leF (a := 2) (by omega)) ?_
      exact j214 w el (by unfold bkHi; rw [if_pos (by omega)]; rfl)
  unfold c_DB_readLine_j98
  by_cases c4 : what = 4
  · refine q_pos _ (by rw [c4]; rfl) ?_
    exact j109 (Or.inl c4)
  refine q_neg _ (ii_eqF (b := 4) (by omega)) ?_
  by_cases c5 : what = 5
  · refine q_pos _ (by rw [c5]; rfl) ?_
    exact j109 (Or.inr c5)
  refine q_neg _ (ii_eqF (b := 5) (by omega)) ?_
  have nw : ¬ (what = 4 ∨ what = 5) := by omega
  by_cases d2 : what = 2
  · refine q_pos _ (by rw [d2]; rfl) ?_
    exact j189 nw (by unfold bkLo; rw [if_pos (by omega)]; rfl)
  refine q_neg _ (ii_eqF (b := 2) (by omega)) ?_
  by_cases d3 : what = 3
  · refine q_pos _ (by rw [d3]; rfl) ?_
    exact j189 nw (by unfold bkLo; rw [if_pos (by omega)]; rfl)
  refine q_neg _ (ii_eqF (b := 3) (by omega)) ?_
  by_cases d7 : what = 7
  · refine q_pos _ (by rw [d7]; rfl) ?_
    exact j189 nw (by unfold bkLo; rw [if_pos (by omega)]; rfl)
  refine q_neg _ (ii_eqF (b := 7) (by omega)) ?_
  exact j189 nw (by unfold bkLo; rw [if_neg (by omega)]; rfl)
end
