/-! PURE SIDE: books: lines are done, by the component -/
set_option maxRecDepth 100000
/-- what is so behind lines: why it stopped, how many are done -/
def RunR (low : Nat) : List DD → (Nat → LL) → List Nat → Nat → Nat → (Nat → LL) → List Nat → Prop
  | [], A, T, w, k, A', T' => w = 0 ∧ k = 0 ∧ A' = A ∧ T' = T
  | d :: ds, A, T, w, k, A', T' => (why A d.1 d.2.1 d.2.2.1 d.2.2.2 ≠ 0 ∧ w = why A d.1 d.2.1 d.2.2.1 d.2.2.2 + 10 * d.1 ∧ k = 0 ∧ A' = A ∧ T' = T) ∨ (why A d.1 d.2.1 d.2.2.1 d.2.2.2 = 0 ∧ ∃ A1 T1 k1, (IV low A1 ∧ Lt A1 T1) ∧ DoSp low A T d.1 d.2.1 d.2.2.1 d.2.2.2 A1 T1 ∧ k = k1 + 1 ∧ RunR low ds A1 T1 w k1 A' T')
theorem why_le {A : Nat → LL} {what r i x : Nat} : why A what r i x ≤ 2 := by
  unfold why
  repeat' split
  all_goals omega
/-- cells that a reader writes -/
abbrev rdK : List Nat := [10, 12, 14, 21, 2]
def PF (h h1 : PH) : Prop := h1.2.2 = h.2.2 ∧ Wf h1 ∧ h.2.1.1 ≤ h1.2.1.1 ∧ h.2.1.2 ≤ h1.2.1.2 ∧ ∀ x c, h.1 x = some c → kd c ∉ rdK → h1.1 x = some c
section
variable {b own own' : Nat → Nat} {X : XS} {h h1 h' : PH} {held : Int} {rm z z' : Nat} {skm : Int} {sn : Option Nat} {R R' N N' : Nat → Nat} {Tb : Nat → Bool} {seed rows' seed' : Int32} {c s : Nat}
theorem imA_rd {c : PC} (q : imA c = true) : kd c ∉ rdK := by
  unfold imA at q
  simp only [Bool.or_eq_true, beq_iff_eq] at q
  rcases q with (q | q) | q <;> (rw [q]; decide)
theorem imB_rd {c : PC} (q : imB c = true) : kd c ∉ rdK := by
  unfold imB at q
  simp only [Bool.or_eq_true, beq_iff_eq] at q
  rcases q with ((((((q | q) | q) | q) | q) | q) | q) | q <;> (rw [q]; decide)
theorem fK_rd {c : PC} (q : fK c = true) : kd c ∉ rdK := by
  unfold fK at q
  simp only [Bool.or_eq_true, beq_iff_eq] at q
  rcases q with ((q | q) | q) | q <;> (rw [q]; decide)
theorem rK_rd {c : PC} (q : rK c = true ∨ kd c = 6 ∨ kd c = 15) : kd c ∉ rdK := by
  rcases q with q | q | q
  · unfold rK tK at q
    simp only [Bool.or_eq_true, beq_iff_eq] at q
    rcases q with (((((q | q) | q) | q) | q) | q) | q <;> (rw [q]; decide)
  · rw [q]; decide
  · rw [q]; decide
theorem FX.parse (P : PF h h1) (ho : ∀ x, x < h.2.1.1 → own' x = own x) {B M : Nat} : FX own own' B M h h1 := ⟨P.2.2.1, P.2.2.2.1, P.1, P.2.1, ho, fun x c e q => P.2.2.2.2 x c e (by
  rcases q with q | q | q
  · exact fK_rd q.2
  · exact imA_rd q
  · exact imB_rd q.2)⟩
/-- all stands while a reader reads -/
theorem CBo.parse (O : CBo b own X held rm z z' skm sn R R' N N' Tb seed rows' seed' h) (P : PF h h1) (K : RdR b h1) (ho : ∀ x, x < h.2.1.1 → own' x = own x) : CBo b own' X held rm z z' skm sn R R' N N' Tb seed rows' seed' h1 := by
  obtain ⟨e0, sk, ⟨⟨⟨tf, t1, t2⟩, p2, p3⟩, ⟨k0, kf, k1, k2⟩, ⟨d0, df, d1, d2⟩, ⟨uf, u1, u2⟩, ⟨mf, m1, m2, m3⟩, p8, p9⟩, S1, S2, Ap, wf⟩ := O
  have keep := P.2.2.2.2
  have hoc : ∀ x c, h.1 x = some c → own' x = own x := fun x c e => ho x (wf.lt e)
  have im : ∀ x c, h.1 x = some c → (imA c = true ∨ (own x = b 0 ∧ imB c = true)) → h1.1 x = some c := fun x c e q => keep x c e (by
    rcases q with q | q
    · exact imA_rd q
    · exact imB_rd q.2)
  obtain ⟨ra, na, rf, nf, ez, _⟩ := S1.1
  obtain ⟨ra', na', rf', nf', ez', _⟩ := S2.1
  refine ⟨keep _ _ e0 (by show 2 * 0 ∉ rdK; decide), sk, ⟨⟨⟨tf, keep _ _ t1 (by show 2 * 2 + 1 ∉ rdK; decide), t2⟩, K, p3.ne P.1 (fun x c e q => keep x c e (by
    intro w
    have : ∀ j, j ∈ rdK → j < 25 := by decide
    have := this _ w
    omega))⟩, ⟨(hoc _ _ k1).trans k0, kf, keep _ _ k1 (by show 2 * 0 + 1 ∉ rdK; decide), k2⟩, ⟨(hoc _ _ d1).trans d0, df, keep _ _ d1 (by show 2 * 0 + 1 ∉ rdK; decide), d2⟩, ⟨uf, keep _ _ u1 (by show 2 * 9 + 1 ∉ rdK; decide), fun j p hj => ?_⟩, ⟨mf, keep _ _ m1 (by show 2 * 11 + 1 ∉ rdK; decide), m2, fun k hk => ?_⟩, p8.im hoc im, p9.im hoc im⟩, S1.kp hoc (fun x c e q => keep x c e (rK_rd q)), S2.kp hoc (fun x c e q => keep x c e (rK_rd q)), Ap.ow (hoc _ _ ez) (hoc _ _ ez'), P.2.1⟩
  · obtain ⟨a, q1, q2⟩ := u2 j p hj
    exact ⟨a, q1, q2.im hoc im⟩
  · have q := m3 k hk
    cases hw : X.im k with
    | none => rw [hw] at q; exact q
    | some w =>
      rw [hw] at q
      obtain ⟨a, rm2, p, s2, e1, e2, e3, e4, e5⟩ := q
      exact ⟨a, rm2, p, s2, e1, keep _ _ e2 (by show 2 * 18 ∉ rdK; decide), e3.im hoc im, e4.im hoc im, e5.im hoc im⟩
theorem FrB.pf {k : Nat} (F : FrB b h h1 k) (e6 : ∃ d, h.1 (b 6) = some d ∧ kd d = 12) (e12 : ∃ d, h.1 (b 12) = some d ∧ kd d = 21) : PF h h1 := ⟨F.1, F.2.1, F.2.2.1, F.2.2.2.1, fun x c e q => F.2.2.2.2.2.2 x c e (fun w => by
  obtain ⟨d, e1, e2⟩ := e6
  rw [w, e1] at e
  injection e with e
  rw [← e, e2] at q
  exact q (by decide)) (fun w => by
  obtain ⟨d, e1, e2⟩ := e12
  rw [w, e1] at e
  injection e with e
  rw [← e, e2] at q
  exact q (by decide))⟩
theorem PF.trans {h2 : PH} (P : PF h h1) (Q : PF h1 h2) : PF h h2 := ⟨Q.1.trans P.1, Q.2.1, Nat.le_trans P.2.2.1 Q.2.2.1, Nat.le_trans P.2.2.2.1 Q.2.2.2.1, fun x c e q => Q.2.2.2.2 x c (P.2.2.2.2 x c e q) q⟩
theorem PF.th {k pl : Nat} (T : TH b h k pl h1) (w : Wf h) : PF h h1 := by
  obtain ⟨fs, e1, e2, e3⟩ := T
  subst e3
  refine ⟨rfl, w.setE e1, Nat.le_refl _, Nat.le_refl _, fun x c e q => up_nx (fun y => ?_) e⟩
  rw [y, e1] at e
  injection e with e
  rw [← e] at q
  exact q (by show 2 * 1 ∈ rdK; decide)
/-- lines stand while deeds are done -/
theorem DsR.kx {ds : List DD} (D : DsR b h ds) (K : KX b own own' 0 h h1) : DsR b h1 ds := by
  obtain ⟨g, e, hg⟩ := D
  refine ⟨g, K.2.2.2.1 _ _ e rfl (by show 2 * 10 + 1 ≠ 0; decide), fun j d hj => ?_⟩
  obtain ⟨a, q1, q2⟩ := hg j d hj
  exact ⟨a, q1, K.2.2.1 _ _ q2 (Or.inl rfl)⟩
def Nb6 (b : Nat → Nat) (h : PH) (m : Nat) : Prop := ∃ fs, h.1 (b 6) = some (.inr (6, fs)) ∧ fs[9]? = some (.ref (b 12)) ∧ fs[10]? = some (.int (ii m))
theorem Nb6.kx {m : Nat} (D : Nb6 b h m) (K : KX b own own' 0 h h1) : Nb6 b h1 m := by
  obtain ⟨fs, e, e1⟩ := D
  exact ⟨fs, K.2.2.2.1 _ _ e rfl (by show 2 * 6 ≠ 0; decide), e1⟩
theorem XI.xa {A' : Nat → LL} {T' : List Nat} (I : XI X) (n : SNo X.w.low X.w.n (A', T')) : XI (xA X A' T') := ⟨⟨I.1.1, I.1.2.1, n, I.1.2.2.2⟩, I.2⟩
theorem b_run {Z : Rt → PH → Prop} {ds : List DD} {x1 : Int32} {wa : Nat} {A0 : Nat → LL} {c0 s0 : Nat} {own0 : Nat → Nat} {h0 : PH} {X0 : XS} (w0 : Wf h0) (hds : ds.length ≤ 40) (kk : ∀ w j A' T' own' N2 T2 h', RunR X0.w.low ds X0.w.A X0.w.T w j A' T' → CBo b own' (xA X0 A' T') held rm z z' skm sn R R' N2 N' T2 seed rows' seed' h' → FX own0 own' (b 0) (b 16) h0 h' → PA own' (b 0) h' wa A0 → XI (xA X0 A' T') → h'.2.1.1 + 2 * s11 N2 ≤ c0 + 120 → h'.2.1.2 + 7 * s11 N2 ≤ s0 + 6800 → j ≤ 40 → w ≤ 100 → Ends (c_B_book_j186 h' (b 0) x1 (some wa) (ii (if w = 0 then -1 else (j : Int))) (ii w) (ii j)) Z) : ∀ (es : List DD) (fu k : Nat) (A : Nat → LL) (T : List Nat) (own N : Nat → Nat) (Tb : Nat → Bool) (h : PH), es = ds.drop k → k ≤ ds.length → es.length + 2 < fu → (∀ w j A' T', RunR X0.w.low es A T w j A' T' → RunR X0.w.low ds X0.w.A X0.w.T w (k + j) A' T') → CBo b own (xA X0 A T) held rm z z' skm sn R R' N N' Tb seed rows' seed' h → XI (xA X0 A T) → (∀ d, d ∈ ds → DdOk X0.w.n d) → DsR b h ds → Nb6 b h ds.length → PA own (b 0) h wa A0 → FX own0 own (b 0) (b 16) h0 h → h.2.1.1 + 2 * s11 N ≤ c0 + 3 * k → h.2.1.2 + 7 * s11 N ≤ s0 + 170 * k → Ends (itr (c_B_book_l68) (fun _ _ _ _ _ _ _ _ => none) fu h (b 0) x1 (some wa) (-1 : Int32) (0 : Int32) (ii k) (ii k)) Z := by
  intro es
  induction es with
  | nil =>
    intro fu k A T own N Tb h he hk hf hrun O I hdd D Nb P F y1 y2
    obtain ⟨fu, rfl⟩ : ∃ x, fu = x + 1 := ⟨fu - 1, by omega⟩
    have hk2 : ds.length ≤ k := by
      have := congrArg List.length he
      rw [List.length_drop, List.length_nil] at this
      omega
    obtain ⟨fs, n1, n2, n3⟩ := Nb
    rw [itr_succ]
    unfold c_B_book_l68
    refine q_gQr O.1 (by decide) rfl ?_
    refine q_nn ?_
    refine q_gI n1 (by decide) n3 ?_
    refine q_pos _ (ii_leT (by omega)) ?_
    exact kk 0 k A T own N Tb h (by have := hrun 0 0 A T ⟨rfl, rfl, rfl, rfl⟩; rw [Nat.add_zero] at this; exact this) O F P I (by omega) (by omega) (by omega) (by omega)
  | cons d es ih =>
    intro fu k A T own N Tb h he hk hf hrun O I hdd D Nb P F y1 y2
    obtain ⟨fu, rfl⟩ : ∃ x, fu = x + 1 := ⟨fu - 1, by omega⟩
    rw [List.length_cons] at hf
    have hk2 : k < ds.length := by
      have := congrArg List.length he
      rw [List.length_drop, List.length_cons] at this
      omega
    have hd : ds[k]? = some d := by
      have : (ds.drop k)[0]? = some d := by rw [← he]; rfl
      rw [List.getElem?_drop, Nat.add_zero] at this
      exact this
    have hes : es = ds.drop (k + 1) := by
      have := congrArg (List.drop 1) he
      rw [List.drop_drop] at this
      exact this
    have dok := hdd d (List.mem_of_getElem? hd)
    have n4 : X0.w.n ≤ 4 := I.1.1
    have dk := dok.ok n4
    have Nb' := Nb
    obtain ⟨fs, n1, n2, n3⟩ := Nb
    obtain ⟨g, e12, hg⟩ := D
    obtain ⟨a, ga, ea⟩ := hg k d hd
    have wf := O.2.2.2.2.2.2
    have k0 := dk
    obtain ⟨k1, k2, k3, k4, k5, k6, k7, k8, k9⟩ := dk
    rw [itr_succ]
    unfold c_B_book_l68
    refine q_gQr O.1 (by decide) rfl ?_
    refine q_nn ?_
    refine q_gI n1 (by decide) n3 ?_
    refine q_neg _ (ii_leF (by omega)) ?_
    refine q_pos _ rfl ?_
    refine q_gQr O.1 (by decide) rfl ?_
    refine q_nn ?_
    refine q_gQr n1 (by decide) n2 ?_
    refine q_nn ?_
    refine q_ldQn e12 (by decide) (by omega) ga ?_
    refine q_gQr O.1 (by decide) rfl ?_
    refine q_nn ?_
    refine q_gI ea (by decide) rfl ?_
    refine q_gI ea (by decide) rfl ?_
    refine q_gI ea (by decide) rfl ?_
    refine q_gI ea (by decide) rfl ?_
    refine q_nn ?_
    refine q_hI (z_why O.2.2.2.1 wf k1 k2 k3 k4 k5 fun q => (k7 q).1) fun v h1 ⟨e1, so1⟩ => ?_
    obtain ⟨own1, N1, T1, O1, F1, K1, u1, u2⟩ := O.so (T := T) so1
    have O1 : CBo b own1 (xA X0 A T) held rm z z' skm sn R R' N1 N' T1 seed rows' seed' h1 := O1
    have D1 : DsR b h1 ds := DsR.kx ⟨g, e12, hg⟩ K1
    have ea1 : h1.1 a = some (ddC d) := K1.2.2.1 _ _ ea (Or.inl rfl)
    have P1 := P.im K1.2.1 K1.2.2.1
    have Nb1 := Nb'.kx K1
    have wl := why_le (A := A) (what := d.1) (r := d.2.1) (i := d.2.2.1) (x := d.2.2.2)
    have e1 : v = ii (why A d.1 d.2.1 d.2.2.1 d.2.2.2) := e1
    subst e1
    by_cases c : why A d.1 d.2.1 d.2.2.1 d.2.2.2 = 0
    · refine q_pos _ (by rw [c]; rfl) ?_
      refine q_gQr O1.1 (by decide) rfl ?_
      refine q_gI ea1 (by decide) rfl ?_
      refine q_gI ea1 (by decide) rfl ?_
      refine q_gI ea1 (by decide) rfl ?_
      refine q_gI ea1 (by decide) rfl ?_
      refine q_nn ?_
      refine q_hV (b_does O1 I.lt k0 c) fun h2 ⟨A', T', sp, own2, N2, T2, O2, F2, K2, t1, t2⟩ => ?_
      have I2 : XI (xA X0 A' T') := I.xa (I.act k0 (fun q => dok.2.1 q) (fun q => (dok.2.2.2.2.2.1 q).1) sp fun j hj => O2.lsb hj)
      rw [c, add1]
      exact ih fu (k + 1) A' T' own2 N2 T2 h2 hes (by omega) (by omega) (fun w j A2 T2 hR => by
        have := hrun w (j + 1) A2 T2 (Or.inr ⟨c, A', T', j, ⟨I2.iv, I2.lt⟩, sp, rfl, hR⟩)
        rw [show k + 1 + j = k + (j + 1) by omega]
        exact this) O2 I2 hdd (D1.kx K2) (Nb1.kx K2) (P1.im K2.2.1 K2.2.2.1) ((F.trans F1 w0).trans F2 w0) (by omega) (by omega)
    · refine q_neg _ (ii_eq0F (by omega)) ?_
      refine q_gI ea1 (by decide) rfl ?_
      have ew : ii (why A d.1 d.2.1 d.2.2.1 d.2.2.2) + (10 : Int32) * ii (d.1 : Int) = ii ((why A d.1 d.2.1 d.2.2.1 d.2.2.2 + 10 * d.1 : Nat) : Int) := by rw [il_10, ii_mul, ii_add]; rfl
      rw [ew]
      refine q_nm ?_
      rw [add1]
      obtain ⟨fu, rfl⟩ : ∃ x, fu = x + 1 := ⟨fu - 1, by omega⟩
      have kf := kk (why A d.1 d.2.1 d.2.2.1 d.2.2.2 + 10 * d.1) k A T own1 N1 T1 h1 (by have := hrun _ 0 A T (Or.inl ⟨c, rfl, rfl, rfl, rfl⟩); rw [Nat.add_zero] at this; exact this) O1 (F.trans F1 w0) P1 I (by omega) (by omega) (by omega) (by omega)
      rw [if_neg (by omega)] at kf
      rw [itr_succ]
      obtain ⟨fs1, n11, n12, n13⟩ := Nb1
      refine q_gQr O1.1 (by decide) rfl ?_
      refine q_nn ?_
      refine q_gI n11 (by decide) n13 ?_
      by_cases ce : ds.length ≤ k + 1
      · refine q_pos _ (ii_leT (by omega)) ?_
        exact kf
      · refine q_neg _ (ii_leF (by omega)) ?_
        refine q_neg _ (by rw [mi1]; exact ii_eqF (by omega)) ?_
        exact kf
end
