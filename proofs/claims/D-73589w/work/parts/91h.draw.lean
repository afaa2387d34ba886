/-! PURE SIDE: deeds drawn -/
set_option maxRecDepth 100000
def sdN (s : Int32) : Int32 := s * (1103515245 : Int32) + (12345 : Int32)
def rnd (s n : Int32) : Int32 := ((s.toUInt32 >>> ((8 : Int32).toUInt32 &&& Int32.toUInt32 31)).toInt32) - ((s.toUInt32 >>> ((8 : Int32).toUInt32 &&& Int32.toUInt32 31)).toInt32) / n * n
def rN (s : Int32) (n : Nat) : Nat := ((s.toUInt32 >>> ((8 : Int32).toUInt32 &&& Int32.toUInt32 31)).toNat) % n
theorem u_ii {u : UInt32} : u.toInt32 = ii (u.toNat : Int) := by
  apply Int32.toBitVec_inj.1
  show u.toBitVec = (Int32.ofInt (u.toNat : Int)).toBitVec
  rw [Int32.toBitVec_ofInt, BitVec.ofInt_natCast]
  apply BitVec.eq_of_toNat_eq
  rw [BitVec.toNat_ofNat]
  have := u.toBitVec.isLt
  exact (Nat.mod_eq_of_lt this).symm
theorem u_lt {s : Int32} : (s.toUInt32 >>> ((8 : Int32).toUInt32 &&& Int32.toUInt32 31)).toNat < 16777216 := by
  have e : ((8 : Int32).toUInt32 &&& Int32.toUInt32 31) = (8 : UInt32) := by decide
  rw [e, UInt32.toNat_shiftRight]
  have h1 : (8 : UInt32).toNat % 32 = 8 := by decide
  rw [h1, Nat.shiftRight_eq_div_pow]
  have := s.toUInt32.toNat_lt
  omega
theorem rnd_eq {s : Int32} {n : Nat} (h : 1 ≤ n ∧ n ≤ 1000) : rnd s (ii n) = ii (rN s n : Int) ∧ rN s n < n := by
  have hu := u_lt (s := s)
  unfold rnd rN
  rw [u_ii, ii_div (by omega), ii_mul, ii_sub]
  constructor
  · congr 1
    generalize (s.toUInt32 >>> ((8 : Int32).toUInt32 &&& Int32.toUInt32 31)).toNat = u at *
    have := Nat.div_add_mod u n
    have e1 : ((u / n : Nat) : Int) = (u : Int) / (n : Int) := by simp
    rw [← e1]
    have e2 : (u : Int) = ((n * (u / n) + u % n : Nat) : Int) := by rw [this]
    rw [Int.natCast_add, Int.natCast_mul] at e2
    rw [Int.mul_comm]
    omega
  · exact Nat.mod_lt _ (by omega)
/-- a deed drawn: whether it is done, the rows, the seed -/
def dwK (what : Nat) : Nat := if what < 3 then 0 else if what = 3 then 2 else if what < 6 then 3 else if what = 6 then 4 else 5
def dwX (what rows : Nat) (s : Int32) : Nat := if what < 3 then rN s 2 else if what = 3 then rN s 8 + 1 else if what < 6 then rN s 40 + 1 else rN s rows
def dwB (A : Nat → LL) (what r i x : Nat) : Bool := !((decide (5 < what) && decide (x = r)) || decide (why A (dwK what) r i x ≠ 0))
def dw (low rows : Nat) (A : Nat → LL) (s : Int32) : Bool × (Nat → LL) × Int32 :=
  (fun what r => (fun i x => if dwB A what r i x = true then (true, doA low A (dwK what) r i x, sdN (sdN (sdN (sdN s)))) else (false, A, sdN (sdN (sdN (sdN s))))) (rN (sdN (sdN (sdN s))) ((A r).flatten.length + 1)) (dwX what rows (sdN (sdN (sdN (sdN s)))))) (rN (sdN s) 8) (rN (sdN (sdN s)) rows)
def dwN (low rows : Nat) : Nat → (Nat → LL) → Int32 → Nat × (Nat → LL) × Int32
  | 0, A, s => (0, A, s)
  | n + 1, A, s => ((if (dw low rows A s).1 = true then 1 else 0) + (dwN low rows n (dw low rows A s).2.1 (dw low rows A s).2.2).1, (dwN low rows n (dw low rows A s).2.1 (dw low rows A s).2.2).2)
section
variable {B z low : Nat} {R : Nat → Nat} {seed : Int32} {own N : Nat → Nat} {Tb : Nat → Bool} {A : Nat → LL} {h : PH} {rows : Nat}
theorem SR.sd_ {rw_ s' : Int32} (S : SR own B h z low A R N Tb rw_ seed) (wf : Wf h) : ∃ (ra na : Nat) (rf nf : Nat → Option Nat), h.1 z = some (.inr (3, [.ref ra, .ref na, .int rw_, .int seed])) ∧ h.1 ra = some (.inl (7, 4, .inr (.inr (.inr (.inr rf))))) ∧ SR own B (hset h z (.inr (3, [.ref ra, .ref na, .int rw_, .int s']))) z low A R N Tb rw_ s' ∧ GF own own R z h (hset h z (.inr (3, [.ref ra, .ref na, .int rw_, .int s']))) := by
  obtain ⟨⟨ra, na, rf, nf, e1, e2, e3, e4, e5⟩, s2, s3, s4⟩ := S
  refine ⟨ra, na, rf, nf, e1, e2, ⟨⟨ra, na, rf, nf, up_eq, up_kd e2 e1 rfl, up_kd e3 e1 rfl, e4, e5⟩, fun k hk => (s2 k hk).kp fun x d e q => up_nx (fun w => by rw [w, e1] at e; injection e with e; rw [← e] at q; cases q) e, s3, s4⟩, GF.set wf e1 rfl⟩
theorem z_draw {rw_ n : Int32} (S : SR own B h z low A R N Tb rw_ seed) (wf : Wf h) (hn : n ≠ 0) : EI (c_S_draw h z n) (fun v h' => v = rnd (sdN seed) n ∧ SO own B z low R N h A rw_ (sdN seed) 0 0 h') := by
  obtain ⟨ra, na, rf, nf, e1, e2, S1, G1⟩ := SR.sd_ (s' := sdN seed) S wf
  refine EI.of ?_
  unfold c_S_draw
  refine S.grd ?_
  refine q_gI e1 (by decide) rfl ?_
  refine q_pI e1 (by decide) (Nat.le_of_ble_eq_true rfl) ?_
  refine q_gI up_eq (by decide) rfl ?_
  refine q_nz hn ?_
  exact q_rI ⟨_, rfl, rfl, own, N, Tb, S1, G1, Nat.le_refl _, Nat.le_refl _⟩
theorem z_drawDeed (hr : 1 ≤ rows ∧ rows ≤ 4) (S : SR own B h z low A R N Tb (ii rows) seed) (wf : Wf h) : EI (c_S_drawDeed h z) (fun v h' => v = ii (bn (dw low rows A seed).1) ∧ SO own B z low R N h (dw low rows A seed).2.1 (ii rows) (dw low rows A seed).2.2 3 170 h') := by
  refine EI.of ?_
  unfold c_S_drawDeed
  refine S.grd ?_
  have q8 := rnd_eq (s := sdN seed) (n := 8) (by decide)
  have qr := rnd_eq (s := sdN (sdN seed)) (n := rows) (by omega)
  generalize hwhat : rN (sdN seed) 8 = what at q8
  generalize hrr : rN (sdN (sdN seed)) rows = r at qr
  refine q_hI (z_draw S wf (by decide)) fun v h1 ⟨g1, own1, N1, T1, S1, G1, y1, y2⟩ => ?_
  rw [il_8, show (ii 8) = ii ((8 : Nat) : Int) from rfl, q8.1] at g1
  subst g1
  obtain ⟨ra, na, rf, nf, c1, -⟩ := S1.cell
  refine q_gI c1 (by decide) rfl ?_
  refine q_hI (z_draw S1 G1.wf (ii_eq0F (by omega))) fun v h4 ⟨g1, own2, N2, T2, S2, G2, y3, y4⟩ => ?_
  rw [qr.1] at g1
  subst g1
  have so12 : SO own B z low R N h A (ii rows) (sdN (sdN seed)) 0 0 h4 := SO.trans wf S1 G1 y1 y2 ⟨own2, N2, T2, S2, G2, y3, y4⟩
  obtain ⟨own2, N2, T2, S2, G2, y3, y4⟩ := so12
  have hr4 : r < 4 := by omega
  have br := (S2.2.1 r (by omega)).bnd
  refine q_rp S2 hr4 ?_
  refine q_hIe (p_wide (S2.2.1 r (by omega))) ?_
  have x1 : ii ((A r).flatten.length : Int) + (1 : Int32) = ii (((A r).flatten.length + 1 : Nat) : Int) := by rw [il_1, ii_add]; congr 1
  rw [x1]
  have qi := rnd_eq (s := sdN (sdN (sdN seed))) (n := (A r).flatten.length + 1) (by omega)
  generalize hii : rN (sdN (sdN (sdN seed))) ((A r).flatten.length + 1) = i at qi
  refine q_hI (z_draw S2 G2.wf (ii_eq0F (by omega))) fun v h14 ⟨g1, own3, N3, T3, S3, G3, y5, y6⟩ => ?_
  rw [qi.1] at g1
  subst g1
  have so3 : SO own B z low R N h A (ii rows) (sdN (sdN (sdN seed))) 0 0 h14 := SO.trans wf S2 G2 y3 y4 ⟨own3, N3, T3, S3, G3, y5, y6⟩
  obtain ⟨own3, N3, T3, S3, G3, y5, y6⟩ := so3
  have edw : dw low rows A seed = if dwB A what r i (dwX what rows (sdN (sdN (sdN (sdN seed))))) = true then (true, doA low A (dwK what) r i (dwX what rows (sdN (sdN (sdN (sdN seed))))), sdN (sdN (sdN (sdN seed)))) else (false, A, sdN (sdN (sdN (sdN seed)))) := by
    unfold dw
    rw [hwhat, hrr]
    dsimp only
    rw [hii]
  rw [edw]
  have key : ∀ (x : Nat) (h5 : PH) (own4 N4 : Nat → Nat) (T4 : Nat → Bool), x = dwX what rows (sdN (sdN (sdN (sdN seed)))) → x ≤ 40 → (dwK what ≤ 1 → x ≤ 1) → (4 ≤ dwK what → x < 4 ∧ 5 < what) → (dwK what = 2 ∨ dwK what = 3 → 1 ≤ x ∧ what ≤ 5) → (dwK what = 0 → what ≤ 5) → SR own4 B h5 z low A R N4 T4 (ii rows) (sdN (sdN (sdN (sdN seed)))) → GF own own4 R z h h5 → h5.2.1.1 + 2 * s11 N4 ≤ h.2.1.1 + 2 * s11 N + 0 → h5.2.1.2 + 7 * s11 N4 ≤ h.2.1.2 + 7 * s11 N + 0 → Ends (c_S_drawDeed_j127 h5 z (ii what) (ii r) (ii i) (ii (dwK what)) (ii x)) (fun rr h' => ∃ v, rr = .inl (some (.int v)) ∧ v = ii (bn (if dwB A what r i (dwX what rows (sdN (sdN (sdN (sdN seed))))) = true then (true, doA low A (dwK what) r i (dwX what rows (sdN (sdN (sdN (sdN seed))))), sdN (sdN (sdN (sdN seed)))) else (false, A, sdN (sdN (sdN (sdN seed))))).1) ∧ SO own B z low R N h (if dwB A what r i (dwX what rows (sdN (sdN (sdN (sdN seed))))) = true then (true, doA low A (dwK what) r i (dwX what rows (sdN (sdN (sdN (sdN seed))))), sdN (sdN (sdN (sdN seed)))) else (false, A, sdN (sdN (sdN (sdN seed))))).2.1 (ii rows) (if dwB A what r i (dwX what rows (sdN (sdN (sdN (sdN seed))))) = true then (true, doA low A (dwK what) r i (dwX what rows (sdN (sdN (sdN (sdN seed))))), sdN (sdN (sdN (sdN seed)))) else (false, A, sdN (sdN (sdN (sdN seed))))).2.2 3 170 h') := by
    intro x h5 own4 N4 T4 hx hx40 hb1 hb2 hb3 hb4 S5 G5 u1 u2
    rw [← hx]
    have kw : dwK what < 8 ∧ dwK what ≤ 5 := by unfold dwK; split <;> (try split) <;> (try split) <;> (try split) <;> omega
    have jj : ¬ (5 < what ∧ x = r) → Ends (c_S_drawDeed_j140 h5 z (ii r) (ii i) (ii (dwK what)) (ii x)) (fun rr h' => ∃ v, rr = .inl (some (.int v)) ∧ v = ii (bn (if dwB A what r i x = true then (true, doA low A (dwK what) r i x, sdN (sdN (sdN (sdN seed)))) else (false, A, sdN (sdN (sdN (sdN seed))))).1) ∧ SO own B z low R N h (if dwB A what r i x = true then (true, doA low A (dwK what) r i x, sdN (sdN (sdN (sdN seed)))) else (false, A, sdN (sdN (sdN (sdN seed))))).2.1 (ii rows) (if dwB A what r i x = true then (true, doA low A (dwK what) r i x, sdN (sdN (sdN (sdN seed)))) else (false, A, sdN (sdN (sdN (sdN seed))))).2.2 3 170 h') := by
      intro hno
      unfold c_S_drawDeed_j140
      refine q_hI (z_why S5 G5.wf kw.1 hr4 (by omega) (by omega) (by omega) (by omega)) fun v h6 ⟨g1, own5, N5, T5, S6, G6, y7, y8⟩ => ?_
      subst g1
      have so6 : SO own B z low R N h A (ii rows) (sdN (sdN (sdN (sdN seed)))) 0 0 h6 := SO.trans wf S5 G5 u1 u2 ⟨own5, N5, T5, S6, G6, y7, y8⟩
      have so6' := so6
      obtain ⟨own5, N5, T5, S6, G6, y7, y8⟩ := so6'
      have wl : why A (dwK what) r i x ≤ 2 := by
        unfold why
        split <;> (try split) <;> (try split) <;> omega
      by_cases hw : why A (dwK what) r i x = 0
      · refine q_pos _ (by rw [hw]; rfl) ?_
        have hB : dwB A what r i x = true := by
          unfold dwB
          have e1 : (decide (5 < what) && decide (x = r)) = false := by
            cases hq : (decide (5 < what) && decide (x = r)) with
            | false => rfl
            | true => exact absurd (by simpa using hq) hno
          rw [e1]
          simp [hw]
        rw [if_pos hB]
        refine q_hV (z_does S6 G6.wf kw.2 hr4 (by omega) (by omega) hw hb1 (fun q => ⟨(hb2 q).1, fun e => hno ⟨(hb2 q).2, e⟩⟩) (fun q => (hb3 q).1)) fun h3 so => ?_
        exact q_rZ1 ⟨_, rfl, rfl, SO.trans wf S6 G6 y7 y8 so⟩
      · refine q_neg _ (ii_eq0F (by omega)) ?_
        have hB : dwB A what r i x = false := by
          unfold dwB
          simp [hw]
        rw [hB]
        exact q_rZ0 ⟨_, rfl, rfl, so6.wk (by decide) (by decide)⟩
    unfold c_S_drawDeed_j127
    by_cases h5w : what ≤ 5
    · refine q_pos _ (ii_leT (b := 5) (by omega)) ?_
      exact jj (by omega)
    · refine q_neg _ (ii_leF (b := 5) (by omega)) ?_
      by_cases hxr : x = r
      · refine q_pos _ (by rw [hxr]) ?_
        have hB : dwB A what r i x = false := by
          unfold dwB
          have : 5 < what := by omega
          simp [this, hxr]
        rw [hB]
        exact q_rZ0 ⟨_, rfl, rfl, (SO.trans wf S5 G5 u1 u2 (SO.rf S5 G5.wf)).wk (by decide) (by decide)⟩
      · refine q_neg _ (ii_eqF (by omega)) ?_
        exact jj (fun q => hxr q.2)
  have j71 : Ends (c_S_drawDeed_j71 h14 z (ii what) (ii r) (ii i) (ii (dwK what))) (fun rr h' => ∃ v, rr = .inl (some (.int v)) ∧ v = ii (bn (if dwB A what r i (dwX what rows (sdN (sdN (sdN (sdN seed))))) = true then (true, doA low A (dwK what) r i (dwX what rows (sdN (sdN (sdN (sdN seed))))), sdN (sdN (sdN (sdN seed)))) else (false, A, sdN (sdN (sdN (sdN seed))))).1) ∧ SO own B z low R N h (if dwB A what r i (dwX what rows (sdN (sdN (sdN (sdN seed))))) = true then (true, doA low A (dwK what) r i (dwX what rows (sdN (sdN (sdN (sdN seed))))), sdN (sdN (sdN (sdN seed)))) else (false, A, sdN (sdN (sdN (sdN seed))))).2.1 (ii rows) (if dwB A what r i (dwX what rows (sdN (sdN (sdN (sdN seed))))) = true then (true, doA low A (dwK what) r i (dwX what rows (sdN (sdN (sdN (sdN seed))))), sdN (sdN (sdN (sdN seed)))) else (false, A, sdN (sdN (sdN (sdN seed))))).2.2 3 170 h') := by
    unfold c_S_drawDeed_j71
    have so4 : ∀ h5 own4 N4 T4, SR own4 B h5 z low A R N4 T4 (ii rows) (sdN (sdN (sdN (sdN seed)))) → GF own3 own4 R z h14 h5 → h5.2.1.1 + 2 * s11 N4 ≤ h14.2.1.1 + 2 * s11 N3 + 0 → h5.2.1.2 + 7 * s11 N4 ≤ h14.2.1.2 + 7 * s11 N3 + 0 → GF own own4 R z h h5 ∧ h5.2.1.1 + 2 * s11 N4 ≤ h.2.1.1 + 2 * s11 N + 0 ∧ h5.2.1.2 + 7 * s11 N4 ≤ h.2.1.2 + 7 * s11 N + 0 := fun h5 own4 N4 T4 _ g a b => ⟨G3.trans g wf, by omega, by omega⟩
    by_cases w3 : what < 3
    · refine q_neg _ (ii_leF (a := 3) (by omega)) ?_
      have eK : dwK what = 0 := by unfold dwK; rw [if_pos w3]
      have eX : dwX what rows (sdN (sdN (sdN (sdN seed)))) = rN (sdN (sdN (sdN (sdN seed)))) 2 := by unfold dwX; rw [if_pos w3]
      have q2 := rnd_eq (s := sdN (sdN (sdN (sdN seed)))) (n := 2) (by decide)
      refine q_hI (z_draw S3 G3.wf (by decide)) fun v h8 ⟨g1, own4, N4, T4, S4, G4, y7, y8⟩ => ?_
      rw [il_2, show (ii 2) = ii ((2 : Nat) : Int) from rfl, q2.1, ← eX] at g1
      subst g1
      obtain ⟨k1, k2, k3⟩ := so4 _ _ _ _ S4 G4 y7 y8
      exact key _ h8 own4 N4 T4 rfl (by omega) (by omega) (by omega) (by omega) (by omega) S4 k1 k2 k3
    · refine q_pos _ (ii_leT (a := 3) (by omega)) ?_
      by_cases e3 : what = 3
      · refine q_pos _ (ii_eqT (b := 3) (by omega)) ?_
        have eK : dwK what = 2 := by unfold dwK; rw [if_neg w3, if_pos e3]
        have eX : dwX what rows (sdN (sdN (sdN (sdN seed)))) = rN (sdN (sdN (sdN (sdN seed)))) 8 + 1 := by unfold dwX; rw [if_neg w3, if_pos e3]
        have q2 := rnd_eq (s := sdN (sdN (sdN (sdN seed)))) (n := 8) (by decide)
        refine q_hI (z_draw S3 G3.wf (by decide)) fun v h8 ⟨g1, own4, N4, T4, S4, G4, y7, y8⟩ => ?_
        rw [il_8, show (ii 8) = ii ((8 : Nat) : Int) from rfl, q2.1] at g1
        subst g1
        have x5 : ii (rN (sdN (sdN (sdN (sdN seed)))) 8 : Int) + (1 : Int32) = ii (dwX what rows (sdN (sdN (sdN (sdN seed)))) : Int) := by rw [eX, il_1, ii_add]; congr 1
        rw [x5]
        obtain ⟨k1, k2, k3⟩ := so4 _ _ _ _ S4 G4 y7 y8
        exact key _ h8 own4 N4 T4 rfl (by omega) (by omega) (by omega) (by omega) (by omega) S4 k1 k2 k3
      · refine q_neg _ (ii_eqF (b := 3) (by omega)) ?_
        by_cases w6 : what < 6
        · refine q_neg _ (ii_leF (a := 6) (by omega)) ?_
          have eK : dwK what = 3 := by unfold dwK; rw [if_neg w3, if_neg e3, if_pos w6]
          have eX : dwX what rows (sdN (sdN (sdN (sdN seed)))) = rN (sdN (sdN (sdN (sdN seed)))) 40 + 1 := by unfold dwX; rw [if_neg w3, if_neg e3, if_pos w6]
          have q2 := rnd_eq (s := sdN (sdN (sdN (sdN seed)))) (n := 40) (by decide)
          refine q_hI (z_draw S3 G3.wf (by decide)) fun v h8 ⟨g1, own4, N4, T4, S4, G4, y7, y8⟩ => ?_
          rw [il_40, show (ii 40) = ii ((40 : Nat) : Int) from rfl, q2.1] at g1
          subst g1
          have x5 : ii (rN (sdN (sdN (sdN (sdN seed)))) 40 : Int) + (1 : Int32) = ii (dwX what rows (sdN (sdN (sdN (sdN seed)))) : Int) := by rw [eX, il_1, ii_add]; congr 1
          rw [x5]
          obtain ⟨k1, k2, k3⟩ := so4 _ _ _ _ S4 G4 y7 y8
          exact key _ h8 own4 N4 T4 rfl (by omega) (by omega) (by omega) (by omega) (by omega) S4 k1 k2 k3
        · refine q_pos _ (ii_leT (a := 6) (by omega)) ?_
          have eK : 4 ≤ dwK what := by
            unfold dwK
            rw [if_neg w3, if_neg e3, if_neg w6]
            split <;> omega
          have eX : dwX what rows (sdN (sdN (sdN (sdN seed)))) = rN (sdN (sdN (sdN (sdN seed)))) rows := by unfold dwX; rw [if_neg w3, if_neg e3, if_neg w6]
          have q2 := rnd_eq (s := sdN (sdN (sdN (sdN seed)))) (n := rows) (by omega)
          obtain ⟨ra3, na3, rf3, nf3, c3, -⟩ := S3.cell
          refine q_gI c3 (by decide) rfl ?_
          refine q_hI (z_draw S3 G3.wf (ii_eq0F (by omega))) fun v h8 ⟨g1, own4, N4, T4, S4, G4, y7, y8⟩ => ?_
          rw [q2.1, ← eX] at g1
          subst g1
          obtain ⟨k1, k2, k3⟩ := so4 _ _ _ _ S4 G4 y7 y8
          exact key _ h8 own4 N4 T4 rfl (by omega) (by omega) (by omega) (by omega) (by omega) S4 k1 k2 k3
  by_cases w3 : what < 3
  · refine q_neg _ (ii_leF (a := 3) (by omega)) ?_
    have eK : dwK what = 0 := by unfold dwK; rw [if_pos w3]
    rw [eK] at j71 ⊢
    exact j71
  · refine q_pos _ (ii_leT (a := 3) (by omega)) ?_
    by_cases e3 : what = 3
    · refine q_pos _ (ii_eqT (b := 3) (by omega)) ?_
      have eK : dwK what = 2 := by unfold dwK; rw [if_neg w3, if_pos e3]
      rw [eK] at j71 ⊢
      exact j71
    · refine q_neg _ (ii_eqF (b := 3) (by omega)) ?_
      by_cases w6 : what < 6
      · refine q_neg _ (ii_leF (a := 6) (by omega)) ?_
        have eK : dwK what = 3 := by unfold dwK; rw [if_neg w3, if_neg e3, if_pos w6]
        rw [eK] at j71 ⊢
        exact j71
      · refine q_pos _ (ii_leT (a := 6) (by omega)) ?_
        by_cases e6 : what = 6
        · refine q_pos _ (ii_eqT (b := 6) (by omega)) ?_
          have eK : dwK what = 4 := by unfold dwK; rw [if_neg w3, if_neg e3, if_neg w6, if_pos e6]
          rw [eK] at j71 ⊢
          exact j71
        · refine q_neg _ (ii_eqF (b := 6) (by omega)) ?_
          have eK : dwK what = 5 := by unfold dwK; rw [if_neg w3, if_neg e3, if_neg w6, if_neg e6]
          rw [eK] at j71 ⊢
          exact j71
theorem dwN_le {low rows : Nat} : ∀ {n : Nat} {A : Nat → LL} {s : Int32}, (dwN low rows n A s).1 ≤ n := by
  intro n
  induction n with
  | zero => intro A s; exact Nat.le_refl _
  | succ n ih =>
    intro A s
    have := ih (A := (dw low rows A s).2.1) (s := (dw low rows A s).2.2)
    show (if (dw low rows A s).1 = true then 1 else 0) + (dwN low rows n (dw low rows A s).2.1 (dw low rows A s).2.2).1 ≤ n + 1
    split <;> omega
theorem z_drawDeeds_l19 {n : Nat} (hn : n ≤ 60) (hr : 1 ≤ rows ∧ rows ≤ 4) : ∀ (m fu k : Nat) (d : Int) (h : PH) (own N : Nat → Nat) (Tb : Nat → Bool) (A : Nat → LL) (seed : Int32), m < fu → k + m = n → SR own B h z low A R N Tb (ii rows) seed → Wf h → EI (itr (c_S_drawDeeds_l19) (fun _ _ _ _ _ => none) fu h z (ii n) (ii d) (ii k)) (fun v h' => v = ii (d + (dwN low rows m A seed).1) ∧ SO own B z low R N h (dwN low rows m A seed).2.1 (ii rows) (dwN low rows m A seed).2.2 (3 * m) (170 * m) h') := by
  intro m
  induction m with
  | zero =>
    intro fu k d h own N Tb A seed hf hk S wf
    obtain ⟨fu, rfl⟩ : ∃ x, fu = x + 1 := ⟨fu - 1, by omega⟩
    refine EI.of ?_
    rw [itr_succ]
    unfold c_S_drawDeeds_l19
    refine q_pos _ (ii_leT (by omega)) ?_
    refine q_rI ⟨_, rfl, ?_, SO.rf S wf⟩
    show ii d = ii (d + ((0 : Nat) : Int))
    congr 1
    omega
  | succ m ih =>
    intro fu k d h own N Tb A seed hf hk S wf
    obtain ⟨fu, rfl⟩ : ∃ x, fu = x + 1 := ⟨fu - 1, by omega⟩
    refine EI.of ?_
    rw [itr_succ]
    unfold c_S_drawDeeds_l19
    refine q_neg _ (ii_leF (by omega)) ?_
    refine q_hI (z_drawDeed hr S wf) fun v h1 ⟨g1, own1, N1, T1, S1, G1, y1, y2⟩ => ?_
    subst g1
    simp only [il_1, ii_add]
    have ed : dwN low rows (m + 1) A seed = ((if (dw low rows A seed).1 = true then 1 else 0) + (dwN low rows m (dw low rows A seed).2.1 (dw low rows A seed).2.2).1, (dwN low rows m (dw low rows A seed).2.1 (dw low rows A seed).2.2).2) := rfl
    rw [ed]
    cases hd : (dw low rows A seed).1 with
    | false =>
      refine q_pos _ (by first | trivial | rfl | decide) ?_
      refine Ends.ofEI (ih fu (k + 1) d h1 own1 N1 T1 _ _ (by omega) (by omega) S1 G1.wf) fun v h' ⟨q1, q2⟩ => ⟨v, rfl, ?_, (SO.trans wf S1 G1 y1 y2 q2).wk (by omega) (by omega)⟩
      rw [q1]
      congr 1
      simp
    | true =>
      refine q_neg _ (by first | decide | (intro z; exact absurd z (by decide))) ?_
      refine Ends.ofEI (ih fu (k + 1) (d + 1) h1 own1 N1 T1 _ _ (by omega) (by omega) S1 G1.wf) fun v h' ⟨q1, q2⟩ => ⟨v, rfl, ?_, (SO.trans wf S1 G1 y1 y2 q2).wk (by omega) (by omega)⟩
      rw [q1]
      congr 1
      simp
      omega
theorem z_drawDeeds {n : Nat} {begun : Int32} (hn : n ≤ 60) (hr : 1 ≤ rows ∧ rows ≤ 4) (S : SR own B h z low A R N Tb (ii rows) seed) (wf : Wf h) : EI (c_S_drawDeeds h z (ii n) begun) (fun v h' => v = ii (dwN low rows n A begun).1 ∧ SO own B z low R N h (dwN low rows n A begun).2.1 (ii rows) (dwN low rows n A begun).2.2 180 10200 h') := by
  obtain ⟨ra, na, rf, nf, e1, e2, S1, G1⟩ := SR.sd_ (s' := begun) S wf
  refine EI.of ?_
  unfold c_S_drawDeeds
  refine S.grd ?_
  refine q_gI e1 (by decide) rfl ?_
  refine q_neg _ (ii_eq0F (by omega)) ?_
  refine q_pI e1 (by decide) (Nat.le_of_ble_eq_true rfl) ?_
  rw [il_0]
  refine Ends.ofEI (z_drawDeeds_l19 hn hr n FU 0 0 _ own N Tb A begun (by unfold FU; omega) (by omega) S1 G1.wf) fun v h' ⟨q1, q2⟩ => ⟨v, rfl, ?_, (SO.trans (c1 := 0) (s1 := 0) wf S1 G1 (Nat.le_refl _) (Nat.le_refl _) q2).wk (by omega) (by omega)⟩
  rw [q1, Int.zero_add]
end
