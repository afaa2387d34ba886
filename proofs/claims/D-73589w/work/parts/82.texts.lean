/-! THE START: text constants, statics, script; all of KK and CK -/
set_option maxRecDepth 100000
abbrev strEnt : List Nat := [22, 24, 26, 32, 34, 36, 38, 40, 42, 44, 46, 48, 50, 52, 54, 56, 58, 60, 62, 64, 66, 68, 70]
abbrev tmS (i : Nat) : Term := .string "BitRopes" (strEnt.getD i 0)
abbrev nrw : Cond := Jvm.Cond.and given_1 narrow_1
def strReq (i : Nat) : List Cond := [.exactly (tmS i) "java/lang/String", .eq (.field (tmS i) "java/lang/String" "code\x72" "B") (.int 0), .arrayOf (.field (tmS i) "java/lang/String" "value" "[B") .byte, .eq (.length (.field (tmS i) "java/lang/String" "value" "[B")) (.int (Int32.ofNat (strLen.getD i 0)))] ++ (List.range (strLen.getD i 0)).map fun j => .eq (.elem (.field (tmS i) "java/lang/String" "value" "[B") (.int (Int32.ofNat j))) (.int ((strByt.getD i []).getD j 0))
theorem strReq_in : ((List.range 23).all fun i => (strReq i).all fun w => decide (w ∈ flatC nrw)) = true := by decide +kernel
theorem strReq_at {b : Nat} {s : State} (hg : nrw.before #[Value.ref b] s = true) {i : Nat} (hi : i < 23) {w : Cond} (hw : w ∈ strReq i) : w.before #[Value.ref b] s = true :=
  flat_of_before _ hg w (of_decide_eq_true (List.all_eq_true.mp (List.all_eq_true.mp strReq_in i (List.mem_range.mpr hi)) w hw))
theorem strTab_ok : (strTab.all fun q => (decide (q.2.2.2 < 23) && decide (Cond.stringRef q.1 q.2.1 q.2.2.1 ∈ lw_tbl)) && (decide (q.1 = "BitRopes" ∧ q.2.1 = strEnt.getD q.2.2.2 0) || decide (Cond.eq (.string q.1 q.2.1) (tmS q.2.2.2) ∈ flatC nrw) || decide (Cond.eq (tmS q.2.2.2) (.string q.1 q.2.1) ∈ flatC nrw))) = true := by decide +kernel
