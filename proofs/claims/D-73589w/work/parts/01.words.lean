-- ===== PART A: goes FIRST, ahead of the names: the tables' words, and 'selects' of the private methods out of them =====
/-- a private method of a class that the tables say can be made, by its rows of tables_1 -/
def lw_okq (q : MethodName × Nat) : Prop := (q.1.cls ≠ "java/lang/invoke/MethodHandle" ∧ q.1.cls ≠ "java/lang/invoke/VarHandle") ∧ Cond.instantiable q.1.cls q.2 ∈ tables_1 ∧ Cond.privateMethod q.1 ∈ tables_1 ∧ Cond.instanceMethod q.1 ∈ tables_1
set_option maxRecDepth 100000
theorem lw_t1 {w : Cond} (h : w ∈ tables_1_1) : w ∈ tables_1 := List.mem_append_left _ h
theorem lw_t2 {w : Cond} (h : w ∈ tables_1_2) : w ∈ tables_1 := List.mem_append_right _ (List.mem_append_left _ h)
theorem lw_t3 {w : Cond} (h : w ∈ tables_1_3) : w ∈ tables_1 := List.mem_append_right _ (List.mem_append_right _ (List.mem_append_left _ h))
theorem lw_t4 {w : Cond} (h : w ∈ tables_1_4) : w ∈ tables_1 := List.mem_append_right _ (List.mem_append_right _ (List.mem_append_right _ (List.mem_append_left _ h)))
theorem lw_t5 {w : Cond} (h : w ∈ tables_1_5) : w ∈ tables_1 := List.mem_append_right _ (List.mem_append_right _ (List.mem_append_right _ (List.mem_append_right _ (List.mem_append_left _ h))))
theorem lw_t6 {w : Cond} (h : w ∈ tables_1_6) : w ∈ tables_1 := List.mem_append_right _ (List.mem_append_right _ (List.mem_append_right _ (List.mem_append_right _ (List.mem_append_right _ (List.mem_append_left _ h)))))
theorem lw_t7 {w : Cond} (h : w ∈ tables_1_7) : w ∈ tables_1 := List.mem_append_right _ (List.mem_append_right _ (List.mem_append_right _ (List.mem_append_right _ (List.mem_append_right _ (List.mem_append_right _ (List.mem_append_left _ h))))))
theorem lw_t8 {w : Cond} (h : w ∈ tables_1_8) : w ∈ tables_1 := List.mem_append_right _ (List.mem_append_right _ (List.mem_append_right _ (List.mem_append_right _ (List.mem_append_right _ (List.mem_append_right _ (List.mem_append_right _ (List.mem_append_left _ h)))))))
theorem lw_t9 {w : Cond} (h : w ∈ tables_1_9) : w ∈ tables_1 := List.mem_append_right _ (List.mem_append_right _ (List.mem_append_right _ (List.mem_append_right _ (List.mem_append_right _ (List.mem_append_right _ (List.mem_append_right _ (List.mem_append_right _ (List.mem_append_left _ h))))))))
theorem lw_t10 {w : Cond} (h : w ∈ tables_1_10) : w ∈ tables_1 := List.mem_append_right _ (List.mem_append_right _ (List.mem_append_right _ (List.mem_append_right _ (List.mem_append_right _ (List.mem_append_right _ (List.mem_append_right _ (List.mem_append_right _ (List.mem_append_right _ h))))))))
theorem lw_p0 : lw_okq (⟨"java/lang/Throwable", "fillInStackTrace", "(I)Ljava/lang/Throwable;"⟩, 6) := ⟨⟨by decide +kernel, by decide +kernel⟩, lw_t1 (List.mem_of_getElem? (i := 81) rfl), lw_t1 (List.mem_of_getElem? (i := 79) rfl), lw_t1 (List.mem_of_getElem? (i := 80) rfl)⟩
theorem lw_p1 : lw_okq (⟨"BitRopes$State", "begin", "(LBitRopes$Rope;I)V"⟩, 4) := ⟨⟨by decide +kernel, by decide +kernel⟩, lw_t1 (List.mem_of_getElem? (i := 167) rfl), lw_t2 (List.mem_of_getElem? (i := 94) rfl), lw_t2 (List.mem_of_getElem? (i := 95) rfl)⟩
theorem lw_p2 : lw_okq (⟨"BitRopes", "fou\x72", "(I)V"⟩, 21) := ⟨⟨by decide +kernel, by decide +kernel⟩, lw_t1 (List.mem_of_getElem? (i := 37) rfl), lw_t2 (List.mem_of_getElem? (i := 223) rfl), lw_t2 (List.mem_of_getElem? (i := 224) rfl)⟩
theorem lw_p3 : lw_okq (⟨"BitRopes", "consume", "()V"⟩, 21) := ⟨⟨by decide +kernel, by decide +kernel⟩, lw_t1 (List.mem_of_getElem? (i := 37) rfl), lw_t2 (List.mem_of_getElem? (i := 235) rfl), lw_t2 (List.mem_of_getElem? (i := 236) rfl)⟩
theorem lw_p4 : lw_okq (⟨"BitRopes$RoomReade\x72", "readLine", "(I)V"⟩, 12) := ⟨⟨by decide +kernel, by decide +kernel⟩, lw_t1 (List.mem_of_getElem? (i := 230) rfl), lw_t3 (List.mem_of_getElem? (i := 113) rfl), lw_t3 (List.mem_of_getElem? (i := 114) rfl)⟩
theorem lw_p5 : lw_okq (⟨"BitRopes$RoomReade\x72", "readRow", "()V"⟩, 12) := ⟨⟨by decide +kernel, by decide +kernel⟩, lw_t1 (List.mem_of_getElem? (i := 230) rfl), lw_t3 (List.mem_of_getElem? (i := 125) rfl), lw_t3 (List.mem_of_getElem? (i := 126) rfl)⟩
theorem lw_p6 : lw_okq (⟨"BitRopes$RoomReade\x72", "isOf", "(III)Z"⟩, 12) := ⟨⟨by decide +kernel, by decide +kernel⟩, lw_t1 (List.mem_of_getElem? (i := 230) rfl), lw_t3 (List.mem_of_getElem? (i := 142) rfl), lw_t3 (List.mem_of_getElem? (i := 143) rfl)⟩
theorem lw_p7 : lw_okq (⟨"BitRopes$Rope", "loosen", "()V"⟩, 9) := ⟨⟨by decide +kernel, by decide +kernel⟩, lw_t1 (List.mem_of_getElem? (i := 174) rfl), lw_t3 (List.mem_of_getElem? (i := 155) rfl), lw_t3 (List.mem_of_getElem? (i := 156) rfl)⟩
theorem lw_p8 : lw_okq (⟨"BitRopes$Rope", "settle", "(LBitRopes$Node;)V"⟩, 9) := ⟨⟨by decide +kernel, by decide +kernel⟩, lw_t1 (List.mem_of_getElem? (i := 174) rfl), lw_t3 (List.mem_of_getElem? (i := 159) rfl), lw_t3 (List.mem_of_getElem? (i := 160) rfl)⟩
theorem lw_p9 : lw_okq (⟨"BitRopes$Rope", "fresh", "(I)LBitRopes$Leaf;"⟩, 9) := ⟨⟨by decide +kernel, by decide +kernel⟩, lw_t1 (List.mem_of_getElem? (i := 174) rfl), lw_t3 (List.mem_of_getElem? (i := 177) rfl), lw_t3 (List.mem_of_getElem? (i := 178) rfl)⟩
theorem lw_p10 : lw_okq (⟨"BitRopes$Leaf", "store", "(II)V"⟩, 5) := ⟨⟨by decide +kernel, by decide +kernel⟩, lw_t3 (List.mem_of_getElem? (i := 180) rfl), lw_t3 (List.mem_of_getElem? (i := 235) rfl), lw_t3 (List.mem_of_getElem? (i := 236) rfl)⟩
theorem lw_p11 : lw_okq (⟨"BitRopes$Rope", "leafOf", "(I)I"⟩, 9) := ⟨⟨by decide +kernel, by decide +kernel⟩, lw_t1 (List.mem_of_getElem? (i := 174) rfl), lw_t4 (List.mem_of_getElem? (i := 0) rfl), lw_t4 (List.mem_of_getElem? (i := 1) rfl)⟩
theorem lw_p12 : lw_okq (⟨"BitRopes$Rope", "halve", "(I)V"⟩, 9) := ⟨⟨by decide +kernel, by decide +kernel⟩, lw_t1 (List.mem_of_getElem? (i := 174) rfl), lw_t4 (List.mem_of_getElem? (i := 4) rfl), lw_t4 (List.mem_of_getElem? (i := 5) rfl)⟩
theorem lw_p13 : lw_okq (⟨"BitRopes$State", "types", "(II)V"⟩, 4) := ⟨⟨by decide +kernel, by decide +kernel⟩, lw_t1 (List.mem_of_getElem? (i := 167) rfl), lw_t4 (List.mem_of_getElem? (i := 29) rfl), lw_t4 (List.mem_of_getElem? (i := 30) rfl)⟩
theorem lw_p14 : lw_okq (⟨"BitRopes$Rope", "onesAlong", "(I)I"⟩, 9) := ⟨⟨by decide +kernel, by decide +kernel⟩, lw_t1 (List.mem_of_getElem? (i := 174) rfl), lw_t4 (List.mem_of_getElem? (i := 41) rfl), lw_t4 (List.mem_of_getElem? (i := 42) rfl)⟩
theorem lw_p15 : lw_okq (⟨"BitRopes", "isRow", "(I)Z"⟩, 21) := ⟨⟨by decide +kernel, by decide +kernel⟩, lw_t1 (List.mem_of_getElem? (i := 37) rfl), lw_t4 (List.mem_of_getElem? (i := 68) rfl), lw_t4 (List.mem_of_getElem? (i := 69) rfl)⟩
def lw_privs_1 : List (MethodName × Nat) := [(⟨"java/lang/Throwable", "fillInStackTrace", "(I)Ljava/lang/Throwable;"⟩, 6), (⟨"BitRopes$State", "begin", "(LBitRopes$Rope;I)V"⟩, 4), (⟨"BitRopes", "fou\x72", "(I)V"⟩, 21), (⟨"BitRopes", "consume", "()V"⟩, 21), (⟨"BitRopes$RoomReade\x72", "readLine", "(I)V"⟩, 12), (⟨"BitRopes$RoomReade\x72", "readRow", "()V"⟩, 12), (⟨"BitRopes$RoomReade\x72", "isOf", "(III)Z"⟩, 12), (⟨"BitRopes$Rope", "loosen", "()V"⟩, 9), (⟨"BitRopes$Rope", "settle", "(LBitRopes$Node;)V"⟩, 9), (⟨"BitRopes$Rope", "fresh", "(I)LBitRopes$Leaf;"⟩, 9), (⟨"BitRopes$Leaf", "store", "(II)V"⟩, 5), (⟨"BitRopes$Rope", "leafOf", "(I)I"⟩, 9), (⟨"BitRopes$Rope", "halve", "(I)V"⟩, 9), (⟨"BitRopes$State", "types", "(II)V"⟩, 4), (⟨"BitRopes$Rope", "onesAlong", "(I)I"⟩, 9), (⟨"BitRopes", "isRow", "(I)Z"⟩, 21)]
theorem lw_r1 : ∀ q ∈ lw_privs_1, lw_okq q := List.forall_mem_cons.mpr ⟨lw_p0, List.forall_mem_cons.mpr ⟨lw_p1, List.forall_mem_cons.mpr ⟨lw_p2, List.forall_mem_cons.mpr ⟨lw_p3, List.forall_mem_cons.mpr ⟨lw_p4, List.forall_mem_cons.mpr ⟨lw_p5, List.forall_mem_cons.mpr ⟨lw_p6, List.forall_mem_cons.mpr ⟨lw_p7, List.forall_mem_cons.mpr ⟨lw_p8, List.forall_mem_cons.mpr ⟨lw_p9, List.forall_mem_cons.mpr ⟨lw_p10, List.forall_mem_cons.mpr ⟨lw_p11, List.forall_mem_cons.mpr ⟨lw_p12, List.forall_mem_cons.mpr ⟨lw_p13, List.forall_mem_cons.mpr ⟨lw_p14, List.forall_mem_cons.mpr ⟨lw_p15, fun _ h => absurd h List.not_mem_nil⟩⟩⟩⟩⟩⟩⟩⟩⟩⟩⟩⟩⟩⟩⟩⟩
theorem lw_p16 : lw_okq (⟨"BitRopes", "rope", "(I)LBitRopes$Rope;"⟩, 21) := ⟨⟨by decide +kernel, by decide +kernel⟩, lw_t1 (List.mem_of_getElem? (i := 37) rfl), lw_t4 (List.mem_of_getElem? (i := 78) rfl), lw_t4 (List.mem_of_getElem? (i := 79) rfl)⟩
theorem lw_p17 : lw_okq (⟨"BitRopes$Rope", "build", "(II)LBitRopes$Node;"⟩, 9) := ⟨⟨by decide +kernel, by decide +kernel⟩, lw_t1 (List.mem_of_getElem? (i := 174) rfl), lw_t4 (List.mem_of_getElem? (i := 86) rfl), lw_t4 (List.mem_of_getElem? (i := 87) rfl)⟩
theorem lw_p18 : lw_okq (⟨"BitRopes", "runsOf", "(I)I"⟩, 21) := ⟨⟨by decide +kernel, by decide +kernel⟩, lw_t1 (List.mem_of_getElem? (i := 37) rfl), lw_t4 (List.mem_of_getElem? (i := 176) rfl), lw_t4 (List.mem_of_getElem? (i := 177) rfl)⟩
theorem lw_p19 : lw_okq (⟨"BitRopes", "differs", "(II)I"⟩, 21) := ⟨⟨by decide +kernel, by decide +kernel⟩, lw_t1 (List.mem_of_getElem? (i := 37) rfl), lw_t4 (List.mem_of_getElem? (i := 229) rfl), lw_t4 (List.mem_of_getElem? (i := 230) rfl)⟩
theorem lw_p20 : lw_okq (⟨"BitRopes", "areBits", "(I)Z"⟩, 21) := ⟨⟨by decide +kernel, by decide +kernel⟩, lw_t1 (List.mem_of_getElem? (i := 37) rfl), lw_t4 (List.mem_of_getElem? (i := 237) rfl), lw_t4 (List.mem_of_getElem? (i := 238) rfl)⟩
theorem lw_p21 : lw_okq (⟨"BitRopes", "one", "(I)I"⟩, 21) := ⟨⟨by decide +kernel, by decide +kernel⟩, lw_t1 (List.mem_of_getElem? (i := 37) rfl), lw_t5 (List.mem_of_getElem? (i := 1) rfl), lw_t5 (List.mem_of_getElem? (i := 2) rfl)⟩
theorem lw_p22 : lw_okq (⟨"BitRopes", "acts", "(IIII)I"⟩, 21) := ⟨⟨by decide +kernel, by decide +kernel⟩, lw_t1 (List.mem_of_getElem? (i := 37) rfl), lw_t5 (List.mem_of_getElem? (i := 26) rfl), lw_t5 (List.mem_of_getElem? (i := 27) rfl)⟩
theorem lw_p23 : lw_okq (⟨"BitRopes", "keep", "([LBitRopes$Packed;)V"⟩, 21) := ⟨⟨by decide +kernel, by decide +kernel⟩, lw_t1 (List.mem_of_getElem? (i := 37) rfl), lw_t5 (List.mem_of_getElem? (i := 62) rfl), lw_t5 (List.mem_of_getElem? (i := 63) rfl)⟩
theorem lw_p24 : lw_okq (⟨"BitRopes$Rope", "write", "(LBitRopes$Node;II)V"⟩, 9) := ⟨⟨by decide +kernel, by decide +kernel⟩, lw_t1 (List.mem_of_getElem? (i := 174) rfl), lw_t5 (List.mem_of_getElem? (i := 76) rfl), lw_t5 (List.mem_of_getElem? (i := 77) rfl)⟩
theorem lw_p25 : lw_okq (⟨"BitRopes$State", "cuts", "(III)V"⟩, 4) := ⟨⟨by decide +kernel, by decide +kernel⟩, lw_t1 (List.mem_of_getElem? (i := 167) rfl), lw_t5 (List.mem_of_getElem? (i := 85) rfl), lw_t5 (List.mem_of_getElem? (i := 86) rfl)⟩
theorem lw_p26 : lw_okq (⟨"BitRopes$Rope", "merge", "(I)V"⟩, 9) := ⟨⟨by decide +kernel, by decide +kernel⟩, lw_t1 (List.mem_of_getElem? (i := 174) rfl), lw_t5 (List.mem_of_getElem? (i := 95) rfl), lw_t5 (List.mem_of_getElem? (i := 96) rfl)⟩
theorem lw_p27 : lw_okq (⟨"BitRopes$Rope", "flip", "(LBitRopes$Node;II)V"⟩, 9) := ⟨⟨by decide +kernel, by decide +kernel⟩, lw_t1 (List.mem_of_getElem? (i := 174) rfl), lw_t5 (List.mem_of_getElem? (i := 103) rfl), lw_t5 (List.mem_of_getElem? (i := 104) rfl)⟩
theorem lw_p28 : lw_okq (⟨"BitRopes$State", "moves", "(III)V"⟩, 4) := ⟨⟨by decide +kernel, by decide +kernel⟩, lw_t1 (List.mem_of_getElem? (i := 167) rfl), lw_t5 (List.mem_of_getElem? (i := 113) rfl), lw_t5 (List.mem_of_getElem? (i := 114) rfl)⟩
theorem lw_p29 : lw_okq (⟨"BitRopes$State", "erases", "(I)V"⟩, 4) := ⟨⟨by decide +kernel, by decide +kernel⟩, lw_t1 (List.mem_of_getElem? (i := 167) rfl), lw_t5 (List.mem_of_getElem? (i := 118) rfl), lw_t5 (List.mem_of_getElem? (i := 119) rfl)⟩
theorem lw_p30 : lw_okq (⟨"BitRopes", "isFa\x72", "(I)Z"⟩, 21) := ⟨⟨by decide +kernel, by decide +kernel⟩, lw_t1 (List.mem_of_getElem? (i := 37) rfl), lw_t5 (List.mem_of_getElem? (i := 130) rfl), lw_t5 (List.mem_of_getElem? (i := 131) rfl)⟩
theorem lw_p31 : lw_okq (⟨"BitRopes", "areTwo", "(II)Z"⟩, 21) := ⟨⟨by decide +kernel, by decide +kernel⟩, lw_t1 (List.mem_of_getElem? (i := 37) rfl), lw_t5 (List.mem_of_getElem? (i := 142) rfl), lw_t5 (List.mem_of_getElem? (i := 143) rfl)⟩
def lw_privs_2 : List (MethodName × Nat) := [(⟨"BitRopes", "rope", "(I)LBitRopes$Rope;"⟩, 21), (⟨"BitRopes$Rope", "build", "(II)LBitRopes$Node;"⟩, 9), (⟨"BitRopes", "runsOf", "(I)I"⟩, 21), (⟨"BitRopes", "differs", "(II)I"⟩, 21), (⟨"BitRopes", "areBits", "(I)Z"⟩, 21), (⟨"BitRopes", "one", "(I)I"⟩, 21), (⟨"BitRopes", "acts", "(IIII)I"⟩, 21), (⟨"BitRopes", "keep", "([LBitRopes$Packed;)V"⟩, 21), (⟨"BitRopes$Rope", "write", "(LBitRopes$Node;II)V"⟩, 9), (⟨"BitRopes$State", "cuts", "(III)V"⟩, 4), (⟨"BitRopes$Rope", "merge", "(I)V"⟩, 9), (⟨"BitRopes$Rope", "flip", "(LBitRopes$Node;II)V"⟩, 9), (⟨"BitRopes$State", "moves", "(III)V"⟩, 4), (⟨"BitRopes$State", "erases", "(I)V"⟩, 4), (⟨"BitRopes", "isFa\x72", "(I)Z"⟩, 21), (⟨"BitRopes", "areTwo", "(II)Z"⟩, 21)]
theorem lw_r2 : ∀ q ∈ lw_privs_2, lw_okq q := List.forall_mem_cons.mpr ⟨lw_p16, List.forall_mem_cons.mpr ⟨lw_p17, List.forall_mem_cons.mpr ⟨lw_p18, List.forall_mem_cons.mpr ⟨lw_p19, List.forall_mem_cons.mpr ⟨lw_p20, List.forall_mem_cons.mpr ⟨lw_p21, List.forall_mem_cons.mpr ⟨lw_p22, List.forall_mem_cons.mpr ⟨lw_p23, List.forall_mem_cons.mpr ⟨lw_p24, List.forall_mem_cons.mpr ⟨lw_p25, List.forall_mem_cons.mpr ⟨lw_p26, List.forall_mem_cons.mpr ⟨lw_p27, List.forall_mem_cons.mpr ⟨lw_p28, List.forall_mem_cons.mpr ⟨lw_p29, List.forall_mem_cons.mpr ⟨lw_p30, List.forall_mem_cons.mpr ⟨lw_p31, fun _ h => absurd h List.not_mem_nil⟩⟩⟩⟩⟩⟩⟩⟩⟩⟩⟩⟩⟩⟩⟩⟩
theorem lw_p32 : lw_okq (⟨"BitRopes$State", "drawDeed", "()Z"⟩, 4) := ⟨⟨by decide +kernel, by decide +kernel⟩, lw_t1 (List.mem_of_getElem? (i := 167) rfl), lw_t5 (List.mem_of_getElem? (i := 218) rfl), lw_t5 (List.mem_of_getElem? (i := 219) rfl)⟩
theorem lw_p33 : lw_okq (⟨"BitRopes$State", "draw", "(I)I"⟩, 4) := ⟨⟨by decide +kernel, by decide +kernel⟩, lw_t1 (List.mem_of_getElem? (i := 167) rfl), lw_t5 (List.mem_of_getElem? (i := 222) rfl), lw_t5 (List.mem_of_getElem? (i := 223) rfl)⟩
theorem lw_p34 : lw_okq (⟨"BitRopes$BookReade\x72", "readLine", "()LBitRopes$Deed;"⟩, 12) := ⟨⟨by decide +kernel, by decide +kernel⟩, lw_t2 (List.mem_of_getElem? (i := 50) rfl), lw_t6 (List.mem_of_getElem? (i := 0) rfl), lw_t6 (List.mem_of_getElem? (i := 1) rfl)⟩
theorem lw_p35 : lw_okq (⟨"BitRopes$SentenceReade\x72", "any", "(I)LBitRopes$Cond;"⟩, 12) := ⟨⟨by decide +kernel, by decide +kernel⟩, lw_t2 (List.mem_of_getElem? (i := 105) rfl), lw_t6 (List.mem_of_getElem? (i := 79) rfl), lw_t6 (List.mem_of_getElem? (i := 80) rfl)⟩
theorem lw_p36 : lw_okq (⟨"BitRopes$SentenceReade\x72", "both", "(I)LBitRopes$Cond;"⟩, 12) := ⟨⟨by decide +kernel, by decide +kernel⟩, lw_t2 (List.mem_of_getElem? (i := 105) rfl), lw_t6 (List.mem_of_getElem? (i := 83) rfl), lw_t6 (List.mem_of_getElem? (i := 84) rfl)⟩
theorem lw_p37 : lw_okq (⟨"BitRopes$SentenceReade\x72", "single", "(I)LBitRopes$Cond;"⟩, 12) := ⟨⟨by decide +kernel, by decide +kernel⟩, lw_t2 (List.mem_of_getElem? (i := 105) rfl), lw_t6 (List.mem_of_getElem? (i := 87) rfl), lw_t6 (List.mem_of_getElem? (i := 88) rfl)⟩
theorem lw_p38 : lw_okq (⟨"BitRopesModel", "come", "(I)V"⟩, 39) := ⟨⟨by decide +kernel, by decide +kernel⟩, lw_t7 (List.mem_of_getElem? (i := 126) rfl), lw_t7 (List.mem_of_getElem? (i := 124) rfl), lw_t7 (List.mem_of_getElem? (i := 125) rfl)⟩
theorem lw_p39 : lw_okq (⟨"BitRopesModel", "begin", "(I)V"⟩, 39) := ⟨⟨by decide +kernel, by decide +kernel⟩, lw_t7 (List.mem_of_getElem? (i := 126) rfl), lw_t8 (List.mem_of_getElem? (i := 21) rfl), lw_t8 (List.mem_of_getElem? (i := 22) rfl)⟩
theorem lw_p40 : lw_okq (⟨"BitRopesModel", "take", "()I"⟩, 39) := ⟨⟨by decide +kernel, by decide +kernel⟩, lw_t7 (List.mem_of_getElem? (i := 126) rfl), lw_t8 (List.mem_of_getElem? (i := 25) rfl), lw_t8 (List.mem_of_getElem? (i := 26) rfl)⟩
theorem lw_p41 : lw_okq (⟨"BitRopesModel", "go", "()V"⟩, 39) := ⟨⟨by decide +kernel, by decide +kernel⟩, lw_t7 (List.mem_of_getElem? (i := 126) rfl), lw_t8 (List.mem_of_getElem? (i := 29) rfl), lw_t8 (List.mem_of_getElem? (i := 30) rfl)⟩
theorem lw_p42 : lw_okq (⟨"BitRopesModel", "tapeAt", "(I)I"⟩, 39) := ⟨⟨by decide +kernel, by decide +kernel⟩, lw_t7 (List.mem_of_getElem? (i := 126) rfl), lw_t8 (List.mem_of_getElem? (i := 39) rfl), lw_t8 (List.mem_of_getElem? (i := 40) rfl)⟩
theorem lw_p43 : lw_okq (⟨"BitRopesModel", "readLine", "(I)Z"⟩, 39) := ⟨⟨by decide +kernel, by decide +kernel⟩, lw_t7 (List.mem_of_getElem? (i := 126) rfl), lw_t8 (List.mem_of_getElem? (i := 45) rfl), lw_t8 (List.mem_of_getElem? (i := 46) rfl)⟩
theorem lw_p44 : lw_okq (⟨"BitRopesModel", "isWord", "(I)Z"⟩, 39) := ⟨⟨by decide +kernel, by decide +kernel⟩, lw_t7 (List.mem_of_getElem? (i := 126) rfl), lw_t8 (List.mem_of_getElem? (i := 49) rfl), lw_t8 (List.mem_of_getElem? (i := 50) rfl)⟩
theorem lw_p45 : lw_okq (⟨"BitRopesModel", "readLeaf", "(I)Z"⟩, 39) := ⟨⟨by decide +kernel, by decide +kernel⟩, lw_t7 (List.mem_of_getElem? (i := 126) rfl), lw_t8 (List.mem_of_getElem? (i := 59) rfl), lw_t8 (List.mem_of_getElem? (i := 60) rfl)⟩
theorem lw_p46 : lw_okq (⟨"BitRopesModel", "bad", "(I)Z"⟩, 39) := ⟨⟨by decide +kernel, by decide +kernel⟩, lw_t7 (List.mem_of_getElem? (i := 126) rfl), lw_t8 (List.mem_of_getElem? (i := 63) rfl), lw_t8 (List.mem_of_getElem? (i := 64) rfl)⟩
theorem lw_p47 : lw_okq (⟨"BitRopesModel", "readNumbe\x72", "(II)Z"⟩, 39) := ⟨⟨by decide +kernel, by decide +kernel⟩, lw_t7 (List.mem_of_getElem? (i := 126) rfl), lw_t8 (List.mem_of_getElem? (i := 67) rfl), lw_t8 (List.mem_of_getElem? (i := 68) rfl)⟩
def lw_privs_3 : List (MethodName × Nat) := [(⟨"BitRopes$State", "drawDeed", "()Z"⟩, 4), (⟨"BitRopes$State", "draw", "(I)I"⟩, 4), (⟨"BitRopes$BookReade\x72", "readLine", "()LBitRopes$Deed;"⟩, 12), (⟨"BitRopes$SentenceReade\x72", "any", "(I)LBitRopes$Cond;"⟩, 12), (⟨"BitRopes$SentenceReade\x72", "both", "(I)LBitRopes$Cond;"⟩, 12), (⟨"BitRopes$SentenceReade\x72", "single", "(I)LBitRopes$Cond;"⟩, 12), (⟨"BitRopesModel", "come", "(I)V"⟩, 39), (⟨"BitRopesModel", "begin", "(I)V"⟩, 39), (⟨"BitRopesModel", "take", "()I"⟩, 39), (⟨"BitRopesModel", "go", "()V"⟩, 39), (⟨"BitRopesModel", "tapeAt", "(I)I"⟩, 39), (⟨"BitRopesModel", "readLine", "(I)Z"⟩, 39), (⟨"BitRopesModel", "isWord", "(I)Z"⟩, 39), (⟨"BitRopesModel", "readLeaf", "(I)Z"⟩, 39), (⟨"BitRopesModel", "bad", "(I)Z"⟩, 39), (⟨"BitRopesModel", "readNumbe\x72", "(II)Z"⟩, 39)]
theorem lw_r3 : ∀ q ∈ lw_privs_3, lw_okq q := List.forall_mem_cons.mpr ⟨lw_p32, List.forall_mem_cons.mpr ⟨lw_p33, List.forall_mem_cons.mpr ⟨lw_p34, List.forall_mem_cons.mpr ⟨lw_p35, List.forall_mem_cons.mpr ⟨lw_p36, List.forall_mem_cons.mpr ⟨lw_p37, List.forall_mem_cons.mpr ⟨lw_p38, List.forall_mem_cons.mpr ⟨lw_p39, List.forall_mem_cons.mpr ⟨lw_p40, List.forall_mem_cons.mpr ⟨lw_p41, List.forall_mem_cons.mpr ⟨lw_p42, List.forall_mem_cons.mpr ⟨lw_p43, List.forall_mem_cons.mpr ⟨lw_p44, List.forall_mem_cons.mpr ⟨lw_p45, List.forall_mem_cons.mpr ⟨lw_p46, List.forall_mem_cons.mpr ⟨lw_p47, fun _ h => absurd h List.not_mem_nil⟩⟩⟩⟩⟩⟩⟩⟩⟩⟩⟩⟩⟩⟩⟩⟩
theorem lw_p48 : lw_okq (⟨"BitRopesModel", "readRow", "()Z"⟩, 39) := ⟨⟨by decide +kernel, by decide +kernel⟩, lw_t7 (List.mem_of_getElem? (i := 126) rfl), lw_t8 (List.mem_of_getElem? (i := 74) rfl), lw_t8 (List.mem_of_getElem? (i := 75) rfl)⟩
theorem lw_p49 : lw_okq (⟨"BitRopesModel", "isName", "()Z"⟩, 39) := ⟨⟨by decide +kernel, by decide +kernel⟩, lw_t7 (List.mem_of_getElem? (i := 126) rfl), lw_t8 (List.mem_of_getElem? (i := 78) rfl), lw_t8 (List.mem_of_getElem? (i := 79) rfl)⟩
theorem lw_p50 : lw_okq (⟨"BitRopesModel", "areBits", "()Z"⟩, 39) := ⟨⟨by decide +kernel, by decide +kernel⟩, lw_t7 (List.mem_of_getElem? (i := 126) rfl), lw_t8 (List.mem_of_getElem? (i := 85) rfl), lw_t8 (List.mem_of_getElem? (i := 86) rfl)⟩
theorem lw_p51 : lw_okq (⟨"BitRopesModel", "readLetters", "()Z"⟩, 39) := ⟨⟨by decide +kernel, by decide +kernel⟩, lw_t7 (List.mem_of_getElem? (i := 126) rfl), lw_t8 (List.mem_of_getElem? (i := 89) rfl), lw_t8 (List.mem_of_getElem? (i := 90) rfl)⟩
theorem lw_p52 : lw_okq (⟨"BitRopesModel", "areOf", "(I)Z"⟩, 39) := ⟨⟨by decide +kernel, by decide +kernel⟩, lw_t7 (List.mem_of_getElem? (i := 126) rfl), lw_t8 (List.mem_of_getElem? (i := 93) rfl), lw_t8 (List.mem_of_getElem? (i := 94) rfl)⟩
theorem lw_p53 : lw_okq (⟨"BitRopesModel", "readEnd", "()Z"⟩, 39) := ⟨⟨by decide +kernel, by decide +kernel⟩, lw_t7 (List.mem_of_getElem? (i := 126) rfl), lw_t8 (List.mem_of_getElem? (i := 97) rfl), lw_t8 (List.mem_of_getElem? (i := 98) rfl)⟩
theorem lw_p54 : lw_okq (⟨"BitRopesModel", "isSign", "(I)Z"⟩, 39) := ⟨⟨by decide +kernel, by decide +kernel⟩, lw_t7 (List.mem_of_getElem? (i := 126) rfl), lw_t8 (List.mem_of_getElem? (i := 101) rfl), lw_t8 (List.mem_of_getElem? (i := 102) rfl)⟩
theorem lw_p55 : lw_okq (⟨"BitRopesModel", "startSo", "()V"⟩, 39) := ⟨⟨by decide +kernel, by decide +kernel⟩, lw_t7 (List.mem_of_getElem? (i := 126) rfl), lw_t8 (List.mem_of_getElem? (i := 105) rfl), lw_t8 (List.mem_of_getElem? (i := 106) rfl)⟩
theorem lw_p56 : lw_okq (⟨"BitRopesModel", "putBit", "(III)V"⟩, 39) := ⟨⟨by decide +kernel, by decide +kernel⟩, lw_t7 (List.mem_of_getElem? (i := 126) rfl), lw_t8 (List.mem_of_getElem? (i := 109) rfl), lw_t8 (List.mem_of_getElem? (i := 110) rfl)⟩
theorem lw_p57 : lw_okq (⟨"BitRopesModel", "sizeOf", "(I)I"⟩, 39) := ⟨⟨by decide +kernel, by decide +kernel⟩, lw_t7 (List.mem_of_getElem? (i := 126) rfl), lw_t8 (List.mem_of_getElem? (i := 113) rfl), lw_t8 (List.mem_of_getElem? (i := 114) rfl)⟩
theorem lw_p58 : lw_okq (⟨"BitRopesModel", "leafOf", "(II)I"⟩, 39) := ⟨⟨by decide +kernel, by decide +kernel⟩, lw_t7 (List.mem_of_getElem? (i := 126) rfl), lw_t8 (List.mem_of_getElem? (i := 117) rfl), lw_t8 (List.mem_of_getElem? (i := 118) rfl)⟩
theorem lw_p59 : lw_okq (⟨"BitRopesModel", "leafAt", "(II)I"⟩, 39) := ⟨⟨by decide +kernel, by decide +kernel⟩, lw_t7 (List.mem_of_getElem? (i := 126) rfl), lw_t8 (List.mem_of_getElem? (i := 121) rfl), lw_t8 (List.mem_of_getElem? (i := 122) rfl)⟩
theorem lw_p60 : lw_okq (⟨"BitRopesModel", "splitLeaf", "(II)V"⟩, 39) := ⟨⟨by decide +kernel, by decide +kernel⟩, lw_t7 (List.mem_of_getElem? (i := 126) rfl), lw_t8 (List.mem_of_getElem? (i := 125) rfl), lw_t8 (List.mem_of_getElem? (i := 126) rfl)⟩
theorem lw_p61 : lw_okq (⟨"BitRopesModel", "isRow", "(I)Z"⟩, 39) := ⟨⟨by decide +kernel, by decide +kernel⟩, lw_t7 (List.mem_of_getElem? (i := 126) rfl), lw_t8 (List.mem_of_getElem? (i := 137) rfl), lw_t8 (List.mem_of_getElem? (i := 138) rfl)⟩
theorem lw_p62 : lw_okq (⟨"BitRopesModel", "isThere", "(II)Z"⟩, 39) := ⟨⟨by decide +kernel, by decide +kernel⟩, lw_t7 (List.mem_of_getElem? (i := 126) rfl), lw_t8 (List.mem_of_getElem? (i := 145) rfl), lw_t8 (List.mem_of_getElem? (i := 146) rfl)⟩
theorem lw_p63 : lw_okq (⟨"BitRopesModel", "bitOf", "(II)I"⟩, 39) := ⟨⟨by decide +kernel, by decide +kernel⟩, lw_t7 (List.mem_of_getElem? (i := 126) rfl), lw_t8 (List.mem_of_getElem? (i := 149) rfl), lw_t8 (List.mem_of_getElem? (i := 150) rfl)⟩
def lw_privs_4 : List (MethodName × Nat) := [(⟨"BitRopesModel", "readRow", "()Z"⟩, 39), (⟨"BitRopesModel", "isName", "()Z"⟩, 39), (⟨"BitRopesModel", "areBits", "()Z"⟩, 39), (⟨"BitRopesModel", "readLetters", "()Z"⟩, 39), (⟨"BitRopesModel", "areOf", "(I)Z"⟩, 39), (⟨"BitRopesModel", "readEnd", "()Z"⟩, 39), (⟨"BitRopesModel", "isSign", "(I)Z"⟩, 39), (⟨"BitRopesModel", "startSo", "()V"⟩, 39), (⟨"BitRopesModel", "putBit", "(III)V"⟩, 39), (⟨"BitRopesModel", "sizeOf", "(I)I"⟩, 39), (⟨"BitRopesModel", "leafOf", "(II)I"⟩, 39), (⟨"BitRopesModel", "leafAt", "(II)I"⟩, 39), (⟨"BitRopesModel", "splitLeaf", "(II)V"⟩, 39), (⟨"BitRopesModel", "isRow", "(I)Z"⟩, 39), (⟨"BitRopesModel", "isThere", "(II)Z"⟩, 39), (⟨"BitRopesModel", "bitOf", "(II)I"⟩, 39)]
theorem lw_r4 : ∀ q ∈ lw_privs_4, lw_okq q := List.forall_mem_cons.mpr ⟨lw_p48, List.forall_mem_cons.mpr ⟨lw_p49, List.forall_mem_cons.mpr ⟨lw_p50, List.forall_mem_cons.mpr ⟨lw_p51, List.forall_mem_cons.mpr ⟨lw_p52, List.forall_mem_cons.mpr ⟨lw_p53, List.forall_mem_cons.mpr ⟨lw_p54, List.forall_mem_cons.mpr ⟨lw_p55, List.forall_mem_cons.mpr ⟨lw_p56, List.forall_mem_cons.mpr ⟨lw_p57, List.forall_mem_cons.mpr ⟨lw_p58, List.forall_mem_cons.mpr ⟨lw_p59, List.forall_mem_cons.mpr ⟨lw_p60, List.forall_mem_cons.mpr ⟨lw_p61, List.forall_mem_cons.mpr ⟨lw_p62, List.forall_mem_cons.mpr ⟨lw_p63, fun _ h => absurd h List.not_mem_nil⟩⟩⟩⟩⟩⟩⟩⟩⟩⟩⟩⟩⟩⟩⟩⟩
theorem lw_p64 : lw_okq (⟨"BitRopesModel", "isBit", "(I)Z"⟩, 39) := ⟨⟨by decide +kernel, by decide +kernel⟩, lw_t7 (List.mem_of_getElem? (i := 126) rfl), lw_t8 (List.mem_of_getElem? (i := 157) rfl), lw_t8 (List.mem_of_getElem? (i := 158) rfl)⟩
theorem lw_p65 : lw_okq (⟨"BitRopesModel", "onesIn", "(III)I"⟩, 39) := ⟨⟨by decide +kernel, by decide +kernel⟩, lw_t7 (List.mem_of_getElem? (i := 126) rfl), lw_t8 (List.mem_of_getElem? (i := 161) rfl), lw_t8 (List.mem_of_getElem? (i := 162) rfl)⟩
theorem lw_p66 : lw_okq (⟨"BitRopesModel", "runsOf", "(I)I"⟩, 39) := ⟨⟨by decide +kernel, by decide +kernel⟩, lw_t7 (List.mem_of_getElem? (i := 126) rfl), lw_t8 (List.mem_of_getElem? (i := 177) rfl), lw_t8 (List.mem_of_getElem? (i := 178) rfl)⟩
theorem lw_p67 : lw_okq (⟨"BitRopesModel", "refuse", "()I"⟩, 39) := ⟨⟨by decide +kernel, by decide +kernel⟩, lw_t7 (List.mem_of_getElem? (i := 126) rfl), lw_t8 (List.mem_of_getElem? (i := 189) rfl), lw_t8 (List.mem_of_getElem? (i := 190) rfl)⟩
theorem lw_p68 : lw_okq (⟨"BitRopesModel", "costOf", "(I)I"⟩, 39) := ⟨⟨by decide +kernel, by decide +kernel⟩, lw_t7 (List.mem_of_getElem? (i := 126) rfl), lw_t8 (List.mem_of_getElem? (i := 214) rfl), lw_t8 (List.mem_of_getElem? (i := 215) rfl)⟩
theorem lw_p69 : lw_okq (⟨"BitRopesModel", "asFloat", "(II)I"⟩, 39) := ⟨⟨by decide +kernel, by decide +kernel⟩, lw_t7 (List.mem_of_getElem? (i := 126) rfl), lw_t8 (List.mem_of_getElem? (i := 222) rfl), lw_t8 (List.mem_of_getElem? (i := 223) rfl)⟩
theorem lw_p70 : lw_okq (⟨"BitRopesModel", "firstBits", "(III)J"⟩, 39) := ⟨⟨by decide +kernel, by decide +kernel⟩, lw_t7 (List.mem_of_getElem? (i := 126) rfl), lw_t8 (List.mem_of_getElem? (i := 226) rfl), lw_t8 (List.mem_of_getElem? (i := 227) rfl)⟩
theorem lw_p71 : lw_okq (⟨"BitRopesModel", "asDouble", "(II)J"⟩, 39) := ⟨⟨by decide +kernel, by decide +kernel⟩, lw_t7 (List.mem_of_getElem? (i := 126) rfl), lw_t9 (List.mem_of_getElem? (i := 0) rfl), lw_t9 (List.mem_of_getElem? (i := 1) rfl)⟩
theorem lw_p72 : lw_okq (⟨"BitRopesModel", "areLike", "(II)Z"⟩, 39) := ⟨⟨by decide +kernel, by decide +kernel⟩, lw_t7 (List.mem_of_getElem? (i := 126) rfl), lw_t9 (List.mem_of_getElem? (i := 14) rfl), lw_t9 (List.mem_of_getElem? (i := 15) rfl)⟩
theorem lw_p73 : lw_okq (⟨"BitRopesModel", "firstApart", "(II)I"⟩, 39) := ⟨⟨by decide +kernel, by decide +kernel⟩, lw_t7 (List.mem_of_getElem? (i := 126) rfl), lw_t9 (List.mem_of_getElem? (i := 18) rfl), lw_t9 (List.mem_of_getElem? (i := 19) rfl)⟩
theorem lw_p74 : lw_okq (⟨"BitRopesModel", "areTapeBits", "(II)Z"⟩, 39) := ⟨⟨by decide +kernel, by decide +kernel⟩, lw_t7 (List.mem_of_getElem? (i := 126) rfl), lw_t9 (List.mem_of_getElem? (i := 26) rfl), lw_t9 (List.mem_of_getElem? (i := 27) rfl)⟩
theorem lw_p75 : lw_okq (⟨"BitRopesModel", "isOnTape", "(III)Z"⟩, 39) := ⟨⟨by decide +kernel, by decide +kernel⟩, lw_t7 (List.mem_of_getElem? (i := 126) rfl), lw_t9 (List.mem_of_getElem? (i := 30) rfl), lw_t9 (List.mem_of_getElem? (i := 31) rfl)⟩
theorem lw_p76 : lw_okq (⟨"BitRopesModel", "isLetterAt", "(I)Z"⟩, 39) := ⟨⟨by decide +kernel, by decide +kernel⟩, lw_t7 (List.mem_of_getElem? (i := 126) rfl), lw_t9 (List.mem_of_getElem? (i := 46) rfl), lw_t9 (List.mem_of_getElem? (i := 47) rfl)⟩
theorem lw_p77 : lw_okq (⟨"BitRopesModel", "act", "(IIIIZ)I"⟩, 39) := ⟨⟨by decide +kernel, by decide +kernel⟩, lw_t7 (List.mem_of_getElem? (i := 126) rfl), lw_t9 (List.mem_of_getElem? (i := 73) rfl), lw_t9 (List.mem_of_getElem? (i := 74) rfl)⟩
theorem lw_p78 : lw_okq (⟨"BitRopesModel", "refusal", "(IIII)I"⟩, 39) := ⟨⟨by decide +kernel, by decide +kernel⟩, lw_t7 (List.mem_of_getElem? (i := 126) rfl), lw_t9 (List.mem_of_getElem? (i := 77) rfl), lw_t9 (List.mem_of_getElem? (i := 78) rfl)⟩
theorem lw_p79 : lw_okq (⟨"BitRopesModel", "whyPut", "(III)I"⟩, 39) := ⟨⟨by decide +kernel, by decide +kernel⟩, lw_t7 (List.mem_of_getElem? (i := 126) rfl), lw_t9 (List.mem_of_getElem? (i := 81) rfl), lw_t9 (List.mem_of_getElem? (i := 82) rfl)⟩
def lw_privs_5 : List (MethodName × Nat) := [(⟨"BitRopesModel", "isBit", "(I)Z"⟩, 39), (⟨"BitRopesModel", "onesIn", "(III)I"⟩, 39), (⟨"BitRopesModel", "runsOf", "(I)I"⟩, 39), (⟨"BitRopesModel", "refuse", "()I"⟩, 39), (⟨"BitRopesModel", "costOf", "(I)I"⟩, 39), (⟨"BitRopesModel", "asFloat", "(II)I"⟩, 39), (⟨"BitRopesModel", "firstBits", "(III)J"⟩, 39), (⟨"BitRopesModel", "asDouble", "(II)J"⟩, 39), (⟨"BitRopesModel", "areLike", "(II)Z"⟩, 39), (⟨"BitRopesModel", "firstApart", "(II)I"⟩, 39), (⟨"BitRopesModel", "areTapeBits", "(II)Z"⟩, 39), (⟨"BitRopesModel", "isOnTape", "(III)Z"⟩, 39), (⟨"BitRopesModel", "isLetterAt", "(I)Z"⟩, 39), (⟨"BitRopesModel", "act", "(IIIIZ)I"⟩, 39), (⟨"BitRopesModel", "refusal", "(IIII)I"⟩, 39), (⟨"BitRopesModel", "whyPut", "(III)I"⟩, 39)]
theorem lw_r5 : ∀ q ∈ lw_privs_5, lw_okq q := List.forall_mem_cons.mpr ⟨lw_p64, List.forall_mem_cons.mpr ⟨lw_p65, List.forall_mem_cons.mpr ⟨lw_p66, List.forall_mem_cons.mpr ⟨lw_p67, List.forall_mem_cons.mpr ⟨lw_p68, List.forall_mem_cons.mpr ⟨lw_p69, List.forall_mem_cons.mpr ⟨lw_p70, List.forall_mem_cons.mpr ⟨lw_p71, List.forall_mem_cons.mpr ⟨lw_p72, List.forall_mem_cons.mpr ⟨lw_p73, List.forall_mem_cons.mpr ⟨lw_p74, List.forall_mem_cons.mpr ⟨lw_p75, List.forall_mem_cons.mpr ⟨lw_p76, List.forall_mem_cons.mpr ⟨lw_p77, List.forall_mem_cons.mpr ⟨lw_p78, List.forall_mem_cons.mpr ⟨lw_p79, fun _ h => absurd h List.not_mem_nil⟩⟩⟩⟩⟩⟩⟩⟩⟩⟩⟩⟩⟩⟩⟩⟩
theorem lw_p80 : lw_okq (⟨"BitRopesModel", "snap", "()V"⟩, 39) := ⟨⟨by decide +kernel, by decide +kernel⟩, lw_t7 (List.mem_of_getElem? (i := 126) rfl), lw_t9 (List.mem_of_getElem? (i := 88) rfl), lw_t9 (List.mem_of_getElem? (i := 89) rfl)⟩
theorem lw_p81 : lw_okq (⟨"BitRopesModel", "save", "([II)V"⟩, 39) := ⟨⟨by decide +kernel, by decide +kernel⟩, lw_t7 (List.mem_of_getElem? (i := 126) rfl), lw_t9 (List.mem_of_getElem? (i := 92) rfl), lw_t9 (List.mem_of_getElem? (i := 93) rfl)⟩
theorem lw_p82 : lw_okq (⟨"BitRopesModel", "live", "(IIII)V"⟩, 39) := ⟨⟨by decide +kernel, by decide +kernel⟩, lw_t7 (List.mem_of_getElem? (i := 126) rfl), lw_t9 (List.mem_of_getElem? (i := 96) rfl), lw_t9 (List.mem_of_getElem? (i := 97) rfl)⟩
theorem lw_p83 : lw_okq (⟨"BitRopesModel", "takeBit", "(II)V"⟩, 39) := ⟨⟨by decide +kernel, by decide +kernel⟩, lw_t7 (List.mem_of_getElem? (i := 126) rfl), lw_t9 (List.mem_of_getElem? (i := 100) rfl), lw_t9 (List.mem_of_getElem? (i := 101) rfl)⟩
theorem lw_p84 : lw_okq (⟨"BitRopesModel", "joinLeaves", "(II)V"⟩, 39) := ⟨⟨by decide +kernel, by decide +kernel⟩, lw_t7 (List.mem_of_getElem? (i := 126) rfl), lw_t9 (List.mem_of_getElem? (i := 104) rfl), lw_t9 (List.mem_of_getElem? (i := 105) rfl)⟩
theorem lw_p85 : lw_okq (⟨"BitRopesModel", "moves", "(III)V"⟩, 39) := ⟨⟨by decide +kernel, by decide +kernel⟩, lw_t7 (List.mem_of_getElem? (i := 126) rfl), lw_t9 (List.mem_of_getElem? (i := 108) rfl), lw_t9 (List.mem_of_getElem? (i := 109) rfl)⟩
theorem lw_p86 : lw_okq (⟨"BitRopesModel", "areTwo", "(II)Z"⟩, 39) := ⟨⟨by decide +kernel, by decide +kernel⟩, lw_t7 (List.mem_of_getElem? (i := 126) rfl), lw_t9 (List.mem_of_getElem? (i := 132) rfl), lw_t9 (List.mem_of_getElem? (i := 133) rfl)⟩
theorem lw_p87 : lw_okq (⟨"BitRopesModel", "comeBack", "([II)V"⟩, 39) := ⟨⟨by decide +kernel, by decide +kernel⟩, lw_t7 (List.mem_of_getElem? (i := 126) rfl), lw_t9 (List.mem_of_getElem? (i := 152) rfl), lw_t9 (List.mem_of_getElem? (i := 153) rfl)⟩
theorem lw_p88 : lw_okq (⟨"BitRopesModel", "drawsDeed", "()Z"⟩, 39) := ⟨⟨by decide +kernel, by decide +kernel⟩, lw_t7 (List.mem_of_getElem? (i := 126) rfl), lw_t9 (List.mem_of_getElem? (i := 160) rfl), lw_t9 (List.mem_of_getElem? (i := 161) rfl)⟩
theorem lw_p89 : lw_okq (⟨"BitRopesModel", "draw", "(I)I"⟩, 39) := ⟨⟨by decide +kernel, by decide +kernel⟩, lw_t7 (List.mem_of_getElem? (i := 126) rfl), lw_t9 (List.mem_of_getElem? (i := 164) rfl), lw_t9 (List.mem_of_getElem? (i := 165) rfl)⟩
theorem lw_p90 : lw_okq (⟨"BitRopesModel", "doIf", "(IIII)Z"⟩, 39) := ⟨⟨by decide +kernel, by decide +kernel⟩, lw_t7 (List.mem_of_getElem? (i := 126) rfl), lw_t9 (List.mem_of_getElem? (i := 169) rfl), lw_t9 (List.mem_of_getElem? (i := 170) rfl)⟩
theorem lw_p91 : lw_okq (⟨"BitRopesModel", "stay", "(Z)V"⟩, 39) := ⟨⟨by decide +kernel, by decide +kernel⟩, lw_t7 (List.mem_of_getElem? (i := 126) rfl), lw_t9 (List.mem_of_getElem? (i := 173) rfl), lw_t9 (List.mem_of_getElem? (i := 174) rfl)⟩
theorem lw_p92 : lw_okq (⟨"BitRopesModel", "readBookLine", "()Z"⟩, 39) := ⟨⟨by decide +kernel, by decide +kernel⟩, lw_t7 (List.mem_of_getElem? (i := 126) rfl), lw_t9 (List.mem_of_getElem? (i := 181) rfl), lw_t9 (List.mem_of_getElem? (i := 182) rfl)⟩
theorem lw_p93 : lw_okq (⟨"BitRopesModel", "readRowName", "()Z"⟩, 39) := ⟨⟨by decide +kernel, by decide +kernel⟩, lw_t7 (List.mem_of_getElem? (i := 126) rfl), lw_t9 (List.mem_of_getElem? (i := 185) rfl), lw_t9 (List.mem_of_getElem? (i := 186) rfl)⟩
theorem lw_p94 : lw_okq (⟨"BitRopesModel", "keep", "(IZ)Z"⟩, 39) := ⟨⟨by decide +kernel, by decide +kernel⟩, lw_t7 (List.mem_of_getElem? (i := 126) rfl), lw_t9 (List.mem_of_getElem? (i := 189) rfl), lw_t9 (List.mem_of_getElem? (i := 190) rfl)⟩
theorem lw_p95 : lw_okq (⟨"BitRopesModel", "readOthe\x72", "(I)Z"⟩, 39) := ⟨⟨by decide +kernel, by decide +kernel⟩, lw_t7 (List.mem_of_getElem? (i := 126) rfl), lw_t9 (List.mem_of_getElem? (i := 193) rfl), lw_t9 (List.mem_of_getElem? (i := 194) rfl)⟩
def lw_privs_6 : List (MethodName × Nat) := [(⟨"BitRopesModel", "snap", "()V"⟩, 39), (⟨"BitRopesModel", "save", "([II)V"⟩, 39), (⟨"BitRopesModel", "live", "(IIII)V"⟩, 39), (⟨"BitRopesModel", "takeBit", "(II)V"⟩, 39), (⟨"BitRopesModel", "joinLeaves", "(II)V"⟩, 39), (⟨"BitRopesModel", "moves", "(III)V"⟩, 39), (⟨"BitRopesModel", "areTwo", "(II)Z"⟩, 39), (⟨"BitRopesModel", "comeBack", "([II)V"⟩, 39), (⟨"BitRopesModel", "drawsDeed", "()Z"⟩, 39), (⟨"BitRopesModel", "draw", "(I)I"⟩, 39), (⟨"BitRopesModel", "doIf", "(IIII)Z"⟩, 39), (⟨"BitRopesModel", "stay", "(Z)V"⟩, 39), (⟨"BitRopesModel", "readBookLine", "()Z"⟩, 39), (⟨"BitRopesModel", "readRowName", "()Z"⟩, 39), (⟨"BitRopesModel", "keep", "(IZ)Z"⟩, 39), (⟨"BitRopesModel", "readOthe\x72", "(I)Z"⟩, 39)]
theorem lw_r6 : ∀ q ∈ lw_privs_6, lw_okq q := List.forall_mem_cons.mpr ⟨lw_p80, List.forall_mem_cons.mpr ⟨lw_p81, List.forall_mem_cons.mpr ⟨lw_p82, List.forall_mem_cons.mpr ⟨lw_p83, List.forall_mem_cons.mpr ⟨lw_p84, List.forall_mem_cons.mpr ⟨lw_p85, List.forall_mem_cons.mpr ⟨lw_p86, List.forall_mem_cons.mpr ⟨lw_p87, List.forall_mem_cons.mpr ⟨lw_p88, List.forall_mem_cons.mpr ⟨lw_p89, List.forall_mem_cons.mpr ⟨lw_p90, List.forall_mem_cons.mpr ⟨lw_p91, List.forall_mem_cons.mpr ⟨lw_p92, List.forall_mem_cons.mpr ⟨lw_p93, List.forall_mem_cons.mpr ⟨lw_p94, List.forall_mem_cons.mpr ⟨lw_p95, fun _ h => absurd h List.not_mem_nil⟩⟩⟩⟩⟩⟩⟩⟩⟩⟩⟩⟩⟩⟩⟩⟩
theorem lw_p96 : lw_okq (⟨"BitRopesModel", "goBy", "(I)I"⟩, 39) := ⟨⟨by decide +kernel, by decide +kernel⟩, lw_t7 (List.mem_of_getElem? (i := 126) rfl), lw_t9 (List.mem_of_getElem? (i := 197) rfl), lw_t9 (List.mem_of_getElem? (i := 198) rfl)⟩
theorem lw_p97 : lw_okq (⟨"BitRopesModel", "allBits", "()I"⟩, 39) := ⟨⟨by decide +kernel, by decide +kernel⟩, lw_t7 (List.mem_of_getElem? (i := 126) rfl), lw_t9 (List.mem_of_getElem? (i := 201) rfl), lw_t9 (List.mem_of_getElem? (i := 202) rfl)⟩
theorem lw_p98 : lw_okq (⟨"BitRopesModel", "readO\x72", "()Z"⟩, 39) := ⟨⟨by decide +kernel, by decide +kernel⟩, lw_t7 (List.mem_of_getElem? (i := 126) rfl), lw_t9 (List.mem_of_getElem? (i := 213) rfl), lw_t9 (List.mem_of_getElem? (i := 214) rfl)⟩
theorem lw_p99 : lw_okq (⟨"BitRopesModel", "readAnd", "()Z"⟩, 39) := ⟨⟨by decide +kernel, by decide +kernel⟩, lw_t7 (List.mem_of_getElem? (i := 126) rfl), lw_t9 (List.mem_of_getElem? (i := 217) rfl), lw_t9 (List.mem_of_getElem? (i := 218) rfl)⟩
theorem lw_p100 : lw_okq (⟨"BitRopesModel", "readSaid", "()Z"⟩, 39) := ⟨⟨by decide +kernel, by decide +kernel⟩, lw_t7 (List.mem_of_getElem? (i := 126) rfl), lw_t9 (List.mem_of_getElem? (i := 221) rfl), lw_t9 (List.mem_of_getElem? (i := 222) rfl)⟩
theorem lw_p101 : lw_okq (⟨"BitRopesModel", "readBracket", "()Z"⟩, 39) := ⟨⟨by decide +kernel, by decide +kernel⟩, lw_t7 (List.mem_of_getElem? (i := 126) rfl), lw_t9 (List.mem_of_getElem? (i := 225) rfl), lw_t9 (List.mem_of_getElem? (i := 226) rfl)⟩
theorem lw_p102 : lw_okq (⟨"BitRopesModel", "readNot", "()Z"⟩, 39) := ⟨⟨by decide +kernel, by decide +kernel⟩, lw_t7 (List.mem_of_getElem? (i := 126) rfl), lw_t9 (List.mem_of_getElem? (i := 229) rfl), lw_t9 (List.mem_of_getElem? (i := 230) rfl)⟩
theorem lw_p103 : lw_okq (⟨"BitRopesModel", "saysOne", "(IIII)I"⟩, 39) := ⟨⟨by decide +kernel, by decide +kernel⟩, lw_t7 (List.mem_of_getElem? (i := 126) rfl), lw_t9 (List.mem_of_getElem? (i := 233) rfl), lw_t9 (List.mem_of_getElem? (i := 234) rfl)⟩
theorem lw_p104 : lw_okq (⟨"BitRopesModel", "readOf", "(I)Z"⟩, 39) := ⟨⟨by decide +kernel, by decide +kernel⟩, lw_t7 (List.mem_of_getElem? (i := 126) rfl), lw_t9 (List.mem_of_getElem? (i := 237) rfl), lw_t9 (List.mem_of_getElem? (i := 238) rfl)⟩
theorem lw_p105 : lw_okq (⟨"BitRopesModel", "readCompare", "(I)Z"⟩, 39) := ⟨⟨by decide +kernel, by decide +kernel⟩, lw_t7 (List.mem_of_getElem? (i := 126) rfl), lw_t10 (List.mem_of_getElem? (i := 1) rfl), lw_t10 (List.mem_of_getElem? (i := 2) rfl)⟩
theorem lw_p106 : lw_okq (⟨"BitRopesModel", "holds", "(II)Z"⟩, 39) := ⟨⟨by decide +kernel, by decide +kernel⟩, lw_t7 (List.mem_of_getElem? (i := 126) rfl), lw_t10 (List.mem_of_getElem? (i := 9) rfl), lw_t10 (List.mem_of_getElem? (i := 10) rfl)⟩
theorem lw_p107 : lw_okq (⟨"BitRopesModel", "onesOf", "(I)I"⟩, 39) := ⟨⟨by decide +kernel, by decide +kernel⟩, lw_t7 (List.mem_of_getElem? (i := 126) rfl), lw_t10 (List.mem_of_getElem? (i := 13) rfl), lw_t10 (List.mem_of_getElem? (i := 14) rfl)⟩
theorem lw_p108 : lw_okq (⟨"BitRopesModel", "beginsWith", "(II)Z"⟩, 39) := ⟨⟨by decide +kernel, by decide +kernel⟩, lw_t7 (List.mem_of_getElem? (i := 126) rfl), lw_t10 (List.mem_of_getElem? (i := 17) rfl), lw_t10 (List.mem_of_getElem? (i := 18) rfl)⟩
def lw_privs_7 : List (MethodName × Nat) := [(⟨"BitRopesModel", "goBy", "(I)I"⟩, 39), (⟨"BitRopesModel", "allBits", "()I"⟩, 39), (⟨"BitRopesModel", "readO\x72", "()Z"⟩, 39), (⟨"BitRopesModel", "readAnd", "()Z"⟩, 39), (⟨"BitRopesModel", "readSaid", "()Z"⟩, 39), (⟨"BitRopesModel", "readBracket", "()Z"⟩, 39), (⟨"BitRopesModel", "readNot", "()Z"⟩, 39), (⟨"BitRopesModel", "saysOne", "(IIII)I"⟩, 39), (⟨"BitRopesModel", "readOf", "(I)Z"⟩, 39), (⟨"BitRopesModel", "readCompare", "(I)Z"⟩, 39), (⟨"BitRopesModel", "holds", "(II)Z"⟩, 39), (⟨"BitRopesModel", "onesOf", "(I)I"⟩, 39), (⟨"BitRopesModel", "beginsWith", "(II)Z"⟩, 39)]
theorem lw_r7 : ∀ q ∈ lw_privs_7, lw_okq q := List.forall_mem_cons.mpr ⟨lw_p96, List.forall_mem_cons.mpr ⟨lw_p97, List.forall_mem_cons.mpr ⟨lw_p98, List.forall_mem_cons.mpr ⟨lw_p99, List.forall_mem_cons.mpr ⟨lw_p100, List.forall_mem_cons.mpr ⟨lw_p101, List.forall_mem_cons.mpr ⟨lw_p102, List.forall_mem_cons.mpr ⟨lw_p103, List.forall_mem_cons.mpr ⟨lw_p104, List.forall_mem_cons.mpr ⟨lw_p105, List.forall_mem_cons.mpr ⟨lw_p106, List.forall_mem_cons.mpr ⟨lw_p107, List.forall_mem_cons.mpr ⟨lw_p108, fun _ h => absurd h List.not_mem_nil⟩⟩⟩⟩⟩⟩⟩⟩⟩⟩⟩⟩⟩
def lw_privs : List (MethodName × Nat) := lw_privs_1 ++ (lw_privs_2 ++ (lw_privs_3 ++ (lw_privs_4 ++ (lw_privs_5 ++ (lw_privs_6 ++ (lw_privs_7))))))
def lw_tbl : List Cond := k2_sels lw_privs ++ tables_1
theorem lw_privs_ok : ∀ q ∈ lw_privs, lw_okq q := by
  show ∀ q ∈ lw_privs_1 ++ (lw_privs_2 ++ (lw_privs_3 ++ (lw_privs_4 ++ (lw_privs_5 ++ (lw_privs_6 ++ (lw_privs_7)))))), lw_okq q
  exact List.forall_mem_append.mpr ⟨lw_r1, List.forall_mem_append.mpr ⟨lw_r2, List.forall_mem_append.mpr ⟨lw_r3, List.forall_mem_append.mpr ⟨lw_r4, List.forall_mem_append.mpr ⟨lw_r5, List.forall_mem_append.mpr ⟨lw_r6, lw_r7⟩⟩⟩⟩⟩⟩
-- ===== ONE list of words for every method: the tables' words that hold all through a run =====
def lw_all : List Cond := lw_tbl.filter goodWord
/-- a word of the tables by its place: claim/WORDS.tsv -/
theorem lw_w {w : Cond} (i : Nat) (h : lw_tbl[i]? = some w) (g : goodWord w = true) : w ∈ lw_all := List.mem_filter.mpr ⟨List.mem_of_getElem? h, g⟩
theorem lw_all_tbl {w : Cond} (h : w ∈ lw_all) : w ∈ lw_tbl := (List.mem_filter.mp h).1
theorem lw_self : GoodIn lw_all lw_all := fun w h => ⟨h, good_of_word (List.mem_filter.mp h).2⟩
/-- a class's field words, by their places -/
theorem lw_in (ws : List Cond) (ps : List Nat) (hp : ws = ps.filterMap (fun i => lw_tbl[i]?)) (hg : ws.all goodWord = true) : ∀ w ∈ ws, w ∈ lw_all := by
  intro w h
  have h1 := List.all_eq_true.mp hg w h
  rw [hp] at h
  obtain ⟨i, -, hi⟩ := List.mem_filterMap.mp h
  exact lw_w i hi h1
/-- the words of a contract for the method y with code b, L locals, answer r -/
abbrev ws_ (y : MethodName) (b : ByteArray) (L : Nat) (r : Option FieldType) : List Cond := Cond.code y b L r :: lw_all
theorem lw_meth {y : MethodName} {b : ByteArray} {L : Nat} {r : Option FieldType} (h : Cond.code y b L r ∈ lw_all) : GoodIn lw_all (ws_ y b L r) := by
  intro w hw
  rcases List.mem_cons.mp hw with e | e
  · rw [e]
    exact lw_self _ h
  · exact lw_self _ e
theorem lw_app {a c : List Cond} (ha : ∀ w ∈ a, w ∈ lw_all) (hc : GoodIn lw_all c) : GoodIn lw_all (a ++ c) := by
  intro w hw
  rcases List.mem_append.mp hw with e | e
  · exact lw_self w (ha w e)
  · exact hc w e
/-- what a call through an object asks: cwV n hts (lw_V ..) -/
theorem lw_V {own : String} {idx : Nat} {C : String} {y : MethodName} {b : ByteArray} {L : Nat} {r : Option FieldType} (h1 : Cond.methodLink own idx y ∈ lw_all) (h2 : Cond.instanceMethod y ∈ lw_all) (h3 : Cond.selects C y y ∈ lw_all) (h4 : Cond.initialized C ∈ lw_all) (h5 : Cond.code y b L r ∈ lw_all) : GoodIn lw_all (wsV own idx C y (ws_ y b L r)) := by
  refine lw_app ?_ (lw_meth h5)
  intro w hw
  simp only [List.mem_cons, List.not_mem_nil, or_false] at hw
  rcases hw with e | e | e | e
  · rw [e]; exact h1
  · rw [e]; exact h2
  · rw [e]; exact h3
  · rw [e]; exact h4
/-- what a static call asks: va_cwS n hts (lw_S ..) -/
theorem lw_S {own : String} {idx : Nat} {y : MethodName} {b : ByteArray} {L : Nat} {r : Option FieldType} (h1 : Cond.methodLink own idx y ∈ lw_all) (h2 : Cond.static y ∈ lw_all) (h3 : Cond.initialized y.cls ∈ lw_all) (h4 : Cond.code y b L r ∈ lw_all) : GoodIn lw_all (va_wsS own idx y (ws_ y b L r)) := by
  refine lw_app ?_ (lw_meth h4)
  intro w hw
  simp only [List.mem_cons, List.not_mem_nil, or_false] at hw
  rcases hw with e | e | e
  · rw [e]; exact h1
  · rw [e]; exact h2
  · rw [e]; exact h3
/-- the words of a contract for a method WITH HANDLERS (hh: its table) -/
abbrev wsW_ (y : MethodName) (b : ByteArray) (L : Nat) (r : Option FieldType) (hh : List (Nat × Nat × Nat × Nat)) : List Cond := Cond.codeWith y b L r hh :: lw_all
theorem lw_methW {y : MethodName} {b : ByteArray} {L : Nat} {r : Option FieldType} {hh : List (Nat × Nat × Nat × Nat)} (h : Cond.codeWith y b L r hh ∈ lw_all) : GoodIn lw_all (wsW_ y b L r hh) := by
  intro w hw
  rcases List.mem_cons.mp hw with e | e
  · rw [e]
    exact lw_self _ h
  · exact lw_self _ e
/-- any list of words by their places (lw_in), good -/
theorem lw_good {ws : List Cond} (h : ∀ w ∈ ws, w ∈ lw_all) : GoodIn lw_all ws := fun w hw => lw_self w (h w hw)
/-- what a call of a method with handlers asks: vx_cwVW n hts (lw_VW ..), vx_cwSW n hts (lw_SW ..) -/
theorem lw_VW {own : String} {idx : Nat} {C : String} {y : MethodName} {b : ByteArray} {L : Nat} {r : Option FieldType} {hh : List (Nat × Nat × Nat × Nat)} (h1 : Cond.methodLink own idx y ∈ lw_all) (h2 : Cond.instanceMethod y ∈ lw_all) (h3 : Cond.selects C y y ∈ lw_all) (h4 : Cond.initialized C ∈ lw_all) (h5 : Cond.codeWith y b L r hh ∈ lw_all) : GoodIn lw_all (wsV own idx C y (wsW_ y b L r hh)) := by
  refine lw_app ?_ (lw_methW h5)
  intro w hw
  simp only [List.mem_cons, List.not_mem_nil, or_false] at hw
  rcases hw with e | e | e | e
  · rw [e]; exact h1
  · rw [e]; exact h2
  · rw [e]; exact h3
  · rw [e]; exact h4
theorem lw_SW {own : String} {idx : Nat} {y : MethodName} {b : ByteArray} {L : Nat} {r : Option FieldType} {hh : List (Nat × Nat × Nat × Nat)} (h1 : Cond.methodLink own idx y ∈ lw_all) (h2 : Cond.static y ∈ lw_all) (h3 : Cond.initialized y.cls ∈ lw_all) (h4 : Cond.codeWith y b L r hh ∈ lw_all) : GoodIn lw_all (va_wsS own idx y (wsW_ y b L r hh)) := by
  refine lw_app ?_ (lw_methW h4)
  intro w hw
  simp only [List.mem_cons, List.not_mem_nil, or_false] at hw
  rcases hw with e | e | e
  · rw [e]; exact h1
  · rw [e]; exact h2
  · rw [e]; exact h3
/-- a word by its place in its run of the tables -/
theorem lw_at {r : List Cond} (hr : ∀ w ∈ r, w ∈ lw_tbl) {w : Cond} (i : Nat) (h : r[i]? = some w) : w ∈ lw_tbl := hr w (List.mem_of_getElem? h)
theorem lw_g {w : Cond} (h : w ∈ lw_tbl) (g : goodWord w = true) : w ∈ lw_all := List.mem_filter.mpr ⟨h, g⟩
theorem lw_ms : ∀ w ∈ k2_sels lw_privs, w ∈ lw_tbl := fun w h => show w ∈ k2_sels lw_privs ++ tables_1 from List.mem_append_left _ h
theorem lw_m1 : ∀ w ∈ tables_1_1, w ∈ lw_tbl := fun w h => show w ∈ k2_sels lw_privs ++ tables_1 from List.mem_append_right (k2_sels lw_privs) (show w ∈ tables_1 from List.mem_append_left _ h)
theorem lw_m2 : ∀ w ∈ tables_1_2, w ∈ lw_tbl := fun w h => show w ∈ k2_sels lw_privs ++ tables_1 from List.mem_append_right (k2_sels lw_privs) (show w ∈ tables_1 from List.mem_append_right _ (List.mem_append_left _ h))
theorem lw_m3 : ∀ w ∈ tables_1_3, w ∈ lw_tbl := fun w h => show w ∈ k2_sels lw_privs ++ tables_1 from List.mem_append_right (k2_sels lw_privs) (show w ∈ tables_1 from List.mem_append_right _ (List.mem_append_right _ (List.mem_append_left _ h)))
theorem lw_m4 : ∀ w ∈ tables_1_4, w ∈ lw_tbl := fun w h => show w ∈ k2_sels lw_privs ++ tables_1 from List.mem_append_right (k2_sels lw_privs) (show w ∈ tables_1 from List.mem_append_right _ (List.mem_append_right _ (List.mem_append_right _ (List.mem_append_left _ h))))
theorem lw_m5 : ∀ w ∈ tables_1_5, w ∈ lw_tbl := fun w h => show w ∈ k2_sels lw_privs ++ tables_1 from List.mem_append_right (k2_sels lw_privs) (show w ∈ tables_1 from List.mem_append_right _ (List.mem_append_right _ (List.mem_append_right _ (List.mem_append_right _ (List.mem_append_left _ h)))))
theorem lw_m6 : ∀ w ∈ tables_1_6, w ∈ lw_tbl := fun w h => show w ∈ k2_sels lw_privs ++ tables_1 from List.mem_append_right (k2_sels lw_privs) (show w ∈ tables_1 from List.mem_append_right _ (List.mem_append_right _ (List.mem_append_right _ (List.mem_append_right _ (List.mem_append_right _ (List.mem_append_left _ h))))))
theorem lw_m7 : ∀ w ∈ tables_1_7, w ∈ lw_tbl := fun w h => show w ∈ k2_sels lw_privs ++ tables_1 from List.mem_append_right (k2_sels lw_privs) (show w ∈ tables_1 from List.mem_append_right _ (List.mem_append_right _ (List.mem_append_right _ (List.mem_append_right _ (List.mem_append_right _ (List.mem_append_right _ (List.mem_append_left _ h)))))))
theorem lw_m8 : ∀ w ∈ tables_1_8, w ∈ lw_tbl := fun w h => show w ∈ k2_sels lw_privs ++ tables_1 from List.mem_append_right (k2_sels lw_privs) (show w ∈ tables_1 from List.mem_append_right _ (List.mem_append_right _ (List.mem_append_right _ (List.mem_append_right _ (List.mem_append_right _ (List.mem_append_right _ (List.mem_append_right _ (List.mem_append_left _ h))))))))
theorem lw_m9 : ∀ w ∈ tables_1_9, w ∈ lw_tbl := fun w h => show w ∈ k2_sels lw_privs ++ tables_1 from List.mem_append_right (k2_sels lw_privs) (show w ∈ tables_1 from List.mem_append_right _ (List.mem_append_right _ (List.mem_append_right _ (List.mem_append_right _ (List.mem_append_right _ (List.mem_append_right _ (List.mem_append_right _ (List.mem_append_right _ (List.mem_append_left _ h)))))))))
theorem lw_m10 : ∀ w ∈ tables_1_10, w ∈ lw_tbl := fun w h => show w ∈ k2_sels lw_privs ++ tables_1 from List.mem_append_right (k2_sels lw_privs) (show w ∈ tables_1 from List.mem_append_right _ (List.mem_append_right _ (List.mem_append_right _ (List.mem_append_right _ (List.mem_append_right _ (List.mem_append_right _ (List.mem_append_right _ (List.mem_append_right _ (List.mem_append_right _ h)))))))))
theorem qs0 : (Cond.selects "java/lang/Throwable" ⟨"java/lang/Throwable", "fillInStackTrace", "(I)Ljava/lang/Throwable;"⟩ ⟨"java/lang/Throwable", "fillInStackTrace", "(I)Ljava/lang/Throwable;"⟩) ∈ lw_all := lw_g (lw_at lw_ms 0 rfl) rfl
theorem qs1 : (Cond.selects "BitRopes$State" ⟨"BitRopes$State", "begin", "(LBitRopes$Rope;I)V"⟩ ⟨"BitRopes$State", "begin", "(LBitRopes$Rope;I)V"⟩) ∈ lw_all := lw_g (lw_at lw_ms 1 rfl) rfl
theorem qs2 : (Cond.selects "BitRopes" ⟨"BitRopes", "fou\x72", "(I)V"⟩ ⟨"BitRopes", "fou\x72", "(I)V"⟩) ∈ lw_all := lw_g (lw_at lw_ms 2 rfl) rfl
theorem qs3 : (Cond.selects "BitRopes" ⟨"BitRopes", "consume", "()V"⟩ ⟨"BitRopes", "consume", "()V"⟩) ∈ lw_all := lw_g (lw_at lw_ms 3 rfl) rfl
theorem qs4 : (Cond.selects "BitRopes$RoomReade\x72" ⟨"BitRopes$RoomReade\x72", "readLine", "(I)V"⟩ ⟨"BitRopes$RoomReade\x72", "readLine", "(I)V"⟩) ∈ lw_all := lw_g (lw_at lw_ms 4 rfl) rfl
theorem qs5 : (Cond.selects "BitRopes$RoomReade\x72" ⟨"BitRopes$RoomReade\x72", "readRow", "()V"⟩ ⟨"BitRopes$RoomReade\x72", "readRow", "()V"⟩) ∈ lw_all := lw_g (lw_at lw_ms 5 rfl) rfl
theorem qs6 : (Cond.selects "BitRopes$RoomReade\x72" ⟨"BitRopes$RoomReade\x72", "isOf", "(III)Z"⟩ ⟨"BitRopes$RoomReade\x72", "isOf", "(III)Z"⟩) ∈ lw_all := lw_g (lw_at lw_ms 6 rfl) rfl
theorem qs7 : (Cond.selects "BitRopes$Rope" ⟨"BitRopes$Rope", "loosen", "()V"⟩ ⟨"BitRopes$Rope", "loosen", "()V"⟩) ∈ lw_all := lw_g (lw_at lw_ms 7 rfl) rfl
theorem qs8 : (Cond.selects "BitRopes$Rope" ⟨"BitRopes$Rope", "settle", "(LBitRopes$Node;)V"⟩ ⟨"BitRopes$Rope", "settle", "(LBitRopes$Node;)V"⟩) ∈ lw_all := lw_g (lw_at lw_ms 8 rfl) rfl
theorem qs9 : (Cond.selects "BitRopes$Rope" ⟨"BitRopes$Rope", "fresh", "(I)LBitRopes$Leaf;"⟩ ⟨"BitRopes$Rope", "fresh", "(I)LBitRopes$Leaf;"⟩) ∈ lw_all := lw_g (lw_at lw_ms 9 rfl) rfl
theorem qs10 : (Cond.selects "BitRopes$Leaf" ⟨"BitRopes$Leaf", "store", "(II)V"⟩ ⟨"BitRopes$Leaf", "store", "(II)V"⟩) ∈ lw_all := lw_g (lw_at lw_ms 10 rfl) rfl
theorem qs11 : (Cond.selects "BitRopes$Rope" ⟨"BitRopes$Rope", "leafOf", "(I)I"⟩ ⟨"BitRopes$Rope", "leafOf", "(I)I"⟩) ∈ lw_all := lw_g (lw_at lw_ms 11 rfl) rfl
theorem qs12 : (Cond.selects "BitRopes$Rope" ⟨"BitRopes$Rope", "halve", "(I)V"⟩ ⟨"BitRopes$Rope", "halve", "(I)V"⟩) ∈ lw_all := lw_g (lw_at lw_ms 12 rfl) rfl
theorem qs13 : (Cond.selects "BitRopes$State" ⟨"BitRopes$State", "types", "(II)V"⟩ ⟨"BitRopes$State", "types", "(II)V"⟩) ∈ lw_all := lw_g (lw_at lw_ms 13 rfl) rfl
theorem qs14 : (Cond.selects "BitRopes$Rope" ⟨"BitRopes$Rope", "onesAlong", "(I)I"⟩ ⟨"BitRopes$Rope", "onesAlong", "(I)I"⟩) ∈ lw_all := lw_g (lw_at lw_ms 14 rfl) rfl
theorem qs15 : (Cond.selects "BitRopes" ⟨"BitRopes", "isRow", "(I)Z"⟩ ⟨"BitRopes", "isRow", "(I)Z"⟩) ∈ lw_all := lw_g (lw_at lw_ms 15 rfl) rfl
theorem qs16 : (Cond.selects "BitRopes" ⟨"BitRopes", "rope", "(I)LBitRopes$Rope;"⟩ ⟨"BitRopes", "rope", "(I)LBitRopes$Rope;"⟩) ∈ lw_all := lw_g (lw_at lw_ms 16 rfl) rfl
theorem qs17 : (Cond.selects "BitRopes$Rope" ⟨"BitRopes$Rope", "build", "(II)LBitRopes$Node;"⟩ ⟨"BitRopes$Rope", "build", "(II)LBitRopes$Node;"⟩) ∈ lw_all := lw_g (lw_at lw_ms 17 rfl) rfl
theorem qs18 : (Cond.selects "BitRopes" ⟨"BitRopes", "runsOf", "(I)I"⟩ ⟨"BitRopes", "runsOf", "(I)I"⟩) ∈ lw_all := lw_g (lw_at lw_ms 18 rfl) rfl
theorem qs19 : (Cond.selects "BitRopes" ⟨"BitRopes", "differs", "(II)I"⟩ ⟨"BitRopes", "differs", "(II)I"⟩) ∈ lw_all := lw_g (lw_at lw_ms 19 rfl) rfl
theorem qs20 : (Cond.selects "BitRopes" ⟨"BitRopes", "areBits", "(I)Z"⟩ ⟨"BitRopes", "areBits", "(I)Z"⟩) ∈ lw_all := lw_g (lw_at lw_ms 20 rfl) rfl
theorem qs21 : (Cond.selects "BitRopes" ⟨"BitRopes", "one", "(I)I"⟩ ⟨"BitRopes", "one", "(I)I"⟩) ∈ lw_all := lw_g (lw_at lw_ms 21 rfl) rfl
theorem qs22 : (Cond.selects "BitRopes" ⟨"BitRopes", "acts", "(IIII)I"⟩ ⟨"BitRopes", "acts", "(IIII)I"⟩) ∈ lw_all := lw_g (lw_at lw_ms 22 rfl) rfl
theorem qs23 : (Cond.selects "BitRopes" ⟨"BitRopes", "keep", "([LBitRopes$Packed;)V"⟩ ⟨"BitRopes", "keep", "([LBitRopes$Packed;)V"⟩) ∈ lw_all := lw_g (lw_at lw_ms 23 rfl) rfl
theorem qs24 : (Cond.selects "BitRopes$Rope" ⟨"BitRopes$Rope", "write", "(LBitRopes$Node;II)V"⟩ ⟨"BitRopes$Rope", "write", "(LBitRopes$Node;II)V"⟩) ∈ lw_all := lw_g (lw_at lw_ms 24 rfl) rfl
theorem qs25 : (Cond.selects "BitRopes$State" ⟨"BitRopes$State", "cuts", "(III)V"⟩ ⟨"BitRopes$State", "cuts", "(III)V"⟩) ∈ lw_all := lw_g (lw_at lw_ms 25 rfl) rfl
theorem qs26 : (Cond.selects "BitRopes$Rope" ⟨"BitRopes$Rope", "merge", "(I)V"⟩ ⟨"BitRopes$Rope", "merge", "(I)V"⟩) ∈ lw_all := lw_g (lw_at lw_ms 26 rfl) rfl
theorem qs27 : (Cond.selects "BitRopes$Rope" ⟨"BitRopes$Rope", "flip", "(LBitRopes$Node;II)V"⟩ ⟨"BitRopes$Rope", "flip", "(LBitRopes$Node;II)V"⟩) ∈ lw_all := lw_g (lw_at lw_ms 27 rfl) rfl
theorem qs28 : (Cond.selects "BitRopes$State" ⟨"BitRopes$State", "moves", "(III)V"⟩ ⟨"BitRopes$State", "moves", "(III)V"⟩) ∈ lw_all := lw_g (lw_at lw_ms 28 rfl) rfl
theorem qs29 : (Cond.selects "BitRopes$State" ⟨"BitRopes$State", "erases", "(I)V"⟩ ⟨"BitRopes$State", "erases", "(I)V"⟩) ∈ lw_all := lw_g (lw_at lw_ms 29 rfl) rfl
theorem qs30 : (Cond.selects "BitRopes" ⟨"BitRopes", "isFa\x72", "(I)Z"⟩ ⟨"BitRopes", "isFa\x72", "(I)Z"⟩) ∈ lw_all := lw_g (lw_at lw_ms 30 rfl) rfl
theorem qs31 : (Cond.selects "BitRopes" ⟨"BitRopes", "areTwo", "(II)Z"⟩ ⟨"BitRopes", "areTwo", "(II)Z"⟩) ∈ lw_all := lw_g (lw_at lw_ms 31 rfl) rfl
theorem qs32 : (Cond.selects "BitRopes$State" ⟨"BitRopes$State", "drawDeed", "()Z"⟩ ⟨"BitRopes$State", "drawDeed", "()Z"⟩) ∈ lw_all := lw_g (lw_at lw_ms 32 rfl) rfl
theorem qs33 : (Cond.selects "BitRopes$State" ⟨"BitRopes$State", "draw", "(I)I"⟩ ⟨"BitRopes$State", "draw", "(I)I"⟩) ∈ lw_all := lw_g (lw_at lw_ms 33 rfl) rfl
theorem qs34 : (Cond.selects "BitRopes$BookReade\x72" ⟨"BitRopes$BookReade\x72", "readLine", "()LBitRopes$Deed;"⟩ ⟨"BitRopes$BookReade\x72", "readLine", "()LBitRopes$Deed;"⟩) ∈ lw_all := lw_g (lw_at lw_ms 34 rfl) rfl
theorem qs35 : (Cond.selects "BitRopes$SentenceReade\x72" ⟨"BitRopes$SentenceReade\x72", "any", "(I)LBitRopes$Cond;"⟩ ⟨"BitRopes$SentenceReade\x72", "any", "(I)LBitRopes$Cond;"⟩) ∈ lw_all := lw_g (lw_at lw_ms 35 rfl) rfl
theorem qs36 : (Cond.selects "BitRopes$SentenceReade\x72" ⟨"BitRopes$SentenceReade\x72", "both", "(I)LBitRopes$Cond;"⟩ ⟨"BitRopes$SentenceReade\x72", "both", "(I)LBitRopes$Cond;"⟩) ∈ lw_all := lw_g (lw_at lw_ms 36 rfl) rfl
theorem qs37 : (Cond.selects "BitRopes$SentenceReade\x72" ⟨"BitRopes$SentenceReade\x72", "single", "(I)LBitRopes$Cond;"⟩ ⟨"BitRopes$SentenceReade\x72", "single", "(I)LBitRopes$Cond;"⟩) ∈ lw_all := lw_g (lw_at lw_ms 37 rfl) rfl
theorem qs38 : (Cond.selects "BitRopesModel" ⟨"BitRopesModel", "come", "(I)V"⟩ ⟨"BitRopesModel", "come", "(I)V"⟩) ∈ lw_all := lw_g (lw_at lw_ms 38 rfl) rfl
theorem qs39 : (Cond.selects "BitRopesModel" ⟨"BitRopesModel", "begin", "(I)V"⟩ ⟨"BitRopesModel", "begin", "(I)V"⟩) ∈ lw_all := lw_g (lw_at lw_ms 39 rfl) rfl
theorem qs40 : (Cond.selects "BitRopesModel" ⟨"BitRopesModel", "take", "()I"⟩ ⟨"BitRopesModel", "take", "()I"⟩) ∈ lw_all := lw_g (lw_at lw_ms 40 rfl) rfl
theorem qs41 : (Cond.selects "BitRopesModel" ⟨"BitRopesModel", "go", "()V"⟩ ⟨"BitRopesModel", "go", "()V"⟩) ∈ lw_all := lw_g (lw_at lw_ms 41 rfl) rfl
theorem qs42 : (Cond.selects "BitRopesModel" ⟨"BitRopesModel", "tapeAt", "(I)I"⟩ ⟨"BitRopesModel", "tapeAt", "(I)I"⟩) ∈ lw_all := lw_g (lw_at lw_ms 42 rfl) rfl
theorem qs43 : (Cond.selects "BitRopesModel" ⟨"BitRopesModel", "readLine", "(I)Z"⟩ ⟨"BitRopesModel", "readLine", "(I)Z"⟩) ∈ lw_all := lw_g (lw_at lw_ms 43 rfl) rfl
theorem qs44 : (Cond.selects "BitRopesModel" ⟨"BitRopesModel", "isWord", "(I)Z"⟩ ⟨"BitRopesModel", "isWord", "(I)Z"⟩) ∈ lw_all := lw_g (lw_at lw_ms 44 rfl) rfl
theorem qs45 : (Cond.selects "BitRopesModel" ⟨"BitRopesModel", "readLeaf", "(I)Z"⟩ ⟨"BitRopesModel", "readLeaf", "(I)Z"⟩) ∈ lw_all := lw_g (lw_at lw_ms 45 rfl) rfl
theorem qs46 : (Cond.selects "BitRopesModel" ⟨"BitRopesModel", "bad", "(I)Z"⟩ ⟨"BitRopesModel", "bad", "(I)Z"⟩) ∈ lw_all := lw_g (lw_at lw_ms 46 rfl) rfl
theorem qs47 : (Cond.selects "BitRopesModel" ⟨"BitRopesModel", "readNumbe\x72", "(II)Z"⟩ ⟨"BitRopesModel", "readNumbe\x72", "(II)Z"⟩) ∈ lw_all := lw_g (lw_at lw_ms 47 rfl) rfl
theorem qs48 : (Cond.selects "BitRopesModel" ⟨"BitRopesModel", "readRow", "()Z"⟩ ⟨"BitRopesModel", "readRow", "()Z"⟩) ∈ lw_all := lw_g (lw_at lw_ms 48 rfl) rfl
theorem qs49 : (Cond.selects "BitRopesModel" ⟨"BitRopesModel", "isName", "()Z"⟩ ⟨"BitRopesModel", "isName", "()Z"⟩) ∈ lw_all := lw_g (lw_at lw_ms 49 rfl) rfl
theorem qs50 : (Cond.selects "BitRopesModel" ⟨"BitRopesModel", "areBits", "()Z"⟩ ⟨"BitRopesModel", "areBits", "()Z"⟩) ∈ lw_all := lw_g (lw_at lw_ms 50 rfl) rfl
theorem qs51 : (Cond.selects "BitRopesModel" ⟨"BitRopesModel", "readLetters", "()Z"⟩ ⟨"BitRopesModel", "readLetters", "()Z"⟩) ∈ lw_all := lw_g (lw_at lw_ms 51 rfl) rfl
theorem qs52 : (Cond.selects "BitRopesModel" ⟨"BitRopesModel", "areOf", "(I)Z"⟩ ⟨"BitRopesModel", "areOf", "(I)Z"⟩) ∈ lw_all := lw_g (lw_at lw_ms 52 rfl) rfl
theorem qs53 : (Cond.selects "BitRopesModel" ⟨"BitRopesModel", "readEnd", "()Z"⟩ ⟨"BitRopesModel", "readEnd", "()Z"⟩) ∈ lw_all := lw_g (lw_at lw_ms 53 rfl) rfl
theorem qs54 : (Cond.selects "BitRopesModel" ⟨"BitRopesModel", "isSign", "(I)Z"⟩ ⟨"BitRopesModel", "isSign", "(I)Z"⟩) ∈ lw_all := lw_g (lw_at lw_ms 54 rfl) rfl
theorem qs55 : (Cond.selects "BitRopesModel" ⟨"BitRopesModel", "startSo", "()V"⟩ ⟨"BitRopesModel", "startSo", "()V"⟩) ∈ lw_all := lw_g (lw_at lw_ms 55 rfl) rfl
theorem qs56 : (Cond.selects "BitRopesModel" ⟨"BitRopesModel", "putBit", "(III)V"⟩ ⟨"BitRopesModel", "putBit", "(III)V"⟩) ∈ lw_all := lw_g (lw_at lw_ms 56 rfl) rfl
theorem qs57 : (Cond.selects "BitRopesModel" ⟨"BitRopesModel", "sizeOf", "(I)I"⟩ ⟨"BitRopesModel", "sizeOf", "(I)I"⟩) ∈ lw_all := lw_g (lw_at lw_ms 57 rfl) rfl
theorem qs58 : (Cond.selects "BitRopesModel" ⟨"BitRopesModel", "leafOf", "(II)I"⟩ ⟨"BitRopesModel", "leafOf", "(II)I"⟩) ∈ lw_all := lw_g (lw_at lw_ms 58 rfl) rfl
theorem qs59 : (Cond.selects "BitRopesModel" ⟨"BitRopesModel", "leafAt", "(II)I"⟩ ⟨"BitRopesModel", "leafAt", "(II)I"⟩) ∈ lw_all := lw_g (lw_at lw_ms 59 rfl) rfl
theorem qs60 : (Cond.selects "BitRopesModel" ⟨"BitRopesModel", "splitLeaf", "(II)V"⟩ ⟨"BitRopesModel", "splitLeaf", "(II)V"⟩) ∈ lw_all := lw_g (lw_at lw_ms 60 rfl) rfl
theorem qs61 : (Cond.selects "BitRopesModel" ⟨"BitRopesModel", "isRow", "(I)Z"⟩ ⟨"BitRopesModel", "isRow", "(I)Z"⟩) ∈ lw_all := lw_g (lw_at lw_ms 61 rfl) rfl
theorem qs62 : (Cond.selects "BitRopesModel" ⟨"BitRopesModel", "isThere", "(II)Z"⟩ ⟨"BitRopesModel", "isThere", "(II)Z"⟩) ∈ lw_all := lw_g (lw_at lw_ms 62 rfl) rfl
theorem qs63 : (Cond.selects "BitRopesModel" ⟨"BitRopesModel", "bitOf", "(II)I"⟩ ⟨"BitRopesModel", "bitOf", "(II)I"⟩) ∈ lw_all := lw_g (lw_at lw_ms 63 rfl) rfl
theorem qs64 : (Cond.selects "BitRopesModel" ⟨"BitRopesModel", "isBit", "(I)Z"⟩ ⟨"BitRopesModel", "isBit", "(I)Z"⟩) ∈ lw_all := lw_g (lw_at lw_ms 64 rfl) rfl
theorem qs65 : (Cond.selects "BitRopesModel" ⟨"BitRopesModel", "onesIn", "(III)I"⟩ ⟨"BitRopesModel", "onesIn", "(III)I"⟩) ∈ lw_all := lw_g (lw_at lw_ms 65 rfl) rfl
theorem qs66 : (Cond.selects "BitRopesModel" ⟨"BitRopesModel", "runsOf", "(I)I"⟩ ⟨"BitRopesModel", "runsOf", "(I)I"⟩) ∈ lw_all := lw_g (lw_at lw_ms 66 rfl) rfl
theorem qs67 : (Cond.selects "BitRopesModel" ⟨"BitRopesModel", "refuse", "()I"⟩ ⟨"BitRopesModel", "refuse", "()I"⟩) ∈ lw_all := lw_g (lw_at lw_ms 67 rfl) rfl
theorem qs68 : (Cond.selects "BitRopesModel" ⟨"BitRopesModel", "costOf", "(I)I"⟩ ⟨"BitRopesModel", "costOf", "(I)I"⟩) ∈ lw_all := lw_g (lw_at lw_ms 68 rfl) rfl
theorem qs69 : (Cond.selects "BitRopesModel" ⟨"BitRopesModel", "asFloat", "(II)I"⟩ ⟨"BitRopesModel", "asFloat", "(II)I"⟩) ∈ lw_all := lw_g (lw_at lw_ms 69 rfl) rfl
theorem qs70 : (Cond.selects "BitRopesModel" ⟨"BitRopesModel", "firstBits", "(III)J"⟩ ⟨"BitRopesModel", "firstBits", "(III)J"⟩) ∈ lw_all := lw_g (lw_at lw_ms 70 rfl) rfl
theorem qs71 : (Cond.selects "BitRopesModel" ⟨"BitRopesModel", "asDouble", "(II)J"⟩ ⟨"BitRopesModel", "asDouble", "(II)J"⟩) ∈ lw_all := lw_g (lw_at lw_ms 71 rfl) rfl
theorem qs72 : (Cond.selects "BitRopesModel" ⟨"BitRopesModel", "areLike", "(II)Z"⟩ ⟨"BitRopesModel", "areLike", "(II)Z"⟩) ∈ lw_all := lw_g (lw_at lw_ms 72 rfl) rfl
theorem qs73 : (Cond.selects "BitRopesModel" ⟨"BitRopesModel", "firstApart", "(II)I"⟩ ⟨"BitRopesModel", "firstApart", "(II)I"⟩) ∈ lw_all := lw_g (lw_at lw_ms 73 rfl) rfl
theorem qs74 : (Cond.selects "BitRopesModel" ⟨"BitRopesModel", "areTapeBits", "(II)Z"⟩ ⟨"BitRopesModel", "areTapeBits", "(II)Z"⟩) ∈ lw_all := lw_g (lw_at lw_ms 74 rfl) rfl
theorem qs75 : (Cond.selects "BitRopesModel" ⟨"BitRopesModel", "isOnTape", "(III)Z"⟩ ⟨"BitRopesModel", "isOnTape", "(III)Z"⟩) ∈ lw_all := lw_g (lw_at lw_ms 75 rfl) rfl
theorem qs76 : (Cond.selects "BitRopesModel" ⟨"BitRopesModel", "isLetterAt", "(I)Z"⟩ ⟨"BitRopesModel", "isLetterAt", "(I)Z"⟩) ∈ lw_all := lw_g (lw_at lw_ms 76 rfl) rfl
theorem qs77 : (Cond.selects "BitRopesModel" ⟨"BitRopesModel", "act", "(IIIIZ)I"⟩ ⟨"BitRopesModel", "act", "(IIIIZ)I"⟩) ∈ lw_all := lw_g (lw_at lw_ms 77 rfl) rfl
theorem qs78 : (Cond.selects "BitRopesModel" ⟨"BitRopesModel", "refusal", "(IIII)I"⟩ ⟨"BitRopesModel", "refusal", "(IIII)I"⟩) ∈ lw_all := lw_g (lw_at lw_ms 78 rfl) rfl
theorem qs79 : (Cond.selects "BitRopesModel" ⟨"BitRopesModel", "whyPut", "(III)I"⟩ ⟨"BitRopesModel", "whyPut", "(III)I"⟩) ∈ lw_all := lw_g (lw_at lw_ms 79 rfl) rfl
theorem qs80 : (Cond.selects "BitRopesModel" ⟨"BitRopesModel", "snap", "()V"⟩ ⟨"BitRopesModel", "snap", "()V"⟩) ∈ lw_all := lw_g (lw_at lw_ms 80 rfl) rfl
theorem qs81 : (Cond.selects "BitRopesModel" ⟨"BitRopesModel", "save", "([II)V"⟩ ⟨"BitRopesModel", "save", "([II)V"⟩) ∈ lw_all := lw_g (lw_at lw_ms 81 rfl) rfl
theorem qs82 : (Cond.selects "BitRopesModel" ⟨"BitRopesModel", "live", "(IIII)V"⟩ ⟨"BitRopesModel", "live", "(IIII)V"⟩) ∈ lw_all := lw_g (lw_at lw_ms 82 rfl) rfl
theorem qs83 : (Cond.selects "BitRopesModel" ⟨"BitRopesModel", "takeBit", "(II)V"⟩ ⟨"BitRopesModel", "takeBit", "(II)V"⟩) ∈ lw_all := lw_g (lw_at lw_ms 83 rfl) rfl
theorem qs84 : (Cond.selects "BitRopesModel" ⟨"BitRopesModel", "joinLeaves", "(II)V"⟩ ⟨"BitRopesModel", "joinLeaves", "(II)V"⟩) ∈ lw_all := lw_g (lw_at lw_ms 84 rfl) rfl
theorem qs85 : (Cond.selects "BitRopesModel" ⟨"BitRopesModel", "moves", "(III)V"⟩ ⟨"BitRopesModel", "moves", "(III)V"⟩) ∈ lw_all := lw_g (lw_at lw_ms 85 rfl) rfl
theorem qs86 : (Cond.selects "BitRopesModel" ⟨"BitRopesModel", "areTwo", "(II)Z"⟩ ⟨"BitRopesModel", "areTwo", "(II)Z"⟩) ∈ lw_all := lw_g (lw_at lw_ms 86 rfl) rfl
theorem qs87 : (Cond.selects "BitRopesModel" ⟨"BitRopesModel", "comeBack", "([II)V"⟩ ⟨"BitRopesModel", "comeBack", "([II)V"⟩) ∈ lw_all := lw_g (lw_at lw_ms 87 rfl) rfl
theorem qs88 : (Cond.selects "BitRopesModel" ⟨"BitRopesModel", "drawsDeed", "()Z"⟩ ⟨"BitRopesModel", "drawsDeed", "()Z"⟩) ∈ lw_all := lw_g (lw_at lw_ms 88 rfl) rfl
theorem qs89 : (Cond.selects "BitRopesModel" ⟨"BitRopesModel", "draw", "(I)I"⟩ ⟨"BitRopesModel", "draw", "(I)I"⟩) ∈ lw_all := lw_g (lw_at lw_ms 89 rfl) rfl
theorem qs90 : (Cond.selects "BitRopesModel" ⟨"BitRopesModel", "doIf", "(IIII)Z"⟩ ⟨"BitRopesModel", "doIf", "(IIII)Z"⟩) ∈ lw_all := lw_g (lw_at lw_ms 90 rfl) rfl
theorem qs91 : (Cond.selects "BitRopesModel" ⟨"BitRopesModel", "stay", "(Z)V"⟩ ⟨"BitRopesModel", "stay", "(Z)V"⟩) ∈ lw_all := lw_g (lw_at lw_ms 91 rfl) rfl
theorem qs92 : (Cond.selects "BitRopesModel" ⟨"BitRopesModel", "readBookLine", "()Z"⟩ ⟨"BitRopesModel", "readBookLine", "()Z"⟩) ∈ lw_all := lw_g (lw_at lw_ms 92 rfl) rfl
theorem qs93 : (Cond.selects "BitRopesModel" ⟨"BitRopesModel", "readRowName", "()Z"⟩ ⟨"BitRopesModel", "readRowName", "()Z"⟩) ∈ lw_all := lw_g (lw_at lw_ms 93 rfl) rfl
theorem qs94 : (Cond.selects "BitRopesModel" ⟨"BitRopesModel", "keep", "(IZ)Z"⟩ ⟨"BitRopesModel", "keep", "(IZ)Z"⟩) ∈ lw_all := lw_g (lw_at lw_ms 94 rfl) rfl
theorem qs95 : (Cond.selects "BitRopesModel" ⟨"BitRopesModel", "readOthe\x72", "(I)Z"⟩ ⟨"BitRopesModel", "readOthe\x72", "(I)Z"⟩) ∈ lw_all := lw_g (lw_at lw_ms 95 rfl) rfl
theorem qs96 : (Cond.selects "BitRopesModel" ⟨"BitRopesModel", "goBy", "(I)I"⟩ ⟨"BitRopesModel", "goBy", "(I)I"⟩) ∈ lw_all := lw_g (lw_at lw_ms 96 rfl) rfl
theorem qs97 : (Cond.selects "BitRopesModel" ⟨"BitRopesModel", "allBits", "()I"⟩ ⟨"BitRopesModel", "allBits", "()I"⟩) ∈ lw_all := lw_g (lw_at lw_ms 97 rfl) rfl
theorem qs98 : (Cond.selects "BitRopesModel" ⟨"BitRopesModel", "readO\x72", "()Z"⟩ ⟨"BitRopesModel", "readO\x72", "()Z"⟩) ∈ lw_all := lw_g (lw_at lw_ms 98 rfl) rfl
theorem qs99 : (Cond.selects "BitRopesModel" ⟨"BitRopesModel", "readAnd", "()Z"⟩ ⟨"BitRopesModel", "readAnd", "()Z"⟩) ∈ lw_all := lw_g (lw_at lw_ms 99 rfl) rfl
theorem qs100 : (Cond.selects "BitRopesModel" ⟨"BitRopesModel", "readSaid", "()Z"⟩ ⟨"BitRopesModel", "readSaid", "()Z"⟩) ∈ lw_all := lw_g (lw_at lw_ms 100 rfl) rfl
theorem qs101 : (Cond.selects "BitRopesModel" ⟨"BitRopesModel", "readBracket", "()Z"⟩ ⟨"BitRopesModel", "readBracket", "()Z"⟩) ∈ lw_all := lw_g (lw_at lw_ms 101 rfl) rfl
theorem qs102 : (Cond.selects "BitRopesModel" ⟨"BitRopesModel", "readNot", "()Z"⟩ ⟨"BitRopesModel", "readNot", "()Z"⟩) ∈ lw_all := lw_g (lw_at lw_ms 102 rfl) rfl
theorem qs103 : (Cond.selects "BitRopesModel" ⟨"BitRopesModel", "saysOne", "(IIII)I"⟩ ⟨"BitRopesModel", "saysOne", "(IIII)I"⟩) ∈ lw_all := lw_g (lw_at lw_ms 103 rfl) rfl
theorem qs104 : (Cond.selects "BitRopesModel" ⟨"BitRopesModel", "readOf", "(I)Z"⟩ ⟨"BitRopesModel", "readOf", "(I)Z"⟩) ∈ lw_all := lw_g (lw_at lw_ms 104 rfl) rfl
theorem qs105 : (Cond.selects "BitRopesModel" ⟨"BitRopesModel", "readCompare", "(I)Z"⟩ ⟨"BitRopesModel", "readCompare", "(I)Z"⟩) ∈ lw_all := lw_g (lw_at lw_ms 105 rfl) rfl
theorem qs106 : (Cond.selects "BitRopesModel" ⟨"BitRopesModel", "holds", "(II)Z"⟩ ⟨"BitRopesModel", "holds", "(II)Z"⟩) ∈ lw_all := lw_g (lw_at lw_ms 106 rfl) rfl
theorem qs107 : (Cond.selects "BitRopesModel" ⟨"BitRopesModel", "onesOf", "(I)I"⟩ ⟨"BitRopesModel", "onesOf", "(I)I"⟩) ∈ lw_all := lw_g (lw_at lw_ms 107 rfl) rfl
theorem qs108 : (Cond.selects "BitRopesModel" ⟨"BitRopesModel", "beginsWith", "(II)Z"⟩ ⟨"BitRopesModel", "beginsWith", "(II)Z"⟩) ∈ lw_all := lw_g (lw_at lw_ms 108 rfl) rfl
-- ===== end of PART A; then your names; then what follows =====
