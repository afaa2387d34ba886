/-! BitRopesModel -/
set_option maxRecDepth 100000
def RX10 : String := "BitRopesModel"
def TX10 : u_T := fun k => match k with
  | 0 => ("BitRopesModel", "thrown", "I", false)
  | 1 => ("BitRopesModel", "tape", "[I", true)
  | 2 => ("BitRopesModel", "taped", "I", false)
  | 3 => ("BitRopesModel", "size", "I", false)
  | 4 => ("BitRopesModel", "limit", "I", false)
  | 5 => ("BitRopesModel", "to", "I", false)
  | 6 => ("BitRopesModel", "from", "I", false)
  | 7 => ("BitRopesModel", "kind", "I", false)
  | 8 => ("BitRopesModel", "numbe\x72", "I", false)
  | 9 => ("BitRopesModel", "sign", "I", false)
  | 10 => ("BitRopesModel", "fault", "I", false)
  | 11 => ("BitRopesModel", "place", "I", false)
  | 12 => ("BitRopesModel", "word", "J", false)
  | 13 => ("BitRopesModel", "told", "I", false)
  | 14 => ("BitRopesModel", "now", "[I", true)
  | 15 => ("BitRopesModel", "read", "[I", true)
  | 16 => ("BitRopesModel", "kept", "[I", true)
  | 17 => ("BitRopesModel", "snaps", "[I", true)
  | 18 => ("BitRopesModel", "aside", "[I", true)
  | 19 => ("BitRopesModel", "then", "[I", true)
  | 20 => ("BitRopesModel", "name", "[J", true)
  | 21 => ("BitRopesModel", "readName", "[J", true)
  | 22 => ("BitRopesModel", "keptName", "[J", true)
  | 23 => ("BitRopesModel", "isKept", "[Z", true)
  | 24 => ("BitRopesModel", "snapMany", "I", false)
  | 25 => ("BitRopesModel", "hasLetters", "Z", false)
  | 26 => ("BitRopesModel", "powe\x72", "I", false)
  | 27 => ("BitRopesModel", "sought", "[I", true)
  | 28 => ("BitRopesModel", "soughtMany", "I", false)
  | 29 => ("BitRopesModel", "seed", "I", false)
  | 30 => ("BitRopesModel", "line", "[I", true)
  | 31 => ("BitRopesModel", "written", "[I", true)
  | 32 => ("BitRopesModel", "lineMany", "I", false)
  | 33 => ("BitRopesModel", "hasWritten", "Z", false)
  | 34 => ("BitRopesModel", "node", "[I", true)
  | 35 => ("BitRopesModel", "nodes", "I", false)
  | 36 => ("BitRopesModel", "onesMany", "I", false)
  | 37 => ("BitRopesModel", "within", "I", false)
  | _ => ("BitRopesModel", "top", "I", false)
def tyX10 : Nat → FieldType := fun k => match k with
  | 0 => .int
  | 1 => .array .int
  | 2 => .int
  | 3 => .int
  | 4 => .int
  | 5 => .int
  | 6 => .int
  | 7 => .int
  | 8 => .int
  | 9 => .int
  | 10 => .int
  | 11 => .int
  | 12 => .long
  | 13 => .int
  | 14 => .array .int
  | 15 => .array .int
  | 16 => .array .int
  | 17 => .array .int
  | 18 => .array .int
  | 19 => .array .int
  | 20 => .array .long
  | 21 => .array .long
  | 22 => .array .long
  | 23 => .array .boolean
  | 24 => .int
  | 25 => .boolean
  | 26 => .int
  | 27 => .array .int
  | 28 => .int
  | 29 => .int
  | 30 => .array .int
  | 31 => .array .int
  | 32 => .int
  | 33 => .boolean
  | 34 => .array .int
  | 35 => .int
  | 36 => .int
  | 37 => .int
  | _ => .int
abbrev wsX100 : List Cond := u_ws RX10 TX10 39
set_option maxRecDepth 100000 in
theorem nmX10 : ∀ a, a < 39 → ∀ b, b < 39 → a ≠ b → (TX10 a).2.1 ≠ (TX10 b).2.1 := by decide +kernel
set_option maxRecDepth 100000 in
theorem tyX10_ok : ∀ k, k < 39 → parseFieldDescriptor (TX10 k).2.2.1 = some (tyX10 k) := by decide +kernel
abbrev cX10_thrown : ByteArray := prog_23_method_1_code
def yX10_thrown : MethodName := ⟨RX10, "thrown", "()I"⟩
theorem dX10_thrown_0 : decode cX10_thrown 0 = .ok (.aload_n 0, 1) := by decide +kernel
theorem dX10_thrown_1 : decode cX10_thrown 1 = .ok (.getfield 1, 3) := by decide +kernel
theorem dX10_thrown_4 : decode cX10_thrown 4 = .ok (.ireturn, 1) := by decide +kernel
abbrev cX10_feed : ByteArray := prog_23_method_4_code
def yX10_feed : MethodName := ⟨RX10, "feed", "(IIIII)I"⟩
def dkwX10_feed_2 : List UInt8 := [182, 0, 14, 42, 180, 0, 11, 172]
abbrev dktX10_feed_2 : List UInt8 := dkwX10_feed_2 ++ []
def dkwX10_feed_1 : List UInt8 := [182, 0, 14, 42, 28, 182, 0, 14, 42, 29, 182, 0, 14, 42, 21, 4, 182, 0, 14, 42, 21, 5]
abbrev dktX10_feed_1 : List UInt8 := dkwX10_feed_1 ++ dktX10_feed_2
def dkwX10_feed_0 : List UInt8 := [42, 3, 181, 0, 1, 42, 180, 0, 11, 16, 20, 96, 17, 3, 172, 164, 0, 5, 2, 172, 42, 27]
abbrev dktX10_feed_0 : List UInt8 := dkwX10_feed_0 ++ dktX10_feed_1
theorem dksX10_feed_0 : cX10_feed.data.toList.drop 0 = dktX10_feed_0 := by decide +kernel
theorem dksX10_feed_1 : cX10_feed.data.toList.drop 22 = dktX10_feed_1 := dk_seg dksX10_feed_0 22 rfl rfl
theorem dksX10_feed_2 : cX10_feed.data.toList.drop 44 = dktX10_feed_2 := dk_seg dksX10_feed_1 22 rfl rfl
theorem dX10_feed_0 : decode cX10_feed 0 = .ok (.aload_n 0, 1) := dk_42 (dk_at dksX10_feed_0 0 rfl rfl)
theorem dX10_feed_1 : decode cX10_feed 1 = .ok (.iconst 0, 1) := dk_3 (dk_at dksX10_feed_0 1 rfl rfl)
theorem dX10_feed_2 : decode cX10_feed 2 = .ok (.putfield 1, 3) := dk_181 0 1 (dk_at dksX10_feed_0 2 rfl rfl)
theorem dX10_feed_5 : decode cX10_feed 5 = .ok (.aload_n 0, 1) := dk_42 (dk_at dksX10_feed_0 5 rfl rfl)
theorem dX10_feed_6 : decode cX10_feed 6 = .ok (.getfield 11, 3) := dk_180 0 11 (dk_at dksX10_feed_0 6 rfl rfl)
theorem dX10_feed_9 : decode cX10_feed 9 = .ok (.bipush 20, 2) := dk_16 20 (dk_at dksX10_feed_0 9 rfl rfl)
theorem dX10_feed_11 : decode cX10_feed 11 = .ok (.iadd, 1) := dk_96 (dk_at dksX10_feed_0 11 rfl rfl)
theorem dX10_feed_12 : decode cX10_feed 12 = .ok (.sipush 940, 3) := dk_17 3 172 (dk_at dksX10_feed_0 12 rfl rfl)
theorem dX10_feed_15 : decode cX10_feed 15 = .ok (.if_icmp .le 5, 3) := dk_164 0 5 (dk_at dksX10_feed_0 15 rfl rfl)
theorem dX10_feed_18 : decode cX10_feed 18 = .ok (.iconst (-1), 1) := dk_2 (dk_at dksX10_feed_0 18 rfl rfl)
theorem dX10_feed_19 : decode cX10_feed 19 = .ok (.ireturn, 1) := dk_172 (dk_at dksX10_feed_0 19 rfl rfl)
theorem dX10_feed_20 : decode cX10_feed 20 = .ok (.aload_n 0, 1) := dk_42 (dk_at dksX10_feed_0 20 rfl rfl)
theorem dX10_feed_21 : decode cX10_feed 21 = .ok (.iload_n 1, 1) := dk_27 (dk_at dksX10_feed_0 21 rfl rfl)
theorem dX10_feed_22 : decode cX10_feed 22 = .ok (.invokevirtual 14, 3) := dk_182 0 14 (dk_at dksX10_feed_1 0 rfl rfl)
theorem dX10_feed_25 : decode cX10_feed 25 = .ok (.aload_n 0, 1) := dk_42 (dk_at dksX10_feed_1 3 rfl rfl)
theorem dX10_feed_26 : decode cX10_feed 26 = .ok (.iload_n 2, 1) := dk_28 (dk_at dksX10_feed_1 4 rfl rfl)
theorem dX10_feed_27 : decode cX10_feed 27 = .ok (.invokevirtual 14, 3) := dk_182 0 14 (dk_at dksX10_feed_1 5 rfl rfl)
theorem dX10_feed_30 : decode cX10_feed 30 = .ok (.aload_n 0, 1) := dk_42 (dk_at dksX10_feed_1 8 rfl rfl)
theorem dX10_feed_31 : decode cX10_feed 31 = .ok (.iload_n 3, 1) := dk_29 (dk_at dksX10_feed_1 9 rfl rfl)
theorem dX10_feed_32 : decode cX10_feed 32 = .ok (.invokevirtual 14, 3) := dk_182 0 14 (dk_at dksX10_feed_1 10 rfl rfl)
theorem dX10_feed_35 : decode cX10_feed 35 = .ok (.aload_n 0, 1) := dk_42 (dk_at dksX10_feed_1 13 rfl rfl)
theorem dX10_feed_36 : decode cX10_feed 36 = .ok (.iload 4, 2) := dk_21 4 (dk_at dksX10_feed_1 14 rfl rfl)
theorem dX10_feed_38 : decode cX10_feed 38 = .ok (.invokevirtual 14, 3) := dk_182 0 14 (dk_at dksX10_feed_1 16 rfl rfl)
theorem dX10_feed_41 : decode cX10_feed 41 = .ok (.aload_n 0, 1) := dk_42 (dk_at dksX10_feed_1 19 rfl rfl)
theorem dX10_feed_42 : decode cX10_feed 42 = .ok (.iload 5, 2) := dk_21 5 (dk_at dksX10_feed_1 20 rfl rfl)
theorem dX10_feed_44 : decode cX10_feed 44 = .ok (.invokevirtual 14, 3) := dk_182 0 14 (dk_at dksX10_feed_2 0 rfl rfl)
theorem dX10_feed_47 : decode cX10_feed 47 = .ok (.aload_n 0, 1) := dk_42 (dk_at dksX10_feed_2 3 rfl rfl)
theorem dX10_feed_48 : decode cX10_feed 48 = .ok (.getfield 11, 3) := dk_180 0 11 (dk_at dksX10_feed_2 4 rfl rfl)
theorem dX10_feed_51 : decode cX10_feed 51 = .ok (.ireturn, 1) := dk_172 (dk_at dksX10_feed_2 7 rfl rfl)
abbrev cX10_come : ByteArray := prog_23_method_3_code
def yX10_come : MethodName := ⟨RX10, "come", "(I)V"⟩
def dkwX10_come_1 : List UInt8 := [89, 180, 0, 11, 4, 96, 181, 0, 11, 132, 2, 248, 167, 255, 223, 177]
abbrev dktX10_come_1 : List UInt8 := dkwX10_come_1 ++ []
def dkwX10_come_0 : List UInt8 := [16, 24, 61, 28, 155, 0, 35, 42, 180, 0, 7, 42, 180, 0, 11, 27, 28, 124, 17, 0, 255, 126, 79, 42]
abbrev dktX10_come_0 : List UInt8 := dkwX10_come_0 ++ dktX10_come_1
theorem dksX10_come_0 : cX10_come.data.toList.drop 0 = dktX10_come_0 := by decide +kernel
theorem dksX10_come_1 : cX10_come.data.toList.drop 24 = dktX10_come_1 := dk_seg dksX10_come_0 24 rfl rfl
theorem dX10_come_0 : decode cX10_come 0 = .ok (.bipush 24, 2) := dk_16 24 (dk_at dksX10_come_0 0 rfl rfl)
theorem dX10_come_2 : decode cX10_come 2 = .ok (.istore_n 2, 1) := dk_61 (dk_at dksX10_come_0 2 rfl rfl)
theorem dX10_come_3 : decode cX10_come 3 = .ok (.iload_n 2, 1) := dk_28 (dk_at dksX10_come_0 3 rfl rfl)
theorem dX10_come_4 : decode cX10_come 4 = .ok (.ifCond .lt 35, 3) := dk_155 0 35 (dk_at dksX10_come_0 4 rfl rfl)
theorem dX10_come_7 : decode cX10_come 7 = .ok (.aload_n 0, 1) := dk_42 (dk_at dksX10_come_0 7 rfl rfl)
theorem dX10_come_8 : decode cX10_come 8 = .ok (.getfield 7, 3) := dk_180 0 7 (dk_at dksX10_come_0 8 rfl rfl)
theorem dX10_come_11 : decode cX10_come 11 = .ok (.aload_n 0, 1) := dk_42 (dk_at dksX10_come_0 11 rfl rfl)
theorem dX10_come_12 : decode cX10_come 12 = .ok (.getfield 11, 3) := dk_180 0 11 (dk_at dksX10_come_0 12 rfl rfl)
theorem dX10_come_15 : decode cX10_come 15 = .ok (.iload_n 1, 1) := dk_27 (dk_at dksX10_come_0 15 rfl rfl)
theorem dX10_come_16 : decode cX10_come 16 = .ok (.iload_n 2, 1) := dk_28 (dk_at dksX10_come_0 16 rfl rfl)
theorem dX10_come_17 : decode cX10_come 17 = .ok (.iushr, 1) := dk_124 (dk_at dksX10_come_0 17 rfl rfl)
theorem dX10_come_18 : decode cX10_come 18 = .ok (.sipush 255, 3) := dk_17 0 255 (dk_at dksX10_come_0 18 rfl rfl)
theorem dX10_come_21 : decode cX10_come 21 = .ok (.iand, 1) := dk_126 (dk_at dksX10_come_0 21 rfl rfl)
theorem dX10_come_22 : decode cX10_come 22 = .ok (.iastore, 1) := dk_79 (dk_at dksX10_come_0 22 rfl rfl)
theorem dX10_come_23 : decode cX10_come 23 = .ok (.aload_n 0, 1) := dk_42 (dk_at dksX10_come_0 23 rfl rfl)
theorem dX10_come_24 : decode cX10_come 24 = .ok (.dup, 1) := dk_89 (dk_at dksX10_come_1 0 rfl rfl)
theorem dX10_come_25 : decode cX10_come 25 = .ok (.getfield 11, 3) := dk_180 0 11 (dk_at dksX10_come_1 1 rfl rfl)
theorem dX10_come_28 : decode cX10_come 28 = .ok (.iconst 1, 1) := dk_4 (dk_at dksX10_come_1 4 rfl rfl)
theorem dX10_come_29 : decode cX10_come 29 = .ok (.iadd, 1) := dk_96 (dk_at dksX10_come_1 5 rfl rfl)
theorem dX10_come_30 : decode cX10_come 30 = .ok (.putfield 11, 3) := dk_181 0 11 (dk_at dksX10_come_1 6 rfl rfl)
theorem dX10_come_33 : decode cX10_come 33 = .ok (.iinc 2 (-8), 3) := dk_132 2 248 (dk_at dksX10_come_1 9 rfl rfl)
theorem dX10_come_36 : decode cX10_come 36 = .ok (.goto (-33), 3) := dk_167 255 223 (dk_at dksX10_come_1 12 rfl rfl)
theorem dX10_come_39 : decode cX10_come 39 = .ok (.return_, 1) := dk_177 (dk_at dksX10_come_1 15 rfl rfl)
abbrev cX10_end : ByteArray := prog_23_method_5_code
def yX10_end : MethodName := ⟨RX10, "end", "(I)Z"⟩
def dkwX10_end_1 : List UInt8 := [4, 172]
abbrev dktX10_end_1 : List UInt8 := dkwX10_end_1 ++ []
def dkwX10_end_0 : List UInt8 := [42, 3, 181, 0, 1, 27, 155, 0, 11, 27, 42, 180, 0, 11, 164, 0, 5, 3, 172, 42, 27, 181, 0, 11]
abbrev dktX10_end_0 : List UInt8 := dkwX10_end_0 ++ dktX10_end_1
theorem dksX10_end_0 : cX10_end.data.toList.drop 0 = dktX10_end_0 := by decide +kernel
theorem dksX10_end_1 : cX10_end.data.toList.drop 24 = dktX10_end_1 := dk_seg dksX10_end_0 24 rfl rfl
theorem dX10_end_0 : decode cX10_end 0 = .ok (.aload_n 0, 1) := dk_42 (dk_at dksX10_end_0 0 rfl rfl)
theorem dX10_end_1 : decode cX10_end 1 = .ok (.iconst 0, 1) := dk_3 (dk_at dksX10_end_0 1 rfl rfl)
theorem dX10_end_2 : decode cX10_end 2 = .ok (.putfield 1, 3) := dk_181 0 1 (dk_at dksX10_end_0 2 rfl rfl)
theorem dX10_end_5 : decode cX10_end 5 = .ok (.iload_n 1, 1) := dk_27 (dk_at dksX10_end_0 5 rfl rfl)
theorem dX10_end_6 : decode cX10_end 6 = .ok (.ifCond .lt 11, 3) := dk_155 0 11 (dk_at dksX10_end_0 6 rfl rfl)
theorem dX10_end_9 : decode cX10_end 9 = .ok (.iload_n 1, 1) := dk_27 (dk_at dksX10_end_0 9 rfl rfl)
theorem dX10_end_10 : decode cX10_end 10 = .ok (.aload_n 0, 1) := dk_42 (dk_at dksX10_end_0 10 rfl rfl)
theorem dX10_end_11 : decode cX10_end 11 = .ok (.getfield 11, 3) := dk_180 0 11 (dk_at dksX10_end_0 11 rfl rfl)
theorem dX10_end_14 : decode cX10_end 14 = .ok (.if_icmp .le 5, 3) := dk_164 0 5 (dk_at dksX10_end_0 14 rfl rfl)
theorem dX10_end_17 : decode cX10_end 17 = .ok (.iconst 0, 1) := dk_3 (dk_at dksX10_end_0 17 rfl rfl)
theorem dX10_end_18 : decode cX10_end 18 = .ok (.ireturn, 1) := dk_172 (dk_at dksX10_end_0 18 rfl rfl)
theorem dX10_end_19 : decode cX10_end 19 = .ok (.aload_n 0, 1) := dk_42 (dk_at dksX10_end_0 19 rfl rfl)
theorem dX10_end_20 : decode cX10_end 20 = .ok (.iload_n 1, 1) := dk_27 (dk_at dksX10_end_0 20 rfl rfl)
theorem dX10_end_21 : decode cX10_end 21 = .ok (.putfield 11, 3) := dk_181 0 11 (dk_at dksX10_end_0 21 rfl rfl)
theorem dX10_end_24 : decode cX10_end 24 = .ok (.iconst 1, 1) := dk_4 (dk_at dksX10_end_1 0 rfl rfl)
theorem dX10_end_25 : decode cX10_end 25 = .ok (.ireturn, 1) := dk_172 (dk_at dksX10_end_1 1 rfl rfl)
abbrev cX10_init : ByteArray := prog_23_method_22_code
def yX10_init : MethodName := ⟨RX10, "<init>", "()V"⟩
def dkwX10_init_5 : List UInt8 := [188, 10, 181, 0, 136, 42, 17, 0, 240, 188, 10, 181, 0, 139, 42, 180, 0, 98, 4, 16, 8, 79, 177]
abbrev dktX10_init_5 : List UInt8 := dkwX10_init_5 ++ []
def dkwX10_init_4 : List UInt8 := [181, 0, 126, 42, 17, 2, 88, 188, 10, 181, 0, 130, 42, 17, 0, 160, 188, 10, 181, 0, 133, 42, 7]
abbrev dktX10_init_4 : List UInt8 := dkwX10_init_4 ++ dktX10_init_5
def dkwX10_init_3 : List UInt8 := [188, 11, 181, 0, 116, 42, 7, 188, 11, 181, 0, 120, 42, 16, 8, 188, 11, 181, 0, 123, 42, 5, 188, 4]
abbrev dktX10_init_3 : List UInt8 := dkwX10_init_3 ++ dktX10_init_4
def dkwX10_init_2 : List UInt8 := [181, 0, 107, 42, 17, 12, 141, 188, 10, 181, 0, 110, 42, 17, 12, 141, 188, 10, 181, 0, 113, 42, 7]
abbrev dktX10_init_2 : List UInt8 := dkwX10_init_2 ++ dktX10_init_3
def dkwX10_init_1 : List UInt8 := [17, 10, 47, 188, 10, 181, 0, 101, 42, 17, 47, 92, 188, 10, 181, 0, 104, 42, 17, 100, 104, 188, 10]
abbrev dktX10_init_1 : List UInt8 := dkwX10_init_1 ++ dktX10_init_2
def dkwX10_init_0 : List UInt8 := [42, 183, 0, 93, 42, 17, 3, 172, 188, 10, 181, 0, 7, 42, 17, 23, 174, 188, 10, 181, 0, 98, 42]
abbrev dktX10_init_0 : List UInt8 := dkwX10_init_0 ++ dktX10_init_1
theorem dksX10_init_0 : cX10_init.data.toList.drop 0 = dktX10_init_0 := by decide +kernel
theorem dksX10_init_1 : cX10_init.data.toList.drop 23 = dktX10_init_1 := dk_seg dksX10_init_0 23 rfl rfl
theorem dksX10_init_2 : cX10_init.data.toList.drop 46 = dktX10_init_2 := dk_seg dksX10_init_1 23 rfl rfl
theorem dksX10_init_3 : cX10_init.data.toList.drop 69 = dktX10_init_3 := dk_seg dksX10_init_2 23 rfl rfl
theorem dksX10_init_4 : cX10_init.data.toList.drop 93 = dktX10_init_4 := dk_seg dksX10_init_3 24 rfl rfl
theorem dksX10_init_5 : cX10_init.data.toList.drop 116 = dktX10_init_5 := dk_seg dksX10_init_4 23 rfl rfl
theorem dX10_init_0 : decode cX10_init 0 = .ok (.aload_n 0, 1) := dk_42 (dk_at dksX10_init_0 0 rfl rfl)
theorem dX10_init_1 : decode cX10_init 1 = .ok (.invokespecial 93, 3) := dk_183 0 93 (dk_at dksX10_init_0 1 rfl rfl)
theorem dX10_init_4 : decode cX10_init 4 = .ok (.aload_n 0, 1) := dk_42 (dk_at dksX10_init_0 4 rfl rfl)
theorem dX10_init_5 : decode cX10_init 5 = .ok (.sipush 940, 3) := dk_17 3 172 (dk_at dksX10_init_0 5 rfl rfl)
theorem dX10_init_8 : decode cX10_init 8 = .ok (.newarray .int, 2) := dk_188_10 (dk_at dksX10_init_0 8 rfl rfl)
theorem dX10_init_10 : decode cX10_init 10 = .ok (.putfield 7, 3) := dk_181 0 7 (dk_at dksX10_init_0 10 rfl rfl)
theorem dX10_init_13 : decode cX10_init 13 = .ok (.aload_n 0, 1) := dk_42 (dk_at dksX10_init_0 13 rfl rfl)
theorem dX10_init_14 : decode cX10_init 14 = .ok (.sipush 6062, 3) := dk_17 23 174 (dk_at dksX10_init_0 14 rfl rfl)
theorem dX10_init_17 : decode cX10_init 17 = .ok (.newarray .int, 2) := dk_188_10 (dk_at dksX10_init_0 17 rfl rfl)
theorem dX10_init_19 : decode cX10_init 19 = .ok (.putfield 98, 3) := dk_181 0 98 (dk_at dksX10_init_0 19 rfl rfl)
theorem dX10_init_22 : decode cX10_init 22 = .ok (.aload_n 0, 1) := dk_42 (dk_at dksX10_init_0 22 rfl rfl)
theorem dX10_init_23 : decode cX10_init 23 = .ok (.sipush 2607, 3) := dk_17 10 47 (dk_at dksX10_init_1 0 rfl rfl)
theorem dX10_init_26 : decode cX10_init 26 = .ok (.newarray .int, 2) := dk_188_10 (dk_at dksX10_init_1 3 rfl rfl)
theorem dX10_init_28 : decode cX10_init 28 = .ok (.putfield 101, 3) := dk_181 0 101 (dk_at dksX10_init_1 5 rfl rfl)
theorem dX10_init_31 : decode cX10_init 31 = .ok (.aload_n 0, 1) := dk_42 (dk_at dksX10_init_1 8 rfl rfl)
theorem dX10_init_32 : decode cX10_init 32 = .ok (.sipush 12124, 3) := dk_17 47 92 (dk_at dksX10_init_1 9 rfl rfl)
theorem dX10_init_35 : decode cX10_init 35 = .ok (.newarray .int, 2) := dk_188_10 (dk_at dksX10_init_1 12 rfl rfl)
theorem dX10_init_37 : decode cX10_init 37 = .ok (.putfield 104, 3) := dk_181 0 104 (dk_at dksX10_init_1 14 rfl rfl)
theorem dX10_init_40 : decode cX10_init 40 = .ok (.aload_n 0, 1) := dk_42 (dk_at dksX10_init_1 17 rfl rfl)
theorem dX10_init_41 : decode cX10_init 41 = .ok (.sipush 25704, 3) := dk_17 100 104 (dk_at dksX10_init_1 18 rfl rfl)
theorem dX10_init_44 : decode cX10_init 44 = .ok (.newarray .int, 2) := dk_188_10 (dk_at dksX10_init_1 21 rfl rfl)
theorem dX10_init_46 : decode cX10_init 46 = .ok (.putfield 107, 3) := dk_181 0 107 (dk_at dksX10_init_2 0 rfl rfl)
theorem dX10_init_49 : decode cX10_init 49 = .ok (.aload_n 0, 1) := dk_42 (dk_at dksX10_init_2 3 rfl rfl)
theorem dX10_init_50 : decode cX10_init 50 = .ok (.sipush 3213, 3) := dk_17 12 141 (dk_at dksX10_init_2 4 rfl rfl)
theorem dX10_init_53 : decode cX10_init 53 = .ok (.newarray .int, 2) := dk_188_10 (dk_at dksX10_init_2 7 rfl rfl)
theorem dX10_init_55 : decode cX10_init 55 = .ok (.putfield 110, 3) := dk_181 0 110 (dk_at dksX10_init_2 9 rfl rfl)
theorem dX10_init_58 : decode cX10_init 58 = .ok (.aload_n 0, 1) := dk_42 (dk_at dksX10_init_2 12 rfl rfl)
theorem dX10_init_59 : decode cX10_init 59 = .ok (.sipush 3213, 3) := dk_17 12 141 (dk_at dksX10_init_2 13 rfl rfl)
theorem dX10_init_62 : decode cX10_init 62 = .ok (.newarray .int, 2) := dk_188_10 (dk_at dksX10_init_2 16 rfl rfl)
theorem dX10_init_64 : decode cX10_init 64 = .ok (.putfield 113, 3) := dk_181 0 113 (dk_at dksX10_init_2 18 rfl rfl)
theorem dX10_init_67 : decode cX10_init 67 = .ok (.aload_n 0, 1) := dk_42 (dk_at dksX10_init_2 21 rfl rfl)
theorem dX10_init_68 : decode cX10_init 68 = .ok (.iconst 4, 1) := dk_7 (dk_at dksX10_init_2 22 rfl rfl)
theorem dX10_init_69 : decode cX10_init 69 = .ok (.newarray .long, 2) := dk_188_11 (dk_at dksX10_init_3 0 rfl rfl)
theorem dX10_init_71 : decode cX10_init 71 = .ok (.putfield 116, 3) := dk_181 0 116 (dk_at dksX10_init_3 2 rfl rfl)
theorem dX10_init_74 : decode cX10_init 74 = .ok (.aload_n 0, 1) := dk_42 (dk_at dksX10_init_3 5 rfl rfl)
theorem dX10_init_75 : decode cX10_init 75 = .ok (.iconst 4, 1) := dk_7 (dk_at dksX10_init_3 6 rfl rfl)
theorem dX10_init_76 : decode cX10_init 76 = .ok (.newarray .long, 2) := dk_188_11 (dk_at dksX10_init_3 7 rfl rfl)
theorem dX10_init_78 : decode cX10_init 78 = .ok (.putfield 120, 3) := dk_181 0 120 (dk_at dksX10_init_3 9 rfl rfl)
theorem dX10_init_81 : decode cX10_init 81 = .ok (.aload_n 0, 1) := dk_42 (dk_at dksX10_init_3 12 rfl rfl)
theorem dX10_init_82 : decode cX10_init 82 = .ok (.bipush 8, 2) := dk_16 8 (dk_at dksX10_init_3 13 rfl rfl)
theorem dX10_init_84 : decode cX10_init 84 = .ok (.newarray .long, 2) := dk_188_11 (dk_at dksX10_init_3 15 rfl rfl)
theorem dX10_init_86 : decode cX10_init 86 = .ok (.putfield 123, 3) := dk_181 0 123 (dk_at dksX10_init_3 17 rfl rfl)
theorem dX10_init_89 : decode cX10_init 89 = .ok (.aload_n 0, 1) := dk_42 (dk_at dksX10_init_3 20 rfl rfl)
theorem dX10_init_90 : decode cX10_init 90 = .ok (.iconst 2, 1) := dk_5 (dk_at dksX10_init_3 21 rfl rfl)
theorem dX10_init_91 : decode cX10_init 91 = .ok (.newarray .boolean, 2) := dk_188_4 (dk_at dksX10_init_3 22 rfl rfl)
theorem dX10_init_93 : decode cX10_init 93 = .ok (.putfield 126, 3) := dk_181 0 126 (dk_at dksX10_init_4 0 rfl rfl)
theorem dX10_init_96 : decode cX10_init 96 = .ok (.aload_n 0, 1) := dk_42 (dk_at dksX10_init_4 3 rfl rfl)
theorem dX10_init_97 : decode cX10_init 97 = .ok (.sipush 600, 3) := dk_17 2 88 (dk_at dksX10_init_4 4 rfl rfl)
theorem dX10_init_100 : decode cX10_init 100 = .ok (.newarray .int, 2) := dk_188_10 (dk_at dksX10_init_4 7 rfl rfl)
theorem dX10_init_102 : decode cX10_init 102 = .ok (.putfield 130, 3) := dk_181 0 130 (dk_at dksX10_init_4 9 rfl rfl)
theorem dX10_init_105 : decode cX10_init 105 = .ok (.aload_n 0, 1) := dk_42 (dk_at dksX10_init_4 12 rfl rfl)
theorem dX10_init_106 : decode cX10_init 106 = .ok (.sipush 160, 3) := dk_17 0 160 (dk_at dksX10_init_4 13 rfl rfl)
theorem dX10_init_109 : decode cX10_init 109 = .ok (.newarray .int, 2) := dk_188_10 (dk_at dksX10_init_4 16 rfl rfl)
theorem dX10_init_111 : decode cX10_init 111 = .ok (.putfield 133, 3) := dk_181 0 133 (dk_at dksX10_init_4 18 rfl rfl)
theorem dX10_init_114 : decode cX10_init 114 = .ok (.aload_n 0, 1) := dk_42 (dk_at dksX10_init_4 21 rfl rfl)
theorem dX10_init_115 : decode cX10_init 115 = .ok (.iconst 4, 1) := dk_7 (dk_at dksX10_init_4 22 rfl rfl)
theorem dX10_init_116 : decode cX10_init 116 = .ok (.newarray .int, 2) := dk_188_10 (dk_at dksX10_init_5 0 rfl rfl)
theorem dX10_init_118 : decode cX10_init 118 = .ok (.putfield 136, 3) := dk_181 0 136 (dk_at dksX10_init_5 2 rfl rfl)
theorem dX10_init_121 : decode cX10_init 121 = .ok (.aload_n 0, 1) := dk_42 (dk_at dksX10_init_5 5 rfl rfl)
theorem dX10_init_122 : decode cX10_init 122 = .ok (.sipush 240, 3) := dk_17 0 240 (dk_at dksX10_init_5 6 rfl rfl)
theorem dX10_init_125 : decode cX10_init 125 = .ok (.newarray .int, 2) := dk_188_10 (dk_at dksX10_init_5 9 rfl rfl)
theorem dX10_init_127 : decode cX10_init 127 = .ok (.putfield 139, 3) := dk_181 0 139 (dk_at dksX10_init_5 11 rfl rfl)
theorem dX10_init_130 : decode cX10_init 130 = .ok (.aload_n 0, 1) := dk_42 (dk_at dksX10_init_5 14 rfl rfl)
theorem dX10_init_131 : decode cX10_init 131 = .ok (.getfield 98, 3) := dk_180 0 98 (dk_at dksX10_init_5 15 rfl rfl)
theorem dX10_init_134 : decode cX10_init 134 = .ok (.iconst 1, 1) := dk_4 (dk_at dksX10_init_5 18 rfl rfl)
theorem dX10_init_135 : decode cX10_init 135 = .ok (.bipush 8, 2) := dk_16 8 (dk_at dksX10_init_5 19 rfl rfl)
theorem dX10_init_137 : decode cX10_init 137 = .ok (.iastore, 1) := dk_79 (dk_at dksX10_init_5 21 rfl rfl)
theorem dX10_init_138 : decode cX10_init 138 = .ok (.return_, 1) := dk_177 (dk_at dksX10_init_5 22 rfl rfl)
abbrev cX10_room : ByteArray := prog_23_method_31_code
def yX10_room : MethodName := ⟨RX10, "room", "()I"⟩
def dkwX10_room_6 : List UInt8 := [181, 0, 192, 27, 172]
abbrev dktX10_room_6 : List UInt8 := dkwX10_room_6 ++ []
def dkwX10_room_5 : List UInt8 := [180, 0, 116, 28, 42, 180, 0, 120, 28, 47, 80, 132, 2, 1, 167, 255, 236, 42, 182, 0, 189, 42, 3]
abbrev dktX10_room_5 : List UInt8 := dkwX10_room_5 ++ dktX10_room_6
def dkwX10_room_4 : List UInt8 := [28, 42, 180, 0, 101, 28, 46, 79, 132, 2, 1, 167, 255, 234, 3, 61, 28, 7, 162, 0, 21, 42]
abbrev dktX10_room_4 : List UInt8 := dkwX10_room_4 ++ dktX10_room_5
def dkwX10_room_3 : List UInt8 := [180, 0, 69, 100, 172, 132, 1, 1, 167, 255, 224, 3, 61, 28, 17, 10, 47, 162, 0, 21, 42, 180, 0, 98]
abbrev dktX10_room_3 : List UInt8 := dkwX10_room_3 ++ dktX10_room_4
def dkwX10_room_2 : List UInt8 := [180, 0, 30, 153, 0, 31, 42, 27, 182, 0, 183, 153, 0, 10, 42, 182, 0, 186, 154, 0, 10, 2, 42]
abbrev dktX10_room_2 : List UInt8 := dkwX10_room_2 ++ dktX10_room_3
def dkwX10_room_1 : List UInt8 := [132, 1, 1, 167, 255, 239, 42, 180, 0, 101, 4, 16, 8, 79, 42, 3, 181, 0, 161, 3, 60, 42]
abbrev dktX10_room_1 : List UInt8 := dkwX10_room_1 ++ dktX10_room_2
def dkwX10_room_0 : List UInt8 := [42, 17, 3, 132, 182, 0, 180, 3, 60, 27, 17, 10, 47, 162, 0, 16, 42, 180, 0, 101, 27, 3, 79]
abbrev dktX10_room_0 : List UInt8 := dkwX10_room_0 ++ dktX10_room_1
theorem dksX10_room_0 : cX10_room.data.toList.drop 0 = dktX10_room_0 := by decide +kernel
theorem dksX10_room_1 : cX10_room.data.toList.drop 23 = dktX10_room_1 := dk_seg dksX10_room_0 23 rfl rfl
theorem dksX10_room_2 : cX10_room.data.toList.drop 45 = dktX10_room_2 := dk_seg dksX10_room_1 22 rfl rfl
theorem dksX10_room_3 : cX10_room.data.toList.drop 68 = dktX10_room_3 := dk_seg dksX10_room_2 23 rfl rfl
theorem dksX10_room_4 : cX10_room.data.toList.drop 92 = dktX10_room_4 := dk_seg dksX10_room_3 24 rfl rfl
theorem dksX10_room_5 : cX10_room.data.toList.drop 114 = dktX10_room_5 := dk_seg dksX10_room_4 22 rfl rfl
theorem dksX10_room_6 : cX10_room.data.toList.drop 137 = dktX10_room_6 := dk_seg dksX10_room_5 23 rfl rfl
theorem dX10_room_0 : decode cX10_room 0 = .ok (.aload_n 0, 1) := dk_42 (dk_at dksX10_room_0 0 rfl rfl)
theorem dX10_room_1 : decode cX10_room 1 = .ok (.sipush 900, 3) := dk_17 3 132 (dk_at dksX10_room_0 1 rfl rfl)
theorem dX10_room_4 : decode cX10_room 4 = .ok (.invokevirtual 180, 3) := dk_182 0 180 (dk_at dksX10_room_0 4 rfl rfl)
theorem dX10_room_7 : decode cX10_room 7 = .ok (.iconst 0, 1) := dk_3 (dk_at dksX10_room_0 7 rfl rfl)
theorem dX10_room_8 : decode cX10_room 8 = .ok (.istore_n 1, 1) := dk_60 (dk_at dksX10_room_0 8 rfl rfl)
theorem dX10_room_9 : decode cX10_room 9 = .ok (.iload_n 1, 1) := dk_27 (dk_at dksX10_room_0 9 rfl rfl)
theorem dX10_room_10 : decode cX10_room 10 = .ok (.sipush 2607, 3) := dk_17 10 47 (dk_at dksX10_room_0 10 rfl rfl)
theorem dX10_room_13 : decode cX10_room 13 = .ok (.if_icmp .ge 16, 3) := dk_162 0 16 (dk_at dksX10_room_0 13 rfl rfl)
theorem dX10_room_16 : decode cX10_room 16 = .ok (.aload_n 0, 1) := dk_42 (dk_at dksX10_room_0 16 rfl rfl)
theorem dX10_room_17 : decode cX10_room 17 = .ok (.getfield 101, 3) := dk_180 0 101 (dk_at dksX10_room_0 17 rfl rfl)
theorem dX10_room_20 : decode cX10_room 20 = .ok (.iload_n 1, 1) := dk_27 (dk_at dksX10_room_0 20 rfl rfl)
theorem dX10_room_21 : decode cX10_room 21 = .ok (.iconst 0, 1) := dk_3 (dk_at dksX10_room_0 21 rfl rfl)
theorem dX10_room_22 : decode cX10_room 22 = .ok (.iastore, 1) := dk_79 (dk_at dksX10_room_0 22 rfl rfl)
theorem dX10_room_23 : decode cX10_room 23 = .ok (.iinc 1 1, 3) := dk_132 1 1 (dk_at dksX10_room_1 0 rfl rfl)
theorem dX10_room_26 : decode cX10_room 26 = .ok (.goto (-17), 3) := dk_167 255 239 (dk_at dksX10_room_1 3 rfl rfl)
theorem dX10_room_29 : decode cX10_room 29 = .ok (.aload_n 0, 1) := dk_42 (dk_at dksX10_room_1 6 rfl rfl)
theorem dX10_room_30 : decode cX10_room 30 = .ok (.getfield 101, 3) := dk_180 0 101 (dk_at dksX10_room_1 7 rfl rfl)
theorem dX10_room_33 : decode cX10_room 33 = .ok (.iconst 1, 1) := dk_4 (dk_at dksX10_room_1 10 rfl rfl)
theorem dX10_room_34 : decode cX10_room 34 = .ok (.bipush 8, 2) := dk_16 8 (dk_at dksX10_room_1 11 rfl rfl)
theorem dX10_room_36 : decode cX10_room 36 = .ok (.iastore, 1) := dk_79 (dk_at dksX10_room_1 13 rfl rfl)
theorem dX10_room_37 : decode cX10_room 37 = .ok (.aload_n 0, 1) := dk_42 (dk_at dksX10_room_1 14 rfl rfl)
theorem dX10_room_38 : decode cX10_room 38 = .ok (.iconst 0, 1) := dk_3 (dk_at dksX10_room_1 15 rfl rfl)
theorem dX10_room_39 : decode cX10_room 39 = .ok (.putfield 161, 3) := dk_181 0 161 (dk_at dksX10_room_1 16 rfl rfl)
theorem dX10_room_42 : decode cX10_room 42 = .ok (.iconst 0, 1) := dk_3 (dk_at dksX10_room_1 19 rfl rfl)
theorem dX10_room_43 : decode cX10_room 43 = .ok (.istore_n 1, 1) := dk_60 (dk_at dksX10_room_1 20 rfl rfl)
theorem dX10_room_44 : decode cX10_room 44 = .ok (.aload_n 0, 1) := dk_42 (dk_at dksX10_room_1 21 rfl rfl)
theorem dX10_room_45 : decode cX10_room 45 = .ok (.getfield 30, 3) := dk_180 0 30 (dk_at dksX10_room_2 0 rfl rfl)
theorem dX10_room_48 : decode cX10_room 48 = .ok (.ifCond .eq 31, 3) := dk_153 0 31 (dk_at dksX10_room_2 3 rfl rfl)
theorem dX10_room_51 : decode cX10_room 51 = .ok (.aload_n 0, 1) := dk_42 (dk_at dksX10_room_2 6 rfl rfl)
theorem dX10_room_52 : decode cX10_room 52 = .ok (.iload_n 1, 1) := dk_27 (dk_at dksX10_room_2 7 rfl rfl)
theorem dX10_room_53 : decode cX10_room 53 = .ok (.invokevirtual 183, 3) := dk_182 0 183 (dk_at dksX10_room_2 8 rfl rfl)
theorem dX10_room_56 : decode cX10_room 56 = .ok (.ifCond .eq 10, 3) := dk_153 0 10 (dk_at dksX10_room_2 11 rfl rfl)
theorem dX10_room_59 : decode cX10_room 59 = .ok (.aload_n 0, 1) := dk_42 (dk_at dksX10_room_2 14 rfl rfl)
theorem dX10_room_60 : decode cX10_room 60 = .ok (.invokevirtual 186, 3) := dk_182 0 186 (dk_at dksX10_room_2 15 rfl rfl)
theorem dX10_room_63 : decode cX10_room 63 = .ok (.ifCond .ne 10, 3) := dk_154 0 10 (dk_at dksX10_room_2 18 rfl rfl)
theorem dX10_room_66 : decode cX10_room 66 = .ok (.iconst (-1), 1) := dk_2 (dk_at dksX10_room_2 21 rfl rfl)
theorem dX10_room_67 : decode cX10_room 67 = .ok (.aload_n 0, 1) := dk_42 (dk_at dksX10_room_2 22 rfl rfl)
theorem dX10_room_68 : decode cX10_room 68 = .ok (.getfield 69, 3) := dk_180 0 69 (dk_at dksX10_room_3 0 rfl rfl)
theorem dX10_room_71 : decode cX10_room 71 = .ok (.isub, 1) := dk_100 (dk_at dksX10_room_3 3 rfl rfl)
theorem dX10_room_72 : decode cX10_room 72 = .ok (.ireturn, 1) := dk_172 (dk_at dksX10_room_3 4 rfl rfl)
theorem dX10_room_73 : decode cX10_room 73 = .ok (.iinc 1 1, 3) := dk_132 1 1 (dk_at dksX10_room_3 5 rfl rfl)
theorem dX10_room_76 : decode cX10_room 76 = .ok (.goto (-32), 3) := dk_167 255 224 (dk_at dksX10_room_3 8 rfl rfl)
theorem dX10_room_79 : decode cX10_room 79 = .ok (.iconst 0, 1) := dk_3 (dk_at dksX10_room_3 11 rfl rfl)
theorem dX10_room_80 : decode cX10_room 80 = .ok (.istore_n 2, 1) := dk_61 (dk_at dksX10_room_3 12 rfl rfl)
theorem dX10_room_81 : decode cX10_room 81 = .ok (.iload_n 2, 1) := dk_28 (dk_at dksX10_room_3 13 rfl rfl)
theorem dX10_room_82 : decode cX10_room 82 = .ok (.sipush 2607, 3) := dk_17 10 47 (dk_at dksX10_room_3 14 rfl rfl)
theorem dX10_room_85 : decode cX10_room 85 = .ok (.if_icmp .ge 21, 3) := dk_162 0 21 (dk_at dksX10_room_3 17 rfl rfl)
theorem dX10_room_88 : decode cX10_room 88 = .ok (.aload_n 0, 1) := dk_42 (dk_at dksX10_room_3 20 rfl rfl)
theorem dX10_room_89 : decode cX10_room 89 = .ok (.getfield 98, 3) := dk_180 0 98 (dk_at dksX10_room_3 21 rfl rfl)
theorem dX10_room_92 : decode cX10_room 92 = .ok (.iload_n 2, 1) := dk_28 (dk_at dksX10_room_4 0 rfl rfl)
theorem dX10_room_93 : decode cX10_room 93 = .ok (.aload_n 0, 1) := dk_42 (dk_at dksX10_room_4 1 rfl rfl)
theorem dX10_room_94 : decode cX10_room 94 = .ok (.getfield 101, 3) := dk_180 0 101 (dk_at dksX10_room_4 2 rfl rfl)
theorem dX10_room_97 : decode cX10_room 97 = .ok (.iload_n 2, 1) := dk_28 (dk_at dksX10_room_4 5 rfl rfl)
theorem dX10_room_98 : decode cX10_room 98 = .ok (.iaload, 1) := dk_46 (dk_at dksX10_room_4 6 rfl rfl)
theorem dX10_room_99 : decode cX10_room 99 = .ok (.iastore, 1) := dk_79 (dk_at dksX10_room_4 7 rfl rfl)
theorem dX10_room_100 : decode cX10_room 100 = .ok (.iinc 2 1, 3) := dk_132 2 1 (dk_at dksX10_room_4 8 rfl rfl)
theorem dX10_room_103 : decode cX10_room 103 = .ok (.goto (-22), 3) := dk_167 255 234 (dk_at dksX10_room_4 11 rfl rfl)
theorem dX10_room_106 : decode cX10_room 106 = .ok (.iconst 0, 1) := dk_3 (dk_at dksX10_room_4 14 rfl rfl)
theorem dX10_room_107 : decode cX10_room 107 = .ok (.istore_n 2, 1) := dk_61 (dk_at dksX10_room_4 15 rfl rfl)
theorem dX10_room_108 : decode cX10_room 108 = .ok (.iload_n 2, 1) := dk_28 (dk_at dksX10_room_4 16 rfl rfl)
theorem dX10_room_109 : decode cX10_room 109 = .ok (.iconst 4, 1) := dk_7 (dk_at dksX10_room_4 17 rfl rfl)
theorem dX10_room_110 : decode cX10_room 110 = .ok (.if_icmp .ge 21, 3) := dk_162 0 21 (dk_at dksX10_room_4 18 rfl rfl)
theorem dX10_room_113 : decode cX10_room 113 = .ok (.aload_n 0, 1) := dk_42 (dk_at dksX10_room_4 21 rfl rfl)
theorem dX10_room_114 : decode cX10_room 114 = .ok (.getfield 116, 3) := dk_180 0 116 (dk_at dksX10_room_5 0 rfl rfl)
theorem dX10_room_117 : decode cX10_room 117 = .ok (.iload_n 2, 1) := dk_28 (dk_at dksX10_room_5 3 rfl rfl)
theorem dX10_room_118 : decode cX10_room 118 = .ok (.aload_n 0, 1) := dk_42 (dk_at dksX10_room_5 4 rfl rfl)
theorem dX10_room_119 : decode cX10_room 119 = .ok (.getfield 120, 3) := dk_180 0 120 (dk_at dksX10_room_5 5 rfl rfl)
theorem dX10_room_122 : decode cX10_room 122 = .ok (.iload_n 2, 1) := dk_28 (dk_at dksX10_room_5 8 rfl rfl)
theorem dX10_room_123 : decode cX10_room 123 = .ok (.laload, 1) := dk_47 (dk_at dksX10_room_5 9 rfl rfl)
theorem dX10_room_124 : decode cX10_room 124 = .ok (.lastore, 1) := dk_80 (dk_at dksX10_room_5 10 rfl rfl)
theorem dX10_room_125 : decode cX10_room 125 = .ok (.iinc 2 1, 3) := dk_132 2 1 (dk_at dksX10_room_5 11 rfl rfl)
theorem dX10_room_128 : decode cX10_room 128 = .ok (.goto (-20), 3) := dk_167 255 236 (dk_at dksX10_room_5 14 rfl rfl)
theorem dX10_room_131 : decode cX10_room 131 = .ok (.aload_n 0, 1) := dk_42 (dk_at dksX10_room_5 17 rfl rfl)
theorem dX10_room_132 : decode cX10_room 132 = .ok (.invokevirtual 189, 3) := dk_182 0 189 (dk_at dksX10_room_5 18 rfl rfl)
theorem dX10_room_135 : decode cX10_room 135 = .ok (.aload_n 0, 1) := dk_42 (dk_at dksX10_room_5 21 rfl rfl)
theorem dX10_room_136 : decode cX10_room 136 = .ok (.iconst 0, 1) := dk_3 (dk_at dksX10_room_5 22 rfl rfl)
theorem dX10_room_137 : decode cX10_room 137 = .ok (.putfield 192, 3) := dk_181 0 192 (dk_at dksX10_room_6 0 rfl rfl)
theorem dX10_room_140 : decode cX10_room 140 = .ok (.iload_n 1, 1) := dk_27 (dk_at dksX10_room_6 3 rfl rfl)
theorem dX10_room_141 : decode cX10_room 141 = .ok (.ireturn, 1) := dk_172 (dk_at dksX10_room_6 4 rfl rfl)
abbrev cX10_begin : ByteArray := prog_23_method_21_code
def yX10_begin : MethodName := ⟨RX10, "begin", "(I)V"⟩
def dkwX10_begin_1 : List UInt8 := [3, 181, 0, 21, 42, 182, 0, 82, 177]
abbrev dktX10_begin_1 : List UInt8 := dkwX10_begin_1 ++ []
def dkwX10_begin_0 : List UInt8 := [42, 3, 181, 0, 1, 42, 42, 182, 0, 89, 181, 0, 18, 42, 27, 181, 0, 27, 42, 3, 181, 0, 66, 42]
abbrev dktX10_begin_0 : List UInt8 := dkwX10_begin_0 ++ dktX10_begin_1
theorem dksX10_begin_0 : cX10_begin.data.toList.drop 0 = dktX10_begin_0 := by decide +kernel
theorem dksX10_begin_1 : cX10_begin.data.toList.drop 24 = dktX10_begin_1 := dk_seg dksX10_begin_0 24 rfl rfl
theorem dX10_begin_0 : decode cX10_begin 0 = .ok (.aload_n 0, 1) := dk_42 (dk_at dksX10_begin_0 0 rfl rfl)
theorem dX10_begin_1 : decode cX10_begin 1 = .ok (.iconst 0, 1) := dk_3 (dk_at dksX10_begin_0 1 rfl rfl)
theorem dX10_begin_2 : decode cX10_begin 2 = .ok (.putfield 1, 3) := dk_181 0 1 (dk_at dksX10_begin_0 2 rfl rfl)
theorem dX10_begin_5 : decode cX10_begin 5 = .ok (.aload_n 0, 1) := dk_42 (dk_at dksX10_begin_0 5 rfl rfl)
theorem dX10_begin_6 : decode cX10_begin 6 = .ok (.aload_n 0, 1) := dk_42 (dk_at dksX10_begin_0 6 rfl rfl)
theorem dX10_begin_7 : decode cX10_begin 7 = .ok (.invokevirtual 89, 3) := dk_182 0 89 (dk_at dksX10_begin_0 7 rfl rfl)
theorem dX10_begin_10 : decode cX10_begin 10 = .ok (.putfield 18, 3) := dk_181 0 18 (dk_at dksX10_begin_0 10 rfl rfl)
theorem dX10_begin_13 : decode cX10_begin 13 = .ok (.aload_n 0, 1) := dk_42 (dk_at dksX10_begin_0 13 rfl rfl)
theorem dX10_begin_14 : decode cX10_begin 14 = .ok (.iload_n 1, 1) := dk_27 (dk_at dksX10_begin_0 14 rfl rfl)
theorem dX10_begin_15 : decode cX10_begin 15 = .ok (.putfield 27, 3) := dk_181 0 27 (dk_at dksX10_begin_0 15 rfl rfl)
theorem dX10_begin_18 : decode cX10_begin 18 = .ok (.aload_n 0, 1) := dk_42 (dk_at dksX10_begin_0 18 rfl rfl)
theorem dX10_begin_19 : decode cX10_begin 19 = .ok (.iconst 0, 1) := dk_3 (dk_at dksX10_begin_0 19 rfl rfl)
theorem dX10_begin_20 : decode cX10_begin 20 = .ok (.putfield 66, 3) := dk_181 0 66 (dk_at dksX10_begin_0 20 rfl rfl)
theorem dX10_begin_23 : decode cX10_begin 23 = .ok (.aload_n 0, 1) := dk_42 (dk_at dksX10_begin_0 23 rfl rfl)
theorem dX10_begin_24 : decode cX10_begin 24 = .ok (.iconst 0, 1) := dk_3 (dk_at dksX10_begin_1 0 rfl rfl)
theorem dX10_begin_25 : decode cX10_begin 25 = .ok (.putfield 21, 3) := dk_181 0 21 (dk_at dksX10_begin_1 1 rfl rfl)
theorem dX10_begin_28 : decode cX10_begin 28 = .ok (.aload_n 0, 1) := dk_42 (dk_at dksX10_begin_1 4 rfl rfl)
theorem dX10_begin_29 : decode cX10_begin 29 = .ok (.invokevirtual 82, 3) := dk_182 0 82 (dk_at dksX10_begin_1 5 rfl rfl)
theorem dX10_begin_32 : decode cX10_begin 32 = .ok (.return_, 1) := dk_177 (dk_at dksX10_begin_1 8 rfl rfl)
abbrev cX10_take : ByteArray := prog_23_method_6_code
def yX10_take : MethodName := ⟨RX10, "take", "()I"⟩
def dkwX10_take_0 : List UInt8 := [42, 180, 0, 11, 60, 42, 3, 181, 0, 11, 27, 172]
abbrev dktX10_take_0 : List UInt8 := dkwX10_take_0 ++ []
theorem dksX10_take_0 : cX10_take.data.toList.drop 0 = dktX10_take_0 := by decide +kernel
theorem dX10_take_0 : decode cX10_take 0 = .ok (.aload_n 0, 1) := dk_42 (dk_at dksX10_take_0 0 rfl rfl)
theorem dX10_take_1 : decode cX10_take 1 = .ok (.getfield 11, 3) := dk_180 0 11 (dk_at dksX10_take_0 1 rfl rfl)
theorem dX10_take_4 : decode cX10_take 4 = .ok (.istore_n 1, 1) := dk_60 (dk_at dksX10_take_0 4 rfl rfl)
theorem dX10_take_5 : decode cX10_take 5 = .ok (.aload_n 0, 1) := dk_42 (dk_at dksX10_take_0 5 rfl rfl)
theorem dX10_take_6 : decode cX10_take 6 = .ok (.iconst 0, 1) := dk_3 (dk_at dksX10_take_0 6 rfl rfl)
theorem dX10_take_7 : decode cX10_take 7 = .ok (.putfield 11, 3) := dk_181 0 11 (dk_at dksX10_take_0 7 rfl rfl)
theorem dX10_take_10 : decode cX10_take 10 = .ok (.iload_n 1, 1) := dk_27 (dk_at dksX10_take_0 10 rfl rfl)
theorem dX10_take_11 : decode cX10_take 11 = .ok (.ireturn, 1) := dk_172 (dk_at dksX10_take_0 11 rfl rfl)
abbrev cX10_go : ByteArray := prog_23_method_12_code
def yX10_go : MethodName := ⟨RX10, "go", "()V"⟩
def dkwX10_go_16 : List UInt8 := [167, 0, 4, 6, 164, 0, 7, 4, 167, 0, 12, 28, 153, 0, 7, 5, 167, 0, 4, 6, 181, 0, 30, 177]
abbrev dktX10_go_16 : List UInt8 := dkwX10_go_16 ++ []
def dkwX10_go_15 : List UInt8 := [167, 255, 124, 42, 29, 153, 0, 25, 42, 180, 0, 21, 42, 180, 0, 24, 100, 28, 153, 0, 8, 16, 7]
abbrev dktX10_go_15 : List UInt8 := dkwX10_go_15 ++ dktX10_go_16
def dkwX10_go_14 : List UInt8 := [180, 0, 47, 104, 21, 4, 96, 16, 48, 100, 181, 0, 47, 42, 89, 180, 0, 21, 4, 96, 181, 0, 21]
abbrev dktX10_go_14 : List UInt8 := dkwX10_go_14 ++ dktX10_go_15
def dkwX10_go_13 : List UInt8 := [20, 0, 56, 101, 181, 0, 43, 42, 180, 0, 21, 42, 180, 0, 24, 100, 6, 162, 0, 20, 42, 16, 10, 42]
abbrev dktX10_go_13 : List UInt8 := dkwX10_go_13 ++ dktX10_go_14
def dkwX10_go_12 : List UInt8 := [180, 0, 24, 100, 16, 7, 162, 0, 23, 42, 20, 0, 54, 42, 180, 0, 43, 105, 21, 4, 133, 97]
abbrev dktX10_go_12 : List UInt8 := dkwX10_go_12 ++ dktX10_go_13
def dkwX10_go_11 : List UInt8 := [153, 0, 16, 21, 4, 184, 0, 33, 28, 160, 0, 7, 4, 167, 0, 4, 3, 62, 42, 180, 0, 21, 42]
abbrev dktX10_go_11 : List UInt8 := dkwX10_go_11 ++ dktX10_go_12
def dkwX10_go_10 : List UInt8 := [180, 0, 21, 182, 0, 50, 184, 0, 37, 153, 0, 110, 42, 180, 0, 7, 42, 180, 0, 21, 46, 54, 4, 29]
abbrev dktX10_go_10 : List UInt8 := dkwX10_go_10 ++ dktX10_go_11
def dkwX10_go_9 : List UInt8 := [181, 0, 43, 42, 3, 181, 0, 47, 42, 42, 180, 0, 21, 182, 0, 50, 184, 0, 33, 154, 0, 17, 42, 42]
abbrev dktX10_go_9 : List UInt8 := dkwX10_go_9 ++ dktX10_go_10
def dkwX10_go_8 : List UInt8 := [181, 0, 40, 42, 89, 180, 0, 21, 4, 96, 181, 0, 21, 177, 27, 184, 0, 33, 61, 4, 62, 42, 9]
abbrev dktX10_go_8 : List UInt8 := dkwX10_go_8 ++ dktX10_go_9
def dkwX10_go_7 : List UInt8 := [27, 16, 40, 159, 0, 9, 27, 16, 41, 160, 0, 7, 7, 167, 0, 4, 4, 181, 0, 30, 42, 27]
abbrev dktX10_go_7 : List UInt8 := dkwX10_go_7 ++ dktX10_go_8
def dkwX10_go_6 : List UInt8 := [27, 16, 59, 159, 0, 33, 27, 16, 60, 159, 0, 27, 27, 16, 61, 159, 0, 21, 27, 16, 62, 159, 0, 15]
abbrev dktX10_go_6 : List UInt8 := dkwX10_go_6 ++ dktX10_go_7
def dkwX10_go_5 : List UInt8 := [180, 0, 7, 42, 180, 0, 21, 46, 60, 27, 184, 0, 33, 154, 0, 71, 27, 184, 0, 37, 154, 0, 64, 42]
abbrev dktX10_go_5 : List UInt8 := dkwX10_go_5 ++ dktX10_go_6
def dkwX10_go_4 : List UInt8 := [181, 0, 30, 177, 42, 180, 0, 21, 42, 180, 0, 18, 161, 0, 9, 42, 3, 181, 0, 30, 177, 42]
abbrev dktX10_go_4 : List UInt8 := dkwX10_go_4 ++ dktX10_go_5
def dkwX10_go_3 : List UInt8 := [164, 0, 28, 42, 180, 0, 24, 42, 180, 0, 27, 161, 0, 17, 42, 42, 180, 0, 27, 181, 0, 24, 42, 4]
abbrev dktX10_go_3 : List UInt8 := dkwX10_go_3 ++ dktX10_go_4
def dkwX10_go_2 : List UInt8 := [181, 0, 21, 167, 255, 207, 42, 42, 180, 0, 21, 181, 0, 24, 42, 180, 0, 18, 42, 180, 0, 27]
abbrev dktX10_go_2 : List UInt8 := dkwX10_go_2 ++ dktX10_go_3
def dkwX10_go_1 : List UInt8 := [159, 0, 17, 42, 180, 0, 7, 42, 180, 0, 21, 46, 16, 10, 160, 0, 16, 42, 89, 180, 0, 21, 4, 96]
abbrev dktX10_go_1 : List UInt8 := dkwX10_go_1 ++ dktX10_go_2
def dkwX10_go_0 : List UInt8 := [42, 180, 0, 21, 42, 180, 0, 18, 162, 0, 44, 42, 180, 0, 7, 42, 180, 0, 21, 46, 16, 32]
abbrev dktX10_go_0 : List UInt8 := dkwX10_go_0 ++ dktX10_go_1
theorem dksX10_go_0 : cX10_go.data.toList.drop 0 = dktX10_go_0 := by decide +kernel
theorem dksX10_go_1 : cX10_go.data.toList.drop 22 = dktX10_go_1 := dk_seg dksX10_go_0 22 rfl rfl
theorem dksX10_go_2 : cX10_go.data.toList.drop 46 = dktX10_go_2 := dk_seg dksX10_go_1 24 rfl rfl
theorem dksX10_go_3 : cX10_go.data.toList.drop 68 = dktX10_go_3 := dk_seg dksX10_go_2 22 rfl rfl
theorem dksX10_go_4 : cX10_go.data.toList.drop 92 = dktX10_go_4 := dk_seg dksX10_go_3 24 rfl rfl
theorem dksX10_go_5 : cX10_go.data.toList.drop 114 = dktX10_go_5 := dk_seg dksX10_go_4 22 rfl rfl
theorem dksX10_go_6 : cX10_go.data.toList.drop 138 = dktX10_go_6 := dk_seg dksX10_go_5 24 rfl rfl
theorem dksX10_go_7 : cX10_go.data.toList.drop 162 = dktX10_go_7 := dk_seg dksX10_go_6 24 rfl rfl
theorem dksX10_go_8 : cX10_go.data.toList.drop 184 = dktX10_go_8 := dk_seg dksX10_go_7 22 rfl rfl
theorem dksX10_go_9 : cX10_go.data.toList.drop 207 = dktX10_go_9 := dk_seg dksX10_go_8 23 rfl rfl
theorem dksX10_go_10 : cX10_go.data.toList.drop 231 = dktX10_go_10 := dk_seg dksX10_go_9 24 rfl rfl
theorem dksX10_go_11 : cX10_go.data.toList.drop 255 = dktX10_go_11 := dk_seg dksX10_go_10 24 rfl rfl
theorem dksX10_go_12 : cX10_go.data.toList.drop 278 = dktX10_go_12 := dk_seg dksX10_go_11 23 rfl rfl
theorem dksX10_go_13 : cX10_go.data.toList.drop 300 = dktX10_go_13 := dk_seg dksX10_go_12 22 rfl rfl
theorem dksX10_go_14 : cX10_go.data.toList.drop 324 = dktX10_go_14 := dk_seg dksX10_go_13 24 rfl rfl
theorem dksX10_go_15 : cX10_go.data.toList.drop 347 = dktX10_go_15 := dk_seg dksX10_go_14 23 rfl rfl
theorem dksX10_go_16 : cX10_go.data.toList.drop 370 = dktX10_go_16 := dk_seg dksX10_go_15 23 rfl rfl
theorem dX10_go_0 : decode cX10_go 0 = .ok (.aload_n 0, 1) := dk_42 (dk_at dksX10_go_0 0 rfl rfl)
theorem dX10_go_1 : decode cX10_go 1 = .ok (.getfield 21, 3) := dk_180 0 21 (dk_at dksX10_go_0 1 rfl rfl)
theorem dX10_go_4 : decode cX10_go 4 = .ok (.aload_n 0, 1) := dk_42 (dk_at dksX10_go_0 4 rfl rfl)
theorem dX10_go_5 : decode cX10_go 5 = .ok (.getfield 18, 3) := dk_180 0 18 (dk_at dksX10_go_0 5 rfl rfl)
theorem dX10_go_8 : decode cX10_go 8 = .ok (.if_icmp .ge 44, 3) := dk_162 0 44 (dk_at dksX10_go_0 8 rfl rfl)
theorem dX10_go_11 : decode cX10_go 11 = .ok (.aload_n 0, 1) := dk_42 (dk_at dksX10_go_0 11 rfl rfl)
theorem dX10_go_12 : decode cX10_go 12 = .ok (.getfield 7, 3) := dk_180 0 7 (dk_at dksX10_go_0 12 rfl rfl)
theorem dX10_go_15 : decode cX10_go 15 = .ok (.aload_n 0, 1) := dk_42 (dk_at dksX10_go_0 15 rfl rfl)
theorem dX10_go_16 : decode cX10_go 16 = .ok (.getfield 21, 3) := dk_180 0 21 (dk_at dksX10_go_0 16 rfl rfl)
theorem dX10_go_19 : decode cX10_go 19 = .ok (.iaload, 1) := dk_46 (dk_at dksX10_go_0 19 rfl rfl)
theorem dX10_go_20 : decode cX10_go 20 = .ok (.bipush 32, 2) := dk_16 32 (dk_at dksX10_go_0 20 rfl rfl)
theorem dX10_go_22 : decode cX10_go 22 = .ok (.if_icmp .eq 17, 3) := dk_159 0 17 (dk_at dksX10_go_1 0 rfl rfl)
theorem dX10_go_25 : decode cX10_go 25 = .ok (.aload_n 0, 1) := dk_42 (dk_at dksX10_go_1 3 rfl rfl)
theorem dX10_go_26 : decode cX10_go 26 = .ok (.getfield 7, 3) := dk_180 0 7 (dk_at dksX10_go_1 4 rfl rfl)
theorem dX10_go_29 : decode cX10_go 29 = .ok (.aload_n 0, 1) := dk_42 (dk_at dksX10_go_1 7 rfl rfl)
theorem dX10_go_30 : decode cX10_go 30 = .ok (.getfield 21, 3) := dk_180 0 21 (dk_at dksX10_go_1 8 rfl rfl)
theorem dX10_go_33 : decode cX10_go 33 = .ok (.iaload, 1) := dk_46 (dk_at dksX10_go_1 11 rfl rfl)
theorem dX10_go_34 : decode cX10_go 34 = .ok (.bipush 10, 2) := dk_16 10 (dk_at dksX10_go_1 12 rfl rfl)
theorem dX10_go_36 : decode cX10_go 36 = .ok (.if_icmp .ne 16, 3) := dk_160 0 16 (dk_at dksX10_go_1 14 rfl rfl)
theorem dX10_go_39 : decode cX10_go 39 = .ok (.aload_n 0, 1) := dk_42 (dk_at dksX10_go_1 17 rfl rfl)
theorem dX10_go_40 : decode cX10_go 40 = .ok (.dup, 1) := dk_89 (dk_at dksX10_go_1 18 rfl rfl)
theorem dX10_go_41 : decode cX10_go 41 = .ok (.getfield 21, 3) := dk_180 0 21 (dk_at dksX10_go_1 19 rfl rfl)
theorem dX10_go_44 : decode cX10_go 44 = .ok (.iconst 1, 1) := dk_4 (dk_at dksX10_go_1 22 rfl rfl)
theorem dX10_go_45 : decode cX10_go 45 = .ok (.iadd, 1) := dk_96 (dk_at dksX10_go_1 23 rfl rfl)
theorem dX10_go_46 : decode cX10_go 46 = .ok (.putfield 21, 3) := dk_181 0 21 (dk_at dksX10_go_2 0 rfl rfl)
theorem dX10_go_49 : decode cX10_go 49 = .ok (.goto (-49), 3) := dk_167 255 207 (dk_at dksX10_go_2 3 rfl rfl)
theorem dX10_go_52 : decode cX10_go 52 = .ok (.aload_n 0, 1) := dk_42 (dk_at dksX10_go_2 6 rfl rfl)
theorem dX10_go_53 : decode cX10_go 53 = .ok (.aload_n 0, 1) := dk_42 (dk_at dksX10_go_2 7 rfl rfl)
theorem dX10_go_54 : decode cX10_go 54 = .ok (.getfield 21, 3) := dk_180 0 21 (dk_at dksX10_go_2 8 rfl rfl)
theorem dX10_go_57 : decode cX10_go 57 = .ok (.putfield 24, 3) := dk_181 0 24 (dk_at dksX10_go_2 11 rfl rfl)
theorem dX10_go_60 : decode cX10_go 60 = .ok (.aload_n 0, 1) := dk_42 (dk_at dksX10_go_2 14 rfl rfl)
theorem dX10_go_61 : decode cX10_go 61 = .ok (.getfield 18, 3) := dk_180 0 18 (dk_at dksX10_go_2 15 rfl rfl)
theorem dX10_go_64 : decode cX10_go 64 = .ok (.aload_n 0, 1) := dk_42 (dk_at dksX10_go_2 18 rfl rfl)
theorem dX10_go_65 : decode cX10_go 65 = .ok (.getfield 27, 3) := dk_180 0 27 (dk_at dksX10_go_2 19 rfl rfl)
theorem dX10_go_68 : decode cX10_go 68 = .ok (.if_icmp .le 28, 3) := dk_164 0 28 (dk_at dksX10_go_3 0 rfl rfl)
theorem dX10_go_71 : decode cX10_go 71 = .ok (.aload_n 0, 1) := dk_42 (dk_at dksX10_go_3 3 rfl rfl)
theorem dX10_go_72 : decode cX10_go 72 = .ok (.getfield 24, 3) := dk_180 0 24 (dk_at dksX10_go_3 4 rfl rfl)
theorem dX10_go_75 : decode cX10_go 75 = .ok (.aload_n 0, 1) := dk_42 (dk_at dksX10_go_3 7 rfl rfl)
theorem dX10_go_76 : decode cX10_go 76 = .ok (.getfield 27, 3) := dk_180 0 27 (dk_at dksX10_go_3 8 rfl rfl)
theorem dX10_go_79 : decode cX10_go 79 = .ok (.if_icmp .lt 17, 3) := dk_161 0 17 (dk_at dksX10_go_3 11 rfl rfl)
theorem dX10_go_82 : decode cX10_go 82 = .ok (.aload_n 0, 1) := dk_42 (dk_at dksX10_go_3 14 rfl rfl)
theorem dX10_go_83 : decode cX10_go 83 = .ok (.aload_n 0, 1) := dk_42 (dk_at dksX10_go_3 15 rfl rfl)
theorem dX10_go_84 : decode cX10_go 84 = .ok (.getfield 27, 3) := dk_180 0 27 (dk_at dksX10_go_3 16 rfl rfl)
theorem dX10_go_87 : decode cX10_go 87 = .ok (.putfield 24, 3) := dk_181 0 24 (dk_at dksX10_go_3 19 rfl rfl)
theorem dX10_go_90 : decode cX10_go 90 = .ok (.aload_n 0, 1) := dk_42 (dk_at dksX10_go_3 22 rfl rfl)
theorem dX10_go_91 : decode cX10_go 91 = .ok (.iconst 1, 1) := dk_4 (dk_at dksX10_go_3 23 rfl rfl)
theorem dX10_go_92 : decode cX10_go 92 = .ok (.putfield 30, 3) := dk_181 0 30 (dk_at dksX10_go_4 0 rfl rfl)
theorem dX10_go_95 : decode cX10_go 95 = .ok (.return_, 1) := dk_177 (dk_at dksX10_go_4 3 rfl rfl)
theorem dX10_go_96 : decode cX10_go 96 = .ok (.aload_n 0, 1) := dk_42 (dk_at dksX10_go_4 4 rfl rfl)
theorem dX10_go_97 : decode cX10_go 97 = .ok (.getfield 21, 3) := dk_180 0 21 (dk_at dksX10_go_4 5 rfl rfl)
theorem dX10_go_100 : decode cX10_go 100 = .ok (.aload_n 0, 1) := dk_42 (dk_at dksX10_go_4 8 rfl rfl)
theorem dX10_go_101 : decode cX10_go 101 = .ok (.getfield 18, 3) := dk_180 0 18 (dk_at dksX10_go_4 9 rfl rfl)
theorem dX10_go_104 : decode cX10_go 104 = .ok (.if_icmp .lt 9, 3) := dk_161 0 9 (dk_at dksX10_go_4 12 rfl rfl)
theorem dX10_go_107 : decode cX10_go 107 = .ok (.aload_n 0, 1) := dk_42 (dk_at dksX10_go_4 15 rfl rfl)
theorem dX10_go_108 : decode cX10_go 108 = .ok (.iconst 0, 1) := dk_3 (dk_at dksX10_go_4 16 rfl rfl)
theorem dX10_go_109 : decode cX10_go 109 = .ok (.putfield 30, 3) := dk_181 0 30 (dk_at dksX10_go_4 17 rfl rfl)
theorem dX10_go_112 : decode cX10_go 112 = .ok (.return_, 1) := dk_177 (dk_at dksX10_go_4 20 rfl rfl)
theorem dX10_go_113 : decode cX10_go 113 = .ok (.aload_n 0, 1) := dk_42 (dk_at dksX10_go_4 21 rfl rfl)
theorem dX10_go_114 : decode cX10_go 114 = .ok (.getfield 7, 3) := dk_180 0 7 (dk_at dksX10_go_5 0 rfl rfl)
theorem dX10_go_117 : decode cX10_go 117 = .ok (.aload_n 0, 1) := dk_42 (dk_at dksX10_go_5 3 rfl rfl)
theorem dX10_go_118 : decode cX10_go 118 = .ok (.getfield 21, 3) := dk_180 0 21 (dk_at dksX10_go_5 4 rfl rfl)
theorem dX10_go_121 : decode cX10_go 121 = .ok (.iaload, 1) := dk_46 (dk_at dksX10_go_5 7 rfl rfl)
theorem dX10_go_122 : decode cX10_go 122 = .ok (.istore_n 1, 1) := dk_60 (dk_at dksX10_go_5 8 rfl rfl)
theorem dX10_go_123 : decode cX10_go 123 = .ok (.iload_n 1, 1) := dk_27 (dk_at dksX10_go_5 9 rfl rfl)
theorem dX10_go_124 : decode cX10_go 124 = .ok (.invokestatic 33, 3) := dk_184 0 33 (dk_at dksX10_go_5 10 rfl rfl)
theorem dX10_go_127 : decode cX10_go 127 = .ok (.ifCond .ne 71, 3) := dk_154 0 71 (dk_at dksX10_go_5 13 rfl rfl)
theorem dX10_go_130 : decode cX10_go 130 = .ok (.iload_n 1, 1) := dk_27 (dk_at dksX10_go_5 16 rfl rfl)
theorem dX10_go_131 : decode cX10_go 131 = .ok (.invokestatic 37, 3) := dk_184 0 37 (dk_at dksX10_go_5 17 rfl rfl)
theorem dX10_go_134 : decode cX10_go 134 = .ok (.ifCond .ne 64, 3) := dk_154 0 64 (dk_at dksX10_go_5 20 rfl rfl)
theorem dX10_go_137 : decode cX10_go 137 = .ok (.aload_n 0, 1) := dk_42 (dk_at dksX10_go_5 23 rfl rfl)
theorem dX10_go_138 : decode cX10_go 138 = .ok (.iload_n 1, 1) := dk_27 (dk_at dksX10_go_6 0 rfl rfl)
theorem dX10_go_139 : decode cX10_go 139 = .ok (.bipush 59, 2) := dk_16 59 (dk_at dksX10_go_6 1 rfl rfl)
theorem dX10_go_141 : decode cX10_go 141 = .ok (.if_icmp .eq 33, 3) := dk_159 0 33 (dk_at dksX10_go_6 3 rfl rfl)
theorem dX10_go_144 : decode cX10_go 144 = .ok (.iload_n 1, 1) := dk_27 (dk_at dksX10_go_6 6 rfl rfl)
theorem dX10_go_145 : decode cX10_go 145 = .ok (.bipush 60, 2) := dk_16 60 (dk_at dksX10_go_6 7 rfl rfl)
theorem dX10_go_147 : decode cX10_go 147 = .ok (.if_icmp .eq 27, 3) := dk_159 0 27 (dk_at dksX10_go_6 9 rfl rfl)
theorem dX10_go_150 : decode cX10_go 150 = .ok (.iload_n 1, 1) := dk_27 (dk_at dksX10_go_6 12 rfl rfl)
theorem dX10_go_151 : decode cX10_go 151 = .ok (.bipush 61, 2) := dk_16 61 (dk_at dksX10_go_6 13 rfl rfl)
theorem dX10_go_153 : decode cX10_go 153 = .ok (.if_icmp .eq 21, 3) := dk_159 0 21 (dk_at dksX10_go_6 15 rfl rfl)
theorem dX10_go_156 : decode cX10_go 156 = .ok (.iload_n 1, 1) := dk_27 (dk_at dksX10_go_6 18 rfl rfl)
theorem dX10_go_157 : decode cX10_go 157 = .ok (.bipush 62, 2) := dk_16 62 (dk_at dksX10_go_6 19 rfl rfl)
theorem dX10_go_159 : decode cX10_go 159 = .ok (.if_icmp .eq 15, 3) := dk_159 0 15 (dk_at dksX10_go_6 21 rfl rfl)
theorem dX10_go_162 : decode cX10_go 162 = .ok (.iload_n 1, 1) := dk_27 (dk_at dksX10_go_7 0 rfl rfl)
theorem dX10_go_163 : decode cX10_go 163 = .ok (.bipush 40, 2) := dk_16 40 (dk_at dksX10_go_7 1 rfl rfl)
theorem dX10_go_165 : decode cX10_go 165 = .ok (.if_icmp .eq 9, 3) := dk_159 0 9 (dk_at dksX10_go_7 3 rfl rfl)
theorem dX10_go_168 : decode cX10_go 168 = .ok (.iload_n 1, 1) := dk_27 (dk_at dksX10_go_7 6 rfl rfl)
theorem dX10_go_169 : decode cX10_go 169 = .ok (.bipush 41, 2) := dk_16 41 (dk_at dksX10_go_7 7 rfl rfl)
theorem dX10_go_171 : decode cX10_go 171 = .ok (.if_icmp .ne 7, 3) := dk_160 0 7 (dk_at dksX10_go_7 9 rfl rfl)
theorem dX10_go_174 : decode cX10_go 174 = .ok (.iconst 4, 1) := dk_7 (dk_at dksX10_go_7 12 rfl rfl)
theorem dX10_go_175 : decode cX10_go 175 = .ok (.goto 4, 3) := dk_167 0 4 (dk_at dksX10_go_7 13 rfl rfl)
theorem dX10_go_178 : decode cX10_go 178 = .ok (.iconst 1, 1) := dk_4 (dk_at dksX10_go_7 16 rfl rfl)
theorem dX10_go_179 : decode cX10_go 179 = .ok (.putfield 30, 3) := dk_181 0 30 (dk_at dksX10_go_7 17 rfl rfl)
theorem dX10_go_182 : decode cX10_go 182 = .ok (.aload_n 0, 1) := dk_42 (dk_at dksX10_go_7 20 rfl rfl)
theorem dX10_go_183 : decode cX10_go 183 = .ok (.iload_n 1, 1) := dk_27 (dk_at dksX10_go_7 21 rfl rfl)
theorem dX10_go_184 : decode cX10_go 184 = .ok (.putfield 40, 3) := dk_181 0 40 (dk_at dksX10_go_8 0 rfl rfl)
theorem dX10_go_187 : decode cX10_go 187 = .ok (.aload_n 0, 1) := dk_42 (dk_at dksX10_go_8 3 rfl rfl)
theorem dX10_go_188 : decode cX10_go 188 = .ok (.dup, 1) := dk_89 (dk_at dksX10_go_8 4 rfl rfl)
theorem dX10_go_189 : decode cX10_go 189 = .ok (.getfield 21, 3) := dk_180 0 21 (dk_at dksX10_go_8 5 rfl rfl)
theorem dX10_go_192 : decode cX10_go 192 = .ok (.iconst 1, 1) := dk_4 (dk_at dksX10_go_8 8 rfl rfl)
theorem dX10_go_193 : decode cX10_go 193 = .ok (.iadd, 1) := dk_96 (dk_at dksX10_go_8 9 rfl rfl)
theorem dX10_go_194 : decode cX10_go 194 = .ok (.putfield 21, 3) := dk_181 0 21 (dk_at dksX10_go_8 10 rfl rfl)
theorem dX10_go_197 : decode cX10_go 197 = .ok (.return_, 1) := dk_177 (dk_at dksX10_go_8 13 rfl rfl)
theorem dX10_go_198 : decode cX10_go 198 = .ok (.iload_n 1, 1) := dk_27 (dk_at dksX10_go_8 14 rfl rfl)
theorem dX10_go_199 : decode cX10_go 199 = .ok (.invokestatic 33, 3) := dk_184 0 33 (dk_at dksX10_go_8 15 rfl rfl)
theorem dX10_go_202 : decode cX10_go 202 = .ok (.istore_n 2, 1) := dk_61 (dk_at dksX10_go_8 18 rfl rfl)
theorem dX10_go_203 : decode cX10_go 203 = .ok (.iconst 1, 1) := dk_4 (dk_at dksX10_go_8 19 rfl rfl)
theorem dX10_go_204 : decode cX10_go 204 = .ok (.istore_n 3, 1) := dk_62 (dk_at dksX10_go_8 20 rfl rfl)
theorem dX10_go_205 : decode cX10_go 205 = .ok (.aload_n 0, 1) := dk_42 (dk_at dksX10_go_8 21 rfl rfl)
theorem dX10_go_206 : decode cX10_go 206 = .ok (.lconst 0, 1) := dk_9 (dk_at dksX10_go_8 22 rfl rfl)
theorem dX10_go_207 : decode cX10_go 207 = .ok (.putfield 43, 3) := dk_181 0 43 (dk_at dksX10_go_9 0 rfl rfl)
theorem dX10_go_210 : decode cX10_go 210 = .ok (.aload_n 0, 1) := dk_42 (dk_at dksX10_go_9 3 rfl rfl)
theorem dX10_go_211 : decode cX10_go 211 = .ok (.iconst 0, 1) := dk_3 (dk_at dksX10_go_9 4 rfl rfl)
theorem dX10_go_212 : decode cX10_go 212 = .ok (.putfield 47, 3) := dk_181 0 47 (dk_at dksX10_go_9 5 rfl rfl)
theorem dX10_go_215 : decode cX10_go 215 = .ok (.aload_n 0, 1) := dk_42 (dk_at dksX10_go_9 8 rfl rfl)
theorem dX10_go_216 : decode cX10_go 216 = .ok (.aload_n 0, 1) := dk_42 (dk_at dksX10_go_9 9 rfl rfl)
theorem dX10_go_217 : decode cX10_go 217 = .ok (.getfield 21, 3) := dk_180 0 21 (dk_at dksX10_go_9 10 rfl rfl)
theorem dX10_go_220 : decode cX10_go 220 = .ok (.invokevirtual 50, 3) := dk_182 0 50 (dk_at dksX10_go_9 13 rfl rfl)
theorem dX10_go_223 : decode cX10_go 223 = .ok (.invokestatic 33, 3) := dk_184 0 33 (dk_at dksX10_go_9 16 rfl rfl)
theorem dX10_go_226 : decode cX10_go 226 = .ok (.ifCond .ne 17, 3) := dk_154 0 17 (dk_at dksX10_go_9 19 rfl rfl)
theorem dX10_go_229 : decode cX10_go 229 = .ok (.aload_n 0, 1) := dk_42 (dk_at dksX10_go_9 22 rfl rfl)
theorem dX10_go_230 : decode cX10_go 230 = .ok (.aload_n 0, 1) := dk_42 (dk_at dksX10_go_9 23 rfl rfl)
theorem dX10_go_231 : decode cX10_go 231 = .ok (.getfield 21, 3) := dk_180 0 21 (dk_at dksX10_go_10 0 rfl rfl)
theorem dX10_go_234 : decode cX10_go 234 = .ok (.invokevirtual 50, 3) := dk_182 0 50 (dk_at dksX10_go_10 3 rfl rfl)
theorem dX10_go_237 : decode cX10_go 237 = .ok (.invokestatic 37, 3) := dk_184 0 37 (dk_at dksX10_go_10 6 rfl rfl)
theorem dX10_go_240 : decode cX10_go 240 = .ok (.ifCond .eq 110, 3) := dk_153 0 110 (dk_at dksX10_go_10 9 rfl rfl)
theorem dX10_go_243 : decode cX10_go 243 = .ok (.aload_n 0, 1) := dk_42 (dk_at dksX10_go_10 12 rfl rfl)
theorem dX10_go_244 : decode cX10_go 244 = .ok (.getfield 7, 3) := dk_180 0 7 (dk_at dksX10_go_10 13 rfl rfl)
theorem dX10_go_247 : decode cX10_go 247 = .ok (.aload_n 0, 1) := dk_42 (dk_at dksX10_go_10 16 rfl rfl)
theorem dX10_go_248 : decode cX10_go 248 = .ok (.getfield 21, 3) := dk_180 0 21 (dk_at dksX10_go_10 17 rfl rfl)
theorem dX10_go_251 : decode cX10_go 251 = .ok (.iaload, 1) := dk_46 (dk_at dksX10_go_10 20 rfl rfl)
theorem dX10_go_252 : decode cX10_go 252 = .ok (.istore 4, 2) := dk_54 4 (dk_at dksX10_go_10 21 rfl rfl)
theorem dX10_go_254 : decode cX10_go 254 = .ok (.iload_n 3, 1) := dk_29 (dk_at dksX10_go_10 23 rfl rfl)
theorem dX10_go_255 : decode cX10_go 255 = .ok (.ifCond .eq 16, 3) := dk_153 0 16 (dk_at dksX10_go_11 0 rfl rfl)
theorem dX10_go_258 : decode cX10_go 258 = .ok (.iload 4, 2) := dk_21 4 (dk_at dksX10_go_11 3 rfl rfl)
theorem dX10_go_260 : decode cX10_go 260 = .ok (.invokestatic 33, 3) := dk_184 0 33 (dk_at dksX10_go_11 5 rfl rfl)
theorem dX10_go_263 : decode cX10_go 263 = .ok (.iload_n 2, 1) := dk_28 (dk_at dksX10_go_11 8 rfl rfl)
theorem dX10_go_264 : decode cX10_go 264 = .ok (.if_icmp .ne 7, 3) := dk_160 0 7 (dk_at dksX10_go_11 9 rfl rfl)
theorem dX10_go_267 : decode cX10_go 267 = .ok (.iconst 1, 1) := dk_4 (dk_at dksX10_go_11 12 rfl rfl)
theorem dX10_go_268 : decode cX10_go 268 = .ok (.goto 4, 3) := dk_167 0 4 (dk_at dksX10_go_11 13 rfl rfl)
theorem dX10_go_271 : decode cX10_go 271 = .ok (.iconst 0, 1) := dk_3 (dk_at dksX10_go_11 16 rfl rfl)
theorem dX10_go_272 : decode cX10_go 272 = .ok (.istore_n 3, 1) := dk_62 (dk_at dksX10_go_11 17 rfl rfl)
theorem dX10_go_273 : decode cX10_go 273 = .ok (.aload_n 0, 1) := dk_42 (dk_at dksX10_go_11 18 rfl rfl)
theorem dX10_go_274 : decode cX10_go 274 = .ok (.getfield 21, 3) := dk_180 0 21 (dk_at dksX10_go_11 19 rfl rfl)
theorem dX10_go_277 : decode cX10_go 277 = .ok (.aload_n 0, 1) := dk_42 (dk_at dksX10_go_11 22 rfl rfl)
theorem dX10_go_278 : decode cX10_go 278 = .ok (.getfield 24, 3) := dk_180 0 24 (dk_at dksX10_go_12 0 rfl rfl)
theorem dX10_go_281 : decode cX10_go 281 = .ok (.isub, 1) := dk_100 (dk_at dksX10_go_12 3 rfl rfl)
theorem dX10_go_282 : decode cX10_go 282 = .ok (.bipush 7, 2) := dk_16 7 (dk_at dksX10_go_12 4 rfl rfl)
theorem dX10_go_284 : decode cX10_go 284 = .ok (.if_icmp .ge 23, 3) := dk_162 0 23 (dk_at dksX10_go_12 6 rfl rfl)
theorem dX10_go_287 : decode cX10_go 287 = .ok (.aload_n 0, 1) := dk_42 (dk_at dksX10_go_12 9 rfl rfl)
theorem dX10_go_288 : decode cX10_go 288 = .ok (.ldc2_w 54, 3) := dk_20 0 54 (dk_at dksX10_go_12 10 rfl rfl)
theorem dX10_go_291 : decode cX10_go 291 = .ok (.aload_n 0, 1) := dk_42 (dk_at dksX10_go_12 13 rfl rfl)
theorem dX10_go_292 : decode cX10_go 292 = .ok (.getfield 43, 3) := dk_180 0 43 (dk_at dksX10_go_12 14 rfl rfl)
theorem dX10_go_295 : decode cX10_go 295 = .ok (.lmul, 1) := dk_105 (dk_at dksX10_go_12 17 rfl rfl)
theorem dX10_go_296 : decode cX10_go 296 = .ok (.iload 4, 2) := dk_21 4 (dk_at dksX10_go_12 18 rfl rfl)
theorem dX10_go_298 : decode cX10_go 298 = .ok (.i2l, 1) := dk_133 (dk_at dksX10_go_12 20 rfl rfl)
theorem dX10_go_299 : decode cX10_go 299 = .ok (.ladd, 1) := dk_97 (dk_at dksX10_go_12 21 rfl rfl)
theorem dX10_go_300 : decode cX10_go 300 = .ok (.ldc2_w 56, 3) := dk_20 0 56 (dk_at dksX10_go_13 0 rfl rfl)
theorem dX10_go_303 : decode cX10_go 303 = .ok (.lsub, 1) := dk_101 (dk_at dksX10_go_13 3 rfl rfl)
theorem dX10_go_304 : decode cX10_go 304 = .ok (.putfield 43, 3) := dk_181 0 43 (dk_at dksX10_go_13 4 rfl rfl)
theorem dX10_go_307 : decode cX10_go 307 = .ok (.aload_n 0, 1) := dk_42 (dk_at dksX10_go_13 7 rfl rfl)
theorem dX10_go_308 : decode cX10_go 308 = .ok (.getfield 21, 3) := dk_180 0 21 (dk_at dksX10_go_13 8 rfl rfl)
theorem dX10_go_311 : decode cX10_go 311 = .ok (.aload_n 0, 1) := dk_42 (dk_at dksX10_go_13 11 rfl rfl)
theorem dX10_go_312 : decode cX10_go 312 = .ok (.getfield 24, 3) := dk_180 0 24 (dk_at dksX10_go_13 12 rfl rfl)
theorem dX10_go_315 : decode cX10_go 315 = .ok (.isub, 1) := dk_100 (dk_at dksX10_go_13 15 rfl rfl)
theorem dX10_go_316 : decode cX10_go 316 = .ok (.iconst 3, 1) := dk_6 (dk_at dksX10_go_13 16 rfl rfl)
theorem dX10_go_317 : decode cX10_go 317 = .ok (.if_icmp .ge 20, 3) := dk_162 0 20 (dk_at dksX10_go_13 17 rfl rfl)
theorem dX10_go_320 : decode cX10_go 320 = .ok (.aload_n 0, 1) := dk_42 (dk_at dksX10_go_13 20 rfl rfl)
theorem dX10_go_321 : decode cX10_go 321 = .ok (.bipush 10, 2) := dk_16 10 (dk_at dksX10_go_13 21 rfl rfl)
theorem dX10_go_323 : decode cX10_go 323 = .ok (.aload_n 0, 1) := dk_42 (dk_at dksX10_go_13 23 rfl rfl)
theorem dX10_go_324 : decode cX10_go 324 = .ok (.getfield 47, 3) := dk_180 0 47 (dk_at dksX10_go_14 0 rfl rfl)
theorem dX10_go_327 : decode cX10_go 327 = .ok (.imul, 1) := dk_104 (dk_at dksX10_go_14 3 rfl rfl)
theorem dX10_go_328 : decode cX10_go 328 = .ok (.iload 4, 2) := dk_21 4 (dk_at dksX10_go_14 4 rfl rfl)
theorem dX10_go_330 : decode cX10_go 330 = .ok (.iadd, 1) := dk_96 (dk_at dksX10_go_14 6 rfl rfl)
theorem dX10_go_331 : decode cX10_go 331 = .ok (.bipush 48, 2) := dk_16 48 (dk_at dksX10_go_14 7 rfl rfl)
theorem dX10_go_333 : decode cX10_go 333 = .ok (.isub, 1) := dk_100 (dk_at dksX10_go_14 9 rfl rfl)
theorem dX10_go_334 : decode cX10_go 334 = .ok (.putfield 47, 3) := dk_181 0 47 (dk_at dksX10_go_14 10 rfl rfl)
theorem dX10_go_337 : decode cX10_go 337 = .ok (.aload_n 0, 1) := dk_42 (dk_at dksX10_go_14 13 rfl rfl)
theorem dX10_go_338 : decode cX10_go 338 = .ok (.dup, 1) := dk_89 (dk_at dksX10_go_14 14 rfl rfl)
theorem dX10_go_339 : decode cX10_go 339 = .ok (.getfield 21, 3) := dk_180 0 21 (dk_at dksX10_go_14 15 rfl rfl)
theorem dX10_go_342 : decode cX10_go 342 = .ok (.iconst 1, 1) := dk_4 (dk_at dksX10_go_14 18 rfl rfl)
theorem dX10_go_343 : decode cX10_go 343 = .ok (.iadd, 1) := dk_96 (dk_at dksX10_go_14 19 rfl rfl)
theorem dX10_go_344 : decode cX10_go 344 = .ok (.putfield 21, 3) := dk_181 0 21 (dk_at dksX10_go_14 20 rfl rfl)
theorem dX10_go_347 : decode cX10_go 347 = .ok (.goto (-132), 3) := dk_167 255 124 (dk_at dksX10_go_15 0 rfl rfl)
theorem dX10_go_350 : decode cX10_go 350 = .ok (.aload_n 0, 1) := dk_42 (dk_at dksX10_go_15 3 rfl rfl)
theorem dX10_go_351 : decode cX10_go 351 = .ok (.iload_n 3, 1) := dk_29 (dk_at dksX10_go_15 4 rfl rfl)
theorem dX10_go_352 : decode cX10_go 352 = .ok (.ifCond .eq 25, 3) := dk_153 0 25 (dk_at dksX10_go_15 5 rfl rfl)
theorem dX10_go_355 : decode cX10_go 355 = .ok (.aload_n 0, 1) := dk_42 (dk_at dksX10_go_15 8 rfl rfl)
theorem dX10_go_356 : decode cX10_go 356 = .ok (.getfield 21, 3) := dk_180 0 21 (dk_at dksX10_go_15 9 rfl rfl)
theorem dX10_go_359 : decode cX10_go 359 = .ok (.aload_n 0, 1) := dk_42 (dk_at dksX10_go_15 12 rfl rfl)
theorem dX10_go_360 : decode cX10_go 360 = .ok (.getfield 24, 3) := dk_180 0 24 (dk_at dksX10_go_15 13 rfl rfl)
theorem dX10_go_363 : decode cX10_go 363 = .ok (.isub, 1) := dk_100 (dk_at dksX10_go_15 16 rfl rfl)
theorem dX10_go_364 : decode cX10_go 364 = .ok (.iload_n 2, 1) := dk_28 (dk_at dksX10_go_15 17 rfl rfl)
theorem dX10_go_365 : decode cX10_go 365 = .ok (.ifCond .eq 8, 3) := dk_153 0 8 (dk_at dksX10_go_15 18 rfl rfl)
theorem dX10_go_368 : decode cX10_go 368 = .ok (.bipush 7, 2) := dk_16 7 (dk_at dksX10_go_15 21 rfl rfl)
theorem dX10_go_370 : decode cX10_go 370 = .ok (.goto 4, 3) := dk_167 0 4 (dk_at dksX10_go_16 0 rfl rfl)
theorem dX10_go_373 : decode cX10_go 373 = .ok (.iconst 3, 1) := dk_6 (dk_at dksX10_go_16 3 rfl rfl)
theorem dX10_go_374 : decode cX10_go 374 = .ok (.if_icmp .le 7, 3) := dk_164 0 7 (dk_at dksX10_go_16 4 rfl rfl)
theorem dX10_go_377 : decode cX10_go 377 = .ok (.iconst 1, 1) := dk_4 (dk_at dksX10_go_16 7 rfl rfl)
theorem dX10_go_378 : decode cX10_go 378 = .ok (.goto 12, 3) := dk_167 0 12 (dk_at dksX10_go_16 8 rfl rfl)
theorem dX10_go_381 : decode cX10_go 381 = .ok (.iload_n 2, 1) := dk_28 (dk_at dksX10_go_16 11 rfl rfl)
theorem dX10_go_382 : decode cX10_go 382 = .ok (.ifCond .eq 7, 3) := dk_153 0 7 (dk_at dksX10_go_16 12 rfl rfl)
theorem dX10_go_385 : decode cX10_go 385 = .ok (.iconst 2, 1) := dk_5 (dk_at dksX10_go_16 15 rfl rfl)
theorem dX10_go_386 : decode cX10_go 386 = .ok (.goto 4, 3) := dk_167 0 4 (dk_at dksX10_go_16 16 rfl rfl)
theorem dX10_go_389 : decode cX10_go 389 = .ok (.iconst 3, 1) := dk_6 (dk_at dksX10_go_16 19 rfl rfl)
theorem dX10_go_390 : decode cX10_go 390 = .ok (.putfield 30, 3) := dk_181 0 30 (dk_at dksX10_go_16 20 rfl rfl)
theorem dX10_go_393 : decode cX10_go 393 = .ok (.return_, 1) := dk_177 (dk_at dksX10_go_16 23 rfl rfl)
abbrev cX10_isLetter : ByteArray := prog_23_method_11_code
def yX10_isLetter : MethodName := ⟨RX10, "isLette\x72", "(I)Z"⟩
def dkwX10_isLetter_0 : List UInt8 := [26, 16, 97, 161, 0, 13, 26, 16, 122, 163, 0, 7, 4, 167, 0, 4, 3, 172]
abbrev dktX10_isLetter_0 : List UInt8 := dkwX10_isLetter_0 ++ []
theorem dksX10_isLetter_0 : cX10_isLetter.data.toList.drop 0 = dktX10_isLetter_0 := by decide +kernel
theorem dX10_isLetter_0 : decode cX10_isLetter 0 = .ok (.iload_n 0, 1) := dk_26 (dk_at dksX10_isLetter_0 0 rfl rfl)
theorem dX10_isLetter_1 : decode cX10_isLetter 1 = .ok (.bipush 97, 2) := dk_16 97 (dk_at dksX10_isLetter_0 1 rfl rfl)
theorem dX10_isLetter_3 : decode cX10_isLetter 3 = .ok (.if_icmp .lt 13, 3) := dk_161 0 13 (dk_at dksX10_isLetter_0 3 rfl rfl)
theorem dX10_isLetter_6 : decode cX10_isLetter 6 = .ok (.iload_n 0, 1) := dk_26 (dk_at dksX10_isLetter_0 6 rfl rfl)
theorem dX10_isLetter_7 : decode cX10_isLetter 7 = .ok (.bipush 122, 2) := dk_16 122 (dk_at dksX10_isLetter_0 7 rfl rfl)
theorem dX10_isLetter_9 : decode cX10_isLetter 9 = .ok (.if_icmp .gt 7, 3) := dk_163 0 7 (dk_at dksX10_isLetter_0 9 rfl rfl)
theorem dX10_isLetter_12 : decode cX10_isLetter 12 = .ok (.iconst 1, 1) := dk_4 (dk_at dksX10_isLetter_0 12 rfl rfl)
theorem dX10_isLetter_13 : decode cX10_isLetter 13 = .ok (.goto 4, 3) := dk_167 0 4 (dk_at dksX10_isLetter_0 13 rfl rfl)
theorem dX10_isLetter_16 : decode cX10_isLetter 16 = .ok (.iconst 0, 1) := dk_3 (dk_at dksX10_isLetter_0 16 rfl rfl)
theorem dX10_isLetter_17 : decode cX10_isLetter 17 = .ok (.ireturn, 1) := dk_172 (dk_at dksX10_isLetter_0 17 rfl rfl)
abbrev cX10_isDigit : ByteArray := prog_23_method_10_code
def yX10_isDigit : MethodName := ⟨RX10, "isDigit", "(I)Z"⟩
def dkwX10_isDigit_0 : List UInt8 := [26, 16, 48, 161, 0, 13, 26, 16, 57, 163, 0, 7, 4, 167, 0, 4, 3, 172]
abbrev dktX10_isDigit_0 : List UInt8 := dkwX10_isDigit_0 ++ []
theorem dksX10_isDigit_0 : cX10_isDigit.data.toList.drop 0 = dktX10_isDigit_0 := by decide +kernel
theorem dX10_isDigit_0 : decode cX10_isDigit 0 = .ok (.iload_n 0, 1) := dk_26 (dk_at dksX10_isDigit_0 0 rfl rfl)
theorem dX10_isDigit_1 : decode cX10_isDigit 1 = .ok (.bipush 48, 2) := dk_16 48 (dk_at dksX10_isDigit_0 1 rfl rfl)
theorem dX10_isDigit_3 : decode cX10_isDigit 3 = .ok (.if_icmp .lt 13, 3) := dk_161 0 13 (dk_at dksX10_isDigit_0 3 rfl rfl)
theorem dX10_isDigit_6 : decode cX10_isDigit 6 = .ok (.iload_n 0, 1) := dk_26 (dk_at dksX10_isDigit_0 6 rfl rfl)
theorem dX10_isDigit_7 : decode cX10_isDigit 7 = .ok (.bipush 57, 2) := dk_16 57 (dk_at dksX10_isDigit_0 7 rfl rfl)
theorem dX10_isDigit_9 : decode cX10_isDigit 9 = .ok (.if_icmp .gt 7, 3) := dk_163 0 7 (dk_at dksX10_isDigit_0 9 rfl rfl)
theorem dX10_isDigit_12 : decode cX10_isDigit 12 = .ok (.iconst 1, 1) := dk_4 (dk_at dksX10_isDigit_0 12 rfl rfl)
theorem dX10_isDigit_13 : decode cX10_isDigit 13 = .ok (.goto 4, 3) := dk_167 0 4 (dk_at dksX10_isDigit_0 13 rfl rfl)
theorem dX10_isDigit_16 : decode cX10_isDigit 16 = .ok (.iconst 0, 1) := dk_3 (dk_at dksX10_isDigit_0 16 rfl rfl)
theorem dX10_isDigit_17 : decode cX10_isDigit 17 = .ok (.ireturn, 1) := dk_172 (dk_at dksX10_isDigit_0 17 rfl rfl)
abbrev cX10_tapeAt : ByteArray := prog_23_method_9_code
def yX10_tapeAt : MethodName := ⟨RX10, "tapeAt", "(I)I"⟩
def dkwX10_tapeAt_0 : List UInt8 := [27, 42, 180, 0, 18, 162, 0, 12, 42, 180, 0, 7, 27, 46, 167, 0, 4, 3, 172]
abbrev dktX10_tapeAt_0 : List UInt8 := dkwX10_tapeAt_0 ++ []
theorem dksX10_tapeAt_0 : cX10_tapeAt.data.toList.drop 0 = dktX10_tapeAt_0 := by decide +kernel
theorem dX10_tapeAt_0 : decode cX10_tapeAt 0 = .ok (.iload_n 1, 1) := dk_27 (dk_at dksX10_tapeAt_0 0 rfl rfl)
theorem dX10_tapeAt_1 : decode cX10_tapeAt 1 = .ok (.aload_n 0, 1) := dk_42 (dk_at dksX10_tapeAt_0 1 rfl rfl)
theorem dX10_tapeAt_2 : decode cX10_tapeAt 2 = .ok (.getfield 18, 3) := dk_180 0 18 (dk_at dksX10_tapeAt_0 2 rfl rfl)
theorem dX10_tapeAt_5 : decode cX10_tapeAt 5 = .ok (.if_icmp .ge 12, 3) := dk_162 0 12 (dk_at dksX10_tapeAt_0 5 rfl rfl)
theorem dX10_tapeAt_8 : decode cX10_tapeAt 8 = .ok (.aload_n 0, 1) := dk_42 (dk_at dksX10_tapeAt_0 8 rfl rfl)
theorem dX10_tapeAt_9 : decode cX10_tapeAt 9 = .ok (.getfield 7, 3) := dk_180 0 7 (dk_at dksX10_tapeAt_0 9 rfl rfl)
theorem dX10_tapeAt_12 : decode cX10_tapeAt 12 = .ok (.iload_n 1, 1) := dk_27 (dk_at dksX10_tapeAt_0 12 rfl rfl)
theorem dX10_tapeAt_13 : decode cX10_tapeAt 13 = .ok (.iaload, 1) := dk_46 (dk_at dksX10_tapeAt_0 13 rfl rfl)
theorem dX10_tapeAt_14 : decode cX10_tapeAt 14 = .ok (.goto 4, 3) := dk_167 0 4 (dk_at dksX10_tapeAt_0 14 rfl rfl)
theorem dX10_tapeAt_17 : decode cX10_tapeAt 17 = .ok (.iconst 0, 1) := dk_3 (dk_at dksX10_tapeAt_0 17 rfl rfl)
theorem dX10_tapeAt_18 : decode cX10_tapeAt 18 = .ok (.ireturn, 1) := dk_172 (dk_at dksX10_tapeAt_0 18 rfl rfl)
abbrev cX10_readLine : ByteArray := prog_23_method_30_code
def yX10_readLine : MethodName := ⟨RX10, "readLine", "(I)Z"⟩
def dkwX10_readLine_2 : List UInt8 := [172]
abbrev dktX10_readLine_2 : List UInt8 := dkwX10_readLine_2 ++ []
def dkwX10_readLine_1 : List UInt8 := [182, 0, 174, 172, 42, 5, 182, 0, 168, 153, 0, 10, 42, 182, 0, 177, 167, 0, 8, 42, 4, 182, 0, 72]
abbrev dktX10_readLine_1 : List UInt8 := dkwX10_readLine_1 ++ dktX10_readLine_2
def dkwX10_readLine_0 : List UInt8 := [42, 3, 182, 0, 168, 153, 0, 9, 42, 27, 182, 0, 171, 172, 42, 4, 182, 0, 168, 153, 0, 8, 42]
abbrev dktX10_readLine_0 : List UInt8 := dkwX10_readLine_0 ++ dktX10_readLine_1
theorem dksX10_readLine_0 : cX10_readLine.data.toList.drop 0 = dktX10_readLine_0 := by decide +kernel
theorem dksX10_readLine_1 : cX10_readLine.data.toList.drop 23 = dktX10_readLine_1 := dk_seg dksX10_readLine_0 23 rfl rfl
theorem dksX10_readLine_2 : cX10_readLine.data.toList.drop 47 = dktX10_readLine_2 := dk_seg dksX10_readLine_1 24 rfl rfl
theorem dX10_readLine_0 : decode cX10_readLine 0 = .ok (.aload_n 0, 1) := dk_42 (dk_at dksX10_readLine_0 0 rfl rfl)
theorem dX10_readLine_1 : decode cX10_readLine 1 = .ok (.iconst 0, 1) := dk_3 (dk_at dksX10_readLine_0 1 rfl rfl)
theorem dX10_readLine_2 : decode cX10_readLine 2 = .ok (.invokevirtual 168, 3) := dk_182 0 168 (dk_at dksX10_readLine_0 2 rfl rfl)
theorem dX10_readLine_5 : decode cX10_readLine 5 = .ok (.ifCond .eq 9, 3) := dk_153 0 9 (dk_at dksX10_readLine_0 5 rfl rfl)
theorem dX10_readLine_8 : decode cX10_readLine 8 = .ok (.aload_n 0, 1) := dk_42 (dk_at dksX10_readLine_0 8 rfl rfl)
theorem dX10_readLine_9 : decode cX10_readLine 9 = .ok (.iload_n 1, 1) := dk_27 (dk_at dksX10_readLine_0 9 rfl rfl)
theorem dX10_readLine_10 : decode cX10_readLine 10 = .ok (.invokevirtual 171, 3) := dk_182 0 171 (dk_at dksX10_readLine_0 10 rfl rfl)
theorem dX10_readLine_13 : decode cX10_readLine 13 = .ok (.ireturn, 1) := dk_172 (dk_at dksX10_readLine_0 13 rfl rfl)
theorem dX10_readLine_14 : decode cX10_readLine 14 = .ok (.aload_n 0, 1) := dk_42 (dk_at dksX10_readLine_0 14 rfl rfl)
theorem dX10_readLine_15 : decode cX10_readLine 15 = .ok (.iconst 1, 1) := dk_4 (dk_at dksX10_readLine_0 15 rfl rfl)
theorem dX10_readLine_16 : decode cX10_readLine 16 = .ok (.invokevirtual 168, 3) := dk_182 0 168 (dk_at dksX10_readLine_0 16 rfl rfl)
theorem dX10_readLine_19 : decode cX10_readLine 19 = .ok (.ifCond .eq 8, 3) := dk_153 0 8 (dk_at dksX10_readLine_0 19 rfl rfl)
theorem dX10_readLine_22 : decode cX10_readLine 22 = .ok (.aload_n 0, 1) := dk_42 (dk_at dksX10_readLine_0 22 rfl rfl)
theorem dX10_readLine_23 : decode cX10_readLine 23 = .ok (.invokevirtual 174, 3) := dk_182 0 174 (dk_at dksX10_readLine_1 0 rfl rfl)
theorem dX10_readLine_26 : decode cX10_readLine 26 = .ok (.ireturn, 1) := dk_172 (dk_at dksX10_readLine_1 3 rfl rfl)
theorem dX10_readLine_27 : decode cX10_readLine 27 = .ok (.aload_n 0, 1) := dk_42 (dk_at dksX10_readLine_1 4 rfl rfl)
theorem dX10_readLine_28 : decode cX10_readLine 28 = .ok (.iconst 2, 1) := dk_5 (dk_at dksX10_readLine_1 5 rfl rfl)
theorem dX10_readLine_29 : decode cX10_readLine 29 = .ok (.invokevirtual 168, 3) := dk_182 0 168 (dk_at dksX10_readLine_1 6 rfl rfl)
theorem dX10_readLine_32 : decode cX10_readLine 32 = .ok (.ifCond .eq 10, 3) := dk_153 0 10 (dk_at dksX10_readLine_1 9 rfl rfl)
theorem dX10_readLine_35 : decode cX10_readLine 35 = .ok (.aload_n 0, 1) := dk_42 (dk_at dksX10_readLine_1 12 rfl rfl)
theorem dX10_readLine_36 : decode cX10_readLine 36 = .ok (.invokevirtual 177, 3) := dk_182 0 177 (dk_at dksX10_readLine_1 13 rfl rfl)
theorem dX10_readLine_39 : decode cX10_readLine 39 = .ok (.goto 8, 3) := dk_167 0 8 (dk_at dksX10_readLine_1 16 rfl rfl)
theorem dX10_readLine_42 : decode cX10_readLine 42 = .ok (.aload_n 0, 1) := dk_42 (dk_at dksX10_readLine_1 19 rfl rfl)
theorem dX10_readLine_43 : decode cX10_readLine 43 = .ok (.iconst 1, 1) := dk_4 (dk_at dksX10_readLine_1 20 rfl rfl)
theorem dX10_readLine_44 : decode cX10_readLine 44 = .ok (.invokevirtual 72, 3) := dk_182 0 72 (dk_at dksX10_readLine_1 21 rfl rfl)
theorem dX10_readLine_47 : decode cX10_readLine 47 = .ok (.ireturn, 1) := dk_172 (dk_at dksX10_readLine_2 0 rfl rfl)
abbrev cX10_isWord : ByteArray := prog_23_method_15_code
def yX10_isWord : MethodName := ⟨RX10, "isWord", "(I)Z"⟩
def dkwX10_isWord_1 : List UInt8 := [3, 172]
abbrev dktX10_isWord_1 : List UInt8 := dkwX10_isWord_1 ++ []
def dkwX10_isWord_0 : List UInt8 := [42, 180, 0, 30, 5, 160, 0, 19, 42, 180, 0, 43, 27, 184, 0, 62, 148, 154, 0, 7, 4, 167, 0, 4]
abbrev dktX10_isWord_0 : List UInt8 := dkwX10_isWord_0 ++ dktX10_isWord_1
theorem dksX10_isWord_0 : cX10_isWord.data.toList.drop 0 = dktX10_isWord_0 := by decide +kernel
theorem dksX10_isWord_1 : cX10_isWord.data.toList.drop 24 = dktX10_isWord_1 := dk_seg dksX10_isWord_0 24 rfl rfl
theorem dX10_isWord_0 : decode cX10_isWord 0 = .ok (.aload_n 0, 1) := dk_42 (dk_at dksX10_isWord_0 0 rfl rfl)
theorem dX10_isWord_1 : decode cX10_isWord 1 = .ok (.getfield 30, 3) := dk_180 0 30 (dk_at dksX10_isWord_0 1 rfl rfl)
theorem dX10_isWord_4 : decode cX10_isWord 4 = .ok (.iconst 2, 1) := dk_5 (dk_at dksX10_isWord_0 4 rfl rfl)
theorem dX10_isWord_5 : decode cX10_isWord 5 = .ok (.if_icmp .ne 19, 3) := dk_160 0 19 (dk_at dksX10_isWord_0 5 rfl rfl)
theorem dX10_isWord_8 : decode cX10_isWord 8 = .ok (.aload_n 0, 1) := dk_42 (dk_at dksX10_isWord_0 8 rfl rfl)
theorem dX10_isWord_9 : decode cX10_isWord 9 = .ok (.getfield 43, 3) := dk_180 0 43 (dk_at dksX10_isWord_0 9 rfl rfl)
theorem dX10_isWord_12 : decode cX10_isWord 12 = .ok (.iload_n 1, 1) := dk_27 (dk_at dksX10_isWord_0 12 rfl rfl)
theorem dX10_isWord_13 : decode cX10_isWord 13 = .ok (.invokestatic 62, 3) := dk_184 0 62 (dk_at dksX10_isWord_0 13 rfl rfl)
theorem dX10_isWord_16 : decode cX10_isWord 16 = .ok (.lcmp, 1) := dk_148 (dk_at dksX10_isWord_0 16 rfl rfl)
theorem dX10_isWord_17 : decode cX10_isWord 17 = .ok (.ifCond .ne 7, 3) := dk_154 0 7 (dk_at dksX10_isWord_0 17 rfl rfl)
theorem dX10_isWord_20 : decode cX10_isWord 20 = .ok (.iconst 1, 1) := dk_4 (dk_at dksX10_isWord_0 20 rfl rfl)
theorem dX10_isWord_21 : decode cX10_isWord 21 = .ok (.goto 4, 3) := dk_167 0 4 (dk_at dksX10_isWord_0 21 rfl rfl)
theorem dX10_isWord_24 : decode cX10_isWord 24 = .ok (.iconst 0, 1) := dk_3 (dk_at dksX10_isWord_1 0 rfl rfl)
theorem dX10_isWord_25 : decode cX10_isWord 25 = .ok (.ireturn, 1) := dk_172 (dk_at dksX10_isWord_1 1 rfl rfl)
abbrev cX10_wordOf : ByteArray := prog_23_method_14_code
def yX10_wordOf : MethodName := ⟨RX10, "wordOf", "(I)J"⟩
def dkwX10_wordOf_16 : List UInt8 := [16, 110, 16, 117, 16, 109, 16, 98, 16, 101, 16, 114, 3, 184, 0, 58, 173]
abbrev dktX10_wordOf_16 : List UInt8 := dkwX10_wordOf_16 ++ []
def dkwX10_wordOf_15 : List UInt8 := [3, 3, 184, 0, 58, 173, 16, 108, 16, 101, 16, 97, 16, 118, 16, 101, 16, 115, 3, 184, 0, 58, 173]
abbrev dktX10_wordOf_15 : List UInt8 := dkwX10_wordOf_15 ++ dktX10_wordOf_16
def dkwX10_wordOf_14 : List UInt8 := [16, 111, 16, 110, 16, 101, 16, 115, 3, 3, 3, 184, 0, 58, 173, 16, 114, 16, 117, 16, 110, 16, 115, 3]
abbrev dktX10_wordOf_14 : List UInt8 := dkwX10_wordOf_14 ++ dktX10_wordOf_15
def dkwX10_wordOf_13 : List UInt8 := [16, 110, 16, 115, 3, 184, 0, 58, 173, 16, 115, 16, 105, 16, 122, 16, 101, 3, 3, 3, 184, 0, 58, 173]
abbrev dktX10_wordOf_13 : List UInt8 := dkwX10_wordOf_13 ++ dktX10_wordOf_14
def dkwX10_wordOf_12 : List UInt8 := [173, 16, 108, 16, 105, 16, 107, 16, 101, 3, 3, 3, 184, 0, 58, 173, 16, 98, 16, 101, 16, 103, 16, 105]
abbrev dktX10_wordOf_12 : List UInt8 := dkwX10_wordOf_12 ++ dktX10_wordOf_13
def dkwX10_wordOf_11 : List UInt8 := [16, 116, 16, 121, 3, 3, 184, 0, 58, 173, 16, 101, 16, 118, 16, 101, 16, 110, 3, 3, 3, 184, 0, 58]
abbrev dktX10_wordOf_11 : List UInt8 := dkwX10_wordOf_11 ++ dktX10_wordOf_12
def dkwX10_wordOf_10 : List UInt8 := [184, 0, 58, 173, 16, 110, 16, 111, 16, 116, 3, 3, 3, 3, 184, 0, 58, 173, 16, 101, 16, 109, 16, 112]
abbrev dktX10_wordOf_10 : List UInt8 := dkwX10_wordOf_10 ++ dktX10_wordOf_11
def dkwX10_wordOf_9 : List UInt8 := [16, 111, 16, 114, 3, 3, 3, 3, 3, 184, 0, 58, 173, 16, 97, 16, 110, 16, 100, 3, 3, 3, 3]
abbrev dktX10_wordOf_9 : List UInt8 := dkwX10_wordOf_9 ++ dktX10_wordOf_10
def dkwX10_wordOf_8 : List UInt8 := [3, 3, 3, 184, 0, 58, 173, 16, 101, 16, 114, 16, 97, 16, 115, 16, 101, 3, 3, 184, 0, 58, 173]
abbrev dktX10_wordOf_8 : List UInt8 := dkwX10_wordOf_8 ++ dktX10_wordOf_9
def dkwX10_wordOf_7 : List UInt8 := [16, 115, 16, 112, 16, 108, 16, 105, 16, 116, 3, 3, 184, 0, 58, 173, 16, 116, 16, 121, 16, 112, 16, 101]
abbrev dktX10_wordOf_7 : List UInt8 := dkwX10_wordOf_7 ++ dktX10_wordOf_8
def dkwX10_wordOf_6 : List UInt8 := [16, 110, 3, 3, 3, 184, 0, 58, 173, 16, 106, 16, 111, 16, 105, 16, 110, 3, 3, 3, 184, 0, 58, 173]
abbrev dktX10_wordOf_6 : List UInt8 := dkwX10_wordOf_6 ++ dktX10_wordOf_7
def dkwX10_wordOf_5 : List UInt8 := [184, 0, 58, 173, 16, 99, 16, 117, 16, 116, 3, 3, 3, 3, 184, 0, 58, 173, 16, 116, 16, 117, 16, 114]
abbrev dktX10_wordOf_5 : List UInt8 := dkwX10_wordOf_5 ++ dktX10_wordOf_6
def dkwX10_wordOf_4 : List UInt8 := [16, 112, 16, 117, 16, 116, 3, 3, 3, 3, 184, 0, 58, 173, 16, 115, 16, 101, 16, 116, 3, 3, 3, 3]
abbrev dktX10_wordOf_4 : List UInt8 := dkwX10_wordOf_4 ++ dktX10_wordOf_5
def dkwX10_wordOf_3 : List UInt8 := [3, 184, 0, 58, 173, 16, 108, 16, 101, 16, 116, 16, 116, 16, 101, 16, 114, 16, 115, 184, 0, 58, 173]
abbrev dktX10_wordOf_3 : List UInt8 := dkwX10_wordOf_3 ++ dktX10_wordOf_4
def dkwX10_wordOf_2 : List UInt8 := [16, 108, 16, 101, 16, 97, 16, 102, 3, 3, 3, 184, 0, 58, 173, 16, 114, 16, 111, 16, 119, 3, 3, 3]
abbrev dktX10_wordOf_2 : List UInt8 := dkwX10_wordOf_2 ++ dktX10_wordOf_3
def dkwX10_wordOf_1 : List UInt8 := [170, 0, 0, 0, 0, 1, 179, 0, 0, 0, 0, 0, 0, 0, 21, 0, 0, 0, 103, 0, 0, 0, 118, 0, 0, 0, 132, 0, 0, 0, 150, 0, 0, 0, 164, 0, 0, 0, 178, 0, 0, 0, 192, 0, 0, 0, 207, 0, 0, 0, 222, 0, 0, 0, 238, 0, 0, 0, 253, 0, 0, 1, 13, 0, 0, 1, 26, 0, 0, 1, 40, 0, 0, 1, 54, 0, 0, 1, 70, 0, 0, 1, 85, 0, 0, 1, 100, 0, 0, 1, 117, 0, 0, 1, 132, 0, 0, 1, 147, 0, 0, 1, 162]
abbrev dktX10_wordOf_1 : List UInt8 := dkwX10_wordOf_1 ++ dktX10_wordOf_2
def dkwX10_wordOf_0 : List UInt8 := [26]
abbrev dktX10_wordOf_0 : List UInt8 := dkwX10_wordOf_0 ++ dktX10_wordOf_1
theorem dksX10_wordOf_0 : cX10_wordOf.data.toList.drop 0 = dktX10_wordOf_0 := by decide +kernel
theorem dksX10_wordOf_1 : cX10_wordOf.data.toList.drop 1 = dktX10_wordOf_1 := dk_seg dksX10_wordOf_0 1 rfl rfl
theorem dksX10_wordOf_2 : cX10_wordOf.data.toList.drop 104 = dktX10_wordOf_2 := dk_seg dksX10_wordOf_1 103 rfl rfl
theorem dksX10_wordOf_3 : cX10_wordOf.data.toList.drop 128 = dktX10_wordOf_3 := dk_seg dksX10_wordOf_2 24 rfl rfl
theorem dksX10_wordOf_4 : cX10_wordOf.data.toList.drop 151 = dktX10_wordOf_4 := dk_seg dksX10_wordOf_3 23 rfl rfl
theorem dksX10_wordOf_5 : cX10_wordOf.data.toList.drop 175 = dktX10_wordOf_5 := dk_seg dksX10_wordOf_4 24 rfl rfl
theorem dksX10_wordOf_6 : cX10_wordOf.data.toList.drop 199 = dktX10_wordOf_6 := dk_seg dksX10_wordOf_5 24 rfl rfl
theorem dksX10_wordOf_7 : cX10_wordOf.data.toList.drop 223 = dktX10_wordOf_7 := dk_seg dksX10_wordOf_6 24 rfl rfl
theorem dksX10_wordOf_8 : cX10_wordOf.data.toList.drop 247 = dktX10_wordOf_8 := dk_seg dksX10_wordOf_7 24 rfl rfl
theorem dksX10_wordOf_9 : cX10_wordOf.data.toList.drop 270 = dktX10_wordOf_9 := dk_seg dksX10_wordOf_8 23 rfl rfl
theorem dksX10_wordOf_10 : cX10_wordOf.data.toList.drop 293 = dktX10_wordOf_10 := dk_seg dksX10_wordOf_9 23 rfl rfl
theorem dksX10_wordOf_11 : cX10_wordOf.data.toList.drop 317 = dktX10_wordOf_11 := dk_seg dksX10_wordOf_10 24 rfl rfl
theorem dksX10_wordOf_12 : cX10_wordOf.data.toList.drop 341 = dktX10_wordOf_12 := dk_seg dksX10_wordOf_11 24 rfl rfl
theorem dksX10_wordOf_13 : cX10_wordOf.data.toList.drop 365 = dktX10_wordOf_13 := dk_seg dksX10_wordOf_12 24 rfl rfl
theorem dksX10_wordOf_14 : cX10_wordOf.data.toList.drop 389 = dktX10_wordOf_14 := dk_seg dksX10_wordOf_13 24 rfl rfl
theorem dksX10_wordOf_15 : cX10_wordOf.data.toList.drop 413 = dktX10_wordOf_15 := dk_seg dksX10_wordOf_14 24 rfl rfl
theorem dksX10_wordOf_16 : cX10_wordOf.data.toList.drop 436 = dktX10_wordOf_16 := dk_seg dksX10_wordOf_15 23 rfl rfl
theorem dX10_wordOf_0 : decode cX10_wordOf 0 = .ok (.iload_n 0, 1) := dk_26 (dk_at dksX10_wordOf_0 0 rfl rfl)
theorem dX10_wordOf_1 : decode cX10_wordOf 1 = .ok (.tableswitch 435 0 21 #[103, 118, 132, 150, 164, 178, 192, 207, 222, 238, 253, 269, 282, 296, 310, 326, 341, 356, 373, 388, 403, 418], 103) := by decide +kernel
theorem dX10_wordOf_104 : decode cX10_wordOf 104 = .ok (.bipush 108, 2) := dk_16 108 (dk_at dksX10_wordOf_2 0 rfl rfl)
theorem dX10_wordOf_106 : decode cX10_wordOf 106 = .ok (.bipush 101, 2) := dk_16 101 (dk_at dksX10_wordOf_2 2 rfl rfl)
theorem dX10_wordOf_108 : decode cX10_wordOf 108 = .ok (.bipush 97, 2) := dk_16 97 (dk_at dksX10_wordOf_2 4 rfl rfl)
theorem dX10_wordOf_110 : decode cX10_wordOf 110 = .ok (.bipush 102, 2) := dk_16 102 (dk_at dksX10_wordOf_2 6 rfl rfl)
theorem dX10_wordOf_112 : decode cX10_wordOf 112 = .ok (.iconst 0, 1) := dk_3 (dk_at dksX10_wordOf_2 8 rfl rfl)
theorem dX10_wordOf_113 : decode cX10_wordOf 113 = .ok (.iconst 0, 1) := dk_3 (dk_at dksX10_wordOf_2 9 rfl rfl)
theorem dX10_wordOf_114 : decode cX10_wordOf 114 = .ok (.iconst 0, 1) := dk_3 (dk_at dksX10_wordOf_2 10 rfl rfl)
theorem dX10_wordOf_115 : decode cX10_wordOf 115 = .ok (.invokestatic 58, 3) := dk_184 0 58 (dk_at dksX10_wordOf_2 11 rfl rfl)
theorem dX10_wordOf_118 : decode cX10_wordOf 118 = .ok (.lreturn, 1) := dk_173 (dk_at dksX10_wordOf_2 14 rfl rfl)
theorem dX10_wordOf_119 : decode cX10_wordOf 119 = .ok (.bipush 114, 2) := dk_16 114 (dk_at dksX10_wordOf_2 15 rfl rfl)
theorem dX10_wordOf_121 : decode cX10_wordOf 121 = .ok (.bipush 111, 2) := dk_16 111 (dk_at dksX10_wordOf_2 17 rfl rfl)
theorem dX10_wordOf_123 : decode cX10_wordOf 123 = .ok (.bipush 119, 2) := dk_16 119 (dk_at dksX10_wordOf_2 19 rfl rfl)
theorem dX10_wordOf_125 : decode cX10_wordOf 125 = .ok (.iconst 0, 1) := dk_3 (dk_at dksX10_wordOf_2 21 rfl rfl)
theorem dX10_wordOf_126 : decode cX10_wordOf 126 = .ok (.iconst 0, 1) := dk_3 (dk_at dksX10_wordOf_2 22 rfl rfl)
theorem dX10_wordOf_127 : decode cX10_wordOf 127 = .ok (.iconst 0, 1) := dk_3 (dk_at dksX10_wordOf_2 23 rfl rfl)
theorem dX10_wordOf_128 : decode cX10_wordOf 128 = .ok (.iconst 0, 1) := dk_3 (dk_at dksX10_wordOf_3 0 rfl rfl)
theorem dX10_wordOf_129 : decode cX10_wordOf 129 = .ok (.invokestatic 58, 3) := dk_184 0 58 (dk_at dksX10_wordOf_3 1 rfl rfl)
theorem dX10_wordOf_132 : decode cX10_wordOf 132 = .ok (.lreturn, 1) := dk_173 (dk_at dksX10_wordOf_3 4 rfl rfl)
theorem dX10_wordOf_133 : decode cX10_wordOf 133 = .ok (.bipush 108, 2) := dk_16 108 (dk_at dksX10_wordOf_3 5 rfl rfl)
theorem dX10_wordOf_135 : decode cX10_wordOf 135 = .ok (.bipush 101, 2) := dk_16 101 (dk_at dksX10_wordOf_3 7 rfl rfl)
theorem dX10_wordOf_137 : decode cX10_wordOf 137 = .ok (.bipush 116, 2) := dk_16 116 (dk_at dksX10_wordOf_3 9 rfl rfl)
theorem dX10_wordOf_139 : decode cX10_wordOf 139 = .ok (.bipush 116, 2) := dk_16 116 (dk_at dksX10_wordOf_3 11 rfl rfl)
theorem dX10_wordOf_141 : decode cX10_wordOf 141 = .ok (.bipush 101, 2) := dk_16 101 (dk_at dksX10_wordOf_3 13 rfl rfl)
theorem dX10_wordOf_143 : decode cX10_wordOf 143 = .ok (.bipush 114, 2) := dk_16 114 (dk_at dksX10_wordOf_3 15 rfl rfl)
theorem dX10_wordOf_145 : decode cX10_wordOf 145 = .ok (.bipush 115, 2) := dk_16 115 (dk_at dksX10_wordOf_3 17 rfl rfl)
theorem dX10_wordOf_147 : decode cX10_wordOf 147 = .ok (.invokestatic 58, 3) := dk_184 0 58 (dk_at dksX10_wordOf_3 19 rfl rfl)
theorem dX10_wordOf_150 : decode cX10_wordOf 150 = .ok (.lreturn, 1) := dk_173 (dk_at dksX10_wordOf_3 22 rfl rfl)
theorem dX10_wordOf_151 : decode cX10_wordOf 151 = .ok (.bipush 112, 2) := dk_16 112 (dk_at dksX10_wordOf_4 0 rfl rfl)
theorem dX10_wordOf_153 : decode cX10_wordOf 153 = .ok (.bipush 117, 2) := dk_16 117 (dk_at dksX10_wordOf_4 2 rfl rfl)
theorem dX10_wordOf_155 : decode cX10_wordOf 155 = .ok (.bipush 116, 2) := dk_16 116 (dk_at dksX10_wordOf_4 4 rfl rfl)
theorem dX10_wordOf_157 : decode cX10_wordOf 157 = .ok (.iconst 0, 1) := dk_3 (dk_at dksX10_wordOf_4 6 rfl rfl)
theorem dX10_wordOf_158 : decode cX10_wordOf 158 = .ok (.iconst 0, 1) := dk_3 (dk_at dksX10_wordOf_4 7 rfl rfl)
theorem dX10_wordOf_159 : decode cX10_wordOf 159 = .ok (.iconst 0, 1) := dk_3 (dk_at dksX10_wordOf_4 8 rfl rfl)
theorem dX10_wordOf_160 : decode cX10_wordOf 160 = .ok (.iconst 0, 1) := dk_3 (dk_at dksX10_wordOf_4 9 rfl rfl)
theorem dX10_wordOf_161 : decode cX10_wordOf 161 = .ok (.invokestatic 58, 3) := dk_184 0 58 (dk_at dksX10_wordOf_4 10 rfl rfl)
theorem dX10_wordOf_164 : decode cX10_wordOf 164 = .ok (.lreturn, 1) := dk_173 (dk_at dksX10_wordOf_4 13 rfl rfl)
theorem dX10_wordOf_165 : decode cX10_wordOf 165 = .ok (.bipush 115, 2) := dk_16 115 (dk_at dksX10_wordOf_4 14 rfl rfl)
theorem dX10_wordOf_167 : decode cX10_wordOf 167 = .ok (.bipush 101, 2) := dk_16 101 (dk_at dksX10_wordOf_4 16 rfl rfl)
theorem dX10_wordOf_169 : decode cX10_wordOf 169 = .ok (.bipush 116, 2) := dk_16 116 (dk_at dksX10_wordOf_4 18 rfl rfl)
theorem dX10_wordOf_171 : decode cX10_wordOf 171 = .ok (.iconst 0, 1) := dk_3 (dk_at dksX10_wordOf_4 20 rfl rfl)
theorem dX10_wordOf_172 : decode cX10_wordOf 172 = .ok (.iconst 0, 1) := dk_3 (dk_at dksX10_wordOf_4 21 rfl rfl)
theorem dX10_wordOf_173 : decode cX10_wordOf 173 = .ok (.iconst 0, 1) := dk_3 (dk_at dksX10_wordOf_4 22 rfl rfl)
theorem dX10_wordOf_174 : decode cX10_wordOf 174 = .ok (.iconst 0, 1) := dk_3 (dk_at dksX10_wordOf_4 23 rfl rfl)
theorem dX10_wordOf_175 : decode cX10_wordOf 175 = .ok (.invokestatic 58, 3) := dk_184 0 58 (dk_at dksX10_wordOf_5 0 rfl rfl)
theorem dX10_wordOf_178 : decode cX10_wordOf 178 = .ok (.lreturn, 1) := dk_173 (dk_at dksX10_wordOf_5 3 rfl rfl)
theorem dX10_wordOf_179 : decode cX10_wordOf 179 = .ok (.bipush 99, 2) := dk_16 99 (dk_at dksX10_wordOf_5 4 rfl rfl)
theorem dX10_wordOf_181 : decode cX10_wordOf 181 = .ok (.bipush 117, 2) := dk_16 117 (dk_at dksX10_wordOf_5 6 rfl rfl)
theorem dX10_wordOf_183 : decode cX10_wordOf 183 = .ok (.bipush 116, 2) := dk_16 116 (dk_at dksX10_wordOf_5 8 rfl rfl)
theorem dX10_wordOf_185 : decode cX10_wordOf 185 = .ok (.iconst 0, 1) := dk_3 (dk_at dksX10_wordOf_5 10 rfl rfl)
theorem dX10_wordOf_186 : decode cX10_wordOf 186 = .ok (.iconst 0, 1) := dk_3 (dk_at dksX10_wordOf_5 11 rfl rfl)
theorem dX10_wordOf_187 : decode cX10_wordOf 187 = .ok (.iconst 0, 1) := dk_3 (dk_at dksX10_wordOf_5 12 rfl rfl)
theorem dX10_wordOf_188 : decode cX10_wordOf 188 = .ok (.iconst 0, 1) := dk_3 (dk_at dksX10_wordOf_5 13 rfl rfl)
theorem dX10_wordOf_189 : decode cX10_wordOf 189 = .ok (.invokestatic 58, 3) := dk_184 0 58 (dk_at dksX10_wordOf_5 14 rfl rfl)
theorem dX10_wordOf_192 : decode cX10_wordOf 192 = .ok (.lreturn, 1) := dk_173 (dk_at dksX10_wordOf_5 17 rfl rfl)
theorem dX10_wordOf_193 : decode cX10_wordOf 193 = .ok (.bipush 116, 2) := dk_16 116 (dk_at dksX10_wordOf_5 18 rfl rfl)
theorem dX10_wordOf_195 : decode cX10_wordOf 195 = .ok (.bipush 117, 2) := dk_16 117 (dk_at dksX10_wordOf_5 20 rfl rfl)
theorem dX10_wordOf_197 : decode cX10_wordOf 197 = .ok (.bipush 114, 2) := dk_16 114 (dk_at dksX10_wordOf_5 22 rfl rfl)
theorem dX10_wordOf_199 : decode cX10_wordOf 199 = .ok (.bipush 110, 2) := dk_16 110 (dk_at dksX10_wordOf_6 0 rfl rfl)
theorem dX10_wordOf_201 : decode cX10_wordOf 201 = .ok (.iconst 0, 1) := dk_3 (dk_at dksX10_wordOf_6 2 rfl rfl)
theorem dX10_wordOf_202 : decode cX10_wordOf 202 = .ok (.iconst 0, 1) := dk_3 (dk_at dksX10_wordOf_6 3 rfl rfl)
theorem dX10_wordOf_203 : decode cX10_wordOf 203 = .ok (.iconst 0, 1) := dk_3 (dk_at dksX10_wordOf_6 4 rfl rfl)
theorem dX10_wordOf_204 : decode cX10_wordOf 204 = .ok (.invokestatic 58, 3) := dk_184 0 58 (dk_at dksX10_wordOf_6 5 rfl rfl)
theorem dX10_wordOf_207 : decode cX10_wordOf 207 = .ok (.lreturn, 1) := dk_173 (dk_at dksX10_wordOf_6 8 rfl rfl)
theorem dX10_wordOf_208 : decode cX10_wordOf 208 = .ok (.bipush 106, 2) := dk_16 106 (dk_at dksX10_wordOf_6 9 rfl rfl)
theorem dX10_wordOf_210 : decode cX10_wordOf 210 = .ok (.bipush 111, 2) := dk_16 111 (dk_at dksX10_wordOf_6 11 rfl rfl)
theorem dX10_wordOf_212 : decode cX10_wordOf 212 = .ok (.bipush 105, 2) := dk_16 105 (dk_at dksX10_wordOf_6 13 rfl rfl)
theorem dX10_wordOf_214 : decode cX10_wordOf 214 = .ok (.bipush 110, 2) := dk_16 110 (dk_at dksX10_wordOf_6 15 rfl rfl)
theorem dX10_wordOf_216 : decode cX10_wordOf 216 = .ok (.iconst 0, 1) := dk_3 (dk_at dksX10_wordOf_6 17 rfl rfl)
theorem dX10_wordOf_217 : decode cX10_wordOf 217 = .ok (.iconst 0, 1) := dk_3 (dk_at dksX10_wordOf_6 18 rfl rfl)
theorem dX10_wordOf_218 : decode cX10_wordOf 218 = .ok (.iconst 0, 1) := dk_3 (dk_at dksX10_wordOf_6 19 rfl rfl)
theorem dX10_wordOf_219 : decode cX10_wordOf 219 = .ok (.invokestatic 58, 3) := dk_184 0 58 (dk_at dksX10_wordOf_6 20 rfl rfl)
theorem dX10_wordOf_222 : decode cX10_wordOf 222 = .ok (.lreturn, 1) := dk_173 (dk_at dksX10_wordOf_6 23 rfl rfl)
theorem dX10_wordOf_223 : decode cX10_wordOf 223 = .ok (.bipush 115, 2) := dk_16 115 (dk_at dksX10_wordOf_7 0 rfl rfl)
theorem dX10_wordOf_225 : decode cX10_wordOf 225 = .ok (.bipush 112, 2) := dk_16 112 (dk_at dksX10_wordOf_7 2 rfl rfl)
theorem dX10_wordOf_227 : decode cX10_wordOf 227 = .ok (.bipush 108, 2) := dk_16 108 (dk_at dksX10_wordOf_7 4 rfl rfl)
theorem dX10_wordOf_229 : decode cX10_wordOf 229 = .ok (.bipush 105, 2) := dk_16 105 (dk_at dksX10_wordOf_7 6 rfl rfl)
theorem dX10_wordOf_231 : decode cX10_wordOf 231 = .ok (.bipush 116, 2) := dk_16 116 (dk_at dksX10_wordOf_7 8 rfl rfl)
theorem dX10_wordOf_233 : decode cX10_wordOf 233 = .ok (.iconst 0, 1) := dk_3 (dk_at dksX10_wordOf_7 10 rfl rfl)
theorem dX10_wordOf_234 : decode cX10_wordOf 234 = .ok (.iconst 0, 1) := dk_3 (dk_at dksX10_wordOf_7 11 rfl rfl)
theorem dX10_wordOf_235 : decode cX10_wordOf 235 = .ok (.invokestatic 58, 3) := dk_184 0 58 (dk_at dksX10_wordOf_7 12 rfl rfl)
theorem dX10_wordOf_238 : decode cX10_wordOf 238 = .ok (.lreturn, 1) := dk_173 (dk_at dksX10_wordOf_7 15 rfl rfl)
theorem dX10_wordOf_239 : decode cX10_wordOf 239 = .ok (.bipush 116, 2) := dk_16 116 (dk_at dksX10_wordOf_7 16 rfl rfl)
theorem dX10_wordOf_241 : decode cX10_wordOf 241 = .ok (.bipush 121, 2) := dk_16 121 (dk_at dksX10_wordOf_7 18 rfl rfl)
theorem dX10_wordOf_243 : decode cX10_wordOf 243 = .ok (.bipush 112, 2) := dk_16 112 (dk_at dksX10_wordOf_7 20 rfl rfl)
theorem dX10_wordOf_245 : decode cX10_wordOf 245 = .ok (.bipush 101, 2) := dk_16 101 (dk_at dksX10_wordOf_7 22 rfl rfl)
theorem dX10_wordOf_247 : decode cX10_wordOf 247 = .ok (.iconst 0, 1) := dk_3 (dk_at dksX10_wordOf_8 0 rfl rfl)
theorem dX10_wordOf_248 : decode cX10_wordOf 248 = .ok (.iconst 0, 1) := dk_3 (dk_at dksX10_wordOf_8 1 rfl rfl)
theorem dX10_wordOf_249 : decode cX10_wordOf 249 = .ok (.iconst 0, 1) := dk_3 (dk_at dksX10_wordOf_8 2 rfl rfl)
theorem dX10_wordOf_250 : decode cX10_wordOf 250 = .ok (.invokestatic 58, 3) := dk_184 0 58 (dk_at dksX10_wordOf_8 3 rfl rfl)
theorem dX10_wordOf_253 : decode cX10_wordOf 253 = .ok (.lreturn, 1) := dk_173 (dk_at dksX10_wordOf_8 6 rfl rfl)
theorem dX10_wordOf_254 : decode cX10_wordOf 254 = .ok (.bipush 101, 2) := dk_16 101 (dk_at dksX10_wordOf_8 7 rfl rfl)
theorem dX10_wordOf_256 : decode cX10_wordOf 256 = .ok (.bipush 114, 2) := dk_16 114 (dk_at dksX10_wordOf_8 9 rfl rfl)
theorem dX10_wordOf_258 : decode cX10_wordOf 258 = .ok (.bipush 97, 2) := dk_16 97 (dk_at dksX10_wordOf_8 11 rfl rfl)
theorem dX10_wordOf_260 : decode cX10_wordOf 260 = .ok (.bipush 115, 2) := dk_16 115 (dk_at dksX10_wordOf_8 13 rfl rfl)
theorem dX10_wordOf_262 : decode cX10_wordOf 262 = .ok (.bipush 101, 2) := dk_16 101 (dk_at dksX10_wordOf_8 15 rfl rfl)
theorem dX10_wordOf_264 : decode cX10_wordOf 264 = .ok (.iconst 0, 1) := dk_3 (dk_at dksX10_wordOf_8 17 rfl rfl)
theorem dX10_wordOf_265 : decode cX10_wordOf 265 = .ok (.iconst 0, 1) := dk_3 (dk_at dksX10_wordOf_8 18 rfl rfl)
theorem dX10_wordOf_266 : decode cX10_wordOf 266 = .ok (.invokestatic 58, 3) := dk_184 0 58 (dk_at dksX10_wordOf_8 19 rfl rfl)
theorem dX10_wordOf_269 : decode cX10_wordOf 269 = .ok (.lreturn, 1) := dk_173 (dk_at dksX10_wordOf_8 22 rfl rfl)
theorem dX10_wordOf_270 : decode cX10_wordOf 270 = .ok (.bipush 111, 2) := dk_16 111 (dk_at dksX10_wordOf_9 0 rfl rfl)
theorem dX10_wordOf_272 : decode cX10_wordOf 272 = .ok (.bipush 114, 2) := dk_16 114 (dk_at dksX10_wordOf_9 2 rfl rfl)
theorem dX10_wordOf_274 : decode cX10_wordOf 274 = .ok (.iconst 0, 1) := dk_3 (dk_at dksX10_wordOf_9 4 rfl rfl)
theorem dX10_wordOf_275 : decode cX10_wordOf 275 = .ok (.iconst 0, 1) := dk_3 (dk_at dksX10_wordOf_9 5 rfl rfl)
theorem dX10_wordOf_276 : decode cX10_wordOf 276 = .ok (.iconst 0, 1) := dk_3 (dk_at dksX10_wordOf_9 6 rfl rfl)
theorem dX10_wordOf_277 : decode cX10_wordOf 277 = .ok (.iconst 0, 1) := dk_3 (dk_at dksX10_wordOf_9 7 rfl rfl)
theorem dX10_wordOf_278 : decode cX10_wordOf 278 = .ok (.iconst 0, 1) := dk_3 (dk_at dksX10_wordOf_9 8 rfl rfl)
theorem dX10_wordOf_279 : decode cX10_wordOf 279 = .ok (.invokestatic 58, 3) := dk_184 0 58 (dk_at dksX10_wordOf_9 9 rfl rfl)
theorem dX10_wordOf_282 : decode cX10_wordOf 282 = .ok (.lreturn, 1) := dk_173 (dk_at dksX10_wordOf_9 12 rfl rfl)
theorem dX10_wordOf_283 : decode cX10_wordOf 283 = .ok (.bipush 97, 2) := dk_16 97 (dk_at dksX10_wordOf_9 13 rfl rfl)
theorem dX10_wordOf_285 : decode cX10_wordOf 285 = .ok (.bipush 110, 2) := dk_16 110 (dk_at dksX10_wordOf_9 15 rfl rfl)
theorem dX10_wordOf_287 : decode cX10_wordOf 287 = .ok (.bipush 100, 2) := dk_16 100 (dk_at dksX10_wordOf_9 17 rfl rfl)
theorem dX10_wordOf_289 : decode cX10_wordOf 289 = .ok (.iconst 0, 1) := dk_3 (dk_at dksX10_wordOf_9 19 rfl rfl)
theorem dX10_wordOf_290 : decode cX10_wordOf 290 = .ok (.iconst 0, 1) := dk_3 (dk_at dksX10_wordOf_9 20 rfl rfl)
theorem dX10_wordOf_291 : decode cX10_wordOf 291 = .ok (.iconst 0, 1) := dk_3 (dk_at dksX10_wordOf_9 21 rfl rfl)
theorem dX10_wordOf_292 : decode cX10_wordOf 292 = .ok (.iconst 0, 1) := dk_3 (dk_at dksX10_wordOf_9 22 rfl rfl)
theorem dX10_wordOf_293 : decode cX10_wordOf 293 = .ok (.invokestatic 58, 3) := dk_184 0 58 (dk_at dksX10_wordOf_10 0 rfl rfl)
theorem dX10_wordOf_296 : decode cX10_wordOf 296 = .ok (.lreturn, 1) := dk_173 (dk_at dksX10_wordOf_10 3 rfl rfl)
theorem dX10_wordOf_297 : decode cX10_wordOf 297 = .ok (.bipush 110, 2) := dk_16 110 (dk_at dksX10_wordOf_10 4 rfl rfl)
theorem dX10_wordOf_299 : decode cX10_wordOf 299 = .ok (.bipush 111, 2) := dk_16 111 (dk_at dksX10_wordOf_10 6 rfl rfl)
theorem dX10_wordOf_301 : decode cX10_wordOf 301 = .ok (.bipush 116, 2) := dk_16 116 (dk_at dksX10_wordOf_10 8 rfl rfl)
theorem dX10_wordOf_303 : decode cX10_wordOf 303 = .ok (.iconst 0, 1) := dk_3 (dk_at dksX10_wordOf_10 10 rfl rfl)
theorem dX10_wordOf_304 : decode cX10_wordOf 304 = .ok (.iconst 0, 1) := dk_3 (dk_at dksX10_wordOf_10 11 rfl rfl)
theorem dX10_wordOf_305 : decode cX10_wordOf 305 = .ok (.iconst 0, 1) := dk_3 (dk_at dksX10_wordOf_10 12 rfl rfl)
theorem dX10_wordOf_306 : decode cX10_wordOf 306 = .ok (.iconst 0, 1) := dk_3 (dk_at dksX10_wordOf_10 13 rfl rfl)
theorem dX10_wordOf_307 : decode cX10_wordOf 307 = .ok (.invokestatic 58, 3) := dk_184 0 58 (dk_at dksX10_wordOf_10 14 rfl rfl)
theorem dX10_wordOf_310 : decode cX10_wordOf 310 = .ok (.lreturn, 1) := dk_173 (dk_at dksX10_wordOf_10 17 rfl rfl)
theorem dX10_wordOf_311 : decode cX10_wordOf 311 = .ok (.bipush 101, 2) := dk_16 101 (dk_at dksX10_wordOf_10 18 rfl rfl)
theorem dX10_wordOf_313 : decode cX10_wordOf 313 = .ok (.bipush 109, 2) := dk_16 109 (dk_at dksX10_wordOf_10 20 rfl rfl)
theorem dX10_wordOf_315 : decode cX10_wordOf 315 = .ok (.bipush 112, 2) := dk_16 112 (dk_at dksX10_wordOf_10 22 rfl rfl)
theorem dX10_wordOf_317 : decode cX10_wordOf 317 = .ok (.bipush 116, 2) := dk_16 116 (dk_at dksX10_wordOf_11 0 rfl rfl)
theorem dX10_wordOf_319 : decode cX10_wordOf 319 = .ok (.bipush 121, 2) := dk_16 121 (dk_at dksX10_wordOf_11 2 rfl rfl)
theorem dX10_wordOf_321 : decode cX10_wordOf 321 = .ok (.iconst 0, 1) := dk_3 (dk_at dksX10_wordOf_11 4 rfl rfl)
theorem dX10_wordOf_322 : decode cX10_wordOf 322 = .ok (.iconst 0, 1) := dk_3 (dk_at dksX10_wordOf_11 5 rfl rfl)
theorem dX10_wordOf_323 : decode cX10_wordOf 323 = .ok (.invokestatic 58, 3) := dk_184 0 58 (dk_at dksX10_wordOf_11 6 rfl rfl)
theorem dX10_wordOf_326 : decode cX10_wordOf 326 = .ok (.lreturn, 1) := dk_173 (dk_at dksX10_wordOf_11 9 rfl rfl)
theorem dX10_wordOf_327 : decode cX10_wordOf 327 = .ok (.bipush 101, 2) := dk_16 101 (dk_at dksX10_wordOf_11 10 rfl rfl)
theorem dX10_wordOf_329 : decode cX10_wordOf 329 = .ok (.bipush 118, 2) := dk_16 118 (dk_at dksX10_wordOf_11 12 rfl rfl)
theorem dX10_wordOf_331 : decode cX10_wordOf 331 = .ok (.bipush 101, 2) := dk_16 101 (dk_at dksX10_wordOf_11 14 rfl rfl)
theorem dX10_wordOf_333 : decode cX10_wordOf 333 = .ok (.bipush 110, 2) := dk_16 110 (dk_at dksX10_wordOf_11 16 rfl rfl)
theorem dX10_wordOf_335 : decode cX10_wordOf 335 = .ok (.iconst 0, 1) := dk_3 (dk_at dksX10_wordOf_11 18 rfl rfl)
theorem dX10_wordOf_336 : decode cX10_wordOf 336 = .ok (.iconst 0, 1) := dk_3 (dk_at dksX10_wordOf_11 19 rfl rfl)
theorem dX10_wordOf_337 : decode cX10_wordOf 337 = .ok (.iconst 0, 1) := dk_3 (dk_at dksX10_wordOf_11 20 rfl rfl)
theorem dX10_wordOf_338 : decode cX10_wordOf 338 = .ok (.invokestatic 58, 3) := dk_184 0 58 (dk_at dksX10_wordOf_11 21 rfl rfl)
theorem dX10_wordOf_341 : decode cX10_wordOf 341 = .ok (.lreturn, 1) := dk_173 (dk_at dksX10_wordOf_12 0 rfl rfl)
theorem dX10_wordOf_342 : decode cX10_wordOf 342 = .ok (.bipush 108, 2) := dk_16 108 (dk_at dksX10_wordOf_12 1 rfl rfl)
theorem dX10_wordOf_344 : decode cX10_wordOf 344 = .ok (.bipush 105, 2) := dk_16 105 (dk_at dksX10_wordOf_12 3 rfl rfl)
theorem dX10_wordOf_346 : decode cX10_wordOf 346 = .ok (.bipush 107, 2) := dk_16 107 (dk_at dksX10_wordOf_12 5 rfl rfl)
theorem dX10_wordOf_348 : decode cX10_wordOf 348 = .ok (.bipush 101, 2) := dk_16 101 (dk_at dksX10_wordOf_12 7 rfl rfl)
theorem dX10_wordOf_350 : decode cX10_wordOf 350 = .ok (.iconst 0, 1) := dk_3 (dk_at dksX10_wordOf_12 9 rfl rfl)
theorem dX10_wordOf_351 : decode cX10_wordOf 351 = .ok (.iconst 0, 1) := dk_3 (dk_at dksX10_wordOf_12 10 rfl rfl)
theorem dX10_wordOf_352 : decode cX10_wordOf 352 = .ok (.iconst 0, 1) := dk_3 (dk_at dksX10_wordOf_12 11 rfl rfl)
theorem dX10_wordOf_353 : decode cX10_wordOf 353 = .ok (.invokestatic 58, 3) := dk_184 0 58 (dk_at dksX10_wordOf_12 12 rfl rfl)
theorem dX10_wordOf_356 : decode cX10_wordOf 356 = .ok (.lreturn, 1) := dk_173 (dk_at dksX10_wordOf_12 15 rfl rfl)
theorem dX10_wordOf_357 : decode cX10_wordOf 357 = .ok (.bipush 98, 2) := dk_16 98 (dk_at dksX10_wordOf_12 16 rfl rfl)
theorem dX10_wordOf_359 : decode cX10_wordOf 359 = .ok (.bipush 101, 2) := dk_16 101 (dk_at dksX10_wordOf_12 18 rfl rfl)
theorem dX10_wordOf_361 : decode cX10_wordOf 361 = .ok (.bipush 103, 2) := dk_16 103 (dk_at dksX10_wordOf_12 20 rfl rfl)
theorem dX10_wordOf_363 : decode cX10_wordOf 363 = .ok (.bipush 105, 2) := dk_16 105 (dk_at dksX10_wordOf_12 22 rfl rfl)
theorem dX10_wordOf_365 : decode cX10_wordOf 365 = .ok (.bipush 110, 2) := dk_16 110 (dk_at dksX10_wordOf_13 0 rfl rfl)
theorem dX10_wordOf_367 : decode cX10_wordOf 367 = .ok (.bipush 115, 2) := dk_16 115 (dk_at dksX10_wordOf_13 2 rfl rfl)
theorem dX10_wordOf_369 : decode cX10_wordOf 369 = .ok (.iconst 0, 1) := dk_3 (dk_at dksX10_wordOf_13 4 rfl rfl)
theorem dX10_wordOf_370 : decode cX10_wordOf 370 = .ok (.invokestatic 58, 3) := dk_184 0 58 (dk_at dksX10_wordOf_13 5 rfl rfl)
theorem dX10_wordOf_373 : decode cX10_wordOf 373 = .ok (.lreturn, 1) := dk_173 (dk_at dksX10_wordOf_13 8 rfl rfl)
theorem dX10_wordOf_374 : decode cX10_wordOf 374 = .ok (.bipush 115, 2) := dk_16 115 (dk_at dksX10_wordOf_13 9 rfl rfl)
theorem dX10_wordOf_376 : decode cX10_wordOf 376 = .ok (.bipush 105, 2) := dk_16 105 (dk_at dksX10_wordOf_13 11 rfl rfl)
theorem dX10_wordOf_378 : decode cX10_wordOf 378 = .ok (.bipush 122, 2) := dk_16 122 (dk_at dksX10_wordOf_13 13 rfl rfl)
theorem dX10_wordOf_380 : decode cX10_wordOf 380 = .ok (.bipush 101, 2) := dk_16 101 (dk_at dksX10_wordOf_13 15 rfl rfl)
theorem dX10_wordOf_382 : decode cX10_wordOf 382 = .ok (.iconst 0, 1) := dk_3 (dk_at dksX10_wordOf_13 17 rfl rfl)
theorem dX10_wordOf_383 : decode cX10_wordOf 383 = .ok (.iconst 0, 1) := dk_3 (dk_at dksX10_wordOf_13 18 rfl rfl)
theorem dX10_wordOf_384 : decode cX10_wordOf 384 = .ok (.iconst 0, 1) := dk_3 (dk_at dksX10_wordOf_13 19 rfl rfl)
theorem dX10_wordOf_385 : decode cX10_wordOf 385 = .ok (.invokestatic 58, 3) := dk_184 0 58 (dk_at dksX10_wordOf_13 20 rfl rfl)
theorem dX10_wordOf_388 : decode cX10_wordOf 388 = .ok (.lreturn, 1) := dk_173 (dk_at dksX10_wordOf_13 23 rfl rfl)
theorem dX10_wordOf_389 : decode cX10_wordOf 389 = .ok (.bipush 111, 2) := dk_16 111 (dk_at dksX10_wordOf_14 0 rfl rfl)
theorem dX10_wordOf_391 : decode cX10_wordOf 391 = .ok (.bipush 110, 2) := dk_16 110 (dk_at dksX10_wordOf_14 2 rfl rfl)
theorem dX10_wordOf_393 : decode cX10_wordOf 393 = .ok (.bipush 101, 2) := dk_16 101 (dk_at dksX10_wordOf_14 4 rfl rfl)
theorem dX10_wordOf_395 : decode cX10_wordOf 395 = .ok (.bipush 115, 2) := dk_16 115 (dk_at dksX10_wordOf_14 6 rfl rfl)
theorem dX10_wordOf_397 : decode cX10_wordOf 397 = .ok (.iconst 0, 1) := dk_3 (dk_at dksX10_wordOf_14 8 rfl rfl)
theorem dX10_wordOf_398 : decode cX10_wordOf 398 = .ok (.iconst 0, 1) := dk_3 (dk_at dksX10_wordOf_14 9 rfl rfl)
theorem dX10_wordOf_399 : decode cX10_wordOf 399 = .ok (.iconst 0, 1) := dk_3 (dk_at dksX10_wordOf_14 10 rfl rfl)
theorem dX10_wordOf_400 : decode cX10_wordOf 400 = .ok (.invokestatic 58, 3) := dk_184 0 58 (dk_at dksX10_wordOf_14 11 rfl rfl)
theorem dX10_wordOf_403 : decode cX10_wordOf 403 = .ok (.lreturn, 1) := dk_173 (dk_at dksX10_wordOf_14 14 rfl rfl)
theorem dX10_wordOf_404 : decode cX10_wordOf 404 = .ok (.bipush 114, 2) := dk_16 114 (dk_at dksX10_wordOf_14 15 rfl rfl)
theorem dX10_wordOf_406 : decode cX10_wordOf 406 = .ok (.bipush 117, 2) := dk_16 117 (dk_at dksX10_wordOf_14 17 rfl rfl)
theorem dX10_wordOf_408 : decode cX10_wordOf 408 = .ok (.bipush 110, 2) := dk_16 110 (dk_at dksX10_wordOf_14 19 rfl rfl)
theorem dX10_wordOf_410 : decode cX10_wordOf 410 = .ok (.bipush 115, 2) := dk_16 115 (dk_at dksX10_wordOf_14 21 rfl rfl)
theorem dX10_wordOf_412 : decode cX10_wordOf 412 = .ok (.iconst 0, 1) := dk_3 (dk_at dksX10_wordOf_14 23 rfl rfl)
theorem dX10_wordOf_413 : decode cX10_wordOf 413 = .ok (.iconst 0, 1) := dk_3 (dk_at dksX10_wordOf_15 0 rfl rfl)
theorem dX10_wordOf_414 : decode cX10_wordOf 414 = .ok (.iconst 0, 1) := dk_3 (dk_at dksX10_wordOf_15 1 rfl rfl)
theorem dX10_wordOf_415 : decode cX10_wordOf 415 = .ok (.invokestatic 58, 3) := dk_184 0 58 (dk_at dksX10_wordOf_15 2 rfl rfl)
theorem dX10_wordOf_418 : decode cX10_wordOf 418 = .ok (.lreturn, 1) := dk_173 (dk_at dksX10_wordOf_15 5 rfl rfl)
theorem dX10_wordOf_419 : decode cX10_wordOf 419 = .ok (.bipush 108, 2) := dk_16 108 (dk_at dksX10_wordOf_15 6 rfl rfl)
theorem dX10_wordOf_421 : decode cX10_wordOf 421 = .ok (.bipush 101, 2) := dk_16 101 (dk_at dksX10_wordOf_15 8 rfl rfl)
theorem dX10_wordOf_423 : decode cX10_wordOf 423 = .ok (.bipush 97, 2) := dk_16 97 (dk_at dksX10_wordOf_15 10 rfl rfl)
theorem dX10_wordOf_425 : decode cX10_wordOf 425 = .ok (.bipush 118, 2) := dk_16 118 (dk_at dksX10_wordOf_15 12 rfl rfl)
theorem dX10_wordOf_427 : decode cX10_wordOf 427 = .ok (.bipush 101, 2) := dk_16 101 (dk_at dksX10_wordOf_15 14 rfl rfl)
theorem dX10_wordOf_429 : decode cX10_wordOf 429 = .ok (.bipush 115, 2) := dk_16 115 (dk_at dksX10_wordOf_15 16 rfl rfl)
theorem dX10_wordOf_431 : decode cX10_wordOf 431 = .ok (.iconst 0, 1) := dk_3 (dk_at dksX10_wordOf_15 18 rfl rfl)
theorem dX10_wordOf_432 : decode cX10_wordOf 432 = .ok (.invokestatic 58, 3) := dk_184 0 58 (dk_at dksX10_wordOf_15 19 rfl rfl)
theorem dX10_wordOf_435 : decode cX10_wordOf 435 = .ok (.lreturn, 1) := dk_173 (dk_at dksX10_wordOf_15 22 rfl rfl)
theorem dX10_wordOf_436 : decode cX10_wordOf 436 = .ok (.bipush 110, 2) := dk_16 110 (dk_at dksX10_wordOf_16 0 rfl rfl)
theorem dX10_wordOf_438 : decode cX10_wordOf 438 = .ok (.bipush 117, 2) := dk_16 117 (dk_at dksX10_wordOf_16 2 rfl rfl)
theorem dX10_wordOf_440 : decode cX10_wordOf 440 = .ok (.bipush 109, 2) := dk_16 109 (dk_at dksX10_wordOf_16 4 rfl rfl)
theorem dX10_wordOf_442 : decode cX10_wordOf 442 = .ok (.bipush 98, 2) := dk_16 98 (dk_at dksX10_wordOf_16 6 rfl rfl)
theorem dX10_wordOf_444 : decode cX10_wordOf 444 = .ok (.bipush 101, 2) := dk_16 101 (dk_at dksX10_wordOf_16 8 rfl rfl)
theorem dX10_wordOf_446 : decode cX10_wordOf 446 = .ok (.bipush 114, 2) := dk_16 114 (dk_at dksX10_wordOf_16 10 rfl rfl)
theorem dX10_wordOf_448 : decode cX10_wordOf 448 = .ok (.iconst 0, 1) := dk_3 (dk_at dksX10_wordOf_16 12 rfl rfl)
theorem dX10_wordOf_449 : decode cX10_wordOf 449 = .ok (.invokestatic 58, 3) := dk_184 0 58 (dk_at dksX10_wordOf_16 13 rfl rfl)
theorem dX10_wordOf_452 : decode cX10_wordOf 452 = .ok (.lreturn, 1) := dk_173 (dk_at dksX10_wordOf_16 16 rfl rfl)
abbrev cX10_spelt : ByteArray := prog_23_method_13_code
def yX10_spelt : MethodName := ⟨RX10, "spelt", "(IIIIIII)J"⟩
def dkwX10_spelt_5 : List UInt8 := [101, 55, 7, 22, 7, 173]
abbrev dktX10_spelt_5 : List UInt8 := dkwX10_spelt_5 ++ []
def dkwX10_spelt_4 : List UInt8 := [20, 0, 56, 101, 55, 7, 21, 6, 158, 0, 19, 20, 0, 54, 22, 7, 105, 21, 6, 133, 97, 20, 0, 56]
abbrev dktX10_spelt_4 : List UInt8 := dkwX10_spelt_4 ++ dktX10_spelt_5
def dkwX10_spelt_3 : List UInt8 := [97, 20, 0, 56, 101, 55, 7, 21, 5, 158, 0, 19, 20, 0, 54, 22, 7, 105, 21, 5, 133, 97]
abbrev dktX10_spelt_3 : List UInt8 := dkwX10_spelt_3 ++ dktX10_spelt_4
def dkwX10_spelt_2 : List UInt8 := [105, 29, 133, 97, 20, 0, 56, 101, 55, 7, 21, 4, 158, 0, 19, 20, 0, 54, 22, 7, 105, 21, 4, 133]
abbrev dktX10_spelt_2 : List UInt8 := dkwX10_spelt_2 ++ dktX10_spelt_3
def dkwX10_spelt_1 : List UInt8 := [20, 0, 54, 22, 7, 105, 28, 133, 97, 20, 0, 56, 101, 55, 7, 29, 158, 0, 18, 20, 0, 54, 22, 7]
abbrev dktX10_spelt_1 : List UInt8 := dkwX10_spelt_1 ++ dktX10_spelt_2
def dkwX10_spelt_0 : List UInt8 := [20, 0, 54, 26, 133, 20, 0, 56, 101, 105, 27, 133, 97, 20, 0, 56, 101, 55, 7, 28, 158, 0, 18]
abbrev dktX10_spelt_0 : List UInt8 := dkwX10_spelt_0 ++ dktX10_spelt_1
theorem dksX10_spelt_0 : cX10_spelt.data.toList.drop 0 = dktX10_spelt_0 := by decide +kernel
theorem dksX10_spelt_1 : cX10_spelt.data.toList.drop 23 = dktX10_spelt_1 := dk_seg dksX10_spelt_0 23 rfl rfl
theorem dksX10_spelt_2 : cX10_spelt.data.toList.drop 47 = dktX10_spelt_2 := dk_seg dksX10_spelt_1 24 rfl rfl
theorem dksX10_spelt_3 : cX10_spelt.data.toList.drop 71 = dktX10_spelt_3 := dk_seg dksX10_spelt_2 24 rfl rfl
theorem dksX10_spelt_4 : cX10_spelt.data.toList.drop 93 = dktX10_spelt_4 := dk_seg dksX10_spelt_3 22 rfl rfl
theorem dksX10_spelt_5 : cX10_spelt.data.toList.drop 117 = dktX10_spelt_5 := dk_seg dksX10_spelt_4 24 rfl rfl
theorem dX10_spelt_0 : decode cX10_spelt 0 = .ok (.ldc2_w 54, 3) := dk_20 0 54 (dk_at dksX10_spelt_0 0 rfl rfl)
theorem dX10_spelt_3 : decode cX10_spelt 3 = .ok (.iload_n 0, 1) := dk_26 (dk_at dksX10_spelt_0 3 rfl rfl)
theorem dX10_spelt_4 : decode cX10_spelt 4 = .ok (.i2l, 1) := dk_133 (dk_at dksX10_spelt_0 4 rfl rfl)
theorem dX10_spelt_5 : decode cX10_spelt 5 = .ok (.ldc2_w 56, 3) := dk_20 0 56 (dk_at dksX10_spelt_0 5 rfl rfl)
theorem dX10_spelt_8 : decode cX10_spelt 8 = .ok (.lsub, 1) := dk_101 (dk_at dksX10_spelt_0 8 rfl rfl)
theorem dX10_spelt_9 : decode cX10_spelt 9 = .ok (.lmul, 1) := dk_105 (dk_at dksX10_spelt_0 9 rfl rfl)
theorem dX10_spelt_10 : decode cX10_spelt 10 = .ok (.iload_n 1, 1) := dk_27 (dk_at dksX10_spelt_0 10 rfl rfl)
theorem dX10_spelt_11 : decode cX10_spelt 11 = .ok (.i2l, 1) := dk_133 (dk_at dksX10_spelt_0 11 rfl rfl)
theorem dX10_spelt_12 : decode cX10_spelt 12 = .ok (.ladd, 1) := dk_97 (dk_at dksX10_spelt_0 12 rfl rfl)
theorem dX10_spelt_13 : decode cX10_spelt 13 = .ok (.ldc2_w 56, 3) := dk_20 0 56 (dk_at dksX10_spelt_0 13 rfl rfl)
theorem dX10_spelt_16 : decode cX10_spelt 16 = .ok (.lsub, 1) := dk_101 (dk_at dksX10_spelt_0 16 rfl rfl)
theorem dX10_spelt_17 : decode cX10_spelt 17 = .ok (.lstore 7, 2) := dk_55 7 (dk_at dksX10_spelt_0 17 rfl rfl)
theorem dX10_spelt_19 : decode cX10_spelt 19 = .ok (.iload_n 2, 1) := dk_28 (dk_at dksX10_spelt_0 19 rfl rfl)
theorem dX10_spelt_20 : decode cX10_spelt 20 = .ok (.ifCond .le 18, 3) := dk_158 0 18 (dk_at dksX10_spelt_0 20 rfl rfl)
theorem dX10_spelt_23 : decode cX10_spelt 23 = .ok (.ldc2_w 54, 3) := dk_20 0 54 (dk_at dksX10_spelt_1 0 rfl rfl)
theorem dX10_spelt_26 : decode cX10_spelt 26 = .ok (.lload 7, 2) := dk_22 7 (dk_at dksX10_spelt_1 3 rfl rfl)
theorem dX10_spelt_28 : decode cX10_spelt 28 = .ok (.lmul, 1) := dk_105 (dk_at dksX10_spelt_1 5 rfl rfl)
theorem dX10_spelt_29 : decode cX10_spelt 29 = .ok (.iload_n 2, 1) := dk_28 (dk_at dksX10_spelt_1 6 rfl rfl)
theorem dX10_spelt_30 : decode cX10_spelt 30 = .ok (.i2l, 1) := dk_133 (dk_at dksX10_spelt_1 7 rfl rfl)
theorem dX10_spelt_31 : decode cX10_spelt 31 = .ok (.ladd, 1) := dk_97 (dk_at dksX10_spelt_1 8 rfl rfl)
theorem dX10_spelt_32 : decode cX10_spelt 32 = .ok (.ldc2_w 56, 3) := dk_20 0 56 (dk_at dksX10_spelt_1 9 rfl rfl)
theorem dX10_spelt_35 : decode cX10_spelt 35 = .ok (.lsub, 1) := dk_101 (dk_at dksX10_spelt_1 12 rfl rfl)
theorem dX10_spelt_36 : decode cX10_spelt 36 = .ok (.lstore 7, 2) := dk_55 7 (dk_at dksX10_spelt_1 13 rfl rfl)
theorem dX10_spelt_38 : decode cX10_spelt 38 = .ok (.iload_n 3, 1) := dk_29 (dk_at dksX10_spelt_1 15 rfl rfl)
theorem dX10_spelt_39 : decode cX10_spelt 39 = .ok (.ifCond .le 18, 3) := dk_158 0 18 (dk_at dksX10_spelt_1 16 rfl rfl)
theorem dX10_spelt_42 : decode cX10_spelt 42 = .ok (.ldc2_w 54, 3) := dk_20 0 54 (dk_at dksX10_spelt_1 19 rfl rfl)
theorem dX10_spelt_45 : decode cX10_spelt 45 = .ok (.lload 7, 2) := dk_22 7 (dk_at dksX10_spelt_1 22 rfl rfl)
theorem dX10_spelt_47 : decode cX10_spelt 47 = .ok (.lmul, 1) := dk_105 (dk_at dksX10_spelt_2 0 rfl rfl)
theorem dX10_spelt_48 : decode cX10_spelt 48 = .ok (.iload_n 3, 1) := dk_29 (dk_at dksX10_spelt_2 1 rfl rfl)
theorem dX10_spelt_49 : decode cX10_spelt 49 = .ok (.i2l, 1) := dk_133 (dk_at dksX10_spelt_2 2 rfl rfl)
theorem dX10_spelt_50 : decode cX10_spelt 50 = .ok (.ladd, 1) := dk_97 (dk_at dksX10_spelt_2 3 rfl rfl)
theorem dX10_spelt_51 : decode cX10_spelt 51 = .ok (.ldc2_w 56, 3) := dk_20 0 56 (dk_at dksX10_spelt_2 4 rfl rfl)
theorem dX10_spelt_54 : decode cX10_spelt 54 = .ok (.lsub, 1) := dk_101 (dk_at dksX10_spelt_2 7 rfl rfl)
theorem dX10_spelt_55 : decode cX10_spelt 55 = .ok (.lstore 7, 2) := dk_55 7 (dk_at dksX10_spelt_2 8 rfl rfl)
theorem dX10_spelt_57 : decode cX10_spelt 57 = .ok (.iload 4, 2) := dk_21 4 (dk_at dksX10_spelt_2 10 rfl rfl)
theorem dX10_spelt_59 : decode cX10_spelt 59 = .ok (.ifCond .le 19, 3) := dk_158 0 19 (dk_at dksX10_spelt_2 12 rfl rfl)
theorem dX10_spelt_62 : decode cX10_spelt 62 = .ok (.ldc2_w 54, 3) := dk_20 0 54 (dk_at dksX10_spelt_2 15 rfl rfl)
theorem dX10_spelt_65 : decode cX10_spelt 65 = .ok (.lload 7, 2) := dk_22 7 (dk_at dksX10_spelt_2 18 rfl rfl)
theorem dX10_spelt_67 : decode cX10_spelt 67 = .ok (.lmul, 1) := dk_105 (dk_at dksX10_spelt_2 20 rfl rfl)
theorem dX10_spelt_68 : decode cX10_spelt 68 = .ok (.iload 4, 2) := dk_21 4 (dk_at dksX10_spelt_2 21 rfl rfl)
theorem dX10_spelt_70 : decode cX10_spelt 70 = .ok (.i2l, 1) := dk_133 (dk_at dksX10_spelt_2 23 rfl rfl)
theorem dX10_spelt_71 : decode cX10_spelt 71 = .ok (.ladd, 1) := dk_97 (dk_at dksX10_spelt_3 0 rfl rfl)
theorem dX10_spelt_72 : decode cX10_spelt 72 = .ok (.ldc2_w 56, 3) := dk_20 0 56 (dk_at dksX10_spelt_3 1 rfl rfl)
theorem dX10_spelt_75 : decode cX10_spelt 75 = .ok (.lsub, 1) := dk_101 (dk_at dksX10_spelt_3 4 rfl rfl)
theorem dX10_spelt_76 : decode cX10_spelt 76 = .ok (.lstore 7, 2) := dk_55 7 (dk_at dksX10_spelt_3 5 rfl rfl)
theorem dX10_spelt_78 : decode cX10_spelt 78 = .ok (.iload 5, 2) := dk_21 5 (dk_at dksX10_spelt_3 7 rfl rfl)
theorem dX10_spelt_80 : decode cX10_spelt 80 = .ok (.ifCond .le 19, 3) := dk_158 0 19 (dk_at dksX10_spelt_3 9 rfl rfl)
theorem dX10_spelt_83 : decode cX10_spelt 83 = .ok (.ldc2_w 54, 3) := dk_20 0 54 (dk_at dksX10_spelt_3 12 rfl rfl)
theorem dX10_spelt_86 : decode cX10_spelt 86 = .ok (.lload 7, 2) := dk_22 7 (dk_at dksX10_spelt_3 15 rfl rfl)
theorem dX10_spelt_88 : decode cX10_spelt 88 = .ok (.lmul, 1) := dk_105 (dk_at dksX10_spelt_3 17 rfl rfl)
theorem dX10_spelt_89 : decode cX10_spelt 89 = .ok (.iload 5, 2) := dk_21 5 (dk_at dksX10_spelt_3 18 rfl rfl)
theorem dX10_spelt_91 : decode cX10_spelt 91 = .ok (.i2l, 1) := dk_133 (dk_at dksX10_spelt_3 20 rfl rfl)
theorem dX10_spelt_92 : decode cX10_spelt 92 = .ok (.ladd, 1) := dk_97 (dk_at dksX10_spelt_3 21 rfl rfl)
theorem dX10_spelt_93 : decode cX10_spelt 93 = .ok (.ldc2_w 56, 3) := dk_20 0 56 (dk_at dksX10_spelt_4 0 rfl rfl)
theorem dX10_spelt_96 : decode cX10_spelt 96 = .ok (.lsub, 1) := dk_101 (dk_at dksX10_spelt_4 3 rfl rfl)
theorem dX10_spelt_97 : decode cX10_spelt 97 = .ok (.lstore 7, 2) := dk_55 7 (dk_at dksX10_spelt_4 4 rfl rfl)
theorem dX10_spelt_99 : decode cX10_spelt 99 = .ok (.iload 6, 2) := dk_21 6 (dk_at dksX10_spelt_4 6 rfl rfl)
theorem dX10_spelt_101 : decode cX10_spelt 101 = .ok (.ifCond .le 19, 3) := dk_158 0 19 (dk_at dksX10_spelt_4 8 rfl rfl)
theorem dX10_spelt_104 : decode cX10_spelt 104 = .ok (.ldc2_w 54, 3) := dk_20 0 54 (dk_at dksX10_spelt_4 11 rfl rfl)
theorem dX10_spelt_107 : decode cX10_spelt 107 = .ok (.lload 7, 2) := dk_22 7 (dk_at dksX10_spelt_4 14 rfl rfl)
theorem dX10_spelt_109 : decode cX10_spelt 109 = .ok (.lmul, 1) := dk_105 (dk_at dksX10_spelt_4 16 rfl rfl)
theorem dX10_spelt_110 : decode cX10_spelt 110 = .ok (.iload 6, 2) := dk_21 6 (dk_at dksX10_spelt_4 17 rfl rfl)
theorem dX10_spelt_112 : decode cX10_spelt 112 = .ok (.i2l, 1) := dk_133 (dk_at dksX10_spelt_4 19 rfl rfl)
theorem dX10_spelt_113 : decode cX10_spelt 113 = .ok (.ladd, 1) := dk_97 (dk_at dksX10_spelt_4 20 rfl rfl)
theorem dX10_spelt_114 : decode cX10_spelt 114 = .ok (.ldc2_w 56, 3) := dk_20 0 56 (dk_at dksX10_spelt_4 21 rfl rfl)
theorem dX10_spelt_117 : decode cX10_spelt 117 = .ok (.lsub, 1) := dk_101 (dk_at dksX10_spelt_5 0 rfl rfl)
theorem dX10_spelt_118 : decode cX10_spelt 118 = .ok (.lstore 7, 2) := dk_55 7 (dk_at dksX10_spelt_5 1 rfl rfl)
theorem dX10_spelt_120 : decode cX10_spelt 120 = .ok (.lload 7, 2) := dk_22 7 (dk_at dksX10_spelt_5 3 rfl rfl)
theorem dX10_spelt_122 : decode cX10_spelt 122 = .ok (.lreturn, 1) := dk_173 (dk_at dksX10_spelt_5 5 rfl rfl)
abbrev cX10_readLeaf : ByteArray := prog_23_method_25_code
def yX10_readLeaf : MethodName := ⟨RX10, "readLeaf", "(I)Z"⟩
def dkwX10_readLeaf_1 : List UInt8 := [3, 172, 42, 180, 0, 101, 4, 42, 180, 0, 79, 79, 4, 172]
abbrev dktX10_readLeaf_1 : List UInt8 := dkwX10_readLeaf_1 ++ []
def dkwX10_readLeaf_0 : List UInt8 := [27, 158, 0, 9, 42, 6, 182, 0, 72, 172, 42, 182, 0, 82, 42, 7, 16, 32, 182, 0, 146, 154, 0, 5]
abbrev dktX10_readLeaf_0 : List UInt8 := dkwX10_readLeaf_0 ++ dktX10_readLeaf_1
theorem dksX10_readLeaf_0 : cX10_readLeaf.data.toList.drop 0 = dktX10_readLeaf_0 := by decide +kernel
theorem dksX10_readLeaf_1 : cX10_readLeaf.data.toList.drop 24 = dktX10_readLeaf_1 := dk_seg dksX10_readLeaf_0 24 rfl rfl
theorem dX10_readLeaf_0 : decode cX10_readLeaf 0 = .ok (.iload_n 1, 1) := dk_27 (dk_at dksX10_readLeaf_0 0 rfl rfl)
theorem dX10_readLeaf_1 : decode cX10_readLeaf 1 = .ok (.ifCond .le 9, 3) := dk_158 0 9 (dk_at dksX10_readLeaf_0 1 rfl rfl)
theorem dX10_readLeaf_4 : decode cX10_readLeaf 4 = .ok (.aload_n 0, 1) := dk_42 (dk_at dksX10_readLeaf_0 4 rfl rfl)
theorem dX10_readLeaf_5 : decode cX10_readLeaf 5 = .ok (.iconst 3, 1) := dk_6 (dk_at dksX10_readLeaf_0 5 rfl rfl)
theorem dX10_readLeaf_6 : decode cX10_readLeaf 6 = .ok (.invokevirtual 72, 3) := dk_182 0 72 (dk_at dksX10_readLeaf_0 6 rfl rfl)
theorem dX10_readLeaf_9 : decode cX10_readLeaf 9 = .ok (.ireturn, 1) := dk_172 (dk_at dksX10_readLeaf_0 9 rfl rfl)
theorem dX10_readLeaf_10 : decode cX10_readLeaf 10 = .ok (.aload_n 0, 1) := dk_42 (dk_at dksX10_readLeaf_0 10 rfl rfl)
theorem dX10_readLeaf_11 : decode cX10_readLeaf 11 = .ok (.invokevirtual 82, 3) := dk_182 0 82 (dk_at dksX10_readLeaf_0 11 rfl rfl)
theorem dX10_readLeaf_14 : decode cX10_readLeaf 14 = .ok (.aload_n 0, 1) := dk_42 (dk_at dksX10_readLeaf_0 14 rfl rfl)
theorem dX10_readLeaf_15 : decode cX10_readLeaf 15 = .ok (.iconst 4, 1) := dk_7 (dk_at dksX10_readLeaf_0 15 rfl rfl)
theorem dX10_readLeaf_16 : decode cX10_readLeaf 16 = .ok (.bipush 32, 2) := dk_16 32 (dk_at dksX10_readLeaf_0 16 rfl rfl)
theorem dX10_readLeaf_18 : decode cX10_readLeaf 18 = .ok (.invokevirtual 146, 3) := dk_182 0 146 (dk_at dksX10_readLeaf_0 18 rfl rfl)
theorem dX10_readLeaf_21 : decode cX10_readLeaf 21 = .ok (.ifCond .ne 5, 3) := dk_154 0 5 (dk_at dksX10_readLeaf_0 21 rfl rfl)
theorem dX10_readLeaf_24 : decode cX10_readLeaf 24 = .ok (.iconst 0, 1) := dk_3 (dk_at dksX10_readLeaf_1 0 rfl rfl)
theorem dX10_readLeaf_25 : decode cX10_readLeaf 25 = .ok (.ireturn, 1) := dk_172 (dk_at dksX10_readLeaf_1 1 rfl rfl)
theorem dX10_readLeaf_26 : decode cX10_readLeaf 26 = .ok (.aload_n 0, 1) := dk_42 (dk_at dksX10_readLeaf_1 2 rfl rfl)
theorem dX10_readLeaf_27 : decode cX10_readLeaf 27 = .ok (.getfield 101, 3) := dk_180 0 101 (dk_at dksX10_readLeaf_1 3 rfl rfl)
theorem dX10_readLeaf_30 : decode cX10_readLeaf 30 = .ok (.iconst 1, 1) := dk_4 (dk_at dksX10_readLeaf_1 6 rfl rfl)
theorem dX10_readLeaf_31 : decode cX10_readLeaf 31 = .ok (.aload_n 0, 1) := dk_42 (dk_at dksX10_readLeaf_1 7 rfl rfl)
theorem dX10_readLeaf_32 : decode cX10_readLeaf 32 = .ok (.getfield 79, 3) := dk_180 0 79 (dk_at dksX10_readLeaf_1 8 rfl rfl)
theorem dX10_readLeaf_35 : decode cX10_readLeaf 35 = .ok (.iastore, 1) := dk_79 (dk_at dksX10_readLeaf_1 11 rfl rfl)
theorem dX10_readLeaf_36 : decode cX10_readLeaf 36 = .ok (.iconst 1, 1) := dk_4 (dk_at dksX10_readLeaf_1 12 rfl rfl)
theorem dX10_readLeaf_37 : decode cX10_readLeaf 37 = .ok (.ireturn, 1) := dk_172 (dk_at dksX10_readLeaf_1 13 rfl rfl)
abbrev cX10_bad : ByteArray := prog_23_method_18_code
def yX10_bad : MethodName := ⟨RX10, "bad", "(I)Z"⟩
def dkwX10_bad_1 : List UInt8 := [181, 0, 69, 3, 172]
abbrev dktX10_bad_1 : List UInt8 := dkwX10_bad_1 ++ []
def dkwX10_bad_0 : List UInt8 := [42, 42, 180, 0, 30, 4, 160, 0, 7, 4, 167, 0, 4, 27, 181, 0, 66, 42, 42, 180, 0, 24]
abbrev dktX10_bad_0 : List UInt8 := dkwX10_bad_0 ++ dktX10_bad_1
theorem dksX10_bad_0 : cX10_bad.data.toList.drop 0 = dktX10_bad_0 := by decide +kernel
theorem dksX10_bad_1 : cX10_bad.data.toList.drop 22 = dktX10_bad_1 := dk_seg dksX10_bad_0 22 rfl rfl
theorem dX10_bad_0 : decode cX10_bad 0 = .ok (.aload_n 0, 1) := dk_42 (dk_at dksX10_bad_0 0 rfl rfl)
theorem dX10_bad_1 : decode cX10_bad 1 = .ok (.aload_n 0, 1) := dk_42 (dk_at dksX10_bad_0 1 rfl rfl)
theorem dX10_bad_2 : decode cX10_bad 2 = .ok (.getfield 30, 3) := dk_180 0 30 (dk_at dksX10_bad_0 2 rfl rfl)
theorem dX10_bad_5 : decode cX10_bad 5 = .ok (.iconst 1, 1) := dk_4 (dk_at dksX10_bad_0 5 rfl rfl)
theorem dX10_bad_6 : decode cX10_bad 6 = .ok (.if_icmp .ne 7, 3) := dk_160 0 7 (dk_at dksX10_bad_0 6 rfl rfl)
theorem dX10_bad_9 : decode cX10_bad 9 = .ok (.iconst 1, 1) := dk_4 (dk_at dksX10_bad_0 9 rfl rfl)
theorem dX10_bad_10 : decode cX10_bad 10 = .ok (.goto 4, 3) := dk_167 0 4 (dk_at dksX10_bad_0 10 rfl rfl)
theorem dX10_bad_13 : decode cX10_bad 13 = .ok (.iload_n 1, 1) := dk_27 (dk_at dksX10_bad_0 13 rfl rfl)
theorem dX10_bad_14 : decode cX10_bad 14 = .ok (.putfield 66, 3) := dk_181 0 66 (dk_at dksX10_bad_0 14 rfl rfl)
theorem dX10_bad_17 : decode cX10_bad 17 = .ok (.aload_n 0, 1) := dk_42 (dk_at dksX10_bad_0 17 rfl rfl)
theorem dX10_bad_18 : decode cX10_bad 18 = .ok (.aload_n 0, 1) := dk_42 (dk_at dksX10_bad_0 18 rfl rfl)
theorem dX10_bad_19 : decode cX10_bad 19 = .ok (.getfield 24, 3) := dk_180 0 24 (dk_at dksX10_bad_0 19 rfl rfl)
theorem dX10_bad_22 : decode cX10_bad 22 = .ok (.putfield 69, 3) := dk_181 0 69 (dk_at dksX10_bad_1 0 rfl rfl)
theorem dX10_bad_25 : decode cX10_bad 25 = .ok (.iconst 0, 1) := dk_3 (dk_at dksX10_bad_1 3 rfl rfl)
theorem dX10_bad_26 : decode cX10_bad 26 = .ok (.ireturn, 1) := dk_172 (dk_at dksX10_bad_1 4 rfl rfl)
abbrev cX10_readNumber : ByteArray := prog_23_method_19_code
def yX10_readNumber : MethodName := ⟨RX10, "readNumbe\x72", "(II)Z"⟩
def dkwX10_readNumber_1 : List UInt8 := [154, 0, 9, 42, 5, 182, 0, 72, 172, 42, 42, 180, 0, 47, 181, 0, 79, 42, 182, 0, 82, 4, 172]
abbrev dktX10_readNumber_1 : List UInt8 := dkwX10_readNumber_1 ++ []
def dkwX10_readNumber_0 : List UInt8 := [42, 180, 0, 30, 6, 159, 0, 9, 42, 4, 182, 0, 72, 172, 42, 180, 0, 47, 27, 28, 184, 0, 75]
abbrev dktX10_readNumber_0 : List UInt8 := dkwX10_readNumber_0 ++ dktX10_readNumber_1
theorem dksX10_readNumber_0 : cX10_readNumber.data.toList.drop 0 = dktX10_readNumber_0 := by decide +kernel
theorem dksX10_readNumber_1 : cX10_readNumber.data.toList.drop 23 = dktX10_readNumber_1 := dk_seg dksX10_readNumber_0 23 rfl rfl
theorem dX10_readNumber_0 : decode cX10_readNumber 0 = .ok (.aload_n 0, 1) := dk_42 (dk_at dksX10_readNumber_0 0 rfl rfl)
theorem dX10_readNumber_1 : decode cX10_readNumber 1 = .ok (.getfield 30, 3) := dk_180 0 30 (dk_at dksX10_readNumber_0 1 rfl rfl)
theorem dX10_readNumber_4 : decode cX10_readNumber 4 = .ok (.iconst 3, 1) := dk_6 (dk_at dksX10_readNumber_0 4 rfl rfl)
theorem dX10_readNumber_5 : decode cX10_readNumber 5 = .ok (.if_icmp .eq 9, 3) := dk_159 0 9 (dk_at dksX10_readNumber_0 5 rfl rfl)
theorem dX10_readNumber_8 : decode cX10_readNumber 8 = .ok (.aload_n 0, 1) := dk_42 (dk_at dksX10_readNumber_0 8 rfl rfl)
theorem dX10_readNumber_9 : decode cX10_readNumber 9 = .ok (.iconst 1, 1) := dk_4 (dk_at dksX10_readNumber_0 9 rfl rfl)
theorem dX10_readNumber_10 : decode cX10_readNumber 10 = .ok (.invokevirtual 72, 3) := dk_182 0 72 (dk_at dksX10_readNumber_0 10 rfl rfl)
theorem dX10_readNumber_13 : decode cX10_readNumber 13 = .ok (.ireturn, 1) := dk_172 (dk_at dksX10_readNumber_0 13 rfl rfl)
theorem dX10_readNumber_14 : decode cX10_readNumber 14 = .ok (.aload_n 0, 1) := dk_42 (dk_at dksX10_readNumber_0 14 rfl rfl)
theorem dX10_readNumber_15 : decode cX10_readNumber 15 = .ok (.getfield 47, 3) := dk_180 0 47 (dk_at dksX10_readNumber_0 15 rfl rfl)
theorem dX10_readNumber_18 : decode cX10_readNumber 18 = .ok (.iload_n 1, 1) := dk_27 (dk_at dksX10_readNumber_0 18 rfl rfl)
theorem dX10_readNumber_19 : decode cX10_readNumber 19 = .ok (.iload_n 2, 1) := dk_28 (dk_at dksX10_readNumber_0 19 rfl rfl)
theorem dX10_readNumber_20 : decode cX10_readNumber 20 = .ok (.invokestatic 75, 3) := dk_184 0 75 (dk_at dksX10_readNumber_0 20 rfl rfl)
theorem dX10_readNumber_23 : decode cX10_readNumber 23 = .ok (.ifCond .ne 9, 3) := dk_154 0 9 (dk_at dksX10_readNumber_1 0 rfl rfl)
theorem dX10_readNumber_26 : decode cX10_readNumber 26 = .ok (.aload_n 0, 1) := dk_42 (dk_at dksX10_readNumber_1 3 rfl rfl)
theorem dX10_readNumber_27 : decode cX10_readNumber 27 = .ok (.iconst 2, 1) := dk_5 (dk_at dksX10_readNumber_1 4 rfl rfl)
theorem dX10_readNumber_28 : decode cX10_readNumber 28 = .ok (.invokevirtual 72, 3) := dk_182 0 72 (dk_at dksX10_readNumber_1 5 rfl rfl)
theorem dX10_readNumber_31 : decode cX10_readNumber 31 = .ok (.ireturn, 1) := dk_172 (dk_at dksX10_readNumber_1 8 rfl rfl)
theorem dX10_readNumber_32 : decode cX10_readNumber 32 = .ok (.aload_n 0, 1) := dk_42 (dk_at dksX10_readNumber_1 9 rfl rfl)
theorem dX10_readNumber_33 : decode cX10_readNumber 33 = .ok (.aload_n 0, 1) := dk_42 (dk_at dksX10_readNumber_1 10 rfl rfl)
theorem dX10_readNumber_34 : decode cX10_readNumber 34 = .ok (.getfield 47, 3) := dk_180 0 47 (dk_at dksX10_readNumber_1 11 rfl rfl)
theorem dX10_readNumber_37 : decode cX10_readNumber 37 = .ok (.putfield 79, 3) := dk_181 0 79 (dk_at dksX10_readNumber_1 14 rfl rfl)
theorem dX10_readNumber_40 : decode cX10_readNumber 40 = .ok (.aload_n 0, 1) := dk_42 (dk_at dksX10_readNumber_1 17 rfl rfl)
theorem dX10_readNumber_41 : decode cX10_readNumber 41 = .ok (.invokevirtual 82, 3) := dk_182 0 82 (dk_at dksX10_readNumber_1 18 rfl rfl)
theorem dX10_readNumber_44 : decode cX10_readNumber 44 = .ok (.iconst 1, 1) := dk_4 (dk_at dksX10_readNumber_1 21 rfl rfl)
theorem dX10_readNumber_45 : decode cX10_readNumber 45 = .ok (.ireturn, 1) := dk_172 (dk_at dksX10_readNumber_1 22 rfl rfl)
abbrev cX10_isIn : ByteArray := prog_23_method_7_code
def yX10_isIn : MethodName := ⟨RX10, "isIn", "(III)Z"⟩
def dkwX10_isIn_0 : List UInt8 := [26, 27, 161, 0, 12, 26, 28, 163, 0, 7, 4, 167, 0, 4, 3, 172]
abbrev dktX10_isIn_0 : List UInt8 := dkwX10_isIn_0 ++ []
theorem dksX10_isIn_0 : cX10_isIn.data.toList.drop 0 = dktX10_isIn_0 := by decide +kernel
theorem dX10_isIn_0 : decode cX10_isIn 0 = .ok (.iload_n 0, 1) := dk_26 (dk_at dksX10_isIn_0 0 rfl rfl)
theorem dX10_isIn_1 : decode cX10_isIn 1 = .ok (.iload_n 1, 1) := dk_27 (dk_at dksX10_isIn_0 1 rfl rfl)
theorem dX10_isIn_2 : decode cX10_isIn 2 = .ok (.if_icmp .lt 12, 3) := dk_161 0 12 (dk_at dksX10_isIn_0 2 rfl rfl)
theorem dX10_isIn_5 : decode cX10_isIn 5 = .ok (.iload_n 0, 1) := dk_26 (dk_at dksX10_isIn_0 5 rfl rfl)
theorem dX10_isIn_6 : decode cX10_isIn 6 = .ok (.iload_n 2, 1) := dk_28 (dk_at dksX10_isIn_0 6 rfl rfl)
theorem dX10_isIn_7 : decode cX10_isIn 7 = .ok (.if_icmp .gt 7, 3) := dk_163 0 7 (dk_at dksX10_isIn_0 7 rfl rfl)
theorem dX10_isIn_10 : decode cX10_isIn 10 = .ok (.iconst 1, 1) := dk_4 (dk_at dksX10_isIn_0 10 rfl rfl)
theorem dX10_isIn_11 : decode cX10_isIn 11 = .ok (.goto 4, 3) := dk_167 0 4 (dk_at dksX10_isIn_0 11 rfl rfl)
theorem dX10_isIn_14 : decode cX10_isIn 14 = .ok (.iconst 0, 1) := dk_3 (dk_at dksX10_isIn_0 14 rfl rfl)
theorem dX10_isIn_15 : decode cX10_isIn 15 = .ok (.ireturn, 1) := dk_172 (dk_at dksX10_isIn_0 15 rfl rfl)
abbrev cX10_readRow : ByteArray := prog_23_method_28_code
def yX10_readRow : MethodName := ⟨RX10, "readRow", "()Z"⟩
def dkwX10_readRow_9 : List UInt8 := [182, 0, 82, 167, 255, 131, 4, 172]
abbrev dktX10_readRow_9 : List UInt8 := dkwX10_readRow_9 ++ []
def dkwX10_readRow_8 : List UInt8 := [167, 0, 4, 3, 79, 42, 180, 0, 101, 5, 27, 96, 92, 46, 4, 96, 79, 132, 2, 1, 167, 255, 194, 42]
abbrev dktX10_readRow_8 : List UInt8 := dkwX10_readRow_8 ++ dktX10_readRow_9
def dkwX10_readRow_7 : List UInt8 := [96, 42, 180, 0, 101, 5, 27, 96, 46, 96, 42, 180, 0, 7, 28, 46, 16, 105, 160, 0, 7, 4]
abbrev dktX10_readRow_7 : List UInt8 := dkwX10_readRow_7 ++ dktX10_readRow_8
def dkwX10_readRow_6 : List UInt8 := [180, 0, 24, 61, 28, 42, 180, 0, 21, 162, 0, 60, 42, 180, 0, 101, 17, 0, 207, 17, 2, 88, 27, 104]
abbrev dktX10_readRow_6 : List UInt8 := dkwX10_readRow_6 ++ dktX10_readRow_7
def dkwX10_readRow_5 : List UInt8 := [42, 180, 0, 21, 96, 42, 180, 0, 24, 100, 17, 2, 88, 164, 0, 9, 42, 7, 182, 0, 72, 172, 42]
abbrev dktX10_readRow_5 : List UInt8 := dkwX10_readRow_5 ++ dktX10_readRow_6
def dkwX10_readRow_4 : List UInt8 := [160, 0, 123, 42, 182, 0, 158, 154, 0, 9, 42, 5, 182, 0, 72, 172, 42, 180, 0, 101, 5, 27, 96, 46]
abbrev dktX10_readRow_4 : List UInt8 := dkwX10_readRow_4 ++ dktX10_readRow_5
def dkwX10_readRow_3 : List UInt8 := [180, 0, 43, 80, 42, 180, 0, 101, 3, 92, 46, 4, 96, 79, 42, 182, 0, 82, 42, 180, 0, 30, 5]
abbrev dktX10_readRow_3 : List UInt8 := dkwX10_readRow_3 ++ dktX10_readRow_4
def dkwX10_readRow_2 : List UInt8 := [180, 0, 43, 184, 0, 154, 2, 159, 0, 9, 42, 6, 182, 0, 72, 172, 42, 180, 0, 120, 27, 42]
abbrev dktX10_readRow_2 : List UInt8 := dkwX10_readRow_2 ++ dktX10_readRow_3
def dkwX10_readRow_1 : List UInt8 := [182, 0, 82, 42, 182, 0, 150, 154, 0, 9, 42, 4, 182, 0, 72, 172, 42, 180, 0, 120, 27, 42]
abbrev dktX10_readRow_1 : List UInt8 := dkwX10_readRow_1 ++ dktX10_readRow_2
def dkwX10_readRow_0 : List UInt8 := [42, 180, 0, 101, 3, 46, 7, 160, 0, 9, 42, 7, 182, 0, 72, 172, 42, 180, 0, 101, 3, 46, 60, 42]
abbrev dktX10_readRow_0 : List UInt8 := dkwX10_readRow_0 ++ dktX10_readRow_1
theorem dksX10_readRow_0 : cX10_readRow.data.toList.drop 0 = dktX10_readRow_0 := by decide +kernel
theorem dksX10_readRow_1 : cX10_readRow.data.toList.drop 24 = dktX10_readRow_1 := dk_seg dksX10_readRow_0 24 rfl rfl
theorem dksX10_readRow_2 : cX10_readRow.data.toList.drop 46 = dktX10_readRow_2 := dk_seg dksX10_readRow_1 22 rfl rfl
theorem dksX10_readRow_3 : cX10_readRow.data.toList.drop 68 = dktX10_readRow_3 := dk_seg dksX10_readRow_2 22 rfl rfl
theorem dksX10_readRow_4 : cX10_readRow.data.toList.drop 91 = dktX10_readRow_4 := dk_seg dksX10_readRow_3 23 rfl rfl
theorem dksX10_readRow_5 : cX10_readRow.data.toList.drop 115 = dktX10_readRow_5 := dk_seg dksX10_readRow_4 24 rfl rfl
theorem dksX10_readRow_6 : cX10_readRow.data.toList.drop 138 = dktX10_readRow_6 := dk_seg dksX10_readRow_5 23 rfl rfl
theorem dksX10_readRow_7 : cX10_readRow.data.toList.drop 162 = dktX10_readRow_7 := dk_seg dksX10_readRow_6 24 rfl rfl
theorem dksX10_readRow_8 : cX10_readRow.data.toList.drop 184 = dktX10_readRow_8 := dk_seg dksX10_readRow_7 22 rfl rfl
theorem dksX10_readRow_9 : cX10_readRow.data.toList.drop 208 = dktX10_readRow_9 := dk_seg dksX10_readRow_8 24 rfl rfl
theorem dX10_readRow_0 : decode cX10_readRow 0 = .ok (.aload_n 0, 1) := dk_42 (dk_at dksX10_readRow_0 0 rfl rfl)
theorem dX10_readRow_1 : decode cX10_readRow 1 = .ok (.getfield 101, 3) := dk_180 0 101 (dk_at dksX10_readRow_0 1 rfl rfl)
theorem dX10_readRow_4 : decode cX10_readRow 4 = .ok (.iconst 0, 1) := dk_3 (dk_at dksX10_readRow_0 4 rfl rfl)
theorem dX10_readRow_5 : decode cX10_readRow 5 = .ok (.iaload, 1) := dk_46 (dk_at dksX10_readRow_0 5 rfl rfl)
theorem dX10_readRow_6 : decode cX10_readRow 6 = .ok (.iconst 4, 1) := dk_7 (dk_at dksX10_readRow_0 6 rfl rfl)
theorem dX10_readRow_7 : decode cX10_readRow 7 = .ok (.if_icmp .ne 9, 3) := dk_160 0 9 (dk_at dksX10_readRow_0 7 rfl rfl)
theorem dX10_readRow_10 : decode cX10_readRow 10 = .ok (.aload_n 0, 1) := dk_42 (dk_at dksX10_readRow_0 10 rfl rfl)
theorem dX10_readRow_11 : decode cX10_readRow 11 = .ok (.iconst 4, 1) := dk_7 (dk_at dksX10_readRow_0 11 rfl rfl)
theorem dX10_readRow_12 : decode cX10_readRow 12 = .ok (.invokevirtual 72, 3) := dk_182 0 72 (dk_at dksX10_readRow_0 12 rfl rfl)
theorem dX10_readRow_15 : decode cX10_readRow 15 = .ok (.ireturn, 1) := dk_172 (dk_at dksX10_readRow_0 15 rfl rfl)
theorem dX10_readRow_16 : decode cX10_readRow 16 = .ok (.aload_n 0, 1) := dk_42 (dk_at dksX10_readRow_0 16 rfl rfl)
theorem dX10_readRow_17 : decode cX10_readRow 17 = .ok (.getfield 101, 3) := dk_180 0 101 (dk_at dksX10_readRow_0 17 rfl rfl)
theorem dX10_readRow_20 : decode cX10_readRow 20 = .ok (.iconst 0, 1) := dk_3 (dk_at dksX10_readRow_0 20 rfl rfl)
theorem dX10_readRow_21 : decode cX10_readRow 21 = .ok (.iaload, 1) := dk_46 (dk_at dksX10_readRow_0 21 rfl rfl)
theorem dX10_readRow_22 : decode cX10_readRow 22 = .ok (.istore_n 1, 1) := dk_60 (dk_at dksX10_readRow_0 22 rfl rfl)
theorem dX10_readRow_23 : decode cX10_readRow 23 = .ok (.aload_n 0, 1) := dk_42 (dk_at dksX10_readRow_0 23 rfl rfl)
theorem dX10_readRow_24 : decode cX10_readRow 24 = .ok (.invokevirtual 82, 3) := dk_182 0 82 (dk_at dksX10_readRow_1 0 rfl rfl)
theorem dX10_readRow_27 : decode cX10_readRow 27 = .ok (.aload_n 0, 1) := dk_42 (dk_at dksX10_readRow_1 3 rfl rfl)
theorem dX10_readRow_28 : decode cX10_readRow 28 = .ok (.invokevirtual 150, 3) := dk_182 0 150 (dk_at dksX10_readRow_1 4 rfl rfl)
theorem dX10_readRow_31 : decode cX10_readRow 31 = .ok (.ifCond .ne 9, 3) := dk_154 0 9 (dk_at dksX10_readRow_1 7 rfl rfl)
theorem dX10_readRow_34 : decode cX10_readRow 34 = .ok (.aload_n 0, 1) := dk_42 (dk_at dksX10_readRow_1 10 rfl rfl)
theorem dX10_readRow_35 : decode cX10_readRow 35 = .ok (.iconst 1, 1) := dk_4 (dk_at dksX10_readRow_1 11 rfl rfl)
theorem dX10_readRow_36 : decode cX10_readRow 36 = .ok (.invokevirtual 72, 3) := dk_182 0 72 (dk_at dksX10_readRow_1 12 rfl rfl)
theorem dX10_readRow_39 : decode cX10_readRow 39 = .ok (.ireturn, 1) := dk_172 (dk_at dksX10_readRow_1 15 rfl rfl)
theorem dX10_readRow_40 : decode cX10_readRow 40 = .ok (.aload_n 0, 1) := dk_42 (dk_at dksX10_readRow_1 16 rfl rfl)
theorem dX10_readRow_41 : decode cX10_readRow 41 = .ok (.getfield 120, 3) := dk_180 0 120 (dk_at dksX10_readRow_1 17 rfl rfl)
theorem dX10_readRow_44 : decode cX10_readRow 44 = .ok (.iload_n 1, 1) := dk_27 (dk_at dksX10_readRow_1 20 rfl rfl)
theorem dX10_readRow_45 : decode cX10_readRow 45 = .ok (.aload_n 0, 1) := dk_42 (dk_at dksX10_readRow_1 21 rfl rfl)
theorem dX10_readRow_46 : decode cX10_readRow 46 = .ok (.getfield 43, 3) := dk_180 0 43 (dk_at dksX10_readRow_2 0 rfl rfl)
theorem dX10_readRow_49 : decode cX10_readRow 49 = .ok (.invokestatic 154, 3) := dk_184 0 154 (dk_at dksX10_readRow_2 3 rfl rfl)
theorem dX10_readRow_52 : decode cX10_readRow 52 = .ok (.iconst (-1), 1) := dk_2 (dk_at dksX10_readRow_2 6 rfl rfl)
theorem dX10_readRow_53 : decode cX10_readRow 53 = .ok (.if_icmp .eq 9, 3) := dk_159 0 9 (dk_at dksX10_readRow_2 7 rfl rfl)
theorem dX10_readRow_56 : decode cX10_readRow 56 = .ok (.aload_n 0, 1) := dk_42 (dk_at dksX10_readRow_2 10 rfl rfl)
theorem dX10_readRow_57 : decode cX10_readRow 57 = .ok (.iconst 3, 1) := dk_6 (dk_at dksX10_readRow_2 11 rfl rfl)
theorem dX10_readRow_58 : decode cX10_readRow 58 = .ok (.invokevirtual 72, 3) := dk_182 0 72 (dk_at dksX10_readRow_2 12 rfl rfl)
theorem dX10_readRow_61 : decode cX10_readRow 61 = .ok (.ireturn, 1) := dk_172 (dk_at dksX10_readRow_2 15 rfl rfl)
theorem dX10_readRow_62 : decode cX10_readRow 62 = .ok (.aload_n 0, 1) := dk_42 (dk_at dksX10_readRow_2 16 rfl rfl)
theorem dX10_readRow_63 : decode cX10_readRow 63 = .ok (.getfield 120, 3) := dk_180 0 120 (dk_at dksX10_readRow_2 17 rfl rfl)
theorem dX10_readRow_66 : decode cX10_readRow 66 = .ok (.iload_n 1, 1) := dk_27 (dk_at dksX10_readRow_2 20 rfl rfl)
theorem dX10_readRow_67 : decode cX10_readRow 67 = .ok (.aload_n 0, 1) := dk_42 (dk_at dksX10_readRow_2 21 rfl rfl)
theorem dX10_readRow_68 : decode cX10_readRow 68 = .ok (.getfield 43, 3) := dk_180 0 43 (dk_at dksX10_readRow_3 0 rfl rfl)
theorem dX10_readRow_71 : decode cX10_readRow 71 = .ok (.lastore, 1) := dk_80 (dk_at dksX10_readRow_3 3 rfl rfl)
theorem dX10_readRow_72 : decode cX10_readRow 72 = .ok (.aload_n 0, 1) := dk_42 (dk_at dksX10_readRow_3 4 rfl rfl)
theorem dX10_readRow_73 : decode cX10_readRow 73 = .ok (.getfield 101, 3) := dk_180 0 101 (dk_at dksX10_readRow_3 5 rfl rfl)
theorem dX10_readRow_76 : decode cX10_readRow 76 = .ok (.iconst 0, 1) := dk_3 (dk_at dksX10_readRow_3 8 rfl rfl)
theorem dX10_readRow_77 : decode cX10_readRow 77 = .ok (.dup2, 1) := dk_92 (dk_at dksX10_readRow_3 9 rfl rfl)
theorem dX10_readRow_78 : decode cX10_readRow 78 = .ok (.iaload, 1) := dk_46 (dk_at dksX10_readRow_3 10 rfl rfl)
theorem dX10_readRow_79 : decode cX10_readRow 79 = .ok (.iconst 1, 1) := dk_4 (dk_at dksX10_readRow_3 11 rfl rfl)
theorem dX10_readRow_80 : decode cX10_readRow 80 = .ok (.iadd, 1) := dk_96 (dk_at dksX10_readRow_3 12 rfl rfl)
theorem dX10_readRow_81 : decode cX10_readRow 81 = .ok (.iastore, 1) := dk_79 (dk_at dksX10_readRow_3 13 rfl rfl)
theorem dX10_readRow_82 : decode cX10_readRow 82 = .ok (.aload_n 0, 1) := dk_42 (dk_at dksX10_readRow_3 14 rfl rfl)
theorem dX10_readRow_83 : decode cX10_readRow 83 = .ok (.invokevirtual 82, 3) := dk_182 0 82 (dk_at dksX10_readRow_3 15 rfl rfl)
theorem dX10_readRow_86 : decode cX10_readRow 86 = .ok (.aload_n 0, 1) := dk_42 (dk_at dksX10_readRow_3 18 rfl rfl)
theorem dX10_readRow_87 : decode cX10_readRow 87 = .ok (.getfield 30, 3) := dk_180 0 30 (dk_at dksX10_readRow_3 19 rfl rfl)
theorem dX10_readRow_90 : decode cX10_readRow 90 = .ok (.iconst 2, 1) := dk_5 (dk_at dksX10_readRow_3 22 rfl rfl)
theorem dX10_readRow_91 : decode cX10_readRow 91 = .ok (.if_icmp .ne 123, 3) := dk_160 0 123 (dk_at dksX10_readRow_4 0 rfl rfl)
theorem dX10_readRow_94 : decode cX10_readRow 94 = .ok (.aload_n 0, 1) := dk_42 (dk_at dksX10_readRow_4 3 rfl rfl)
theorem dX10_readRow_95 : decode cX10_readRow 95 = .ok (.invokevirtual 158, 3) := dk_182 0 158 (dk_at dksX10_readRow_4 4 rfl rfl)
theorem dX10_readRow_98 : decode cX10_readRow 98 = .ok (.ifCond .ne 9, 3) := dk_154 0 9 (dk_at dksX10_readRow_4 7 rfl rfl)
theorem dX10_readRow_101 : decode cX10_readRow 101 = .ok (.aload_n 0, 1) := dk_42 (dk_at dksX10_readRow_4 10 rfl rfl)
theorem dX10_readRow_102 : decode cX10_readRow 102 = .ok (.iconst 2, 1) := dk_5 (dk_at dksX10_readRow_4 11 rfl rfl)
theorem dX10_readRow_103 : decode cX10_readRow 103 = .ok (.invokevirtual 72, 3) := dk_182 0 72 (dk_at dksX10_readRow_4 12 rfl rfl)
theorem dX10_readRow_106 : decode cX10_readRow 106 = .ok (.ireturn, 1) := dk_172 (dk_at dksX10_readRow_4 15 rfl rfl)
theorem dX10_readRow_107 : decode cX10_readRow 107 = .ok (.aload_n 0, 1) := dk_42 (dk_at dksX10_readRow_4 16 rfl rfl)
theorem dX10_readRow_108 : decode cX10_readRow 108 = .ok (.getfield 101, 3) := dk_180 0 101 (dk_at dksX10_readRow_4 17 rfl rfl)
theorem dX10_readRow_111 : decode cX10_readRow 111 = .ok (.iconst 2, 1) := dk_5 (dk_at dksX10_readRow_4 20 rfl rfl)
theorem dX10_readRow_112 : decode cX10_readRow 112 = .ok (.iload_n 1, 1) := dk_27 (dk_at dksX10_readRow_4 21 rfl rfl)
theorem dX10_readRow_113 : decode cX10_readRow 113 = .ok (.iadd, 1) := dk_96 (dk_at dksX10_readRow_4 22 rfl rfl)
theorem dX10_readRow_114 : decode cX10_readRow 114 = .ok (.iaload, 1) := dk_46 (dk_at dksX10_readRow_4 23 rfl rfl)
theorem dX10_readRow_115 : decode cX10_readRow 115 = .ok (.aload_n 0, 1) := dk_42 (dk_at dksX10_readRow_5 0 rfl rfl)
theorem dX10_readRow_116 : decode cX10_readRow 116 = .ok (.getfield 21, 3) := dk_180 0 21 (dk_at dksX10_readRow_5 1 rfl rfl)
theorem dX10_readRow_119 : decode cX10_readRow 119 = .ok (.iadd, 1) := dk_96 (dk_at dksX10_readRow_5 4 rfl rfl)
theorem dX10_readRow_120 : decode cX10_readRow 120 = .ok (.aload_n 0, 1) := dk_42 (dk_at dksX10_readRow_5 5 rfl rfl)
theorem dX10_readRow_121 : decode cX10_readRow 121 = .ok (.getfield 24, 3) := dk_180 0 24 (dk_at dksX10_readRow_5 6 rfl rfl)
theorem dX10_readRow_124 : decode cX10_readRow 124 = .ok (.isub, 1) := dk_100 (dk_at dksX10_readRow_5 9 rfl rfl)
theorem dX10_readRow_125 : decode cX10_readRow 125 = .ok (.sipush 600, 3) := dk_17 2 88 (dk_at dksX10_readRow_5 10 rfl rfl)
theorem dX10_readRow_128 : decode cX10_readRow 128 = .ok (.if_icmp .le 9, 3) := dk_164 0 9 (dk_at dksX10_readRow_5 13 rfl rfl)
theorem dX10_readRow_131 : decode cX10_readRow 131 = .ok (.aload_n 0, 1) := dk_42 (dk_at dksX10_readRow_5 16 rfl rfl)
theorem dX10_readRow_132 : decode cX10_readRow 132 = .ok (.iconst 4, 1) := dk_7 (dk_at dksX10_readRow_5 17 rfl rfl)
theorem dX10_readRow_133 : decode cX10_readRow 133 = .ok (.invokevirtual 72, 3) := dk_182 0 72 (dk_at dksX10_readRow_5 18 rfl rfl)
theorem dX10_readRow_136 : decode cX10_readRow 136 = .ok (.ireturn, 1) := dk_172 (dk_at dksX10_readRow_5 21 rfl rfl)
theorem dX10_readRow_137 : decode cX10_readRow 137 = .ok (.aload_n 0, 1) := dk_42 (dk_at dksX10_readRow_5 22 rfl rfl)
theorem dX10_readRow_138 : decode cX10_readRow 138 = .ok (.getfield 24, 3) := dk_180 0 24 (dk_at dksX10_readRow_6 0 rfl rfl)
theorem dX10_readRow_141 : decode cX10_readRow 141 = .ok (.istore_n 2, 1) := dk_61 (dk_at dksX10_readRow_6 3 rfl rfl)
theorem dX10_readRow_142 : decode cX10_readRow 142 = .ok (.iload_n 2, 1) := dk_28 (dk_at dksX10_readRow_6 4 rfl rfl)
theorem dX10_readRow_143 : decode cX10_readRow 143 = .ok (.aload_n 0, 1) := dk_42 (dk_at dksX10_readRow_6 5 rfl rfl)
theorem dX10_readRow_144 : decode cX10_readRow 144 = .ok (.getfield 21, 3) := dk_180 0 21 (dk_at dksX10_readRow_6 6 rfl rfl)
theorem dX10_readRow_147 : decode cX10_readRow 147 = .ok (.if_icmp .ge 60, 3) := dk_162 0 60 (dk_at dksX10_readRow_6 9 rfl rfl)
theorem dX10_readRow_150 : decode cX10_readRow 150 = .ok (.aload_n 0, 1) := dk_42 (dk_at dksX10_readRow_6 12 rfl rfl)
theorem dX10_readRow_151 : decode cX10_readRow 151 = .ok (.getfield 101, 3) := dk_180 0 101 (dk_at dksX10_readRow_6 13 rfl rfl)
theorem dX10_readRow_154 : decode cX10_readRow 154 = .ok (.sipush 207, 3) := dk_17 0 207 (dk_at dksX10_readRow_6 16 rfl rfl)
theorem dX10_readRow_157 : decode cX10_readRow 157 = .ok (.sipush 600, 3) := dk_17 2 88 (dk_at dksX10_readRow_6 19 rfl rfl)
theorem dX10_readRow_160 : decode cX10_readRow 160 = .ok (.iload_n 1, 1) := dk_27 (dk_at dksX10_readRow_6 22 rfl rfl)
theorem dX10_readRow_161 : decode cX10_readRow 161 = .ok (.imul, 1) := dk_104 (dk_at dksX10_readRow_6 23 rfl rfl)
theorem dX10_readRow_162 : decode cX10_readRow 162 = .ok (.iadd, 1) := dk_96 (dk_at dksX10_readRow_7 0 rfl rfl)
theorem dX10_readRow_163 : decode cX10_readRow 163 = .ok (.aload_n 0, 1) := dk_42 (dk_at dksX10_readRow_7 1 rfl rfl)
theorem dX10_readRow_164 : decode cX10_readRow 164 = .ok (.getfield 101, 3) := dk_180 0 101 (dk_at dksX10_readRow_7 2 rfl rfl)
theorem dX10_readRow_167 : decode cX10_readRow 167 = .ok (.iconst 2, 1) := dk_5 (dk_at dksX10_readRow_7 5 rfl rfl)
theorem dX10_readRow_168 : decode cX10_readRow 168 = .ok (.iload_n 1, 1) := dk_27 (dk_at dksX10_readRow_7 6 rfl rfl)
theorem dX10_readRow_169 : decode cX10_readRow 169 = .ok (.iadd, 1) := dk_96 (dk_at dksX10_readRow_7 7 rfl rfl)
theorem dX10_readRow_170 : decode cX10_readRow 170 = .ok (.iaload, 1) := dk_46 (dk_at dksX10_readRow_7 8 rfl rfl)
theorem dX10_readRow_171 : decode cX10_readRow 171 = .ok (.iadd, 1) := dk_96 (dk_at dksX10_readRow_7 9 rfl rfl)
theorem dX10_readRow_172 : decode cX10_readRow 172 = .ok (.aload_n 0, 1) := dk_42 (dk_at dksX10_readRow_7 10 rfl rfl)
theorem dX10_readRow_173 : decode cX10_readRow 173 = .ok (.getfield 7, 3) := dk_180 0 7 (dk_at dksX10_readRow_7 11 rfl rfl)
theorem dX10_readRow_176 : decode cX10_readRow 176 = .ok (.iload_n 2, 1) := dk_28 (dk_at dksX10_readRow_7 14 rfl rfl)
theorem dX10_readRow_177 : decode cX10_readRow 177 = .ok (.iaload, 1) := dk_46 (dk_at dksX10_readRow_7 15 rfl rfl)
theorem dX10_readRow_178 : decode cX10_readRow 178 = .ok (.bipush 105, 2) := dk_16 105 (dk_at dksX10_readRow_7 16 rfl rfl)
theorem dX10_readRow_180 : decode cX10_readRow 180 = .ok (.if_icmp .ne 7, 3) := dk_160 0 7 (dk_at dksX10_readRow_7 18 rfl rfl)
theorem dX10_readRow_183 : decode cX10_readRow 183 = .ok (.iconst 1, 1) := dk_4 (dk_at dksX10_readRow_7 21 rfl rfl)
theorem dX10_readRow_184 : decode cX10_readRow 184 = .ok (.goto 4, 3) := dk_167 0 4 (dk_at dksX10_readRow_8 0 rfl rfl)
theorem dX10_readRow_187 : decode cX10_readRow 187 = .ok (.iconst 0, 1) := dk_3 (dk_at dksX10_readRow_8 3 rfl rfl)
theorem dX10_readRow_188 : decode cX10_readRow 188 = .ok (.iastore, 1) := dk_79 (dk_at dksX10_readRow_8 4 rfl rfl)
theorem dX10_readRow_189 : decode cX10_readRow 189 = .ok (.aload_n 0, 1) := dk_42 (dk_at dksX10_readRow_8 5 rfl rfl)
theorem dX10_readRow_190 : decode cX10_readRow 190 = .ok (.getfield 101, 3) := dk_180 0 101 (dk_at dksX10_readRow_8 6 rfl rfl)
theorem dX10_readRow_193 : decode cX10_readRow 193 = .ok (.iconst 2, 1) := dk_5 (dk_at dksX10_readRow_8 9 rfl rfl)
theorem dX10_readRow_194 : decode cX10_readRow 194 = .ok (.iload_n 1, 1) := dk_27 (dk_at dksX10_readRow_8 10 rfl rfl)
theorem dX10_readRow_195 : decode cX10_readRow 195 = .ok (.iadd, 1) := dk_96 (dk_at dksX10_readRow_8 11 rfl rfl)
theorem dX10_readRow_196 : decode cX10_readRow 196 = .ok (.dup2, 1) := dk_92 (dk_at dksX10_readRow_8 12 rfl rfl)
theorem dX10_readRow_197 : decode cX10_readRow 197 = .ok (.iaload, 1) := dk_46 (dk_at dksX10_readRow_8 13 rfl rfl)
theorem dX10_readRow_198 : decode cX10_readRow 198 = .ok (.iconst 1, 1) := dk_4 (dk_at dksX10_readRow_8 14 rfl rfl)
theorem dX10_readRow_199 : decode cX10_readRow 199 = .ok (.iadd, 1) := dk_96 (dk_at dksX10_readRow_8 15 rfl rfl)
theorem dX10_readRow_200 : decode cX10_readRow 200 = .ok (.iastore, 1) := dk_79 (dk_at dksX10_readRow_8 16 rfl rfl)
theorem dX10_readRow_201 : decode cX10_readRow 201 = .ok (.iinc 2 1, 3) := dk_132 2 1 (dk_at dksX10_readRow_8 17 rfl rfl)
theorem dX10_readRow_204 : decode cX10_readRow 204 = .ok (.goto (-62), 3) := dk_167 255 194 (dk_at dksX10_readRow_8 20 rfl rfl)
theorem dX10_readRow_207 : decode cX10_readRow 207 = .ok (.aload_n 0, 1) := dk_42 (dk_at dksX10_readRow_8 23 rfl rfl)
theorem dX10_readRow_208 : decode cX10_readRow 208 = .ok (.invokevirtual 82, 3) := dk_182 0 82 (dk_at dksX10_readRow_9 0 rfl rfl)
theorem dX10_readRow_211 : decode cX10_readRow 211 = .ok (.goto (-125), 3) := dk_167 255 131 (dk_at dksX10_readRow_9 3 rfl rfl)
theorem dX10_readRow_214 : decode cX10_readRow 214 = .ok (.iconst 1, 1) := dk_4 (dk_at dksX10_readRow_9 6 rfl rfl)
theorem dX10_readRow_215 : decode cX10_readRow 215 = .ok (.ireturn, 1) := dk_172 (dk_at dksX10_readRow_9 7 rfl rfl)
abbrev cX10_isName : ByteArray := prog_23_method_17_code
def yX10_isName : MethodName := ⟨RX10, "isName", "()Z"⟩
def dkwX10_isName_1 : List UInt8 := [184, 0, 62, 148, 154, 0, 5, 3, 172, 132, 1, 1, 167, 255, 233, 4, 172]
abbrev dktX10_isName_1 : List UInt8 := dkwX10_isName_1 ++ []
def dkwX10_isName_0 : List UInt8 := [42, 180, 0, 30, 5, 159, 0, 5, 3, 172, 3, 60, 27, 16, 22, 163, 0, 23, 42, 180, 0, 43, 27]
abbrev dktX10_isName_0 : List UInt8 := dkwX10_isName_0 ++ dktX10_isName_1
theorem dksX10_isName_0 : cX10_isName.data.toList.drop 0 = dktX10_isName_0 := by decide +kernel
theorem dksX10_isName_1 : cX10_isName.data.toList.drop 23 = dktX10_isName_1 := dk_seg dksX10_isName_0 23 rfl rfl
theorem dX10_isName_0 : decode cX10_isName 0 = .ok (.aload_n 0, 1) := dk_42 (dk_at dksX10_isName_0 0 rfl rfl)
theorem dX10_isName_1 : decode cX10_isName 1 = .ok (.getfield 30, 3) := dk_180 0 30 (dk_at dksX10_isName_0 1 rfl rfl)
theorem dX10_isName_4 : decode cX10_isName 4 = .ok (.iconst 2, 1) := dk_5 (dk_at dksX10_isName_0 4 rfl rfl)
theorem dX10_isName_5 : decode cX10_isName 5 = .ok (.if_icmp .eq 5, 3) := dk_159 0 5 (dk_at dksX10_isName_0 5 rfl rfl)
theorem dX10_isName_8 : decode cX10_isName 8 = .ok (.iconst 0, 1) := dk_3 (dk_at dksX10_isName_0 8 rfl rfl)
theorem dX10_isName_9 : decode cX10_isName 9 = .ok (.ireturn, 1) := dk_172 (dk_at dksX10_isName_0 9 rfl rfl)
theorem dX10_isName_10 : decode cX10_isName 10 = .ok (.iconst 0, 1) := dk_3 (dk_at dksX10_isName_0 10 rfl rfl)
theorem dX10_isName_11 : decode cX10_isName 11 = .ok (.istore_n 1, 1) := dk_60 (dk_at dksX10_isName_0 11 rfl rfl)
theorem dX10_isName_12 : decode cX10_isName 12 = .ok (.iload_n 1, 1) := dk_27 (dk_at dksX10_isName_0 12 rfl rfl)
theorem dX10_isName_13 : decode cX10_isName 13 = .ok (.bipush 22, 2) := dk_16 22 (dk_at dksX10_isName_0 13 rfl rfl)
theorem dX10_isName_15 : decode cX10_isName 15 = .ok (.if_icmp .gt 23, 3) := dk_163 0 23 (dk_at dksX10_isName_0 15 rfl rfl)
theorem dX10_isName_18 : decode cX10_isName 18 = .ok (.aload_n 0, 1) := dk_42 (dk_at dksX10_isName_0 18 rfl rfl)
theorem dX10_isName_19 : decode cX10_isName 19 = .ok (.getfield 43, 3) := dk_180 0 43 (dk_at dksX10_isName_0 19 rfl rfl)
theorem dX10_isName_22 : decode cX10_isName 22 = .ok (.iload_n 1, 1) := dk_27 (dk_at dksX10_isName_0 22 rfl rfl)
theorem dX10_isName_23 : decode cX10_isName 23 = .ok (.invokestatic 62, 3) := dk_184 0 62 (dk_at dksX10_isName_1 0 rfl rfl)
theorem dX10_isName_26 : decode cX10_isName 26 = .ok (.lcmp, 1) := dk_148 (dk_at dksX10_isName_1 3 rfl rfl)
theorem dX10_isName_27 : decode cX10_isName 27 = .ok (.ifCond .ne 5, 3) := dk_154 0 5 (dk_at dksX10_isName_1 4 rfl rfl)
theorem dX10_isName_30 : decode cX10_isName 30 = .ok (.iconst 0, 1) := dk_3 (dk_at dksX10_isName_1 7 rfl rfl)
theorem dX10_isName_31 : decode cX10_isName 31 = .ok (.ireturn, 1) := dk_172 (dk_at dksX10_isName_1 8 rfl rfl)
theorem dX10_isName_32 : decode cX10_isName 32 = .ok (.iinc 1 1, 3) := dk_132 1 1 (dk_at dksX10_isName_1 9 rfl rfl)
theorem dX10_isName_35 : decode cX10_isName 35 = .ok (.goto (-23), 3) := dk_167 255 233 (dk_at dksX10_isName_1 12 rfl rfl)
theorem dX10_isName_38 : decode cX10_isName 38 = .ok (.iconst 1, 1) := dk_4 (dk_at dksX10_isName_1 15 rfl rfl)
theorem dX10_isName_39 : decode cX10_isName 39 = .ok (.ireturn, 1) := dk_172 (dk_at dksX10_isName_1 16 rfl rfl)
abbrev cX10_findIn : ByteArray := prog_23_method_24_code
def yX10_findIn : MethodName := ⟨RX10, "findIn", "([JIJ)I"⟩
def dkwX10_findIn_1 : List UInt8 := [167, 255, 235, 2, 172]
abbrev dktX10_findIn_1 : List UInt8 := dkwX10_findIn_1 ++ []
def dkwX10_findIn_0 : List UInt8 := [3, 54, 4, 21, 4, 27, 162, 0, 21, 42, 21, 4, 47, 32, 148, 154, 0, 6, 21, 4, 172, 132, 4, 1]
abbrev dktX10_findIn_0 : List UInt8 := dkwX10_findIn_0 ++ dktX10_findIn_1
theorem dksX10_findIn_0 : cX10_findIn.data.toList.drop 0 = dktX10_findIn_0 := by decide +kernel
theorem dksX10_findIn_1 : cX10_findIn.data.toList.drop 24 = dktX10_findIn_1 := dk_seg dksX10_findIn_0 24 rfl rfl
theorem dX10_findIn_0 : decode cX10_findIn 0 = .ok (.iconst 0, 1) := dk_3 (dk_at dksX10_findIn_0 0 rfl rfl)
theorem dX10_findIn_1 : decode cX10_findIn 1 = .ok (.istore 4, 2) := dk_54 4 (dk_at dksX10_findIn_0 1 rfl rfl)
theorem dX10_findIn_3 : decode cX10_findIn 3 = .ok (.iload 4, 2) := dk_21 4 (dk_at dksX10_findIn_0 3 rfl rfl)
theorem dX10_findIn_5 : decode cX10_findIn 5 = .ok (.iload_n 1, 1) := dk_27 (dk_at dksX10_findIn_0 5 rfl rfl)
theorem dX10_findIn_6 : decode cX10_findIn 6 = .ok (.if_icmp .ge 21, 3) := dk_162 0 21 (dk_at dksX10_findIn_0 6 rfl rfl)
theorem dX10_findIn_9 : decode cX10_findIn 9 = .ok (.aload_n 0, 1) := dk_42 (dk_at dksX10_findIn_0 9 rfl rfl)
theorem dX10_findIn_10 : decode cX10_findIn 10 = .ok (.iload 4, 2) := dk_21 4 (dk_at dksX10_findIn_0 10 rfl rfl)
theorem dX10_findIn_12 : decode cX10_findIn 12 = .ok (.laload, 1) := dk_47 (dk_at dksX10_findIn_0 12 rfl rfl)
theorem dX10_findIn_13 : decode cX10_findIn 13 = .ok (.lload_n 2, 1) := dk_32 (dk_at dksX10_findIn_0 13 rfl rfl)
theorem dX10_findIn_14 : decode cX10_findIn 14 = .ok (.lcmp, 1) := dk_148 (dk_at dksX10_findIn_0 14 rfl rfl)
theorem dX10_findIn_15 : decode cX10_findIn 15 = .ok (.ifCond .ne 6, 3) := dk_154 0 6 (dk_at dksX10_findIn_0 15 rfl rfl)
theorem dX10_findIn_18 : decode cX10_findIn 18 = .ok (.iload 4, 2) := dk_21 4 (dk_at dksX10_findIn_0 18 rfl rfl)
theorem dX10_findIn_20 : decode cX10_findIn 20 = .ok (.ireturn, 1) := dk_172 (dk_at dksX10_findIn_0 20 rfl rfl)
theorem dX10_findIn_21 : decode cX10_findIn 21 = .ok (.iinc 4 1, 3) := dk_132 4 1 (dk_at dksX10_findIn_0 21 rfl rfl)
theorem dX10_findIn_24 : decode cX10_findIn 24 = .ok (.goto (-21), 3) := dk_167 255 235 (dk_at dksX10_findIn_1 0 rfl rfl)
theorem dX10_findIn_27 : decode cX10_findIn 27 = .ok (.iconst (-1), 1) := dk_2 (dk_at dksX10_findIn_1 3 rfl rfl)
theorem dX10_findIn_28 : decode cX10_findIn 28 = .ok (.ireturn, 1) := dk_172 (dk_at dksX10_findIn_1 4 rfl rfl)
abbrev cX10_areBits : ByteArray := prog_23_method_27_code
def yX10_areBits : MethodName := ⟨RX10, "areBits", "()Z"⟩
def dkwX10_areBits_1 : List UInt8 := [42, 180, 0, 7, 27, 46, 16, 111, 159, 0, 5, 3, 172, 132, 1, 1, 167, 255, 221, 4, 172]
abbrev dktX10_areBits_1 : List UInt8 := dkwX10_areBits_1 ++ []
def dkwX10_areBits_0 : List UInt8 := [42, 180, 0, 24, 60, 27, 42, 180, 0, 21, 162, 0, 33, 42, 180, 0, 7, 27, 46, 16, 105, 159, 0, 16]
abbrev dktX10_areBits_0 : List UInt8 := dkwX10_areBits_0 ++ dktX10_areBits_1
theorem dksX10_areBits_0 : cX10_areBits.data.toList.drop 0 = dktX10_areBits_0 := by decide +kernel
theorem dksX10_areBits_1 : cX10_areBits.data.toList.drop 24 = dktX10_areBits_1 := dk_seg dksX10_areBits_0 24 rfl rfl
theorem dX10_areBits_0 : decode cX10_areBits 0 = .ok (.aload_n 0, 1) := dk_42 (dk_at dksX10_areBits_0 0 rfl rfl)
theorem dX10_areBits_1 : decode cX10_areBits 1 = .ok (.getfield 24, 3) := dk_180 0 24 (dk_at dksX10_areBits_0 1 rfl rfl)
theorem dX10_areBits_4 : decode cX10_areBits 4 = .ok (.istore_n 1, 1) := dk_60 (dk_at dksX10_areBits_0 4 rfl rfl)
theorem dX10_areBits_5 : decode cX10_areBits 5 = .ok (.iload_n 1, 1) := dk_27 (dk_at dksX10_areBits_0 5 rfl rfl)
theorem dX10_areBits_6 : decode cX10_areBits 6 = .ok (.aload_n 0, 1) := dk_42 (dk_at dksX10_areBits_0 6 rfl rfl)
theorem dX10_areBits_7 : decode cX10_areBits 7 = .ok (.getfield 21, 3) := dk_180 0 21 (dk_at dksX10_areBits_0 7 rfl rfl)
theorem dX10_areBits_10 : decode cX10_areBits 10 = .ok (.if_icmp .ge 33, 3) := dk_162 0 33 (dk_at dksX10_areBits_0 10 rfl rfl)
theorem dX10_areBits_13 : decode cX10_areBits 13 = .ok (.aload_n 0, 1) := dk_42 (dk_at dksX10_areBits_0 13 rfl rfl)
theorem dX10_areBits_14 : decode cX10_areBits 14 = .ok (.getfield 7, 3) := dk_180 0 7 (dk_at dksX10_areBits_0 14 rfl rfl)
theorem dX10_areBits_17 : decode cX10_areBits 17 = .ok (.iload_n 1, 1) := dk_27 (dk_at dksX10_areBits_0 17 rfl rfl)
theorem dX10_areBits_18 : decode cX10_areBits 18 = .ok (.iaload, 1) := dk_46 (dk_at dksX10_areBits_0 18 rfl rfl)
theorem dX10_areBits_19 : decode cX10_areBits 19 = .ok (.bipush 105, 2) := dk_16 105 (dk_at dksX10_areBits_0 19 rfl rfl)
theorem dX10_areBits_21 : decode cX10_areBits 21 = .ok (.if_icmp .eq 16, 3) := dk_159 0 16 (dk_at dksX10_areBits_0 21 rfl rfl)
theorem dX10_areBits_24 : decode cX10_areBits 24 = .ok (.aload_n 0, 1) := dk_42 (dk_at dksX10_areBits_1 0 rfl rfl)
theorem dX10_areBits_25 : decode cX10_areBits 25 = .ok (.getfield 7, 3) := dk_180 0 7 (dk_at dksX10_areBits_1 1 rfl rfl)
theorem dX10_areBits_28 : decode cX10_areBits 28 = .ok (.iload_n 1, 1) := dk_27 (dk_at dksX10_areBits_1 4 rfl rfl)
theorem dX10_areBits_29 : decode cX10_areBits 29 = .ok (.iaload, 1) := dk_46 (dk_at dksX10_areBits_1 5 rfl rfl)
theorem dX10_areBits_30 : decode cX10_areBits 30 = .ok (.bipush 111, 2) := dk_16 111 (dk_at dksX10_areBits_1 6 rfl rfl)
theorem dX10_areBits_32 : decode cX10_areBits 32 = .ok (.if_icmp .eq 5, 3) := dk_159 0 5 (dk_at dksX10_areBits_1 8 rfl rfl)
theorem dX10_areBits_35 : decode cX10_areBits 35 = .ok (.iconst 0, 1) := dk_3 (dk_at dksX10_areBits_1 11 rfl rfl)
theorem dX10_areBits_36 : decode cX10_areBits 36 = .ok (.ireturn, 1) := dk_172 (dk_at dksX10_areBits_1 12 rfl rfl)
theorem dX10_areBits_37 : decode cX10_areBits 37 = .ok (.iinc 1 1, 3) := dk_132 1 1 (dk_at dksX10_areBits_1 13 rfl rfl)
theorem dX10_areBits_40 : decode cX10_areBits 40 = .ok (.goto (-35), 3) := dk_167 255 221 (dk_at dksX10_areBits_1 16 rfl rfl)
theorem dX10_areBits_43 : decode cX10_areBits 43 = .ok (.iconst 1, 1) := dk_4 (dk_at dksX10_areBits_1 19 rfl rfl)
theorem dX10_areBits_44 : decode cX10_areBits 44 = .ok (.ireturn, 1) := dk_172 (dk_at dksX10_areBits_1 20 rfl rfl)
abbrev cX10_readLetters : ByteArray := prog_23_method_29_code
def yX10_readLetters : MethodName := ⟨RX10, "readLetters", "()Z"⟩
def dkwX10_readLetters_5 : List UInt8 := [46, 4, 96, 79, 132, 1, 1, 167, 255, 210, 42, 182, 0, 82, 167, 255, 146, 4, 172]
abbrev dktX10_readLetters_5 : List UInt8 := dkwX10_readLetters_5 ++ []
def dkwX10_readLetters_4 : List UInt8 := [180, 0, 101, 16, 6, 46, 96, 42, 180, 0, 7, 27, 46, 16, 97, 100, 79, 42, 180, 0, 101, 16, 6, 92]
abbrev dktX10_readLetters_4 : List UInt8 := dkwX10_readLetters_4 ++ dktX10_readLetters_5
def dkwX10_readLetters_3 : List UInt8 := [182, 0, 72, 172, 42, 180, 0, 24, 60, 27, 42, 180, 0, 21, 162, 0, 44, 42, 180, 0, 101, 16, 7, 42]
abbrev dktX10_readLetters_3 : List UInt8 := dkwX10_readLetters_3 ++ dktX10_readLetters_4
def dkwX10_readLetters_2 : List UInt8 := [180, 0, 101, 16, 6, 46, 42, 180, 0, 21, 96, 42, 180, 0, 24, 100, 17, 0, 200, 164, 0, 9, 42, 7]
abbrev dktX10_readLetters_2 : List UInt8 := dkwX10_readLetters_2 ++ dktX10_readLetters_3
def dkwX10_readLetters_1 : List UInt8 := [180, 0, 30, 5, 160, 0, 108, 42, 16, 104, 182, 0, 165, 154, 0, 9, 42, 5, 182, 0, 72, 172, 42]
abbrev dktX10_readLetters_1 : List UInt8 := dkwX10_readLetters_1 ++ dktX10_readLetters_2
def dkwX10_readLetters_0 : List UInt8 := [42, 180, 0, 161, 153, 0, 9, 42, 6, 182, 0, 72, 172, 42, 4, 181, 0, 161, 42, 182, 0, 82, 42]
abbrev dktX10_readLetters_0 : List UInt8 := dkwX10_readLetters_0 ++ dktX10_readLetters_1
theorem dksX10_readLetters_0 : cX10_readLetters.data.toList.drop 0 = dktX10_readLetters_0 := by decide +kernel
theorem dksX10_readLetters_1 : cX10_readLetters.data.toList.drop 23 = dktX10_readLetters_1 := dk_seg dksX10_readLetters_0 23 rfl rfl
theorem dksX10_readLetters_2 : cX10_readLetters.data.toList.drop 46 = dktX10_readLetters_2 := dk_seg dksX10_readLetters_1 23 rfl rfl
theorem dksX10_readLetters_3 : cX10_readLetters.data.toList.drop 70 = dktX10_readLetters_3 := dk_seg dksX10_readLetters_2 24 rfl rfl
theorem dksX10_readLetters_4 : cX10_readLetters.data.toList.drop 94 = dktX10_readLetters_4 := dk_seg dksX10_readLetters_3 24 rfl rfl
theorem dksX10_readLetters_5 : cX10_readLetters.data.toList.drop 118 = dktX10_readLetters_5 := dk_seg dksX10_readLetters_4 24 rfl rfl
theorem dX10_readLetters_0 : decode cX10_readLetters 0 = .ok (.aload_n 0, 1) := dk_42 (dk_at dksX10_readLetters_0 0 rfl rfl)
theorem dX10_readLetters_1 : decode cX10_readLetters 1 = .ok (.getfield 161, 3) := dk_180 0 161 (dk_at dksX10_readLetters_0 1 rfl rfl)
theorem dX10_readLetters_4 : decode cX10_readLetters 4 = .ok (.ifCond .eq 9, 3) := dk_153 0 9 (dk_at dksX10_readLetters_0 4 rfl rfl)
theorem dX10_readLetters_7 : decode cX10_readLetters 7 = .ok (.aload_n 0, 1) := dk_42 (dk_at dksX10_readLetters_0 7 rfl rfl)
theorem dX10_readLetters_8 : decode cX10_readLetters 8 = .ok (.iconst 3, 1) := dk_6 (dk_at dksX10_readLetters_0 8 rfl rfl)
theorem dX10_readLetters_9 : decode cX10_readLetters 9 = .ok (.invokevirtual 72, 3) := dk_182 0 72 (dk_at dksX10_readLetters_0 9 rfl rfl)
theorem dX10_readLetters_12 : decode cX10_readLetters 12 = .ok (.ireturn, 1) := dk_172 (dk_at dksX10_readLetters_0 12 rfl rfl)
theorem dX10_readLetters_13 : decode cX10_readLetters 13 = .ok (.aload_n 0, 1) := dk_42 (dk_at dksX10_readLetters_0 13 rfl rfl)
theorem dX10_readLetters_14 : decode cX10_readLetters 14 = .ok (.iconst 1, 1) := dk_4 (dk_at dksX10_readLetters_0 14 rfl rfl)
theorem dX10_readLetters_15 : decode cX10_readLetters 15 = .ok (.putfield 161, 3) := dk_181 0 161 (dk_at dksX10_readLetters_0 15 rfl rfl)
theorem dX10_readLetters_18 : decode cX10_readLetters 18 = .ok (.aload_n 0, 1) := dk_42 (dk_at dksX10_readLetters_0 18 rfl rfl)
theorem dX10_readLetters_19 : decode cX10_readLetters 19 = .ok (.invokevirtual 82, 3) := dk_182 0 82 (dk_at dksX10_readLetters_0 19 rfl rfl)
theorem dX10_readLetters_22 : decode cX10_readLetters 22 = .ok (.aload_n 0, 1) := dk_42 (dk_at dksX10_readLetters_0 22 rfl rfl)
theorem dX10_readLetters_23 : decode cX10_readLetters 23 = .ok (.getfield 30, 3) := dk_180 0 30 (dk_at dksX10_readLetters_1 0 rfl rfl)
theorem dX10_readLetters_26 : decode cX10_readLetters 26 = .ok (.iconst 2, 1) := dk_5 (dk_at dksX10_readLetters_1 3 rfl rfl)
theorem dX10_readLetters_27 : decode cX10_readLetters 27 = .ok (.if_icmp .ne 108, 3) := dk_160 0 108 (dk_at dksX10_readLetters_1 4 rfl rfl)
theorem dX10_readLetters_30 : decode cX10_readLetters 30 = .ok (.aload_n 0, 1) := dk_42 (dk_at dksX10_readLetters_1 7 rfl rfl)
theorem dX10_readLetters_31 : decode cX10_readLetters 31 = .ok (.bipush 104, 2) := dk_16 104 (dk_at dksX10_readLetters_1 8 rfl rfl)
theorem dX10_readLetters_33 : decode cX10_readLetters 33 = .ok (.invokevirtual 165, 3) := dk_182 0 165 (dk_at dksX10_readLetters_1 10 rfl rfl)
theorem dX10_readLetters_36 : decode cX10_readLetters 36 = .ok (.ifCond .ne 9, 3) := dk_154 0 9 (dk_at dksX10_readLetters_1 13 rfl rfl)
theorem dX10_readLetters_39 : decode cX10_readLetters 39 = .ok (.aload_n 0, 1) := dk_42 (dk_at dksX10_readLetters_1 16 rfl rfl)
theorem dX10_readLetters_40 : decode cX10_readLetters 40 = .ok (.iconst 2, 1) := dk_5 (dk_at dksX10_readLetters_1 17 rfl rfl)
theorem dX10_readLetters_41 : decode cX10_readLetters 41 = .ok (.invokevirtual 72, 3) := dk_182 0 72 (dk_at dksX10_readLetters_1 18 rfl rfl)
theorem dX10_readLetters_44 : decode cX10_readLetters 44 = .ok (.ireturn, 1) := dk_172 (dk_at dksX10_readLetters_1 21 rfl rfl)
theorem dX10_readLetters_45 : decode cX10_readLetters 45 = .ok (.aload_n 0, 1) := dk_42 (dk_at dksX10_readLetters_1 22 rfl rfl)
theorem dX10_readLetters_46 : decode cX10_readLetters 46 = .ok (.getfield 101, 3) := dk_180 0 101 (dk_at dksX10_readLetters_2 0 rfl rfl)
theorem dX10_readLetters_49 : decode cX10_readLetters 49 = .ok (.bipush 6, 2) := dk_16 6 (dk_at dksX10_readLetters_2 3 rfl rfl)
theorem dX10_readLetters_51 : decode cX10_readLetters 51 = .ok (.iaload, 1) := dk_46 (dk_at dksX10_readLetters_2 5 rfl rfl)
theorem dX10_readLetters_52 : decode cX10_readLetters 52 = .ok (.aload_n 0, 1) := dk_42 (dk_at dksX10_readLetters_2 6 rfl rfl)
theorem dX10_readLetters_53 : decode cX10_readLetters 53 = .ok (.getfield 21, 3) := dk_180 0 21 (dk_at dksX10_readLetters_2 7 rfl rfl)
theorem dX10_readLetters_56 : decode cX10_readLetters 56 = .ok (.iadd, 1) := dk_96 (dk_at dksX10_readLetters_2 10 rfl rfl)
theorem dX10_readLetters_57 : decode cX10_readLetters 57 = .ok (.aload_n 0, 1) := dk_42 (dk_at dksX10_readLetters_2 11 rfl rfl)
theorem dX10_readLetters_58 : decode cX10_readLetters 58 = .ok (.getfield 24, 3) := dk_180 0 24 (dk_at dksX10_readLetters_2 12 rfl rfl)
theorem dX10_readLetters_61 : decode cX10_readLetters 61 = .ok (.isub, 1) := dk_100 (dk_at dksX10_readLetters_2 15 rfl rfl)
theorem dX10_readLetters_62 : decode cX10_readLetters 62 = .ok (.sipush 200, 3) := dk_17 0 200 (dk_at dksX10_readLetters_2 16 rfl rfl)
theorem dX10_readLetters_65 : decode cX10_readLetters 65 = .ok (.if_icmp .le 9, 3) := dk_164 0 9 (dk_at dksX10_readLetters_2 19 rfl rfl)
theorem dX10_readLetters_68 : decode cX10_readLetters 68 = .ok (.aload_n 0, 1) := dk_42 (dk_at dksX10_readLetters_2 22 rfl rfl)
theorem dX10_readLetters_69 : decode cX10_readLetters 69 = .ok (.iconst 4, 1) := dk_7 (dk_at dksX10_readLetters_2 23 rfl rfl)
theorem dX10_readLetters_70 : decode cX10_readLetters 70 = .ok (.invokevirtual 72, 3) := dk_182 0 72 (dk_at dksX10_readLetters_3 0 rfl rfl)
theorem dX10_readLetters_73 : decode cX10_readLetters 73 = .ok (.ireturn, 1) := dk_172 (dk_at dksX10_readLetters_3 3 rfl rfl)
theorem dX10_readLetters_74 : decode cX10_readLetters 74 = .ok (.aload_n 0, 1) := dk_42 (dk_at dksX10_readLetters_3 4 rfl rfl)
theorem dX10_readLetters_75 : decode cX10_readLetters 75 = .ok (.getfield 24, 3) := dk_180 0 24 (dk_at dksX10_readLetters_3 5 rfl rfl)
theorem dX10_readLetters_78 : decode cX10_readLetters 78 = .ok (.istore_n 1, 1) := dk_60 (dk_at dksX10_readLetters_3 8 rfl rfl)
theorem dX10_readLetters_79 : decode cX10_readLetters 79 = .ok (.iload_n 1, 1) := dk_27 (dk_at dksX10_readLetters_3 9 rfl rfl)
theorem dX10_readLetters_80 : decode cX10_readLetters 80 = .ok (.aload_n 0, 1) := dk_42 (dk_at dksX10_readLetters_3 10 rfl rfl)
theorem dX10_readLetters_81 : decode cX10_readLetters 81 = .ok (.getfield 21, 3) := dk_180 0 21 (dk_at dksX10_readLetters_3 11 rfl rfl)
theorem dX10_readLetters_84 : decode cX10_readLetters 84 = .ok (.if_icmp .ge 44, 3) := dk_162 0 44 (dk_at dksX10_readLetters_3 14 rfl rfl)
theorem dX10_readLetters_87 : decode cX10_readLetters 87 = .ok (.aload_n 0, 1) := dk_42 (dk_at dksX10_readLetters_3 17 rfl rfl)
theorem dX10_readLetters_88 : decode cX10_readLetters 88 = .ok (.getfield 101, 3) := dk_180 0 101 (dk_at dksX10_readLetters_3 18 rfl rfl)
theorem dX10_readLetters_91 : decode cX10_readLetters 91 = .ok (.bipush 7, 2) := dk_16 7 (dk_at dksX10_readLetters_3 21 rfl rfl)
theorem dX10_readLetters_93 : decode cX10_readLetters 93 = .ok (.aload_n 0, 1) := dk_42 (dk_at dksX10_readLetters_3 23 rfl rfl)
theorem dX10_readLetters_94 : decode cX10_readLetters 94 = .ok (.getfield 101, 3) := dk_180 0 101 (dk_at dksX10_readLetters_4 0 rfl rfl)
theorem dX10_readLetters_97 : decode cX10_readLetters 97 = .ok (.bipush 6, 2) := dk_16 6 (dk_at dksX10_readLetters_4 3 rfl rfl)
theorem dX10_readLetters_99 : decode cX10_readLetters 99 = .ok (.iaload, 1) := dk_46 (dk_at dksX10_readLetters_4 5 rfl rfl)
theorem dX10_readLetters_100 : decode cX10_readLetters 100 = .ok (.iadd, 1) := dk_96 (dk_at dksX10_readLetters_4 6 rfl rfl)
theorem dX10_readLetters_101 : decode cX10_readLetters 101 = .ok (.aload_n 0, 1) := dk_42 (dk_at dksX10_readLetters_4 7 rfl rfl)
theorem dX10_readLetters_102 : decode cX10_readLetters 102 = .ok (.getfield 7, 3) := dk_180 0 7 (dk_at dksX10_readLetters_4 8 rfl rfl)
theorem dX10_readLetters_105 : decode cX10_readLetters 105 = .ok (.iload_n 1, 1) := dk_27 (dk_at dksX10_readLetters_4 11 rfl rfl)
theorem dX10_readLetters_106 : decode cX10_readLetters 106 = .ok (.iaload, 1) := dk_46 (dk_at dksX10_readLetters_4 12 rfl rfl)
theorem dX10_readLetters_107 : decode cX10_readLetters 107 = .ok (.bipush 97, 2) := dk_16 97 (dk_at dksX10_readLetters_4 13 rfl rfl)
theorem dX10_readLetters_109 : decode cX10_readLetters 109 = .ok (.isub, 1) := dk_100 (dk_at dksX10_readLetters_4 15 rfl rfl)
theorem dX10_readLetters_110 : decode cX10_readLetters 110 = .ok (.iastore, 1) := dk_79 (dk_at dksX10_readLetters_4 16 rfl rfl)
theorem dX10_readLetters_111 : decode cX10_readLetters 111 = .ok (.aload_n 0, 1) := dk_42 (dk_at dksX10_readLetters_4 17 rfl rfl)
theorem dX10_readLetters_112 : decode cX10_readLetters 112 = .ok (.getfield 101, 3) := dk_180 0 101 (dk_at dksX10_readLetters_4 18 rfl rfl)
theorem dX10_readLetters_115 : decode cX10_readLetters 115 = .ok (.bipush 6, 2) := dk_16 6 (dk_at dksX10_readLetters_4 21 rfl rfl)
theorem dX10_readLetters_117 : decode cX10_readLetters 117 = .ok (.dup2, 1) := dk_92 (dk_at dksX10_readLetters_4 23 rfl rfl)
theorem dX10_readLetters_118 : decode cX10_readLetters 118 = .ok (.iaload, 1) := dk_46 (dk_at dksX10_readLetters_5 0 rfl rfl)
theorem dX10_readLetters_119 : decode cX10_readLetters 119 = .ok (.iconst 1, 1) := dk_4 (dk_at dksX10_readLetters_5 1 rfl rfl)
theorem dX10_readLetters_120 : decode cX10_readLetters 120 = .ok (.iadd, 1) := dk_96 (dk_at dksX10_readLetters_5 2 rfl rfl)
theorem dX10_readLetters_121 : decode cX10_readLetters 121 = .ok (.iastore, 1) := dk_79 (dk_at dksX10_readLetters_5 3 rfl rfl)
theorem dX10_readLetters_122 : decode cX10_readLetters 122 = .ok (.iinc 1 1, 3) := dk_132 1 1 (dk_at dksX10_readLetters_5 4 rfl rfl)
theorem dX10_readLetters_125 : decode cX10_readLetters 125 = .ok (.goto (-46), 3) := dk_167 255 210 (dk_at dksX10_readLetters_5 7 rfl rfl)
theorem dX10_readLetters_128 : decode cX10_readLetters 128 = .ok (.aload_n 0, 1) := dk_42 (dk_at dksX10_readLetters_5 10 rfl rfl)
theorem dX10_readLetters_129 : decode cX10_readLetters 129 = .ok (.invokevirtual 82, 3) := dk_182 0 82 (dk_at dksX10_readLetters_5 11 rfl rfl)
theorem dX10_readLetters_132 : decode cX10_readLetters 132 = .ok (.goto (-110), 3) := dk_167 255 146 (dk_at dksX10_readLetters_5 14 rfl rfl)
theorem dX10_readLetters_135 : decode cX10_readLetters 135 = .ok (.iconst 1, 1) := dk_4 (dk_at dksX10_readLetters_5 17 rfl rfl)
theorem dX10_readLetters_136 : decode cX10_readLetters 136 = .ok (.ireturn, 1) := dk_172 (dk_at dksX10_readLetters_5 18 rfl rfl)
abbrev cX10_areOf : ByteArray := prog_23_method_26_code
def yX10_areOf : MethodName := ⟨RX10, "areOf", "(I)Z"⟩
def dkwX10_areOf_1 : List UInt8 := [172, 132, 2, 1, 167, 255, 233, 4, 172]
abbrev dktX10_areOf_1 : List UInt8 := dkwX10_areOf_1 ++ []
def dkwX10_areOf_0 : List UInt8 := [42, 180, 0, 24, 61, 28, 42, 180, 0, 21, 162, 0, 21, 42, 180, 0, 7, 28, 46, 27, 164, 0, 5, 3]
abbrev dktX10_areOf_0 : List UInt8 := dkwX10_areOf_0 ++ dktX10_areOf_1
theorem dksX10_areOf_0 : cX10_areOf.data.toList.drop 0 = dktX10_areOf_0 := by decide +kernel
theorem dksX10_areOf_1 : cX10_areOf.data.toList.drop 24 = dktX10_areOf_1 := dk_seg dksX10_areOf_0 24 rfl rfl
theorem dX10_areOf_0 : decode cX10_areOf 0 = .ok (.aload_n 0, 1) := dk_42 (dk_at dksX10_areOf_0 0 rfl rfl)
theorem dX10_areOf_1 : decode cX10_areOf 1 = .ok (.getfield 24, 3) := dk_180 0 24 (dk_at dksX10_areOf_0 1 rfl rfl)
theorem dX10_areOf_4 : decode cX10_areOf 4 = .ok (.istore_n 2, 1) := dk_61 (dk_at dksX10_areOf_0 4 rfl rfl)
theorem dX10_areOf_5 : decode cX10_areOf 5 = .ok (.iload_n 2, 1) := dk_28 (dk_at dksX10_areOf_0 5 rfl rfl)
theorem dX10_areOf_6 : decode cX10_areOf 6 = .ok (.aload_n 0, 1) := dk_42 (dk_at dksX10_areOf_0 6 rfl rfl)
theorem dX10_areOf_7 : decode cX10_areOf 7 = .ok (.getfield 21, 3) := dk_180 0 21 (dk_at dksX10_areOf_0 7 rfl rfl)
theorem dX10_areOf_10 : decode cX10_areOf 10 = .ok (.if_icmp .ge 21, 3) := dk_162 0 21 (dk_at dksX10_areOf_0 10 rfl rfl)
theorem dX10_areOf_13 : decode cX10_areOf 13 = .ok (.aload_n 0, 1) := dk_42 (dk_at dksX10_areOf_0 13 rfl rfl)
theorem dX10_areOf_14 : decode cX10_areOf 14 = .ok (.getfield 7, 3) := dk_180 0 7 (dk_at dksX10_areOf_0 14 rfl rfl)
theorem dX10_areOf_17 : decode cX10_areOf 17 = .ok (.iload_n 2, 1) := dk_28 (dk_at dksX10_areOf_0 17 rfl rfl)
theorem dX10_areOf_18 : decode cX10_areOf 18 = .ok (.iaload, 1) := dk_46 (dk_at dksX10_areOf_0 18 rfl rfl)
theorem dX10_areOf_19 : decode cX10_areOf 19 = .ok (.iload_n 1, 1) := dk_27 (dk_at dksX10_areOf_0 19 rfl rfl)
theorem dX10_areOf_20 : decode cX10_areOf 20 = .ok (.if_icmp .le 5, 3) := dk_164 0 5 (dk_at dksX10_areOf_0 20 rfl rfl)
theorem dX10_areOf_23 : decode cX10_areOf 23 = .ok (.iconst 0, 1) := dk_3 (dk_at dksX10_areOf_0 23 rfl rfl)
theorem dX10_areOf_24 : decode cX10_areOf 24 = .ok (.ireturn, 1) := dk_172 (dk_at dksX10_areOf_1 0 rfl rfl)
theorem dX10_areOf_25 : decode cX10_areOf 25 = .ok (.iinc 2 1, 3) := dk_132 2 1 (dk_at dksX10_areOf_1 1 rfl rfl)
theorem dX10_areOf_28 : decode cX10_areOf 28 = .ok (.goto (-23), 3) := dk_167 255 233 (dk_at dksX10_areOf_1 4 rfl rfl)
theorem dX10_areOf_31 : decode cX10_areOf 31 = .ok (.iconst 1, 1) := dk_4 (dk_at dksX10_areOf_1 7 rfl rfl)
theorem dX10_areOf_32 : decode cX10_areOf 32 = .ok (.ireturn, 1) := dk_172 (dk_at dksX10_areOf_1 8 rfl rfl)
abbrev cX10_readEnd : ByteArray := prog_23_method_20_code
def yX10_readEnd : MethodName := ⟨RX10, "readEnd", "()Z"⟩
def dkwX10_readEnd_0 : List UInt8 := [42, 16, 59, 182, 0, 86, 154, 0, 9, 42, 4, 182, 0, 72, 172, 42, 182, 0, 82, 4, 172]
abbrev dktX10_readEnd_0 : List UInt8 := dkwX10_readEnd_0 ++ []
theorem dksX10_readEnd_0 : cX10_readEnd.data.toList.drop 0 = dktX10_readEnd_0 := by decide +kernel
theorem dX10_readEnd_0 : decode cX10_readEnd 0 = .ok (.aload_n 0, 1) := dk_42 (dk_at dksX10_readEnd_0 0 rfl rfl)
theorem dX10_readEnd_1 : decode cX10_readEnd 1 = .ok (.bipush 59, 2) := dk_16 59 (dk_at dksX10_readEnd_0 1 rfl rfl)
theorem dX10_readEnd_3 : decode cX10_readEnd 3 = .ok (.invokevirtual 86, 3) := dk_182 0 86 (dk_at dksX10_readEnd_0 3 rfl rfl)
theorem dX10_readEnd_6 : decode cX10_readEnd 6 = .ok (.ifCond .ne 9, 3) := dk_154 0 9 (dk_at dksX10_readEnd_0 6 rfl rfl)
theorem dX10_readEnd_9 : decode cX10_readEnd 9 = .ok (.aload_n 0, 1) := dk_42 (dk_at dksX10_readEnd_0 9 rfl rfl)
theorem dX10_readEnd_10 : decode cX10_readEnd 10 = .ok (.iconst 1, 1) := dk_4 (dk_at dksX10_readEnd_0 10 rfl rfl)
theorem dX10_readEnd_11 : decode cX10_readEnd 11 = .ok (.invokevirtual 72, 3) := dk_182 0 72 (dk_at dksX10_readEnd_0 11 rfl rfl)
theorem dX10_readEnd_14 : decode cX10_readEnd 14 = .ok (.ireturn, 1) := dk_172 (dk_at dksX10_readEnd_0 14 rfl rfl)
theorem dX10_readEnd_15 : decode cX10_readEnd 15 = .ok (.aload_n 0, 1) := dk_42 (dk_at dksX10_readEnd_0 15 rfl rfl)
theorem dX10_readEnd_16 : decode cX10_readEnd 16 = .ok (.invokevirtual 82, 3) := dk_182 0 82 (dk_at dksX10_readEnd_0 16 rfl rfl)
theorem dX10_readEnd_19 : decode cX10_readEnd 19 = .ok (.iconst 1, 1) := dk_4 (dk_at dksX10_readEnd_0 19 rfl rfl)
theorem dX10_readEnd_20 : decode cX10_readEnd 20 = .ok (.ireturn, 1) := dk_172 (dk_at dksX10_readEnd_0 20 rfl rfl)
abbrev cX10_isSign : ByteArray := prog_23_method_16_code
def yX10_isSign : MethodName := ⟨RX10, "isSign", "(I)Z"⟩
def dkwX10_isSign_0 : List UInt8 := [42, 180, 0, 30, 7, 160, 0, 15, 42, 180, 0, 40, 27, 160, 0, 7, 4, 167, 0, 4, 3, 172]
abbrev dktX10_isSign_0 : List UInt8 := dkwX10_isSign_0 ++ []
theorem dksX10_isSign_0 : cX10_isSign.data.toList.drop 0 = dktX10_isSign_0 := by decide +kernel
theorem dX10_isSign_0 : decode cX10_isSign 0 = .ok (.aload_n 0, 1) := dk_42 (dk_at dksX10_isSign_0 0 rfl rfl)
theorem dX10_isSign_1 : decode cX10_isSign 1 = .ok (.getfield 30, 3) := dk_180 0 30 (dk_at dksX10_isSign_0 1 rfl rfl)
theorem dX10_isSign_4 : decode cX10_isSign 4 = .ok (.iconst 4, 1) := dk_7 (dk_at dksX10_isSign_0 4 rfl rfl)
theorem dX10_isSign_5 : decode cX10_isSign 5 = .ok (.if_icmp .ne 15, 3) := dk_160 0 15 (dk_at dksX10_isSign_0 5 rfl rfl)
theorem dX10_isSign_8 : decode cX10_isSign 8 = .ok (.aload_n 0, 1) := dk_42 (dk_at dksX10_isSign_0 8 rfl rfl)
theorem dX10_isSign_9 : decode cX10_isSign 9 = .ok (.getfield 40, 3) := dk_180 0 40 (dk_at dksX10_isSign_0 9 rfl rfl)
theorem dX10_isSign_12 : decode cX10_isSign 12 = .ok (.iload_n 1, 1) := dk_27 (dk_at dksX10_isSign_0 12 rfl rfl)
theorem dX10_isSign_13 : decode cX10_isSign 13 = .ok (.if_icmp .ne 7, 3) := dk_160 0 7 (dk_at dksX10_isSign_0 13 rfl rfl)
theorem dX10_isSign_16 : decode cX10_isSign 16 = .ok (.iconst 1, 1) := dk_4 (dk_at dksX10_isSign_0 16 rfl rfl)
theorem dX10_isSign_17 : decode cX10_isSign 17 = .ok (.goto 4, 3) := dk_167 0 4 (dk_at dksX10_isSign_0 17 rfl rfl)
theorem dX10_isSign_20 : decode cX10_isSign 20 = .ok (.iconst 0, 1) := dk_3 (dk_at dksX10_isSign_0 20 rfl rfl)
theorem dX10_isSign_21 : decode cX10_isSign 21 = .ok (.ireturn, 1) := dk_172 (dk_at dksX10_isSign_0 21 rfl rfl)
abbrev cX10_startSo : ByteArray := prog_23_method_23_code
def yX10_startSo : MethodName := ⟨RX10, "startSo", "()V"⟩
def dkwX10_startSo_5 : List UInt8 := [96, 42, 180, 0, 98, 16, 7, 27, 96, 46, 79, 132, 1, 1, 167, 255, 227, 177]
abbrev dktX10_startSo_5 : List UInt8 := dkwX10_startSo_5 ++ []
def dkwX10_startSo_4 : List UInt8 := [180, 0, 98, 16, 6, 46, 79, 3, 60, 27, 17, 0, 200, 162, 0, 28, 42, 180, 0, 98, 17, 10, 56, 27]
abbrev dktX10_startSo_4 : List UInt8 := dkwX10_startSo_4 ++ dktX10_startSo_5
def dkwX10_startSo_3 : List UInt8 := [182, 0, 142, 132, 2, 1, 167, 255, 219, 132, 1, 1, 167, 255, 201, 42, 180, 0, 98, 17, 10, 55, 42]
abbrev dktX10_startSo_3 : List UInt8 := dkwX10_startSo_3 ++ dktX10_startSo_4
def dkwX10_startSo_2 : List UInt8 := [162, 0, 31, 42, 27, 28, 42, 180, 0, 98, 17, 0, 207, 17, 2, 88, 27, 104, 96, 28, 96, 46]
abbrev dktX10_startSo_2 : List UInt8 := dkwX10_startSo_2 ++ dktX10_startSo_3
def dkwX10_startSo_1 : List UInt8 := [3, 60, 27, 42, 180, 0, 98, 3, 46, 162, 0, 51, 3, 61, 28, 42, 180, 0, 98, 5, 27, 96, 46]
abbrev dktX10_startSo_1 : List UInt8 := dkwX10_startSo_1 ++ dktX10_startSo_2
def dkwX10_startSo_0 : List UInt8 := [17, 10, 47, 60, 27, 17, 23, 174, 162, 0, 16, 42, 180, 0, 98, 27, 3, 79, 132, 1, 1, 167, 255, 239]
abbrev dktX10_startSo_0 : List UInt8 := dkwX10_startSo_0 ++ dktX10_startSo_1
theorem dksX10_startSo_0 : cX10_startSo.data.toList.drop 0 = dktX10_startSo_0 := by decide +kernel
theorem dksX10_startSo_1 : cX10_startSo.data.toList.drop 24 = dktX10_startSo_1 := dk_seg dksX10_startSo_0 24 rfl rfl
theorem dksX10_startSo_2 : cX10_startSo.data.toList.drop 47 = dktX10_startSo_2 := dk_seg dksX10_startSo_1 23 rfl rfl
theorem dksX10_startSo_3 : cX10_startSo.data.toList.drop 69 = dktX10_startSo_3 := dk_seg dksX10_startSo_2 22 rfl rfl
theorem dksX10_startSo_4 : cX10_startSo.data.toList.drop 92 = dktX10_startSo_4 := dk_seg dksX10_startSo_3 23 rfl rfl
theorem dksX10_startSo_5 : cX10_startSo.data.toList.drop 116 = dktX10_startSo_5 := dk_seg dksX10_startSo_4 24 rfl rfl
theorem dX10_startSo_0 : decode cX10_startSo 0 = .ok (.sipush 2607, 3) := dk_17 10 47 (dk_at dksX10_startSo_0 0 rfl rfl)
theorem dX10_startSo_3 : decode cX10_startSo 3 = .ok (.istore_n 1, 1) := dk_60 (dk_at dksX10_startSo_0 3 rfl rfl)
theorem dX10_startSo_4 : decode cX10_startSo 4 = .ok (.iload_n 1, 1) := dk_27 (dk_at dksX10_startSo_0 4 rfl rfl)
theorem dX10_startSo_5 : decode cX10_startSo 5 = .ok (.sipush 6062, 3) := dk_17 23 174 (dk_at dksX10_startSo_0 5 rfl rfl)
theorem dX10_startSo_8 : decode cX10_startSo 8 = .ok (.if_icmp .ge 16, 3) := dk_162 0 16 (dk_at dksX10_startSo_0 8 rfl rfl)
theorem dX10_startSo_11 : decode cX10_startSo 11 = .ok (.aload_n 0, 1) := dk_42 (dk_at dksX10_startSo_0 11 rfl rfl)
theorem dX10_startSo_12 : decode cX10_startSo 12 = .ok (.getfield 98, 3) := dk_180 0 98 (dk_at dksX10_startSo_0 12 rfl rfl)
theorem dX10_startSo_15 : decode cX10_startSo 15 = .ok (.iload_n 1, 1) := dk_27 (dk_at dksX10_startSo_0 15 rfl rfl)
theorem dX10_startSo_16 : decode cX10_startSo 16 = .ok (.iconst 0, 1) := dk_3 (dk_at dksX10_startSo_0 16 rfl rfl)
theorem dX10_startSo_17 : decode cX10_startSo 17 = .ok (.iastore, 1) := dk_79 (dk_at dksX10_startSo_0 17 rfl rfl)
theorem dX10_startSo_18 : decode cX10_startSo 18 = .ok (.iinc 1 1, 3) := dk_132 1 1 (dk_at dksX10_startSo_0 18 rfl rfl)
theorem dX10_startSo_21 : decode cX10_startSo 21 = .ok (.goto (-17), 3) := dk_167 255 239 (dk_at dksX10_startSo_0 21 rfl rfl)
theorem dX10_startSo_24 : decode cX10_startSo 24 = .ok (.iconst 0, 1) := dk_3 (dk_at dksX10_startSo_1 0 rfl rfl)
theorem dX10_startSo_25 : decode cX10_startSo 25 = .ok (.istore_n 1, 1) := dk_60 (dk_at dksX10_startSo_1 1 rfl rfl)
theorem dX10_startSo_26 : decode cX10_startSo 26 = .ok (.iload_n 1, 1) := dk_27 (dk_at dksX10_startSo_1 2 rfl rfl)
theorem dX10_startSo_27 : decode cX10_startSo 27 = .ok (.aload_n 0, 1) := dk_42 (dk_at dksX10_startSo_1 3 rfl rfl)
theorem dX10_startSo_28 : decode cX10_startSo 28 = .ok (.getfield 98, 3) := dk_180 0 98 (dk_at dksX10_startSo_1 4 rfl rfl)
theorem dX10_startSo_31 : decode cX10_startSo 31 = .ok (.iconst 0, 1) := dk_3 (dk_at dksX10_startSo_1 7 rfl rfl)
theorem dX10_startSo_32 : decode cX10_startSo 32 = .ok (.iaload, 1) := dk_46 (dk_at dksX10_startSo_1 8 rfl rfl)
theorem dX10_startSo_33 : decode cX10_startSo 33 = .ok (.if_icmp .ge 51, 3) := dk_162 0 51 (dk_at dksX10_startSo_1 9 rfl rfl)
theorem dX10_startSo_36 : decode cX10_startSo 36 = .ok (.iconst 0, 1) := dk_3 (dk_at dksX10_startSo_1 12 rfl rfl)
theorem dX10_startSo_37 : decode cX10_startSo 37 = .ok (.istore_n 2, 1) := dk_61 (dk_at dksX10_startSo_1 13 rfl rfl)
theorem dX10_startSo_38 : decode cX10_startSo 38 = .ok (.iload_n 2, 1) := dk_28 (dk_at dksX10_startSo_1 14 rfl rfl)
theorem dX10_startSo_39 : decode cX10_startSo 39 = .ok (.aload_n 0, 1) := dk_42 (dk_at dksX10_startSo_1 15 rfl rfl)
theorem dX10_startSo_40 : decode cX10_startSo 40 = .ok (.getfield 98, 3) := dk_180 0 98 (dk_at dksX10_startSo_1 16 rfl rfl)
theorem dX10_startSo_43 : decode cX10_startSo 43 = .ok (.iconst 2, 1) := dk_5 (dk_at dksX10_startSo_1 19 rfl rfl)
theorem dX10_startSo_44 : decode cX10_startSo 44 = .ok (.iload_n 1, 1) := dk_27 (dk_at dksX10_startSo_1 20 rfl rfl)
theorem dX10_startSo_45 : decode cX10_startSo 45 = .ok (.iadd, 1) := dk_96 (dk_at dksX10_startSo_1 21 rfl rfl)
theorem dX10_startSo_46 : decode cX10_startSo 46 = .ok (.iaload, 1) := dk_46 (dk_at dksX10_startSo_1 22 rfl rfl)
theorem dX10_startSo_47 : decode cX10_startSo 47 = .ok (.if_icmp .ge 31, 3) := dk_162 0 31 (dk_at dksX10_startSo_2 0 rfl rfl)
theorem dX10_startSo_50 : decode cX10_startSo 50 = .ok (.aload_n 0, 1) := dk_42 (dk_at dksX10_startSo_2 3 rfl rfl)
theorem dX10_startSo_51 : decode cX10_startSo 51 = .ok (.iload_n 1, 1) := dk_27 (dk_at dksX10_startSo_2 4 rfl rfl)
theorem dX10_startSo_52 : decode cX10_startSo 52 = .ok (.iload_n 2, 1) := dk_28 (dk_at dksX10_startSo_2 5 rfl rfl)
theorem dX10_startSo_53 : decode cX10_startSo 53 = .ok (.aload_n 0, 1) := dk_42 (dk_at dksX10_startSo_2 6 rfl rfl)
theorem dX10_startSo_54 : decode cX10_startSo 54 = .ok (.getfield 98, 3) := dk_180 0 98 (dk_at dksX10_startSo_2 7 rfl rfl)
theorem dX10_startSo_57 : decode cX10_startSo 57 = .ok (.sipush 207, 3) := dk_17 0 207 (dk_at dksX10_startSo_2 10 rfl rfl)
theorem dX10_startSo_60 : decode cX10_startSo 60 = .ok (.sipush 600, 3) := dk_17 2 88 (dk_at dksX10_startSo_2 13 rfl rfl)
theorem dX10_startSo_63 : decode cX10_startSo 63 = .ok (.iload_n 1, 1) := dk_27 (dk_at dksX10_startSo_2 16 rfl rfl)
theorem dX10_startSo_64 : decode cX10_startSo 64 = .ok (.imul, 1) := dk_104 (dk_at dksX10_startSo_2 17 rfl rfl)
theorem dX10_startSo_65 : decode cX10_startSo 65 = .ok (.iadd, 1) := dk_96 (dk_at dksX10_startSo_2 18 rfl rfl)
theorem dX10_startSo_66 : decode cX10_startSo 66 = .ok (.iload_n 2, 1) := dk_28 (dk_at dksX10_startSo_2 19 rfl rfl)
theorem dX10_startSo_67 : decode cX10_startSo 67 = .ok (.iadd, 1) := dk_96 (dk_at dksX10_startSo_2 20 rfl rfl)
theorem dX10_startSo_68 : decode cX10_startSo 68 = .ok (.iaload, 1) := dk_46 (dk_at dksX10_startSo_2 21 rfl rfl)
theorem dX10_startSo_69 : decode cX10_startSo 69 = .ok (.invokevirtual 142, 3) := dk_182 0 142 (dk_at dksX10_startSo_3 0 rfl rfl)
theorem dX10_startSo_72 : decode cX10_startSo 72 = .ok (.iinc 2 1, 3) := dk_132 2 1 (dk_at dksX10_startSo_3 3 rfl rfl)
theorem dX10_startSo_75 : decode cX10_startSo 75 = .ok (.goto (-37), 3) := dk_167 255 219 (dk_at dksX10_startSo_3 6 rfl rfl)
theorem dX10_startSo_78 : decode cX10_startSo 78 = .ok (.iinc 1 1, 3) := dk_132 1 1 (dk_at dksX10_startSo_3 9 rfl rfl)
theorem dX10_startSo_81 : decode cX10_startSo 81 = .ok (.goto (-55), 3) := dk_167 255 201 (dk_at dksX10_startSo_3 12 rfl rfl)
theorem dX10_startSo_84 : decode cX10_startSo 84 = .ok (.aload_n 0, 1) := dk_42 (dk_at dksX10_startSo_3 15 rfl rfl)
theorem dX10_startSo_85 : decode cX10_startSo 85 = .ok (.getfield 98, 3) := dk_180 0 98 (dk_at dksX10_startSo_3 16 rfl rfl)
theorem dX10_startSo_88 : decode cX10_startSo 88 = .ok (.sipush 2615, 3) := dk_17 10 55 (dk_at dksX10_startSo_3 19 rfl rfl)
theorem dX10_startSo_91 : decode cX10_startSo 91 = .ok (.aload_n 0, 1) := dk_42 (dk_at dksX10_startSo_3 22 rfl rfl)
theorem dX10_startSo_92 : decode cX10_startSo 92 = .ok (.getfield 98, 3) := dk_180 0 98 (dk_at dksX10_startSo_4 0 rfl rfl)
theorem dX10_startSo_95 : decode cX10_startSo 95 = .ok (.bipush 6, 2) := dk_16 6 (dk_at dksX10_startSo_4 3 rfl rfl)
theorem dX10_startSo_97 : decode cX10_startSo 97 = .ok (.iaload, 1) := dk_46 (dk_at dksX10_startSo_4 5 rfl rfl)
theorem dX10_startSo_98 : decode cX10_startSo 98 = .ok (.iastore, 1) := dk_79 (dk_at dksX10_startSo_4 6 rfl rfl)
theorem dX10_startSo_99 : decode cX10_startSo 99 = .ok (.iconst 0, 1) := dk_3 (dk_at dksX10_startSo_4 7 rfl rfl)
theorem dX10_startSo_100 : decode cX10_startSo 100 = .ok (.istore_n 1, 1) := dk_60 (dk_at dksX10_startSo_4 8 rfl rfl)
theorem dX10_startSo_101 : decode cX10_startSo 101 = .ok (.iload_n 1, 1) := dk_27 (dk_at dksX10_startSo_4 9 rfl rfl)
theorem dX10_startSo_102 : decode cX10_startSo 102 = .ok (.sipush 200, 3) := dk_17 0 200 (dk_at dksX10_startSo_4 10 rfl rfl)
theorem dX10_startSo_105 : decode cX10_startSo 105 = .ok (.if_icmp .ge 28, 3) := dk_162 0 28 (dk_at dksX10_startSo_4 13 rfl rfl)
theorem dX10_startSo_108 : decode cX10_startSo 108 = .ok (.aload_n 0, 1) := dk_42 (dk_at dksX10_startSo_4 16 rfl rfl)
theorem dX10_startSo_109 : decode cX10_startSo 109 = .ok (.getfield 98, 3) := dk_180 0 98 (dk_at dksX10_startSo_4 17 rfl rfl)
theorem dX10_startSo_112 : decode cX10_startSo 112 = .ok (.sipush 2616, 3) := dk_17 10 56 (dk_at dksX10_startSo_4 20 rfl rfl)
theorem dX10_startSo_115 : decode cX10_startSo 115 = .ok (.iload_n 1, 1) := dk_27 (dk_at dksX10_startSo_4 23 rfl rfl)
theorem dX10_startSo_116 : decode cX10_startSo 116 = .ok (.iadd, 1) := dk_96 (dk_at dksX10_startSo_5 0 rfl rfl)
theorem dX10_startSo_117 : decode cX10_startSo 117 = .ok (.aload_n 0, 1) := dk_42 (dk_at dksX10_startSo_5 1 rfl rfl)
theorem dX10_startSo_118 : decode cX10_startSo 118 = .ok (.getfield 98, 3) := dk_180 0 98 (dk_at dksX10_startSo_5 2 rfl rfl)
theorem dX10_startSo_121 : decode cX10_startSo 121 = .ok (.bipush 7, 2) := dk_16 7 (dk_at dksX10_startSo_5 5 rfl rfl)
theorem dX10_startSo_123 : decode cX10_startSo 123 = .ok (.iload_n 1, 1) := dk_27 (dk_at dksX10_startSo_5 7 rfl rfl)
theorem dX10_startSo_124 : decode cX10_startSo 124 = .ok (.iadd, 1) := dk_96 (dk_at dksX10_startSo_5 8 rfl rfl)
theorem dX10_startSo_125 : decode cX10_startSo 125 = .ok (.iaload, 1) := dk_46 (dk_at dksX10_startSo_5 9 rfl rfl)
theorem dX10_startSo_126 : decode cX10_startSo 126 = .ok (.iastore, 1) := dk_79 (dk_at dksX10_startSo_5 10 rfl rfl)
theorem dX10_startSo_127 : decode cX10_startSo 127 = .ok (.iinc 1 1, 3) := dk_132 1 1 (dk_at dksX10_startSo_5 11 rfl rfl)
theorem dX10_startSo_130 : decode cX10_startSo 130 = .ok (.goto (-29), 3) := dk_167 255 227 (dk_at dksX10_startSo_5 14 rfl rfl)
theorem dX10_startSo_133 : decode cX10_startSo 133 = .ok (.return_, 1) := dk_177 (dk_at dksX10_startSo_5 17 rfl rfl)
abbrev cX10_putBit : ByteArray := prog_23_method_38_code
def yX10_putBit : MethodName := ⟨RX10, "putBit", "(III)V"⟩
def dkwX10_putBit_6 : List UInt8 := [182, 0, 195, 46, 5, 42, 180, 0, 98, 4, 46, 104, 164, 0, 10, 42, 27, 21, 5, 182, 0, 205, 177]
abbrev dktX10_putBit_6 : List UInt8 := dkwX10_putBit_6 ++ []
def dkwX10_putBit_5 : List UInt8 := [42, 180, 0, 98, 42, 27, 21, 5, 182, 0, 195, 92, 46, 4, 96, 79, 42, 180, 0, 98, 42, 27, 21, 5]
abbrev dktX10_putBit_5 : List UInt8 := dkwX10_putBit_5 ++ dktX10_putBit_6
def dkwX10_putBit_4 : List UInt8 := [42, 27, 28, 4, 100, 182, 0, 202, 54, 5, 42, 180, 0, 98, 17, 10, 47, 27, 96, 92, 46, 4, 96, 79]
abbrev dktX10_putBit_4 : List UInt8 := dkwX10_putBit_4 ++ dktX10_putBit_5
def dkwX10_putBit_3 : List UInt8 := [96, 46, 154, 0, 14, 42, 180, 0, 98, 17, 10, 51, 27, 96, 4, 79, 28, 154, 0, 7, 3, 167, 0, 11]
abbrev dktX10_putBit_3 : List UInt8 := dkwX10_putBit_3 ++ dktX10_putBit_4
def dkwX10_putBit_2 : List UInt8 := [132, 5, 255, 167, 255, 225, 42, 180, 0, 98, 21, 4, 28, 96, 29, 79, 42, 180, 0, 98, 17, 10, 51, 27]
abbrev dktX10_putBit_2 : List UInt8 := dkwX10_putBit_2 ++ dktX10_putBit_3
def dkwX10_putBit_1 : List UInt8 := [42, 180, 0, 98, 21, 4, 21, 5, 96, 42, 180, 0, 98, 21, 4, 21, 5, 96, 4, 100, 46, 79]
abbrev dktX10_putBit_1 : List UInt8 := dkwX10_putBit_1 ++ dktX10_putBit_2
def dkwX10_putBit_0 : List UInt8 := [17, 13, 92, 17, 2, 88, 27, 104, 96, 54, 4, 42, 27, 182, 0, 199, 54, 5, 21, 5, 28, 164, 0, 31]
abbrev dktX10_putBit_0 : List UInt8 := dkwX10_putBit_0 ++ dktX10_putBit_1
theorem dksX10_putBit_0 : cX10_putBit.data.toList.drop 0 = dktX10_putBit_0 := by decide +kernel
theorem dksX10_putBit_1 : cX10_putBit.data.toList.drop 24 = dktX10_putBit_1 := dk_seg dksX10_putBit_0 24 rfl rfl
theorem dksX10_putBit_2 : cX10_putBit.data.toList.drop 46 = dktX10_putBit_2 := dk_seg dksX10_putBit_1 22 rfl rfl
theorem dksX10_putBit_3 : cX10_putBit.data.toList.drop 70 = dktX10_putBit_3 := dk_seg dksX10_putBit_2 24 rfl rfl
theorem dksX10_putBit_4 : cX10_putBit.data.toList.drop 94 = dktX10_putBit_4 := dk_seg dksX10_putBit_3 24 rfl rfl
theorem dksX10_putBit_5 : cX10_putBit.data.toList.drop 118 = dktX10_putBit_5 := dk_seg dksX10_putBit_4 24 rfl rfl
theorem dksX10_putBit_6 : cX10_putBit.data.toList.drop 142 = dktX10_putBit_6 := dk_seg dksX10_putBit_5 24 rfl rfl
theorem dX10_putBit_0 : decode cX10_putBit 0 = .ok (.sipush 3420, 3) := dk_17 13 92 (dk_at dksX10_putBit_0 0 rfl rfl)
theorem dX10_putBit_3 : decode cX10_putBit 3 = .ok (.sipush 600, 3) := dk_17 2 88 (dk_at dksX10_putBit_0 3 rfl rfl)
theorem dX10_putBit_6 : decode cX10_putBit 6 = .ok (.iload_n 1, 1) := dk_27 (dk_at dksX10_putBit_0 6 rfl rfl)
theorem dX10_putBit_7 : decode cX10_putBit 7 = .ok (.imul, 1) := dk_104 (dk_at dksX10_putBit_0 7 rfl rfl)
theorem dX10_putBit_8 : decode cX10_putBit 8 = .ok (.iadd, 1) := dk_96 (dk_at dksX10_putBit_0 8 rfl rfl)
theorem dX10_putBit_9 : decode cX10_putBit 9 = .ok (.istore 4, 2) := dk_54 4 (dk_at dksX10_putBit_0 9 rfl rfl)
theorem dX10_putBit_11 : decode cX10_putBit 11 = .ok (.aload_n 0, 1) := dk_42 (dk_at dksX10_putBit_0 11 rfl rfl)
theorem dX10_putBit_12 : decode cX10_putBit 12 = .ok (.iload_n 1, 1) := dk_27 (dk_at dksX10_putBit_0 12 rfl rfl)
theorem dX10_putBit_13 : decode cX10_putBit 13 = .ok (.invokevirtual 199, 3) := dk_182 0 199 (dk_at dksX10_putBit_0 13 rfl rfl)
theorem dX10_putBit_16 : decode cX10_putBit 16 = .ok (.istore 5, 2) := dk_54 5 (dk_at dksX10_putBit_0 16 rfl rfl)
theorem dX10_putBit_18 : decode cX10_putBit 18 = .ok (.iload 5, 2) := dk_21 5 (dk_at dksX10_putBit_0 18 rfl rfl)
theorem dX10_putBit_20 : decode cX10_putBit 20 = .ok (.iload_n 2, 1) := dk_28 (dk_at dksX10_putBit_0 20 rfl rfl)
theorem dX10_putBit_21 : decode cX10_putBit 21 = .ok (.if_icmp .le 31, 3) := dk_164 0 31 (dk_at dksX10_putBit_0 21 rfl rfl)
theorem dX10_putBit_24 : decode cX10_putBit 24 = .ok (.aload_n 0, 1) := dk_42 (dk_at dksX10_putBit_1 0 rfl rfl)
theorem dX10_putBit_25 : decode cX10_putBit 25 = .ok (.getfield 98, 3) := dk_180 0 98 (dk_at dksX10_putBit_1 1 rfl rfl)
theorem dX10_putBit_28 : decode cX10_putBit 28 = .ok (.iload 4, 2) := dk_21 4 (dk_at dksX10_putBit_1 4 rfl rfl)
theorem dX10_putBit_30 : decode cX10_putBit 30 = .ok (.iload 5, 2) := dk_21 5 (dk_at dksX10_putBit_1 6 rfl rfl)
theorem dX10_putBit_32 : decode cX10_putBit 32 = .ok (.iadd, 1) := dk_96 (dk_at dksX10_putBit_1 8 rfl rfl)
theorem dX10_putBit_33 : decode cX10_putBit 33 = .ok (.aload_n 0, 1) := dk_42 (dk_at dksX10_putBit_1 9 rfl rfl)
theorem dX10_putBit_34 : decode cX10_putBit 34 = .ok (.getfield 98, 3) := dk_180 0 98 (dk_at dksX10_putBit_1 10 rfl rfl)
theorem dX10_putBit_37 : decode cX10_putBit 37 = .ok (.iload 4, 2) := dk_21 4 (dk_at dksX10_putBit_1 13 rfl rfl)
theorem dX10_putBit_39 : decode cX10_putBit 39 = .ok (.iload 5, 2) := dk_21 5 (dk_at dksX10_putBit_1 15 rfl rfl)
theorem dX10_putBit_41 : decode cX10_putBit 41 = .ok (.iadd, 1) := dk_96 (dk_at dksX10_putBit_1 17 rfl rfl)
theorem dX10_putBit_42 : decode cX10_putBit 42 = .ok (.iconst 1, 1) := dk_4 (dk_at dksX10_putBit_1 18 rfl rfl)
theorem dX10_putBit_43 : decode cX10_putBit 43 = .ok (.isub, 1) := dk_100 (dk_at dksX10_putBit_1 19 rfl rfl)
theorem dX10_putBit_44 : decode cX10_putBit 44 = .ok (.iaload, 1) := dk_46 (dk_at dksX10_putBit_1 20 rfl rfl)
theorem dX10_putBit_45 : decode cX10_putBit 45 = .ok (.iastore, 1) := dk_79 (dk_at dksX10_putBit_1 21 rfl rfl)
theorem dX10_putBit_46 : decode cX10_putBit 46 = .ok (.iinc 5 (-1), 3) := dk_132 5 255 (dk_at dksX10_putBit_2 0 rfl rfl)
theorem dX10_putBit_49 : decode cX10_putBit 49 = .ok (.goto (-31), 3) := dk_167 255 225 (dk_at dksX10_putBit_2 3 rfl rfl)
theorem dX10_putBit_52 : decode cX10_putBit 52 = .ok (.aload_n 0, 1) := dk_42 (dk_at dksX10_putBit_2 6 rfl rfl)
theorem dX10_putBit_53 : decode cX10_putBit 53 = .ok (.getfield 98, 3) := dk_180 0 98 (dk_at dksX10_putBit_2 7 rfl rfl)
theorem dX10_putBit_56 : decode cX10_putBit 56 = .ok (.iload 4, 2) := dk_21 4 (dk_at dksX10_putBit_2 10 rfl rfl)
theorem dX10_putBit_58 : decode cX10_putBit 58 = .ok (.iload_n 2, 1) := dk_28 (dk_at dksX10_putBit_2 12 rfl rfl)
theorem dX10_putBit_59 : decode cX10_putBit 59 = .ok (.iadd, 1) := dk_96 (dk_at dksX10_putBit_2 13 rfl rfl)
theorem dX10_putBit_60 : decode cX10_putBit 60 = .ok (.iload_n 3, 1) := dk_29 (dk_at dksX10_putBit_2 14 rfl rfl)
theorem dX10_putBit_61 : decode cX10_putBit 61 = .ok (.iastore, 1) := dk_79 (dk_at dksX10_putBit_2 15 rfl rfl)
theorem dX10_putBit_62 : decode cX10_putBit 62 = .ok (.aload_n 0, 1) := dk_42 (dk_at dksX10_putBit_2 16 rfl rfl)
theorem dX10_putBit_63 : decode cX10_putBit 63 = .ok (.getfield 98, 3) := dk_180 0 98 (dk_at dksX10_putBit_2 17 rfl rfl)
theorem dX10_putBit_66 : decode cX10_putBit 66 = .ok (.sipush 2611, 3) := dk_17 10 51 (dk_at dksX10_putBit_2 20 rfl rfl)
theorem dX10_putBit_69 : decode cX10_putBit 69 = .ok (.iload_n 1, 1) := dk_27 (dk_at dksX10_putBit_2 23 rfl rfl)
theorem dX10_putBit_70 : decode cX10_putBit 70 = .ok (.iadd, 1) := dk_96 (dk_at dksX10_putBit_3 0 rfl rfl)
theorem dX10_putBit_71 : decode cX10_putBit 71 = .ok (.iaload, 1) := dk_46 (dk_at dksX10_putBit_3 1 rfl rfl)
theorem dX10_putBit_72 : decode cX10_putBit 72 = .ok (.ifCond .ne 14, 3) := dk_154 0 14 (dk_at dksX10_putBit_3 2 rfl rfl)
theorem dX10_putBit_75 : decode cX10_putBit 75 = .ok (.aload_n 0, 1) := dk_42 (dk_at dksX10_putBit_3 5 rfl rfl)
theorem dX10_putBit_76 : decode cX10_putBit 76 = .ok (.getfield 98, 3) := dk_180 0 98 (dk_at dksX10_putBit_3 6 rfl rfl)
theorem dX10_putBit_79 : decode cX10_putBit 79 = .ok (.sipush 2611, 3) := dk_17 10 51 (dk_at dksX10_putBit_3 9 rfl rfl)
theorem dX10_putBit_82 : decode cX10_putBit 82 = .ok (.iload_n 1, 1) := dk_27 (dk_at dksX10_putBit_3 12 rfl rfl)
theorem dX10_putBit_83 : decode cX10_putBit 83 = .ok (.iadd, 1) := dk_96 (dk_at dksX10_putBit_3 13 rfl rfl)
theorem dX10_putBit_84 : decode cX10_putBit 84 = .ok (.iconst 1, 1) := dk_4 (dk_at dksX10_putBit_3 14 rfl rfl)
theorem dX10_putBit_85 : decode cX10_putBit 85 = .ok (.iastore, 1) := dk_79 (dk_at dksX10_putBit_3 15 rfl rfl)
theorem dX10_putBit_86 : decode cX10_putBit 86 = .ok (.iload_n 2, 1) := dk_28 (dk_at dksX10_putBit_3 16 rfl rfl)
theorem dX10_putBit_87 : decode cX10_putBit 87 = .ok (.ifCond .ne 7, 3) := dk_154 0 7 (dk_at dksX10_putBit_3 17 rfl rfl)
theorem dX10_putBit_90 : decode cX10_putBit 90 = .ok (.iconst 0, 1) := dk_3 (dk_at dksX10_putBit_3 20 rfl rfl)
theorem dX10_putBit_91 : decode cX10_putBit 91 = .ok (.goto 11, 3) := dk_167 0 11 (dk_at dksX10_putBit_3 21 rfl rfl)
theorem dX10_putBit_94 : decode cX10_putBit 94 = .ok (.aload_n 0, 1) := dk_42 (dk_at dksX10_putBit_4 0 rfl rfl)
theorem dX10_putBit_95 : decode cX10_putBit 95 = .ok (.iload_n 1, 1) := dk_27 (dk_at dksX10_putBit_4 1 rfl rfl)
theorem dX10_putBit_96 : decode cX10_putBit 96 = .ok (.iload_n 2, 1) := dk_28 (dk_at dksX10_putBit_4 2 rfl rfl)
theorem dX10_putBit_97 : decode cX10_putBit 97 = .ok (.iconst 1, 1) := dk_4 (dk_at dksX10_putBit_4 3 rfl rfl)
theorem dX10_putBit_98 : decode cX10_putBit 98 = .ok (.isub, 1) := dk_100 (dk_at dksX10_putBit_4 4 rfl rfl)
theorem dX10_putBit_99 : decode cX10_putBit 99 = .ok (.invokevirtual 202, 3) := dk_182 0 202 (dk_at dksX10_putBit_4 5 rfl rfl)
theorem dX10_putBit_102 : decode cX10_putBit 102 = .ok (.istore 5, 2) := dk_54 5 (dk_at dksX10_putBit_4 8 rfl rfl)
theorem dX10_putBit_104 : decode cX10_putBit 104 = .ok (.aload_n 0, 1) := dk_42 (dk_at dksX10_putBit_4 10 rfl rfl)
theorem dX10_putBit_105 : decode cX10_putBit 105 = .ok (.getfield 98, 3) := dk_180 0 98 (dk_at dksX10_putBit_4 11 rfl rfl)
theorem dX10_putBit_108 : decode cX10_putBit 108 = .ok (.sipush 2607, 3) := dk_17 10 47 (dk_at dksX10_putBit_4 14 rfl rfl)
theorem dX10_putBit_111 : decode cX10_putBit 111 = .ok (.iload_n 1, 1) := dk_27 (dk_at dksX10_putBit_4 17 rfl rfl)
theorem dX10_putBit_112 : decode cX10_putBit 112 = .ok (.iadd, 1) := dk_96 (dk_at dksX10_putBit_4 18 rfl rfl)
theorem dX10_putBit_113 : decode cX10_putBit 113 = .ok (.dup2, 1) := dk_92 (dk_at dksX10_putBit_4 19 rfl rfl)
theorem dX10_putBit_114 : decode cX10_putBit 114 = .ok (.iaload, 1) := dk_46 (dk_at dksX10_putBit_4 20 rfl rfl)
theorem dX10_putBit_115 : decode cX10_putBit 115 = .ok (.iconst 1, 1) := dk_4 (dk_at dksX10_putBit_4 21 rfl rfl)
theorem dX10_putBit_116 : decode cX10_putBit 116 = .ok (.iadd, 1) := dk_96 (dk_at dksX10_putBit_4 22 rfl rfl)
theorem dX10_putBit_117 : decode cX10_putBit 117 = .ok (.iastore, 1) := dk_79 (dk_at dksX10_putBit_4 23 rfl rfl)
theorem dX10_putBit_118 : decode cX10_putBit 118 = .ok (.aload_n 0, 1) := dk_42 (dk_at dksX10_putBit_5 0 rfl rfl)
theorem dX10_putBit_119 : decode cX10_putBit 119 = .ok (.getfield 98, 3) := dk_180 0 98 (dk_at dksX10_putBit_5 1 rfl rfl)
theorem dX10_putBit_122 : decode cX10_putBit 122 = .ok (.aload_n 0, 1) := dk_42 (dk_at dksX10_putBit_5 4 rfl rfl)
theorem dX10_putBit_123 : decode cX10_putBit 123 = .ok (.iload_n 1, 1) := dk_27 (dk_at dksX10_putBit_5 5 rfl rfl)
theorem dX10_putBit_124 : decode cX10_putBit 124 = .ok (.iload 5, 2) := dk_21 5 (dk_at dksX10_putBit_5 6 rfl rfl)
theorem dX10_putBit_126 : decode cX10_putBit 126 = .ok (.invokevirtual 195, 3) := dk_182 0 195 (dk_at dksX10_putBit_5 8 rfl rfl)
theorem dX10_putBit_129 : decode cX10_putBit 129 = .ok (.dup2, 1) := dk_92 (dk_at dksX10_putBit_5 11 rfl rfl)
theorem dX10_putBit_130 : decode cX10_putBit 130 = .ok (.iaload, 1) := dk_46 (dk_at dksX10_putBit_5 12 rfl rfl)
theorem dX10_putBit_131 : decode cX10_putBit 131 = .ok (.iconst 1, 1) := dk_4 (dk_at dksX10_putBit_5 13 rfl rfl)
theorem dX10_putBit_132 : decode cX10_putBit 132 = .ok (.iadd, 1) := dk_96 (dk_at dksX10_putBit_5 14 rfl rfl)
theorem dX10_putBit_133 : decode cX10_putBit 133 = .ok (.iastore, 1) := dk_79 (dk_at dksX10_putBit_5 15 rfl rfl)
theorem dX10_putBit_134 : decode cX10_putBit 134 = .ok (.aload_n 0, 1) := dk_42 (dk_at dksX10_putBit_5 16 rfl rfl)
theorem dX10_putBit_135 : decode cX10_putBit 135 = .ok (.getfield 98, 3) := dk_180 0 98 (dk_at dksX10_putBit_5 17 rfl rfl)
theorem dX10_putBit_138 : decode cX10_putBit 138 = .ok (.aload_n 0, 1) := dk_42 (dk_at dksX10_putBit_5 20 rfl rfl)
theorem dX10_putBit_139 : decode cX10_putBit 139 = .ok (.iload_n 1, 1) := dk_27 (dk_at dksX10_putBit_5 21 rfl rfl)
theorem dX10_putBit_140 : decode cX10_putBit 140 = .ok (.iload 5, 2) := dk_21 5 (dk_at dksX10_putBit_5 22 rfl rfl)
theorem dX10_putBit_142 : decode cX10_putBit 142 = .ok (.invokevirtual 195, 3) := dk_182 0 195 (dk_at dksX10_putBit_6 0 rfl rfl)
theorem dX10_putBit_145 : decode cX10_putBit 145 = .ok (.iaload, 1) := dk_46 (dk_at dksX10_putBit_6 3 rfl rfl)
theorem dX10_putBit_146 : decode cX10_putBit 146 = .ok (.iconst 2, 1) := dk_5 (dk_at dksX10_putBit_6 4 rfl rfl)
theorem dX10_putBit_147 : decode cX10_putBit 147 = .ok (.aload_n 0, 1) := dk_42 (dk_at dksX10_putBit_6 5 rfl rfl)
theorem dX10_putBit_148 : decode cX10_putBit 148 = .ok (.getfield 98, 3) := dk_180 0 98 (dk_at dksX10_putBit_6 6 rfl rfl)
theorem dX10_putBit_151 : decode cX10_putBit 151 = .ok (.iconst 1, 1) := dk_4 (dk_at dksX10_putBit_6 9 rfl rfl)
theorem dX10_putBit_152 : decode cX10_putBit 152 = .ok (.iaload, 1) := dk_46 (dk_at dksX10_putBit_6 10 rfl rfl)
theorem dX10_putBit_153 : decode cX10_putBit 153 = .ok (.imul, 1) := dk_104 (dk_at dksX10_putBit_6 11 rfl rfl)
theorem dX10_putBit_154 : decode cX10_putBit 154 = .ok (.if_icmp .le 10, 3) := dk_164 0 10 (dk_at dksX10_putBit_6 12 rfl rfl)
theorem dX10_putBit_157 : decode cX10_putBit 157 = .ok (.aload_n 0, 1) := dk_42 (dk_at dksX10_putBit_6 15 rfl rfl)
theorem dX10_putBit_158 : decode cX10_putBit 158 = .ok (.iload_n 1, 1) := dk_27 (dk_at dksX10_putBit_6 16 rfl rfl)
theorem dX10_putBit_159 : decode cX10_putBit 159 = .ok (.iload 5, 2) := dk_21 5 (dk_at dksX10_putBit_6 17 rfl rfl)
theorem dX10_putBit_161 : decode cX10_putBit 161 = .ok (.invokevirtual 205, 3) := dk_182 0 205 (dk_at dksX10_putBit_6 19 rfl rfl)
theorem dX10_putBit_164 : decode cX10_putBit 164 = .ok (.return_, 1) := dk_177 (dk_at dksX10_putBit_6 22 rfl rfl)
abbrev cX10_sizeOf : ByteArray := prog_23_method_33_code
def yX10_sizeOf : MethodName := ⟨RX10, "sizeOf", "(I)I"⟩
def dkwX10_sizeOf_0 : List UInt8 := [42, 180, 0, 98, 17, 10, 47, 27, 96, 46, 172]
abbrev dktX10_sizeOf_0 : List UInt8 := dkwX10_sizeOf_0 ++ []
theorem dksX10_sizeOf_0 : cX10_sizeOf.data.toList.drop 0 = dktX10_sizeOf_0 := by decide +kernel
theorem dX10_sizeOf_0 : decode cX10_sizeOf 0 = .ok (.aload_n 0, 1) := dk_42 (dk_at dksX10_sizeOf_0 0 rfl rfl)
theorem dX10_sizeOf_1 : decode cX10_sizeOf 1 = .ok (.getfield 98, 3) := dk_180 0 98 (dk_at dksX10_sizeOf_0 1 rfl rfl)
theorem dX10_sizeOf_4 : decode cX10_sizeOf 4 = .ok (.sipush 2607, 3) := dk_17 10 47 (dk_at dksX10_sizeOf_0 4 rfl rfl)
theorem dX10_sizeOf_7 : decode cX10_sizeOf 7 = .ok (.iload_n 1, 1) := dk_27 (dk_at dksX10_sizeOf_0 7 rfl rfl)
theorem dX10_sizeOf_8 : decode cX10_sizeOf 8 = .ok (.iadd, 1) := dk_96 (dk_at dksX10_sizeOf_0 8 rfl rfl)
theorem dX10_sizeOf_9 : decode cX10_sizeOf 9 = .ok (.iaload, 1) := dk_46 (dk_at dksX10_sizeOf_0 9 rfl rfl)
theorem dX10_sizeOf_10 : decode cX10_sizeOf 10 = .ok (.ireturn, 1) := dk_172 (dk_at dksX10_sizeOf_0 10 rfl rfl)
abbrev cX10_leafOf : ByteArray := prog_23_method_36_code
def yX10_leafOf : MethodName := ⟨RX10, "leafOf", "(II)I"⟩
def dkwX10_leafOf_1 : List UInt8 := [21, 4, 42, 180, 0, 98, 42, 27, 29, 182, 0, 195, 46, 96, 54, 4, 167, 255, 231, 29, 172]
abbrev dktX10_leafOf_1 : List UInt8 := dkwX10_leafOf_1 ++ []
def dkwX10_leafOf_0 : List UInt8 := [3, 62, 42, 180, 0, 98, 42, 27, 3, 182, 0, 195, 46, 54, 4, 28, 21, 4, 161, 0, 25, 132, 3, 1]
abbrev dktX10_leafOf_0 : List UInt8 := dkwX10_leafOf_0 ++ dktX10_leafOf_1
theorem dksX10_leafOf_0 : cX10_leafOf.data.toList.drop 0 = dktX10_leafOf_0 := by decide +kernel
theorem dksX10_leafOf_1 : cX10_leafOf.data.toList.drop 24 = dktX10_leafOf_1 := dk_seg dksX10_leafOf_0 24 rfl rfl
theorem dX10_leafOf_0 : decode cX10_leafOf 0 = .ok (.iconst 0, 1) := dk_3 (dk_at dksX10_leafOf_0 0 rfl rfl)
theorem dX10_leafOf_1 : decode cX10_leafOf 1 = .ok (.istore_n 3, 1) := dk_62 (dk_at dksX10_leafOf_0 1 rfl rfl)
theorem dX10_leafOf_2 : decode cX10_leafOf 2 = .ok (.aload_n 0, 1) := dk_42 (dk_at dksX10_leafOf_0 2 rfl rfl)
theorem dX10_leafOf_3 : decode cX10_leafOf 3 = .ok (.getfield 98, 3) := dk_180 0 98 (dk_at dksX10_leafOf_0 3 rfl rfl)
theorem dX10_leafOf_6 : decode cX10_leafOf 6 = .ok (.aload_n 0, 1) := dk_42 (dk_at dksX10_leafOf_0 6 rfl rfl)
theorem dX10_leafOf_7 : decode cX10_leafOf 7 = .ok (.iload_n 1, 1) := dk_27 (dk_at dksX10_leafOf_0 7 rfl rfl)
theorem dX10_leafOf_8 : decode cX10_leafOf 8 = .ok (.iconst 0, 1) := dk_3 (dk_at dksX10_leafOf_0 8 rfl rfl)
theorem dX10_leafOf_9 : decode cX10_leafOf 9 = .ok (.invokevirtual 195, 3) := dk_182 0 195 (dk_at dksX10_leafOf_0 9 rfl rfl)
theorem dX10_leafOf_12 : decode cX10_leafOf 12 = .ok (.iaload, 1) := dk_46 (dk_at dksX10_leafOf_0 12 rfl rfl)
theorem dX10_leafOf_13 : decode cX10_leafOf 13 = .ok (.istore 4, 2) := dk_54 4 (dk_at dksX10_leafOf_0 13 rfl rfl)
theorem dX10_leafOf_15 : decode cX10_leafOf 15 = .ok (.iload_n 2, 1) := dk_28 (dk_at dksX10_leafOf_0 15 rfl rfl)
theorem dX10_leafOf_16 : decode cX10_leafOf 16 = .ok (.iload 4, 2) := dk_21 4 (dk_at dksX10_leafOf_0 16 rfl rfl)
theorem dX10_leafOf_18 : decode cX10_leafOf 18 = .ok (.if_icmp .lt 25, 3) := dk_161 0 25 (dk_at dksX10_leafOf_0 18 rfl rfl)
theorem dX10_leafOf_21 : decode cX10_leafOf 21 = .ok (.iinc 3 1, 3) := dk_132 3 1 (dk_at dksX10_leafOf_0 21 rfl rfl)
theorem dX10_leafOf_24 : decode cX10_leafOf 24 = .ok (.iload 4, 2) := dk_21 4 (dk_at dksX10_leafOf_1 0 rfl rfl)
theorem dX10_leafOf_26 : decode cX10_leafOf 26 = .ok (.aload_n 0, 1) := dk_42 (dk_at dksX10_leafOf_1 2 rfl rfl)
theorem dX10_leafOf_27 : decode cX10_leafOf 27 = .ok (.getfield 98, 3) := dk_180 0 98 (dk_at dksX10_leafOf_1 3 rfl rfl)
theorem dX10_leafOf_30 : decode cX10_leafOf 30 = .ok (.aload_n 0, 1) := dk_42 (dk_at dksX10_leafOf_1 6 rfl rfl)
theorem dX10_leafOf_31 : decode cX10_leafOf 31 = .ok (.iload_n 1, 1) := dk_27 (dk_at dksX10_leafOf_1 7 rfl rfl)
theorem dX10_leafOf_32 : decode cX10_leafOf 32 = .ok (.iload_n 3, 1) := dk_29 (dk_at dksX10_leafOf_1 8 rfl rfl)
theorem dX10_leafOf_33 : decode cX10_leafOf 33 = .ok (.invokevirtual 195, 3) := dk_182 0 195 (dk_at dksX10_leafOf_1 9 rfl rfl)
theorem dX10_leafOf_36 : decode cX10_leafOf 36 = .ok (.iaload, 1) := dk_46 (dk_at dksX10_leafOf_1 12 rfl rfl)
theorem dX10_leafOf_37 : decode cX10_leafOf 37 = .ok (.iadd, 1) := dk_96 (dk_at dksX10_leafOf_1 13 rfl rfl)
theorem dX10_leafOf_38 : decode cX10_leafOf 38 = .ok (.istore 4, 2) := dk_54 4 (dk_at dksX10_leafOf_1 14 rfl rfl)
theorem dX10_leafOf_40 : decode cX10_leafOf 40 = .ok (.goto (-25), 3) := dk_167 255 231 (dk_at dksX10_leafOf_1 16 rfl rfl)
theorem dX10_leafOf_43 : decode cX10_leafOf 43 = .ok (.iload_n 3, 1) := dk_29 (dk_at dksX10_leafOf_1 19 rfl rfl)
theorem dX10_leafOf_44 : decode cX10_leafOf 44 = .ok (.ireturn, 1) := dk_172 (dk_at dksX10_leafOf_1 20 rfl rfl)
abbrev cX10_leafAt : ByteArray := prog_23_method_35_code
def yX10_leafAt : MethodName := ⟨RX10, "leafAt", "(II)I"⟩
def dkwX10_leafAt_0 : List UInt8 := [17, 11, 0, 17, 0, 151, 27, 104, 96, 28, 96, 172]
abbrev dktX10_leafAt_0 : List UInt8 := dkwX10_leafAt_0 ++ []
theorem dksX10_leafAt_0 : cX10_leafAt.data.toList.drop 0 = dktX10_leafAt_0 := by decide +kernel
theorem dX10_leafAt_0 : decode cX10_leafAt 0 = .ok (.sipush 2816, 3) := dk_17 11 0 (dk_at dksX10_leafAt_0 0 rfl rfl)
theorem dX10_leafAt_3 : decode cX10_leafAt 3 = .ok (.sipush 151, 3) := dk_17 0 151 (dk_at dksX10_leafAt_0 3 rfl rfl)
theorem dX10_leafAt_6 : decode cX10_leafAt 6 = .ok (.iload_n 1, 1) := dk_27 (dk_at dksX10_leafAt_0 6 rfl rfl)
theorem dX10_leafAt_7 : decode cX10_leafAt 7 = .ok (.imul, 1) := dk_104 (dk_at dksX10_leafAt_0 7 rfl rfl)
theorem dX10_leafAt_8 : decode cX10_leafAt 8 = .ok (.iadd, 1) := dk_96 (dk_at dksX10_leafAt_0 8 rfl rfl)
theorem dX10_leafAt_9 : decode cX10_leafAt 9 = .ok (.iload_n 2, 1) := dk_28 (dk_at dksX10_leafAt_0 9 rfl rfl)
theorem dX10_leafAt_10 : decode cX10_leafAt 10 = .ok (.iadd, 1) := dk_96 (dk_at dksX10_leafAt_0 10 rfl rfl)
theorem dX10_leafAt_11 : decode cX10_leafAt 11 = .ok (.ireturn, 1) := dk_172 (dk_at dksX10_leafAt_0 11 rfl rfl)
abbrev cX10_splitLeaf : ByteArray := prog_23_method_37_code
def yX10_splitLeaf : MethodName := ⟨RX10, "splitLeaf", "(II)V"⟩
def dkwX10_splitLeaf_4 : List UInt8 := [79, 42, 180, 0, 98, 17, 10, 51, 27, 96, 92, 46, 4, 96, 79, 177]
abbrev dktX10_splitLeaf_4 : List UInt8 := dkwX10_splitLeaf_4 ++ []
def dkwX10_splitLeaf_3 : List UInt8 := [182, 0, 195, 29, 4, 96, 5, 108, 79, 42, 180, 0, 98, 42, 27, 28, 4, 96, 182, 0, 195, 29, 5, 108]
abbrev dktX10_splitLeaf_3 : List UInt8 := dkwX10_splitLeaf_3 ++ dktX10_splitLeaf_4
def dkwX10_splitLeaf_2 : List UInt8 := [27, 21, 4, 4, 100, 182, 0, 195, 46, 79, 132, 4, 255, 167, 255, 219, 42, 180, 0, 98, 42, 27, 28]
abbrev dktX10_splitLeaf_2 : List UInt8 := dkwX10_splitLeaf_2 ++ dktX10_splitLeaf_3
def dkwX10_splitLeaf_1 : List UInt8 := [21, 4, 28, 4, 96, 164, 0, 35, 42, 180, 0, 98, 42, 27, 21, 4, 182, 0, 195, 42, 180, 0, 98, 42]
abbrev dktX10_splitLeaf_1 : List UInt8 := dkwX10_splitLeaf_1 ++ dktX10_splitLeaf_2
def dkwX10_splitLeaf_0 : List UInt8 := [42, 180, 0, 98, 42, 27, 28, 182, 0, 195, 46, 62, 42, 180, 0, 98, 17, 10, 51, 27, 96, 46, 54, 4]
abbrev dktX10_splitLeaf_0 : List UInt8 := dkwX10_splitLeaf_0 ++ dktX10_splitLeaf_1
theorem dksX10_splitLeaf_0 : cX10_splitLeaf.data.toList.drop 0 = dktX10_splitLeaf_0 := by decide +kernel
theorem dksX10_splitLeaf_1 : cX10_splitLeaf.data.toList.drop 24 = dktX10_splitLeaf_1 := dk_seg dksX10_splitLeaf_0 24 rfl rfl
theorem dksX10_splitLeaf_2 : cX10_splitLeaf.data.toList.drop 48 = dktX10_splitLeaf_2 := dk_seg dksX10_splitLeaf_1 24 rfl rfl
theorem dksX10_splitLeaf_3 : cX10_splitLeaf.data.toList.drop 71 = dktX10_splitLeaf_3 := dk_seg dksX10_splitLeaf_2 23 rfl rfl
theorem dksX10_splitLeaf_4 : cX10_splitLeaf.data.toList.drop 95 = dktX10_splitLeaf_4 := dk_seg dksX10_splitLeaf_3 24 rfl rfl
theorem dX10_splitLeaf_0 : decode cX10_splitLeaf 0 = .ok (.aload_n 0, 1) := dk_42 (dk_at dksX10_splitLeaf_0 0 rfl rfl)
theorem dX10_splitLeaf_1 : decode cX10_splitLeaf 1 = .ok (.getfield 98, 3) := dk_180 0 98 (dk_at dksX10_splitLeaf_0 1 rfl rfl)
theorem dX10_splitLeaf_4 : decode cX10_splitLeaf 4 = .ok (.aload_n 0, 1) := dk_42 (dk_at dksX10_splitLeaf_0 4 rfl rfl)
theorem dX10_splitLeaf_5 : decode cX10_splitLeaf 5 = .ok (.iload_n 1, 1) := dk_27 (dk_at dksX10_splitLeaf_0 5 rfl rfl)
theorem dX10_splitLeaf_6 : decode cX10_splitLeaf 6 = .ok (.iload_n 2, 1) := dk_28 (dk_at dksX10_splitLeaf_0 6 rfl rfl)
theorem dX10_splitLeaf_7 : decode cX10_splitLeaf 7 = .ok (.invokevirtual 195, 3) := dk_182 0 195 (dk_at dksX10_splitLeaf_0 7 rfl rfl)
theorem dX10_splitLeaf_10 : decode cX10_splitLeaf 10 = .ok (.iaload, 1) := dk_46 (dk_at dksX10_splitLeaf_0 10 rfl rfl)
theorem dX10_splitLeaf_11 : decode cX10_splitLeaf 11 = .ok (.istore_n 3, 1) := dk_62 (dk_at dksX10_splitLeaf_0 11 rfl rfl)
theorem dX10_splitLeaf_12 : decode cX10_splitLeaf 12 = .ok (.aload_n 0, 1) := dk_42 (dk_at dksX10_splitLeaf_0 12 rfl rfl)
theorem dX10_splitLeaf_13 : decode cX10_splitLeaf 13 = .ok (.getfield 98, 3) := dk_180 0 98 (dk_at dksX10_splitLeaf_0 13 rfl rfl)
theorem dX10_splitLeaf_16 : decode cX10_splitLeaf 16 = .ok (.sipush 2611, 3) := dk_17 10 51 (dk_at dksX10_splitLeaf_0 16 rfl rfl)
theorem dX10_splitLeaf_19 : decode cX10_splitLeaf 19 = .ok (.iload_n 1, 1) := dk_27 (dk_at dksX10_splitLeaf_0 19 rfl rfl)
theorem dX10_splitLeaf_20 : decode cX10_splitLeaf 20 = .ok (.iadd, 1) := dk_96 (dk_at dksX10_splitLeaf_0 20 rfl rfl)
theorem dX10_splitLeaf_21 : decode cX10_splitLeaf 21 = .ok (.iaload, 1) := dk_46 (dk_at dksX10_splitLeaf_0 21 rfl rfl)
theorem dX10_splitLeaf_22 : decode cX10_splitLeaf 22 = .ok (.istore 4, 2) := dk_54 4 (dk_at dksX10_splitLeaf_0 22 rfl rfl)
theorem dX10_splitLeaf_24 : decode cX10_splitLeaf 24 = .ok (.iload 4, 2) := dk_21 4 (dk_at dksX10_splitLeaf_1 0 rfl rfl)
theorem dX10_splitLeaf_26 : decode cX10_splitLeaf 26 = .ok (.iload_n 2, 1) := dk_28 (dk_at dksX10_splitLeaf_1 2 rfl rfl)
theorem dX10_splitLeaf_27 : decode cX10_splitLeaf 27 = .ok (.iconst 1, 1) := dk_4 (dk_at dksX10_splitLeaf_1 3 rfl rfl)
theorem dX10_splitLeaf_28 : decode cX10_splitLeaf 28 = .ok (.iadd, 1) := dk_96 (dk_at dksX10_splitLeaf_1 4 rfl rfl)
theorem dX10_splitLeaf_29 : decode cX10_splitLeaf 29 = .ok (.if_icmp .le 35, 3) := dk_164 0 35 (dk_at dksX10_splitLeaf_1 5 rfl rfl)
theorem dX10_splitLeaf_32 : decode cX10_splitLeaf 32 = .ok (.aload_n 0, 1) := dk_42 (dk_at dksX10_splitLeaf_1 8 rfl rfl)
theorem dX10_splitLeaf_33 : decode cX10_splitLeaf 33 = .ok (.getfield 98, 3) := dk_180 0 98 (dk_at dksX10_splitLeaf_1 9 rfl rfl)
theorem dX10_splitLeaf_36 : decode cX10_splitLeaf 36 = .ok (.aload_n 0, 1) := dk_42 (dk_at dksX10_splitLeaf_1 12 rfl rfl)
theorem dX10_splitLeaf_37 : decode cX10_splitLeaf 37 = .ok (.iload_n 1, 1) := dk_27 (dk_at dksX10_splitLeaf_1 13 rfl rfl)
theorem dX10_splitLeaf_38 : decode cX10_splitLeaf 38 = .ok (.iload 4, 2) := dk_21 4 (dk_at dksX10_splitLeaf_1 14 rfl rfl)
theorem dX10_splitLeaf_40 : decode cX10_splitLeaf 40 = .ok (.invokevirtual 195, 3) := dk_182 0 195 (dk_at dksX10_splitLeaf_1 16 rfl rfl)
theorem dX10_splitLeaf_43 : decode cX10_splitLeaf 43 = .ok (.aload_n 0, 1) := dk_42 (dk_at dksX10_splitLeaf_1 19 rfl rfl)
theorem dX10_splitLeaf_44 : decode cX10_splitLeaf 44 = .ok (.getfield 98, 3) := dk_180 0 98 (dk_at dksX10_splitLeaf_1 20 rfl rfl)
theorem dX10_splitLeaf_47 : decode cX10_splitLeaf 47 = .ok (.aload_n 0, 1) := dk_42 (dk_at dksX10_splitLeaf_1 23 rfl rfl)
theorem dX10_splitLeaf_48 : decode cX10_splitLeaf 48 = .ok (.iload_n 1, 1) := dk_27 (dk_at dksX10_splitLeaf_2 0 rfl rfl)
theorem dX10_splitLeaf_49 : decode cX10_splitLeaf 49 = .ok (.iload 4, 2) := dk_21 4 (dk_at dksX10_splitLeaf_2 1 rfl rfl)
theorem dX10_splitLeaf_51 : decode cX10_splitLeaf 51 = .ok (.iconst 1, 1) := dk_4 (dk_at dksX10_splitLeaf_2 3 rfl rfl)
theorem dX10_splitLeaf_52 : decode cX10_splitLeaf 52 = .ok (.isub, 1) := dk_100 (dk_at dksX10_splitLeaf_2 4 rfl rfl)
theorem dX10_splitLeaf_53 : decode cX10_splitLeaf 53 = .ok (.invokevirtual 195, 3) := dk_182 0 195 (dk_at dksX10_splitLeaf_2 5 rfl rfl)
theorem dX10_splitLeaf_56 : decode cX10_splitLeaf 56 = .ok (.iaload, 1) := dk_46 (dk_at dksX10_splitLeaf_2 8 rfl rfl)
theorem dX10_splitLeaf_57 : decode cX10_splitLeaf 57 = .ok (.iastore, 1) := dk_79 (dk_at dksX10_splitLeaf_2 9 rfl rfl)
theorem dX10_splitLeaf_58 : decode cX10_splitLeaf 58 = .ok (.iinc 4 (-1), 3) := dk_132 4 255 (dk_at dksX10_splitLeaf_2 10 rfl rfl)
theorem dX10_splitLeaf_61 : decode cX10_splitLeaf 61 = .ok (.goto (-37), 3) := dk_167 255 219 (dk_at dksX10_splitLeaf_2 13 rfl rfl)
theorem dX10_splitLeaf_64 : decode cX10_splitLeaf 64 = .ok (.aload_n 0, 1) := dk_42 (dk_at dksX10_splitLeaf_2 16 rfl rfl)
theorem dX10_splitLeaf_65 : decode cX10_splitLeaf 65 = .ok (.getfield 98, 3) := dk_180 0 98 (dk_at dksX10_splitLeaf_2 17 rfl rfl)
theorem dX10_splitLeaf_68 : decode cX10_splitLeaf 68 = .ok (.aload_n 0, 1) := dk_42 (dk_at dksX10_splitLeaf_2 20 rfl rfl)
theorem dX10_splitLeaf_69 : decode cX10_splitLeaf 69 = .ok (.iload_n 1, 1) := dk_27 (dk_at dksX10_splitLeaf_2 21 rfl rfl)
theorem dX10_splitLeaf_70 : decode cX10_splitLeaf 70 = .ok (.iload_n 2, 1) := dk_28 (dk_at dksX10_splitLeaf_2 22 rfl rfl)
theorem dX10_splitLeaf_71 : decode cX10_splitLeaf 71 = .ok (.invokevirtual 195, 3) := dk_182 0 195 (dk_at dksX10_splitLeaf_3 0 rfl rfl)
theorem dX10_splitLeaf_74 : decode cX10_splitLeaf 74 = .ok (.iload_n 3, 1) := dk_29 (dk_at dksX10_splitLeaf_3 3 rfl rfl)
theorem dX10_splitLeaf_75 : decode cX10_splitLeaf 75 = .ok (.iconst 1, 1) := dk_4 (dk_at dksX10_splitLeaf_3 4 rfl rfl)
theorem dX10_splitLeaf_76 : decode cX10_splitLeaf 76 = .ok (.iadd, 1) := dk_96 (dk_at dksX10_splitLeaf_3 5 rfl rfl)
theorem dX10_splitLeaf_77 : decode cX10_splitLeaf 77 = .ok (.iconst 2, 1) := dk_5 (dk_at dksX10_splitLeaf_3 6 rfl rfl)
theorem dX10_splitLeaf_78 : decode cX10_splitLeaf 78 = .ok (.idiv, 1) := dk_108 (dk_at dksX10_splitLeaf_3 7 rfl rfl)
theorem dX10_splitLeaf_79 : decode cX10_splitLeaf 79 = .ok (.iastore, 1) := dk_79 (dk_at dksX10_splitLeaf_3 8 rfl rfl)
theorem dX10_splitLeaf_80 : decode cX10_splitLeaf 80 = .ok (.aload_n 0, 1) := dk_42 (dk_at dksX10_splitLeaf_3 9 rfl rfl)
theorem dX10_splitLeaf_81 : decode cX10_splitLeaf 81 = .ok (.getfield 98, 3) := dk_180 0 98 (dk_at dksX10_splitLeaf_3 10 rfl rfl)
theorem dX10_splitLeaf_84 : decode cX10_splitLeaf 84 = .ok (.aload_n 0, 1) := dk_42 (dk_at dksX10_splitLeaf_3 13 rfl rfl)
theorem dX10_splitLeaf_85 : decode cX10_splitLeaf 85 = .ok (.iload_n 1, 1) := dk_27 (dk_at dksX10_splitLeaf_3 14 rfl rfl)
theorem dX10_splitLeaf_86 : decode cX10_splitLeaf 86 = .ok (.iload_n 2, 1) := dk_28 (dk_at dksX10_splitLeaf_3 15 rfl rfl)
theorem dX10_splitLeaf_87 : decode cX10_splitLeaf 87 = .ok (.iconst 1, 1) := dk_4 (dk_at dksX10_splitLeaf_3 16 rfl rfl)
theorem dX10_splitLeaf_88 : decode cX10_splitLeaf 88 = .ok (.iadd, 1) := dk_96 (dk_at dksX10_splitLeaf_3 17 rfl rfl)
theorem dX10_splitLeaf_89 : decode cX10_splitLeaf 89 = .ok (.invokevirtual 195, 3) := dk_182 0 195 (dk_at dksX10_splitLeaf_3 18 rfl rfl)
theorem dX10_splitLeaf_92 : decode cX10_splitLeaf 92 = .ok (.iload_n 3, 1) := dk_29 (dk_at dksX10_splitLeaf_3 21 rfl rfl)
theorem dX10_splitLeaf_93 : decode cX10_splitLeaf 93 = .ok (.iconst 2, 1) := dk_5 (dk_at dksX10_splitLeaf_3 22 rfl rfl)
theorem dX10_splitLeaf_94 : decode cX10_splitLeaf 94 = .ok (.idiv, 1) := dk_108 (dk_at dksX10_splitLeaf_3 23 rfl rfl)
theorem dX10_splitLeaf_95 : decode cX10_splitLeaf 95 = .ok (.iastore, 1) := dk_79 (dk_at dksX10_splitLeaf_4 0 rfl rfl)
theorem dX10_splitLeaf_96 : decode cX10_splitLeaf 96 = .ok (.aload_n 0, 1) := dk_42 (dk_at dksX10_splitLeaf_4 1 rfl rfl)
theorem dX10_splitLeaf_97 : decode cX10_splitLeaf 97 = .ok (.getfield 98, 3) := dk_180 0 98 (dk_at dksX10_splitLeaf_4 2 rfl rfl)
theorem dX10_splitLeaf_100 : decode cX10_splitLeaf 100 = .ok (.sipush 2611, 3) := dk_17 10 51 (dk_at dksX10_splitLeaf_4 5 rfl rfl)
theorem dX10_splitLeaf_103 : decode cX10_splitLeaf 103 = .ok (.iload_n 1, 1) := dk_27 (dk_at dksX10_splitLeaf_4 8 rfl rfl)
theorem dX10_splitLeaf_104 : decode cX10_splitLeaf 104 = .ok (.iadd, 1) := dk_96 (dk_at dksX10_splitLeaf_4 9 rfl rfl)
theorem dX10_splitLeaf_105 : decode cX10_splitLeaf 105 = .ok (.dup2, 1) := dk_92 (dk_at dksX10_splitLeaf_4 10 rfl rfl)
theorem dX10_splitLeaf_106 : decode cX10_splitLeaf 106 = .ok (.iaload, 1) := dk_46 (dk_at dksX10_splitLeaf_4 11 rfl rfl)
theorem dX10_splitLeaf_107 : decode cX10_splitLeaf 107 = .ok (.iconst 1, 1) := dk_4 (dk_at dksX10_splitLeaf_4 12 rfl rfl)
theorem dX10_splitLeaf_108 : decode cX10_splitLeaf 108 = .ok (.iadd, 1) := dk_96 (dk_at dksX10_splitLeaf_4 13 rfl rfl)
theorem dX10_splitLeaf_109 : decode cX10_splitLeaf 109 = .ok (.iastore, 1) := dk_79 (dk_at dksX10_splitLeaf_4 14 rfl rfl)
theorem dX10_splitLeaf_110 : decode cX10_splitLeaf 110 = .ok (.return_, 1) := dk_177 (dk_at dksX10_splitLeaf_4 15 rfl rfl)
abbrev cX10_fault : ByteArray := prog_23_method_32_code
def yX10_fault : MethodName := ⟨RX10, "fault", "()I"⟩
def dkwX10_fault_0 : List UInt8 := [42, 3, 181, 0, 1, 42, 180, 0, 66, 172]
abbrev dktX10_fault_0 : List UInt8 := dkwX10_fault_0 ++ []
theorem dksX10_fault_0 : cX10_fault.data.toList.drop 0 = dktX10_fault_0 := by decide +kernel
theorem dX10_fault_0 : decode cX10_fault 0 = .ok (.aload_n 0, 1) := dk_42 (dk_at dksX10_fault_0 0 rfl rfl)
theorem dX10_fault_1 : decode cX10_fault 1 = .ok (.iconst 0, 1) := dk_3 (dk_at dksX10_fault_0 1 rfl rfl)
theorem dX10_fault_2 : decode cX10_fault 2 = .ok (.putfield 1, 3) := dk_181 0 1 (dk_at dksX10_fault_0 2 rfl rfl)
theorem dX10_fault_5 : decode cX10_fault 5 = .ok (.aload_n 0, 1) := dk_42 (dk_at dksX10_fault_0 5 rfl rfl)
theorem dX10_fault_6 : decode cX10_fault 6 = .ok (.getfield 66, 3) := dk_180 0 66 (dk_at dksX10_fault_0 6 rfl rfl)
theorem dX10_fault_9 : decode cX10_fault 9 = .ok (.ireturn, 1) := dk_172 (dk_at dksX10_fault_0 9 rfl rfl)
abbrev cX10_size : ByteArray := prog_23_method_45_code
def yX10_size : MethodName := ⟨RX10, "size", "(I)I"⟩
def dkwX10_size_0 : List UInt8 := [42, 3, 181, 0, 1, 42, 27, 182, 0, 215, 153, 0, 11, 42, 27, 182, 0, 199, 167, 0, 4, 2, 172]
abbrev dktX10_size_0 : List UInt8 := dkwX10_size_0 ++ []
theorem dksX10_size_0 : cX10_size.data.toList.drop 0 = dktX10_size_0 := by decide +kernel
theorem dX10_size_0 : decode cX10_size 0 = .ok (.aload_n 0, 1) := dk_42 (dk_at dksX10_size_0 0 rfl rfl)
theorem dX10_size_1 : decode cX10_size 1 = .ok (.iconst 0, 1) := dk_3 (dk_at dksX10_size_0 1 rfl rfl)
theorem dX10_size_2 : decode cX10_size 2 = .ok (.putfield 1, 3) := dk_181 0 1 (dk_at dksX10_size_0 2 rfl rfl)
theorem dX10_size_5 : decode cX10_size 5 = .ok (.aload_n 0, 1) := dk_42 (dk_at dksX10_size_0 5 rfl rfl)
theorem dX10_size_6 : decode cX10_size 6 = .ok (.iload_n 1, 1) := dk_27 (dk_at dksX10_size_0 6 rfl rfl)
theorem dX10_size_7 : decode cX10_size 7 = .ok (.invokevirtual 215, 3) := dk_182 0 215 (dk_at dksX10_size_0 7 rfl rfl)
theorem dX10_size_10 : decode cX10_size 10 = .ok (.ifCond .eq 11, 3) := dk_153 0 11 (dk_at dksX10_size_0 10 rfl rfl)
theorem dX10_size_13 : decode cX10_size 13 = .ok (.aload_n 0, 1) := dk_42 (dk_at dksX10_size_0 13 rfl rfl)
theorem dX10_size_14 : decode cX10_size 14 = .ok (.iload_n 1, 1) := dk_27 (dk_at dksX10_size_0 14 rfl rfl)
theorem dX10_size_15 : decode cX10_size 15 = .ok (.invokevirtual 199, 3) := dk_182 0 199 (dk_at dksX10_size_0 15 rfl rfl)
theorem dX10_size_18 : decode cX10_size 18 = .ok (.goto 4, 3) := dk_167 0 4 (dk_at dksX10_size_0 18 rfl rfl)
theorem dX10_size_21 : decode cX10_size 21 = .ok (.iconst (-1), 1) := dk_2 (dk_at dksX10_size_0 21 rfl rfl)
theorem dX10_size_22 : decode cX10_size 22 = .ok (.ireturn, 1) := dk_172 (dk_at dksX10_size_0 22 rfl rfl)
abbrev cX10_isRow : ByteArray := prog_23_method_41_code
def yX10_isRow : MethodName := ⟨RX10, "isRow", "(I)Z"⟩
def dkwX10_isRow_0 : List UInt8 := [27, 3, 42, 180, 0, 98, 3, 46, 4, 100, 184, 0, 75, 172]
abbrev dktX10_isRow_0 : List UInt8 := dkwX10_isRow_0 ++ []
theorem dksX10_isRow_0 : cX10_isRow.data.toList.drop 0 = dktX10_isRow_0 := by decide +kernel
theorem dX10_isRow_0 : decode cX10_isRow 0 = .ok (.iload_n 1, 1) := dk_27 (dk_at dksX10_isRow_0 0 rfl rfl)
theorem dX10_isRow_1 : decode cX10_isRow 1 = .ok (.iconst 0, 1) := dk_3 (dk_at dksX10_isRow_0 1 rfl rfl)
theorem dX10_isRow_2 : decode cX10_isRow 2 = .ok (.aload_n 0, 1) := dk_42 (dk_at dksX10_isRow_0 2 rfl rfl)
theorem dX10_isRow_3 : decode cX10_isRow 3 = .ok (.getfield 98, 3) := dk_180 0 98 (dk_at dksX10_isRow_0 3 rfl rfl)
theorem dX10_isRow_6 : decode cX10_isRow 6 = .ok (.iconst 0, 1) := dk_3 (dk_at dksX10_isRow_0 6 rfl rfl)
theorem dX10_isRow_7 : decode cX10_isRow 7 = .ok (.iaload, 1) := dk_46 (dk_at dksX10_isRow_0 7 rfl rfl)
theorem dX10_isRow_8 : decode cX10_isRow 8 = .ok (.iconst 1, 1) := dk_4 (dk_at dksX10_isRow_0 8 rfl rfl)
theorem dX10_isRow_9 : decode cX10_isRow 9 = .ok (.isub, 1) := dk_100 (dk_at dksX10_isRow_0 9 rfl rfl)
theorem dX10_isRow_10 : decode cX10_isRow 10 = .ok (.invokestatic 75, 3) := dk_184 0 75 (dk_at dksX10_isRow_0 10 rfl rfl)
theorem dX10_isRow_13 : decode cX10_isRow 13 = .ok (.ireturn, 1) := dk_172 (dk_at dksX10_isRow_0 13 rfl rfl)
abbrev cX10_bit : ByteArray := prog_23_method_46_code
def yX10_bit : MethodName := ⟨RX10, "bit", "(II)I"⟩
def dkwX10_bit_1 : List UInt8 := [28, 182, 0, 212, 167, 0, 4, 2, 172]
abbrev dktX10_bit_1 : List UInt8 := dkwX10_bit_1 ++ []
def dkwX10_bit_0 : List UInt8 := [42, 3, 181, 0, 1, 42, 27, 182, 0, 215, 153, 0, 21, 42, 27, 28, 182, 0, 218, 153, 0, 12, 42, 27]
abbrev dktX10_bit_0 : List UInt8 := dkwX10_bit_0 ++ dktX10_bit_1
theorem dksX10_bit_0 : cX10_bit.data.toList.drop 0 = dktX10_bit_0 := by decide +kernel
theorem dksX10_bit_1 : cX10_bit.data.toList.drop 24 = dktX10_bit_1 := dk_seg dksX10_bit_0 24 rfl rfl
theorem dX10_bit_0 : decode cX10_bit 0 = .ok (.aload_n 0, 1) := dk_42 (dk_at dksX10_bit_0 0 rfl rfl)
theorem dX10_bit_1 : decode cX10_bit 1 = .ok (.iconst 0, 1) := dk_3 (dk_at dksX10_bit_0 1 rfl rfl)
theorem dX10_bit_2 : decode cX10_bit 2 = .ok (.putfield 1, 3) := dk_181 0 1 (dk_at dksX10_bit_0 2 rfl rfl)
theorem dX10_bit_5 : decode cX10_bit 5 = .ok (.aload_n 0, 1) := dk_42 (dk_at dksX10_bit_0 5 rfl rfl)
theorem dX10_bit_6 : decode cX10_bit 6 = .ok (.iload_n 1, 1) := dk_27 (dk_at dksX10_bit_0 6 rfl rfl)
theorem dX10_bit_7 : decode cX10_bit 7 = .ok (.invokevirtual 215, 3) := dk_182 0 215 (dk_at dksX10_bit_0 7 rfl rfl)
theorem dX10_bit_10 : decode cX10_bit 10 = .ok (.ifCond .eq 21, 3) := dk_153 0 21 (dk_at dksX10_bit_0 10 rfl rfl)
theorem dX10_bit_13 : decode cX10_bit 13 = .ok (.aload_n 0, 1) := dk_42 (dk_at dksX10_bit_0 13 rfl rfl)
theorem dX10_bit_14 : decode cX10_bit 14 = .ok (.iload_n 1, 1) := dk_27 (dk_at dksX10_bit_0 14 rfl rfl)
theorem dX10_bit_15 : decode cX10_bit 15 = .ok (.iload_n 2, 1) := dk_28 (dk_at dksX10_bit_0 15 rfl rfl)
theorem dX10_bit_16 : decode cX10_bit 16 = .ok (.invokevirtual 218, 3) := dk_182 0 218 (dk_at dksX10_bit_0 16 rfl rfl)
theorem dX10_bit_19 : decode cX10_bit 19 = .ok (.ifCond .eq 12, 3) := dk_153 0 12 (dk_at dksX10_bit_0 19 rfl rfl)
theorem dX10_bit_22 : decode cX10_bit 22 = .ok (.aload_n 0, 1) := dk_42 (dk_at dksX10_bit_0 22 rfl rfl)
theorem dX10_bit_23 : decode cX10_bit 23 = .ok (.iload_n 1, 1) := dk_27 (dk_at dksX10_bit_0 23 rfl rfl)
theorem dX10_bit_24 : decode cX10_bit 24 = .ok (.iload_n 2, 1) := dk_28 (dk_at dksX10_bit_1 0 rfl rfl)
theorem dX10_bit_25 : decode cX10_bit 25 = .ok (.invokevirtual 212, 3) := dk_182 0 212 (dk_at dksX10_bit_1 1 rfl rfl)
theorem dX10_bit_28 : decode cX10_bit 28 = .ok (.goto 4, 3) := dk_167 0 4 (dk_at dksX10_bit_1 4 rfl rfl)
theorem dX10_bit_31 : decode cX10_bit 31 = .ok (.iconst (-1), 1) := dk_2 (dk_at dksX10_bit_1 7 rfl rfl)
theorem dX10_bit_32 : decode cX10_bit 32 = .ok (.ireturn, 1) := dk_172 (dk_at dksX10_bit_1 8 rfl rfl)
abbrev cX10_isThere : ByteArray := prog_23_method_43_code
def yX10_isThere : MethodName := ⟨RX10, "isThere", "(II)Z"⟩
def dkwX10_isThere_0 : List UInt8 := [28, 3, 42, 27, 182, 0, 199, 4, 100, 184, 0, 75, 172]
abbrev dktX10_isThere_0 : List UInt8 := dkwX10_isThere_0 ++ []
theorem dksX10_isThere_0 : cX10_isThere.data.toList.drop 0 = dktX10_isThere_0 := by decide +kernel
theorem dX10_isThere_0 : decode cX10_isThere 0 = .ok (.iload_n 2, 1) := dk_28 (dk_at dksX10_isThere_0 0 rfl rfl)
theorem dX10_isThere_1 : decode cX10_isThere 1 = .ok (.iconst 0, 1) := dk_3 (dk_at dksX10_isThere_0 1 rfl rfl)
theorem dX10_isThere_2 : decode cX10_isThere 2 = .ok (.aload_n 0, 1) := dk_42 (dk_at dksX10_isThere_0 2 rfl rfl)
theorem dX10_isThere_3 : decode cX10_isThere 3 = .ok (.iload_n 1, 1) := dk_27 (dk_at dksX10_isThere_0 3 rfl rfl)
theorem dX10_isThere_4 : decode cX10_isThere 4 = .ok (.invokevirtual 199, 3) := dk_182 0 199 (dk_at dksX10_isThere_0 4 rfl rfl)
theorem dX10_isThere_7 : decode cX10_isThere 7 = .ok (.iconst 1, 1) := dk_4 (dk_at dksX10_isThere_0 7 rfl rfl)
theorem dX10_isThere_8 : decode cX10_isThere 8 = .ok (.isub, 1) := dk_100 (dk_at dksX10_isThere_0 8 rfl rfl)
theorem dX10_isThere_9 : decode cX10_isThere 9 = .ok (.invokestatic 75, 3) := dk_184 0 75 (dk_at dksX10_isThere_0 9 rfl rfl)
theorem dX10_isThere_12 : decode cX10_isThere 12 = .ok (.ireturn, 1) := dk_172 (dk_at dksX10_isThere_0 12 rfl rfl)
abbrev cX10_bitOf : ByteArray := prog_23_method_34_code
def yX10_bitOf : MethodName := ⟨RX10, "bitOf", "(II)I"⟩
def dkwX10_bitOf_0 : List UInt8 := [42, 180, 0, 98, 17, 13, 92, 17, 2, 88, 27, 104, 96, 28, 96, 46, 172]
abbrev dktX10_bitOf_0 : List UInt8 := dkwX10_bitOf_0 ++ []
theorem dksX10_bitOf_0 : cX10_bitOf.data.toList.drop 0 = dktX10_bitOf_0 := by decide +kernel
theorem dX10_bitOf_0 : decode cX10_bitOf 0 = .ok (.aload_n 0, 1) := dk_42 (dk_at dksX10_bitOf_0 0 rfl rfl)
theorem dX10_bitOf_1 : decode cX10_bitOf 1 = .ok (.getfield 98, 3) := dk_180 0 98 (dk_at dksX10_bitOf_0 1 rfl rfl)
theorem dX10_bitOf_4 : decode cX10_bitOf 4 = .ok (.sipush 3420, 3) := dk_17 13 92 (dk_at dksX10_bitOf_0 4 rfl rfl)
theorem dX10_bitOf_7 : decode cX10_bitOf 7 = .ok (.sipush 600, 3) := dk_17 2 88 (dk_at dksX10_bitOf_0 7 rfl rfl)
theorem dX10_bitOf_10 : decode cX10_bitOf 10 = .ok (.iload_n 1, 1) := dk_27 (dk_at dksX10_bitOf_0 10 rfl rfl)
theorem dX10_bitOf_11 : decode cX10_bitOf 11 = .ok (.imul, 1) := dk_104 (dk_at dksX10_bitOf_0 11 rfl rfl)
theorem dX10_bitOf_12 : decode cX10_bitOf 12 = .ok (.iadd, 1) := dk_96 (dk_at dksX10_bitOf_0 12 rfl rfl)
theorem dX10_bitOf_13 : decode cX10_bitOf 13 = .ok (.iload_n 2, 1) := dk_28 (dk_at dksX10_bitOf_0 13 rfl rfl)
theorem dX10_bitOf_14 : decode cX10_bitOf 14 = .ok (.iadd, 1) := dk_96 (dk_at dksX10_bitOf_0 14 rfl rfl)
theorem dX10_bitOf_15 : decode cX10_bitOf 15 = .ok (.iaload, 1) := dk_46 (dk_at dksX10_bitOf_0 15 rfl rfl)
theorem dX10_bitOf_16 : decode cX10_bitOf 16 = .ok (.ireturn, 1) := dk_172 (dk_at dksX10_bitOf_0 16 rfl rfl)
abbrev cX10_rank : ByteArray := prog_23_method_47_code
def yX10_rank : MethodName := ⟨RX10, "rank", "(III)I"⟩
def dkwX10_rank_2 : List UInt8 := [160, 0, 8, 21, 4, 167, 0, 7, 28, 21, 4, 100, 172]
abbrev dktX10_rank_2 : List UInt8 := dkwX10_rank_2 ++ []
def dkwX10_rank_1 : List UInt8 := [27, 182, 0, 199, 184, 0, 75, 154, 0, 5, 2, 172, 42, 27, 3, 28, 182, 0, 224, 54, 4, 29, 4]
abbrev dktX10_rank_1 : List UInt8 := dkwX10_rank_1 ++ dktX10_rank_2
def dkwX10_rank_0 : List UInt8 := [42, 3, 181, 0, 1, 42, 27, 182, 0, 215, 153, 0, 24, 42, 29, 182, 0, 221, 153, 0, 16, 28, 3, 42]
abbrev dktX10_rank_0 : List UInt8 := dkwX10_rank_0 ++ dktX10_rank_1
theorem dksX10_rank_0 : cX10_rank.data.toList.drop 0 = dktX10_rank_0 := by decide +kernel
theorem dksX10_rank_1 : cX10_rank.data.toList.drop 24 = dktX10_rank_1 := dk_seg dksX10_rank_0 24 rfl rfl
theorem dksX10_rank_2 : cX10_rank.data.toList.drop 47 = dktX10_rank_2 := dk_seg dksX10_rank_1 23 rfl rfl
theorem dX10_rank_0 : decode cX10_rank 0 = .ok (.aload_n 0, 1) := dk_42 (dk_at dksX10_rank_0 0 rfl rfl)
theorem dX10_rank_1 : decode cX10_rank 1 = .ok (.iconst 0, 1) := dk_3 (dk_at dksX10_rank_0 1 rfl rfl)
theorem dX10_rank_2 : decode cX10_rank 2 = .ok (.putfield 1, 3) := dk_181 0 1 (dk_at dksX10_rank_0 2 rfl rfl)
theorem dX10_rank_5 : decode cX10_rank 5 = .ok (.aload_n 0, 1) := dk_42 (dk_at dksX10_rank_0 5 rfl rfl)
theorem dX10_rank_6 : decode cX10_rank 6 = .ok (.iload_n 1, 1) := dk_27 (dk_at dksX10_rank_0 6 rfl rfl)
theorem dX10_rank_7 : decode cX10_rank 7 = .ok (.invokevirtual 215, 3) := dk_182 0 215 (dk_at dksX10_rank_0 7 rfl rfl)
theorem dX10_rank_10 : decode cX10_rank 10 = .ok (.ifCond .eq 24, 3) := dk_153 0 24 (dk_at dksX10_rank_0 10 rfl rfl)
theorem dX10_rank_13 : decode cX10_rank 13 = .ok (.aload_n 0, 1) := dk_42 (dk_at dksX10_rank_0 13 rfl rfl)
theorem dX10_rank_14 : decode cX10_rank 14 = .ok (.iload_n 3, 1) := dk_29 (dk_at dksX10_rank_0 14 rfl rfl)
theorem dX10_rank_15 : decode cX10_rank 15 = .ok (.invokevirtual 221, 3) := dk_182 0 221 (dk_at dksX10_rank_0 15 rfl rfl)
theorem dX10_rank_18 : decode cX10_rank 18 = .ok (.ifCond .eq 16, 3) := dk_153 0 16 (dk_at dksX10_rank_0 18 rfl rfl)
theorem dX10_rank_21 : decode cX10_rank 21 = .ok (.iload_n 2, 1) := dk_28 (dk_at dksX10_rank_0 21 rfl rfl)
theorem dX10_rank_22 : decode cX10_rank 22 = .ok (.iconst 0, 1) := dk_3 (dk_at dksX10_rank_0 22 rfl rfl)
theorem dX10_rank_23 : decode cX10_rank 23 = .ok (.aload_n 0, 1) := dk_42 (dk_at dksX10_rank_0 23 rfl rfl)
theorem dX10_rank_24 : decode cX10_rank 24 = .ok (.iload_n 1, 1) := dk_27 (dk_at dksX10_rank_1 0 rfl rfl)
theorem dX10_rank_25 : decode cX10_rank 25 = .ok (.invokevirtual 199, 3) := dk_182 0 199 (dk_at dksX10_rank_1 1 rfl rfl)
theorem dX10_rank_28 : decode cX10_rank 28 = .ok (.invokestatic 75, 3) := dk_184 0 75 (dk_at dksX10_rank_1 4 rfl rfl)
theorem dX10_rank_31 : decode cX10_rank 31 = .ok (.ifCond .ne 5, 3) := dk_154 0 5 (dk_at dksX10_rank_1 7 rfl rfl)
theorem dX10_rank_34 : decode cX10_rank 34 = .ok (.iconst (-1), 1) := dk_2 (dk_at dksX10_rank_1 10 rfl rfl)
theorem dX10_rank_35 : decode cX10_rank 35 = .ok (.ireturn, 1) := dk_172 (dk_at dksX10_rank_1 11 rfl rfl)
theorem dX10_rank_36 : decode cX10_rank 36 = .ok (.aload_n 0, 1) := dk_42 (dk_at dksX10_rank_1 12 rfl rfl)
theorem dX10_rank_37 : decode cX10_rank 37 = .ok (.iload_n 1, 1) := dk_27 (dk_at dksX10_rank_1 13 rfl rfl)
theorem dX10_rank_38 : decode cX10_rank 38 = .ok (.iconst 0, 1) := dk_3 (dk_at dksX10_rank_1 14 rfl rfl)
theorem dX10_rank_39 : decode cX10_rank 39 = .ok (.iload_n 2, 1) := dk_28 (dk_at dksX10_rank_1 15 rfl rfl)
theorem dX10_rank_40 : decode cX10_rank 40 = .ok (.invokevirtual 224, 3) := dk_182 0 224 (dk_at dksX10_rank_1 16 rfl rfl)
theorem dX10_rank_43 : decode cX10_rank 43 = .ok (.istore 4, 2) := dk_54 4 (dk_at dksX10_rank_1 19 rfl rfl)
theorem dX10_rank_45 : decode cX10_rank 45 = .ok (.iload_n 3, 1) := dk_29 (dk_at dksX10_rank_1 21 rfl rfl)
theorem dX10_rank_46 : decode cX10_rank 46 = .ok (.iconst 1, 1) := dk_4 (dk_at dksX10_rank_1 22 rfl rfl)
theorem dX10_rank_47 : decode cX10_rank 47 = .ok (.if_icmp .ne 8, 3) := dk_160 0 8 (dk_at dksX10_rank_2 0 rfl rfl)
theorem dX10_rank_50 : decode cX10_rank 50 = .ok (.iload 4, 2) := dk_21 4 (dk_at dksX10_rank_2 3 rfl rfl)
theorem dX10_rank_52 : decode cX10_rank 52 = .ok (.goto 7, 3) := dk_167 0 7 (dk_at dksX10_rank_2 5 rfl rfl)
theorem dX10_rank_55 : decode cX10_rank 55 = .ok (.iload_n 2, 1) := dk_28 (dk_at dksX10_rank_2 8 rfl rfl)
theorem dX10_rank_56 : decode cX10_rank 56 = .ok (.iload 4, 2) := dk_21 4 (dk_at dksX10_rank_2 9 rfl rfl)
theorem dX10_rank_58 : decode cX10_rank 58 = .ok (.isub, 1) := dk_100 (dk_at dksX10_rank_2 11 rfl rfl)
theorem dX10_rank_59 : decode cX10_rank 59 = .ok (.ireturn, 1) := dk_172 (dk_at dksX10_rank_2 12 rfl rfl)
abbrev cX10_isBit : ByteArray := prog_23_method_42_code
def yX10_isBit : MethodName := ⟨RX10, "isBit", "(I)Z"⟩
def dkwX10_isBit_0 : List UInt8 := [27, 3, 4, 184, 0, 75, 172]
abbrev dktX10_isBit_0 : List UInt8 := dkwX10_isBit_0 ++ []
theorem dksX10_isBit_0 : cX10_isBit.data.toList.drop 0 = dktX10_isBit_0 := by decide +kernel
theorem dX10_isBit_0 : decode cX10_isBit 0 = .ok (.iload_n 1, 1) := dk_27 (dk_at dksX10_isBit_0 0 rfl rfl)
theorem dX10_isBit_1 : decode cX10_isBit 1 = .ok (.iconst 0, 1) := dk_3 (dk_at dksX10_isBit_0 1 rfl rfl)
theorem dX10_isBit_2 : decode cX10_isBit 2 = .ok (.iconst 1, 1) := dk_4 (dk_at dksX10_isBit_0 2 rfl rfl)
theorem dX10_isBit_3 : decode cX10_isBit 3 = .ok (.invokestatic 75, 3) := dk_184 0 75 (dk_at dksX10_isBit_0 3 rfl rfl)
theorem dX10_isBit_6 : decode cX10_isBit 6 = .ok (.ireturn, 1) := dk_172 (dk_at dksX10_isBit_0 6 rfl rfl)
abbrev cX10_onesIn : ByteArray := prog_23_method_44_code
def yX10_onesIn : MethodName := ⟨RX10, "onesIn", "(III)I"⟩
def dkwX10_onesIn_1 : List UInt8 := [132, 5, 1, 167, 255, 235, 21, 4, 172]
abbrev dktX10_onesIn_1 : List UInt8 := dkwX10_onesIn_1 ++ []
def dkwX10_onesIn_0 : List UInt8 := [3, 54, 4, 28, 54, 5, 21, 5, 29, 162, 0, 21, 21, 4, 42, 27, 21, 5, 182, 0, 212, 96, 54, 4]
abbrev dktX10_onesIn_0 : List UInt8 := dkwX10_onesIn_0 ++ dktX10_onesIn_1
theorem dksX10_onesIn_0 : cX10_onesIn.data.toList.drop 0 = dktX10_onesIn_0 := by decide +kernel
theorem dksX10_onesIn_1 : cX10_onesIn.data.toList.drop 24 = dktX10_onesIn_1 := dk_seg dksX10_onesIn_0 24 rfl rfl
theorem dX10_onesIn_0 : decode cX10_onesIn 0 = .ok (.iconst 0, 1) := dk_3 (dk_at dksX10_onesIn_0 0 rfl rfl)
theorem dX10_onesIn_1 : decode cX10_onesIn 1 = .ok (.istore 4, 2) := dk_54 4 (dk_at dksX10_onesIn_0 1 rfl rfl)
theorem dX10_onesIn_3 : decode cX10_onesIn 3 = .ok (.iload_n 2, 1) := dk_28 (dk_at dksX10_onesIn_0 3 rfl rfl)
theorem dX10_onesIn_4 : decode cX10_onesIn 4 = .ok (.istore 5, 2) := dk_54 5 (dk_at dksX10_onesIn_0 4 rfl rfl)
theorem dX10_onesIn_6 : decode cX10_onesIn 6 = .ok (.iload 5, 2) := dk_21 5 (dk_at dksX10_onesIn_0 6 rfl rfl)
theorem dX10_onesIn_8 : decode cX10_onesIn 8 = .ok (.iload_n 3, 1) := dk_29 (dk_at dksX10_onesIn_0 8 rfl rfl)
theorem dX10_onesIn_9 : decode cX10_onesIn 9 = .ok (.if_icmp .ge 21, 3) := dk_162 0 21 (dk_at dksX10_onesIn_0 9 rfl rfl)
theorem dX10_onesIn_12 : decode cX10_onesIn 12 = .ok (.iload 4, 2) := dk_21 4 (dk_at dksX10_onesIn_0 12 rfl rfl)
theorem dX10_onesIn_14 : decode cX10_onesIn 14 = .ok (.aload_n 0, 1) := dk_42 (dk_at dksX10_onesIn_0 14 rfl rfl)
theorem dX10_onesIn_15 : decode cX10_onesIn 15 = .ok (.iload_n 1, 1) := dk_27 (dk_at dksX10_onesIn_0 15 rfl rfl)
theorem dX10_onesIn_16 : decode cX10_onesIn 16 = .ok (.iload 5, 2) := dk_21 5 (dk_at dksX10_onesIn_0 16 rfl rfl)
theorem dX10_onesIn_18 : decode cX10_onesIn 18 = .ok (.invokevirtual 212, 3) := dk_182 0 212 (dk_at dksX10_onesIn_0 18 rfl rfl)
theorem dX10_onesIn_21 : decode cX10_onesIn 21 = .ok (.iadd, 1) := dk_96 (dk_at dksX10_onesIn_0 21 rfl rfl)
theorem dX10_onesIn_22 : decode cX10_onesIn 22 = .ok (.istore 4, 2) := dk_54 4 (dk_at dksX10_onesIn_0 22 rfl rfl)
theorem dX10_onesIn_24 : decode cX10_onesIn 24 = .ok (.iinc 5 1, 3) := dk_132 5 1 (dk_at dksX10_onesIn_1 0 rfl rfl)
theorem dX10_onesIn_27 : decode cX10_onesIn 27 = .ok (.goto (-21), 3) := dk_167 255 235 (dk_at dksX10_onesIn_1 3 rfl rfl)
theorem dX10_onesIn_30 : decode cX10_onesIn 30 = .ok (.iload 4, 2) := dk_21 4 (dk_at dksX10_onesIn_1 6 rfl rfl)
theorem dX10_onesIn_32 : decode cX10_onesIn 32 = .ok (.ireturn, 1) := dk_172 (dk_at dksX10_onesIn_1 8 rfl rfl)
abbrev cX10_select : ByteArray := prog_23_method_48_code
def yX10_select : MethodName := ⟨RX10, "select", "(III)I"⟩
def dkwX10_select_3 : List UInt8 := [132, 5, 1, 167, 255, 217, 2, 172]
abbrev dktX10_select_3 : List UInt8 := dkwX10_select_3 ++ []
def dkwX10_select_2 : List UInt8 := [21, 5, 182, 0, 212, 29, 159, 0, 6, 167, 0, 15, 21, 4, 28, 160, 0, 6, 21, 5, 172, 132, 4, 1]
abbrev dktX10_select_2 : List UInt8 := dkwX10_select_2 ++ dktX10_select_3
def dkwX10_select_1 : List UInt8 := [156, 0, 5, 2, 172, 3, 54, 4, 3, 54, 5, 21, 5, 42, 27, 182, 0, 199, 162, 0, 35, 42, 27]
abbrev dktX10_select_1 : List UInt8 := dkwX10_select_1 ++ dktX10_select_2
def dkwX10_select_0 : List UInt8 := [42, 3, 181, 0, 1, 42, 27, 182, 0, 215, 153, 0, 15, 42, 29, 182, 0, 221, 153, 0, 7, 28]
abbrev dktX10_select_0 : List UInt8 := dkwX10_select_0 ++ dktX10_select_1
theorem dksX10_select_0 : cX10_select.data.toList.drop 0 = dktX10_select_0 := by decide +kernel
theorem dksX10_select_1 : cX10_select.data.toList.drop 22 = dktX10_select_1 := dk_seg dksX10_select_0 22 rfl rfl
theorem dksX10_select_2 : cX10_select.data.toList.drop 45 = dktX10_select_2 := dk_seg dksX10_select_1 23 rfl rfl
theorem dksX10_select_3 : cX10_select.data.toList.drop 69 = dktX10_select_3 := dk_seg dksX10_select_2 24 rfl rfl
theorem dX10_select_0 : decode cX10_select 0 = .ok (.aload_n 0, 1) := dk_42 (dk_at dksX10_select_0 0 rfl rfl)
theorem dX10_select_1 : decode cX10_select 1 = .ok (.iconst 0, 1) := dk_3 (dk_at dksX10_select_0 1 rfl rfl)
theorem dX10_select_2 : decode cX10_select 2 = .ok (.putfield 1, 3) := dk_181 0 1 (dk_at dksX10_select_0 2 rfl rfl)
theorem dX10_select_5 : decode cX10_select 5 = .ok (.aload_n 0, 1) := dk_42 (dk_at dksX10_select_0 5 rfl rfl)
theorem dX10_select_6 : decode cX10_select 6 = .ok (.iload_n 1, 1) := dk_27 (dk_at dksX10_select_0 6 rfl rfl)
theorem dX10_select_7 : decode cX10_select 7 = .ok (.invokevirtual 215, 3) := dk_182 0 215 (dk_at dksX10_select_0 7 rfl rfl)
theorem dX10_select_10 : decode cX10_select 10 = .ok (.ifCond .eq 15, 3) := dk_153 0 15 (dk_at dksX10_select_0 10 rfl rfl)
theorem dX10_select_13 : decode cX10_select 13 = .ok (.aload_n 0, 1) := dk_42 (dk_at dksX10_select_0 13 rfl rfl)
theorem dX10_select_14 : decode cX10_select 14 = .ok (.iload_n 3, 1) := dk_29 (dk_at dksX10_select_0 14 rfl rfl)
theorem dX10_select_15 : decode cX10_select 15 = .ok (.invokevirtual 221, 3) := dk_182 0 221 (dk_at dksX10_select_0 15 rfl rfl)
theorem dX10_select_18 : decode cX10_select 18 = .ok (.ifCond .eq 7, 3) := dk_153 0 7 (dk_at dksX10_select_0 18 rfl rfl)
theorem dX10_select_21 : decode cX10_select 21 = .ok (.iload_n 2, 1) := dk_28 (dk_at dksX10_select_0 21 rfl rfl)
theorem dX10_select_22 : decode cX10_select 22 = .ok (.ifCond .ge 5, 3) := dk_156 0 5 (dk_at dksX10_select_1 0 rfl rfl)
theorem dX10_select_25 : decode cX10_select 25 = .ok (.iconst (-1), 1) := dk_2 (dk_at dksX10_select_1 3 rfl rfl)
theorem dX10_select_26 : decode cX10_select 26 = .ok (.ireturn, 1) := dk_172 (dk_at dksX10_select_1 4 rfl rfl)
theorem dX10_select_27 : decode cX10_select 27 = .ok (.iconst 0, 1) := dk_3 (dk_at dksX10_select_1 5 rfl rfl)
theorem dX10_select_28 : decode cX10_select 28 = .ok (.istore 4, 2) := dk_54 4 (dk_at dksX10_select_1 6 rfl rfl)
theorem dX10_select_30 : decode cX10_select 30 = .ok (.iconst 0, 1) := dk_3 (dk_at dksX10_select_1 8 rfl rfl)
theorem dX10_select_31 : decode cX10_select 31 = .ok (.istore 5, 2) := dk_54 5 (dk_at dksX10_select_1 9 rfl rfl)
theorem dX10_select_33 : decode cX10_select 33 = .ok (.iload 5, 2) := dk_21 5 (dk_at dksX10_select_1 11 rfl rfl)
theorem dX10_select_35 : decode cX10_select 35 = .ok (.aload_n 0, 1) := dk_42 (dk_at dksX10_select_1 13 rfl rfl)
theorem dX10_select_36 : decode cX10_select 36 = .ok (.iload_n 1, 1) := dk_27 (dk_at dksX10_select_1 14 rfl rfl)
theorem dX10_select_37 : decode cX10_select 37 = .ok (.invokevirtual 199, 3) := dk_182 0 199 (dk_at dksX10_select_1 15 rfl rfl)
theorem dX10_select_40 : decode cX10_select 40 = .ok (.if_icmp .ge 35, 3) := dk_162 0 35 (dk_at dksX10_select_1 18 rfl rfl)
theorem dX10_select_43 : decode cX10_select 43 = .ok (.aload_n 0, 1) := dk_42 (dk_at dksX10_select_1 21 rfl rfl)
theorem dX10_select_44 : decode cX10_select 44 = .ok (.iload_n 1, 1) := dk_27 (dk_at dksX10_select_1 22 rfl rfl)
theorem dX10_select_45 : decode cX10_select 45 = .ok (.iload 5, 2) := dk_21 5 (dk_at dksX10_select_2 0 rfl rfl)
theorem dX10_select_47 : decode cX10_select 47 = .ok (.invokevirtual 212, 3) := dk_182 0 212 (dk_at dksX10_select_2 2 rfl rfl)
theorem dX10_select_50 : decode cX10_select 50 = .ok (.iload_n 3, 1) := dk_29 (dk_at dksX10_select_2 5 rfl rfl)
theorem dX10_select_51 : decode cX10_select 51 = .ok (.if_icmp .eq 6, 3) := dk_159 0 6 (dk_at dksX10_select_2 6 rfl rfl)
theorem dX10_select_54 : decode cX10_select 54 = .ok (.goto 15, 3) := dk_167 0 15 (dk_at dksX10_select_2 9 rfl rfl)
theorem dX10_select_57 : decode cX10_select 57 = .ok (.iload 4, 2) := dk_21 4 (dk_at dksX10_select_2 12 rfl rfl)
theorem dX10_select_59 : decode cX10_select 59 = .ok (.iload_n 2, 1) := dk_28 (dk_at dksX10_select_2 14 rfl rfl)
theorem dX10_select_60 : decode cX10_select 60 = .ok (.if_icmp .ne 6, 3) := dk_160 0 6 (dk_at dksX10_select_2 15 rfl rfl)
theorem dX10_select_63 : decode cX10_select 63 = .ok (.iload 5, 2) := dk_21 5 (dk_at dksX10_select_2 18 rfl rfl)
theorem dX10_select_65 : decode cX10_select 65 = .ok (.ireturn, 1) := dk_172 (dk_at dksX10_select_2 20 rfl rfl)
theorem dX10_select_66 : decode cX10_select 66 = .ok (.iinc 4 1, 3) := dk_132 4 1 (dk_at dksX10_select_2 21 rfl rfl)
theorem dX10_select_69 : decode cX10_select 69 = .ok (.iinc 5 1, 3) := dk_132 5 1 (dk_at dksX10_select_3 0 rfl rfl)
theorem dX10_select_72 : decode cX10_select 72 = .ok (.goto (-39), 3) := dk_167 255 217 (dk_at dksX10_select_3 3 rfl rfl)
theorem dX10_select_75 : decode cX10_select 75 = .ok (.iconst (-1), 1) := dk_2 (dk_at dksX10_select_3 6 rfl rfl)
theorem dX10_select_76 : decode cX10_select 76 = .ok (.ireturn, 1) := dk_172 (dk_at dksX10_select_3 7 rfl rfl)
abbrev cX10_find : ByteArray := prog_23_method_49_code
def yX10_find : MethodName := ⟨RX10, "find", "(III)I"⟩
def dkwX10_find_2 : List UInt8 := [182, 0, 212, 29, 160, 0, 6, 21, 4, 172, 132, 4, 1, 167, 255, 229, 2, 172]
abbrev dktX10_find_2 : List UInt8 := dkwX10_find_2 ++ []
def dkwX10_find_1 : List UInt8 := [156, 0, 5, 2, 172, 28, 54, 4, 21, 4, 42, 27, 182, 0, 199, 162, 0, 23, 42, 27, 21, 4]
abbrev dktX10_find_1 : List UInt8 := dkwX10_find_1 ++ dktX10_find_2
def dkwX10_find_0 : List UInt8 := [42, 3, 181, 0, 1, 42, 27, 182, 0, 215, 153, 0, 15, 42, 29, 182, 0, 221, 153, 0, 7, 28]
abbrev dktX10_find_0 : List UInt8 := dkwX10_find_0 ++ dktX10_find_1
theorem dksX10_find_0 : cX10_find.data.toList.drop 0 = dktX10_find_0 := by decide +kernel
theorem dksX10_find_1 : cX10_find.data.toList.drop 22 = dktX10_find_1 := dk_seg dksX10_find_0 22 rfl rfl
theorem dksX10_find_2 : cX10_find.data.toList.drop 44 = dktX10_find_2 := dk_seg dksX10_find_1 22 rfl rfl
theorem dX10_find_0 : decode cX10_find 0 = .ok (.aload_n 0, 1) := dk_42 (dk_at dksX10_find_0 0 rfl rfl)
theorem dX10_find_1 : decode cX10_find 1 = .ok (.iconst 0, 1) := dk_3 (dk_at dksX10_find_0 1 rfl rfl)
theorem dX10_find_2 : decode cX10_find 2 = .ok (.putfield 1, 3) := dk_181 0 1 (dk_at dksX10_find_0 2 rfl rfl)
theorem dX10_find_5 : decode cX10_find 5 = .ok (.aload_n 0, 1) := dk_42 (dk_at dksX10_find_0 5 rfl rfl)
theorem dX10_find_6 : decode cX10_find 6 = .ok (.iload_n 1, 1) := dk_27 (dk_at dksX10_find_0 6 rfl rfl)
theorem dX10_find_7 : decode cX10_find 7 = .ok (.invokevirtual 215, 3) := dk_182 0 215 (dk_at dksX10_find_0 7 rfl rfl)
theorem dX10_find_10 : decode cX10_find 10 = .ok (.ifCond .eq 15, 3) := dk_153 0 15 (dk_at dksX10_find_0 10 rfl rfl)
theorem dX10_find_13 : decode cX10_find 13 = .ok (.aload_n 0, 1) := dk_42 (dk_at dksX10_find_0 13 rfl rfl)
theorem dX10_find_14 : decode cX10_find 14 = .ok (.iload_n 3, 1) := dk_29 (dk_at dksX10_find_0 14 rfl rfl)
theorem dX10_find_15 : decode cX10_find 15 = .ok (.invokevirtual 221, 3) := dk_182 0 221 (dk_at dksX10_find_0 15 rfl rfl)
theorem dX10_find_18 : decode cX10_find 18 = .ok (.ifCond .eq 7, 3) := dk_153 0 7 (dk_at dksX10_find_0 18 rfl rfl)
theorem dX10_find_21 : decode cX10_find 21 = .ok (.iload_n 2, 1) := dk_28 (dk_at dksX10_find_0 21 rfl rfl)
theorem dX10_find_22 : decode cX10_find 22 = .ok (.ifCond .ge 5, 3) := dk_156 0 5 (dk_at dksX10_find_1 0 rfl rfl)
theorem dX10_find_25 : decode cX10_find 25 = .ok (.iconst (-1), 1) := dk_2 (dk_at dksX10_find_1 3 rfl rfl)
theorem dX10_find_26 : decode cX10_find 26 = .ok (.ireturn, 1) := dk_172 (dk_at dksX10_find_1 4 rfl rfl)
theorem dX10_find_27 : decode cX10_find 27 = .ok (.iload_n 2, 1) := dk_28 (dk_at dksX10_find_1 5 rfl rfl)
theorem dX10_find_28 : decode cX10_find 28 = .ok (.istore 4, 2) := dk_54 4 (dk_at dksX10_find_1 6 rfl rfl)
theorem dX10_find_30 : decode cX10_find 30 = .ok (.iload 4, 2) := dk_21 4 (dk_at dksX10_find_1 8 rfl rfl)
theorem dX10_find_32 : decode cX10_find 32 = .ok (.aload_n 0, 1) := dk_42 (dk_at dksX10_find_1 10 rfl rfl)
theorem dX10_find_33 : decode cX10_find 33 = .ok (.iload_n 1, 1) := dk_27 (dk_at dksX10_find_1 11 rfl rfl)
theorem dX10_find_34 : decode cX10_find 34 = .ok (.invokevirtual 199, 3) := dk_182 0 199 (dk_at dksX10_find_1 12 rfl rfl)
theorem dX10_find_37 : decode cX10_find 37 = .ok (.if_icmp .ge 23, 3) := dk_162 0 23 (dk_at dksX10_find_1 15 rfl rfl)
theorem dX10_find_40 : decode cX10_find 40 = .ok (.aload_n 0, 1) := dk_42 (dk_at dksX10_find_1 18 rfl rfl)
theorem dX10_find_41 : decode cX10_find 41 = .ok (.iload_n 1, 1) := dk_27 (dk_at dksX10_find_1 19 rfl rfl)
theorem dX10_find_42 : decode cX10_find 42 = .ok (.iload 4, 2) := dk_21 4 (dk_at dksX10_find_1 20 rfl rfl)
theorem dX10_find_44 : decode cX10_find 44 = .ok (.invokevirtual 212, 3) := dk_182 0 212 (dk_at dksX10_find_2 0 rfl rfl)
theorem dX10_find_47 : decode cX10_find 47 = .ok (.iload_n 3, 1) := dk_29 (dk_at dksX10_find_2 3 rfl rfl)
theorem dX10_find_48 : decode cX10_find 48 = .ok (.if_icmp .ne 6, 3) := dk_160 0 6 (dk_at dksX10_find_2 4 rfl rfl)
theorem dX10_find_51 : decode cX10_find 51 = .ok (.iload 4, 2) := dk_21 4 (dk_at dksX10_find_2 7 rfl rfl)
theorem dX10_find_53 : decode cX10_find 53 = .ok (.ireturn, 1) := dk_172 (dk_at dksX10_find_2 9 rfl rfl)
theorem dX10_find_54 : decode cX10_find 54 = .ok (.iinc 4 1, 3) := dk_132 4 1 (dk_at dksX10_find_2 10 rfl rfl)
theorem dX10_find_57 : decode cX10_find 57 = .ok (.goto (-27), 3) := dk_167 255 229 (dk_at dksX10_find_2 13 rfl rfl)
theorem dX10_find_60 : decode cX10_find 60 = .ok (.iconst (-1), 1) := dk_2 (dk_at dksX10_find_2 16 rfl rfl)
theorem dX10_find_61 : decode cX10_find 61 = .ok (.ireturn, 1) := dk_172 (dk_at dksX10_find_2 17 rfl rfl)
abbrev cX10_runs : ByteArray := prog_23_method_51_code
def yX10_runs : MethodName := ⟨RX10, "runs", "(I)I"⟩
def dkwX10_runs_0 : List UInt8 := [42, 3, 181, 0, 1, 42, 27, 182, 0, 215, 153, 0, 11, 42, 27, 182, 0, 228, 167, 0, 4, 2, 172]
abbrev dktX10_runs_0 : List UInt8 := dkwX10_runs_0 ++ []
theorem dksX10_runs_0 : cX10_runs.data.toList.drop 0 = dktX10_runs_0 := by decide +kernel
theorem dX10_runs_0 : decode cX10_runs 0 = .ok (.aload_n 0, 1) := dk_42 (dk_at dksX10_runs_0 0 rfl rfl)
theorem dX10_runs_1 : decode cX10_runs 1 = .ok (.iconst 0, 1) := dk_3 (dk_at dksX10_runs_0 1 rfl rfl)
theorem dX10_runs_2 : decode cX10_runs 2 = .ok (.putfield 1, 3) := dk_181 0 1 (dk_at dksX10_runs_0 2 rfl rfl)
theorem dX10_runs_5 : decode cX10_runs 5 = .ok (.aload_n 0, 1) := dk_42 (dk_at dksX10_runs_0 5 rfl rfl)
theorem dX10_runs_6 : decode cX10_runs 6 = .ok (.iload_n 1, 1) := dk_27 (dk_at dksX10_runs_0 6 rfl rfl)
theorem dX10_runs_7 : decode cX10_runs 7 = .ok (.invokevirtual 215, 3) := dk_182 0 215 (dk_at dksX10_runs_0 7 rfl rfl)
theorem dX10_runs_10 : decode cX10_runs 10 = .ok (.ifCond .eq 11, 3) := dk_153 0 11 (dk_at dksX10_runs_0 10 rfl rfl)
theorem dX10_runs_13 : decode cX10_runs 13 = .ok (.aload_n 0, 1) := dk_42 (dk_at dksX10_runs_0 13 rfl rfl)
theorem dX10_runs_14 : decode cX10_runs 14 = .ok (.iload_n 1, 1) := dk_27 (dk_at dksX10_runs_0 14 rfl rfl)
theorem dX10_runs_15 : decode cX10_runs 15 = .ok (.invokevirtual 228, 3) := dk_182 0 228 (dk_at dksX10_runs_0 15 rfl rfl)
theorem dX10_runs_18 : decode cX10_runs 18 = .ok (.goto 4, 3) := dk_167 0 4 (dk_at dksX10_runs_0 18 rfl rfl)
theorem dX10_runs_21 : decode cX10_runs 21 = .ok (.iconst (-1), 1) := dk_2 (dk_at dksX10_runs_0 21 rfl rfl)
theorem dX10_runs_22 : decode cX10_runs 22 = .ok (.ireturn, 1) := dk_172 (dk_at dksX10_runs_0 22 rfl rfl)
abbrev cX10_runsOf : ByteArray := prog_23_method_50_code
def yX10_runsOf : MethodName := ⟨RX10, "runsOf", "(I)I"⟩
def dkwX10_runsOf_1 : List UInt8 := [27, 29, 4, 100, 182, 0, 212, 159, 0, 6, 132, 2, 1, 132, 3, 1, 167, 255, 220, 28, 172]
abbrev dktX10_runsOf_1 : List UInt8 := dkwX10_runsOf_1 ++ []
def dkwX10_runsOf_0 : List UInt8 := [3, 61, 3, 62, 29, 42, 27, 182, 0, 199, 162, 0, 33, 29, 153, 0, 20, 42, 27, 29, 182, 0, 212, 42]
abbrev dktX10_runsOf_0 : List UInt8 := dkwX10_runsOf_0 ++ dktX10_runsOf_1
theorem dksX10_runsOf_0 : cX10_runsOf.data.toList.drop 0 = dktX10_runsOf_0 := by decide +kernel
theorem dksX10_runsOf_1 : cX10_runsOf.data.toList.drop 24 = dktX10_runsOf_1 := dk_seg dksX10_runsOf_0 24 rfl rfl
theorem dX10_runsOf_0 : decode cX10_runsOf 0 = .ok (.iconst 0, 1) := dk_3 (dk_at dksX10_runsOf_0 0 rfl rfl)
theorem dX10_runsOf_1 : decode cX10_runsOf 1 = .ok (.istore_n 2, 1) := dk_61 (dk_at dksX10_runsOf_0 1 rfl rfl)
theorem dX10_runsOf_2 : decode cX10_runsOf 2 = .ok (.iconst 0, 1) := dk_3 (dk_at dksX10_runsOf_0 2 rfl rfl)
theorem dX10_runsOf_3 : decode cX10_runsOf 3 = .ok (.istore_n 3, 1) := dk_62 (dk_at dksX10_runsOf_0 3 rfl rfl)
theorem dX10_runsOf_4 : decode cX10_runsOf 4 = .ok (.iload_n 3, 1) := dk_29 (dk_at dksX10_runsOf_0 4 rfl rfl)
theorem dX10_runsOf_5 : decode cX10_runsOf 5 = .ok (.aload_n 0, 1) := dk_42 (dk_at dksX10_runsOf_0 5 rfl rfl)
theorem dX10_runsOf_6 : decode cX10_runsOf 6 = .ok (.iload_n 1, 1) := dk_27 (dk_at dksX10_runsOf_0 6 rfl rfl)
theorem dX10_runsOf_7 : decode cX10_runsOf 7 = .ok (.invokevirtual 199, 3) := dk_182 0 199 (dk_at dksX10_runsOf_0 7 rfl rfl)
theorem dX10_runsOf_10 : decode cX10_runsOf 10 = .ok (.if_icmp .ge 33, 3) := dk_162 0 33 (dk_at dksX10_runsOf_0 10 rfl rfl)
theorem dX10_runsOf_13 : decode cX10_runsOf 13 = .ok (.iload_n 3, 1) := dk_29 (dk_at dksX10_runsOf_0 13 rfl rfl)
theorem dX10_runsOf_14 : decode cX10_runsOf 14 = .ok (.ifCond .eq 20, 3) := dk_153 0 20 (dk_at dksX10_runsOf_0 14 rfl rfl)
theorem dX10_runsOf_17 : decode cX10_runsOf 17 = .ok (.aload_n 0, 1) := dk_42 (dk_at dksX10_runsOf_0 17 rfl rfl)
theorem dX10_runsOf_18 : decode cX10_runsOf 18 = .ok (.iload_n 1, 1) := dk_27 (dk_at dksX10_runsOf_0 18 rfl rfl)
theorem dX10_runsOf_19 : decode cX10_runsOf 19 = .ok (.iload_n 3, 1) := dk_29 (dk_at dksX10_runsOf_0 19 rfl rfl)
theorem dX10_runsOf_20 : decode cX10_runsOf 20 = .ok (.invokevirtual 212, 3) := dk_182 0 212 (dk_at dksX10_runsOf_0 20 rfl rfl)
theorem dX10_runsOf_23 : decode cX10_runsOf 23 = .ok (.aload_n 0, 1) := dk_42 (dk_at dksX10_runsOf_0 23 rfl rfl)
theorem dX10_runsOf_24 : decode cX10_runsOf 24 = .ok (.iload_n 1, 1) := dk_27 (dk_at dksX10_runsOf_1 0 rfl rfl)
theorem dX10_runsOf_25 : decode cX10_runsOf 25 = .ok (.iload_n 3, 1) := dk_29 (dk_at dksX10_runsOf_1 1 rfl rfl)
theorem dX10_runsOf_26 : decode cX10_runsOf 26 = .ok (.iconst 1, 1) := dk_4 (dk_at dksX10_runsOf_1 2 rfl rfl)
theorem dX10_runsOf_27 : decode cX10_runsOf 27 = .ok (.isub, 1) := dk_100 (dk_at dksX10_runsOf_1 3 rfl rfl)
theorem dX10_runsOf_28 : decode cX10_runsOf 28 = .ok (.invokevirtual 212, 3) := dk_182 0 212 (dk_at dksX10_runsOf_1 4 rfl rfl)
theorem dX10_runsOf_31 : decode cX10_runsOf 31 = .ok (.if_icmp .eq 6, 3) := dk_159 0 6 (dk_at dksX10_runsOf_1 7 rfl rfl)
theorem dX10_runsOf_34 : decode cX10_runsOf 34 = .ok (.iinc 2 1, 3) := dk_132 2 1 (dk_at dksX10_runsOf_1 10 rfl rfl)
theorem dX10_runsOf_37 : decode cX10_runsOf 37 = .ok (.iinc 3 1, 3) := dk_132 3 1 (dk_at dksX10_runsOf_1 13 rfl rfl)
theorem dX10_runsOf_40 : decode cX10_runsOf 40 = .ok (.goto (-36), 3) := dk_167 255 220 (dk_at dksX10_runsOf_1 16 rfl rfl)
theorem dX10_runsOf_43 : decode cX10_runsOf 43 = .ok (.iload_n 2, 1) := dk_28 (dk_at dksX10_runsOf_1 19 rfl rfl)
theorem dX10_runsOf_44 : decode cX10_runsOf 44 = .ok (.ireturn, 1) := dk_172 (dk_at dksX10_runsOf_1 20 rfl rfl)
abbrev cX10_longest : ByteArray := prog_23_method_52_code
def yX10_longest : MethodName := ⟨RX10, "longest", "(II)I"⟩
def dkwX10_longest_3 : List UInt8 := [132, 5, 1, 167, 255, 213, 29, 172]
abbrev dktX10_longest_3 : List UInt8 := dkwX10_longest_3 ++ []
def dkwX10_longest_2 : List UInt8 := [28, 160, 0, 10, 21, 4, 4, 96, 167, 0, 4, 3, 54, 4, 21, 4, 29, 164, 0, 6, 21, 4, 62]
abbrev dktX10_longest_2 : List UInt8 := dkwX10_longest_2 ++ dktX10_longest_3
def dkwX10_longest_1 : List UInt8 := [62, 3, 54, 4, 3, 54, 5, 21, 5, 42, 27, 182, 0, 199, 162, 0, 39, 42, 27, 21, 5, 182, 0, 212]
abbrev dktX10_longest_1 : List UInt8 := dkwX10_longest_1 ++ dktX10_longest_2
def dkwX10_longest_0 : List UInt8 := [42, 3, 181, 0, 1, 42, 27, 182, 0, 215, 153, 0, 11, 42, 28, 182, 0, 221, 154, 0, 5, 2, 172, 3]
abbrev dktX10_longest_0 : List UInt8 := dkwX10_longest_0 ++ dktX10_longest_1
theorem dksX10_longest_0 : cX10_longest.data.toList.drop 0 = dktX10_longest_0 := by decide +kernel
theorem dksX10_longest_1 : cX10_longest.data.toList.drop 24 = dktX10_longest_1 := dk_seg dksX10_longest_0 24 rfl rfl
theorem dksX10_longest_2 : cX10_longest.data.toList.drop 48 = dktX10_longest_2 := dk_seg dksX10_longest_1 24 rfl rfl
theorem dksX10_longest_3 : cX10_longest.data.toList.drop 71 = dktX10_longest_3 := dk_seg dksX10_longest_2 23 rfl rfl
theorem dX10_longest_0 : decode cX10_longest 0 = .ok (.aload_n 0, 1) := dk_42 (dk_at dksX10_longest_0 0 rfl rfl)
theorem dX10_longest_1 : decode cX10_longest 1 = .ok (.iconst 0, 1) := dk_3 (dk_at dksX10_longest_0 1 rfl rfl)
theorem dX10_longest_2 : decode cX10_longest 2 = .ok (.putfield 1, 3) := dk_181 0 1 (dk_at dksX10_longest_0 2 rfl rfl)
theorem dX10_longest_5 : decode cX10_longest 5 = .ok (.aload_n 0, 1) := dk_42 (dk_at dksX10_longest_0 5 rfl rfl)
theorem dX10_longest_6 : decode cX10_longest 6 = .ok (.iload_n 1, 1) := dk_27 (dk_at dksX10_longest_0 6 rfl rfl)
theorem dX10_longest_7 : decode cX10_longest 7 = .ok (.invokevirtual 215, 3) := dk_182 0 215 (dk_at dksX10_longest_0 7 rfl rfl)
theorem dX10_longest_10 : decode cX10_longest 10 = .ok (.ifCond .eq 11, 3) := dk_153 0 11 (dk_at dksX10_longest_0 10 rfl rfl)
theorem dX10_longest_13 : decode cX10_longest 13 = .ok (.aload_n 0, 1) := dk_42 (dk_at dksX10_longest_0 13 rfl rfl)
theorem dX10_longest_14 : decode cX10_longest 14 = .ok (.iload_n 2, 1) := dk_28 (dk_at dksX10_longest_0 14 rfl rfl)
theorem dX10_longest_15 : decode cX10_longest 15 = .ok (.invokevirtual 221, 3) := dk_182 0 221 (dk_at dksX10_longest_0 15 rfl rfl)
theorem dX10_longest_18 : decode cX10_longest 18 = .ok (.ifCond .ne 5, 3) := dk_154 0 5 (dk_at dksX10_longest_0 18 rfl rfl)
theorem dX10_longest_21 : decode cX10_longest 21 = .ok (.iconst (-1), 1) := dk_2 (dk_at dksX10_longest_0 21 rfl rfl)
theorem dX10_longest_22 : decode cX10_longest 22 = .ok (.ireturn, 1) := dk_172 (dk_at dksX10_longest_0 22 rfl rfl)
theorem dX10_longest_23 : decode cX10_longest 23 = .ok (.iconst 0, 1) := dk_3 (dk_at dksX10_longest_0 23 rfl rfl)
theorem dX10_longest_24 : decode cX10_longest 24 = .ok (.istore_n 3, 1) := dk_62 (dk_at dksX10_longest_1 0 rfl rfl)
theorem dX10_longest_25 : decode cX10_longest 25 = .ok (.iconst 0, 1) := dk_3 (dk_at dksX10_longest_1 1 rfl rfl)
theorem dX10_longest_26 : decode cX10_longest 26 = .ok (.istore 4, 2) := dk_54 4 (dk_at dksX10_longest_1 2 rfl rfl)
theorem dX10_longest_28 : decode cX10_longest 28 = .ok (.iconst 0, 1) := dk_3 (dk_at dksX10_longest_1 4 rfl rfl)
theorem dX10_longest_29 : decode cX10_longest 29 = .ok (.istore 5, 2) := dk_54 5 (dk_at dksX10_longest_1 5 rfl rfl)
theorem dX10_longest_31 : decode cX10_longest 31 = .ok (.iload 5, 2) := dk_21 5 (dk_at dksX10_longest_1 7 rfl rfl)
theorem dX10_longest_33 : decode cX10_longest 33 = .ok (.aload_n 0, 1) := dk_42 (dk_at dksX10_longest_1 9 rfl rfl)
theorem dX10_longest_34 : decode cX10_longest 34 = .ok (.iload_n 1, 1) := dk_27 (dk_at dksX10_longest_1 10 rfl rfl)
theorem dX10_longest_35 : decode cX10_longest 35 = .ok (.invokevirtual 199, 3) := dk_182 0 199 (dk_at dksX10_longest_1 11 rfl rfl)
theorem dX10_longest_38 : decode cX10_longest 38 = .ok (.if_icmp .ge 39, 3) := dk_162 0 39 (dk_at dksX10_longest_1 14 rfl rfl)
theorem dX10_longest_41 : decode cX10_longest 41 = .ok (.aload_n 0, 1) := dk_42 (dk_at dksX10_longest_1 17 rfl rfl)
theorem dX10_longest_42 : decode cX10_longest 42 = .ok (.iload_n 1, 1) := dk_27 (dk_at dksX10_longest_1 18 rfl rfl)
theorem dX10_longest_43 : decode cX10_longest 43 = .ok (.iload 5, 2) := dk_21 5 (dk_at dksX10_longest_1 19 rfl rfl)
theorem dX10_longest_45 : decode cX10_longest 45 = .ok (.invokevirtual 212, 3) := dk_182 0 212 (dk_at dksX10_longest_1 21 rfl rfl)
theorem dX10_longest_48 : decode cX10_longest 48 = .ok (.iload_n 2, 1) := dk_28 (dk_at dksX10_longest_2 0 rfl rfl)
theorem dX10_longest_49 : decode cX10_longest 49 = .ok (.if_icmp .ne 10, 3) := dk_160 0 10 (dk_at dksX10_longest_2 1 rfl rfl)
theorem dX10_longest_52 : decode cX10_longest 52 = .ok (.iload 4, 2) := dk_21 4 (dk_at dksX10_longest_2 4 rfl rfl)
theorem dX10_longest_54 : decode cX10_longest 54 = .ok (.iconst 1, 1) := dk_4 (dk_at dksX10_longest_2 6 rfl rfl)
theorem dX10_longest_55 : decode cX10_longest 55 = .ok (.iadd, 1) := dk_96 (dk_at dksX10_longest_2 7 rfl rfl)
theorem dX10_longest_56 : decode cX10_longest 56 = .ok (.goto 4, 3) := dk_167 0 4 (dk_at dksX10_longest_2 8 rfl rfl)
theorem dX10_longest_59 : decode cX10_longest 59 = .ok (.iconst 0, 1) := dk_3 (dk_at dksX10_longest_2 11 rfl rfl)
theorem dX10_longest_60 : decode cX10_longest 60 = .ok (.istore 4, 2) := dk_54 4 (dk_at dksX10_longest_2 12 rfl rfl)
theorem dX10_longest_62 : decode cX10_longest 62 = .ok (.iload 4, 2) := dk_21 4 (dk_at dksX10_longest_2 14 rfl rfl)
theorem dX10_longest_64 : decode cX10_longest 64 = .ok (.iload_n 3, 1) := dk_29 (dk_at dksX10_longest_2 16 rfl rfl)
theorem dX10_longest_65 : decode cX10_longest 65 = .ok (.if_icmp .le 6, 3) := dk_164 0 6 (dk_at dksX10_longest_2 17 rfl rfl)
theorem dX10_longest_68 : decode cX10_longest 68 = .ok (.iload 4, 2) := dk_21 4 (dk_at dksX10_longest_2 20 rfl rfl)
theorem dX10_longest_70 : decode cX10_longest 70 = .ok (.istore_n 3, 1) := dk_62 (dk_at dksX10_longest_2 22 rfl rfl)
theorem dX10_longest_71 : decode cX10_longest 71 = .ok (.iinc 5 1, 3) := dk_132 5 1 (dk_at dksX10_longest_3 0 rfl rfl)
theorem dX10_longest_74 : decode cX10_longest 74 = .ok (.goto (-43), 3) := dk_167 255 213 (dk_at dksX10_longest_3 3 rfl rfl)
theorem dX10_longest_77 : decode cX10_longest 77 = .ok (.iload_n 3, 1) := dk_29 (dk_at dksX10_longest_3 6 rfl rfl)
theorem dX10_longest_78 : decode cX10_longest 78 = .ok (.ireturn, 1) := dk_172 (dk_at dksX10_longest_3 7 rfl rfl)
abbrev cX10_word : ByteArray := prog_23_method_53_code
def yX10_word : MethodName := ⟨RX10, "word", "(II)I"⟩
def dkwX10_word_3 : List UInt8 := [132, 4, 1, 167, 255, 218, 29, 172]
abbrev dktX10_word_3 : List UInt8 := dkwX10_word_3 ++ []
def dkwX10_word_2 : List UInt8 := [120, 21, 4, 42, 27, 182, 0, 199, 162, 0, 13, 42, 27, 21, 4, 182, 0, 212, 167, 0, 4, 3, 128, 62]
abbrev dktX10_word_2 : List UInt8 := dkwX10_word_2 ++ dktX10_word_3
def dkwX10_word_1 : List UInt8 := [154, 0, 8, 42, 182, 0, 231, 172, 3, 62, 28, 54, 4, 21, 4, 28, 16, 32, 96, 162, 0, 35, 29, 4]
abbrev dktX10_word_1 : List UInt8 := dkwX10_word_1 ++ dktX10_word_2
def dkwX10_word_0 : List UInt8 := [42, 3, 181, 0, 1, 42, 27, 182, 0, 215, 153, 0, 16, 28, 3, 42, 27, 182, 0, 199, 184, 0, 75]
abbrev dktX10_word_0 : List UInt8 := dkwX10_word_0 ++ dktX10_word_1
theorem dksX10_word_0 : cX10_word.data.toList.drop 0 = dktX10_word_0 := by decide +kernel
theorem dksX10_word_1 : cX10_word.data.toList.drop 23 = dktX10_word_1 := dk_seg dksX10_word_0 23 rfl rfl
theorem dksX10_word_2 : cX10_word.data.toList.drop 47 = dktX10_word_2 := dk_seg dksX10_word_1 24 rfl rfl
theorem dksX10_word_3 : cX10_word.data.toList.drop 71 = dktX10_word_3 := dk_seg dksX10_word_2 24 rfl rfl
theorem dX10_word_0 : decode cX10_word 0 = .ok (.aload_n 0, 1) := dk_42 (dk_at dksX10_word_0 0 rfl rfl)
theorem dX10_word_1 : decode cX10_word 1 = .ok (.iconst 0, 1) := dk_3 (dk_at dksX10_word_0 1 rfl rfl)
theorem dX10_word_2 : decode cX10_word 2 = .ok (.putfield 1, 3) := dk_181 0 1 (dk_at dksX10_word_0 2 rfl rfl)
theorem dX10_word_5 : decode cX10_word 5 = .ok (.aload_n 0, 1) := dk_42 (dk_at dksX10_word_0 5 rfl rfl)
theorem dX10_word_6 : decode cX10_word 6 = .ok (.iload_n 1, 1) := dk_27 (dk_at dksX10_word_0 6 rfl rfl)
theorem dX10_word_7 : decode cX10_word 7 = .ok (.invokevirtual 215, 3) := dk_182 0 215 (dk_at dksX10_word_0 7 rfl rfl)
theorem dX10_word_10 : decode cX10_word 10 = .ok (.ifCond .eq 16, 3) := dk_153 0 16 (dk_at dksX10_word_0 10 rfl rfl)
theorem dX10_word_13 : decode cX10_word 13 = .ok (.iload_n 2, 1) := dk_28 (dk_at dksX10_word_0 13 rfl rfl)
theorem dX10_word_14 : decode cX10_word 14 = .ok (.iconst 0, 1) := dk_3 (dk_at dksX10_word_0 14 rfl rfl)
theorem dX10_word_15 : decode cX10_word 15 = .ok (.aload_n 0, 1) := dk_42 (dk_at dksX10_word_0 15 rfl rfl)
theorem dX10_word_16 : decode cX10_word 16 = .ok (.iload_n 1, 1) := dk_27 (dk_at dksX10_word_0 16 rfl rfl)
theorem dX10_word_17 : decode cX10_word 17 = .ok (.invokevirtual 199, 3) := dk_182 0 199 (dk_at dksX10_word_0 17 rfl rfl)
theorem dX10_word_20 : decode cX10_word 20 = .ok (.invokestatic 75, 3) := dk_184 0 75 (dk_at dksX10_word_0 20 rfl rfl)
theorem dX10_word_23 : decode cX10_word 23 = .ok (.ifCond .ne 8, 3) := dk_154 0 8 (dk_at dksX10_word_1 0 rfl rfl)
theorem dX10_word_26 : decode cX10_word 26 = .ok (.aload_n 0, 1) := dk_42 (dk_at dksX10_word_1 3 rfl rfl)
theorem dX10_word_27 : decode cX10_word 27 = .ok (.invokevirtual 231, 3) := dk_182 0 231 (dk_at dksX10_word_1 4 rfl rfl)
theorem dX10_word_30 : decode cX10_word 30 = .ok (.ireturn, 1) := dk_172 (dk_at dksX10_word_1 7 rfl rfl)
theorem dX10_word_31 : decode cX10_word 31 = .ok (.iconst 0, 1) := dk_3 (dk_at dksX10_word_1 8 rfl rfl)
theorem dX10_word_32 : decode cX10_word 32 = .ok (.istore_n 3, 1) := dk_62 (dk_at dksX10_word_1 9 rfl rfl)
theorem dX10_word_33 : decode cX10_word 33 = .ok (.iload_n 2, 1) := dk_28 (dk_at dksX10_word_1 10 rfl rfl)
theorem dX10_word_34 : decode cX10_word 34 = .ok (.istore 4, 2) := dk_54 4 (dk_at dksX10_word_1 11 rfl rfl)
theorem dX10_word_36 : decode cX10_word 36 = .ok (.iload 4, 2) := dk_21 4 (dk_at dksX10_word_1 13 rfl rfl)
theorem dX10_word_38 : decode cX10_word 38 = .ok (.iload_n 2, 1) := dk_28 (dk_at dksX10_word_1 15 rfl rfl)
theorem dX10_word_39 : decode cX10_word 39 = .ok (.bipush 32, 2) := dk_16 32 (dk_at dksX10_word_1 16 rfl rfl)
theorem dX10_word_41 : decode cX10_word 41 = .ok (.iadd, 1) := dk_96 (dk_at dksX10_word_1 18 rfl rfl)
theorem dX10_word_42 : decode cX10_word 42 = .ok (.if_icmp .ge 35, 3) := dk_162 0 35 (dk_at dksX10_word_1 19 rfl rfl)
theorem dX10_word_45 : decode cX10_word 45 = .ok (.iload_n 3, 1) := dk_29 (dk_at dksX10_word_1 22 rfl rfl)
theorem dX10_word_46 : decode cX10_word 46 = .ok (.iconst 1, 1) := dk_4 (dk_at dksX10_word_1 23 rfl rfl)
theorem dX10_word_47 : decode cX10_word 47 = .ok (.ishl, 1) := dk_120 (dk_at dksX10_word_2 0 rfl rfl)
theorem dX10_word_48 : decode cX10_word 48 = .ok (.iload 4, 2) := dk_21 4 (dk_at dksX10_word_2 1 rfl rfl)
theorem dX10_word_50 : decode cX10_word 50 = .ok (.aload_n 0, 1) := dk_42 (dk_at dksX10_word_2 3 rfl rfl)
theorem dX10_word_51 : decode cX10_word 51 = .ok (.iload_n 1, 1) := dk_27 (dk_at dksX10_word_2 4 rfl rfl)
theorem dX10_word_52 : decode cX10_word 52 = .ok (.invokevirtual 199, 3) := dk_182 0 199 (dk_at dksX10_word_2 5 rfl rfl)
theorem dX10_word_55 : decode cX10_word 55 = .ok (.if_icmp .ge 13, 3) := dk_162 0 13 (dk_at dksX10_word_2 8 rfl rfl)
theorem dX10_word_58 : decode cX10_word 58 = .ok (.aload_n 0, 1) := dk_42 (dk_at dksX10_word_2 11 rfl rfl)
theorem dX10_word_59 : decode cX10_word 59 = .ok (.iload_n 1, 1) := dk_27 (dk_at dksX10_word_2 12 rfl rfl)
theorem dX10_word_60 : decode cX10_word 60 = .ok (.iload 4, 2) := dk_21 4 (dk_at dksX10_word_2 13 rfl rfl)
theorem dX10_word_62 : decode cX10_word 62 = .ok (.invokevirtual 212, 3) := dk_182 0 212 (dk_at dksX10_word_2 15 rfl rfl)
theorem dX10_word_65 : decode cX10_word 65 = .ok (.goto 4, 3) := dk_167 0 4 (dk_at dksX10_word_2 18 rfl rfl)
theorem dX10_word_68 : decode cX10_word 68 = .ok (.iconst 0, 1) := dk_3 (dk_at dksX10_word_2 21 rfl rfl)
theorem dX10_word_69 : decode cX10_word 69 = .ok (.ior, 1) := dk_128 (dk_at dksX10_word_2 22 rfl rfl)
theorem dX10_word_70 : decode cX10_word 70 = .ok (.istore_n 3, 1) := dk_62 (dk_at dksX10_word_2 23 rfl rfl)
theorem dX10_word_71 : decode cX10_word 71 = .ok (.iinc 4 1, 3) := dk_132 4 1 (dk_at dksX10_word_3 0 rfl rfl)
theorem dX10_word_74 : decode cX10_word 74 = .ok (.goto (-38), 3) := dk_167 255 218 (dk_at dksX10_word_3 3 rfl rfl)
theorem dX10_word_77 : decode cX10_word 77 = .ok (.iload_n 3, 1) := dk_29 (dk_at dksX10_word_3 6 rfl rfl)
theorem dX10_word_78 : decode cX10_word 78 = .ok (.ireturn, 1) := dk_172 (dk_at dksX10_word_3 7 rfl rfl)
abbrev cX10_refuse : ByteArray := prog_23_method_2_code
def yX10_refuse : MethodName := ⟨RX10, "refuse", "()I"⟩
def dkwX10_refuse_0 : List UInt8 := [42, 4, 181, 0, 1, 3, 172]
abbrev dktX10_refuse_0 : List UInt8 := dkwX10_refuse_0 ++ []
theorem dksX10_refuse_0 : cX10_refuse.data.toList.drop 0 = dktX10_refuse_0 := by decide +kernel
theorem dX10_refuse_0 : decode cX10_refuse 0 = .ok (.aload_n 0, 1) := dk_42 (dk_at dksX10_refuse_0 0 rfl rfl)
theorem dX10_refuse_1 : decode cX10_refuse 1 = .ok (.iconst 1, 1) := dk_4 (dk_at dksX10_refuse_0 1 rfl rfl)
theorem dX10_refuse_2 : decode cX10_refuse 2 = .ok (.putfield 1, 3) := dk_181 0 1 (dk_at dksX10_refuse_0 2 rfl rfl)
theorem dX10_refuse_5 : decode cX10_refuse 5 = .ok (.iconst 0, 1) := dk_3 (dk_at dksX10_refuse_0 5 rfl rfl)
theorem dX10_refuse_6 : decode cX10_refuse 6 = .ok (.ireturn, 1) := dk_172 (dk_at dksX10_refuse_0 6 rfl rfl)
abbrev cX10_leaves : ByteArray := prog_23_method_54_code
def yX10_leaves : MethodName := ⟨RX10, "leaves", "(I)I"⟩
def dkwX10_leaves_1 : List UInt8 := [167, 0, 4, 2, 172]
abbrev dktX10_leaves_1 : List UInt8 := dkwX10_leaves_1 ++ []
def dkwX10_leaves_0 : List UInt8 := [42, 3, 181, 0, 1, 42, 27, 182, 0, 215, 153, 0, 16, 42, 180, 0, 98, 17, 10, 51, 27, 96, 46]
abbrev dktX10_leaves_0 : List UInt8 := dkwX10_leaves_0 ++ dktX10_leaves_1
theorem dksX10_leaves_0 : cX10_leaves.data.toList.drop 0 = dktX10_leaves_0 := by decide +kernel
theorem dksX10_leaves_1 : cX10_leaves.data.toList.drop 23 = dktX10_leaves_1 := dk_seg dksX10_leaves_0 23 rfl rfl
theorem dX10_leaves_0 : decode cX10_leaves 0 = .ok (.aload_n 0, 1) := dk_42 (dk_at dksX10_leaves_0 0 rfl rfl)
theorem dX10_leaves_1 : decode cX10_leaves 1 = .ok (.iconst 0, 1) := dk_3 (dk_at dksX10_leaves_0 1 rfl rfl)
theorem dX10_leaves_2 : decode cX10_leaves 2 = .ok (.putfield 1, 3) := dk_181 0 1 (dk_at dksX10_leaves_0 2 rfl rfl)
theorem dX10_leaves_5 : decode cX10_leaves 5 = .ok (.aload_n 0, 1) := dk_42 (dk_at dksX10_leaves_0 5 rfl rfl)
theorem dX10_leaves_6 : decode cX10_leaves 6 = .ok (.iload_n 1, 1) := dk_27 (dk_at dksX10_leaves_0 6 rfl rfl)
theorem dX10_leaves_7 : decode cX10_leaves 7 = .ok (.invokevirtual 215, 3) := dk_182 0 215 (dk_at dksX10_leaves_0 7 rfl rfl)
theorem dX10_leaves_10 : decode cX10_leaves 10 = .ok (.ifCond .eq 16, 3) := dk_153 0 16 (dk_at dksX10_leaves_0 10 rfl rfl)
theorem dX10_leaves_13 : decode cX10_leaves 13 = .ok (.aload_n 0, 1) := dk_42 (dk_at dksX10_leaves_0 13 rfl rfl)
theorem dX10_leaves_14 : decode cX10_leaves 14 = .ok (.getfield 98, 3) := dk_180 0 98 (dk_at dksX10_leaves_0 14 rfl rfl)
theorem dX10_leaves_17 : decode cX10_leaves 17 = .ok (.sipush 2611, 3) := dk_17 10 51 (dk_at dksX10_leaves_0 17 rfl rfl)
theorem dX10_leaves_20 : decode cX10_leaves 20 = .ok (.iload_n 1, 1) := dk_27 (dk_at dksX10_leaves_0 20 rfl rfl)
theorem dX10_leaves_21 : decode cX10_leaves 21 = .ok (.iadd, 1) := dk_96 (dk_at dksX10_leaves_0 21 rfl rfl)
theorem dX10_leaves_22 : decode cX10_leaves 22 = .ok (.iaload, 1) := dk_46 (dk_at dksX10_leaves_0 22 rfl rfl)
theorem dX10_leaves_23 : decode cX10_leaves 23 = .ok (.goto 4, 3) := dk_167 0 4 (dk_at dksX10_leaves_1 0 rfl rfl)
theorem dX10_leaves_26 : decode cX10_leaves 26 = .ok (.iconst (-1), 1) := dk_2 (dk_at dksX10_leaves_1 3 rfl rfl)
theorem dX10_leaves_27 : decode cX10_leaves 27 = .ok (.ireturn, 1) := dk_172 (dk_at dksX10_leaves_1 4 rfl rfl)
abbrev cX10_leaf : ByteArray := prog_23_method_55_code
def yX10_leaf : MethodName := ⟨RX10, "leaf", "(III)I"⟩
def dkwX10_leaf_5 : List UInt8 := [21, 5, 172, 42, 27, 21, 4, 21, 4, 21, 5, 96, 182, 0, 224, 172, 21, 4, 172, 2, 172]
abbrev dktX10_leaf_5 : List UInt8 := dkwX10_leaf_5 ++ []
def dkwX10_leaf_4 : List UInt8 := [170, 0, 0, 0, 0, 0, 0, 47, 0, 0, 0, 0, 0, 0, 0, 2, 0, 0, 0, 28, 0, 0, 0, 31, 0, 0, 0, 44]
abbrev dktX10_leaf_4 : List UInt8 := dkwX10_leaf_4 ++ dktX10_leaf_5
def dkwX10_leaf_3 : List UInt8 := [180, 0, 98, 42, 27, 28, 182, 0, 195, 46, 54, 5, 29]
abbrev dktX10_leaf_3 : List UInt8 := dkwX10_leaf_3 ++ dktX10_leaf_4
def dkwX10_leaf_2 : List UInt8 := [21, 4, 42, 180, 0, 98, 42, 27, 21, 5, 182, 0, 195, 46, 96, 54, 4, 132, 5, 1, 167, 255, 230, 42]
abbrev dktX10_leaf_2 : List UInt8 := dkwX10_leaf_2 ++ dktX10_leaf_3
def dkwX10_leaf_1 : List UInt8 := [46, 4, 100, 184, 0, 75, 154, 0, 5, 2, 172, 3, 54, 4, 3, 54, 5, 21, 5, 28, 162, 0, 26]
abbrev dktX10_leaf_1 : List UInt8 := dkwX10_leaf_1 ++ dktX10_leaf_2
def dkwX10_leaf_0 : List UInt8 := [42, 3, 181, 0, 1, 42, 27, 182, 0, 215, 153, 0, 23, 28, 3, 42, 180, 0, 98, 17, 10, 51, 27, 96]
abbrev dktX10_leaf_0 : List UInt8 := dkwX10_leaf_0 ++ dktX10_leaf_1
theorem dksX10_leaf_0 : cX10_leaf.data.toList.drop 0 = dktX10_leaf_0 := by decide +kernel
theorem dksX10_leaf_1 : cX10_leaf.data.toList.drop 24 = dktX10_leaf_1 := dk_seg dksX10_leaf_0 24 rfl rfl
theorem dksX10_leaf_2 : cX10_leaf.data.toList.drop 47 = dktX10_leaf_2 := dk_seg dksX10_leaf_1 23 rfl rfl
theorem dksX10_leaf_3 : cX10_leaf.data.toList.drop 71 = dktX10_leaf_3 := dk_seg dksX10_leaf_2 24 rfl rfl
theorem dksX10_leaf_4 : cX10_leaf.data.toList.drop 84 = dktX10_leaf_4 := dk_seg dksX10_leaf_3 13 rfl rfl
theorem dksX10_leaf_5 : cX10_leaf.data.toList.drop 112 = dktX10_leaf_5 := dk_seg dksX10_leaf_4 28 rfl rfl
theorem dX10_leaf_0 : decode cX10_leaf 0 = .ok (.aload_n 0, 1) := dk_42 (dk_at dksX10_leaf_0 0 rfl rfl)
theorem dX10_leaf_1 : decode cX10_leaf 1 = .ok (.iconst 0, 1) := dk_3 (dk_at dksX10_leaf_0 1 rfl rfl)
theorem dX10_leaf_2 : decode cX10_leaf 2 = .ok (.putfield 1, 3) := dk_181 0 1 (dk_at dksX10_leaf_0 2 rfl rfl)
theorem dX10_leaf_5 : decode cX10_leaf 5 = .ok (.aload_n 0, 1) := dk_42 (dk_at dksX10_leaf_0 5 rfl rfl)
theorem dX10_leaf_6 : decode cX10_leaf 6 = .ok (.iload_n 1, 1) := dk_27 (dk_at dksX10_leaf_0 6 rfl rfl)
theorem dX10_leaf_7 : decode cX10_leaf 7 = .ok (.invokevirtual 215, 3) := dk_182 0 215 (dk_at dksX10_leaf_0 7 rfl rfl)
theorem dX10_leaf_10 : decode cX10_leaf 10 = .ok (.ifCond .eq 23, 3) := dk_153 0 23 (dk_at dksX10_leaf_0 10 rfl rfl)
theorem dX10_leaf_13 : decode cX10_leaf 13 = .ok (.iload_n 2, 1) := dk_28 (dk_at dksX10_leaf_0 13 rfl rfl)
theorem dX10_leaf_14 : decode cX10_leaf 14 = .ok (.iconst 0, 1) := dk_3 (dk_at dksX10_leaf_0 14 rfl rfl)
theorem dX10_leaf_15 : decode cX10_leaf 15 = .ok (.aload_n 0, 1) := dk_42 (dk_at dksX10_leaf_0 15 rfl rfl)
theorem dX10_leaf_16 : decode cX10_leaf 16 = .ok (.getfield 98, 3) := dk_180 0 98 (dk_at dksX10_leaf_0 16 rfl rfl)
theorem dX10_leaf_19 : decode cX10_leaf 19 = .ok (.sipush 2611, 3) := dk_17 10 51 (dk_at dksX10_leaf_0 19 rfl rfl)
theorem dX10_leaf_22 : decode cX10_leaf 22 = .ok (.iload_n 1, 1) := dk_27 (dk_at dksX10_leaf_0 22 rfl rfl)
theorem dX10_leaf_23 : decode cX10_leaf 23 = .ok (.iadd, 1) := dk_96 (dk_at dksX10_leaf_0 23 rfl rfl)
theorem dX10_leaf_24 : decode cX10_leaf 24 = .ok (.iaload, 1) := dk_46 (dk_at dksX10_leaf_1 0 rfl rfl)
theorem dX10_leaf_25 : decode cX10_leaf 25 = .ok (.iconst 1, 1) := dk_4 (dk_at dksX10_leaf_1 1 rfl rfl)
theorem dX10_leaf_26 : decode cX10_leaf 26 = .ok (.isub, 1) := dk_100 (dk_at dksX10_leaf_1 2 rfl rfl)
theorem dX10_leaf_27 : decode cX10_leaf 27 = .ok (.invokestatic 75, 3) := dk_184 0 75 (dk_at dksX10_leaf_1 3 rfl rfl)
theorem dX10_leaf_30 : decode cX10_leaf 30 = .ok (.ifCond .ne 5, 3) := dk_154 0 5 (dk_at dksX10_leaf_1 6 rfl rfl)
theorem dX10_leaf_33 : decode cX10_leaf 33 = .ok (.iconst (-1), 1) := dk_2 (dk_at dksX10_leaf_1 9 rfl rfl)
theorem dX10_leaf_34 : decode cX10_leaf 34 = .ok (.ireturn, 1) := dk_172 (dk_at dksX10_leaf_1 10 rfl rfl)
theorem dX10_leaf_35 : decode cX10_leaf 35 = .ok (.iconst 0, 1) := dk_3 (dk_at dksX10_leaf_1 11 rfl rfl)
theorem dX10_leaf_36 : decode cX10_leaf 36 = .ok (.istore 4, 2) := dk_54 4 (dk_at dksX10_leaf_1 12 rfl rfl)
theorem dX10_leaf_38 : decode cX10_leaf 38 = .ok (.iconst 0, 1) := dk_3 (dk_at dksX10_leaf_1 14 rfl rfl)
theorem dX10_leaf_39 : decode cX10_leaf 39 = .ok (.istore 5, 2) := dk_54 5 (dk_at dksX10_leaf_1 15 rfl rfl)
theorem dX10_leaf_41 : decode cX10_leaf 41 = .ok (.iload 5, 2) := dk_21 5 (dk_at dksX10_leaf_1 17 rfl rfl)
theorem dX10_leaf_43 : decode cX10_leaf 43 = .ok (.iload_n 2, 1) := dk_28 (dk_at dksX10_leaf_1 19 rfl rfl)
theorem dX10_leaf_44 : decode cX10_leaf 44 = .ok (.if_icmp .ge 26, 3) := dk_162 0 26 (dk_at dksX10_leaf_1 20 rfl rfl)
theorem dX10_leaf_47 : decode cX10_leaf 47 = .ok (.iload 4, 2) := dk_21 4 (dk_at dksX10_leaf_2 0 rfl rfl)
theorem dX10_leaf_49 : decode cX10_leaf 49 = .ok (.aload_n 0, 1) := dk_42 (dk_at dksX10_leaf_2 2 rfl rfl)
theorem dX10_leaf_50 : decode cX10_leaf 50 = .ok (.getfield 98, 3) := dk_180 0 98 (dk_at dksX10_leaf_2 3 rfl rfl)
theorem dX10_leaf_53 : decode cX10_leaf 53 = .ok (.aload_n 0, 1) := dk_42 (dk_at dksX10_leaf_2 6 rfl rfl)
theorem dX10_leaf_54 : decode cX10_leaf 54 = .ok (.iload_n 1, 1) := dk_27 (dk_at dksX10_leaf_2 7 rfl rfl)
theorem dX10_leaf_55 : decode cX10_leaf 55 = .ok (.iload 5, 2) := dk_21 5 (dk_at dksX10_leaf_2 8 rfl rfl)
theorem dX10_leaf_57 : decode cX10_leaf 57 = .ok (.invokevirtual 195, 3) := dk_182 0 195 (dk_at dksX10_leaf_2 10 rfl rfl)
theorem dX10_leaf_60 : decode cX10_leaf 60 = .ok (.iaload, 1) := dk_46 (dk_at dksX10_leaf_2 13 rfl rfl)
theorem dX10_leaf_61 : decode cX10_leaf 61 = .ok (.iadd, 1) := dk_96 (dk_at dksX10_leaf_2 14 rfl rfl)
theorem dX10_leaf_62 : decode cX10_leaf 62 = .ok (.istore 4, 2) := dk_54 4 (dk_at dksX10_leaf_2 15 rfl rfl)
theorem dX10_leaf_64 : decode cX10_leaf 64 = .ok (.iinc 5 1, 3) := dk_132 5 1 (dk_at dksX10_leaf_2 17 rfl rfl)
theorem dX10_leaf_67 : decode cX10_leaf 67 = .ok (.goto (-26), 3) := dk_167 255 230 (dk_at dksX10_leaf_2 20 rfl rfl)
theorem dX10_leaf_70 : decode cX10_leaf 70 = .ok (.aload_n 0, 1) := dk_42 (dk_at dksX10_leaf_2 23 rfl rfl)
theorem dX10_leaf_71 : decode cX10_leaf 71 = .ok (.getfield 98, 3) := dk_180 0 98 (dk_at dksX10_leaf_3 0 rfl rfl)
theorem dX10_leaf_74 : decode cX10_leaf 74 = .ok (.aload_n 0, 1) := dk_42 (dk_at dksX10_leaf_3 3 rfl rfl)
theorem dX10_leaf_75 : decode cX10_leaf 75 = .ok (.iload_n 1, 1) := dk_27 (dk_at dksX10_leaf_3 4 rfl rfl)
theorem dX10_leaf_76 : decode cX10_leaf 76 = .ok (.iload_n 2, 1) := dk_28 (dk_at dksX10_leaf_3 5 rfl rfl)
theorem dX10_leaf_77 : decode cX10_leaf 77 = .ok (.invokevirtual 195, 3) := dk_182 0 195 (dk_at dksX10_leaf_3 6 rfl rfl)
theorem dX10_leaf_80 : decode cX10_leaf 80 = .ok (.iaload, 1) := dk_46 (dk_at dksX10_leaf_3 9 rfl rfl)
theorem dX10_leaf_81 : decode cX10_leaf 81 = .ok (.istore 5, 2) := dk_54 5 (dk_at dksX10_leaf_3 10 rfl rfl)
theorem dX10_leaf_83 : decode cX10_leaf 83 = .ok (.iload_n 3, 1) := dk_29 (dk_at dksX10_leaf_3 12 rfl rfl)
theorem dX10_leaf_84 : decode cX10_leaf 84 = .ok (.tableswitch 47 0 2 #[28, 31, 44], 28) := by decide +kernel
theorem dX10_leaf_112 : decode cX10_leaf 112 = .ok (.iload 5, 2) := dk_21 5 (dk_at dksX10_leaf_5 0 rfl rfl)
theorem dX10_leaf_114 : decode cX10_leaf 114 = .ok (.ireturn, 1) := dk_172 (dk_at dksX10_leaf_5 2 rfl rfl)
theorem dX10_leaf_115 : decode cX10_leaf 115 = .ok (.aload_n 0, 1) := dk_42 (dk_at dksX10_leaf_5 3 rfl rfl)
theorem dX10_leaf_116 : decode cX10_leaf 116 = .ok (.iload_n 1, 1) := dk_27 (dk_at dksX10_leaf_5 4 rfl rfl)
theorem dX10_leaf_117 : decode cX10_leaf 117 = .ok (.iload 4, 2) := dk_21 4 (dk_at dksX10_leaf_5 5 rfl rfl)
theorem dX10_leaf_119 : decode cX10_leaf 119 = .ok (.iload 4, 2) := dk_21 4 (dk_at dksX10_leaf_5 7 rfl rfl)
theorem dX10_leaf_121 : decode cX10_leaf 121 = .ok (.iload 5, 2) := dk_21 5 (dk_at dksX10_leaf_5 9 rfl rfl)
theorem dX10_leaf_123 : decode cX10_leaf 123 = .ok (.iadd, 1) := dk_96 (dk_at dksX10_leaf_5 11 rfl rfl)
theorem dX10_leaf_124 : decode cX10_leaf 124 = .ok (.invokevirtual 224, 3) := dk_182 0 224 (dk_at dksX10_leaf_5 12 rfl rfl)
theorem dX10_leaf_127 : decode cX10_leaf 127 = .ok (.ireturn, 1) := dk_172 (dk_at dksX10_leaf_5 15 rfl rfl)
theorem dX10_leaf_128 : decode cX10_leaf 128 = .ok (.iload 4, 2) := dk_21 4 (dk_at dksX10_leaf_5 16 rfl rfl)
theorem dX10_leaf_130 : decode cX10_leaf 130 = .ok (.ireturn, 1) := dk_172 (dk_at dksX10_leaf_5 18 rfl rfl)
theorem dX10_leaf_131 : decode cX10_leaf 131 = .ok (.iconst (-1), 1) := dk_2 (dk_at dksX10_leaf_5 19 rfl rfl)
theorem dX10_leaf_132 : decode cX10_leaf 132 = .ok (.ireturn, 1) := dk_172 (dk_at dksX10_leaf_5 20 rfl rfl)
abbrev cX10_tree : ByteArray := prog_23_method_60_code
def yX10_tree : MethodName := ⟨RX10, "tree", "(II)I"⟩
def dkwX10_tree_3 : List UInt8 := [29, 184, 0, 234, 172, 29, 184, 0, 240, 172, 29, 184, 0, 237, 172, 42, 27, 182, 0, 243, 172, 2, 172]
abbrev dktX10_tree_3 : List UInt8 := dkwX10_tree_3 ++ []
def dkwX10_tree_2 : List UInt8 := [170, 0, 0, 0, 50, 0, 0, 0, 0, 0, 0, 0, 3, 0, 0, 0, 29, 0, 0, 0, 34, 0, 0, 0, 39, 0, 0, 0, 44]
abbrev dktX10_tree_2 : List UInt8 := dkwX10_tree_2 ++ dktX10_tree_3
def dkwX10_tree_1 : List UInt8 := [46, 62, 28]
abbrev dktX10_tree_1 : List UInt8 := dkwX10_tree_1 ++ dktX10_tree_2
def dkwX10_tree_0 : List UInt8 := [42, 3, 181, 0, 1, 42, 27, 182, 0, 215, 154, 0, 5, 2, 172, 42, 180, 0, 98, 17, 10, 51, 27, 96]
abbrev dktX10_tree_0 : List UInt8 := dkwX10_tree_0 ++ dktX10_tree_1
theorem dksX10_tree_0 : cX10_tree.data.toList.drop 0 = dktX10_tree_0 := by decide +kernel
theorem dksX10_tree_1 : cX10_tree.data.toList.drop 24 = dktX10_tree_1 := dk_seg dksX10_tree_0 24 rfl rfl
theorem dksX10_tree_2 : cX10_tree.data.toList.drop 27 = dktX10_tree_2 := dk_seg dksX10_tree_1 3 rfl rfl
theorem dksX10_tree_3 : cX10_tree.data.toList.drop 56 = dktX10_tree_3 := dk_seg dksX10_tree_2 29 rfl rfl
theorem dX10_tree_0 : decode cX10_tree 0 = .ok (.aload_n 0, 1) := dk_42 (dk_at dksX10_tree_0 0 rfl rfl)
theorem dX10_tree_1 : decode cX10_tree 1 = .ok (.iconst 0, 1) := dk_3 (dk_at dksX10_tree_0 1 rfl rfl)
theorem dX10_tree_2 : decode cX10_tree 2 = .ok (.putfield 1, 3) := dk_181 0 1 (dk_at dksX10_tree_0 2 rfl rfl)
theorem dX10_tree_5 : decode cX10_tree 5 = .ok (.aload_n 0, 1) := dk_42 (dk_at dksX10_tree_0 5 rfl rfl)
theorem dX10_tree_6 : decode cX10_tree 6 = .ok (.iload_n 1, 1) := dk_27 (dk_at dksX10_tree_0 6 rfl rfl)
theorem dX10_tree_7 : decode cX10_tree 7 = .ok (.invokevirtual 215, 3) := dk_182 0 215 (dk_at dksX10_tree_0 7 rfl rfl)
theorem dX10_tree_10 : decode cX10_tree 10 = .ok (.ifCond .ne 5, 3) := dk_154 0 5 (dk_at dksX10_tree_0 10 rfl rfl)
theorem dX10_tree_13 : decode cX10_tree 13 = .ok (.iconst (-1), 1) := dk_2 (dk_at dksX10_tree_0 13 rfl rfl)
theorem dX10_tree_14 : decode cX10_tree 14 = .ok (.ireturn, 1) := dk_172 (dk_at dksX10_tree_0 14 rfl rfl)
theorem dX10_tree_15 : decode cX10_tree 15 = .ok (.aload_n 0, 1) := dk_42 (dk_at dksX10_tree_0 15 rfl rfl)
theorem dX10_tree_16 : decode cX10_tree 16 = .ok (.getfield 98, 3) := dk_180 0 98 (dk_at dksX10_tree_0 16 rfl rfl)
theorem dX10_tree_19 : decode cX10_tree 19 = .ok (.sipush 2611, 3) := dk_17 10 51 (dk_at dksX10_tree_0 19 rfl rfl)
theorem dX10_tree_22 : decode cX10_tree 22 = .ok (.iload_n 1, 1) := dk_27 (dk_at dksX10_tree_0 22 rfl rfl)
theorem dX10_tree_23 : decode cX10_tree 23 = .ok (.iadd, 1) := dk_96 (dk_at dksX10_tree_0 23 rfl rfl)
theorem dX10_tree_24 : decode cX10_tree 24 = .ok (.iaload, 1) := dk_46 (dk_at dksX10_tree_1 0 rfl rfl)
theorem dX10_tree_25 : decode cX10_tree 25 = .ok (.istore_n 3, 1) := dk_62 (dk_at dksX10_tree_1 1 rfl rfl)
theorem dX10_tree_26 : decode cX10_tree 26 = .ok (.iload_n 2, 1) := dk_28 (dk_at dksX10_tree_1 2 rfl rfl)
theorem dX10_tree_27 : decode cX10_tree 27 = .ok (.tableswitch 50 0 3 #[29, 34, 39, 44], 29) := by decide +kernel
theorem dX10_tree_56 : decode cX10_tree 56 = .ok (.iload_n 3, 1) := dk_29 (dk_at dksX10_tree_3 0 rfl rfl)
theorem dX10_tree_57 : decode cX10_tree 57 = .ok (.invokestatic 234, 3) := dk_184 0 234 (dk_at dksX10_tree_3 1 rfl rfl)
theorem dX10_tree_60 : decode cX10_tree 60 = .ok (.ireturn, 1) := dk_172 (dk_at dksX10_tree_3 4 rfl rfl)
theorem dX10_tree_61 : decode cX10_tree 61 = .ok (.iload_n 3, 1) := dk_29 (dk_at dksX10_tree_3 5 rfl rfl)
theorem dX10_tree_62 : decode cX10_tree 62 = .ok (.invokestatic 240, 3) := dk_184 0 240 (dk_at dksX10_tree_3 6 rfl rfl)
theorem dX10_tree_65 : decode cX10_tree 65 = .ok (.ireturn, 1) := dk_172 (dk_at dksX10_tree_3 9 rfl rfl)
theorem dX10_tree_66 : decode cX10_tree 66 = .ok (.iload_n 3, 1) := dk_29 (dk_at dksX10_tree_3 10 rfl rfl)
theorem dX10_tree_67 : decode cX10_tree 67 = .ok (.invokestatic 237, 3) := dk_184 0 237 (dk_at dksX10_tree_3 11 rfl rfl)
theorem dX10_tree_70 : decode cX10_tree 70 = .ok (.ireturn, 1) := dk_172 (dk_at dksX10_tree_3 14 rfl rfl)
theorem dX10_tree_71 : decode cX10_tree 71 = .ok (.aload_n 0, 1) := dk_42 (dk_at dksX10_tree_3 15 rfl rfl)
theorem dX10_tree_72 : decode cX10_tree 72 = .ok (.iload_n 1, 1) := dk_27 (dk_at dksX10_tree_3 16 rfl rfl)
theorem dX10_tree_73 : decode cX10_tree 73 = .ok (.invokevirtual 243, 3) := dk_182 0 243 (dk_at dksX10_tree_3 17 rfl rfl)
theorem dX10_tree_76 : decode cX10_tree 76 = .ok (.ireturn, 1) := dk_172 (dk_at dksX10_tree_3 20 rfl rfl)
theorem dX10_tree_77 : decode cX10_tree 77 = .ok (.iconst (-1), 1) := dk_2 (dk_at dksX10_tree_3 21 rfl rfl)
theorem dX10_tree_78 : decode cX10_tree 78 = .ok (.ireturn, 1) := dk_172 (dk_at dksX10_tree_3 22 rfl rfl)
abbrev cX10_highOf : ByteArray := prog_23_method_56_code
def yX10_highOf : MethodName := ⟨RX10, "highOf", "(I)I"⟩
def dkwX10_highOf_0 : List UInt8 := [26, 5, 162, 0, 7, 3, 167, 0, 13, 4, 26, 4, 96, 5, 108, 184, 0, 234, 96, 172]
abbrev dktX10_highOf_0 : List UInt8 := dkwX10_highOf_0 ++ []
theorem dksX10_highOf_0 : cX10_highOf.data.toList.drop 0 = dktX10_highOf_0 := by decide +kernel
theorem dX10_highOf_0 : decode cX10_highOf 0 = .ok (.iload_n 0, 1) := dk_26 (dk_at dksX10_highOf_0 0 rfl rfl)
theorem dX10_highOf_1 : decode cX10_highOf 1 = .ok (.iconst 2, 1) := dk_5 (dk_at dksX10_highOf_0 1 rfl rfl)
theorem dX10_highOf_2 : decode cX10_highOf 2 = .ok (.if_icmp .ge 7, 3) := dk_162 0 7 (dk_at dksX10_highOf_0 2 rfl rfl)
theorem dX10_highOf_5 : decode cX10_highOf 5 = .ok (.iconst 0, 1) := dk_3 (dk_at dksX10_highOf_0 5 rfl rfl)
theorem dX10_highOf_6 : decode cX10_highOf 6 = .ok (.goto 13, 3) := dk_167 0 13 (dk_at dksX10_highOf_0 6 rfl rfl)
theorem dX10_highOf_9 : decode cX10_highOf 9 = .ok (.iconst 1, 1) := dk_4 (dk_at dksX10_highOf_0 9 rfl rfl)
theorem dX10_highOf_10 : decode cX10_highOf 10 = .ok (.iload_n 0, 1) := dk_26 (dk_at dksX10_highOf_0 10 rfl rfl)
theorem dX10_highOf_11 : decode cX10_highOf 11 = .ok (.iconst 1, 1) := dk_4 (dk_at dksX10_highOf_0 11 rfl rfl)
theorem dX10_highOf_12 : decode cX10_highOf 12 = .ok (.iadd, 1) := dk_96 (dk_at dksX10_highOf_0 12 rfl rfl)
theorem dX10_highOf_13 : decode cX10_highOf 13 = .ok (.iconst 2, 1) := dk_5 (dk_at dksX10_highOf_0 13 rfl rfl)
theorem dX10_highOf_14 : decode cX10_highOf 14 = .ok (.idiv, 1) := dk_108 (dk_at dksX10_highOf_0 14 rfl rfl)
theorem dX10_highOf_15 : decode cX10_highOf 15 = .ok (.invokestatic 234, 3) := dk_184 0 234 (dk_at dksX10_highOf_0 15 rfl rfl)
theorem dX10_highOf_18 : decode cX10_highOf 18 = .ok (.iadd, 1) := dk_96 (dk_at dksX10_highOf_0 18 rfl rfl)
theorem dX10_highOf_19 : decode cX10_highOf 19 = .ok (.ireturn, 1) := dk_172 (dk_at dksX10_highOf_0 19 rfl rfl)
abbrev cX10_innerOf : ByteArray := prog_23_method_58_code
def yX10_innerOf : MethodName := ⟨RX10, "innerOf", "(I)I"⟩
def dkwX10_innerOf_0 : List UInt8 := [26, 5, 162, 0, 7, 3, 167, 0, 6, 26, 4, 100, 172]
abbrev dktX10_innerOf_0 : List UInt8 := dkwX10_innerOf_0 ++ []
theorem dksX10_innerOf_0 : cX10_innerOf.data.toList.drop 0 = dktX10_innerOf_0 := by decide +kernel
theorem dX10_innerOf_0 : decode cX10_innerOf 0 = .ok (.iload_n 0, 1) := dk_26 (dk_at dksX10_innerOf_0 0 rfl rfl)
theorem dX10_innerOf_1 : decode cX10_innerOf 1 = .ok (.iconst 2, 1) := dk_5 (dk_at dksX10_innerOf_0 1 rfl rfl)
theorem dX10_innerOf_2 : decode cX10_innerOf 2 = .ok (.if_icmp .ge 7, 3) := dk_162 0 7 (dk_at dksX10_innerOf_0 2 rfl rfl)
theorem dX10_innerOf_5 : decode cX10_innerOf 5 = .ok (.iconst 0, 1) := dk_3 (dk_at dksX10_innerOf_0 5 rfl rfl)
theorem dX10_innerOf_6 : decode cX10_innerOf 6 = .ok (.goto 6, 3) := dk_167 0 6 (dk_at dksX10_innerOf_0 6 rfl rfl)
theorem dX10_innerOf_9 : decode cX10_innerOf 9 = .ok (.iload_n 0, 1) := dk_26 (dk_at dksX10_innerOf_0 9 rfl rfl)
theorem dX10_innerOf_10 : decode cX10_innerOf 10 = .ok (.iconst 1, 1) := dk_4 (dk_at dksX10_innerOf_0 10 rfl rfl)
theorem dX10_innerOf_11 : decode cX10_innerOf 11 = .ok (.isub, 1) := dk_100 (dk_at dksX10_innerOf_0 11 rfl rfl)
theorem dX10_innerOf_12 : decode cX10_innerOf 12 = .ok (.ireturn, 1) := dk_172 (dk_at dksX10_innerOf_0 12 rfl rfl)
abbrev cX10_mixedOf : ByteArray := prog_23_method_57_code
def yX10_mixedOf : MethodName := ⟨RX10, "mixedOf", "(I)I"⟩
def dkwX10_mixedOf_1 : List UInt8 := [26, 6, 160, 0, 7, 4, 167, 0, 4, 3, 96, 172]
abbrev dktX10_mixedOf_1 : List UInt8 := dkwX10_mixedOf_1 ++ []
def dkwX10_mixedOf_0 : List UInt8 := [26, 5, 162, 0, 7, 3, 167, 0, 29, 26, 4, 96, 5, 108, 184, 0, 237, 26, 5, 108, 184, 0, 237, 96]
abbrev dktX10_mixedOf_0 : List UInt8 := dkwX10_mixedOf_0 ++ dktX10_mixedOf_1
theorem dksX10_mixedOf_0 : cX10_mixedOf.data.toList.drop 0 = dktX10_mixedOf_0 := by decide +kernel
theorem dksX10_mixedOf_1 : cX10_mixedOf.data.toList.drop 24 = dktX10_mixedOf_1 := dk_seg dksX10_mixedOf_0 24 rfl rfl
theorem dX10_mixedOf_0 : decode cX10_mixedOf 0 = .ok (.iload_n 0, 1) := dk_26 (dk_at dksX10_mixedOf_0 0 rfl rfl)
theorem dX10_mixedOf_1 : decode cX10_mixedOf 1 = .ok (.iconst 2, 1) := dk_5 (dk_at dksX10_mixedOf_0 1 rfl rfl)
theorem dX10_mixedOf_2 : decode cX10_mixedOf 2 = .ok (.if_icmp .ge 7, 3) := dk_162 0 7 (dk_at dksX10_mixedOf_0 2 rfl rfl)
theorem dX10_mixedOf_5 : decode cX10_mixedOf 5 = .ok (.iconst 0, 1) := dk_3 (dk_at dksX10_mixedOf_0 5 rfl rfl)
theorem dX10_mixedOf_6 : decode cX10_mixedOf 6 = .ok (.goto 29, 3) := dk_167 0 29 (dk_at dksX10_mixedOf_0 6 rfl rfl)
theorem dX10_mixedOf_9 : decode cX10_mixedOf 9 = .ok (.iload_n 0, 1) := dk_26 (dk_at dksX10_mixedOf_0 9 rfl rfl)
theorem dX10_mixedOf_10 : decode cX10_mixedOf 10 = .ok (.iconst 1, 1) := dk_4 (dk_at dksX10_mixedOf_0 10 rfl rfl)
theorem dX10_mixedOf_11 : decode cX10_mixedOf 11 = .ok (.iadd, 1) := dk_96 (dk_at dksX10_mixedOf_0 11 rfl rfl)
theorem dX10_mixedOf_12 : decode cX10_mixedOf 12 = .ok (.iconst 2, 1) := dk_5 (dk_at dksX10_mixedOf_0 12 rfl rfl)
theorem dX10_mixedOf_13 : decode cX10_mixedOf 13 = .ok (.idiv, 1) := dk_108 (dk_at dksX10_mixedOf_0 13 rfl rfl)
theorem dX10_mixedOf_14 : decode cX10_mixedOf 14 = .ok (.invokestatic 237, 3) := dk_184 0 237 (dk_at dksX10_mixedOf_0 14 rfl rfl)
theorem dX10_mixedOf_17 : decode cX10_mixedOf 17 = .ok (.iload_n 0, 1) := dk_26 (dk_at dksX10_mixedOf_0 17 rfl rfl)
theorem dX10_mixedOf_18 : decode cX10_mixedOf 18 = .ok (.iconst 2, 1) := dk_5 (dk_at dksX10_mixedOf_0 18 rfl rfl)
theorem dX10_mixedOf_19 : decode cX10_mixedOf 19 = .ok (.idiv, 1) := dk_108 (dk_at dksX10_mixedOf_0 19 rfl rfl)
theorem dX10_mixedOf_20 : decode cX10_mixedOf 20 = .ok (.invokestatic 237, 3) := dk_184 0 237 (dk_at dksX10_mixedOf_0 20 rfl rfl)
theorem dX10_mixedOf_23 : decode cX10_mixedOf 23 = .ok (.iadd, 1) := dk_96 (dk_at dksX10_mixedOf_0 23 rfl rfl)
theorem dX10_mixedOf_24 : decode cX10_mixedOf 24 = .ok (.iload_n 0, 1) := dk_26 (dk_at dksX10_mixedOf_1 0 rfl rfl)
theorem dX10_mixedOf_25 : decode cX10_mixedOf 25 = .ok (.iconst 3, 1) := dk_6 (dk_at dksX10_mixedOf_1 1 rfl rfl)
theorem dX10_mixedOf_26 : decode cX10_mixedOf 26 = .ok (.if_icmp .ne 7, 3) := dk_160 0 7 (dk_at dksX10_mixedOf_1 2 rfl rfl)
theorem dX10_mixedOf_29 : decode cX10_mixedOf 29 = .ok (.iconst 1, 1) := dk_4 (dk_at dksX10_mixedOf_1 5 rfl rfl)
theorem dX10_mixedOf_30 : decode cX10_mixedOf 30 = .ok (.goto 4, 3) := dk_167 0 4 (dk_at dksX10_mixedOf_1 6 rfl rfl)
theorem dX10_mixedOf_33 : decode cX10_mixedOf 33 = .ok (.iconst 0, 1) := dk_3 (dk_at dksX10_mixedOf_1 9 rfl rfl)
theorem dX10_mixedOf_34 : decode cX10_mixedOf 34 = .ok (.iadd, 1) := dk_96 (dk_at dksX10_mixedOf_1 10 rfl rfl)
theorem dX10_mixedOf_35 : decode cX10_mixedOf 35 = .ok (.ireturn, 1) := dk_172 (dk_at dksX10_mixedOf_1 11 rfl rfl)
abbrev cX10_costOf : ByteArray := prog_23_method_59_code
def yX10_costOf : MethodName := ⟨RX10, "costOf", "(I)I"⟩
def dkwX10_costOf_2 : List UInt8 := [16, 32, 108, 7, 96, 96, 61, 132, 3, 1, 167, 255, 217, 28, 172]
abbrev dktX10_costOf_2 : List UInt8 := dkwX10_costOf_2 ++ []
def dkwX10_costOf_1 : List UInt8 := [17, 10, 51, 27, 96, 46, 162, 0, 31, 28, 42, 180, 0, 98, 42, 27, 29, 182, 0, 195, 46, 16, 31, 96]
abbrev dktX10_costOf_1 : List UInt8 := dkwX10_costOf_1 ++ dktX10_costOf_2
def dkwX10_costOf_0 : List UInt8 := [8, 42, 180, 0, 98, 17, 10, 51, 27, 96, 46, 184, 0, 240, 104, 61, 3, 62, 29, 42, 180, 0, 98]
abbrev dktX10_costOf_0 : List UInt8 := dkwX10_costOf_0 ++ dktX10_costOf_1
theorem dksX10_costOf_0 : cX10_costOf.data.toList.drop 0 = dktX10_costOf_0 := by decide +kernel
theorem dksX10_costOf_1 : cX10_costOf.data.toList.drop 23 = dktX10_costOf_1 := dk_seg dksX10_costOf_0 23 rfl rfl
theorem dksX10_costOf_2 : cX10_costOf.data.toList.drop 47 = dktX10_costOf_2 := dk_seg dksX10_costOf_1 24 rfl rfl
theorem dX10_costOf_0 : decode cX10_costOf 0 = .ok (.iconst 5, 1) := dk_8 (dk_at dksX10_costOf_0 0 rfl rfl)
theorem dX10_costOf_1 : decode cX10_costOf 1 = .ok (.aload_n 0, 1) := dk_42 (dk_at dksX10_costOf_0 1 rfl rfl)
theorem dX10_costOf_2 : decode cX10_costOf 2 = .ok (.getfield 98, 3) := dk_180 0 98 (dk_at dksX10_costOf_0 2 rfl rfl)
theorem dX10_costOf_5 : decode cX10_costOf 5 = .ok (.sipush 2611, 3) := dk_17 10 51 (dk_at dksX10_costOf_0 5 rfl rfl)
theorem dX10_costOf_8 : decode cX10_costOf 8 = .ok (.iload_n 1, 1) := dk_27 (dk_at dksX10_costOf_0 8 rfl rfl)
theorem dX10_costOf_9 : decode cX10_costOf 9 = .ok (.iadd, 1) := dk_96 (dk_at dksX10_costOf_0 9 rfl rfl)
theorem dX10_costOf_10 : decode cX10_costOf 10 = .ok (.iaload, 1) := dk_46 (dk_at dksX10_costOf_0 10 rfl rfl)
theorem dX10_costOf_11 : decode cX10_costOf 11 = .ok (.invokestatic 240, 3) := dk_184 0 240 (dk_at dksX10_costOf_0 11 rfl rfl)
theorem dX10_costOf_14 : decode cX10_costOf 14 = .ok (.imul, 1) := dk_104 (dk_at dksX10_costOf_0 14 rfl rfl)
theorem dX10_costOf_15 : decode cX10_costOf 15 = .ok (.istore_n 2, 1) := dk_61 (dk_at dksX10_costOf_0 15 rfl rfl)
theorem dX10_costOf_16 : decode cX10_costOf 16 = .ok (.iconst 0, 1) := dk_3 (dk_at dksX10_costOf_0 16 rfl rfl)
theorem dX10_costOf_17 : decode cX10_costOf 17 = .ok (.istore_n 3, 1) := dk_62 (dk_at dksX10_costOf_0 17 rfl rfl)
theorem dX10_costOf_18 : decode cX10_costOf 18 = .ok (.iload_n 3, 1) := dk_29 (dk_at dksX10_costOf_0 18 rfl rfl)
theorem dX10_costOf_19 : decode cX10_costOf 19 = .ok (.aload_n 0, 1) := dk_42 (dk_at dksX10_costOf_0 19 rfl rfl)
theorem dX10_costOf_20 : decode cX10_costOf 20 = .ok (.getfield 98, 3) := dk_180 0 98 (dk_at dksX10_costOf_0 20 rfl rfl)
theorem dX10_costOf_23 : decode cX10_costOf 23 = .ok (.sipush 2611, 3) := dk_17 10 51 (dk_at dksX10_costOf_1 0 rfl rfl)
theorem dX10_costOf_26 : decode cX10_costOf 26 = .ok (.iload_n 1, 1) := dk_27 (dk_at dksX10_costOf_1 3 rfl rfl)
theorem dX10_costOf_27 : decode cX10_costOf 27 = .ok (.iadd, 1) := dk_96 (dk_at dksX10_costOf_1 4 rfl rfl)
theorem dX10_costOf_28 : decode cX10_costOf 28 = .ok (.iaload, 1) := dk_46 (dk_at dksX10_costOf_1 5 rfl rfl)
theorem dX10_costOf_29 : decode cX10_costOf 29 = .ok (.if_icmp .ge 31, 3) := dk_162 0 31 (dk_at dksX10_costOf_1 6 rfl rfl)
theorem dX10_costOf_32 : decode cX10_costOf 32 = .ok (.iload_n 2, 1) := dk_28 (dk_at dksX10_costOf_1 9 rfl rfl)
theorem dX10_costOf_33 : decode cX10_costOf 33 = .ok (.aload_n 0, 1) := dk_42 (dk_at dksX10_costOf_1 10 rfl rfl)
theorem dX10_costOf_34 : decode cX10_costOf 34 = .ok (.getfield 98, 3) := dk_180 0 98 (dk_at dksX10_costOf_1 11 rfl rfl)
theorem dX10_costOf_37 : decode cX10_costOf 37 = .ok (.aload_n 0, 1) := dk_42 (dk_at dksX10_costOf_1 14 rfl rfl)
theorem dX10_costOf_38 : decode cX10_costOf 38 = .ok (.iload_n 1, 1) := dk_27 (dk_at dksX10_costOf_1 15 rfl rfl)
theorem dX10_costOf_39 : decode cX10_costOf 39 = .ok (.iload_n 3, 1) := dk_29 (dk_at dksX10_costOf_1 16 rfl rfl)
theorem dX10_costOf_40 : decode cX10_costOf 40 = .ok (.invokevirtual 195, 3) := dk_182 0 195 (dk_at dksX10_costOf_1 17 rfl rfl)
theorem dX10_costOf_43 : decode cX10_costOf 43 = .ok (.iaload, 1) := dk_46 (dk_at dksX10_costOf_1 20 rfl rfl)
theorem dX10_costOf_44 : decode cX10_costOf 44 = .ok (.bipush 31, 2) := dk_16 31 (dk_at dksX10_costOf_1 21 rfl rfl)
theorem dX10_costOf_46 : decode cX10_costOf 46 = .ok (.iadd, 1) := dk_96 (dk_at dksX10_costOf_1 23 rfl rfl)
theorem dX10_costOf_47 : decode cX10_costOf 47 = .ok (.bipush 32, 2) := dk_16 32 (dk_at dksX10_costOf_2 0 rfl rfl)
theorem dX10_costOf_49 : decode cX10_costOf 49 = .ok (.idiv, 1) := dk_108 (dk_at dksX10_costOf_2 2 rfl rfl)
theorem dX10_costOf_50 : decode cX10_costOf 50 = .ok (.iconst 4, 1) := dk_7 (dk_at dksX10_costOf_2 3 rfl rfl)
theorem dX10_costOf_51 : decode cX10_costOf 51 = .ok (.iadd, 1) := dk_96 (dk_at dksX10_costOf_2 4 rfl rfl)
theorem dX10_costOf_52 : decode cX10_costOf 52 = .ok (.iadd, 1) := dk_96 (dk_at dksX10_costOf_2 5 rfl rfl)
theorem dX10_costOf_53 : decode cX10_costOf 53 = .ok (.istore_n 2, 1) := dk_61 (dk_at dksX10_costOf_2 6 rfl rfl)
theorem dX10_costOf_54 : decode cX10_costOf 54 = .ok (.iinc 3 1, 3) := dk_132 3 1 (dk_at dksX10_costOf_2 7 rfl rfl)
theorem dX10_costOf_57 : decode cX10_costOf 57 = .ok (.goto (-39), 3) := dk_167 255 217 (dk_at dksX10_costOf_2 10 rfl rfl)
theorem dX10_costOf_60 : decode cX10_costOf 60 = .ok (.iload_n 2, 1) := dk_28 (dk_at dksX10_costOf_2 13 rfl rfl)
theorem dX10_costOf_61 : decode cX10_costOf 61 = .ok (.ireturn, 1) := dk_172 (dk_at dksX10_costOf_2 14 rfl rfl)
abbrev cX10_dense : ByteArray := prog_23_method_64_code
def yX10_dense : MethodName := ⟨RX10, "dense", "(III)I"⟩
def dkwX10_dense_2 : List UInt8 := [42, 27, 28, 28, 29, 96, 182, 0, 224, 29, 182, 1, 4, 172]
abbrev dktX10_dense_2 : List UInt8 := dkwX10_dense_2 ++ []
def dkwX10_dense_1 : List UInt8 := [27, 182, 0, 199, 163, 0, 14, 28, 42, 27, 182, 0, 199, 29, 100, 164, 0, 8, 42, 182, 0, 231, 172, 42]
abbrev dktX10_dense_1 : List UInt8 := dkwX10_dense_1 ++ dktX10_dense_2
def dkwX10_dense_0 : List UInt8 := [42, 3, 181, 0, 1, 42, 27, 182, 0, 215, 153, 0, 32, 28, 155, 0, 28, 29, 4, 161, 0, 23, 29, 42]
abbrev dktX10_dense_0 : List UInt8 := dkwX10_dense_0 ++ dktX10_dense_1
theorem dksX10_dense_0 : cX10_dense.data.toList.drop 0 = dktX10_dense_0 := by decide +kernel
theorem dksX10_dense_1 : cX10_dense.data.toList.drop 24 = dktX10_dense_1 := dk_seg dksX10_dense_0 24 rfl rfl
theorem dksX10_dense_2 : cX10_dense.data.toList.drop 48 = dktX10_dense_2 := dk_seg dksX10_dense_1 24 rfl rfl
theorem dX10_dense_0 : decode cX10_dense 0 = .ok (.aload_n 0, 1) := dk_42 (dk_at dksX10_dense_0 0 rfl rfl)
theorem dX10_dense_1 : decode cX10_dense 1 = .ok (.iconst 0, 1) := dk_3 (dk_at dksX10_dense_0 1 rfl rfl)
theorem dX10_dense_2 : decode cX10_dense 2 = .ok (.putfield 1, 3) := dk_181 0 1 (dk_at dksX10_dense_0 2 rfl rfl)
theorem dX10_dense_5 : decode cX10_dense 5 = .ok (.aload_n 0, 1) := dk_42 (dk_at dksX10_dense_0 5 rfl rfl)
theorem dX10_dense_6 : decode cX10_dense 6 = .ok (.iload_n 1, 1) := dk_27 (dk_at dksX10_dense_0 6 rfl rfl)
theorem dX10_dense_7 : decode cX10_dense 7 = .ok (.invokevirtual 215, 3) := dk_182 0 215 (dk_at dksX10_dense_0 7 rfl rfl)
theorem dX10_dense_10 : decode cX10_dense 10 = .ok (.ifCond .eq 32, 3) := dk_153 0 32 (dk_at dksX10_dense_0 10 rfl rfl)
theorem dX10_dense_13 : decode cX10_dense 13 = .ok (.iload_n 2, 1) := dk_28 (dk_at dksX10_dense_0 13 rfl rfl)
theorem dX10_dense_14 : decode cX10_dense 14 = .ok (.ifCond .lt 28, 3) := dk_155 0 28 (dk_at dksX10_dense_0 14 rfl rfl)
theorem dX10_dense_17 : decode cX10_dense 17 = .ok (.iload_n 3, 1) := dk_29 (dk_at dksX10_dense_0 17 rfl rfl)
theorem dX10_dense_18 : decode cX10_dense 18 = .ok (.iconst 1, 1) := dk_4 (dk_at dksX10_dense_0 18 rfl rfl)
theorem dX10_dense_19 : decode cX10_dense 19 = .ok (.if_icmp .lt 23, 3) := dk_161 0 23 (dk_at dksX10_dense_0 19 rfl rfl)
theorem dX10_dense_22 : decode cX10_dense 22 = .ok (.iload_n 3, 1) := dk_29 (dk_at dksX10_dense_0 22 rfl rfl)
theorem dX10_dense_23 : decode cX10_dense 23 = .ok (.aload_n 0, 1) := dk_42 (dk_at dksX10_dense_0 23 rfl rfl)
theorem dX10_dense_24 : decode cX10_dense 24 = .ok (.iload_n 1, 1) := dk_27 (dk_at dksX10_dense_1 0 rfl rfl)
theorem dX10_dense_25 : decode cX10_dense 25 = .ok (.invokevirtual 199, 3) := dk_182 0 199 (dk_at dksX10_dense_1 1 rfl rfl)
theorem dX10_dense_28 : decode cX10_dense 28 = .ok (.if_icmp .gt 14, 3) := dk_163 0 14 (dk_at dksX10_dense_1 4 rfl rfl)
theorem dX10_dense_31 : decode cX10_dense 31 = .ok (.iload_n 2, 1) := dk_28 (dk_at dksX10_dense_1 7 rfl rfl)
theorem dX10_dense_32 : decode cX10_dense 32 = .ok (.aload_n 0, 1) := dk_42 (dk_at dksX10_dense_1 8 rfl rfl)
theorem dX10_dense_33 : decode cX10_dense 33 = .ok (.iload_n 1, 1) := dk_27 (dk_at dksX10_dense_1 9 rfl rfl)
theorem dX10_dense_34 : decode cX10_dense 34 = .ok (.invokevirtual 199, 3) := dk_182 0 199 (dk_at dksX10_dense_1 10 rfl rfl)
theorem dX10_dense_37 : decode cX10_dense 37 = .ok (.iload_n 3, 1) := dk_29 (dk_at dksX10_dense_1 13 rfl rfl)
theorem dX10_dense_38 : decode cX10_dense 38 = .ok (.isub, 1) := dk_100 (dk_at dksX10_dense_1 14 rfl rfl)
theorem dX10_dense_39 : decode cX10_dense 39 = .ok (.if_icmp .le 8, 3) := dk_164 0 8 (dk_at dksX10_dense_1 15 rfl rfl)
theorem dX10_dense_42 : decode cX10_dense 42 = .ok (.aload_n 0, 1) := dk_42 (dk_at dksX10_dense_1 18 rfl rfl)
theorem dX10_dense_43 : decode cX10_dense 43 = .ok (.invokevirtual 231, 3) := dk_182 0 231 (dk_at dksX10_dense_1 19 rfl rfl)
theorem dX10_dense_46 : decode cX10_dense 46 = .ok (.ireturn, 1) := dk_172 (dk_at dksX10_dense_1 22 rfl rfl)
theorem dX10_dense_47 : decode cX10_dense 47 = .ok (.aload_n 0, 1) := dk_42 (dk_at dksX10_dense_1 23 rfl rfl)
theorem dX10_dense_48 : decode cX10_dense 48 = .ok (.aload_n 0, 1) := dk_42 (dk_at dksX10_dense_2 0 rfl rfl)
theorem dX10_dense_49 : decode cX10_dense 49 = .ok (.iload_n 1, 1) := dk_27 (dk_at dksX10_dense_2 1 rfl rfl)
theorem dX10_dense_50 : decode cX10_dense 50 = .ok (.iload_n 2, 1) := dk_28 (dk_at dksX10_dense_2 2 rfl rfl)
theorem dX10_dense_51 : decode cX10_dense 51 = .ok (.iload_n 2, 1) := dk_28 (dk_at dksX10_dense_2 3 rfl rfl)
theorem dX10_dense_52 : decode cX10_dense 52 = .ok (.iload_n 3, 1) := dk_29 (dk_at dksX10_dense_2 4 rfl rfl)
theorem dX10_dense_53 : decode cX10_dense 53 = .ok (.iadd, 1) := dk_96 (dk_at dksX10_dense_2 5 rfl rfl)
theorem dX10_dense_54 : decode cX10_dense 54 = .ok (.invokevirtual 224, 3) := dk_182 0 224 (dk_at dksX10_dense_2 6 rfl rfl)
theorem dX10_dense_57 : decode cX10_dense 57 = .ok (.iload_n 3, 1) := dk_29 (dk_at dksX10_dense_2 9 rfl rfl)
theorem dX10_dense_58 : decode cX10_dense 58 = .ok (.invokevirtual 260, 3) := dk_182 1 4 (dk_at dksX10_dense_2 10 rfl rfl)
theorem dX10_dense_61 : decode cX10_dense 61 = .ok (.ireturn, 1) := dk_172 (dk_at dksX10_dense_2 13 rfl rfl)
abbrev cX10_asFloat : ByteArray := prog_23_method_62_code
def yX10_asFloat : MethodName := ⟨RX10, "asFloat", "(II)I"⟩
def dkwX10_asFloat_1 : List UInt8 := [16, 23, 120, 29, 18, 255, 100, 128, 172]
abbrev dktX10_asFloat_1 : List UInt8 := dkwX10_asFloat_1 ++ []
def dkwX10_asFloat_0 : List UInt8 := [27, 154, 0, 5, 3, 172, 42, 27, 28, 16, 24, 182, 0, 251, 136, 62, 42, 180, 0, 246, 16, 127, 96]
abbrev dktX10_asFloat_0 : List UInt8 := dkwX10_asFloat_0 ++ dktX10_asFloat_1
theorem dksX10_asFloat_0 : cX10_asFloat.data.toList.drop 0 = dktX10_asFloat_0 := by decide +kernel
theorem dksX10_asFloat_1 : cX10_asFloat.data.toList.drop 23 = dktX10_asFloat_1 := dk_seg dksX10_asFloat_0 23 rfl rfl
theorem dX10_asFloat_0 : decode cX10_asFloat 0 = .ok (.iload_n 1, 1) := dk_27 (dk_at dksX10_asFloat_0 0 rfl rfl)
theorem dX10_asFloat_1 : decode cX10_asFloat 1 = .ok (.ifCond .ne 5, 3) := dk_154 0 5 (dk_at dksX10_asFloat_0 1 rfl rfl)
theorem dX10_asFloat_4 : decode cX10_asFloat 4 = .ok (.iconst 0, 1) := dk_3 (dk_at dksX10_asFloat_0 4 rfl rfl)
theorem dX10_asFloat_5 : decode cX10_asFloat 5 = .ok (.ireturn, 1) := dk_172 (dk_at dksX10_asFloat_0 5 rfl rfl)
theorem dX10_asFloat_6 : decode cX10_asFloat 6 = .ok (.aload_n 0, 1) := dk_42 (dk_at dksX10_asFloat_0 6 rfl rfl)
theorem dX10_asFloat_7 : decode cX10_asFloat 7 = .ok (.iload_n 1, 1) := dk_27 (dk_at dksX10_asFloat_0 7 rfl rfl)
theorem dX10_asFloat_8 : decode cX10_asFloat 8 = .ok (.iload_n 2, 1) := dk_28 (dk_at dksX10_asFloat_0 8 rfl rfl)
theorem dX10_asFloat_9 : decode cX10_asFloat 9 = .ok (.bipush 24, 2) := dk_16 24 (dk_at dksX10_asFloat_0 9 rfl rfl)
theorem dX10_asFloat_11 : decode cX10_asFloat 11 = .ok (.invokevirtual 251, 3) := dk_182 0 251 (dk_at dksX10_asFloat_0 11 rfl rfl)
theorem dX10_asFloat_14 : decode cX10_asFloat 14 = .ok (.l2i, 1) := dk_136 (dk_at dksX10_asFloat_0 14 rfl rfl)
theorem dX10_asFloat_15 : decode cX10_asFloat 15 = .ok (.istore_n 3, 1) := dk_62 (dk_at dksX10_asFloat_0 15 rfl rfl)
theorem dX10_asFloat_16 : decode cX10_asFloat 16 = .ok (.aload_n 0, 1) := dk_42 (dk_at dksX10_asFloat_0 16 rfl rfl)
theorem dX10_asFloat_17 : decode cX10_asFloat 17 = .ok (.getfield 246, 3) := dk_180 0 246 (dk_at dksX10_asFloat_0 17 rfl rfl)
theorem dX10_asFloat_20 : decode cX10_asFloat 20 = .ok (.bipush 127, 2) := dk_16 127 (dk_at dksX10_asFloat_0 20 rfl rfl)
theorem dX10_asFloat_22 : decode cX10_asFloat 22 = .ok (.iadd, 1) := dk_96 (dk_at dksX10_asFloat_0 22 rfl rfl)
theorem dX10_asFloat_23 : decode cX10_asFloat 23 = .ok (.bipush 23, 2) := dk_16 23 (dk_at dksX10_asFloat_1 0 rfl rfl)
theorem dX10_asFloat_25 : decode cX10_asFloat 25 = .ok (.ishl, 1) := dk_120 (dk_at dksX10_asFloat_1 2 rfl rfl)
theorem dX10_asFloat_26 : decode cX10_asFloat 26 = .ok (.iload_n 3, 1) := dk_29 (dk_at dksX10_asFloat_1 3 rfl rfl)
theorem dX10_asFloat_27 : decode cX10_asFloat 27 = .ok (.ldc 255, 2) := dk_18 255 (dk_at dksX10_asFloat_1 4 rfl rfl)
theorem dX10_asFloat_29 : decode cX10_asFloat 29 = .ok (.isub, 1) := dk_100 (dk_at dksX10_asFloat_1 6 rfl rfl)
theorem dX10_asFloat_30 : decode cX10_asFloat 30 = .ok (.ior, 1) := dk_128 (dk_at dksX10_asFloat_1 7 rfl rfl)
theorem dX10_asFloat_31 : decode cX10_asFloat 31 = .ok (.ireturn, 1) := dk_172 (dk_at dksX10_asFloat_1 8 rfl rfl)
abbrev cX10_firstBits : ByteArray := prog_23_method_61_code
def yX10_firstBits : MethodName := ⟨RX10, "firstBits", "(III)J"⟩
def dkwX10_firstBits_9 : List UInt8 := [173]
abbrev dktX10_firstBits_9 : List UInt8 := dkwX10_firstBits_9 ++ []
def dkwX10_firstBits_8 : List UInt8 := [121, 148, 156, 0, 6, 22, 8, 173, 42, 89, 180, 0, 246, 4, 96, 181, 0, 246, 22, 8, 20, 0, 249, 109]
abbrev dktX10_firstBits_8 : List UInt8 := dkwX10_firstBits_8 ++ dktX10_firstBits_9
def dkwX10_firstBits_7 : List UInt8 := [154, 0, 20, 22, 8, 20, 0, 249, 113, 10, 148, 154, 0, 9, 22, 8, 10, 97, 55, 8, 22, 8, 10, 29]
abbrev dktX10_firstBits_7 : List UInt8 := dkwX10_firstBits_7 ++ dktX10_firstBits_8
def dkwX10_firstBits_6 : List UInt8 := [167, 255, 207, 20, 0, 249, 22, 10, 105, 22, 6, 148, 157, 0, 26, 20, 0, 249, 22, 10, 105, 22, 6, 148]
abbrev dktX10_firstBits_6 : List UInt8 := dkwX10_firstBits_6 ++ dktX10_firstBits_7
def dkwX10_firstBits_5 : List UInt8 := [156, 0, 6, 167, 0, 16, 22, 10, 22, 6, 101, 55, 10, 22, 8, 10, 97, 55, 8, 132, 12, 1]
abbrev dktX10_firstBits_5 : List UInt8 := dkwX10_firstBits_5 ++ dktX10_firstBits_6
def dkwX10_firstBits_4 : List UInt8 := [162, 0, 49, 22, 10, 20, 0, 249, 105, 55, 10, 22, 8, 20, 0, 249, 105, 55, 8, 22, 10, 22, 6, 148]
abbrev dktX10_firstBits_4 : List UInt8 := dkwX10_firstBits_4 ++ dktX10_firstBits_5
def dkwX10_firstBits_3 : List UInt8 := [181, 0, 246, 167, 255, 230, 10, 55, 8, 22, 4, 22, 6, 101, 55, 10, 4, 54, 12, 21, 12, 29]
abbrev dktX10_firstBits_3 : List UInt8 := dkwX10_firstBits_3 ++ dktX10_firstBits_4
def dkwX10_firstBits_2 : List UInt8 := [22, 4, 22, 6, 148, 156, 0, 24, 22, 4, 20, 0, 249, 105, 55, 4, 42, 89, 180, 0, 246, 4, 100]
abbrev dktX10_firstBits_2 : List UInt8 := dkwX10_firstBits_2 ++ dktX10_firstBits_3
def dkwX10_firstBits_1 : List UInt8 := [155, 0, 24, 22, 6, 20, 0, 249, 105, 55, 6, 42, 89, 180, 0, 246, 4, 96, 181, 0, 246, 167, 255, 226]
abbrev dktX10_firstBits_1 : List UInt8 := dkwX10_firstBits_1 ++ dktX10_firstBits_2
def dkwX10_firstBits_0 : List UInt8 := [27, 133, 55, 4, 28, 133, 55, 6, 42, 3, 181, 0, 246, 22, 4, 20, 0, 249, 22, 6, 105, 148]
abbrev dktX10_firstBits_0 : List UInt8 := dkwX10_firstBits_0 ++ dktX10_firstBits_1
theorem dksX10_firstBits_0 : cX10_firstBits.data.toList.drop 0 = dktX10_firstBits_0 := by decide +kernel
theorem dksX10_firstBits_1 : cX10_firstBits.data.toList.drop 22 = dktX10_firstBits_1 := dk_seg dksX10_firstBits_0 22 rfl rfl
theorem dksX10_firstBits_2 : cX10_firstBits.data.toList.drop 46 = dktX10_firstBits_2 := dk_seg dksX10_firstBits_1 24 rfl rfl
theorem dksX10_firstBits_3 : cX10_firstBits.data.toList.drop 69 = dktX10_firstBits_3 := dk_seg dksX10_firstBits_2 23 rfl rfl
theorem dksX10_firstBits_4 : cX10_firstBits.data.toList.drop 91 = dktX10_firstBits_4 := dk_seg dksX10_firstBits_3 22 rfl rfl
theorem dksX10_firstBits_5 : cX10_firstBits.data.toList.drop 115 = dktX10_firstBits_5 := dk_seg dksX10_firstBits_4 24 rfl rfl
theorem dksX10_firstBits_6 : cX10_firstBits.data.toList.drop 137 = dktX10_firstBits_6 := dk_seg dksX10_firstBits_5 22 rfl rfl
theorem dksX10_firstBits_7 : cX10_firstBits.data.toList.drop 161 = dktX10_firstBits_7 := dk_seg dksX10_firstBits_6 24 rfl rfl
theorem dksX10_firstBits_8 : cX10_firstBits.data.toList.drop 185 = dktX10_firstBits_8 := dk_seg dksX10_firstBits_7 24 rfl rfl
theorem dksX10_firstBits_9 : cX10_firstBits.data.toList.drop 209 = dktX10_firstBits_9 := dk_seg dksX10_firstBits_8 24 rfl rfl
theorem dX10_firstBits_0 : decode cX10_firstBits 0 = .ok (.iload_n 1, 1) := dk_27 (dk_at dksX10_firstBits_0 0 rfl rfl)
theorem dX10_firstBits_1 : decode cX10_firstBits 1 = .ok (.i2l, 1) := dk_133 (dk_at dksX10_firstBits_0 1 rfl rfl)
theorem dX10_firstBits_2 : decode cX10_firstBits 2 = .ok (.lstore 4, 2) := dk_55 4 (dk_at dksX10_firstBits_0 2 rfl rfl)
theorem dX10_firstBits_4 : decode cX10_firstBits 4 = .ok (.iload_n 2, 1) := dk_28 (dk_at dksX10_firstBits_0 4 rfl rfl)
theorem dX10_firstBits_5 : decode cX10_firstBits 5 = .ok (.i2l, 1) := dk_133 (dk_at dksX10_firstBits_0 5 rfl rfl)
theorem dX10_firstBits_6 : decode cX10_firstBits 6 = .ok (.lstore 6, 2) := dk_55 6 (dk_at dksX10_firstBits_0 6 rfl rfl)
theorem dX10_firstBits_8 : decode cX10_firstBits 8 = .ok (.aload_n 0, 1) := dk_42 (dk_at dksX10_firstBits_0 8 rfl rfl)
theorem dX10_firstBits_9 : decode cX10_firstBits 9 = .ok (.iconst 0, 1) := dk_3 (dk_at dksX10_firstBits_0 9 rfl rfl)
theorem dX10_firstBits_10 : decode cX10_firstBits 10 = .ok (.putfield 246, 3) := dk_181 0 246 (dk_at dksX10_firstBits_0 10 rfl rfl)
theorem dX10_firstBits_13 : decode cX10_firstBits 13 = .ok (.lload 4, 2) := dk_22 4 (dk_at dksX10_firstBits_0 13 rfl rfl)
theorem dX10_firstBits_15 : decode cX10_firstBits 15 = .ok (.ldc2_w 249, 3) := dk_20 0 249 (dk_at dksX10_firstBits_0 15 rfl rfl)
theorem dX10_firstBits_18 : decode cX10_firstBits 18 = .ok (.lload 6, 2) := dk_22 6 (dk_at dksX10_firstBits_0 18 rfl rfl)
theorem dX10_firstBits_20 : decode cX10_firstBits 20 = .ok (.lmul, 1) := dk_105 (dk_at dksX10_firstBits_0 20 rfl rfl)
theorem dX10_firstBits_21 : decode cX10_firstBits 21 = .ok (.lcmp, 1) := dk_148 (dk_at dksX10_firstBits_0 21 rfl rfl)
theorem dX10_firstBits_22 : decode cX10_firstBits 22 = .ok (.ifCond .lt 24, 3) := dk_155 0 24 (dk_at dksX10_firstBits_1 0 rfl rfl)
theorem dX10_firstBits_25 : decode cX10_firstBits 25 = .ok (.lload 6, 2) := dk_22 6 (dk_at dksX10_firstBits_1 3 rfl rfl)
theorem dX10_firstBits_27 : decode cX10_firstBits 27 = .ok (.ldc2_w 249, 3) := dk_20 0 249 (dk_at dksX10_firstBits_1 5 rfl rfl)
theorem dX10_firstBits_30 : decode cX10_firstBits 30 = .ok (.lmul, 1) := dk_105 (dk_at dksX10_firstBits_1 8 rfl rfl)
theorem dX10_firstBits_31 : decode cX10_firstBits 31 = .ok (.lstore 6, 2) := dk_55 6 (dk_at dksX10_firstBits_1 9 rfl rfl)
theorem dX10_firstBits_33 : decode cX10_firstBits 33 = .ok (.aload_n 0, 1) := dk_42 (dk_at dksX10_firstBits_1 11 rfl rfl)
theorem dX10_firstBits_34 : decode cX10_firstBits 34 = .ok (.dup, 1) := dk_89 (dk_at dksX10_firstBits_1 12 rfl rfl)
theorem dX10_firstBits_35 : decode cX10_firstBits 35 = .ok (.getfield 246, 3) := dk_180 0 246 (dk_at dksX10_firstBits_1 13 rfl rfl)
theorem dX10_firstBits_38 : decode cX10_firstBits 38 = .ok (.iconst 1, 1) := dk_4 (dk_at dksX10_firstBits_1 16 rfl rfl)
theorem dX10_firstBits_39 : decode cX10_firstBits 39 = .ok (.iadd, 1) := dk_96 (dk_at dksX10_firstBits_1 17 rfl rfl)
theorem dX10_firstBits_40 : decode cX10_firstBits 40 = .ok (.putfield 246, 3) := dk_181 0 246 (dk_at dksX10_firstBits_1 18 rfl rfl)
theorem dX10_firstBits_43 : decode cX10_firstBits 43 = .ok (.goto (-30), 3) := dk_167 255 226 (dk_at dksX10_firstBits_1 21 rfl rfl)
theorem dX10_firstBits_46 : decode cX10_firstBits 46 = .ok (.lload 4, 2) := dk_22 4 (dk_at dksX10_firstBits_2 0 rfl rfl)
theorem dX10_firstBits_48 : decode cX10_firstBits 48 = .ok (.lload 6, 2) := dk_22 6 (dk_at dksX10_firstBits_2 2 rfl rfl)
theorem dX10_firstBits_50 : decode cX10_firstBits 50 = .ok (.lcmp, 1) := dk_148 (dk_at dksX10_firstBits_2 4 rfl rfl)
theorem dX10_firstBits_51 : decode cX10_firstBits 51 = .ok (.ifCond .ge 24, 3) := dk_156 0 24 (dk_at dksX10_firstBits_2 5 rfl rfl)
theorem dX10_firstBits_54 : decode cX10_firstBits 54 = .ok (.lload 4, 2) := dk_22 4 (dk_at dksX10_firstBits_2 8 rfl rfl)
theorem dX10_firstBits_56 : decode cX10_firstBits 56 = .ok (.ldc2_w 249, 3) := dk_20 0 249 (dk_at dksX10_firstBits_2 10 rfl rfl)
theorem dX10_firstBits_59 : decode cX10_firstBits 59 = .ok (.lmul, 1) := dk_105 (dk_at dksX10_firstBits_2 13 rfl rfl)
theorem dX10_firstBits_60 : decode cX10_firstBits 60 = .ok (.lstore 4, 2) := dk_55 4 (dk_at dksX10_firstBits_2 14 rfl rfl)
theorem dX10_firstBits_62 : decode cX10_firstBits 62 = .ok (.aload_n 0, 1) := dk_42 (dk_at dksX10_firstBits_2 16 rfl rfl)
theorem dX10_firstBits_63 : decode cX10_firstBits 63 = .ok (.dup, 1) := dk_89 (dk_at dksX10_firstBits_2 17 rfl rfl)
theorem dX10_firstBits_64 : decode cX10_firstBits 64 = .ok (.getfield 246, 3) := dk_180 0 246 (dk_at dksX10_firstBits_2 18 rfl rfl)
theorem dX10_firstBits_67 : decode cX10_firstBits 67 = .ok (.iconst 1, 1) := dk_4 (dk_at dksX10_firstBits_2 21 rfl rfl)
theorem dX10_firstBits_68 : decode cX10_firstBits 68 = .ok (.isub, 1) := dk_100 (dk_at dksX10_firstBits_2 22 rfl rfl)
theorem dX10_firstBits_69 : decode cX10_firstBits 69 = .ok (.putfield 246, 3) := dk_181 0 246 (dk_at dksX10_firstBits_3 0 rfl rfl)
theorem dX10_firstBits_72 : decode cX10_firstBits 72 = .ok (.goto (-26), 3) := dk_167 255 230 (dk_at dksX10_firstBits_3 3 rfl rfl)
theorem dX10_firstBits_75 : decode cX10_firstBits 75 = .ok (.lconst 1, 1) := dk_10 (dk_at dksX10_firstBits_3 6 rfl rfl)
theorem dX10_firstBits_76 : decode cX10_firstBits 76 = .ok (.lstore 8, 2) := dk_55 8 (dk_at dksX10_firstBits_3 7 rfl rfl)
theorem dX10_firstBits_78 : decode cX10_firstBits 78 = .ok (.lload 4, 2) := dk_22 4 (dk_at dksX10_firstBits_3 9 rfl rfl)
theorem dX10_firstBits_80 : decode cX10_firstBits 80 = .ok (.lload 6, 2) := dk_22 6 (dk_at dksX10_firstBits_3 11 rfl rfl)
theorem dX10_firstBits_82 : decode cX10_firstBits 82 = .ok (.lsub, 1) := dk_101 (dk_at dksX10_firstBits_3 13 rfl rfl)
theorem dX10_firstBits_83 : decode cX10_firstBits 83 = .ok (.lstore 10, 2) := dk_55 10 (dk_at dksX10_firstBits_3 14 rfl rfl)
theorem dX10_firstBits_85 : decode cX10_firstBits 85 = .ok (.iconst 1, 1) := dk_4 (dk_at dksX10_firstBits_3 16 rfl rfl)
theorem dX10_firstBits_86 : decode cX10_firstBits 86 = .ok (.istore 12, 2) := dk_54 12 (dk_at dksX10_firstBits_3 17 rfl rfl)
theorem dX10_firstBits_88 : decode cX10_firstBits 88 = .ok (.iload 12, 2) := dk_21 12 (dk_at dksX10_firstBits_3 19 rfl rfl)
theorem dX10_firstBits_90 : decode cX10_firstBits 90 = .ok (.iload_n 3, 1) := dk_29 (dk_at dksX10_firstBits_3 21 rfl rfl)
theorem dX10_firstBits_91 : decode cX10_firstBits 91 = .ok (.if_icmp .ge 49, 3) := dk_162 0 49 (dk_at dksX10_firstBits_4 0 rfl rfl)
theorem dX10_firstBits_94 : decode cX10_firstBits 94 = .ok (.lload 10, 2) := dk_22 10 (dk_at dksX10_firstBits_4 3 rfl rfl)
theorem dX10_firstBits_96 : decode cX10_firstBits 96 = .ok (.ldc2_w 249, 3) := dk_20 0 249 (dk_at dksX10_firstBits_4 5 rfl rfl)
theorem dX10_firstBits_99 : decode cX10_firstBits 99 = .ok (.lmul, 1) := dk_105 (dk_at dksX10_firstBits_4 8 rfl rfl)
theorem dX10_firstBits_100 : decode cX10_firstBits 100 = .ok (.lstore 10, 2) := dk_55 10 (dk_at dksX10_firstBits_4 9 rfl rfl)
theorem dX10_firstBits_102 : decode cX10_firstBits 102 = .ok (.lload 8, 2) := dk_22 8 (dk_at dksX10_firstBits_4 11 rfl rfl)
theorem dX10_firstBits_104 : decode cX10_firstBits 104 = .ok (.ldc2_w 249, 3) := dk_20 0 249 (dk_at dksX10_firstBits_4 13 rfl rfl)
theorem dX10_firstBits_107 : decode cX10_firstBits 107 = .ok (.lmul, 1) := dk_105 (dk_at dksX10_firstBits_4 16 rfl rfl)
theorem dX10_firstBits_108 : decode cX10_firstBits 108 = .ok (.lstore 8, 2) := dk_55 8 (dk_at dksX10_firstBits_4 17 rfl rfl)
theorem dX10_firstBits_110 : decode cX10_firstBits 110 = .ok (.lload 10, 2) := dk_22 10 (dk_at dksX10_firstBits_4 19 rfl rfl)
theorem dX10_firstBits_112 : decode cX10_firstBits 112 = .ok (.lload 6, 2) := dk_22 6 (dk_at dksX10_firstBits_4 21 rfl rfl)
theorem dX10_firstBits_114 : decode cX10_firstBits 114 = .ok (.lcmp, 1) := dk_148 (dk_at dksX10_firstBits_4 23 rfl rfl)
theorem dX10_firstBits_115 : decode cX10_firstBits 115 = .ok (.ifCond .ge 6, 3) := dk_156 0 6 (dk_at dksX10_firstBits_5 0 rfl rfl)
theorem dX10_firstBits_118 : decode cX10_firstBits 118 = .ok (.goto 16, 3) := dk_167 0 16 (dk_at dksX10_firstBits_5 3 rfl rfl)
theorem dX10_firstBits_121 : decode cX10_firstBits 121 = .ok (.lload 10, 2) := dk_22 10 (dk_at dksX10_firstBits_5 6 rfl rfl)
theorem dX10_firstBits_123 : decode cX10_firstBits 123 = .ok (.lload 6, 2) := dk_22 6 (dk_at dksX10_firstBits_5 8 rfl rfl)
theorem dX10_firstBits_125 : decode cX10_firstBits 125 = .ok (.lsub, 1) := dk_101 (dk_at dksX10_firstBits_5 10 rfl rfl)
theorem dX10_firstBits_126 : decode cX10_firstBits 126 = .ok (.lstore 10, 2) := dk_55 10 (dk_at dksX10_firstBits_5 11 rfl rfl)
theorem dX10_firstBits_128 : decode cX10_firstBits 128 = .ok (.lload 8, 2) := dk_22 8 (dk_at dksX10_firstBits_5 13 rfl rfl)
theorem dX10_firstBits_130 : decode cX10_firstBits 130 = .ok (.lconst 1, 1) := dk_10 (dk_at dksX10_firstBits_5 15 rfl rfl)
theorem dX10_firstBits_131 : decode cX10_firstBits 131 = .ok (.ladd, 1) := dk_97 (dk_at dksX10_firstBits_5 16 rfl rfl)
theorem dX10_firstBits_132 : decode cX10_firstBits 132 = .ok (.lstore 8, 2) := dk_55 8 (dk_at dksX10_firstBits_5 17 rfl rfl)
theorem dX10_firstBits_134 : decode cX10_firstBits 134 = .ok (.iinc 12 1, 3) := dk_132 12 1 (dk_at dksX10_firstBits_5 19 rfl rfl)
theorem dX10_firstBits_137 : decode cX10_firstBits 137 = .ok (.goto (-49), 3) := dk_167 255 207 (dk_at dksX10_firstBits_6 0 rfl rfl)
theorem dX10_firstBits_140 : decode cX10_firstBits 140 = .ok (.ldc2_w 249, 3) := dk_20 0 249 (dk_at dksX10_firstBits_6 3 rfl rfl)
theorem dX10_firstBits_143 : decode cX10_firstBits 143 = .ok (.lload 10, 2) := dk_22 10 (dk_at dksX10_firstBits_6 6 rfl rfl)
theorem dX10_firstBits_145 : decode cX10_firstBits 145 = .ok (.lmul, 1) := dk_105 (dk_at dksX10_firstBits_6 8 rfl rfl)
theorem dX10_firstBits_146 : decode cX10_firstBits 146 = .ok (.lload 6, 2) := dk_22 6 (dk_at dksX10_firstBits_6 9 rfl rfl)
theorem dX10_firstBits_148 : decode cX10_firstBits 148 = .ok (.lcmp, 1) := dk_148 (dk_at dksX10_firstBits_6 11 rfl rfl)
theorem dX10_firstBits_149 : decode cX10_firstBits 149 = .ok (.ifCond .gt 26, 3) := dk_157 0 26 (dk_at dksX10_firstBits_6 12 rfl rfl)
theorem dX10_firstBits_152 : decode cX10_firstBits 152 = .ok (.ldc2_w 249, 3) := dk_20 0 249 (dk_at dksX10_firstBits_6 15 rfl rfl)
theorem dX10_firstBits_155 : decode cX10_firstBits 155 = .ok (.lload 10, 2) := dk_22 10 (dk_at dksX10_firstBits_6 18 rfl rfl)
theorem dX10_firstBits_157 : decode cX10_firstBits 157 = .ok (.lmul, 1) := dk_105 (dk_at dksX10_firstBits_6 20 rfl rfl)
theorem dX10_firstBits_158 : decode cX10_firstBits 158 = .ok (.lload 6, 2) := dk_22 6 (dk_at dksX10_firstBits_6 21 rfl rfl)
theorem dX10_firstBits_160 : decode cX10_firstBits 160 = .ok (.lcmp, 1) := dk_148 (dk_at dksX10_firstBits_6 23 rfl rfl)
theorem dX10_firstBits_161 : decode cX10_firstBits 161 = .ok (.ifCond .ne 20, 3) := dk_154 0 20 (dk_at dksX10_firstBits_7 0 rfl rfl)
theorem dX10_firstBits_164 : decode cX10_firstBits 164 = .ok (.lload 8, 2) := dk_22 8 (dk_at dksX10_firstBits_7 3 rfl rfl)
theorem dX10_firstBits_166 : decode cX10_firstBits 166 = .ok (.ldc2_w 249, 3) := dk_20 0 249 (dk_at dksX10_firstBits_7 5 rfl rfl)
theorem dX10_firstBits_169 : decode cX10_firstBits 169 = .ok (.lrem, 1) := dk_113 (dk_at dksX10_firstBits_7 8 rfl rfl)
theorem dX10_firstBits_170 : decode cX10_firstBits 170 = .ok (.lconst 1, 1) := dk_10 (dk_at dksX10_firstBits_7 9 rfl rfl)
theorem dX10_firstBits_171 : decode cX10_firstBits 171 = .ok (.lcmp, 1) := dk_148 (dk_at dksX10_firstBits_7 10 rfl rfl)
theorem dX10_firstBits_172 : decode cX10_firstBits 172 = .ok (.ifCond .ne 9, 3) := dk_154 0 9 (dk_at dksX10_firstBits_7 11 rfl rfl)
theorem dX10_firstBits_175 : decode cX10_firstBits 175 = .ok (.lload 8, 2) := dk_22 8 (dk_at dksX10_firstBits_7 14 rfl rfl)
theorem dX10_firstBits_177 : decode cX10_firstBits 177 = .ok (.lconst 1, 1) := dk_10 (dk_at dksX10_firstBits_7 16 rfl rfl)
theorem dX10_firstBits_178 : decode cX10_firstBits 178 = .ok (.ladd, 1) := dk_97 (dk_at dksX10_firstBits_7 17 rfl rfl)
theorem dX10_firstBits_179 : decode cX10_firstBits 179 = .ok (.lstore 8, 2) := dk_55 8 (dk_at dksX10_firstBits_7 18 rfl rfl)
theorem dX10_firstBits_181 : decode cX10_firstBits 181 = .ok (.lload 8, 2) := dk_22 8 (dk_at dksX10_firstBits_7 20 rfl rfl)
theorem dX10_firstBits_183 : decode cX10_firstBits 183 = .ok (.lconst 1, 1) := dk_10 (dk_at dksX10_firstBits_7 22 rfl rfl)
theorem dX10_firstBits_184 : decode cX10_firstBits 184 = .ok (.iload_n 3, 1) := dk_29 (dk_at dksX10_firstBits_7 23 rfl rfl)
theorem dX10_firstBits_185 : decode cX10_firstBits 185 = .ok (.lshl, 1) := dk_121 (dk_at dksX10_firstBits_8 0 rfl rfl)
theorem dX10_firstBits_186 : decode cX10_firstBits 186 = .ok (.lcmp, 1) := dk_148 (dk_at dksX10_firstBits_8 1 rfl rfl)
theorem dX10_firstBits_187 : decode cX10_firstBits 187 = .ok (.ifCond .ge 6, 3) := dk_156 0 6 (dk_at dksX10_firstBits_8 2 rfl rfl)
theorem dX10_firstBits_190 : decode cX10_firstBits 190 = .ok (.lload 8, 2) := dk_22 8 (dk_at dksX10_firstBits_8 5 rfl rfl)
theorem dX10_firstBits_192 : decode cX10_firstBits 192 = .ok (.lreturn, 1) := dk_173 (dk_at dksX10_firstBits_8 7 rfl rfl)
theorem dX10_firstBits_193 : decode cX10_firstBits 193 = .ok (.aload_n 0, 1) := dk_42 (dk_at dksX10_firstBits_8 8 rfl rfl)
theorem dX10_firstBits_194 : decode cX10_firstBits 194 = .ok (.dup, 1) := dk_89 (dk_at dksX10_firstBits_8 9 rfl rfl)
theorem dX10_firstBits_195 : decode cX10_firstBits 195 = .ok (.getfield 246, 3) := dk_180 0 246 (dk_at dksX10_firstBits_8 10 rfl rfl)
theorem dX10_firstBits_198 : decode cX10_firstBits 198 = .ok (.iconst 1, 1) := dk_4 (dk_at dksX10_firstBits_8 13 rfl rfl)
theorem dX10_firstBits_199 : decode cX10_firstBits 199 = .ok (.iadd, 1) := dk_96 (dk_at dksX10_firstBits_8 14 rfl rfl)
theorem dX10_firstBits_200 : decode cX10_firstBits 200 = .ok (.putfield 246, 3) := dk_181 0 246 (dk_at dksX10_firstBits_8 15 rfl rfl)
theorem dX10_firstBits_203 : decode cX10_firstBits 203 = .ok (.lload 8, 2) := dk_22 8 (dk_at dksX10_firstBits_8 18 rfl rfl)
theorem dX10_firstBits_205 : decode cX10_firstBits 205 = .ok (.ldc2_w 249, 3) := dk_20 0 249 (dk_at dksX10_firstBits_8 20 rfl rfl)
theorem dX10_firstBits_208 : decode cX10_firstBits 208 = .ok (.ldiv, 1) := dk_109 (dk_at dksX10_firstBits_8 23 rfl rfl)
theorem dX10_firstBits_209 : decode cX10_firstBits 209 = .ok (.lreturn, 1) := dk_173 (dk_at dksX10_firstBits_9 0 rfl rfl)
abbrev cX10_load : ByteArray := prog_23_method_65_code
def yX10_load : MethodName := ⟨RX10, "load", "(I)I"⟩
def dkwX10_load_1 : List UInt8 := [42, 27, 182, 0, 243, 104, 42, 27, 182, 0, 199, 182, 1, 4, 167, 0, 7, 42, 182, 0, 231, 172]
abbrev dktX10_load_1 : List UInt8 := dkwX10_load_1 ++ []
def dkwX10_load_0 : List UInt8 := [42, 3, 181, 0, 1, 42, 27, 182, 0, 215, 153, 0, 31, 42, 27, 182, 0, 199, 158, 0, 23, 42, 16, 32]
abbrev dktX10_load_0 : List UInt8 := dkwX10_load_0 ++ dktX10_load_1
theorem dksX10_load_0 : cX10_load.data.toList.drop 0 = dktX10_load_0 := by decide +kernel
theorem dksX10_load_1 : cX10_load.data.toList.drop 24 = dktX10_load_1 := dk_seg dksX10_load_0 24 rfl rfl
theorem dX10_load_0 : decode cX10_load 0 = .ok (.aload_n 0, 1) := dk_42 (dk_at dksX10_load_0 0 rfl rfl)
theorem dX10_load_1 : decode cX10_load 1 = .ok (.iconst 0, 1) := dk_3 (dk_at dksX10_load_0 1 rfl rfl)
theorem dX10_load_2 : decode cX10_load 2 = .ok (.putfield 1, 3) := dk_181 0 1 (dk_at dksX10_load_0 2 rfl rfl)
theorem dX10_load_5 : decode cX10_load 5 = .ok (.aload_n 0, 1) := dk_42 (dk_at dksX10_load_0 5 rfl rfl)
theorem dX10_load_6 : decode cX10_load 6 = .ok (.iload_n 1, 1) := dk_27 (dk_at dksX10_load_0 6 rfl rfl)
theorem dX10_load_7 : decode cX10_load 7 = .ok (.invokevirtual 215, 3) := dk_182 0 215 (dk_at dksX10_load_0 7 rfl rfl)
theorem dX10_load_10 : decode cX10_load 10 = .ok (.ifCond .eq 31, 3) := dk_153 0 31 (dk_at dksX10_load_0 10 rfl rfl)
theorem dX10_load_13 : decode cX10_load 13 = .ok (.aload_n 0, 1) := dk_42 (dk_at dksX10_load_0 13 rfl rfl)
theorem dX10_load_14 : decode cX10_load 14 = .ok (.iload_n 1, 1) := dk_27 (dk_at dksX10_load_0 14 rfl rfl)
theorem dX10_load_15 : decode cX10_load 15 = .ok (.invokevirtual 199, 3) := dk_182 0 199 (dk_at dksX10_load_0 15 rfl rfl)
theorem dX10_load_18 : decode cX10_load 18 = .ok (.ifCond .le 23, 3) := dk_158 0 23 (dk_at dksX10_load_0 18 rfl rfl)
theorem dX10_load_21 : decode cX10_load 21 = .ok (.aload_n 0, 1) := dk_42 (dk_at dksX10_load_0 21 rfl rfl)
theorem dX10_load_22 : decode cX10_load 22 = .ok (.bipush 32, 2) := dk_16 32 (dk_at dksX10_load_0 22 rfl rfl)
theorem dX10_load_24 : decode cX10_load 24 = .ok (.aload_n 0, 1) := dk_42 (dk_at dksX10_load_1 0 rfl rfl)
theorem dX10_load_25 : decode cX10_load 25 = .ok (.iload_n 1, 1) := dk_27 (dk_at dksX10_load_1 1 rfl rfl)
theorem dX10_load_26 : decode cX10_load 26 = .ok (.invokevirtual 243, 3) := dk_182 0 243 (dk_at dksX10_load_1 2 rfl rfl)
theorem dX10_load_29 : decode cX10_load 29 = .ok (.imul, 1) := dk_104 (dk_at dksX10_load_1 5 rfl rfl)
theorem dX10_load_30 : decode cX10_load 30 = .ok (.aload_n 0, 1) := dk_42 (dk_at dksX10_load_1 6 rfl rfl)
theorem dX10_load_31 : decode cX10_load 31 = .ok (.iload_n 1, 1) := dk_27 (dk_at dksX10_load_1 7 rfl rfl)
theorem dX10_load_32 : decode cX10_load 32 = .ok (.invokevirtual 199, 3) := dk_182 0 199 (dk_at dksX10_load_1 8 rfl rfl)
theorem dX10_load_35 : decode cX10_load 35 = .ok (.invokevirtual 260, 3) := dk_182 1 4 (dk_at dksX10_load_1 11 rfl rfl)
theorem dX10_load_38 : decode cX10_load 38 = .ok (.goto 7, 3) := dk_167 0 7 (dk_at dksX10_load_1 14 rfl rfl)
theorem dX10_load_41 : decode cX10_load 41 = .ok (.aload_n 0, 1) := dk_42 (dk_at dksX10_load_1 17 rfl rfl)
theorem dX10_load_42 : decode cX10_load 42 = .ok (.invokevirtual 231, 3) := dk_182 0 231 (dk_at dksX10_load_1 18 rfl rfl)
theorem dX10_load_45 : decode cX10_load 45 = .ok (.ireturn, 1) := dk_172 (dk_at dksX10_load_1 21 rfl rfl)
abbrev cX10_centre : ByteArray := prog_23_method_66_code
def yX10_centre : MethodName := ⟨RX10, "centre", "(II)I"⟩
def dkwX10_centre_4 : List UInt8 := [154, 0, 11, 22, 5, 16, 32, 123, 167, 0, 5, 22, 5, 136, 172]
abbrev dktX10_centre_4 : List UInt8 := dkwX10_centre_4 ++ []
def dkwX10_centre_3 : List UInt8 := [167, 255, 220, 29, 154, 0, 8, 42, 182, 0, 231, 172, 42, 21, 4, 29, 182, 1, 7, 55, 5, 28]
abbrev dktX10_centre_3 : List UInt8 := dkwX10_centre_3 ++ dktX10_centre_4
def dkwX10_centre_2 : List UInt8 := [21, 5, 182, 0, 212, 154, 0, 6, 167, 0, 13, 132, 3, 1, 21, 4, 21, 5, 96, 54, 4, 132, 5, 1]
abbrev dktX10_centre_2 : List UInt8 := dkwX10_centre_2 ++ dktX10_centre_3
def dkwX10_centre_1 : List UInt8 := [182, 0, 231, 172, 3, 62, 3, 54, 4, 3, 54, 5, 21, 5, 42, 27, 182, 0, 199, 162, 0, 32, 42, 27]
abbrev dktX10_centre_1 : List UInt8 := dkwX10_centre_1 ++ dktX10_centre_2
def dkwX10_centre_0 : List UInt8 := [42, 3, 181, 0, 1, 42, 27, 182, 0, 215, 153, 0, 12, 28, 3, 4, 184, 0, 75, 154, 0, 8, 42]
abbrev dktX10_centre_0 : List UInt8 := dkwX10_centre_0 ++ dktX10_centre_1
theorem dksX10_centre_0 : cX10_centre.data.toList.drop 0 = dktX10_centre_0 := by decide +kernel
theorem dksX10_centre_1 : cX10_centre.data.toList.drop 23 = dktX10_centre_1 := dk_seg dksX10_centre_0 23 rfl rfl
theorem dksX10_centre_2 : cX10_centre.data.toList.drop 47 = dktX10_centre_2 := dk_seg dksX10_centre_1 24 rfl rfl
theorem dksX10_centre_3 : cX10_centre.data.toList.drop 71 = dktX10_centre_3 := dk_seg dksX10_centre_2 24 rfl rfl
theorem dksX10_centre_4 : cX10_centre.data.toList.drop 93 = dktX10_centre_4 := dk_seg dksX10_centre_3 22 rfl rfl
theorem dX10_centre_0 : decode cX10_centre 0 = .ok (.aload_n 0, 1) := dk_42 (dk_at dksX10_centre_0 0 rfl rfl)
theorem dX10_centre_1 : decode cX10_centre 1 = .ok (.iconst 0, 1) := dk_3 (dk_at dksX10_centre_0 1 rfl rfl)
theorem dX10_centre_2 : decode cX10_centre 2 = .ok (.putfield 1, 3) := dk_181 0 1 (dk_at dksX10_centre_0 2 rfl rfl)
theorem dX10_centre_5 : decode cX10_centre 5 = .ok (.aload_n 0, 1) := dk_42 (dk_at dksX10_centre_0 5 rfl rfl)
theorem dX10_centre_6 : decode cX10_centre 6 = .ok (.iload_n 1, 1) := dk_27 (dk_at dksX10_centre_0 6 rfl rfl)
theorem dX10_centre_7 : decode cX10_centre 7 = .ok (.invokevirtual 215, 3) := dk_182 0 215 (dk_at dksX10_centre_0 7 rfl rfl)
theorem dX10_centre_10 : decode cX10_centre 10 = .ok (.ifCond .eq 12, 3) := dk_153 0 12 (dk_at dksX10_centre_0 10 rfl rfl)
theorem dX10_centre_13 : decode cX10_centre 13 = .ok (.iload_n 2, 1) := dk_28 (dk_at dksX10_centre_0 13 rfl rfl)
theorem dX10_centre_14 : decode cX10_centre 14 = .ok (.iconst 0, 1) := dk_3 (dk_at dksX10_centre_0 14 rfl rfl)
theorem dX10_centre_15 : decode cX10_centre 15 = .ok (.iconst 1, 1) := dk_4 (dk_at dksX10_centre_0 15 rfl rfl)
theorem dX10_centre_16 : decode cX10_centre 16 = .ok (.invokestatic 75, 3) := dk_184 0 75 (dk_at dksX10_centre_0 16 rfl rfl)
theorem dX10_centre_19 : decode cX10_centre 19 = .ok (.ifCond .ne 8, 3) := dk_154 0 8 (dk_at dksX10_centre_0 19 rfl rfl)
theorem dX10_centre_22 : decode cX10_centre 22 = .ok (.aload_n 0, 1) := dk_42 (dk_at dksX10_centre_0 22 rfl rfl)
theorem dX10_centre_23 : decode cX10_centre 23 = .ok (.invokevirtual 231, 3) := dk_182 0 231 (dk_at dksX10_centre_1 0 rfl rfl)
theorem dX10_centre_26 : decode cX10_centre 26 = .ok (.ireturn, 1) := dk_172 (dk_at dksX10_centre_1 3 rfl rfl)
theorem dX10_centre_27 : decode cX10_centre 27 = .ok (.iconst 0, 1) := dk_3 (dk_at dksX10_centre_1 4 rfl rfl)
theorem dX10_centre_28 : decode cX10_centre 28 = .ok (.istore_n 3, 1) := dk_62 (dk_at dksX10_centre_1 5 rfl rfl)
theorem dX10_centre_29 : decode cX10_centre 29 = .ok (.iconst 0, 1) := dk_3 (dk_at dksX10_centre_1 6 rfl rfl)
theorem dX10_centre_30 : decode cX10_centre 30 = .ok (.istore 4, 2) := dk_54 4 (dk_at dksX10_centre_1 7 rfl rfl)
theorem dX10_centre_32 : decode cX10_centre 32 = .ok (.iconst 0, 1) := dk_3 (dk_at dksX10_centre_1 9 rfl rfl)
theorem dX10_centre_33 : decode cX10_centre 33 = .ok (.istore 5, 2) := dk_54 5 (dk_at dksX10_centre_1 10 rfl rfl)
theorem dX10_centre_35 : decode cX10_centre 35 = .ok (.iload 5, 2) := dk_21 5 (dk_at dksX10_centre_1 12 rfl rfl)
theorem dX10_centre_37 : decode cX10_centre 37 = .ok (.aload_n 0, 1) := dk_42 (dk_at dksX10_centre_1 14 rfl rfl)
theorem dX10_centre_38 : decode cX10_centre 38 = .ok (.iload_n 1, 1) := dk_27 (dk_at dksX10_centre_1 15 rfl rfl)
theorem dX10_centre_39 : decode cX10_centre 39 = .ok (.invokevirtual 199, 3) := dk_182 0 199 (dk_at dksX10_centre_1 16 rfl rfl)
theorem dX10_centre_42 : decode cX10_centre 42 = .ok (.if_icmp .ge 32, 3) := dk_162 0 32 (dk_at dksX10_centre_1 19 rfl rfl)
theorem dX10_centre_45 : decode cX10_centre 45 = .ok (.aload_n 0, 1) := dk_42 (dk_at dksX10_centre_1 22 rfl rfl)
theorem dX10_centre_46 : decode cX10_centre 46 = .ok (.iload_n 1, 1) := dk_27 (dk_at dksX10_centre_1 23 rfl rfl)
theorem dX10_centre_47 : decode cX10_centre 47 = .ok (.iload 5, 2) := dk_21 5 (dk_at dksX10_centre_2 0 rfl rfl)
theorem dX10_centre_49 : decode cX10_centre 49 = .ok (.invokevirtual 212, 3) := dk_182 0 212 (dk_at dksX10_centre_2 2 rfl rfl)
theorem dX10_centre_52 : decode cX10_centre 52 = .ok (.ifCond .ne 6, 3) := dk_154 0 6 (dk_at dksX10_centre_2 5 rfl rfl)
theorem dX10_centre_55 : decode cX10_centre 55 = .ok (.goto 13, 3) := dk_167 0 13 (dk_at dksX10_centre_2 8 rfl rfl)
theorem dX10_centre_58 : decode cX10_centre 58 = .ok (.iinc 3 1, 3) := dk_132 3 1 (dk_at dksX10_centre_2 11 rfl rfl)
theorem dX10_centre_61 : decode cX10_centre 61 = .ok (.iload 4, 2) := dk_21 4 (dk_at dksX10_centre_2 14 rfl rfl)
theorem dX10_centre_63 : decode cX10_centre 63 = .ok (.iload 5, 2) := dk_21 5 (dk_at dksX10_centre_2 16 rfl rfl)
theorem dX10_centre_65 : decode cX10_centre 65 = .ok (.iadd, 1) := dk_96 (dk_at dksX10_centre_2 18 rfl rfl)
theorem dX10_centre_66 : decode cX10_centre 66 = .ok (.istore 4, 2) := dk_54 4 (dk_at dksX10_centre_2 19 rfl rfl)
theorem dX10_centre_68 : decode cX10_centre 68 = .ok (.iinc 5 1, 3) := dk_132 5 1 (dk_at dksX10_centre_2 21 rfl rfl)
theorem dX10_centre_71 : decode cX10_centre 71 = .ok (.goto (-36), 3) := dk_167 255 220 (dk_at dksX10_centre_3 0 rfl rfl)
theorem dX10_centre_74 : decode cX10_centre 74 = .ok (.iload_n 3, 1) := dk_29 (dk_at dksX10_centre_3 3 rfl rfl)
theorem dX10_centre_75 : decode cX10_centre 75 = .ok (.ifCond .ne 8, 3) := dk_154 0 8 (dk_at dksX10_centre_3 4 rfl rfl)
theorem dX10_centre_78 : decode cX10_centre 78 = .ok (.aload_n 0, 1) := dk_42 (dk_at dksX10_centre_3 7 rfl rfl)
theorem dX10_centre_79 : decode cX10_centre 79 = .ok (.invokevirtual 231, 3) := dk_182 0 231 (dk_at dksX10_centre_3 8 rfl rfl)
theorem dX10_centre_82 : decode cX10_centre 82 = .ok (.ireturn, 1) := dk_172 (dk_at dksX10_centre_3 11 rfl rfl)
theorem dX10_centre_83 : decode cX10_centre 83 = .ok (.aload_n 0, 1) := dk_42 (dk_at dksX10_centre_3 12 rfl rfl)
theorem dX10_centre_84 : decode cX10_centre 84 = .ok (.iload 4, 2) := dk_21 4 (dk_at dksX10_centre_3 13 rfl rfl)
theorem dX10_centre_86 : decode cX10_centre 86 = .ok (.iload_n 3, 1) := dk_29 (dk_at dksX10_centre_3 15 rfl rfl)
theorem dX10_centre_87 : decode cX10_centre 87 = .ok (.invokevirtual 263, 3) := dk_182 1 7 (dk_at dksX10_centre_3 16 rfl rfl)
theorem dX10_centre_90 : decode cX10_centre 90 = .ok (.lstore 5, 2) := dk_55 5 (dk_at dksX10_centre_3 19 rfl rfl)
theorem dX10_centre_92 : decode cX10_centre 92 = .ok (.iload_n 2, 1) := dk_28 (dk_at dksX10_centre_3 21 rfl rfl)
theorem dX10_centre_93 : decode cX10_centre 93 = .ok (.ifCond .ne 11, 3) := dk_154 0 11 (dk_at dksX10_centre_4 0 rfl rfl)
theorem dX10_centre_96 : decode cX10_centre 96 = .ok (.lload 5, 2) := dk_22 5 (dk_at dksX10_centre_4 3 rfl rfl)
theorem dX10_centre_98 : decode cX10_centre 98 = .ok (.bipush 32, 2) := dk_16 32 (dk_at dksX10_centre_4 5 rfl rfl)
theorem dX10_centre_100 : decode cX10_centre 100 = .ok (.lshr, 1) := dk_123 (dk_at dksX10_centre_4 7 rfl rfl)
theorem dX10_centre_101 : decode cX10_centre 101 = .ok (.goto 5, 3) := dk_167 0 5 (dk_at dksX10_centre_4 8 rfl rfl)
theorem dX10_centre_104 : decode cX10_centre 104 = .ok (.lload 5, 2) := dk_22 5 (dk_at dksX10_centre_4 11 rfl rfl)
theorem dX10_centre_106 : decode cX10_centre 106 = .ok (.l2i, 1) := dk_136 (dk_at dksX10_centre_4 13 rfl rfl)
theorem dX10_centre_107 : decode cX10_centre 107 = .ok (.ireturn, 1) := dk_172 (dk_at dksX10_centre_4 14 rfl rfl)
abbrev cX10_asDouble : ByteArray := prog_23_method_63_code
def yX10_asDouble : MethodName := ⟨RX10, "asDouble", "(II)J"⟩
def dkwX10_asDouble_1 : List UInt8 := [16, 52, 121, 33, 20, 1, 2, 101, 129, 173]
abbrev dktX10_asDouble_1 : List UInt8 := dkwX10_asDouble_1 ++ []
def dkwX10_asDouble_0 : List UInt8 := [27, 154, 0, 5, 9, 173, 42, 27, 28, 16, 53, 182, 0, 251, 66, 42, 180, 0, 246, 133, 20, 1, 0, 97]
abbrev dktX10_asDouble_0 : List UInt8 := dkwX10_asDouble_0 ++ dktX10_asDouble_1
theorem dksX10_asDouble_0 : cX10_asDouble.data.toList.drop 0 = dktX10_asDouble_0 := by decide +kernel
theorem dksX10_asDouble_1 : cX10_asDouble.data.toList.drop 24 = dktX10_asDouble_1 := dk_seg dksX10_asDouble_0 24 rfl rfl
theorem dX10_asDouble_0 : decode cX10_asDouble 0 = .ok (.iload_n 1, 1) := dk_27 (dk_at dksX10_asDouble_0 0 rfl rfl)
theorem dX10_asDouble_1 : decode cX10_asDouble 1 = .ok (.ifCond .ne 5, 3) := dk_154 0 5 (dk_at dksX10_asDouble_0 1 rfl rfl)
theorem dX10_asDouble_4 : decode cX10_asDouble 4 = .ok (.lconst 0, 1) := dk_9 (dk_at dksX10_asDouble_0 4 rfl rfl)
theorem dX10_asDouble_5 : decode cX10_asDouble 5 = .ok (.lreturn, 1) := dk_173 (dk_at dksX10_asDouble_0 5 rfl rfl)
theorem dX10_asDouble_6 : decode cX10_asDouble 6 = .ok (.aload_n 0, 1) := dk_42 (dk_at dksX10_asDouble_0 6 rfl rfl)
theorem dX10_asDouble_7 : decode cX10_asDouble 7 = .ok (.iload_n 1, 1) := dk_27 (dk_at dksX10_asDouble_0 7 rfl rfl)
theorem dX10_asDouble_8 : decode cX10_asDouble 8 = .ok (.iload_n 2, 1) := dk_28 (dk_at dksX10_asDouble_0 8 rfl rfl)
theorem dX10_asDouble_9 : decode cX10_asDouble 9 = .ok (.bipush 53, 2) := dk_16 53 (dk_at dksX10_asDouble_0 9 rfl rfl)
theorem dX10_asDouble_11 : decode cX10_asDouble 11 = .ok (.invokevirtual 251, 3) := dk_182 0 251 (dk_at dksX10_asDouble_0 11 rfl rfl)
theorem dX10_asDouble_14 : decode cX10_asDouble 14 = .ok (.lstore_n 3, 1) := dk_66 (dk_at dksX10_asDouble_0 14 rfl rfl)
theorem dX10_asDouble_15 : decode cX10_asDouble 15 = .ok (.aload_n 0, 1) := dk_42 (dk_at dksX10_asDouble_0 15 rfl rfl)
theorem dX10_asDouble_16 : decode cX10_asDouble 16 = .ok (.getfield 246, 3) := dk_180 0 246 (dk_at dksX10_asDouble_0 16 rfl rfl)
theorem dX10_asDouble_19 : decode cX10_asDouble 19 = .ok (.i2l, 1) := dk_133 (dk_at dksX10_asDouble_0 19 rfl rfl)
theorem dX10_asDouble_20 : decode cX10_asDouble 20 = .ok (.ldc2_w 256, 3) := dk_20 1 0 (dk_at dksX10_asDouble_0 20 rfl rfl)
theorem dX10_asDouble_23 : decode cX10_asDouble 23 = .ok (.ladd, 1) := dk_97 (dk_at dksX10_asDouble_0 23 rfl rfl)
theorem dX10_asDouble_24 : decode cX10_asDouble 24 = .ok (.bipush 52, 2) := dk_16 52 (dk_at dksX10_asDouble_1 0 rfl rfl)
theorem dX10_asDouble_26 : decode cX10_asDouble 26 = .ok (.lshl, 1) := dk_121 (dk_at dksX10_asDouble_1 2 rfl rfl)
theorem dX10_asDouble_27 : decode cX10_asDouble 27 = .ok (.lload_n 3, 1) := dk_33 (dk_at dksX10_asDouble_1 3 rfl rfl)
theorem dX10_asDouble_28 : decode cX10_asDouble 28 = .ok (.ldc2_w 258, 3) := dk_20 1 2 (dk_at dksX10_asDouble_1 4 rfl rfl)
theorem dX10_asDouble_31 : decode cX10_asDouble 31 = .ok (.lsub, 1) := dk_101 (dk_at dksX10_asDouble_1 7 rfl rfl)
theorem dX10_asDouble_32 : decode cX10_asDouble 32 = .ok (.lor, 1) := dk_129 (dk_at dksX10_asDouble_1 8 rfl rfl)
theorem dX10_asDouble_33 : decode cX10_asDouble 33 = .ok (.lreturn, 1) := dk_173 (dk_at dksX10_asDouble_1 9 rfl rfl)
abbrev cX10_apart : ByteArray := prog_23_method_68_code
def yX10_apart : MethodName := ⟨RX10, "apart", "(II)I"⟩
def dkwX10_apart_4 : List UInt8 := [28, 21, 4, 182, 0, 212, 159, 0, 6, 132, 3, 1, 132, 4, 1, 167, 255, 213, 29, 172]
abbrev dktX10_apart_4 : List UInt8 := dkwX10_apart_4 ++ []
def dkwX10_apart_3 : List UInt8 := [182, 0, 218, 153, 0, 39, 42, 28, 21, 4, 182, 0, 218, 153, 0, 29, 42, 27, 21, 4, 182, 0, 212, 42]
abbrev dktX10_apart_3 : List UInt8 := dkwX10_apart_3 ++ dktX10_apart_4
def dkwX10_apart_2 : List UInt8 := [167, 0, 14, 42, 28, 182, 0, 199, 42, 27, 182, 0, 199, 100, 62, 3, 54, 4, 42, 27, 21, 4]
abbrev dktX10_apart_2 : List UInt8 := dkwX10_apart_2 ++ dktX10_apart_3
def dkwX10_apart_1 : List UInt8 := [27, 182, 0, 199, 42, 28, 182, 0, 199, 164, 0, 17, 42, 27, 182, 0, 199, 42, 28, 182, 0, 199, 100]
abbrev dktX10_apart_1 : List UInt8 := dkwX10_apart_1 ++ dktX10_apart_2
def dkwX10_apart_0 : List UInt8 := [42, 3, 181, 0, 1, 42, 27, 182, 0, 215, 153, 0, 11, 42, 28, 182, 0, 215, 154, 0, 5, 2, 172, 42]
abbrev dktX10_apart_0 : List UInt8 := dkwX10_apart_0 ++ dktX10_apart_1
theorem dksX10_apart_0 : cX10_apart.data.toList.drop 0 = dktX10_apart_0 := by decide +kernel
theorem dksX10_apart_1 : cX10_apart.data.toList.drop 24 = dktX10_apart_1 := dk_seg dksX10_apart_0 24 rfl rfl
theorem dksX10_apart_2 : cX10_apart.data.toList.drop 47 = dktX10_apart_2 := dk_seg dksX10_apart_1 23 rfl rfl
theorem dksX10_apart_3 : cX10_apart.data.toList.drop 69 = dktX10_apart_3 := dk_seg dksX10_apart_2 22 rfl rfl
theorem dksX10_apart_4 : cX10_apart.data.toList.drop 93 = dktX10_apart_4 := dk_seg dksX10_apart_3 24 rfl rfl
theorem dX10_apart_0 : decode cX10_apart 0 = .ok (.aload_n 0, 1) := dk_42 (dk_at dksX10_apart_0 0 rfl rfl)
theorem dX10_apart_1 : decode cX10_apart 1 = .ok (.iconst 0, 1) := dk_3 (dk_at dksX10_apart_0 1 rfl rfl)
theorem dX10_apart_2 : decode cX10_apart 2 = .ok (.putfield 1, 3) := dk_181 0 1 (dk_at dksX10_apart_0 2 rfl rfl)
theorem dX10_apart_5 : decode cX10_apart 5 = .ok (.aload_n 0, 1) := dk_42 (dk_at dksX10_apart_0 5 rfl rfl)
theorem dX10_apart_6 : decode cX10_apart 6 = .ok (.iload_n 1, 1) := dk_27 (dk_at dksX10_apart_0 6 rfl rfl)
theorem dX10_apart_7 : decode cX10_apart 7 = .ok (.invokevirtual 215, 3) := dk_182 0 215 (dk_at dksX10_apart_0 7 rfl rfl)
theorem dX10_apart_10 : decode cX10_apart 10 = .ok (.ifCond .eq 11, 3) := dk_153 0 11 (dk_at dksX10_apart_0 10 rfl rfl)
theorem dX10_apart_13 : decode cX10_apart 13 = .ok (.aload_n 0, 1) := dk_42 (dk_at dksX10_apart_0 13 rfl rfl)
theorem dX10_apart_14 : decode cX10_apart 14 = .ok (.iload_n 2, 1) := dk_28 (dk_at dksX10_apart_0 14 rfl rfl)
theorem dX10_apart_15 : decode cX10_apart 15 = .ok (.invokevirtual 215, 3) := dk_182 0 215 (dk_at dksX10_apart_0 15 rfl rfl)
theorem dX10_apart_18 : decode cX10_apart 18 = .ok (.ifCond .ne 5, 3) := dk_154 0 5 (dk_at dksX10_apart_0 18 rfl rfl)
theorem dX10_apart_21 : decode cX10_apart 21 = .ok (.iconst (-1), 1) := dk_2 (dk_at dksX10_apart_0 21 rfl rfl)
theorem dX10_apart_22 : decode cX10_apart 22 = .ok (.ireturn, 1) := dk_172 (dk_at dksX10_apart_0 22 rfl rfl)
theorem dX10_apart_23 : decode cX10_apart 23 = .ok (.aload_n 0, 1) := dk_42 (dk_at dksX10_apart_0 23 rfl rfl)
theorem dX10_apart_24 : decode cX10_apart 24 = .ok (.iload_n 1, 1) := dk_27 (dk_at dksX10_apart_1 0 rfl rfl)
theorem dX10_apart_25 : decode cX10_apart 25 = .ok (.invokevirtual 199, 3) := dk_182 0 199 (dk_at dksX10_apart_1 1 rfl rfl)
theorem dX10_apart_28 : decode cX10_apart 28 = .ok (.aload_n 0, 1) := dk_42 (dk_at dksX10_apart_1 4 rfl rfl)
theorem dX10_apart_29 : decode cX10_apart 29 = .ok (.iload_n 2, 1) := dk_28 (dk_at dksX10_apart_1 5 rfl rfl)
theorem dX10_apart_30 : decode cX10_apart 30 = .ok (.invokevirtual 199, 3) := dk_182 0 199 (dk_at dksX10_apart_1 6 rfl rfl)
theorem dX10_apart_33 : decode cX10_apart 33 = .ok (.if_icmp .le 17, 3) := dk_164 0 17 (dk_at dksX10_apart_1 9 rfl rfl)
theorem dX10_apart_36 : decode cX10_apart 36 = .ok (.aload_n 0, 1) := dk_42 (dk_at dksX10_apart_1 12 rfl rfl)
theorem dX10_apart_37 : decode cX10_apart 37 = .ok (.iload_n 1, 1) := dk_27 (dk_at dksX10_apart_1 13 rfl rfl)
theorem dX10_apart_38 : decode cX10_apart 38 = .ok (.invokevirtual 199, 3) := dk_182 0 199 (dk_at dksX10_apart_1 14 rfl rfl)
theorem dX10_apart_41 : decode cX10_apart 41 = .ok (.aload_n 0, 1) := dk_42 (dk_at dksX10_apart_1 17 rfl rfl)
theorem dX10_apart_42 : decode cX10_apart 42 = .ok (.iload_n 2, 1) := dk_28 (dk_at dksX10_apart_1 18 rfl rfl)
theorem dX10_apart_43 : decode cX10_apart 43 = .ok (.invokevirtual 199, 3) := dk_182 0 199 (dk_at dksX10_apart_1 19 rfl rfl)
theorem dX10_apart_46 : decode cX10_apart 46 = .ok (.isub, 1) := dk_100 (dk_at dksX10_apart_1 22 rfl rfl)
theorem dX10_apart_47 : decode cX10_apart 47 = .ok (.goto 14, 3) := dk_167 0 14 (dk_at dksX10_apart_2 0 rfl rfl)
theorem dX10_apart_50 : decode cX10_apart 50 = .ok (.aload_n 0, 1) := dk_42 (dk_at dksX10_apart_2 3 rfl rfl)
theorem dX10_apart_51 : decode cX10_apart 51 = .ok (.iload_n 2, 1) := dk_28 (dk_at dksX10_apart_2 4 rfl rfl)
theorem dX10_apart_52 : decode cX10_apart 52 = .ok (.invokevirtual 199, 3) := dk_182 0 199 (dk_at dksX10_apart_2 5 rfl rfl)
theorem dX10_apart_55 : decode cX10_apart 55 = .ok (.aload_n 0, 1) := dk_42 (dk_at dksX10_apart_2 8 rfl rfl)
theorem dX10_apart_56 : decode cX10_apart 56 = .ok (.iload_n 1, 1) := dk_27 (dk_at dksX10_apart_2 9 rfl rfl)
theorem dX10_apart_57 : decode cX10_apart 57 = .ok (.invokevirtual 199, 3) := dk_182 0 199 (dk_at dksX10_apart_2 10 rfl rfl)
theorem dX10_apart_60 : decode cX10_apart 60 = .ok (.isub, 1) := dk_100 (dk_at dksX10_apart_2 13 rfl rfl)
theorem dX10_apart_61 : decode cX10_apart 61 = .ok (.istore_n 3, 1) := dk_62 (dk_at dksX10_apart_2 14 rfl rfl)
theorem dX10_apart_62 : decode cX10_apart 62 = .ok (.iconst 0, 1) := dk_3 (dk_at dksX10_apart_2 15 rfl rfl)
theorem dX10_apart_63 : decode cX10_apart 63 = .ok (.istore 4, 2) := dk_54 4 (dk_at dksX10_apart_2 16 rfl rfl)
theorem dX10_apart_65 : decode cX10_apart 65 = .ok (.aload_n 0, 1) := dk_42 (dk_at dksX10_apart_2 18 rfl rfl)
theorem dX10_apart_66 : decode cX10_apart 66 = .ok (.iload_n 1, 1) := dk_27 (dk_at dksX10_apart_2 19 rfl rfl)
theorem dX10_apart_67 : decode cX10_apart 67 = .ok (.iload 4, 2) := dk_21 4 (dk_at dksX10_apart_2 20 rfl rfl)
theorem dX10_apart_69 : decode cX10_apart 69 = .ok (.invokevirtual 218, 3) := dk_182 0 218 (dk_at dksX10_apart_3 0 rfl rfl)
theorem dX10_apart_72 : decode cX10_apart 72 = .ok (.ifCond .eq 39, 3) := dk_153 0 39 (dk_at dksX10_apart_3 3 rfl rfl)
theorem dX10_apart_75 : decode cX10_apart 75 = .ok (.aload_n 0, 1) := dk_42 (dk_at dksX10_apart_3 6 rfl rfl)
theorem dX10_apart_76 : decode cX10_apart 76 = .ok (.iload_n 2, 1) := dk_28 (dk_at dksX10_apart_3 7 rfl rfl)
theorem dX10_apart_77 : decode cX10_apart 77 = .ok (.iload 4, 2) := dk_21 4 (dk_at dksX10_apart_3 8 rfl rfl)
theorem dX10_apart_79 : decode cX10_apart 79 = .ok (.invokevirtual 218, 3) := dk_182 0 218 (dk_at dksX10_apart_3 10 rfl rfl)
theorem dX10_apart_82 : decode cX10_apart 82 = .ok (.ifCond .eq 29, 3) := dk_153 0 29 (dk_at dksX10_apart_3 13 rfl rfl)
theorem dX10_apart_85 : decode cX10_apart 85 = .ok (.aload_n 0, 1) := dk_42 (dk_at dksX10_apart_3 16 rfl rfl)
theorem dX10_apart_86 : decode cX10_apart 86 = .ok (.iload_n 1, 1) := dk_27 (dk_at dksX10_apart_3 17 rfl rfl)
theorem dX10_apart_87 : decode cX10_apart 87 = .ok (.iload 4, 2) := dk_21 4 (dk_at dksX10_apart_3 18 rfl rfl)
theorem dX10_apart_89 : decode cX10_apart 89 = .ok (.invokevirtual 212, 3) := dk_182 0 212 (dk_at dksX10_apart_3 20 rfl rfl)
theorem dX10_apart_92 : decode cX10_apart 92 = .ok (.aload_n 0, 1) := dk_42 (dk_at dksX10_apart_3 23 rfl rfl)
theorem dX10_apart_93 : decode cX10_apart 93 = .ok (.iload_n 2, 1) := dk_28 (dk_at dksX10_apart_4 0 rfl rfl)
theorem dX10_apart_94 : decode cX10_apart 94 = .ok (.iload 4, 2) := dk_21 4 (dk_at dksX10_apart_4 1 rfl rfl)
theorem dX10_apart_96 : decode cX10_apart 96 = .ok (.invokevirtual 212, 3) := dk_182 0 212 (dk_at dksX10_apart_4 3 rfl rfl)
theorem dX10_apart_99 : decode cX10_apart 99 = .ok (.if_icmp .eq 6, 3) := dk_159 0 6 (dk_at dksX10_apart_4 6 rfl rfl)
theorem dX10_apart_102 : decode cX10_apart 102 = .ok (.iinc 3 1, 3) := dk_132 3 1 (dk_at dksX10_apart_4 9 rfl rfl)
theorem dX10_apart_105 : decode cX10_apart 105 = .ok (.iinc 4 1, 3) := dk_132 4 1 (dk_at dksX10_apart_4 12 rfl rfl)
theorem dX10_apart_108 : decode cX10_apart 108 = .ok (.goto (-43), 3) := dk_167 255 213 (dk_at dksX10_apart_4 15 rfl rfl)
theorem dX10_apart_111 : decode cX10_apart 111 = .ok (.iload_n 3, 1) := dk_29 (dk_at dksX10_apart_4 18 rfl rfl)
theorem dX10_apart_112 : decode cX10_apart 112 = .ok (.ireturn, 1) := dk_172 (dk_at dksX10_apart_4 19 rfl rfl)
abbrev cX10_differ : ByteArray := prog_23_method_70_code
def yX10_differ : MethodName := ⟨RX10, "diffe\x72", "(II)I"⟩
def dkwX10_differ_1 : List UInt8 := [182, 1, 14, 154, 0, 12, 42, 27, 28, 182, 1, 11, 167, 0, 4, 2, 172]
abbrev dktX10_differ_1 : List UInt8 := dkwX10_differ_1 ++ []
def dkwX10_differ_0 : List UInt8 := [42, 3, 181, 0, 1, 42, 27, 182, 0, 215, 153, 0, 29, 42, 28, 182, 0, 215, 153, 0, 21, 42, 27, 28]
abbrev dktX10_differ_0 : List UInt8 := dkwX10_differ_0 ++ dktX10_differ_1
theorem dksX10_differ_0 : cX10_differ.data.toList.drop 0 = dktX10_differ_0 := by decide +kernel
theorem dksX10_differ_1 : cX10_differ.data.toList.drop 24 = dktX10_differ_1 := dk_seg dksX10_differ_0 24 rfl rfl
theorem dX10_differ_0 : decode cX10_differ 0 = .ok (.aload_n 0, 1) := dk_42 (dk_at dksX10_differ_0 0 rfl rfl)
theorem dX10_differ_1 : decode cX10_differ 1 = .ok (.iconst 0, 1) := dk_3 (dk_at dksX10_differ_0 1 rfl rfl)
theorem dX10_differ_2 : decode cX10_differ 2 = .ok (.putfield 1, 3) := dk_181 0 1 (dk_at dksX10_differ_0 2 rfl rfl)
theorem dX10_differ_5 : decode cX10_differ 5 = .ok (.aload_n 0, 1) := dk_42 (dk_at dksX10_differ_0 5 rfl rfl)
theorem dX10_differ_6 : decode cX10_differ 6 = .ok (.iload_n 1, 1) := dk_27 (dk_at dksX10_differ_0 6 rfl rfl)
theorem dX10_differ_7 : decode cX10_differ 7 = .ok (.invokevirtual 215, 3) := dk_182 0 215 (dk_at dksX10_differ_0 7 rfl rfl)
theorem dX10_differ_10 : decode cX10_differ 10 = .ok (.ifCond .eq 29, 3) := dk_153 0 29 (dk_at dksX10_differ_0 10 rfl rfl)
theorem dX10_differ_13 : decode cX10_differ 13 = .ok (.aload_n 0, 1) := dk_42 (dk_at dksX10_differ_0 13 rfl rfl)
theorem dX10_differ_14 : decode cX10_differ 14 = .ok (.iload_n 2, 1) := dk_28 (dk_at dksX10_differ_0 14 rfl rfl)
theorem dX10_differ_15 : decode cX10_differ 15 = .ok (.invokevirtual 215, 3) := dk_182 0 215 (dk_at dksX10_differ_0 15 rfl rfl)
theorem dX10_differ_18 : decode cX10_differ 18 = .ok (.ifCond .eq 21, 3) := dk_153 0 21 (dk_at dksX10_differ_0 18 rfl rfl)
theorem dX10_differ_21 : decode cX10_differ 21 = .ok (.aload_n 0, 1) := dk_42 (dk_at dksX10_differ_0 21 rfl rfl)
theorem dX10_differ_22 : decode cX10_differ 22 = .ok (.iload_n 1, 1) := dk_27 (dk_at dksX10_differ_0 22 rfl rfl)
theorem dX10_differ_23 : decode cX10_differ 23 = .ok (.iload_n 2, 1) := dk_28 (dk_at dksX10_differ_0 23 rfl rfl)
theorem dX10_differ_24 : decode cX10_differ 24 = .ok (.invokevirtual 270, 3) := dk_182 1 14 (dk_at dksX10_differ_1 0 rfl rfl)
theorem dX10_differ_27 : decode cX10_differ 27 = .ok (.ifCond .ne 12, 3) := dk_154 0 12 (dk_at dksX10_differ_1 3 rfl rfl)
theorem dX10_differ_30 : decode cX10_differ 30 = .ok (.aload_n 0, 1) := dk_42 (dk_at dksX10_differ_1 6 rfl rfl)
theorem dX10_differ_31 : decode cX10_differ 31 = .ok (.iload_n 1, 1) := dk_27 (dk_at dksX10_differ_1 7 rfl rfl)
theorem dX10_differ_32 : decode cX10_differ 32 = .ok (.iload_n 2, 1) := dk_28 (dk_at dksX10_differ_1 8 rfl rfl)
theorem dX10_differ_33 : decode cX10_differ 33 = .ok (.invokevirtual 267, 3) := dk_182 1 11 (dk_at dksX10_differ_1 9 rfl rfl)
theorem dX10_differ_36 : decode cX10_differ 36 = .ok (.goto 4, 3) := dk_167 0 4 (dk_at dksX10_differ_1 12 rfl rfl)
theorem dX10_differ_39 : decode cX10_differ 39 = .ok (.iconst (-1), 1) := dk_2 (dk_at dksX10_differ_1 15 rfl rfl)
theorem dX10_differ_40 : decode cX10_differ 40 = .ok (.ireturn, 1) := dk_172 (dk_at dksX10_differ_1 16 rfl rfl)
abbrev cX10_areLike : ByteArray := prog_23_method_69_code
def yX10_areLike : MethodName := ⟨RX10, "areLike", "(II)Z"⟩
def dkwX10_areLike_1 : List UInt8 := [160, 0, 7, 4, 167, 0, 4, 3, 172]
abbrev dktX10_areLike_1 : List UInt8 := dkwX10_areLike_1 ++ []
def dkwX10_areLike_0 : List UInt8 := [42, 27, 182, 0, 199, 42, 28, 182, 0, 199, 160, 0, 21, 42, 27, 28, 182, 1, 11, 42, 27, 182, 0, 199]
abbrev dktX10_areLike_0 : List UInt8 := dkwX10_areLike_0 ++ dktX10_areLike_1
theorem dksX10_areLike_0 : cX10_areLike.data.toList.drop 0 = dktX10_areLike_0 := by decide +kernel
theorem dksX10_areLike_1 : cX10_areLike.data.toList.drop 24 = dktX10_areLike_1 := dk_seg dksX10_areLike_0 24 rfl rfl
theorem dX10_areLike_0 : decode cX10_areLike 0 = .ok (.aload_n 0, 1) := dk_42 (dk_at dksX10_areLike_0 0 rfl rfl)
theorem dX10_areLike_1 : decode cX10_areLike 1 = .ok (.iload_n 1, 1) := dk_27 (dk_at dksX10_areLike_0 1 rfl rfl)
theorem dX10_areLike_2 : decode cX10_areLike 2 = .ok (.invokevirtual 199, 3) := dk_182 0 199 (dk_at dksX10_areLike_0 2 rfl rfl)
theorem dX10_areLike_5 : decode cX10_areLike 5 = .ok (.aload_n 0, 1) := dk_42 (dk_at dksX10_areLike_0 5 rfl rfl)
theorem dX10_areLike_6 : decode cX10_areLike 6 = .ok (.iload_n 2, 1) := dk_28 (dk_at dksX10_areLike_0 6 rfl rfl)
theorem dX10_areLike_7 : decode cX10_areLike 7 = .ok (.invokevirtual 199, 3) := dk_182 0 199 (dk_at dksX10_areLike_0 7 rfl rfl)
theorem dX10_areLike_10 : decode cX10_areLike 10 = .ok (.if_icmp .ne 21, 3) := dk_160 0 21 (dk_at dksX10_areLike_0 10 rfl rfl)
theorem dX10_areLike_13 : decode cX10_areLike 13 = .ok (.aload_n 0, 1) := dk_42 (dk_at dksX10_areLike_0 13 rfl rfl)
theorem dX10_areLike_14 : decode cX10_areLike 14 = .ok (.iload_n 1, 1) := dk_27 (dk_at dksX10_areLike_0 14 rfl rfl)
theorem dX10_areLike_15 : decode cX10_areLike 15 = .ok (.iload_n 2, 1) := dk_28 (dk_at dksX10_areLike_0 15 rfl rfl)
theorem dX10_areLike_16 : decode cX10_areLike 16 = .ok (.invokevirtual 267, 3) := dk_182 1 11 (dk_at dksX10_areLike_0 16 rfl rfl)
theorem dX10_areLike_19 : decode cX10_areLike 19 = .ok (.aload_n 0, 1) := dk_42 (dk_at dksX10_areLike_0 19 rfl rfl)
theorem dX10_areLike_20 : decode cX10_areLike 20 = .ok (.iload_n 1, 1) := dk_27 (dk_at dksX10_areLike_0 20 rfl rfl)
theorem dX10_areLike_21 : decode cX10_areLike 21 = .ok (.invokevirtual 199, 3) := dk_182 0 199 (dk_at dksX10_areLike_0 21 rfl rfl)
theorem dX10_areLike_24 : decode cX10_areLike 24 = .ok (.if_icmp .ne 7, 3) := dk_160 0 7 (dk_at dksX10_areLike_1 0 rfl rfl)
theorem dX10_areLike_27 : decode cX10_areLike 27 = .ok (.iconst 1, 1) := dk_4 (dk_at dksX10_areLike_1 3 rfl rfl)
theorem dX10_areLike_28 : decode cX10_areLike 28 = .ok (.goto 4, 3) := dk_167 0 4 (dk_at dksX10_areLike_1 4 rfl rfl)
theorem dX10_areLike_31 : decode cX10_areLike 31 = .ok (.iconst 0, 1) := dk_3 (dk_at dksX10_areLike_1 7 rfl rfl)
theorem dX10_areLike_32 : decode cX10_areLike 32 = .ok (.ireturn, 1) := dk_172 (dk_at dksX10_areLike_1 8 rfl rfl)
abbrev cX10_firstApart : ByteArray := prog_23_method_67_code
def yX10_firstApart : MethodName := ⟨RX10, "firstApart", "(II)I"⟩
def dkwX10_firstApart_1 : List UInt8 := [182, 0, 212, 42, 28, 29, 182, 0, 212, 160, 0, 9, 132, 3, 1, 167, 255, 220, 29, 172]
abbrev dktX10_firstApart_1 : List UInt8 := dkwX10_firstApart_1 ++ []
def dkwX10_firstApart_0 : List UInt8 := [3, 62, 42, 27, 29, 182, 0, 218, 153, 0, 33, 42, 28, 29, 182, 0, 218, 153, 0, 24, 42, 27, 29]
abbrev dktX10_firstApart_0 : List UInt8 := dkwX10_firstApart_0 ++ dktX10_firstApart_1
theorem dksX10_firstApart_0 : cX10_firstApart.data.toList.drop 0 = dktX10_firstApart_0 := by decide +kernel
theorem dksX10_firstApart_1 : cX10_firstApart.data.toList.drop 23 = dktX10_firstApart_1 := dk_seg dksX10_firstApart_0 23 rfl rfl
theorem dX10_firstApart_0 : decode cX10_firstApart 0 = .ok (.iconst 0, 1) := dk_3 (dk_at dksX10_firstApart_0 0 rfl rfl)
theorem dX10_firstApart_1 : decode cX10_firstApart 1 = .ok (.istore_n 3, 1) := dk_62 (dk_at dksX10_firstApart_0 1 rfl rfl)
theorem dX10_firstApart_2 : decode cX10_firstApart 2 = .ok (.aload_n 0, 1) := dk_42 (dk_at dksX10_firstApart_0 2 rfl rfl)
theorem dX10_firstApart_3 : decode cX10_firstApart 3 = .ok (.iload_n 1, 1) := dk_27 (dk_at dksX10_firstApart_0 3 rfl rfl)
theorem dX10_firstApart_4 : decode cX10_firstApart 4 = .ok (.iload_n 3, 1) := dk_29 (dk_at dksX10_firstApart_0 4 rfl rfl)
theorem dX10_firstApart_5 : decode cX10_firstApart 5 = .ok (.invokevirtual 218, 3) := dk_182 0 218 (dk_at dksX10_firstApart_0 5 rfl rfl)
theorem dX10_firstApart_8 : decode cX10_firstApart 8 = .ok (.ifCond .eq 33, 3) := dk_153 0 33 (dk_at dksX10_firstApart_0 8 rfl rfl)
theorem dX10_firstApart_11 : decode cX10_firstApart 11 = .ok (.aload_n 0, 1) := dk_42 (dk_at dksX10_firstApart_0 11 rfl rfl)
theorem dX10_firstApart_12 : decode cX10_firstApart 12 = .ok (.iload_n 2, 1) := dk_28 (dk_at dksX10_firstApart_0 12 rfl rfl)
theorem dX10_firstApart_13 : decode cX10_firstApart 13 = .ok (.iload_n 3, 1) := dk_29 (dk_at dksX10_firstApart_0 13 rfl rfl)
theorem dX10_firstApart_14 : decode cX10_firstApart 14 = .ok (.invokevirtual 218, 3) := dk_182 0 218 (dk_at dksX10_firstApart_0 14 rfl rfl)
theorem dX10_firstApart_17 : decode cX10_firstApart 17 = .ok (.ifCond .eq 24, 3) := dk_153 0 24 (dk_at dksX10_firstApart_0 17 rfl rfl)
theorem dX10_firstApart_20 : decode cX10_firstApart 20 = .ok (.aload_n 0, 1) := dk_42 (dk_at dksX10_firstApart_0 20 rfl rfl)
theorem dX10_firstApart_21 : decode cX10_firstApart 21 = .ok (.iload_n 1, 1) := dk_27 (dk_at dksX10_firstApart_0 21 rfl rfl)
theorem dX10_firstApart_22 : decode cX10_firstApart 22 = .ok (.iload_n 3, 1) := dk_29 (dk_at dksX10_firstApart_0 22 rfl rfl)
theorem dX10_firstApart_23 : decode cX10_firstApart 23 = .ok (.invokevirtual 212, 3) := dk_182 0 212 (dk_at dksX10_firstApart_1 0 rfl rfl)
theorem dX10_firstApart_26 : decode cX10_firstApart 26 = .ok (.aload_n 0, 1) := dk_42 (dk_at dksX10_firstApart_1 3 rfl rfl)
theorem dX10_firstApart_27 : decode cX10_firstApart 27 = .ok (.iload_n 2, 1) := dk_28 (dk_at dksX10_firstApart_1 4 rfl rfl)
theorem dX10_firstApart_28 : decode cX10_firstApart 28 = .ok (.iload_n 3, 1) := dk_29 (dk_at dksX10_firstApart_1 5 rfl rfl)
theorem dX10_firstApart_29 : decode cX10_firstApart 29 = .ok (.invokevirtual 212, 3) := dk_182 0 212 (dk_at dksX10_firstApart_1 6 rfl rfl)
theorem dX10_firstApart_32 : decode cX10_firstApart 32 = .ok (.if_icmp .ne 9, 3) := dk_160 0 9 (dk_at dksX10_firstApart_1 9 rfl rfl)
theorem dX10_firstApart_35 : decode cX10_firstApart 35 = .ok (.iinc 3 1, 3) := dk_132 3 1 (dk_at dksX10_firstApart_1 12 rfl rfl)
theorem dX10_firstApart_38 : decode cX10_firstApart 38 = .ok (.goto (-36), 3) := dk_167 255 220 (dk_at dksX10_firstApart_1 15 rfl rfl)
theorem dX10_firstApart_41 : decode cX10_firstApart 41 = .ok (.iload_n 3, 1) := dk_29 (dk_at dksX10_firstApart_1 18 rfl rfl)
theorem dX10_firstApart_42 : decode cX10_firstApart 42 = .ok (.ireturn, 1) := dk_172 (dk_at dksX10_firstApart_1 19 rfl rfl)
abbrev cX10_seek : ByteArray := prog_23_method_73_code
def yX10_seek : MethodName := ⟨RX10, "seek", "(I)I"⟩
def dkwX10_seek_3 : List UInt8 := [29, 79, 42, 89, 180, 1, 20, 4, 96, 181, 1, 20, 132, 3, 1, 167, 255, 209, 42, 180, 1, 20, 172]
abbrev dktX10_seek_3 : List UInt8 := dkwX10_seek_3 ++ []
def dkwX10_seek_2 : List UInt8 := [163, 0, 42, 42, 27, 29, 28, 182, 1, 23, 154, 0, 6, 167, 0, 23, 42, 180, 0, 130, 42, 180, 1, 20]
abbrev dktX10_seek_2 : List UInt8 := dkwX10_seek_2 ++ dktX10_seek_3
def dkwX10_seek_1 : List UInt8 := [182, 1, 17, 154, 0, 5, 2, 172, 42, 3, 181, 1, 20, 3, 62, 29, 28, 96, 42, 27, 182, 0, 199]
abbrev dktX10_seek_1 : List UInt8 := dkwX10_seek_1 ++ dktX10_seek_2
def dkwX10_seek_0 : List UInt8 := [42, 3, 181, 0, 1, 42, 182, 0, 89, 61, 42, 27, 182, 0, 215, 153, 0, 13, 42, 28, 16, 32]
abbrev dktX10_seek_0 : List UInt8 := dkwX10_seek_0 ++ dktX10_seek_1
theorem dksX10_seek_0 : cX10_seek.data.toList.drop 0 = dktX10_seek_0 := by decide +kernel
theorem dksX10_seek_1 : cX10_seek.data.toList.drop 22 = dktX10_seek_1 := dk_seg dksX10_seek_0 22 rfl rfl
theorem dksX10_seek_2 : cX10_seek.data.toList.drop 45 = dktX10_seek_2 := dk_seg dksX10_seek_1 23 rfl rfl
theorem dksX10_seek_3 : cX10_seek.data.toList.drop 69 = dktX10_seek_3 := dk_seg dksX10_seek_2 24 rfl rfl
theorem dX10_seek_0 : decode cX10_seek 0 = .ok (.aload_n 0, 1) := dk_42 (dk_at dksX10_seek_0 0 rfl rfl)
theorem dX10_seek_1 : decode cX10_seek 1 = .ok (.iconst 0, 1) := dk_3 (dk_at dksX10_seek_0 1 rfl rfl)
theorem dX10_seek_2 : decode cX10_seek 2 = .ok (.putfield 1, 3) := dk_181 0 1 (dk_at dksX10_seek_0 2 rfl rfl)
theorem dX10_seek_5 : decode cX10_seek 5 = .ok (.aload_n 0, 1) := dk_42 (dk_at dksX10_seek_0 5 rfl rfl)
theorem dX10_seek_6 : decode cX10_seek 6 = .ok (.invokevirtual 89, 3) := dk_182 0 89 (dk_at dksX10_seek_0 6 rfl rfl)
theorem dX10_seek_9 : decode cX10_seek 9 = .ok (.istore_n 2, 1) := dk_61 (dk_at dksX10_seek_0 9 rfl rfl)
theorem dX10_seek_10 : decode cX10_seek 10 = .ok (.aload_n 0, 1) := dk_42 (dk_at dksX10_seek_0 10 rfl rfl)
theorem dX10_seek_11 : decode cX10_seek 11 = .ok (.iload_n 1, 1) := dk_27 (dk_at dksX10_seek_0 11 rfl rfl)
theorem dX10_seek_12 : decode cX10_seek 12 = .ok (.invokevirtual 215, 3) := dk_182 0 215 (dk_at dksX10_seek_0 12 rfl rfl)
theorem dX10_seek_15 : decode cX10_seek 15 = .ok (.ifCond .eq 13, 3) := dk_153 0 13 (dk_at dksX10_seek_0 15 rfl rfl)
theorem dX10_seek_18 : decode cX10_seek 18 = .ok (.aload_n 0, 1) := dk_42 (dk_at dksX10_seek_0 18 rfl rfl)
theorem dX10_seek_19 : decode cX10_seek 19 = .ok (.iload_n 2, 1) := dk_28 (dk_at dksX10_seek_0 19 rfl rfl)
theorem dX10_seek_20 : decode cX10_seek 20 = .ok (.bipush 32, 2) := dk_16 32 (dk_at dksX10_seek_0 20 rfl rfl)
theorem dX10_seek_22 : decode cX10_seek 22 = .ok (.invokevirtual 273, 3) := dk_182 1 17 (dk_at dksX10_seek_1 0 rfl rfl)
theorem dX10_seek_25 : decode cX10_seek 25 = .ok (.ifCond .ne 5, 3) := dk_154 0 5 (dk_at dksX10_seek_1 3 rfl rfl)
theorem dX10_seek_28 : decode cX10_seek 28 = .ok (.iconst (-1), 1) := dk_2 (dk_at dksX10_seek_1 6 rfl rfl)
theorem dX10_seek_29 : decode cX10_seek 29 = .ok (.ireturn, 1) := dk_172 (dk_at dksX10_seek_1 7 rfl rfl)
theorem dX10_seek_30 : decode cX10_seek 30 = .ok (.aload_n 0, 1) := dk_42 (dk_at dksX10_seek_1 8 rfl rfl)
theorem dX10_seek_31 : decode cX10_seek 31 = .ok (.iconst 0, 1) := dk_3 (dk_at dksX10_seek_1 9 rfl rfl)
theorem dX10_seek_32 : decode cX10_seek 32 = .ok (.putfield 276, 3) := dk_181 1 20 (dk_at dksX10_seek_1 10 rfl rfl)
theorem dX10_seek_35 : decode cX10_seek 35 = .ok (.iconst 0, 1) := dk_3 (dk_at dksX10_seek_1 13 rfl rfl)
theorem dX10_seek_36 : decode cX10_seek 36 = .ok (.istore_n 3, 1) := dk_62 (dk_at dksX10_seek_1 14 rfl rfl)
theorem dX10_seek_37 : decode cX10_seek 37 = .ok (.iload_n 3, 1) := dk_29 (dk_at dksX10_seek_1 15 rfl rfl)
theorem dX10_seek_38 : decode cX10_seek 38 = .ok (.iload_n 2, 1) := dk_28 (dk_at dksX10_seek_1 16 rfl rfl)
theorem dX10_seek_39 : decode cX10_seek 39 = .ok (.iadd, 1) := dk_96 (dk_at dksX10_seek_1 17 rfl rfl)
theorem dX10_seek_40 : decode cX10_seek 40 = .ok (.aload_n 0, 1) := dk_42 (dk_at dksX10_seek_1 18 rfl rfl)
theorem dX10_seek_41 : decode cX10_seek 41 = .ok (.iload_n 1, 1) := dk_27 (dk_at dksX10_seek_1 19 rfl rfl)
theorem dX10_seek_42 : decode cX10_seek 42 = .ok (.invokevirtual 199, 3) := dk_182 0 199 (dk_at dksX10_seek_1 20 rfl rfl)
theorem dX10_seek_45 : decode cX10_seek 45 = .ok (.if_icmp .gt 42, 3) := dk_163 0 42 (dk_at dksX10_seek_2 0 rfl rfl)
theorem dX10_seek_48 : decode cX10_seek 48 = .ok (.aload_n 0, 1) := dk_42 (dk_at dksX10_seek_2 3 rfl rfl)
theorem dX10_seek_49 : decode cX10_seek 49 = .ok (.iload_n 1, 1) := dk_27 (dk_at dksX10_seek_2 4 rfl rfl)
theorem dX10_seek_50 : decode cX10_seek 50 = .ok (.iload_n 3, 1) := dk_29 (dk_at dksX10_seek_2 5 rfl rfl)
theorem dX10_seek_51 : decode cX10_seek 51 = .ok (.iload_n 2, 1) := dk_28 (dk_at dksX10_seek_2 6 rfl rfl)
theorem dX10_seek_52 : decode cX10_seek 52 = .ok (.invokevirtual 279, 3) := dk_182 1 23 (dk_at dksX10_seek_2 7 rfl rfl)
theorem dX10_seek_55 : decode cX10_seek 55 = .ok (.ifCond .ne 6, 3) := dk_154 0 6 (dk_at dksX10_seek_2 10 rfl rfl)
theorem dX10_seek_58 : decode cX10_seek 58 = .ok (.goto 23, 3) := dk_167 0 23 (dk_at dksX10_seek_2 13 rfl rfl)
theorem dX10_seek_61 : decode cX10_seek 61 = .ok (.aload_n 0, 1) := dk_42 (dk_at dksX10_seek_2 16 rfl rfl)
theorem dX10_seek_62 : decode cX10_seek 62 = .ok (.getfield 130, 3) := dk_180 0 130 (dk_at dksX10_seek_2 17 rfl rfl)
theorem dX10_seek_65 : decode cX10_seek 65 = .ok (.aload_n 0, 1) := dk_42 (dk_at dksX10_seek_2 20 rfl rfl)
theorem dX10_seek_66 : decode cX10_seek 66 = .ok (.getfield 276, 3) := dk_180 1 20 (dk_at dksX10_seek_2 21 rfl rfl)
theorem dX10_seek_69 : decode cX10_seek 69 = .ok (.iload_n 3, 1) := dk_29 (dk_at dksX10_seek_3 0 rfl rfl)
theorem dX10_seek_70 : decode cX10_seek 70 = .ok (.iastore, 1) := dk_79 (dk_at dksX10_seek_3 1 rfl rfl)
theorem dX10_seek_71 : decode cX10_seek 71 = .ok (.aload_n 0, 1) := dk_42 (dk_at dksX10_seek_3 2 rfl rfl)
theorem dX10_seek_72 : decode cX10_seek 72 = .ok (.dup, 1) := dk_89 (dk_at dksX10_seek_3 3 rfl rfl)
theorem dX10_seek_73 : decode cX10_seek 73 = .ok (.getfield 276, 3) := dk_180 1 20 (dk_at dksX10_seek_3 4 rfl rfl)
theorem dX10_seek_76 : decode cX10_seek 76 = .ok (.iconst 1, 1) := dk_4 (dk_at dksX10_seek_3 7 rfl rfl)
theorem dX10_seek_77 : decode cX10_seek 77 = .ok (.iadd, 1) := dk_96 (dk_at dksX10_seek_3 8 rfl rfl)
theorem dX10_seek_78 : decode cX10_seek 78 = .ok (.putfield 276, 3) := dk_181 1 20 (dk_at dksX10_seek_3 9 rfl rfl)
theorem dX10_seek_81 : decode cX10_seek 81 = .ok (.iinc 3 1, 3) := dk_132 3 1 (dk_at dksX10_seek_3 12 rfl rfl)
theorem dX10_seek_84 : decode cX10_seek 84 = .ok (.goto (-47), 3) := dk_167 255 209 (dk_at dksX10_seek_3 15 rfl rfl)
theorem dX10_seek_87 : decode cX10_seek 87 = .ok (.aload_n 0, 1) := dk_42 (dk_at dksX10_seek_3 18 rfl rfl)
theorem dX10_seek_88 : decode cX10_seek 88 = .ok (.getfield 276, 3) := dk_180 1 20 (dk_at dksX10_seek_3 19 rfl rfl)
theorem dX10_seek_91 : decode cX10_seek 91 = .ok (.ireturn, 1) := dk_172 (dk_at dksX10_seek_3 22 rfl rfl)
abbrev cX10_areTapeBits : ByteArray := prog_23_method_72_code
def yX10_areTapeBits : MethodName := ⟨RX10, "areTapeBits", "(II)Z"⟩
def dkwX10_areTapeBits_1 : List UInt8 := [167, 255, 236, 27, 4, 28, 184, 0, 75, 172]
abbrev dktX10_areTapeBits_1 : List UInt8 := dkwX10_areTapeBits_1 ++ []
def dkwX10_areTapeBits_0 : List UInt8 := [3, 62, 29, 27, 162, 0, 21, 42, 180, 0, 7, 29, 46, 4, 164, 0, 5, 3, 172, 132, 3, 1]
abbrev dktX10_areTapeBits_0 : List UInt8 := dkwX10_areTapeBits_0 ++ dktX10_areTapeBits_1
theorem dksX10_areTapeBits_0 : cX10_areTapeBits.data.toList.drop 0 = dktX10_areTapeBits_0 := by decide +kernel
theorem dksX10_areTapeBits_1 : cX10_areTapeBits.data.toList.drop 22 = dktX10_areTapeBits_1 := dk_seg dksX10_areTapeBits_0 22 rfl rfl
theorem dX10_areTapeBits_0 : decode cX10_areTapeBits 0 = .ok (.iconst 0, 1) := dk_3 (dk_at dksX10_areTapeBits_0 0 rfl rfl)
theorem dX10_areTapeBits_1 : decode cX10_areTapeBits 1 = .ok (.istore_n 3, 1) := dk_62 (dk_at dksX10_areTapeBits_0 1 rfl rfl)
theorem dX10_areTapeBits_2 : decode cX10_areTapeBits 2 = .ok (.iload_n 3, 1) := dk_29 (dk_at dksX10_areTapeBits_0 2 rfl rfl)
theorem dX10_areTapeBits_3 : decode cX10_areTapeBits 3 = .ok (.iload_n 1, 1) := dk_27 (dk_at dksX10_areTapeBits_0 3 rfl rfl)
theorem dX10_areTapeBits_4 : decode cX10_areTapeBits 4 = .ok (.if_icmp .ge 21, 3) := dk_162 0 21 (dk_at dksX10_areTapeBits_0 4 rfl rfl)
theorem dX10_areTapeBits_7 : decode cX10_areTapeBits 7 = .ok (.aload_n 0, 1) := dk_42 (dk_at dksX10_areTapeBits_0 7 rfl rfl)
theorem dX10_areTapeBits_8 : decode cX10_areTapeBits 8 = .ok (.getfield 7, 3) := dk_180 0 7 (dk_at dksX10_areTapeBits_0 8 rfl rfl)
theorem dX10_areTapeBits_11 : decode cX10_areTapeBits 11 = .ok (.iload_n 3, 1) := dk_29 (dk_at dksX10_areTapeBits_0 11 rfl rfl)
theorem dX10_areTapeBits_12 : decode cX10_areTapeBits 12 = .ok (.iaload, 1) := dk_46 (dk_at dksX10_areTapeBits_0 12 rfl rfl)
theorem dX10_areTapeBits_13 : decode cX10_areTapeBits 13 = .ok (.iconst 1, 1) := dk_4 (dk_at dksX10_areTapeBits_0 13 rfl rfl)
theorem dX10_areTapeBits_14 : decode cX10_areTapeBits 14 = .ok (.if_icmp .le 5, 3) := dk_164 0 5 (dk_at dksX10_areTapeBits_0 14 rfl rfl)
theorem dX10_areTapeBits_17 : decode cX10_areTapeBits 17 = .ok (.iconst 0, 1) := dk_3 (dk_at dksX10_areTapeBits_0 17 rfl rfl)
theorem dX10_areTapeBits_18 : decode cX10_areTapeBits 18 = .ok (.ireturn, 1) := dk_172 (dk_at dksX10_areTapeBits_0 18 rfl rfl)
theorem dX10_areTapeBits_19 : decode cX10_areTapeBits 19 = .ok (.iinc 3 1, 3) := dk_132 3 1 (dk_at dksX10_areTapeBits_0 19 rfl rfl)
theorem dX10_areTapeBits_22 : decode cX10_areTapeBits 22 = .ok (.goto (-20), 3) := dk_167 255 236 (dk_at dksX10_areTapeBits_1 0 rfl rfl)
theorem dX10_areTapeBits_25 : decode cX10_areTapeBits 25 = .ok (.iload_n 1, 1) := dk_27 (dk_at dksX10_areTapeBits_1 3 rfl rfl)
theorem dX10_areTapeBits_26 : decode cX10_areTapeBits 26 = .ok (.iconst 1, 1) := dk_4 (dk_at dksX10_areTapeBits_1 4 rfl rfl)
theorem dX10_areTapeBits_27 : decode cX10_areTapeBits 27 = .ok (.iload_n 2, 1) := dk_28 (dk_at dksX10_areTapeBits_1 5 rfl rfl)
theorem dX10_areTapeBits_28 : decode cX10_areTapeBits 28 = .ok (.invokestatic 75, 3) := dk_184 0 75 (dk_at dksX10_areTapeBits_1 6 rfl rfl)
theorem dX10_areTapeBits_31 : decode cX10_areTapeBits 31 = .ok (.ireturn, 1) := dk_172 (dk_at dksX10_areTapeBits_1 9 rfl rfl)
abbrev cX10_isOnTape : ByteArray := prog_23_method_71_code
def yX10_isOnTape : MethodName := ⟨RX10, "isOnTape", "(III)Z"⟩
def dkwX10_isOnTape_1 : List UInt8 := [46, 159, 0, 5, 3, 172, 132, 4, 1, 167, 255, 226, 4, 172]
abbrev dktX10_isOnTape_1 : List UInt8 := dkwX10_isOnTape_1 ++ []
def dkwX10_isOnTape_0 : List UInt8 := [3, 54, 4, 21, 4, 29, 162, 0, 30, 42, 27, 28, 21, 4, 96, 182, 0, 212, 42, 180, 0, 7, 21, 4]
abbrev dktX10_isOnTape_0 : List UInt8 := dkwX10_isOnTape_0 ++ dktX10_isOnTape_1
theorem dksX10_isOnTape_0 : cX10_isOnTape.data.toList.drop 0 = dktX10_isOnTape_0 := by decide +kernel
theorem dksX10_isOnTape_1 : cX10_isOnTape.data.toList.drop 24 = dktX10_isOnTape_1 := dk_seg dksX10_isOnTape_0 24 rfl rfl
theorem dX10_isOnTape_0 : decode cX10_isOnTape 0 = .ok (.iconst 0, 1) := dk_3 (dk_at dksX10_isOnTape_0 0 rfl rfl)
theorem dX10_isOnTape_1 : decode cX10_isOnTape 1 = .ok (.istore 4, 2) := dk_54 4 (dk_at dksX10_isOnTape_0 1 rfl rfl)
theorem dX10_isOnTape_3 : decode cX10_isOnTape 3 = .ok (.iload 4, 2) := dk_21 4 (dk_at dksX10_isOnTape_0 3 rfl rfl)
theorem dX10_isOnTape_5 : decode cX10_isOnTape 5 = .ok (.iload_n 3, 1) := dk_29 (dk_at dksX10_isOnTape_0 5 rfl rfl)
theorem dX10_isOnTape_6 : decode cX10_isOnTape 6 = .ok (.if_icmp .ge 30, 3) := dk_162 0 30 (dk_at dksX10_isOnTape_0 6 rfl rfl)
theorem dX10_isOnTape_9 : decode cX10_isOnTape 9 = .ok (.aload_n 0, 1) := dk_42 (dk_at dksX10_isOnTape_0 9 rfl rfl)
theorem dX10_isOnTape_10 : decode cX10_isOnTape 10 = .ok (.iload_n 1, 1) := dk_27 (dk_at dksX10_isOnTape_0 10 rfl rfl)
theorem dX10_isOnTape_11 : decode cX10_isOnTape 11 = .ok (.iload_n 2, 1) := dk_28 (dk_at dksX10_isOnTape_0 11 rfl rfl)
theorem dX10_isOnTape_12 : decode cX10_isOnTape 12 = .ok (.iload 4, 2) := dk_21 4 (dk_at dksX10_isOnTape_0 12 rfl rfl)
theorem dX10_isOnTape_14 : decode cX10_isOnTape 14 = .ok (.iadd, 1) := dk_96 (dk_at dksX10_isOnTape_0 14 rfl rfl)
theorem dX10_isOnTape_15 : decode cX10_isOnTape 15 = .ok (.invokevirtual 212, 3) := dk_182 0 212 (dk_at dksX10_isOnTape_0 15 rfl rfl)
theorem dX10_isOnTape_18 : decode cX10_isOnTape 18 = .ok (.aload_n 0, 1) := dk_42 (dk_at dksX10_isOnTape_0 18 rfl rfl)
theorem dX10_isOnTape_19 : decode cX10_isOnTape 19 = .ok (.getfield 7, 3) := dk_180 0 7 (dk_at dksX10_isOnTape_0 19 rfl rfl)
theorem dX10_isOnTape_22 : decode cX10_isOnTape 22 = .ok (.iload 4, 2) := dk_21 4 (dk_at dksX10_isOnTape_0 22 rfl rfl)
theorem dX10_isOnTape_24 : decode cX10_isOnTape 24 = .ok (.iaload, 1) := dk_46 (dk_at dksX10_isOnTape_1 0 rfl rfl)
theorem dX10_isOnTape_25 : decode cX10_isOnTape 25 = .ok (.if_icmp .eq 5, 3) := dk_159 0 5 (dk_at dksX10_isOnTape_1 1 rfl rfl)
theorem dX10_isOnTape_28 : decode cX10_isOnTape 28 = .ok (.iconst 0, 1) := dk_3 (dk_at dksX10_isOnTape_1 4 rfl rfl)
theorem dX10_isOnTape_29 : decode cX10_isOnTape 29 = .ok (.ireturn, 1) := dk_172 (dk_at dksX10_isOnTape_1 5 rfl rfl)
theorem dX10_isOnTape_30 : decode cX10_isOnTape 30 = .ok (.iinc 4 1, 3) := dk_132 4 1 (dk_at dksX10_isOnTape_1 6 rfl rfl)
theorem dX10_isOnTape_33 : decode cX10_isOnTape 33 = .ok (.goto (-30), 3) := dk_167 255 226 (dk_at dksX10_isOnTape_1 9 rfl rfl)
theorem dX10_isOnTape_36 : decode cX10_isOnTape 36 = .ok (.iconst 1, 1) := dk_4 (dk_at dksX10_isOnTape_1 12 rfl rfl)
theorem dX10_isOnTape_37 : decode cX10_isOnTape 37 = .ok (.ireturn, 1) := dk_172 (dk_at dksX10_isOnTape_1 13 rfl rfl)
abbrev cX10_seekAt : ByteArray := prog_23_method_74_code
def yX10_seekAt : MethodName := ⟨RX10, "seekAt", "(I)I"⟩
def dkwX10_seekAt_1 : List UInt8 := [46, 167, 0, 4, 2, 172]
abbrev dktX10_seekAt_1 : List UInt8 := dkwX10_seekAt_1 ++ []
def dkwX10_seekAt_0 : List UInt8 := [42, 3, 181, 0, 1, 27, 3, 42, 180, 1, 20, 4, 100, 184, 0, 75, 153, 0, 12, 42, 180, 0, 130, 27]
abbrev dktX10_seekAt_0 : List UInt8 := dkwX10_seekAt_0 ++ dktX10_seekAt_1
theorem dksX10_seekAt_0 : cX10_seekAt.data.toList.drop 0 = dktX10_seekAt_0 := by decide +kernel
theorem dksX10_seekAt_1 : cX10_seekAt.data.toList.drop 24 = dktX10_seekAt_1 := dk_seg dksX10_seekAt_0 24 rfl rfl
theorem dX10_seekAt_0 : decode cX10_seekAt 0 = .ok (.aload_n 0, 1) := dk_42 (dk_at dksX10_seekAt_0 0 rfl rfl)
theorem dX10_seekAt_1 : decode cX10_seekAt 1 = .ok (.iconst 0, 1) := dk_3 (dk_at dksX10_seekAt_0 1 rfl rfl)
theorem dX10_seekAt_2 : decode cX10_seekAt 2 = .ok (.putfield 1, 3) := dk_181 0 1 (dk_at dksX10_seekAt_0 2 rfl rfl)
theorem dX10_seekAt_5 : decode cX10_seekAt 5 = .ok (.iload_n 1, 1) := dk_27 (dk_at dksX10_seekAt_0 5 rfl rfl)
theorem dX10_seekAt_6 : decode cX10_seekAt 6 = .ok (.iconst 0, 1) := dk_3 (dk_at dksX10_seekAt_0 6 rfl rfl)
theorem dX10_seekAt_7 : decode cX10_seekAt 7 = .ok (.aload_n 0, 1) := dk_42 (dk_at dksX10_seekAt_0 7 rfl rfl)
theorem dX10_seekAt_8 : decode cX10_seekAt 8 = .ok (.getfield 276, 3) := dk_180 1 20 (dk_at dksX10_seekAt_0 8 rfl rfl)
theorem dX10_seekAt_11 : decode cX10_seekAt 11 = .ok (.iconst 1, 1) := dk_4 (dk_at dksX10_seekAt_0 11 rfl rfl)
theorem dX10_seekAt_12 : decode cX10_seekAt 12 = .ok (.isub, 1) := dk_100 (dk_at dksX10_seekAt_0 12 rfl rfl)
theorem dX10_seekAt_13 : decode cX10_seekAt 13 = .ok (.invokestatic 75, 3) := dk_184 0 75 (dk_at dksX10_seekAt_0 13 rfl rfl)
theorem dX10_seekAt_16 : decode cX10_seekAt 16 = .ok (.ifCond .eq 12, 3) := dk_153 0 12 (dk_at dksX10_seekAt_0 16 rfl rfl)
theorem dX10_seekAt_19 : decode cX10_seekAt 19 = .ok (.aload_n 0, 1) := dk_42 (dk_at dksX10_seekAt_0 19 rfl rfl)
theorem dX10_seekAt_20 : decode cX10_seekAt 20 = .ok (.getfield 130, 3) := dk_180 0 130 (dk_at dksX10_seekAt_0 20 rfl rfl)
theorem dX10_seekAt_23 : decode cX10_seekAt 23 = .ok (.iload_n 1, 1) := dk_27 (dk_at dksX10_seekAt_0 23 rfl rfl)
theorem dX10_seekAt_24 : decode cX10_seekAt 24 = .ok (.iaload, 1) := dk_46 (dk_at dksX10_seekAt_1 0 rfl rfl)
theorem dX10_seekAt_25 : decode cX10_seekAt 25 = .ok (.goto 4, 3) := dk_167 0 4 (dk_at dksX10_seekAt_1 1 rfl rfl)
theorem dX10_seekAt_28 : decode cX10_seekAt 28 = .ok (.iconst (-1), 1) := dk_2 (dk_at dksX10_seekAt_1 4 rfl rfl)
theorem dX10_seekAt_29 : decode cX10_seekAt 29 = .ok (.ireturn, 1) := dk_172 (dk_at dksX10_seekAt_1 5 rfl rfl)
abbrev cX10_letters : ByteArray := prog_23_method_76_code
def yX10_letters : MethodName := ⟨RX10, "letters", "()I"⟩
def dkwX10_letters_0 : List UInt8 := [42, 3, 181, 0, 1, 42, 180, 0, 98, 17, 10, 55, 46, 172]
abbrev dktX10_letters_0 : List UInt8 := dkwX10_letters_0 ++ []
theorem dksX10_letters_0 : cX10_letters.data.toList.drop 0 = dktX10_letters_0 := by decide +kernel
theorem dX10_letters_0 : decode cX10_letters 0 = .ok (.aload_n 0, 1) := dk_42 (dk_at dksX10_letters_0 0 rfl rfl)
theorem dX10_letters_1 : decode cX10_letters 1 = .ok (.iconst 0, 1) := dk_3 (dk_at dksX10_letters_0 1 rfl rfl)
theorem dX10_letters_2 : decode cX10_letters 2 = .ok (.putfield 1, 3) := dk_181 0 1 (dk_at dksX10_letters_0 2 rfl rfl)
theorem dX10_letters_5 : decode cX10_letters 5 = .ok (.aload_n 0, 1) := dk_42 (dk_at dksX10_letters_0 5 rfl rfl)
theorem dX10_letters_6 : decode cX10_letters 6 = .ok (.getfield 98, 3) := dk_180 0 98 (dk_at dksX10_letters_0 6 rfl rfl)
theorem dX10_letters_9 : decode cX10_letters 9 = .ok (.sipush 2615, 3) := dk_17 10 55 (dk_at dksX10_letters_0 9 rfl rfl)
theorem dX10_letters_12 : decode cX10_letters 12 = .ok (.iaload, 1) := dk_46 (dk_at dksX10_letters_0 12 rfl rfl)
theorem dX10_letters_13 : decode cX10_letters 13 = .ok (.ireturn, 1) := dk_172 (dk_at dksX10_letters_0 13 rfl rfl)
abbrev cX10_letter : ByteArray := prog_23_method_77_code
def yX10_letter : MethodName := ⟨RX10, "lette\x72", "(I)I"⟩
def dkwX10_letter_1 : List UInt8 := [167, 0, 4, 2, 172]
abbrev dktX10_letter_1 : List UInt8 := dkwX10_letter_1 ++ []
def dkwX10_letter_0 : List UInt8 := [42, 3, 181, 0, 1, 42, 27, 182, 1, 26, 153, 0, 16, 42, 180, 0, 98, 17, 10, 56, 27, 96, 46]
abbrev dktX10_letter_0 : List UInt8 := dkwX10_letter_0 ++ dktX10_letter_1
theorem dksX10_letter_0 : cX10_letter.data.toList.drop 0 = dktX10_letter_0 := by decide +kernel
theorem dksX10_letter_1 : cX10_letter.data.toList.drop 23 = dktX10_letter_1 := dk_seg dksX10_letter_0 23 rfl rfl
theorem dX10_letter_0 : decode cX10_letter 0 = .ok (.aload_n 0, 1) := dk_42 (dk_at dksX10_letter_0 0 rfl rfl)
theorem dX10_letter_1 : decode cX10_letter 1 = .ok (.iconst 0, 1) := dk_3 (dk_at dksX10_letter_0 1 rfl rfl)
theorem dX10_letter_2 : decode cX10_letter 2 = .ok (.putfield 1, 3) := dk_181 0 1 (dk_at dksX10_letter_0 2 rfl rfl)
theorem dX10_letter_5 : decode cX10_letter 5 = .ok (.aload_n 0, 1) := dk_42 (dk_at dksX10_letter_0 5 rfl rfl)
theorem dX10_letter_6 : decode cX10_letter 6 = .ok (.iload_n 1, 1) := dk_27 (dk_at dksX10_letter_0 6 rfl rfl)
theorem dX10_letter_7 : decode cX10_letter 7 = .ok (.invokevirtual 282, 3) := dk_182 1 26 (dk_at dksX10_letter_0 7 rfl rfl)
theorem dX10_letter_10 : decode cX10_letter 10 = .ok (.ifCond .eq 16, 3) := dk_153 0 16 (dk_at dksX10_letter_0 10 rfl rfl)
theorem dX10_letter_13 : decode cX10_letter 13 = .ok (.aload_n 0, 1) := dk_42 (dk_at dksX10_letter_0 13 rfl rfl)
theorem dX10_letter_14 : decode cX10_letter 14 = .ok (.getfield 98, 3) := dk_180 0 98 (dk_at dksX10_letter_0 14 rfl rfl)
theorem dX10_letter_17 : decode cX10_letter 17 = .ok (.sipush 2616, 3) := dk_17 10 56 (dk_at dksX10_letter_0 17 rfl rfl)
theorem dX10_letter_20 : decode cX10_letter 20 = .ok (.iload_n 1, 1) := dk_27 (dk_at dksX10_letter_0 20 rfl rfl)
theorem dX10_letter_21 : decode cX10_letter 21 = .ok (.iadd, 1) := dk_96 (dk_at dksX10_letter_0 21 rfl rfl)
theorem dX10_letter_22 : decode cX10_letter 22 = .ok (.iaload, 1) := dk_46 (dk_at dksX10_letter_0 22 rfl rfl)
theorem dX10_letter_23 : decode cX10_letter 23 = .ok (.goto 4, 3) := dk_167 0 4 (dk_at dksX10_letter_1 0 rfl rfl)
theorem dX10_letter_26 : decode cX10_letter 26 = .ok (.iconst (-1), 1) := dk_2 (dk_at dksX10_letter_1 3 rfl rfl)
theorem dX10_letter_27 : decode cX10_letter 27 = .ok (.ireturn, 1) := dk_172 (dk_at dksX10_letter_1 4 rfl rfl)
abbrev cX10_isLetterAt : ByteArray := prog_23_method_75_code
def yX10_isLetterAt : MethodName := ⟨RX10, "isLetterAt", "(I)Z"⟩
def dkwX10_isLetterAt_0 : List UInt8 := [27, 3, 42, 180, 0, 98, 17, 10, 55, 46, 4, 100, 184, 0, 75, 172]
abbrev dktX10_isLetterAt_0 : List UInt8 := dkwX10_isLetterAt_0 ++ []
theorem dksX10_isLetterAt_0 : cX10_isLetterAt.data.toList.drop 0 = dktX10_isLetterAt_0 := by decide +kernel
theorem dX10_isLetterAt_0 : decode cX10_isLetterAt 0 = .ok (.iload_n 1, 1) := dk_27 (dk_at dksX10_isLetterAt_0 0 rfl rfl)
theorem dX10_isLetterAt_1 : decode cX10_isLetterAt 1 = .ok (.iconst 0, 1) := dk_3 (dk_at dksX10_isLetterAt_0 1 rfl rfl)
theorem dX10_isLetterAt_2 : decode cX10_isLetterAt 2 = .ok (.aload_n 0, 1) := dk_42 (dk_at dksX10_isLetterAt_0 2 rfl rfl)
theorem dX10_isLetterAt_3 : decode cX10_isLetterAt 3 = .ok (.getfield 98, 3) := dk_180 0 98 (dk_at dksX10_isLetterAt_0 3 rfl rfl)
theorem dX10_isLetterAt_6 : decode cX10_isLetterAt 6 = .ok (.sipush 2615, 3) := dk_17 10 55 (dk_at dksX10_isLetterAt_0 6 rfl rfl)
theorem dX10_isLetterAt_9 : decode cX10_isLetterAt 9 = .ok (.iaload, 1) := dk_46 (dk_at dksX10_isLetterAt_0 9 rfl rfl)
theorem dX10_isLetterAt_10 : decode cX10_isLetterAt 10 = .ok (.iconst 1, 1) := dk_4 (dk_at dksX10_isLetterAt_0 10 rfl rfl)
theorem dX10_isLetterAt_11 : decode cX10_isLetterAt 11 = .ok (.isub, 1) := dk_100 (dk_at dksX10_isLetterAt_0 11 rfl rfl)
theorem dX10_isLetterAt_12 : decode cX10_isLetterAt 12 = .ok (.invokestatic 75, 3) := dk_184 0 75 (dk_at dksX10_isLetterAt_0 12 rfl rfl)
theorem dX10_isLetterAt_15 : decode cX10_isLetterAt 15 = .ok (.ireturn, 1) := dk_172 (dk_at dksX10_isLetterAt_0 15 rfl rfl)
abbrev cX10_count : ByteArray := prog_23_method_78_code
def yX10_count : MethodName := ⟨RX10, "count", "(II)I"⟩
def dkwX10_count_2 : List UInt8 := [17, 10, 56, 21, 4, 96, 46, 27, 160, 0, 6, 132, 3, 1, 132, 4, 1, 167, 255, 229, 29, 172]
abbrev dktX10_count_2 : List UInt8 := dkwX10_count_2 ++ []
def dkwX10_count_1 : List UInt8 := [46, 184, 0, 75, 154, 0, 5, 2, 172, 3, 62, 3, 54, 4, 21, 4, 28, 162, 0, 27, 42, 180, 0, 98]
abbrev dktX10_count_1 : List UInt8 := dkwX10_count_1 ++ dktX10_count_2
def dkwX10_count_0 : List UInt8 := [42, 3, 181, 0, 1, 27, 3, 16, 7, 184, 0, 75, 153, 0, 19, 28, 3, 42, 180, 0, 98, 17, 10, 55]
abbrev dktX10_count_0 : List UInt8 := dkwX10_count_0 ++ dktX10_count_1
theorem dksX10_count_0 : cX10_count.data.toList.drop 0 = dktX10_count_0 := by decide +kernel
theorem dksX10_count_1 : cX10_count.data.toList.drop 24 = dktX10_count_1 := dk_seg dksX10_count_0 24 rfl rfl
theorem dksX10_count_2 : cX10_count.data.toList.drop 48 = dktX10_count_2 := dk_seg dksX10_count_1 24 rfl rfl
theorem dX10_count_0 : decode cX10_count 0 = .ok (.aload_n 0, 1) := dk_42 (dk_at dksX10_count_0 0 rfl rfl)
theorem dX10_count_1 : decode cX10_count 1 = .ok (.iconst 0, 1) := dk_3 (dk_at dksX10_count_0 1 rfl rfl)
theorem dX10_count_2 : decode cX10_count 2 = .ok (.putfield 1, 3) := dk_181 0 1 (dk_at dksX10_count_0 2 rfl rfl)
theorem dX10_count_5 : decode cX10_count 5 = .ok (.iload_n 1, 1) := dk_27 (dk_at dksX10_count_0 5 rfl rfl)
theorem dX10_count_6 : decode cX10_count 6 = .ok (.iconst 0, 1) := dk_3 (dk_at dksX10_count_0 6 rfl rfl)
theorem dX10_count_7 : decode cX10_count 7 = .ok (.bipush 7, 2) := dk_16 7 (dk_at dksX10_count_0 7 rfl rfl)
theorem dX10_count_9 : decode cX10_count 9 = .ok (.invokestatic 75, 3) := dk_184 0 75 (dk_at dksX10_count_0 9 rfl rfl)
theorem dX10_count_12 : decode cX10_count 12 = .ok (.ifCond .eq 19, 3) := dk_153 0 19 (dk_at dksX10_count_0 12 rfl rfl)
theorem dX10_count_15 : decode cX10_count 15 = .ok (.iload_n 2, 1) := dk_28 (dk_at dksX10_count_0 15 rfl rfl)
theorem dX10_count_16 : decode cX10_count 16 = .ok (.iconst 0, 1) := dk_3 (dk_at dksX10_count_0 16 rfl rfl)
theorem dX10_count_17 : decode cX10_count 17 = .ok (.aload_n 0, 1) := dk_42 (dk_at dksX10_count_0 17 rfl rfl)
theorem dX10_count_18 : decode cX10_count 18 = .ok (.getfield 98, 3) := dk_180 0 98 (dk_at dksX10_count_0 18 rfl rfl)
theorem dX10_count_21 : decode cX10_count 21 = .ok (.sipush 2615, 3) := dk_17 10 55 (dk_at dksX10_count_0 21 rfl rfl)
theorem dX10_count_24 : decode cX10_count 24 = .ok (.iaload, 1) := dk_46 (dk_at dksX10_count_1 0 rfl rfl)
theorem dX10_count_25 : decode cX10_count 25 = .ok (.invokestatic 75, 3) := dk_184 0 75 (dk_at dksX10_count_1 1 rfl rfl)
theorem dX10_count_28 : decode cX10_count 28 = .ok (.ifCond .ne 5, 3) := dk_154 0 5 (dk_at dksX10_count_1 4 rfl rfl)
theorem dX10_count_31 : decode cX10_count 31 = .ok (.iconst (-1), 1) := dk_2 (dk_at dksX10_count_1 7 rfl rfl)
theorem dX10_count_32 : decode cX10_count 32 = .ok (.ireturn, 1) := dk_172 (dk_at dksX10_count_1 8 rfl rfl)
theorem dX10_count_33 : decode cX10_count 33 = .ok (.iconst 0, 1) := dk_3 (dk_at dksX10_count_1 9 rfl rfl)
theorem dX10_count_34 : decode cX10_count 34 = .ok (.istore_n 3, 1) := dk_62 (dk_at dksX10_count_1 10 rfl rfl)
theorem dX10_count_35 : decode cX10_count 35 = .ok (.iconst 0, 1) := dk_3 (dk_at dksX10_count_1 11 rfl rfl)
theorem dX10_count_36 : decode cX10_count 36 = .ok (.istore 4, 2) := dk_54 4 (dk_at dksX10_count_1 12 rfl rfl)
theorem dX10_count_38 : decode cX10_count 38 = .ok (.iload 4, 2) := dk_21 4 (dk_at dksX10_count_1 14 rfl rfl)
theorem dX10_count_40 : decode cX10_count 40 = .ok (.iload_n 2, 1) := dk_28 (dk_at dksX10_count_1 16 rfl rfl)
theorem dX10_count_41 : decode cX10_count 41 = .ok (.if_icmp .ge 27, 3) := dk_162 0 27 (dk_at dksX10_count_1 17 rfl rfl)
theorem dX10_count_44 : decode cX10_count 44 = .ok (.aload_n 0, 1) := dk_42 (dk_at dksX10_count_1 20 rfl rfl)
theorem dX10_count_45 : decode cX10_count 45 = .ok (.getfield 98, 3) := dk_180 0 98 (dk_at dksX10_count_1 21 rfl rfl)
theorem dX10_count_48 : decode cX10_count 48 = .ok (.sipush 2616, 3) := dk_17 10 56 (dk_at dksX10_count_2 0 rfl rfl)
theorem dX10_count_51 : decode cX10_count 51 = .ok (.iload 4, 2) := dk_21 4 (dk_at dksX10_count_2 3 rfl rfl)
theorem dX10_count_53 : decode cX10_count 53 = .ok (.iadd, 1) := dk_96 (dk_at dksX10_count_2 5 rfl rfl)
theorem dX10_count_54 : decode cX10_count 54 = .ok (.iaload, 1) := dk_46 (dk_at dksX10_count_2 6 rfl rfl)
theorem dX10_count_55 : decode cX10_count 55 = .ok (.iload_n 1, 1) := dk_27 (dk_at dksX10_count_2 7 rfl rfl)
theorem dX10_count_56 : decode cX10_count 56 = .ok (.if_icmp .ne 6, 3) := dk_160 0 6 (dk_at dksX10_count_2 8 rfl rfl)
theorem dX10_count_59 : decode cX10_count 59 = .ok (.iinc 3 1, 3) := dk_132 3 1 (dk_at dksX10_count_2 11 rfl rfl)
theorem dX10_count_62 : decode cX10_count 62 = .ok (.iinc 4 1, 3) := dk_132 4 1 (dk_at dksX10_count_2 14 rfl rfl)
theorem dX10_count_65 : decode cX10_count 65 = .ok (.goto (-27), 3) := dk_167 255 229 (dk_at dksX10_count_2 17 rfl rfl)
theorem dX10_count_68 : decode cX10_count 68 = .ok (.iload_n 3, 1) := dk_29 (dk_at dksX10_count_2 20 rfl rfl)
theorem dX10_count_69 : decode cX10_count 69 = .ok (.ireturn, 1) := dk_172 (dk_at dksX10_count_2 21 rfl rfl)
abbrev cX10_place : ByteArray := prog_23_method_79_code
def yX10_place : MethodName := ⟨RX10, "place", "(II)I"⟩
def dkwX10_place_3 : List UInt8 := [167, 255, 211, 2, 172]
abbrev dktX10_place_3 : List UInt8 := dkwX10_place_3 ++ []
def dkwX10_place_2 : List UInt8 := [96, 46, 27, 159, 0, 6, 167, 0, 14, 29, 28, 160, 0, 6, 21, 4, 172, 132, 3, 1, 132, 4, 1]
abbrev dktX10_place_2 : List UInt8 := dkwX10_place_2 ++ dktX10_place_3
def dkwX10_place_1 : List UInt8 := [54, 4, 21, 4, 42, 180, 0, 98, 17, 10, 55, 46, 162, 0, 38, 42, 180, 0, 98, 17, 10, 56, 21, 4]
abbrev dktX10_place_1 : List UInt8 := dkwX10_place_1 ++ dktX10_place_2
def dkwX10_place_0 : List UInt8 := [42, 3, 181, 0, 1, 27, 3, 16, 7, 184, 0, 75, 153, 0, 7, 28, 156, 0, 5, 2, 172, 3, 62, 3]
abbrev dktX10_place_0 : List UInt8 := dkwX10_place_0 ++ dktX10_place_1
theorem dksX10_place_0 : cX10_place.data.toList.drop 0 = dktX10_place_0 := by decide +kernel
theorem dksX10_place_1 : cX10_place.data.toList.drop 24 = dktX10_place_1 := dk_seg dksX10_place_0 24 rfl rfl
theorem dksX10_place_2 : cX10_place.data.toList.drop 48 = dktX10_place_2 := dk_seg dksX10_place_1 24 rfl rfl
theorem dksX10_place_3 : cX10_place.data.toList.drop 71 = dktX10_place_3 := dk_seg dksX10_place_2 23 rfl rfl
theorem dX10_place_0 : decode cX10_place 0 = .ok (.aload_n 0, 1) := dk_42 (dk_at dksX10_place_0 0 rfl rfl)
theorem dX10_place_1 : decode cX10_place 1 = .ok (.iconst 0, 1) := dk_3 (dk_at dksX10_place_0 1 rfl rfl)
theorem dX10_place_2 : decode cX10_place 2 = .ok (.putfield 1, 3) := dk_181 0 1 (dk_at dksX10_place_0 2 rfl rfl)
theorem dX10_place_5 : decode cX10_place 5 = .ok (.iload_n 1, 1) := dk_27 (dk_at dksX10_place_0 5 rfl rfl)
theorem dX10_place_6 : decode cX10_place 6 = .ok (.iconst 0, 1) := dk_3 (dk_at dksX10_place_0 6 rfl rfl)
theorem dX10_place_7 : decode cX10_place 7 = .ok (.bipush 7, 2) := dk_16 7 (dk_at dksX10_place_0 7 rfl rfl)
theorem dX10_place_9 : decode cX10_place 9 = .ok (.invokestatic 75, 3) := dk_184 0 75 (dk_at dksX10_place_0 9 rfl rfl)
theorem dX10_place_12 : decode cX10_place 12 = .ok (.ifCond .eq 7, 3) := dk_153 0 7 (dk_at dksX10_place_0 12 rfl rfl)
theorem dX10_place_15 : decode cX10_place 15 = .ok (.iload_n 2, 1) := dk_28 (dk_at dksX10_place_0 15 rfl rfl)
theorem dX10_place_16 : decode cX10_place 16 = .ok (.ifCond .ge 5, 3) := dk_156 0 5 (dk_at dksX10_place_0 16 rfl rfl)
theorem dX10_place_19 : decode cX10_place 19 = .ok (.iconst (-1), 1) := dk_2 (dk_at dksX10_place_0 19 rfl rfl)
theorem dX10_place_20 : decode cX10_place 20 = .ok (.ireturn, 1) := dk_172 (dk_at dksX10_place_0 20 rfl rfl)
theorem dX10_place_21 : decode cX10_place 21 = .ok (.iconst 0, 1) := dk_3 (dk_at dksX10_place_0 21 rfl rfl)
theorem dX10_place_22 : decode cX10_place 22 = .ok (.istore_n 3, 1) := dk_62 (dk_at dksX10_place_0 22 rfl rfl)
theorem dX10_place_23 : decode cX10_place 23 = .ok (.iconst 0, 1) := dk_3 (dk_at dksX10_place_0 23 rfl rfl)
theorem dX10_place_24 : decode cX10_place 24 = .ok (.istore 4, 2) := dk_54 4 (dk_at dksX10_place_1 0 rfl rfl)
theorem dX10_place_26 : decode cX10_place 26 = .ok (.iload 4, 2) := dk_21 4 (dk_at dksX10_place_1 2 rfl rfl)
theorem dX10_place_28 : decode cX10_place 28 = .ok (.aload_n 0, 1) := dk_42 (dk_at dksX10_place_1 4 rfl rfl)
theorem dX10_place_29 : decode cX10_place 29 = .ok (.getfield 98, 3) := dk_180 0 98 (dk_at dksX10_place_1 5 rfl rfl)
theorem dX10_place_32 : decode cX10_place 32 = .ok (.sipush 2615, 3) := dk_17 10 55 (dk_at dksX10_place_1 8 rfl rfl)
theorem dX10_place_35 : decode cX10_place 35 = .ok (.iaload, 1) := dk_46 (dk_at dksX10_place_1 11 rfl rfl)
theorem dX10_place_36 : decode cX10_place 36 = .ok (.if_icmp .ge 38, 3) := dk_162 0 38 (dk_at dksX10_place_1 12 rfl rfl)
theorem dX10_place_39 : decode cX10_place 39 = .ok (.aload_n 0, 1) := dk_42 (dk_at dksX10_place_1 15 rfl rfl)
theorem dX10_place_40 : decode cX10_place 40 = .ok (.getfield 98, 3) := dk_180 0 98 (dk_at dksX10_place_1 16 rfl rfl)
theorem dX10_place_43 : decode cX10_place 43 = .ok (.sipush 2616, 3) := dk_17 10 56 (dk_at dksX10_place_1 19 rfl rfl)
theorem dX10_place_46 : decode cX10_place 46 = .ok (.iload 4, 2) := dk_21 4 (dk_at dksX10_place_1 22 rfl rfl)
theorem dX10_place_48 : decode cX10_place 48 = .ok (.iadd, 1) := dk_96 (dk_at dksX10_place_2 0 rfl rfl)
theorem dX10_place_49 : decode cX10_place 49 = .ok (.iaload, 1) := dk_46 (dk_at dksX10_place_2 1 rfl rfl)
theorem dX10_place_50 : decode cX10_place 50 = .ok (.iload_n 1, 1) := dk_27 (dk_at dksX10_place_2 2 rfl rfl)
theorem dX10_place_51 : decode cX10_place 51 = .ok (.if_icmp .eq 6, 3) := dk_159 0 6 (dk_at dksX10_place_2 3 rfl rfl)
theorem dX10_place_54 : decode cX10_place 54 = .ok (.goto 14, 3) := dk_167 0 14 (dk_at dksX10_place_2 6 rfl rfl)
theorem dX10_place_57 : decode cX10_place 57 = .ok (.iload_n 3, 1) := dk_29 (dk_at dksX10_place_2 9 rfl rfl)
theorem dX10_place_58 : decode cX10_place 58 = .ok (.iload_n 2, 1) := dk_28 (dk_at dksX10_place_2 10 rfl rfl)
theorem dX10_place_59 : decode cX10_place 59 = .ok (.if_icmp .ne 6, 3) := dk_160 0 6 (dk_at dksX10_place_2 11 rfl rfl)
theorem dX10_place_62 : decode cX10_place 62 = .ok (.iload 4, 2) := dk_21 4 (dk_at dksX10_place_2 14 rfl rfl)
theorem dX10_place_64 : decode cX10_place 64 = .ok (.ireturn, 1) := dk_172 (dk_at dksX10_place_2 16 rfl rfl)
theorem dX10_place_65 : decode cX10_place 65 = .ok (.iinc 3 1, 3) := dk_132 3 1 (dk_at dksX10_place_2 17 rfl rfl)
theorem dX10_place_68 : decode cX10_place 68 = .ok (.iinc 4 1, 3) := dk_132 4 1 (dk_at dksX10_place_2 20 rfl rfl)
theorem dX10_place_71 : decode cX10_place 71 = .ok (.goto (-45), 3) := dk_167 255 211 (dk_at dksX10_place_3 0 rfl rfl)
theorem dX10_place_74 : decode cX10_place 74 = .ok (.iconst (-1), 1) := dk_2 (dk_at dksX10_place_3 3 rfl rfl)
theorem dX10_place_75 : decode cX10_place 75 = .ok (.ireturn, 1) := dk_172 (dk_at dksX10_place_3 4 rfl rfl)
abbrev cX10_least : ByteArray := prog_23_method_80_code
def yX10_least : MethodName := ⟨RX10, "least", "(III)I"⟩
def dkwX10_least_3 : List UInt8 := [132, 6, 1, 167, 255, 228, 21, 4, 29, 164, 0, 6, 21, 5, 172, 132, 5, 1, 167, 255, 203, 2, 172]
abbrev dktX10_least_3 : List UInt8 := dkwX10_least_3 ++ []
def dkwX10_least_2 : List UInt8 := [162, 0, 28, 42, 180, 0, 98, 17, 10, 56, 21, 6, 96, 46, 21, 5, 160, 0, 6, 132, 4, 1]
abbrev dktX10_least_2 : List UInt8 := dkwX10_least_2 ++ dktX10_least_3
def dkwX10_least_1 : List UInt8 := [156, 0, 5, 2, 172, 3, 54, 4, 3, 54, 5, 21, 5, 16, 8, 162, 0, 52, 27, 54, 6, 21, 6, 28]
abbrev dktX10_least_1 : List UInt8 := dkwX10_least_1 ++ dktX10_least_2
def dkwX10_least_0 : List UInt8 := [42, 3, 181, 0, 1, 27, 155, 0, 19, 28, 42, 180, 0, 98, 17, 10, 55, 46, 163, 0, 7, 29]
abbrev dktX10_least_0 : List UInt8 := dkwX10_least_0 ++ dktX10_least_1
theorem dksX10_least_0 : cX10_least.data.toList.drop 0 = dktX10_least_0 := by decide +kernel
theorem dksX10_least_1 : cX10_least.data.toList.drop 22 = dktX10_least_1 := dk_seg dksX10_least_0 22 rfl rfl
theorem dksX10_least_2 : cX10_least.data.toList.drop 46 = dktX10_least_2 := dk_seg dksX10_least_1 24 rfl rfl
theorem dksX10_least_3 : cX10_least.data.toList.drop 68 = dktX10_least_3 := dk_seg dksX10_least_2 22 rfl rfl
theorem dX10_least_0 : decode cX10_least 0 = .ok (.aload_n 0, 1) := dk_42 (dk_at dksX10_least_0 0 rfl rfl)
theorem dX10_least_1 : decode cX10_least 1 = .ok (.iconst 0, 1) := dk_3 (dk_at dksX10_least_0 1 rfl rfl)
theorem dX10_least_2 : decode cX10_least 2 = .ok (.putfield 1, 3) := dk_181 0 1 (dk_at dksX10_least_0 2 rfl rfl)
theorem dX10_least_5 : decode cX10_least 5 = .ok (.iload_n 1, 1) := dk_27 (dk_at dksX10_least_0 5 rfl rfl)
theorem dX10_least_6 : decode cX10_least 6 = .ok (.ifCond .lt 19, 3) := dk_155 0 19 (dk_at dksX10_least_0 6 rfl rfl)
theorem dX10_least_9 : decode cX10_least 9 = .ok (.iload_n 2, 1) := dk_28 (dk_at dksX10_least_0 9 rfl rfl)
theorem dX10_least_10 : decode cX10_least 10 = .ok (.aload_n 0, 1) := dk_42 (dk_at dksX10_least_0 10 rfl rfl)
theorem dX10_least_11 : decode cX10_least 11 = .ok (.getfield 98, 3) := dk_180 0 98 (dk_at dksX10_least_0 11 rfl rfl)
theorem dX10_least_14 : decode cX10_least 14 = .ok (.sipush 2615, 3) := dk_17 10 55 (dk_at dksX10_least_0 14 rfl rfl)
theorem dX10_least_17 : decode cX10_least 17 = .ok (.iaload, 1) := dk_46 (dk_at dksX10_least_0 17 rfl rfl)
theorem dX10_least_18 : decode cX10_least 18 = .ok (.if_icmp .gt 7, 3) := dk_163 0 7 (dk_at dksX10_least_0 18 rfl rfl)
theorem dX10_least_21 : decode cX10_least 21 = .ok (.iload_n 3, 1) := dk_29 (dk_at dksX10_least_0 21 rfl rfl)
theorem dX10_least_22 : decode cX10_least 22 = .ok (.ifCond .ge 5, 3) := dk_156 0 5 (dk_at dksX10_least_1 0 rfl rfl)
theorem dX10_least_25 : decode cX10_least 25 = .ok (.iconst (-1), 1) := dk_2 (dk_at dksX10_least_1 3 rfl rfl)
theorem dX10_least_26 : decode cX10_least 26 = .ok (.ireturn, 1) := dk_172 (dk_at dksX10_least_1 4 rfl rfl)
theorem dX10_least_27 : decode cX10_least 27 = .ok (.iconst 0, 1) := dk_3 (dk_at dksX10_least_1 5 rfl rfl)
theorem dX10_least_28 : decode cX10_least 28 = .ok (.istore 4, 2) := dk_54 4 (dk_at dksX10_least_1 6 rfl rfl)
theorem dX10_least_30 : decode cX10_least 30 = .ok (.iconst 0, 1) := dk_3 (dk_at dksX10_least_1 8 rfl rfl)
theorem dX10_least_31 : decode cX10_least 31 = .ok (.istore 5, 2) := dk_54 5 (dk_at dksX10_least_1 9 rfl rfl)
theorem dX10_least_33 : decode cX10_least 33 = .ok (.iload 5, 2) := dk_21 5 (dk_at dksX10_least_1 11 rfl rfl)
theorem dX10_least_35 : decode cX10_least 35 = .ok (.bipush 8, 2) := dk_16 8 (dk_at dksX10_least_1 13 rfl rfl)
theorem dX10_least_37 : decode cX10_least 37 = .ok (.if_icmp .ge 52, 3) := dk_162 0 52 (dk_at dksX10_least_1 15 rfl rfl)
theorem dX10_least_40 : decode cX10_least 40 = .ok (.iload_n 1, 1) := dk_27 (dk_at dksX10_least_1 18 rfl rfl)
theorem dX10_least_41 : decode cX10_least 41 = .ok (.istore 6, 2) := dk_54 6 (dk_at dksX10_least_1 19 rfl rfl)
theorem dX10_least_43 : decode cX10_least 43 = .ok (.iload 6, 2) := dk_21 6 (dk_at dksX10_least_1 21 rfl rfl)
theorem dX10_least_45 : decode cX10_least 45 = .ok (.iload_n 2, 1) := dk_28 (dk_at dksX10_least_1 23 rfl rfl)
theorem dX10_least_46 : decode cX10_least 46 = .ok (.if_icmp .ge 28, 3) := dk_162 0 28 (dk_at dksX10_least_2 0 rfl rfl)
theorem dX10_least_49 : decode cX10_least 49 = .ok (.aload_n 0, 1) := dk_42 (dk_at dksX10_least_2 3 rfl rfl)
theorem dX10_least_50 : decode cX10_least 50 = .ok (.getfield 98, 3) := dk_180 0 98 (dk_at dksX10_least_2 4 rfl rfl)
theorem dX10_least_53 : decode cX10_least 53 = .ok (.sipush 2616, 3) := dk_17 10 56 (dk_at dksX10_least_2 7 rfl rfl)
theorem dX10_least_56 : decode cX10_least 56 = .ok (.iload 6, 2) := dk_21 6 (dk_at dksX10_least_2 10 rfl rfl)
theorem dX10_least_58 : decode cX10_least 58 = .ok (.iadd, 1) := dk_96 (dk_at dksX10_least_2 12 rfl rfl)
theorem dX10_least_59 : decode cX10_least 59 = .ok (.iaload, 1) := dk_46 (dk_at dksX10_least_2 13 rfl rfl)
theorem dX10_least_60 : decode cX10_least 60 = .ok (.iload 5, 2) := dk_21 5 (dk_at dksX10_least_2 14 rfl rfl)
theorem dX10_least_62 : decode cX10_least 62 = .ok (.if_icmp .ne 6, 3) := dk_160 0 6 (dk_at dksX10_least_2 16 rfl rfl)
theorem dX10_least_65 : decode cX10_least 65 = .ok (.iinc 4 1, 3) := dk_132 4 1 (dk_at dksX10_least_2 19 rfl rfl)
theorem dX10_least_68 : decode cX10_least 68 = .ok (.iinc 6 1, 3) := dk_132 6 1 (dk_at dksX10_least_3 0 rfl rfl)
theorem dX10_least_71 : decode cX10_least 71 = .ok (.goto (-28), 3) := dk_167 255 228 (dk_at dksX10_least_3 3 rfl rfl)
theorem dX10_least_74 : decode cX10_least 74 = .ok (.iload 4, 2) := dk_21 4 (dk_at dksX10_least_3 6 rfl rfl)
theorem dX10_least_76 : decode cX10_least 76 = .ok (.iload_n 3, 1) := dk_29 (dk_at dksX10_least_3 8 rfl rfl)
theorem dX10_least_77 : decode cX10_least 77 = .ok (.if_icmp .le 6, 3) := dk_164 0 6 (dk_at dksX10_least_3 9 rfl rfl)
theorem dX10_least_80 : decode cX10_least 80 = .ok (.iload 5, 2) := dk_21 5 (dk_at dksX10_least_3 12 rfl rfl)
theorem dX10_least_82 : decode cX10_least 82 = .ok (.ireturn, 1) := dk_172 (dk_at dksX10_least_3 14 rfl rfl)
theorem dX10_least_83 : decode cX10_least 83 = .ok (.iinc 5 1, 3) := dk_132 5 1 (dk_at dksX10_least_3 15 rfl rfl)
theorem dX10_least_86 : decode cX10_least 86 = .ok (.goto (-53), 3) := dk_167 255 203 (dk_at dksX10_least_3 18 rfl rfl)
theorem dX10_least_89 : decode cX10_least 89 = .ok (.iconst (-1), 1) := dk_2 (dk_at dksX10_least_3 21 rfl rfl)
theorem dX10_least_90 : decode cX10_least 90 = .ok (.ireturn, 1) := dk_172 (dk_at dksX10_least_3 22 rfl rfl)
abbrev cX10_node : ByteArray := prog_23_method_82_code
def yX10_node : MethodName := ⟨RX10, "node", "(II)I"⟩
def dkwX10_node_4 : List UInt8 := [132, 4, 1, 167, 255, 183, 2, 172]
abbrev dktX10_node_4 : List UInt8 := dkwX10_node_4 ++ []
def dkwX10_node_3 : List UInt8 := [154, 0, 7, 5, 167, 0, 13, 27, 6, 162, 0, 7, 4, 167, 0, 4, 3, 122, 4, 126, 172, 132, 3, 1]
abbrev dktX10_node_3 : List UInt8 := dkwX10_node_3 ++ dktX10_node_4
def dkwX10_node_2 : List UInt8 := [96, 46, 54, 5, 27, 21, 5, 184, 1, 29, 154, 0, 6, 167, 0, 35, 29, 28, 160, 0, 27, 21, 5, 27]
abbrev dktX10_node_2 : List UInt8 := dkwX10_node_2 ++ dktX10_node_3
def dkwX10_node_1 : List UInt8 := [54, 4, 21, 4, 42, 180, 0, 98, 17, 10, 55, 46, 162, 0, 66, 42, 180, 0, 98, 17, 10, 56, 21, 4]
abbrev dktX10_node_1 : List UInt8 := dkwX10_node_1 ++ dktX10_node_2
def dkwX10_node_0 : List UInt8 := [42, 3, 181, 0, 1, 27, 3, 16, 6, 184, 0, 75, 153, 0, 7, 28, 156, 0, 5, 2, 172, 3, 62, 3]
abbrev dktX10_node_0 : List UInt8 := dkwX10_node_0 ++ dktX10_node_1
theorem dksX10_node_0 : cX10_node.data.toList.drop 0 = dktX10_node_0 := by decide +kernel
theorem dksX10_node_1 : cX10_node.data.toList.drop 24 = dktX10_node_1 := dk_seg dksX10_node_0 24 rfl rfl
theorem dksX10_node_2 : cX10_node.data.toList.drop 48 = dktX10_node_2 := dk_seg dksX10_node_1 24 rfl rfl
theorem dksX10_node_3 : cX10_node.data.toList.drop 72 = dktX10_node_3 := dk_seg dksX10_node_2 24 rfl rfl
theorem dksX10_node_4 : cX10_node.data.toList.drop 96 = dktX10_node_4 := dk_seg dksX10_node_3 24 rfl rfl
theorem dX10_node_0 : decode cX10_node 0 = .ok (.aload_n 0, 1) := dk_42 (dk_at dksX10_node_0 0 rfl rfl)
theorem dX10_node_1 : decode cX10_node 1 = .ok (.iconst 0, 1) := dk_3 (dk_at dksX10_node_0 1 rfl rfl)
theorem dX10_node_2 : decode cX10_node 2 = .ok (.putfield 1, 3) := dk_181 0 1 (dk_at dksX10_node_0 2 rfl rfl)
theorem dX10_node_5 : decode cX10_node 5 = .ok (.iload_n 1, 1) := dk_27 (dk_at dksX10_node_0 5 rfl rfl)
theorem dX10_node_6 : decode cX10_node 6 = .ok (.iconst 0, 1) := dk_3 (dk_at dksX10_node_0 6 rfl rfl)
theorem dX10_node_7 : decode cX10_node 7 = .ok (.bipush 6, 2) := dk_16 6 (dk_at dksX10_node_0 7 rfl rfl)
theorem dX10_node_9 : decode cX10_node 9 = .ok (.invokestatic 75, 3) := dk_184 0 75 (dk_at dksX10_node_0 9 rfl rfl)
theorem dX10_node_12 : decode cX10_node 12 = .ok (.ifCond .eq 7, 3) := dk_153 0 7 (dk_at dksX10_node_0 12 rfl rfl)
theorem dX10_node_15 : decode cX10_node 15 = .ok (.iload_n 2, 1) := dk_28 (dk_at dksX10_node_0 15 rfl rfl)
theorem dX10_node_16 : decode cX10_node 16 = .ok (.ifCond .ge 5, 3) := dk_156 0 5 (dk_at dksX10_node_0 16 rfl rfl)
theorem dX10_node_19 : decode cX10_node 19 = .ok (.iconst (-1), 1) := dk_2 (dk_at dksX10_node_0 19 rfl rfl)
theorem dX10_node_20 : decode cX10_node 20 = .ok (.ireturn, 1) := dk_172 (dk_at dksX10_node_0 20 rfl rfl)
theorem dX10_node_21 : decode cX10_node 21 = .ok (.iconst 0, 1) := dk_3 (dk_at dksX10_node_0 21 rfl rfl)
theorem dX10_node_22 : decode cX10_node 22 = .ok (.istore_n 3, 1) := dk_62 (dk_at dksX10_node_0 22 rfl rfl)
theorem dX10_node_23 : decode cX10_node 23 = .ok (.iconst 0, 1) := dk_3 (dk_at dksX10_node_0 23 rfl rfl)
theorem dX10_node_24 : decode cX10_node 24 = .ok (.istore 4, 2) := dk_54 4 (dk_at dksX10_node_1 0 rfl rfl)
theorem dX10_node_26 : decode cX10_node 26 = .ok (.iload 4, 2) := dk_21 4 (dk_at dksX10_node_1 2 rfl rfl)
theorem dX10_node_28 : decode cX10_node 28 = .ok (.aload_n 0, 1) := dk_42 (dk_at dksX10_node_1 4 rfl rfl)
theorem dX10_node_29 : decode cX10_node 29 = .ok (.getfield 98, 3) := dk_180 0 98 (dk_at dksX10_node_1 5 rfl rfl)
theorem dX10_node_32 : decode cX10_node 32 = .ok (.sipush 2615, 3) := dk_17 10 55 (dk_at dksX10_node_1 8 rfl rfl)
theorem dX10_node_35 : decode cX10_node 35 = .ok (.iaload, 1) := dk_46 (dk_at dksX10_node_1 11 rfl rfl)
theorem dX10_node_36 : decode cX10_node 36 = .ok (.if_icmp .ge 66, 3) := dk_162 0 66 (dk_at dksX10_node_1 12 rfl rfl)
theorem dX10_node_39 : decode cX10_node 39 = .ok (.aload_n 0, 1) := dk_42 (dk_at dksX10_node_1 15 rfl rfl)
theorem dX10_node_40 : decode cX10_node 40 = .ok (.getfield 98, 3) := dk_180 0 98 (dk_at dksX10_node_1 16 rfl rfl)
theorem dX10_node_43 : decode cX10_node 43 = .ok (.sipush 2616, 3) := dk_17 10 56 (dk_at dksX10_node_1 19 rfl rfl)
theorem dX10_node_46 : decode cX10_node 46 = .ok (.iload 4, 2) := dk_21 4 (dk_at dksX10_node_1 22 rfl rfl)
theorem dX10_node_48 : decode cX10_node 48 = .ok (.iadd, 1) := dk_96 (dk_at dksX10_node_2 0 rfl rfl)
theorem dX10_node_49 : decode cX10_node 49 = .ok (.iaload, 1) := dk_46 (dk_at dksX10_node_2 1 rfl rfl)
theorem dX10_node_50 : decode cX10_node 50 = .ok (.istore 5, 2) := dk_54 5 (dk_at dksX10_node_2 2 rfl rfl)
theorem dX10_node_52 : decode cX10_node 52 = .ok (.iload_n 1, 1) := dk_27 (dk_at dksX10_node_2 4 rfl rfl)
theorem dX10_node_53 : decode cX10_node 53 = .ok (.iload 5, 2) := dk_21 5 (dk_at dksX10_node_2 5 rfl rfl)
theorem dX10_node_55 : decode cX10_node 55 = .ok (.invokestatic 285, 3) := dk_184 1 29 (dk_at dksX10_node_2 7 rfl rfl)
theorem dX10_node_58 : decode cX10_node 58 = .ok (.ifCond .ne 6, 3) := dk_154 0 6 (dk_at dksX10_node_2 10 rfl rfl)
theorem dX10_node_61 : decode cX10_node 61 = .ok (.goto 35, 3) := dk_167 0 35 (dk_at dksX10_node_2 13 rfl rfl)
theorem dX10_node_64 : decode cX10_node 64 = .ok (.iload_n 3, 1) := dk_29 (dk_at dksX10_node_2 16 rfl rfl)
theorem dX10_node_65 : decode cX10_node 65 = .ok (.iload_n 2, 1) := dk_28 (dk_at dksX10_node_2 17 rfl rfl)
theorem dX10_node_66 : decode cX10_node 66 = .ok (.if_icmp .ne 27, 3) := dk_160 0 27 (dk_at dksX10_node_2 18 rfl rfl)
theorem dX10_node_69 : decode cX10_node 69 = .ok (.iload 5, 2) := dk_21 5 (dk_at dksX10_node_2 21 rfl rfl)
theorem dX10_node_71 : decode cX10_node 71 = .ok (.iload_n 1, 1) := dk_27 (dk_at dksX10_node_2 23 rfl rfl)
theorem dX10_node_72 : decode cX10_node 72 = .ok (.ifCond .ne 7, 3) := dk_154 0 7 (dk_at dksX10_node_3 0 rfl rfl)
theorem dX10_node_75 : decode cX10_node 75 = .ok (.iconst 2, 1) := dk_5 (dk_at dksX10_node_3 3 rfl rfl)
theorem dX10_node_76 : decode cX10_node 76 = .ok (.goto 13, 3) := dk_167 0 13 (dk_at dksX10_node_3 4 rfl rfl)
theorem dX10_node_79 : decode cX10_node 79 = .ok (.iload_n 1, 1) := dk_27 (dk_at dksX10_node_3 7 rfl rfl)
theorem dX10_node_80 : decode cX10_node 80 = .ok (.iconst 3, 1) := dk_6 (dk_at dksX10_node_3 8 rfl rfl)
theorem dX10_node_81 : decode cX10_node 81 = .ok (.if_icmp .ge 7, 3) := dk_162 0 7 (dk_at dksX10_node_3 9 rfl rfl)
theorem dX10_node_84 : decode cX10_node 84 = .ok (.iconst 1, 1) := dk_4 (dk_at dksX10_node_3 12 rfl rfl)
theorem dX10_node_85 : decode cX10_node 85 = .ok (.goto 4, 3) := dk_167 0 4 (dk_at dksX10_node_3 13 rfl rfl)
theorem dX10_node_88 : decode cX10_node 88 = .ok (.iconst 0, 1) := dk_3 (dk_at dksX10_node_3 16 rfl rfl)
theorem dX10_node_89 : decode cX10_node 89 = .ok (.ishr, 1) := dk_122 (dk_at dksX10_node_3 17 rfl rfl)
theorem dX10_node_90 : decode cX10_node 90 = .ok (.iconst 1, 1) := dk_4 (dk_at dksX10_node_3 18 rfl rfl)
theorem dX10_node_91 : decode cX10_node 91 = .ok (.iand, 1) := dk_126 (dk_at dksX10_node_3 19 rfl rfl)
theorem dX10_node_92 : decode cX10_node 92 = .ok (.ireturn, 1) := dk_172 (dk_at dksX10_node_3 20 rfl rfl)
theorem dX10_node_93 : decode cX10_node 93 = .ok (.iinc 3 1, 3) := dk_132 3 1 (dk_at dksX10_node_3 21 rfl rfl)
theorem dX10_node_96 : decode cX10_node 96 = .ok (.iinc 4 1, 3) := dk_132 4 1 (dk_at dksX10_node_4 0 rfl rfl)
theorem dX10_node_99 : decode cX10_node 99 = .ok (.goto (-73), 3) := dk_167 255 183 (dk_at dksX10_node_4 3 rfl rfl)
theorem dX10_node_102 : decode cX10_node 102 = .ok (.iconst (-1), 1) := dk_2 (dk_at dksX10_node_4 6 rfl rfl)
theorem dX10_node_103 : decode cX10_node 103 = .ok (.ireturn, 1) := dk_172 (dk_at dksX10_node_4 7 rfl rfl)
abbrev cX10_isInNode : ByteArray := prog_23_method_81_code
def yX10_isInNode : MethodName := ⟨RX10, "isInNode", "(II)Z"⟩
def dkwX10_isInNode_1 : List UInt8 := [5, 108, 26, 6, 100, 160, 0, 7, 4, 167, 0, 4, 3, 172]
abbrev dktX10_isInNode_1 : List UInt8 := dkwX10_isInNode_1 ++ []
def dkwX10_isInNode_0 : List UInt8 := [26, 153, 0, 31, 26, 6, 162, 0, 12, 27, 7, 108, 26, 4, 100, 159, 0, 17, 26, 5, 164, 0, 16, 27]
abbrev dktX10_isInNode_0 : List UInt8 := dkwX10_isInNode_0 ++ dktX10_isInNode_1
theorem dksX10_isInNode_0 : cX10_isInNode.data.toList.drop 0 = dktX10_isInNode_0 := by decide +kernel
theorem dksX10_isInNode_1 : cX10_isInNode.data.toList.drop 24 = dktX10_isInNode_1 := dk_seg dksX10_isInNode_0 24 rfl rfl
theorem dX10_isInNode_0 : decode cX10_isInNode 0 = .ok (.iload_n 0, 1) := dk_26 (dk_at dksX10_isInNode_0 0 rfl rfl)
theorem dX10_isInNode_1 : decode cX10_isInNode 1 = .ok (.ifCond .eq 31, 3) := dk_153 0 31 (dk_at dksX10_isInNode_0 1 rfl rfl)
theorem dX10_isInNode_4 : decode cX10_isInNode 4 = .ok (.iload_n 0, 1) := dk_26 (dk_at dksX10_isInNode_0 4 rfl rfl)
theorem dX10_isInNode_5 : decode cX10_isInNode 5 = .ok (.iconst 3, 1) := dk_6 (dk_at dksX10_isInNode_0 5 rfl rfl)
theorem dX10_isInNode_6 : decode cX10_isInNode 6 = .ok (.if_icmp .ge 12, 3) := dk_162 0 12 (dk_at dksX10_isInNode_0 6 rfl rfl)
theorem dX10_isInNode_9 : decode cX10_isInNode 9 = .ok (.iload_n 1, 1) := dk_27 (dk_at dksX10_isInNode_0 9 rfl rfl)
theorem dX10_isInNode_10 : decode cX10_isInNode 10 = .ok (.iconst 4, 1) := dk_7 (dk_at dksX10_isInNode_0 10 rfl rfl)
theorem dX10_isInNode_11 : decode cX10_isInNode 11 = .ok (.idiv, 1) := dk_108 (dk_at dksX10_isInNode_0 11 rfl rfl)
theorem dX10_isInNode_12 : decode cX10_isInNode 12 = .ok (.iload_n 0, 1) := dk_26 (dk_at dksX10_isInNode_0 12 rfl rfl)
theorem dX10_isInNode_13 : decode cX10_isInNode 13 = .ok (.iconst 1, 1) := dk_4 (dk_at dksX10_isInNode_0 13 rfl rfl)
theorem dX10_isInNode_14 : decode cX10_isInNode 14 = .ok (.isub, 1) := dk_100 (dk_at dksX10_isInNode_0 14 rfl rfl)
theorem dX10_isInNode_15 : decode cX10_isInNode 15 = .ok (.if_icmp .eq 17, 3) := dk_159 0 17 (dk_at dksX10_isInNode_0 15 rfl rfl)
theorem dX10_isInNode_18 : decode cX10_isInNode 18 = .ok (.iload_n 0, 1) := dk_26 (dk_at dksX10_isInNode_0 18 rfl rfl)
theorem dX10_isInNode_19 : decode cX10_isInNode 19 = .ok (.iconst 2, 1) := dk_5 (dk_at dksX10_isInNode_0 19 rfl rfl)
theorem dX10_isInNode_20 : decode cX10_isInNode 20 = .ok (.if_icmp .le 16, 3) := dk_164 0 16 (dk_at dksX10_isInNode_0 20 rfl rfl)
theorem dX10_isInNode_23 : decode cX10_isInNode 23 = .ok (.iload_n 1, 1) := dk_27 (dk_at dksX10_isInNode_0 23 rfl rfl)
theorem dX10_isInNode_24 : decode cX10_isInNode 24 = .ok (.iconst 2, 1) := dk_5 (dk_at dksX10_isInNode_1 0 rfl rfl)
theorem dX10_isInNode_25 : decode cX10_isInNode 25 = .ok (.idiv, 1) := dk_108 (dk_at dksX10_isInNode_1 1 rfl rfl)
theorem dX10_isInNode_26 : decode cX10_isInNode 26 = .ok (.iload_n 0, 1) := dk_26 (dk_at dksX10_isInNode_1 2 rfl rfl)
theorem dX10_isInNode_27 : decode cX10_isInNode 27 = .ok (.iconst 3, 1) := dk_6 (dk_at dksX10_isInNode_1 3 rfl rfl)
theorem dX10_isInNode_28 : decode cX10_isInNode 28 = .ok (.isub, 1) := dk_100 (dk_at dksX10_isInNode_1 4 rfl rfl)
theorem dX10_isInNode_29 : decode cX10_isInNode 29 = .ok (.if_icmp .ne 7, 3) := dk_160 0 7 (dk_at dksX10_isInNode_1 5 rfl rfl)
theorem dX10_isInNode_32 : decode cX10_isInNode 32 = .ok (.iconst 1, 1) := dk_4 (dk_at dksX10_isInNode_1 8 rfl rfl)
theorem dX10_isInNode_33 : decode cX10_isInNode 33 = .ok (.goto 4, 3) := dk_167 0 4 (dk_at dksX10_isInNode_1 9 rfl rfl)
theorem dX10_isInNode_36 : decode cX10_isInNode 36 = .ok (.iconst 0, 1) := dk_3 (dk_at dksX10_isInNode_1 12 rfl rfl)
theorem dX10_isInNode_37 : decode cX10_isInNode 37 = .ok (.ireturn, 1) := dk_172 (dk_at dksX10_isInNode_1 13 rfl rfl)
abbrev cX10_put : ByteArray := prog_23_method_92_code
def yX10_put : MethodName := ⟨RX10, "put", "(III)I"⟩
def dkwX10_put_1 : List UInt8 := [153, 0, 7, 4, 167, 0, 4, 3, 182, 1, 59, 172]
abbrev dktX10_put_1 : List UInt8 := dkwX10_put_1 ++ []
def dkwX10_put_0 : List UInt8 := [42, 3, 181, 0, 1, 42, 3, 27, 28, 29, 42, 27, 182, 0, 215, 153, 0, 15, 42, 29, 182, 0, 221]
abbrev dktX10_put_0 : List UInt8 := dkwX10_put_0 ++ dktX10_put_1
theorem dksX10_put_0 : cX10_put.data.toList.drop 0 = dktX10_put_0 := by decide +kernel
theorem dksX10_put_1 : cX10_put.data.toList.drop 23 = dktX10_put_1 := dk_seg dksX10_put_0 23 rfl rfl
theorem dX10_put_0 : decode cX10_put 0 = .ok (.aload_n 0, 1) := dk_42 (dk_at dksX10_put_0 0 rfl rfl)
theorem dX10_put_1 : decode cX10_put 1 = .ok (.iconst 0, 1) := dk_3 (dk_at dksX10_put_0 1 rfl rfl)
theorem dX10_put_2 : decode cX10_put 2 = .ok (.putfield 1, 3) := dk_181 0 1 (dk_at dksX10_put_0 2 rfl rfl)
theorem dX10_put_5 : decode cX10_put 5 = .ok (.aload_n 0, 1) := dk_42 (dk_at dksX10_put_0 5 rfl rfl)
theorem dX10_put_6 : decode cX10_put 6 = .ok (.iconst 0, 1) := dk_3 (dk_at dksX10_put_0 6 rfl rfl)
theorem dX10_put_7 : decode cX10_put 7 = .ok (.iload_n 1, 1) := dk_27 (dk_at dksX10_put_0 7 rfl rfl)
theorem dX10_put_8 : decode cX10_put 8 = .ok (.iload_n 2, 1) := dk_28 (dk_at dksX10_put_0 8 rfl rfl)
theorem dX10_put_9 : decode cX10_put 9 = .ok (.iload_n 3, 1) := dk_29 (dk_at dksX10_put_0 9 rfl rfl)
theorem dX10_put_10 : decode cX10_put 10 = .ok (.aload_n 0, 1) := dk_42 (dk_at dksX10_put_0 10 rfl rfl)
theorem dX10_put_11 : decode cX10_put 11 = .ok (.iload_n 1, 1) := dk_27 (dk_at dksX10_put_0 11 rfl rfl)
theorem dX10_put_12 : decode cX10_put 12 = .ok (.invokevirtual 215, 3) := dk_182 0 215 (dk_at dksX10_put_0 12 rfl rfl)
theorem dX10_put_15 : decode cX10_put 15 = .ok (.ifCond .eq 15, 3) := dk_153 0 15 (dk_at dksX10_put_0 15 rfl rfl)
theorem dX10_put_18 : decode cX10_put 18 = .ok (.aload_n 0, 1) := dk_42 (dk_at dksX10_put_0 18 rfl rfl)
theorem dX10_put_19 : decode cX10_put 19 = .ok (.iload_n 3, 1) := dk_29 (dk_at dksX10_put_0 19 rfl rfl)
theorem dX10_put_20 : decode cX10_put 20 = .ok (.invokevirtual 221, 3) := dk_182 0 221 (dk_at dksX10_put_0 20 rfl rfl)
theorem dX10_put_23 : decode cX10_put 23 = .ok (.ifCond .eq 7, 3) := dk_153 0 7 (dk_at dksX10_put_1 0 rfl rfl)
theorem dX10_put_26 : decode cX10_put 26 = .ok (.iconst 1, 1) := dk_4 (dk_at dksX10_put_1 3 rfl rfl)
theorem dX10_put_27 : decode cX10_put 27 = .ok (.goto 4, 3) := dk_167 0 4 (dk_at dksX10_put_1 4 rfl rfl)
theorem dX10_put_30 : decode cX10_put 30 = .ok (.iconst 0, 1) := dk_3 (dk_at dksX10_put_1 7 rfl rfl)
theorem dX10_put_31 : decode cX10_put 31 = .ok (.invokevirtual 315, 3) := dk_182 1 59 (dk_at dksX10_put_1 8 rfl rfl)
theorem dX10_put_34 : decode cX10_put 34 = .ok (.ireturn, 1) := dk_172 (dk_at dksX10_put_1 11 rfl rfl)
abbrev cX10_act : ByteArray := prog_23_method_91_code
def yX10_act : MethodName := ⟨RX10, "act", "(IIIIZ)I"⟩
def dkwX10_act_1 : List UInt8 := [21, 6, 172, 42, 182, 1, 52, 42, 27, 28, 29, 21, 4, 182, 1, 55, 3, 172]
abbrev dktX10_act_1 : List UInt8 := dkwX10_act_1 ++ []
def dkwX10_act_0 : List UInt8 := [21, 5, 154, 0, 5, 2, 172, 42, 27, 28, 29, 21, 4, 182, 1, 48, 54, 6, 21, 6, 153, 0, 6]
abbrev dktX10_act_0 : List UInt8 := dkwX10_act_0 ++ dktX10_act_1
theorem dksX10_act_0 : cX10_act.data.toList.drop 0 = dktX10_act_0 := by decide +kernel
theorem dksX10_act_1 : cX10_act.data.toList.drop 23 = dktX10_act_1 := dk_seg dksX10_act_0 23 rfl rfl
theorem dX10_act_0 : decode cX10_act 0 = .ok (.iload 5, 2) := dk_21 5 (dk_at dksX10_act_0 0 rfl rfl)
theorem dX10_act_2 : decode cX10_act 2 = .ok (.ifCond .ne 5, 3) := dk_154 0 5 (dk_at dksX10_act_0 2 rfl rfl)
theorem dX10_act_5 : decode cX10_act 5 = .ok (.iconst (-1), 1) := dk_2 (dk_at dksX10_act_0 5 rfl rfl)
theorem dX10_act_6 : decode cX10_act 6 = .ok (.ireturn, 1) := dk_172 (dk_at dksX10_act_0 6 rfl rfl)
theorem dX10_act_7 : decode cX10_act 7 = .ok (.aload_n 0, 1) := dk_42 (dk_at dksX10_act_0 7 rfl rfl)
theorem dX10_act_8 : decode cX10_act 8 = .ok (.iload_n 1, 1) := dk_27 (dk_at dksX10_act_0 8 rfl rfl)
theorem dX10_act_9 : decode cX10_act 9 = .ok (.iload_n 2, 1) := dk_28 (dk_at dksX10_act_0 9 rfl rfl)
theorem dX10_act_10 : decode cX10_act 10 = .ok (.iload_n 3, 1) := dk_29 (dk_at dksX10_act_0 10 rfl rfl)
theorem dX10_act_11 : decode cX10_act 11 = .ok (.iload 4, 2) := dk_21 4 (dk_at dksX10_act_0 11 rfl rfl)
theorem dX10_act_13 : decode cX10_act 13 = .ok (.invokevirtual 304, 3) := dk_182 1 48 (dk_at dksX10_act_0 13 rfl rfl)
theorem dX10_act_16 : decode cX10_act 16 = .ok (.istore 6, 2) := dk_54 6 (dk_at dksX10_act_0 16 rfl rfl)
theorem dX10_act_18 : decode cX10_act 18 = .ok (.iload 6, 2) := dk_21 6 (dk_at dksX10_act_0 18 rfl rfl)
theorem dX10_act_20 : decode cX10_act 20 = .ok (.ifCond .eq 6, 3) := dk_153 0 6 (dk_at dksX10_act_0 20 rfl rfl)
theorem dX10_act_23 : decode cX10_act 23 = .ok (.iload 6, 2) := dk_21 6 (dk_at dksX10_act_1 0 rfl rfl)
theorem dX10_act_25 : decode cX10_act 25 = .ok (.ireturn, 1) := dk_172 (dk_at dksX10_act_1 2 rfl rfl)
theorem dX10_act_26 : decode cX10_act 26 = .ok (.aload_n 0, 1) := dk_42 (dk_at dksX10_act_1 3 rfl rfl)
theorem dX10_act_27 : decode cX10_act 27 = .ok (.invokevirtual 308, 3) := dk_182 1 52 (dk_at dksX10_act_1 4 rfl rfl)
theorem dX10_act_30 : decode cX10_act 30 = .ok (.aload_n 0, 1) := dk_42 (dk_at dksX10_act_1 7 rfl rfl)
theorem dX10_act_31 : decode cX10_act 31 = .ok (.iload_n 1, 1) := dk_27 (dk_at dksX10_act_1 8 rfl rfl)
theorem dX10_act_32 : decode cX10_act 32 = .ok (.iload_n 2, 1) := dk_28 (dk_at dksX10_act_1 9 rfl rfl)
theorem dX10_act_33 : decode cX10_act 33 = .ok (.iload_n 3, 1) := dk_29 (dk_at dksX10_act_1 10 rfl rfl)
theorem dX10_act_34 : decode cX10_act 34 = .ok (.iload 4, 2) := dk_21 4 (dk_at dksX10_act_1 11 rfl rfl)
theorem dX10_act_36 : decode cX10_act 36 = .ok (.invokevirtual 311, 3) := dk_182 1 55 (dk_at dksX10_act_1 13 rfl rfl)
theorem dX10_act_39 : decode cX10_act 39 = .ok (.iconst 0, 1) := dk_3 (dk_at dksX10_act_1 16 rfl rfl)
theorem dX10_act_40 : decode cX10_act 40 = .ok (.ireturn, 1) := dk_172 (dk_at dksX10_act_1 17 rfl rfl)
abbrev cX10_refusal : ByteArray := prog_23_method_88_code
def yX10_refusal : MethodName := ⟨RX10, "refusal", "(IIII)I"⟩
def dkwX10_refusal_10 : List UInt8 := [184, 1, 39, 153, 0, 7, 3, 167, 0, 4, 4, 172]
abbrev dktX10_refusal_10 : List UInt8 := dkwX10_refusal_10 ++ []
def dkwX10_refusal_9 : List UInt8 := [46, 17, 0, 200, 160, 0, 7, 5, 167, 0, 4, 3, 172, 29, 21, 4, 42, 180, 0, 98, 17, 10, 55, 46]
abbrev dktX10_refusal_9 : List UInt8 := dkwX10_refusal_9 ++ dktX10_refusal_10
def dkwX10_refusal_8 : List UInt8 := [180, 0, 98, 17, 10, 55, 46, 184, 0, 75, 154, 0, 7, 4, 167, 0, 22, 42, 180, 0, 98, 17, 10, 55]
abbrev dktX10_refusal_8 : List UInt8 := dkwX10_refusal_8 ++ dktX10_refusal_9
def dkwX10_refusal_7 : List UInt8 := [42, 28, 182, 0, 199, 96, 29, 100, 17, 2, 88, 164, 0, 7, 5, 167, 0, 4, 3, 172, 29, 3, 42]
abbrev dktX10_refusal_7 : List UInt8 := dkwX10_refusal_7 ++ dktX10_refusal_8
def dkwX10_refusal_6 : List UInt8 := [167, 0, 4, 3, 172, 42, 28, 29, 182, 0, 218, 154, 0, 7, 4, 167, 0, 28, 42, 21, 4, 182, 0, 199]
abbrev dktX10_refusal_6 : List UInt8 := dkwX10_refusal_6 ++ dktX10_refusal_7
def dkwX10_refusal_5 : List UInt8 := [167, 0, 26, 42, 28, 182, 0, 199, 42, 21, 4, 182, 0, 199, 96, 17, 2, 88, 164, 0, 7, 5]
abbrev dktX10_refusal_5 : List UInt8 := dkwX10_refusal_5 ++ dktX10_refusal_6
def dkwX10_refusal_4 : List UInt8 := [184, 1, 39, 153, 0, 7, 3, 167, 0, 4, 4, 172, 42, 21, 4, 182, 0, 199, 154, 0, 7, 4]
abbrev dktX10_refusal_4 : List UInt8 := dkwX10_refusal_4 ++ dktX10_refusal_5
def dkwX10_refusal_3 : List UInt8 := [182, 0, 212, 21, 4, 160, 0, 7, 5, 167, 0, 4, 3, 172, 29, 21, 4, 42, 28, 182, 0, 199]
abbrev dktX10_refusal_3 : List UInt8 := dkwX10_refusal_3 ++ dktX10_refusal_4
def dkwX10_refusal_2 : List UInt8 := [42, 28, 29, 4, 182, 1, 36, 172, 42, 28, 29, 182, 0, 218, 154, 0, 7, 4, 167, 0, 19, 42, 28, 29]
abbrev dktX10_refusal_2 : List UInt8 := dkwX10_refusal_2 ++ dktX10_refusal_3
def dkwX10_refusal_1 : List UInt8 := [170, 0, 0, 0, 0, 0, 217, 0, 0, 0, 0, 0, 0, 0, 6, 0, 0, 0, 43, 0, 0, 0, 51, 0, 0, 0, 81, 0, 0, 0, 81, 0, 0, 0, 101, 0, 0, 0, 138, 0, 0, 0, 177]
abbrev dktX10_refusal_1 : List UInt8 := dkwX10_refusal_1 ++ dktX10_refusal_2
def dkwX10_refusal_0 : List UInt8 := [27]
abbrev dktX10_refusal_0 : List UInt8 := dkwX10_refusal_0 ++ dktX10_refusal_1
theorem dksX10_refusal_0 : cX10_refusal.data.toList.drop 0 = dktX10_refusal_0 := by decide +kernel
theorem dksX10_refusal_1 : cX10_refusal.data.toList.drop 1 = dktX10_refusal_1 := dk_seg dksX10_refusal_0 1 rfl rfl
theorem dksX10_refusal_2 : cX10_refusal.data.toList.drop 44 = dktX10_refusal_2 := dk_seg dksX10_refusal_1 43 rfl rfl
theorem dksX10_refusal_3 : cX10_refusal.data.toList.drop 68 = dktX10_refusal_3 := dk_seg dksX10_refusal_2 24 rfl rfl
theorem dksX10_refusal_4 : cX10_refusal.data.toList.drop 90 = dktX10_refusal_4 := dk_seg dksX10_refusal_3 22 rfl rfl
theorem dksX10_refusal_5 : cX10_refusal.data.toList.drop 112 = dktX10_refusal_5 := dk_seg dksX10_refusal_4 22 rfl rfl
theorem dksX10_refusal_6 : cX10_refusal.data.toList.drop 134 = dktX10_refusal_6 := dk_seg dksX10_refusal_5 22 rfl rfl
theorem dksX10_refusal_7 : cX10_refusal.data.toList.drop 158 = dktX10_refusal_7 := dk_seg dksX10_refusal_6 24 rfl rfl
theorem dksX10_refusal_8 : cX10_refusal.data.toList.drop 181 = dktX10_refusal_8 := dk_seg dksX10_refusal_7 23 rfl rfl
theorem dksX10_refusal_9 : cX10_refusal.data.toList.drop 205 = dktX10_refusal_9 := dk_seg dksX10_refusal_8 24 rfl rfl
theorem dksX10_refusal_10 : cX10_refusal.data.toList.drop 229 = dktX10_refusal_10 := dk_seg dksX10_refusal_9 24 rfl rfl
theorem dX10_refusal_0 : decode cX10_refusal 0 = .ok (.iload_n 1, 1) := dk_27 (dk_at dksX10_refusal_0 0 rfl rfl)
theorem dX10_refusal_1 : decode cX10_refusal 1 = .ok (.tableswitch 217 0 6 #[43, 51, 81, 81, 101, 138, 177], 43) := by decide +kernel
theorem dX10_refusal_44 : decode cX10_refusal 44 = .ok (.aload_n 0, 1) := dk_42 (dk_at dksX10_refusal_2 0 rfl rfl)
theorem dX10_refusal_45 : decode cX10_refusal 45 = .ok (.iload_n 2, 1) := dk_28 (dk_at dksX10_refusal_2 1 rfl rfl)
theorem dX10_refusal_46 : decode cX10_refusal 46 = .ok (.iload_n 3, 1) := dk_29 (dk_at dksX10_refusal_2 2 rfl rfl)
theorem dX10_refusal_47 : decode cX10_refusal 47 = .ok (.iconst 1, 1) := dk_4 (dk_at dksX10_refusal_2 3 rfl rfl)
theorem dX10_refusal_48 : decode cX10_refusal 48 = .ok (.invokevirtual 292, 3) := dk_182 1 36 (dk_at dksX10_refusal_2 4 rfl rfl)
theorem dX10_refusal_51 : decode cX10_refusal 51 = .ok (.ireturn, 1) := dk_172 (dk_at dksX10_refusal_2 7 rfl rfl)
theorem dX10_refusal_52 : decode cX10_refusal 52 = .ok (.aload_n 0, 1) := dk_42 (dk_at dksX10_refusal_2 8 rfl rfl)
theorem dX10_refusal_53 : decode cX10_refusal 53 = .ok (.iload_n 2, 1) := dk_28 (dk_at dksX10_refusal_2 9 rfl rfl)
theorem dX10_refusal_54 : decode cX10_refusal 54 = .ok (.iload_n 3, 1) := dk_29 (dk_at dksX10_refusal_2 10 rfl rfl)
theorem dX10_refusal_55 : decode cX10_refusal 55 = .ok (.invokevirtual 218, 3) := dk_182 0 218 (dk_at dksX10_refusal_2 11 rfl rfl)
theorem dX10_refusal_58 : decode cX10_refusal 58 = .ok (.ifCond .ne 7, 3) := dk_154 0 7 (dk_at dksX10_refusal_2 14 rfl rfl)
theorem dX10_refusal_61 : decode cX10_refusal 61 = .ok (.iconst 1, 1) := dk_4 (dk_at dksX10_refusal_2 17 rfl rfl)
theorem dX10_refusal_62 : decode cX10_refusal 62 = .ok (.goto 19, 3) := dk_167 0 19 (dk_at dksX10_refusal_2 18 rfl rfl)
theorem dX10_refusal_65 : decode cX10_refusal 65 = .ok (.aload_n 0, 1) := dk_42 (dk_at dksX10_refusal_2 21 rfl rfl)
theorem dX10_refusal_66 : decode cX10_refusal 66 = .ok (.iload_n 2, 1) := dk_28 (dk_at dksX10_refusal_2 22 rfl rfl)
theorem dX10_refusal_67 : decode cX10_refusal 67 = .ok (.iload_n 3, 1) := dk_29 (dk_at dksX10_refusal_2 23 rfl rfl)
theorem dX10_refusal_68 : decode cX10_refusal 68 = .ok (.invokevirtual 212, 3) := dk_182 0 212 (dk_at dksX10_refusal_3 0 rfl rfl)
theorem dX10_refusal_71 : decode cX10_refusal 71 = .ok (.iload 4, 2) := dk_21 4 (dk_at dksX10_refusal_3 3 rfl rfl)
theorem dX10_refusal_73 : decode cX10_refusal 73 = .ok (.if_icmp .ne 7, 3) := dk_160 0 7 (dk_at dksX10_refusal_3 5 rfl rfl)
theorem dX10_refusal_76 : decode cX10_refusal 76 = .ok (.iconst 2, 1) := dk_5 (dk_at dksX10_refusal_3 8 rfl rfl)
theorem dX10_refusal_77 : decode cX10_refusal 77 = .ok (.goto 4, 3) := dk_167 0 4 (dk_at dksX10_refusal_3 9 rfl rfl)
theorem dX10_refusal_80 : decode cX10_refusal 80 = .ok (.iconst 0, 1) := dk_3 (dk_at dksX10_refusal_3 12 rfl rfl)
theorem dX10_refusal_81 : decode cX10_refusal 81 = .ok (.ireturn, 1) := dk_172 (dk_at dksX10_refusal_3 13 rfl rfl)
theorem dX10_refusal_82 : decode cX10_refusal 82 = .ok (.iload_n 3, 1) := dk_29 (dk_at dksX10_refusal_3 14 rfl rfl)
theorem dX10_refusal_83 : decode cX10_refusal 83 = .ok (.iload 4, 2) := dk_21 4 (dk_at dksX10_refusal_3 15 rfl rfl)
theorem dX10_refusal_85 : decode cX10_refusal 85 = .ok (.aload_n 0, 1) := dk_42 (dk_at dksX10_refusal_3 17 rfl rfl)
theorem dX10_refusal_86 : decode cX10_refusal 86 = .ok (.iload_n 2, 1) := dk_28 (dk_at dksX10_refusal_3 18 rfl rfl)
theorem dX10_refusal_87 : decode cX10_refusal 87 = .ok (.invokevirtual 199, 3) := dk_182 0 199 (dk_at dksX10_refusal_3 19 rfl rfl)
theorem dX10_refusal_90 : decode cX10_refusal 90 = .ok (.invokestatic 295, 3) := dk_184 1 39 (dk_at dksX10_refusal_4 0 rfl rfl)
theorem dX10_refusal_93 : decode cX10_refusal 93 = .ok (.ifCond .eq 7, 3) := dk_153 0 7 (dk_at dksX10_refusal_4 3 rfl rfl)
theorem dX10_refusal_96 : decode cX10_refusal 96 = .ok (.iconst 0, 1) := dk_3 (dk_at dksX10_refusal_4 6 rfl rfl)
theorem dX10_refusal_97 : decode cX10_refusal 97 = .ok (.goto 4, 3) := dk_167 0 4 (dk_at dksX10_refusal_4 7 rfl rfl)
theorem dX10_refusal_100 : decode cX10_refusal 100 = .ok (.iconst 1, 1) := dk_4 (dk_at dksX10_refusal_4 10 rfl rfl)
theorem dX10_refusal_101 : decode cX10_refusal 101 = .ok (.ireturn, 1) := dk_172 (dk_at dksX10_refusal_4 11 rfl rfl)
theorem dX10_refusal_102 : decode cX10_refusal 102 = .ok (.aload_n 0, 1) := dk_42 (dk_at dksX10_refusal_4 12 rfl rfl)
theorem dX10_refusal_103 : decode cX10_refusal 103 = .ok (.iload 4, 2) := dk_21 4 (dk_at dksX10_refusal_4 13 rfl rfl)
theorem dX10_refusal_105 : decode cX10_refusal 105 = .ok (.invokevirtual 199, 3) := dk_182 0 199 (dk_at dksX10_refusal_4 15 rfl rfl)
theorem dX10_refusal_108 : decode cX10_refusal 108 = .ok (.ifCond .ne 7, 3) := dk_154 0 7 (dk_at dksX10_refusal_4 18 rfl rfl)
theorem dX10_refusal_111 : decode cX10_refusal 111 = .ok (.iconst 1, 1) := dk_4 (dk_at dksX10_refusal_4 21 rfl rfl)
theorem dX10_refusal_112 : decode cX10_refusal 112 = .ok (.goto 26, 3) := dk_167 0 26 (dk_at dksX10_refusal_5 0 rfl rfl)
theorem dX10_refusal_115 : decode cX10_refusal 115 = .ok (.aload_n 0, 1) := dk_42 (dk_at dksX10_refusal_5 3 rfl rfl)
theorem dX10_refusal_116 : decode cX10_refusal 116 = .ok (.iload_n 2, 1) := dk_28 (dk_at dksX10_refusal_5 4 rfl rfl)
theorem dX10_refusal_117 : decode cX10_refusal 117 = .ok (.invokevirtual 199, 3) := dk_182 0 199 (dk_at dksX10_refusal_5 5 rfl rfl)
theorem dX10_refusal_120 : decode cX10_refusal 120 = .ok (.aload_n 0, 1) := dk_42 (dk_at dksX10_refusal_5 8 rfl rfl)
theorem dX10_refusal_121 : decode cX10_refusal 121 = .ok (.iload 4, 2) := dk_21 4 (dk_at dksX10_refusal_5 9 rfl rfl)
theorem dX10_refusal_123 : decode cX10_refusal 123 = .ok (.invokevirtual 199, 3) := dk_182 0 199 (dk_at dksX10_refusal_5 11 rfl rfl)
theorem dX10_refusal_126 : decode cX10_refusal 126 = .ok (.iadd, 1) := dk_96 (dk_at dksX10_refusal_5 14 rfl rfl)
theorem dX10_refusal_127 : decode cX10_refusal 127 = .ok (.sipush 600, 3) := dk_17 2 88 (dk_at dksX10_refusal_5 15 rfl rfl)
theorem dX10_refusal_130 : decode cX10_refusal 130 = .ok (.if_icmp .le 7, 3) := dk_164 0 7 (dk_at dksX10_refusal_5 18 rfl rfl)
theorem dX10_refusal_133 : decode cX10_refusal 133 = .ok (.iconst 2, 1) := dk_5 (dk_at dksX10_refusal_5 21 rfl rfl)
theorem dX10_refusal_134 : decode cX10_refusal 134 = .ok (.goto 4, 3) := dk_167 0 4 (dk_at dksX10_refusal_6 0 rfl rfl)
theorem dX10_refusal_137 : decode cX10_refusal 137 = .ok (.iconst 0, 1) := dk_3 (dk_at dksX10_refusal_6 3 rfl rfl)
theorem dX10_refusal_138 : decode cX10_refusal 138 = .ok (.ireturn, 1) := dk_172 (dk_at dksX10_refusal_6 4 rfl rfl)
theorem dX10_refusal_139 : decode cX10_refusal 139 = .ok (.aload_n 0, 1) := dk_42 (dk_at dksX10_refusal_6 5 rfl rfl)
theorem dX10_refusal_140 : decode cX10_refusal 140 = .ok (.iload_n 2, 1) := dk_28 (dk_at dksX10_refusal_6 6 rfl rfl)
theorem dX10_refusal_141 : decode cX10_refusal 141 = .ok (.iload_n 3, 1) := dk_29 (dk_at dksX10_refusal_6 7 rfl rfl)
theorem dX10_refusal_142 : decode cX10_refusal 142 = .ok (.invokevirtual 218, 3) := dk_182 0 218 (dk_at dksX10_refusal_6 8 rfl rfl)
theorem dX10_refusal_145 : decode cX10_refusal 145 = .ok (.ifCond .ne 7, 3) := dk_154 0 7 (dk_at dksX10_refusal_6 11 rfl rfl)
theorem dX10_refusal_148 : decode cX10_refusal 148 = .ok (.iconst 1, 1) := dk_4 (dk_at dksX10_refusal_6 14 rfl rfl)
theorem dX10_refusal_149 : decode cX10_refusal 149 = .ok (.goto 28, 3) := dk_167 0 28 (dk_at dksX10_refusal_6 15 rfl rfl)
theorem dX10_refusal_152 : decode cX10_refusal 152 = .ok (.aload_n 0, 1) := dk_42 (dk_at dksX10_refusal_6 18 rfl rfl)
theorem dX10_refusal_153 : decode cX10_refusal 153 = .ok (.iload 4, 2) := dk_21 4 (dk_at dksX10_refusal_6 19 rfl rfl)
theorem dX10_refusal_155 : decode cX10_refusal 155 = .ok (.invokevirtual 199, 3) := dk_182 0 199 (dk_at dksX10_refusal_6 21 rfl rfl)
theorem dX10_refusal_158 : decode cX10_refusal 158 = .ok (.aload_n 0, 1) := dk_42 (dk_at dksX10_refusal_7 0 rfl rfl)
theorem dX10_refusal_159 : decode cX10_refusal 159 = .ok (.iload_n 2, 1) := dk_28 (dk_at dksX10_refusal_7 1 rfl rfl)
theorem dX10_refusal_160 : decode cX10_refusal 160 = .ok (.invokevirtual 199, 3) := dk_182 0 199 (dk_at dksX10_refusal_7 2 rfl rfl)
theorem dX10_refusal_163 : decode cX10_refusal 163 = .ok (.iadd, 1) := dk_96 (dk_at dksX10_refusal_7 5 rfl rfl)
theorem dX10_refusal_164 : decode cX10_refusal 164 = .ok (.iload_n 3, 1) := dk_29 (dk_at dksX10_refusal_7 6 rfl rfl)
theorem dX10_refusal_165 : decode cX10_refusal 165 = .ok (.isub, 1) := dk_100 (dk_at dksX10_refusal_7 7 rfl rfl)
theorem dX10_refusal_166 : decode cX10_refusal 166 = .ok (.sipush 600, 3) := dk_17 2 88 (dk_at dksX10_refusal_7 8 rfl rfl)
theorem dX10_refusal_169 : decode cX10_refusal 169 = .ok (.if_icmp .le 7, 3) := dk_164 0 7 (dk_at dksX10_refusal_7 11 rfl rfl)
theorem dX10_refusal_172 : decode cX10_refusal 172 = .ok (.iconst 2, 1) := dk_5 (dk_at dksX10_refusal_7 14 rfl rfl)
theorem dX10_refusal_173 : decode cX10_refusal 173 = .ok (.goto 4, 3) := dk_167 0 4 (dk_at dksX10_refusal_7 15 rfl rfl)
theorem dX10_refusal_176 : decode cX10_refusal 176 = .ok (.iconst 0, 1) := dk_3 (dk_at dksX10_refusal_7 18 rfl rfl)
theorem dX10_refusal_177 : decode cX10_refusal 177 = .ok (.ireturn, 1) := dk_172 (dk_at dksX10_refusal_7 19 rfl rfl)
theorem dX10_refusal_178 : decode cX10_refusal 178 = .ok (.iload_n 3, 1) := dk_29 (dk_at dksX10_refusal_7 20 rfl rfl)
theorem dX10_refusal_179 : decode cX10_refusal 179 = .ok (.iconst 0, 1) := dk_3 (dk_at dksX10_refusal_7 21 rfl rfl)
theorem dX10_refusal_180 : decode cX10_refusal 180 = .ok (.aload_n 0, 1) := dk_42 (dk_at dksX10_refusal_7 22 rfl rfl)
theorem dX10_refusal_181 : decode cX10_refusal 181 = .ok (.getfield 98, 3) := dk_180 0 98 (dk_at dksX10_refusal_8 0 rfl rfl)
theorem dX10_refusal_184 : decode cX10_refusal 184 = .ok (.sipush 2615, 3) := dk_17 10 55 (dk_at dksX10_refusal_8 3 rfl rfl)
theorem dX10_refusal_187 : decode cX10_refusal 187 = .ok (.iaload, 1) := dk_46 (dk_at dksX10_refusal_8 6 rfl rfl)
theorem dX10_refusal_188 : decode cX10_refusal 188 = .ok (.invokestatic 75, 3) := dk_184 0 75 (dk_at dksX10_refusal_8 7 rfl rfl)
theorem dX10_refusal_191 : decode cX10_refusal 191 = .ok (.ifCond .ne 7, 3) := dk_154 0 7 (dk_at dksX10_refusal_8 10 rfl rfl)
theorem dX10_refusal_194 : decode cX10_refusal 194 = .ok (.iconst 1, 1) := dk_4 (dk_at dksX10_refusal_8 13 rfl rfl)
theorem dX10_refusal_195 : decode cX10_refusal 195 = .ok (.goto 22, 3) := dk_167 0 22 (dk_at dksX10_refusal_8 14 rfl rfl)
theorem dX10_refusal_198 : decode cX10_refusal 198 = .ok (.aload_n 0, 1) := dk_42 (dk_at dksX10_refusal_8 17 rfl rfl)
theorem dX10_refusal_199 : decode cX10_refusal 199 = .ok (.getfield 98, 3) := dk_180 0 98 (dk_at dksX10_refusal_8 18 rfl rfl)
theorem dX10_refusal_202 : decode cX10_refusal 202 = .ok (.sipush 2615, 3) := dk_17 10 55 (dk_at dksX10_refusal_8 21 rfl rfl)
theorem dX10_refusal_205 : decode cX10_refusal 205 = .ok (.iaload, 1) := dk_46 (dk_at dksX10_refusal_9 0 rfl rfl)
theorem dX10_refusal_206 : decode cX10_refusal 206 = .ok (.sipush 200, 3) := dk_17 0 200 (dk_at dksX10_refusal_9 1 rfl rfl)
theorem dX10_refusal_209 : decode cX10_refusal 209 = .ok (.if_icmp .ne 7, 3) := dk_160 0 7 (dk_at dksX10_refusal_9 4 rfl rfl)
theorem dX10_refusal_212 : decode cX10_refusal 212 = .ok (.iconst 2, 1) := dk_5 (dk_at dksX10_refusal_9 7 rfl rfl)
theorem dX10_refusal_213 : decode cX10_refusal 213 = .ok (.goto 4, 3) := dk_167 0 4 (dk_at dksX10_refusal_9 8 rfl rfl)
theorem dX10_refusal_216 : decode cX10_refusal 216 = .ok (.iconst 0, 1) := dk_3 (dk_at dksX10_refusal_9 11 rfl rfl)
theorem dX10_refusal_217 : decode cX10_refusal 217 = .ok (.ireturn, 1) := dk_172 (dk_at dksX10_refusal_9 12 rfl rfl)
theorem dX10_refusal_218 : decode cX10_refusal 218 = .ok (.iload_n 3, 1) := dk_29 (dk_at dksX10_refusal_9 13 rfl rfl)
theorem dX10_refusal_219 : decode cX10_refusal 219 = .ok (.iload 4, 2) := dk_21 4 (dk_at dksX10_refusal_9 14 rfl rfl)
theorem dX10_refusal_221 : decode cX10_refusal 221 = .ok (.aload_n 0, 1) := dk_42 (dk_at dksX10_refusal_9 16 rfl rfl)
theorem dX10_refusal_222 : decode cX10_refusal 222 = .ok (.getfield 98, 3) := dk_180 0 98 (dk_at dksX10_refusal_9 17 rfl rfl)
theorem dX10_refusal_225 : decode cX10_refusal 225 = .ok (.sipush 2615, 3) := dk_17 10 55 (dk_at dksX10_refusal_9 20 rfl rfl)
theorem dX10_refusal_228 : decode cX10_refusal 228 = .ok (.iaload, 1) := dk_46 (dk_at dksX10_refusal_9 23 rfl rfl)
theorem dX10_refusal_229 : decode cX10_refusal 229 = .ok (.invokestatic 295, 3) := dk_184 1 39 (dk_at dksX10_refusal_10 0 rfl rfl)
theorem dX10_refusal_232 : decode cX10_refusal 232 = .ok (.ifCond .eq 7, 3) := dk_153 0 7 (dk_at dksX10_refusal_10 3 rfl rfl)
theorem dX10_refusal_235 : decode cX10_refusal 235 = .ok (.iconst 0, 1) := dk_3 (dk_at dksX10_refusal_10 6 rfl rfl)
theorem dX10_refusal_236 : decode cX10_refusal 236 = .ok (.goto 4, 3) := dk_167 0 4 (dk_at dksX10_refusal_10 7 rfl rfl)
theorem dX10_refusal_239 : decode cX10_refusal 239 = .ok (.iconst 1, 1) := dk_4 (dk_at dksX10_refusal_10 10 rfl rfl)
theorem dX10_refusal_240 : decode cX10_refusal 240 = .ok (.ireturn, 1) := dk_172 (dk_at dksX10_refusal_10 11 rfl rfl)
abbrev cX10_whyPut : ByteArray := prog_23_method_87_code
def yX10_whyPut : MethodName := ⟨RX10, "whyPut", "(III)I"⟩
def dkwX10_whyPut_1 : List UInt8 := [17, 2, 88, 164, 0, 7, 5, 167, 0, 4, 3, 172]
abbrev dktX10_whyPut_1 : List UInt8 := dkwX10_whyPut_1 ++ []
def dkwX10_whyPut_0 : List UInt8 := [28, 3, 42, 27, 182, 0, 199, 184, 0, 75, 154, 0, 7, 4, 167, 0, 21, 42, 27, 182, 0, 199, 29, 96]
abbrev dktX10_whyPut_0 : List UInt8 := dkwX10_whyPut_0 ++ dktX10_whyPut_1
theorem dksX10_whyPut_0 : cX10_whyPut.data.toList.drop 0 = dktX10_whyPut_0 := by decide +kernel
theorem dksX10_whyPut_1 : cX10_whyPut.data.toList.drop 24 = dktX10_whyPut_1 := dk_seg dksX10_whyPut_0 24 rfl rfl
theorem dX10_whyPut_0 : decode cX10_whyPut 0 = .ok (.iload_n 2, 1) := dk_28 (dk_at dksX10_whyPut_0 0 rfl rfl)
theorem dX10_whyPut_1 : decode cX10_whyPut 1 = .ok (.iconst 0, 1) := dk_3 (dk_at dksX10_whyPut_0 1 rfl rfl)
theorem dX10_whyPut_2 : decode cX10_whyPut 2 = .ok (.aload_n 0, 1) := dk_42 (dk_at dksX10_whyPut_0 2 rfl rfl)
theorem dX10_whyPut_3 : decode cX10_whyPut 3 = .ok (.iload_n 1, 1) := dk_27 (dk_at dksX10_whyPut_0 3 rfl rfl)
theorem dX10_whyPut_4 : decode cX10_whyPut 4 = .ok (.invokevirtual 199, 3) := dk_182 0 199 (dk_at dksX10_whyPut_0 4 rfl rfl)
theorem dX10_whyPut_7 : decode cX10_whyPut 7 = .ok (.invokestatic 75, 3) := dk_184 0 75 (dk_at dksX10_whyPut_0 7 rfl rfl)
theorem dX10_whyPut_10 : decode cX10_whyPut 10 = .ok (.ifCond .ne 7, 3) := dk_154 0 7 (dk_at dksX10_whyPut_0 10 rfl rfl)
theorem dX10_whyPut_13 : decode cX10_whyPut 13 = .ok (.iconst 1, 1) := dk_4 (dk_at dksX10_whyPut_0 13 rfl rfl)
theorem dX10_whyPut_14 : decode cX10_whyPut 14 = .ok (.goto 21, 3) := dk_167 0 21 (dk_at dksX10_whyPut_0 14 rfl rfl)
theorem dX10_whyPut_17 : decode cX10_whyPut 17 = .ok (.aload_n 0, 1) := dk_42 (dk_at dksX10_whyPut_0 17 rfl rfl)
theorem dX10_whyPut_18 : decode cX10_whyPut 18 = .ok (.iload_n 1, 1) := dk_27 (dk_at dksX10_whyPut_0 18 rfl rfl)
theorem dX10_whyPut_19 : decode cX10_whyPut 19 = .ok (.invokevirtual 199, 3) := dk_182 0 199 (dk_at dksX10_whyPut_0 19 rfl rfl)
theorem dX10_whyPut_22 : decode cX10_whyPut 22 = .ok (.iload_n 3, 1) := dk_29 (dk_at dksX10_whyPut_0 22 rfl rfl)
theorem dX10_whyPut_23 : decode cX10_whyPut 23 = .ok (.iadd, 1) := dk_96 (dk_at dksX10_whyPut_0 23 rfl rfl)
theorem dX10_whyPut_24 : decode cX10_whyPut 24 = .ok (.sipush 600, 3) := dk_17 2 88 (dk_at dksX10_whyPut_1 0 rfl rfl)
theorem dX10_whyPut_27 : decode cX10_whyPut 27 = .ok (.if_icmp .le 7, 3) := dk_164 0 7 (dk_at dksX10_whyPut_1 3 rfl rfl)
theorem dX10_whyPut_30 : decode cX10_whyPut 30 = .ok (.iconst 2, 1) := dk_5 (dk_at dksX10_whyPut_1 6 rfl rfl)
theorem dX10_whyPut_31 : decode cX10_whyPut 31 = .ok (.goto 4, 3) := dk_167 0 4 (dk_at dksX10_whyPut_1 7 rfl rfl)
theorem dX10_whyPut_34 : decode cX10_whyPut 34 = .ok (.iconst 0, 1) := dk_3 (dk_at dksX10_whyPut_1 10 rfl rfl)
theorem dX10_whyPut_35 : decode cX10_whyPut 35 = .ok (.ireturn, 1) := dk_172 (dk_at dksX10_whyPut_1 11 rfl rfl)
abbrev cX10_areThere : ByteArray := prog_23_method_86_code
def yX10_areThere : MethodName := ⟨RX10, "areThere", "(III)Z"⟩
def dkwX10_areThere_0 : List UInt8 := [26, 155, 0, 19, 27, 28, 163, 0, 14, 26, 28, 27, 100, 163, 0, 7, 4, 167, 0, 4, 3, 172]
abbrev dktX10_areThere_0 : List UInt8 := dkwX10_areThere_0 ++ []
theorem dksX10_areThere_0 : cX10_areThere.data.toList.drop 0 = dktX10_areThere_0 := by decide +kernel
theorem dX10_areThere_0 : decode cX10_areThere 0 = .ok (.iload_n 0, 1) := dk_26 (dk_at dksX10_areThere_0 0 rfl rfl)
theorem dX10_areThere_1 : decode cX10_areThere 1 = .ok (.ifCond .lt 19, 3) := dk_155 0 19 (dk_at dksX10_areThere_0 1 rfl rfl)
theorem dX10_areThere_4 : decode cX10_areThere 4 = .ok (.iload_n 1, 1) := dk_27 (dk_at dksX10_areThere_0 4 rfl rfl)
theorem dX10_areThere_5 : decode cX10_areThere 5 = .ok (.iload_n 2, 1) := dk_28 (dk_at dksX10_areThere_0 5 rfl rfl)
theorem dX10_areThere_6 : decode cX10_areThere 6 = .ok (.if_icmp .gt 14, 3) := dk_163 0 14 (dk_at dksX10_areThere_0 6 rfl rfl)
theorem dX10_areThere_9 : decode cX10_areThere 9 = .ok (.iload_n 0, 1) := dk_26 (dk_at dksX10_areThere_0 9 rfl rfl)
theorem dX10_areThere_10 : decode cX10_areThere 10 = .ok (.iload_n 2, 1) := dk_28 (dk_at dksX10_areThere_0 10 rfl rfl)
theorem dX10_areThere_11 : decode cX10_areThere 11 = .ok (.iload_n 1, 1) := dk_27 (dk_at dksX10_areThere_0 11 rfl rfl)
theorem dX10_areThere_12 : decode cX10_areThere 12 = .ok (.isub, 1) := dk_100 (dk_at dksX10_areThere_0 12 rfl rfl)
theorem dX10_areThere_13 : decode cX10_areThere 13 = .ok (.if_icmp .gt 7, 3) := dk_163 0 7 (dk_at dksX10_areThere_0 13 rfl rfl)
theorem dX10_areThere_16 : decode cX10_areThere 16 = .ok (.iconst 1, 1) := dk_4 (dk_at dksX10_areThere_0 16 rfl rfl)
theorem dX10_areThere_17 : decode cX10_areThere 17 = .ok (.goto 4, 3) := dk_167 0 4 (dk_at dksX10_areThere_0 17 rfl rfl)
theorem dX10_areThere_20 : decode cX10_areThere 20 = .ok (.iconst 0, 1) := dk_3 (dk_at dksX10_areThere_0 20 rfl rfl)
theorem dX10_areThere_21 : decode cX10_areThere 21 = .ok (.ireturn, 1) := dk_172 (dk_at dksX10_areThere_0 21 rfl rfl)
abbrev cX10_snap : ByteArray := prog_23_method_85_code
def yX10_snap : MethodName := ⟨RX10, "snap", "()V"⟩
def dkwX10_snap_3 : List UInt8 := [4, 96, 181, 0, 192, 177]
abbrev dktX10_snap_3 : List UInt8 := dkwX10_snap_3 ++ []
def dkwX10_snap_2 : List UInt8 := [181, 0, 192, 42, 42, 180, 0, 107, 17, 12, 141, 42, 180, 0, 192, 104, 182, 1, 32, 42, 89, 180, 0, 192]
abbrev dktX10_snap_2 : List UInt8 := dkwX10_snap_2 ++ dktX10_snap_3
def dkwX10_snap_1 : List UInt8 := [180, 0, 107, 27, 17, 12, 141, 96, 46, 79, 132, 1, 1, 167, 255, 230, 42, 89, 180, 0, 192, 4, 100]
abbrev dktX10_snap_1 : List UInt8 := dkwX10_snap_1 ++ dktX10_snap_2
def dkwX10_snap_0 : List UInt8 := [42, 180, 0, 192, 16, 8, 160, 0, 44, 3, 60, 27, 17, 87, 219, 162, 0, 25, 42, 180, 0, 107, 27, 42]
abbrev dktX10_snap_0 : List UInt8 := dkwX10_snap_0 ++ dktX10_snap_1
theorem dksX10_snap_0 : cX10_snap.data.toList.drop 0 = dktX10_snap_0 := by decide +kernel
theorem dksX10_snap_1 : cX10_snap.data.toList.drop 24 = dktX10_snap_1 := dk_seg dksX10_snap_0 24 rfl rfl
theorem dksX10_snap_2 : cX10_snap.data.toList.drop 47 = dktX10_snap_2 := dk_seg dksX10_snap_1 23 rfl rfl
theorem dksX10_snap_3 : cX10_snap.data.toList.drop 71 = dktX10_snap_3 := dk_seg dksX10_snap_2 24 rfl rfl
theorem dX10_snap_0 : decode cX10_snap 0 = .ok (.aload_n 0, 1) := dk_42 (dk_at dksX10_snap_0 0 rfl rfl)
theorem dX10_snap_1 : decode cX10_snap 1 = .ok (.getfield 192, 3) := dk_180 0 192 (dk_at dksX10_snap_0 1 rfl rfl)
theorem dX10_snap_4 : decode cX10_snap 4 = .ok (.bipush 8, 2) := dk_16 8 (dk_at dksX10_snap_0 4 rfl rfl)
theorem dX10_snap_6 : decode cX10_snap 6 = .ok (.if_icmp .ne 44, 3) := dk_160 0 44 (dk_at dksX10_snap_0 6 rfl rfl)
theorem dX10_snap_9 : decode cX10_snap 9 = .ok (.iconst 0, 1) := dk_3 (dk_at dksX10_snap_0 9 rfl rfl)
theorem dX10_snap_10 : decode cX10_snap 10 = .ok (.istore_n 1, 1) := dk_60 (dk_at dksX10_snap_0 10 rfl rfl)
theorem dX10_snap_11 : decode cX10_snap 11 = .ok (.iload_n 1, 1) := dk_27 (dk_at dksX10_snap_0 11 rfl rfl)
theorem dX10_snap_12 : decode cX10_snap 12 = .ok (.sipush 22491, 3) := dk_17 87 219 (dk_at dksX10_snap_0 12 rfl rfl)
theorem dX10_snap_15 : decode cX10_snap 15 = .ok (.if_icmp .ge 25, 3) := dk_162 0 25 (dk_at dksX10_snap_0 15 rfl rfl)
theorem dX10_snap_18 : decode cX10_snap 18 = .ok (.aload_n 0, 1) := dk_42 (dk_at dksX10_snap_0 18 rfl rfl)
theorem dX10_snap_19 : decode cX10_snap 19 = .ok (.getfield 107, 3) := dk_180 0 107 (dk_at dksX10_snap_0 19 rfl rfl)
theorem dX10_snap_22 : decode cX10_snap 22 = .ok (.iload_n 1, 1) := dk_27 (dk_at dksX10_snap_0 22 rfl rfl)
theorem dX10_snap_23 : decode cX10_snap 23 = .ok (.aload_n 0, 1) := dk_42 (dk_at dksX10_snap_0 23 rfl rfl)
theorem dX10_snap_24 : decode cX10_snap 24 = .ok (.getfield 107, 3) := dk_180 0 107 (dk_at dksX10_snap_1 0 rfl rfl)
theorem dX10_snap_27 : decode cX10_snap 27 = .ok (.iload_n 1, 1) := dk_27 (dk_at dksX10_snap_1 3 rfl rfl)
theorem dX10_snap_28 : decode cX10_snap 28 = .ok (.sipush 3213, 3) := dk_17 12 141 (dk_at dksX10_snap_1 4 rfl rfl)
theorem dX10_snap_31 : decode cX10_snap 31 = .ok (.iadd, 1) := dk_96 (dk_at dksX10_snap_1 7 rfl rfl)
theorem dX10_snap_32 : decode cX10_snap 32 = .ok (.iaload, 1) := dk_46 (dk_at dksX10_snap_1 8 rfl rfl)
theorem dX10_snap_33 : decode cX10_snap 33 = .ok (.iastore, 1) := dk_79 (dk_at dksX10_snap_1 9 rfl rfl)
theorem dX10_snap_34 : decode cX10_snap 34 = .ok (.iinc 1 1, 3) := dk_132 1 1 (dk_at dksX10_snap_1 10 rfl rfl)
theorem dX10_snap_37 : decode cX10_snap 37 = .ok (.goto (-26), 3) := dk_167 255 230 (dk_at dksX10_snap_1 13 rfl rfl)
theorem dX10_snap_40 : decode cX10_snap 40 = .ok (.aload_n 0, 1) := dk_42 (dk_at dksX10_snap_1 16 rfl rfl)
theorem dX10_snap_41 : decode cX10_snap 41 = .ok (.dup, 1) := dk_89 (dk_at dksX10_snap_1 17 rfl rfl)
theorem dX10_snap_42 : decode cX10_snap 42 = .ok (.getfield 192, 3) := dk_180 0 192 (dk_at dksX10_snap_1 18 rfl rfl)
theorem dX10_snap_45 : decode cX10_snap 45 = .ok (.iconst 1, 1) := dk_4 (dk_at dksX10_snap_1 21 rfl rfl)
theorem dX10_snap_46 : decode cX10_snap 46 = .ok (.isub, 1) := dk_100 (dk_at dksX10_snap_1 22 rfl rfl)
theorem dX10_snap_47 : decode cX10_snap 47 = .ok (.putfield 192, 3) := dk_181 0 192 (dk_at dksX10_snap_2 0 rfl rfl)
theorem dX10_snap_50 : decode cX10_snap 50 = .ok (.aload_n 0, 1) := dk_42 (dk_at dksX10_snap_2 3 rfl rfl)
theorem dX10_snap_51 : decode cX10_snap 51 = .ok (.aload_n 0, 1) := dk_42 (dk_at dksX10_snap_2 4 rfl rfl)
theorem dX10_snap_52 : decode cX10_snap 52 = .ok (.getfield 107, 3) := dk_180 0 107 (dk_at dksX10_snap_2 5 rfl rfl)
theorem dX10_snap_55 : decode cX10_snap 55 = .ok (.sipush 3213, 3) := dk_17 12 141 (dk_at dksX10_snap_2 8 rfl rfl)
theorem dX10_snap_58 : decode cX10_snap 58 = .ok (.aload_n 0, 1) := dk_42 (dk_at dksX10_snap_2 11 rfl rfl)
theorem dX10_snap_59 : decode cX10_snap 59 = .ok (.getfield 192, 3) := dk_180 0 192 (dk_at dksX10_snap_2 12 rfl rfl)
theorem dX10_snap_62 : decode cX10_snap 62 = .ok (.imul, 1) := dk_104 (dk_at dksX10_snap_2 15 rfl rfl)
theorem dX10_snap_63 : decode cX10_snap 63 = .ok (.invokevirtual 288, 3) := dk_182 1 32 (dk_at dksX10_snap_2 16 rfl rfl)
theorem dX10_snap_66 : decode cX10_snap 66 = .ok (.aload_n 0, 1) := dk_42 (dk_at dksX10_snap_2 19 rfl rfl)
theorem dX10_snap_67 : decode cX10_snap 67 = .ok (.dup, 1) := dk_89 (dk_at dksX10_snap_2 20 rfl rfl)
theorem dX10_snap_68 : decode cX10_snap 68 = .ok (.getfield 192, 3) := dk_180 0 192 (dk_at dksX10_snap_2 21 rfl rfl)
theorem dX10_snap_71 : decode cX10_snap 71 = .ok (.iconst 1, 1) := dk_4 (dk_at dksX10_snap_3 0 rfl rfl)
theorem dX10_snap_72 : decode cX10_snap 72 = .ok (.iadd, 1) := dk_96 (dk_at dksX10_snap_3 1 rfl rfl)
theorem dX10_snap_73 : decode cX10_snap 73 = .ok (.putfield 192, 3) := dk_181 0 192 (dk_at dksX10_snap_3 2 rfl rfl)
theorem dX10_snap_76 : decode cX10_snap 76 = .ok (.return_, 1) := dk_177 (dk_at dksX10_snap_3 5 rfl rfl)
abbrev cX10_save : ByteArray := prog_23_method_83_code
def yX10_save : MethodName := ⟨RX10, "save", "([II)V"⟩
def dkwX10_save_1 : List UInt8 := [132, 3, 1, 167, 255, 231, 177]
abbrev dktX10_save_1 : List UInt8 := dkwX10_save_1 ++ []
def dkwX10_save_0 : List UInt8 := [3, 62, 29, 17, 12, 141, 162, 0, 24, 43, 28, 29, 96, 42, 180, 0, 98, 17, 10, 47, 29, 96, 46, 79]
abbrev dktX10_save_0 : List UInt8 := dkwX10_save_0 ++ dktX10_save_1
theorem dksX10_save_0 : cX10_save.data.toList.drop 0 = dktX10_save_0 := by decide +kernel
theorem dksX10_save_1 : cX10_save.data.toList.drop 24 = dktX10_save_1 := dk_seg dksX10_save_0 24 rfl rfl
theorem dX10_save_0 : decode cX10_save 0 = .ok (.iconst 0, 1) := dk_3 (dk_at dksX10_save_0 0 rfl rfl)
theorem dX10_save_1 : decode cX10_save 1 = .ok (.istore_n 3, 1) := dk_62 (dk_at dksX10_save_0 1 rfl rfl)
theorem dX10_save_2 : decode cX10_save 2 = .ok (.iload_n 3, 1) := dk_29 (dk_at dksX10_save_0 2 rfl rfl)
theorem dX10_save_3 : decode cX10_save 3 = .ok (.sipush 3213, 3) := dk_17 12 141 (dk_at dksX10_save_0 3 rfl rfl)
theorem dX10_save_6 : decode cX10_save 6 = .ok (.if_icmp .ge 24, 3) := dk_162 0 24 (dk_at dksX10_save_0 6 rfl rfl)
theorem dX10_save_9 : decode cX10_save 9 = .ok (.aload_n 1, 1) := dk_43 (dk_at dksX10_save_0 9 rfl rfl)
theorem dX10_save_10 : decode cX10_save 10 = .ok (.iload_n 2, 1) := dk_28 (dk_at dksX10_save_0 10 rfl rfl)
theorem dX10_save_11 : decode cX10_save 11 = .ok (.iload_n 3, 1) := dk_29 (dk_at dksX10_save_0 11 rfl rfl)
theorem dX10_save_12 : decode cX10_save 12 = .ok (.iadd, 1) := dk_96 (dk_at dksX10_save_0 12 rfl rfl)
theorem dX10_save_13 : decode cX10_save 13 = .ok (.aload_n 0, 1) := dk_42 (dk_at dksX10_save_0 13 rfl rfl)
theorem dX10_save_14 : decode cX10_save 14 = .ok (.getfield 98, 3) := dk_180 0 98 (dk_at dksX10_save_0 14 rfl rfl)
theorem dX10_save_17 : decode cX10_save 17 = .ok (.sipush 2607, 3) := dk_17 10 47 (dk_at dksX10_save_0 17 rfl rfl)
theorem dX10_save_20 : decode cX10_save 20 = .ok (.iload_n 3, 1) := dk_29 (dk_at dksX10_save_0 20 rfl rfl)
theorem dX10_save_21 : decode cX10_save 21 = .ok (.iadd, 1) := dk_96 (dk_at dksX10_save_0 21 rfl rfl)
theorem dX10_save_22 : decode cX10_save 22 = .ok (.iaload, 1) := dk_46 (dk_at dksX10_save_0 22 rfl rfl)
theorem dX10_save_23 : decode cX10_save 23 = .ok (.iastore, 1) := dk_79 (dk_at dksX10_save_0 23 rfl rfl)
theorem dX10_save_24 : decode cX10_save 24 = .ok (.iinc 3 1, 3) := dk_132 3 1 (dk_at dksX10_save_1 0 rfl rfl)
theorem dX10_save_27 : decode cX10_save 27 = .ok (.goto (-25), 3) := dk_167 255 231 (dk_at dksX10_save_1 3 rfl rfl)
theorem dX10_save_30 : decode cX10_save 30 = .ok (.return_, 1) := dk_177 (dk_at dksX10_save_1 6 rfl rfl)
abbrev cX10_live : ByteArray := prog_23_method_89_code
def yX10_live : MethodName := ⟨RX10, "live", "(IIII)V"⟩
def dkwX10_live_13 : List UInt8 := [177]
abbrev dktX10_live_13 : List UInt8 := dkwX10_live_13 ++ []
def dkwX10_live_12 : List UInt8 := [180, 0, 98, 17, 10, 56, 21, 5, 96, 21, 4, 96, 46, 167, 0, 4, 3, 79, 132, 5, 1, 167, 255, 203]
abbrev dktX10_live_12 : List UInt8 := dkwX10_live_12 ++ dktX10_live_13
def dkwX10_live_11 : List UInt8 := [42, 180, 0, 98, 17, 10, 56, 21, 5, 96, 21, 5, 42, 180, 0, 98, 17, 10, 55, 46, 162, 0, 20, 42]
abbrev dktX10_live_11 : List UInt8 := dkwX10_live_11 ++ dktX10_live_12
def dkwX10_live_10 : List UInt8 := [42, 180, 0, 98, 17, 10, 55, 92, 46, 21, 4, 100, 79, 29, 54, 5, 21, 5, 17, 0, 200, 162, 0, 51]
abbrev dktX10_live_10 : List UInt8 := dkwX10_live_10 ++ dktX10_live_11
def dkwX10_live_9 : List UInt8 := [180, 0, 98, 17, 10, 56, 29, 96, 21, 4, 79, 42, 180, 0, 98, 17, 10, 55, 92, 46, 4, 96, 79, 177]
abbrev dktX10_live_9 : List UInt8 := dkwX10_live_9 ++ dktX10_live_10
def dkwX10_live_8 : List UInt8 := [96, 42, 180, 0, 98, 17, 10, 56, 21, 5, 96, 4, 100, 46, 79, 132, 5, 255, 167, 255, 223, 42]
abbrev dktX10_live_8 : List UInt8 := dkwX10_live_8 ++ dktX10_live_9
def dkwX10_live_7 : List UInt8 := [180, 0, 98, 17, 10, 55, 46, 54, 5, 21, 5, 29, 164, 0, 33, 42, 180, 0, 98, 17, 10, 56, 21, 5]
abbrev dktX10_live_7 : List UInt8 := dkwX10_live_7 ++ dktX10_live_8
def dkwX10_live_6 : List UInt8 := [167, 255, 218, 177, 42, 21, 4, 3, 28, 182, 1, 45, 177, 42, 28, 29, 21, 4, 182, 1, 45, 177, 42]
abbrev dktX10_live_6 : List UInt8 := dkwX10_live_6 ++ dktX10_live_7
def dkwX10_live_5 : List UInt8 := [17, 2, 88, 28, 104, 96, 21, 5, 96, 4, 42, 28, 21, 5, 182, 0, 212, 100, 79, 132, 5, 1]
abbrev dktX10_live_5 : List UInt8 := dkwX10_live_5 ++ dktX10_live_6
def dkwX10_live_4 : List UInt8 := [167, 255, 240, 177, 29, 54, 5, 21, 5, 29, 21, 4, 96, 162, 0, 35, 42, 180, 0, 98, 17, 13, 92]
abbrev dktX10_live_4 : List UInt8 := dkwX10_live_4 ++ dktX10_live_5
def dkwX10_live_3 : List UInt8 := [21, 4, 79, 177, 3, 54, 5, 21, 5, 21, 4, 162, 0, 15, 42, 28, 29, 182, 1, 42, 132, 5, 1]
abbrev dktX10_live_3 : List UInt8 := dkwX10_live_3 ++ dktX10_live_4
def dkwX10_live_2 : List UInt8 := [42, 28, 29, 21, 4, 182, 0, 142, 177, 42, 180, 0, 98, 17, 13, 92, 17, 2, 88, 28, 104, 96, 29, 96]
abbrev dktX10_live_2 : List UInt8 := dkwX10_live_2 ++ dktX10_live_3
def dkwX10_live_1 : List UInt8 := [170, 0, 0, 0, 0, 0, 228, 0, 0, 0, 0, 0, 0, 0, 6, 0, 0, 0, 43, 0, 0, 0, 52, 0, 0, 0, 71, 0, 0, 0, 94, 0, 0, 0, 139, 0, 0, 0, 148, 0, 0, 0, 157]
abbrev dktX10_live_1 : List UInt8 := dkwX10_live_1 ++ dktX10_live_2
def dkwX10_live_0 : List UInt8 := [27]
abbrev dktX10_live_0 : List UInt8 := dkwX10_live_0 ++ dktX10_live_1
theorem dksX10_live_0 : cX10_live.data.toList.drop 0 = dktX10_live_0 := by decide +kernel
theorem dksX10_live_1 : cX10_live.data.toList.drop 1 = dktX10_live_1 := dk_seg dksX10_live_0 1 rfl rfl
theorem dksX10_live_2 : cX10_live.data.toList.drop 44 = dktX10_live_2 := dk_seg dksX10_live_1 43 rfl rfl
theorem dksX10_live_3 : cX10_live.data.toList.drop 68 = dktX10_live_3 := dk_seg dksX10_live_2 24 rfl rfl
theorem dksX10_live_4 : cX10_live.data.toList.drop 91 = dktX10_live_4 := dk_seg dksX10_live_3 23 rfl rfl
theorem dksX10_live_5 : cX10_live.data.toList.drop 114 = dktX10_live_5 := dk_seg dksX10_live_4 23 rfl rfl
theorem dksX10_live_6 : cX10_live.data.toList.drop 136 = dktX10_live_6 := dk_seg dksX10_live_5 22 rfl rfl
theorem dksX10_live_7 : cX10_live.data.toList.drop 159 = dktX10_live_7 := dk_seg dksX10_live_6 23 rfl rfl
theorem dksX10_live_8 : cX10_live.data.toList.drop 183 = dktX10_live_8 := dk_seg dksX10_live_7 24 rfl rfl
theorem dksX10_live_9 : cX10_live.data.toList.drop 205 = dktX10_live_9 := dk_seg dksX10_live_8 22 rfl rfl
theorem dksX10_live_10 : cX10_live.data.toList.drop 229 = dktX10_live_10 := dk_seg dksX10_live_9 24 rfl rfl
theorem dksX10_live_11 : cX10_live.data.toList.drop 253 = dktX10_live_11 := dk_seg dksX10_live_10 24 rfl rfl
theorem dksX10_live_12 : cX10_live.data.toList.drop 277 = dktX10_live_12 := dk_seg dksX10_live_11 24 rfl rfl
theorem dksX10_live_13 : cX10_live.data.toList.drop 301 = dktX10_live_13 := dk_seg dksX10_live_12 24 rfl rfl
theorem dX10_live_0 : decode cX10_live 0 = .ok (.iload_n 1, 1) := dk_27 (dk_at dksX10_live_0 0 rfl rfl)
theorem dX10_live_1 : decode cX10_live 1 = .ok (.tableswitch 228 0 6 #[43, 52, 71, 94, 139, 148, 157], 43) := by decide +kernel
theorem dX10_live_44 : decode cX10_live 44 = .ok (.aload_n 0, 1) := dk_42 (dk_at dksX10_live_2 0 rfl rfl)
theorem dX10_live_45 : decode cX10_live 45 = .ok (.iload_n 2, 1) := dk_28 (dk_at dksX10_live_2 1 rfl rfl)
theorem dX10_live_46 : decode cX10_live 46 = .ok (.iload_n 3, 1) := dk_29 (dk_at dksX10_live_2 2 rfl rfl)
theorem dX10_live_47 : decode cX10_live 47 = .ok (.iload 4, 2) := dk_21 4 (dk_at dksX10_live_2 3 rfl rfl)
theorem dX10_live_49 : decode cX10_live 49 = .ok (.invokevirtual 142, 3) := dk_182 0 142 (dk_at dksX10_live_2 5 rfl rfl)
theorem dX10_live_52 : decode cX10_live 52 = .ok (.return_, 1) := dk_177 (dk_at dksX10_live_2 8 rfl rfl)
theorem dX10_live_53 : decode cX10_live 53 = .ok (.aload_n 0, 1) := dk_42 (dk_at dksX10_live_2 9 rfl rfl)
theorem dX10_live_54 : decode cX10_live 54 = .ok (.getfield 98, 3) := dk_180 0 98 (dk_at dksX10_live_2 10 rfl rfl)
theorem dX10_live_57 : decode cX10_live 57 = .ok (.sipush 3420, 3) := dk_17 13 92 (dk_at dksX10_live_2 13 rfl rfl)
theorem dX10_live_60 : decode cX10_live 60 = .ok (.sipush 600, 3) := dk_17 2 88 (dk_at dksX10_live_2 16 rfl rfl)
theorem dX10_live_63 : decode cX10_live 63 = .ok (.iload_n 2, 1) := dk_28 (dk_at dksX10_live_2 19 rfl rfl)
theorem dX10_live_64 : decode cX10_live 64 = .ok (.imul, 1) := dk_104 (dk_at dksX10_live_2 20 rfl rfl)
theorem dX10_live_65 : decode cX10_live 65 = .ok (.iadd, 1) := dk_96 (dk_at dksX10_live_2 21 rfl rfl)
theorem dX10_live_66 : decode cX10_live 66 = .ok (.iload_n 3, 1) := dk_29 (dk_at dksX10_live_2 22 rfl rfl)
theorem dX10_live_67 : decode cX10_live 67 = .ok (.iadd, 1) := dk_96 (dk_at dksX10_live_2 23 rfl rfl)
theorem dX10_live_68 : decode cX10_live 68 = .ok (.iload 4, 2) := dk_21 4 (dk_at dksX10_live_3 0 rfl rfl)
theorem dX10_live_70 : decode cX10_live 70 = .ok (.iastore, 1) := dk_79 (dk_at dksX10_live_3 2 rfl rfl)
theorem dX10_live_71 : decode cX10_live 71 = .ok (.return_, 1) := dk_177 (dk_at dksX10_live_3 3 rfl rfl)
theorem dX10_live_72 : decode cX10_live 72 = .ok (.iconst 0, 1) := dk_3 (dk_at dksX10_live_3 4 rfl rfl)
theorem dX10_live_73 : decode cX10_live 73 = .ok (.istore 5, 2) := dk_54 5 (dk_at dksX10_live_3 5 rfl rfl)
theorem dX10_live_75 : decode cX10_live 75 = .ok (.iload 5, 2) := dk_21 5 (dk_at dksX10_live_3 7 rfl rfl)
theorem dX10_live_77 : decode cX10_live 77 = .ok (.iload 4, 2) := dk_21 4 (dk_at dksX10_live_3 9 rfl rfl)
theorem dX10_live_79 : decode cX10_live 79 = .ok (.if_icmp .ge 15, 3) := dk_162 0 15 (dk_at dksX10_live_3 11 rfl rfl)
theorem dX10_live_82 : decode cX10_live 82 = .ok (.aload_n 0, 1) := dk_42 (dk_at dksX10_live_3 14 rfl rfl)
theorem dX10_live_83 : decode cX10_live 83 = .ok (.iload_n 2, 1) := dk_28 (dk_at dksX10_live_3 15 rfl rfl)
theorem dX10_live_84 : decode cX10_live 84 = .ok (.iload_n 3, 1) := dk_29 (dk_at dksX10_live_3 16 rfl rfl)
theorem dX10_live_85 : decode cX10_live 85 = .ok (.invokevirtual 298, 3) := dk_182 1 42 (dk_at dksX10_live_3 17 rfl rfl)
theorem dX10_live_88 : decode cX10_live 88 = .ok (.iinc 5 1, 3) := dk_132 5 1 (dk_at dksX10_live_3 20 rfl rfl)
theorem dX10_live_91 : decode cX10_live 91 = .ok (.goto (-16), 3) := dk_167 255 240 (dk_at dksX10_live_4 0 rfl rfl)
theorem dX10_live_94 : decode cX10_live 94 = .ok (.return_, 1) := dk_177 (dk_at dksX10_live_4 3 rfl rfl)
theorem dX10_live_95 : decode cX10_live 95 = .ok (.iload_n 3, 1) := dk_29 (dk_at dksX10_live_4 4 rfl rfl)
theorem dX10_live_96 : decode cX10_live 96 = .ok (.istore 5, 2) := dk_54 5 (dk_at dksX10_live_4 5 rfl rfl)
theorem dX10_live_98 : decode cX10_live 98 = .ok (.iload 5, 2) := dk_21 5 (dk_at dksX10_live_4 7 rfl rfl)
theorem dX10_live_100 : decode cX10_live 100 = .ok (.iload_n 3, 1) := dk_29 (dk_at dksX10_live_4 9 rfl rfl)
theorem dX10_live_101 : decode cX10_live 101 = .ok (.iload 4, 2) := dk_21 4 (dk_at dksX10_live_4 10 rfl rfl)
theorem dX10_live_103 : decode cX10_live 103 = .ok (.iadd, 1) := dk_96 (dk_at dksX10_live_4 12 rfl rfl)
theorem dX10_live_104 : decode cX10_live 104 = .ok (.if_icmp .ge 35, 3) := dk_162 0 35 (dk_at dksX10_live_4 13 rfl rfl)
theorem dX10_live_107 : decode cX10_live 107 = .ok (.aload_n 0, 1) := dk_42 (dk_at dksX10_live_4 16 rfl rfl)
theorem dX10_live_108 : decode cX10_live 108 = .ok (.getfield 98, 3) := dk_180 0 98 (dk_at dksX10_live_4 17 rfl rfl)
theorem dX10_live_111 : decode cX10_live 111 = .ok (.sipush 3420, 3) := dk_17 13 92 (dk_at dksX10_live_4 20 rfl rfl)
theorem dX10_live_114 : decode cX10_live 114 = .ok (.sipush 600, 3) := dk_17 2 88 (dk_at dksX10_live_5 0 rfl rfl)
theorem dX10_live_117 : decode cX10_live 117 = .ok (.iload_n 2, 1) := dk_28 (dk_at dksX10_live_5 3 rfl rfl)
theorem dX10_live_118 : decode cX10_live 118 = .ok (.imul, 1) := dk_104 (dk_at dksX10_live_5 4 rfl rfl)
theorem dX10_live_119 : decode cX10_live 119 = .ok (.iadd, 1) := dk_96 (dk_at dksX10_live_5 5 rfl rfl)
theorem dX10_live_120 : decode cX10_live 120 = .ok (.iload 5, 2) := dk_21 5 (dk_at dksX10_live_5 6 rfl rfl)
theorem dX10_live_122 : decode cX10_live 122 = .ok (.iadd, 1) := dk_96 (dk_at dksX10_live_5 8 rfl rfl)
theorem dX10_live_123 : decode cX10_live 123 = .ok (.iconst 1, 1) := dk_4 (dk_at dksX10_live_5 9 rfl rfl)
theorem dX10_live_124 : decode cX10_live 124 = .ok (.aload_n 0, 1) := dk_42 (dk_at dksX10_live_5 10 rfl rfl)
theorem dX10_live_125 : decode cX10_live 125 = .ok (.iload_n 2, 1) := dk_28 (dk_at dksX10_live_5 11 rfl rfl)
theorem dX10_live_126 : decode cX10_live 126 = .ok (.iload 5, 2) := dk_21 5 (dk_at dksX10_live_5 12 rfl rfl)
theorem dX10_live_128 : decode cX10_live 128 = .ok (.invokevirtual 212, 3) := dk_182 0 212 (dk_at dksX10_live_5 14 rfl rfl)
theorem dX10_live_131 : decode cX10_live 131 = .ok (.isub, 1) := dk_100 (dk_at dksX10_live_5 17 rfl rfl)
theorem dX10_live_132 : decode cX10_live 132 = .ok (.iastore, 1) := dk_79 (dk_at dksX10_live_5 18 rfl rfl)
theorem dX10_live_133 : decode cX10_live 133 = .ok (.iinc 5 1, 3) := dk_132 5 1 (dk_at dksX10_live_5 19 rfl rfl)
theorem dX10_live_136 : decode cX10_live 136 = .ok (.goto (-38), 3) := dk_167 255 218 (dk_at dksX10_live_6 0 rfl rfl)
theorem dX10_live_139 : decode cX10_live 139 = .ok (.return_, 1) := dk_177 (dk_at dksX10_live_6 3 rfl rfl)
theorem dX10_live_140 : decode cX10_live 140 = .ok (.aload_n 0, 1) := dk_42 (dk_at dksX10_live_6 4 rfl rfl)
theorem dX10_live_141 : decode cX10_live 141 = .ok (.iload 4, 2) := dk_21 4 (dk_at dksX10_live_6 5 rfl rfl)
theorem dX10_live_143 : decode cX10_live 143 = .ok (.iconst 0, 1) := dk_3 (dk_at dksX10_live_6 7 rfl rfl)
theorem dX10_live_144 : decode cX10_live 144 = .ok (.iload_n 2, 1) := dk_28 (dk_at dksX10_live_6 8 rfl rfl)
theorem dX10_live_145 : decode cX10_live 145 = .ok (.invokevirtual 301, 3) := dk_182 1 45 (dk_at dksX10_live_6 9 rfl rfl)
theorem dX10_live_148 : decode cX10_live 148 = .ok (.return_, 1) := dk_177 (dk_at dksX10_live_6 12 rfl rfl)
theorem dX10_live_149 : decode cX10_live 149 = .ok (.aload_n 0, 1) := dk_42 (dk_at dksX10_live_6 13 rfl rfl)
theorem dX10_live_150 : decode cX10_live 150 = .ok (.iload_n 2, 1) := dk_28 (dk_at dksX10_live_6 14 rfl rfl)
theorem dX10_live_151 : decode cX10_live 151 = .ok (.iload_n 3, 1) := dk_29 (dk_at dksX10_live_6 15 rfl rfl)
theorem dX10_live_152 : decode cX10_live 152 = .ok (.iload 4, 2) := dk_21 4 (dk_at dksX10_live_6 16 rfl rfl)
theorem dX10_live_154 : decode cX10_live 154 = .ok (.invokevirtual 301, 3) := dk_182 1 45 (dk_at dksX10_live_6 18 rfl rfl)
theorem dX10_live_157 : decode cX10_live 157 = .ok (.return_, 1) := dk_177 (dk_at dksX10_live_6 21 rfl rfl)
theorem dX10_live_158 : decode cX10_live 158 = .ok (.aload_n 0, 1) := dk_42 (dk_at dksX10_live_6 22 rfl rfl)
theorem dX10_live_159 : decode cX10_live 159 = .ok (.getfield 98, 3) := dk_180 0 98 (dk_at dksX10_live_7 0 rfl rfl)
theorem dX10_live_162 : decode cX10_live 162 = .ok (.sipush 2615, 3) := dk_17 10 55 (dk_at dksX10_live_7 3 rfl rfl)
theorem dX10_live_165 : decode cX10_live 165 = .ok (.iaload, 1) := dk_46 (dk_at dksX10_live_7 6 rfl rfl)
theorem dX10_live_166 : decode cX10_live 166 = .ok (.istore 5, 2) := dk_54 5 (dk_at dksX10_live_7 7 rfl rfl)
theorem dX10_live_168 : decode cX10_live 168 = .ok (.iload 5, 2) := dk_21 5 (dk_at dksX10_live_7 9 rfl rfl)
theorem dX10_live_170 : decode cX10_live 170 = .ok (.iload_n 3, 1) := dk_29 (dk_at dksX10_live_7 11 rfl rfl)
theorem dX10_live_171 : decode cX10_live 171 = .ok (.if_icmp .le 33, 3) := dk_164 0 33 (dk_at dksX10_live_7 12 rfl rfl)
theorem dX10_live_174 : decode cX10_live 174 = .ok (.aload_n 0, 1) := dk_42 (dk_at dksX10_live_7 15 rfl rfl)
theorem dX10_live_175 : decode cX10_live 175 = .ok (.getfield 98, 3) := dk_180 0 98 (dk_at dksX10_live_7 16 rfl rfl)
theorem dX10_live_178 : decode cX10_live 178 = .ok (.sipush 2616, 3) := dk_17 10 56 (dk_at dksX10_live_7 19 rfl rfl)
theorem dX10_live_181 : decode cX10_live 181 = .ok (.iload 5, 2) := dk_21 5 (dk_at dksX10_live_7 22 rfl rfl)
theorem dX10_live_183 : decode cX10_live 183 = .ok (.iadd, 1) := dk_96 (dk_at dksX10_live_8 0 rfl rfl)
theorem dX10_live_184 : decode cX10_live 184 = .ok (.aload_n 0, 1) := dk_42 (dk_at dksX10_live_8 1 rfl rfl)
theorem dX10_live_185 : decode cX10_live 185 = .ok (.getfield 98, 3) := dk_180 0 98 (dk_at dksX10_live_8 2 rfl rfl)
theorem dX10_live_188 : decode cX10_live 188 = .ok (.sipush 2616, 3) := dk_17 10 56 (dk_at dksX10_live_8 5 rfl rfl)
theorem dX10_live_191 : decode cX10_live 191 = .ok (.iload 5, 2) := dk_21 5 (dk_at dksX10_live_8 8 rfl rfl)
theorem dX10_live_193 : decode cX10_live 193 = .ok (.iadd, 1) := dk_96 (dk_at dksX10_live_8 10 rfl rfl)
theorem dX10_live_194 : decode cX10_live 194 = .ok (.iconst 1, 1) := dk_4 (dk_at dksX10_live_8 11 rfl rfl)
theorem dX10_live_195 : decode cX10_live 195 = .ok (.isub, 1) := dk_100 (dk_at dksX10_live_8 12 rfl rfl)
theorem dX10_live_196 : decode cX10_live 196 = .ok (.iaload, 1) := dk_46 (dk_at dksX10_live_8 13 rfl rfl)
theorem dX10_live_197 : decode cX10_live 197 = .ok (.iastore, 1) := dk_79 (dk_at dksX10_live_8 14 rfl rfl)
theorem dX10_live_198 : decode cX10_live 198 = .ok (.iinc 5 (-1), 3) := dk_132 5 255 (dk_at dksX10_live_8 15 rfl rfl)
theorem dX10_live_201 : decode cX10_live 201 = .ok (.goto (-33), 3) := dk_167 255 223 (dk_at dksX10_live_8 18 rfl rfl)
theorem dX10_live_204 : decode cX10_live 204 = .ok (.aload_n 0, 1) := dk_42 (dk_at dksX10_live_8 21 rfl rfl)
theorem dX10_live_205 : decode cX10_live 205 = .ok (.getfield 98, 3) := dk_180 0 98 (dk_at dksX10_live_9 0 rfl rfl)
theorem dX10_live_208 : decode cX10_live 208 = .ok (.sipush 2616, 3) := dk_17 10 56 (dk_at dksX10_live_9 3 rfl rfl)
theorem dX10_live_211 : decode cX10_live 211 = .ok (.iload_n 3, 1) := dk_29 (dk_at dksX10_live_9 6 rfl rfl)
theorem dX10_live_212 : decode cX10_live 212 = .ok (.iadd, 1) := dk_96 (dk_at dksX10_live_9 7 rfl rfl)
theorem dX10_live_213 : decode cX10_live 213 = .ok (.iload 4, 2) := dk_21 4 (dk_at dksX10_live_9 8 rfl rfl)
theorem dX10_live_215 : decode cX10_live 215 = .ok (.iastore, 1) := dk_79 (dk_at dksX10_live_9 10 rfl rfl)
theorem dX10_live_216 : decode cX10_live 216 = .ok (.aload_n 0, 1) := dk_42 (dk_at dksX10_live_9 11 rfl rfl)
theorem dX10_live_217 : decode cX10_live 217 = .ok (.getfield 98, 3) := dk_180 0 98 (dk_at dksX10_live_9 12 rfl rfl)
theorem dX10_live_220 : decode cX10_live 220 = .ok (.sipush 2615, 3) := dk_17 10 55 (dk_at dksX10_live_9 15 rfl rfl)
theorem dX10_live_223 : decode cX10_live 223 = .ok (.dup2, 1) := dk_92 (dk_at dksX10_live_9 18 rfl rfl)
theorem dX10_live_224 : decode cX10_live 224 = .ok (.iaload, 1) := dk_46 (dk_at dksX10_live_9 19 rfl rfl)
theorem dX10_live_225 : decode cX10_live 225 = .ok (.iconst 1, 1) := dk_4 (dk_at dksX10_live_9 20 rfl rfl)
theorem dX10_live_226 : decode cX10_live 226 = .ok (.iadd, 1) := dk_96 (dk_at dksX10_live_9 21 rfl rfl)
theorem dX10_live_227 : decode cX10_live 227 = .ok (.iastore, 1) := dk_79 (dk_at dksX10_live_9 22 rfl rfl)
theorem dX10_live_228 : decode cX10_live 228 = .ok (.return_, 1) := dk_177 (dk_at dksX10_live_9 23 rfl rfl)
theorem dX10_live_229 : decode cX10_live 229 = .ok (.aload_n 0, 1) := dk_42 (dk_at dksX10_live_10 0 rfl rfl)
theorem dX10_live_230 : decode cX10_live 230 = .ok (.getfield 98, 3) := dk_180 0 98 (dk_at dksX10_live_10 1 rfl rfl)
theorem dX10_live_233 : decode cX10_live 233 = .ok (.sipush 2615, 3) := dk_17 10 55 (dk_at dksX10_live_10 4 rfl rfl)
theorem dX10_live_236 : decode cX10_live 236 = .ok (.dup2, 1) := dk_92 (dk_at dksX10_live_10 7 rfl rfl)
theorem dX10_live_237 : decode cX10_live 237 = .ok (.iaload, 1) := dk_46 (dk_at dksX10_live_10 8 rfl rfl)
theorem dX10_live_238 : decode cX10_live 238 = .ok (.iload 4, 2) := dk_21 4 (dk_at dksX10_live_10 9 rfl rfl)
theorem dX10_live_240 : decode cX10_live 240 = .ok (.isub, 1) := dk_100 (dk_at dksX10_live_10 11 rfl rfl)
theorem dX10_live_241 : decode cX10_live 241 = .ok (.iastore, 1) := dk_79 (dk_at dksX10_live_10 12 rfl rfl)
theorem dX10_live_242 : decode cX10_live 242 = .ok (.iload_n 3, 1) := dk_29 (dk_at dksX10_live_10 13 rfl rfl)
theorem dX10_live_243 : decode cX10_live 243 = .ok (.istore 5, 2) := dk_54 5 (dk_at dksX10_live_10 14 rfl rfl)
theorem dX10_live_245 : decode cX10_live 245 = .ok (.iload 5, 2) := dk_21 5 (dk_at dksX10_live_10 16 rfl rfl)
theorem dX10_live_247 : decode cX10_live 247 = .ok (.sipush 200, 3) := dk_17 0 200 (dk_at dksX10_live_10 18 rfl rfl)
theorem dX10_live_250 : decode cX10_live 250 = .ok (.if_icmp .ge 51, 3) := dk_162 0 51 (dk_at dksX10_live_10 21 rfl rfl)
theorem dX10_live_253 : decode cX10_live 253 = .ok (.aload_n 0, 1) := dk_42 (dk_at dksX10_live_11 0 rfl rfl)
theorem dX10_live_254 : decode cX10_live 254 = .ok (.getfield 98, 3) := dk_180 0 98 (dk_at dksX10_live_11 1 rfl rfl)
theorem dX10_live_257 : decode cX10_live 257 = .ok (.sipush 2616, 3) := dk_17 10 56 (dk_at dksX10_live_11 4 rfl rfl)
theorem dX10_live_260 : decode cX10_live 260 = .ok (.iload 5, 2) := dk_21 5 (dk_at dksX10_live_11 7 rfl rfl)
theorem dX10_live_262 : decode cX10_live 262 = .ok (.iadd, 1) := dk_96 (dk_at dksX10_live_11 9 rfl rfl)
theorem dX10_live_263 : decode cX10_live 263 = .ok (.iload 5, 2) := dk_21 5 (dk_at dksX10_live_11 10 rfl rfl)
theorem dX10_live_265 : decode cX10_live 265 = .ok (.aload_n 0, 1) := dk_42 (dk_at dksX10_live_11 12 rfl rfl)
theorem dX10_live_266 : decode cX10_live 266 = .ok (.getfield 98, 3) := dk_180 0 98 (dk_at dksX10_live_11 13 rfl rfl)
theorem dX10_live_269 : decode cX10_live 269 = .ok (.sipush 2615, 3) := dk_17 10 55 (dk_at dksX10_live_11 16 rfl rfl)
theorem dX10_live_272 : decode cX10_live 272 = .ok (.iaload, 1) := dk_46 (dk_at dksX10_live_11 19 rfl rfl)
theorem dX10_live_273 : decode cX10_live 273 = .ok (.if_icmp .ge 20, 3) := dk_162 0 20 (dk_at dksX10_live_11 20 rfl rfl)
theorem dX10_live_276 : decode cX10_live 276 = .ok (.aload_n 0, 1) := dk_42 (dk_at dksX10_live_11 23 rfl rfl)
theorem dX10_live_277 : decode cX10_live 277 = .ok (.getfield 98, 3) := dk_180 0 98 (dk_at dksX10_live_12 0 rfl rfl)
theorem dX10_live_280 : decode cX10_live 280 = .ok (.sipush 2616, 3) := dk_17 10 56 (dk_at dksX10_live_12 3 rfl rfl)
theorem dX10_live_283 : decode cX10_live 283 = .ok (.iload 5, 2) := dk_21 5 (dk_at dksX10_live_12 6 rfl rfl)
theorem dX10_live_285 : decode cX10_live 285 = .ok (.iadd, 1) := dk_96 (dk_at dksX10_live_12 8 rfl rfl)
theorem dX10_live_286 : decode cX10_live 286 = .ok (.iload 4, 2) := dk_21 4 (dk_at dksX10_live_12 9 rfl rfl)
theorem dX10_live_288 : decode cX10_live 288 = .ok (.iadd, 1) := dk_96 (dk_at dksX10_live_12 11 rfl rfl)
theorem dX10_live_289 : decode cX10_live 289 = .ok (.iaload, 1) := dk_46 (dk_at dksX10_live_12 12 rfl rfl)
theorem dX10_live_290 : decode cX10_live 290 = .ok (.goto 4, 3) := dk_167 0 4 (dk_at dksX10_live_12 13 rfl rfl)
theorem dX10_live_293 : decode cX10_live 293 = .ok (.iconst 0, 1) := dk_3 (dk_at dksX10_live_12 16 rfl rfl)
theorem dX10_live_294 : decode cX10_live 294 = .ok (.iastore, 1) := dk_79 (dk_at dksX10_live_12 17 rfl rfl)
theorem dX10_live_295 : decode cX10_live 295 = .ok (.iinc 5 1, 3) := dk_132 5 1 (dk_at dksX10_live_12 18 rfl rfl)
theorem dX10_live_298 : decode cX10_live 298 = .ok (.goto (-53), 3) := dk_167 255 203 (dk_at dksX10_live_12 21 rfl rfl)
theorem dX10_live_301 : decode cX10_live 301 = .ok (.return_, 1) := dk_177 (dk_at dksX10_live_13 0 rfl rfl)
abbrev cX10_takeBit : ByteArray := prog_23_method_40_code
def yX10_takeBit : MethodName := ⟨RX10, "takeBit", "(II)V"⟩
def dkwX10_takeBit_8 : List UInt8 := [21, 4, 4, 100, 182, 0, 209, 177]
abbrev dktX10_takeBit_8 : List UInt8 := dkwX10_takeBit_8 ++ []
def dkwX10_takeBit_7 : List UInt8 := [27, 21, 4, 42, 180, 0, 98, 17, 10, 51, 27, 96, 46, 4, 100, 162, 0, 8, 21, 4, 167, 0, 7]
abbrev dktX10_takeBit_7 : List UInt8 := dkwX10_takeBit_7 ++ dktX10_takeBit_8
def dkwX10_takeBit_6 : List UInt8 := [79, 177, 42, 180, 0, 98, 42, 27, 21, 4, 182, 0, 195, 46, 42, 180, 0, 98, 4, 46, 162, 0, 34, 42]
abbrev dktX10_takeBit_6 : List UInt8 := dkwX10_takeBit_6 ++ dktX10_takeBit_7
def dkwX10_takeBit_5 : List UInt8 := [180, 0, 98, 42, 27, 21, 4, 182, 0, 195, 46, 154, 0, 14, 42, 180, 0, 98, 17, 10, 51, 27, 96, 3]
abbrev dktX10_takeBit_5 : List UInt8 := dkwX10_takeBit_5 ++ dktX10_takeBit_6
def dkwX10_takeBit_4 : List UInt8 := [182, 0, 195, 92, 46, 4, 100, 79, 42, 180, 0, 98, 17, 10, 51, 27, 96, 46, 4, 160, 0, 30, 42]
abbrev dktX10_takeBit_4 : List UInt8 := dkwX10_takeBit_4 ++ dktX10_takeBit_5
def dkwX10_takeBit_3 : List UInt8 := [167, 255, 223, 42, 180, 0, 98, 29, 42, 27, 182, 0, 199, 96, 3, 79, 42, 180, 0, 98, 42, 27, 21, 4]
abbrev dktX10_takeBit_3 : List UInt8 := dkwX10_takeBit_3 ++ dktX10_takeBit_4
def dkwX10_takeBit_2 : List UInt8 := [180, 0, 98, 29, 21, 5, 96, 42, 180, 0, 98, 29, 21, 5, 96, 4, 96, 46, 79, 132, 5, 1]
abbrev dktX10_takeBit_2 : List UInt8 := dkwX10_takeBit_2 ++ dktX10_takeBit_3
def dkwX10_takeBit_1 : List UInt8 := [17, 10, 47, 27, 96, 92, 46, 4, 100, 79, 28, 54, 5, 21, 5, 42, 27, 182, 0, 199, 162, 0, 29, 42]
abbrev dktX10_takeBit_1 : List UInt8 := dkwX10_takeBit_1 ++ dktX10_takeBit_2
def dkwX10_takeBit_0 : List UInt8 := [17, 13, 92, 17, 2, 88, 27, 104, 96, 62, 42, 27, 28, 182, 0, 202, 54, 4, 42, 180, 0, 98]
abbrev dktX10_takeBit_0 : List UInt8 := dkwX10_takeBit_0 ++ dktX10_takeBit_1
theorem dksX10_takeBit_0 : cX10_takeBit.data.toList.drop 0 = dktX10_takeBit_0 := by decide +kernel
theorem dksX10_takeBit_1 : cX10_takeBit.data.toList.drop 22 = dktX10_takeBit_1 := dk_seg dksX10_takeBit_0 22 rfl rfl
theorem dksX10_takeBit_2 : cX10_takeBit.data.toList.drop 46 = dktX10_takeBit_2 := dk_seg dksX10_takeBit_1 24 rfl rfl
theorem dksX10_takeBit_3 : cX10_takeBit.data.toList.drop 68 = dktX10_takeBit_3 := dk_seg dksX10_takeBit_2 22 rfl rfl
theorem dksX10_takeBit_4 : cX10_takeBit.data.toList.drop 92 = dktX10_takeBit_4 := dk_seg dksX10_takeBit_3 24 rfl rfl
theorem dksX10_takeBit_5 : cX10_takeBit.data.toList.drop 115 = dktX10_takeBit_5 := dk_seg dksX10_takeBit_4 23 rfl rfl
theorem dksX10_takeBit_6 : cX10_takeBit.data.toList.drop 139 = dktX10_takeBit_6 := dk_seg dksX10_takeBit_5 24 rfl rfl
theorem dksX10_takeBit_7 : cX10_takeBit.data.toList.drop 163 = dktX10_takeBit_7 := dk_seg dksX10_takeBit_6 24 rfl rfl
theorem dksX10_takeBit_8 : cX10_takeBit.data.toList.drop 186 = dktX10_takeBit_8 := dk_seg dksX10_takeBit_7 23 rfl rfl
theorem dX10_takeBit_0 : decode cX10_takeBit 0 = .ok (.sipush 3420, 3) := dk_17 13 92 (dk_at dksX10_takeBit_0 0 rfl rfl)
theorem dX10_takeBit_3 : decode cX10_takeBit 3 = .ok (.sipush 600, 3) := dk_17 2 88 (dk_at dksX10_takeBit_0 3 rfl rfl)
theorem dX10_takeBit_6 : decode cX10_takeBit 6 = .ok (.iload_n 1, 1) := dk_27 (dk_at dksX10_takeBit_0 6 rfl rfl)
theorem dX10_takeBit_7 : decode cX10_takeBit 7 = .ok (.imul, 1) := dk_104 (dk_at dksX10_takeBit_0 7 rfl rfl)
theorem dX10_takeBit_8 : decode cX10_takeBit 8 = .ok (.iadd, 1) := dk_96 (dk_at dksX10_takeBit_0 8 rfl rfl)
theorem dX10_takeBit_9 : decode cX10_takeBit 9 = .ok (.istore_n 3, 1) := dk_62 (dk_at dksX10_takeBit_0 9 rfl rfl)
theorem dX10_takeBit_10 : decode cX10_takeBit 10 = .ok (.aload_n 0, 1) := dk_42 (dk_at dksX10_takeBit_0 10 rfl rfl)
theorem dX10_takeBit_11 : decode cX10_takeBit 11 = .ok (.iload_n 1, 1) := dk_27 (dk_at dksX10_takeBit_0 11 rfl rfl)
theorem dX10_takeBit_12 : decode cX10_takeBit 12 = .ok (.iload_n 2, 1) := dk_28 (dk_at dksX10_takeBit_0 12 rfl rfl)
theorem dX10_takeBit_13 : decode cX10_takeBit 13 = .ok (.invokevirtual 202, 3) := dk_182 0 202 (dk_at dksX10_takeBit_0 13 rfl rfl)
theorem dX10_takeBit_16 : decode cX10_takeBit 16 = .ok (.istore 4, 2) := dk_54 4 (dk_at dksX10_takeBit_0 16 rfl rfl)
theorem dX10_takeBit_18 : decode cX10_takeBit 18 = .ok (.aload_n 0, 1) := dk_42 (dk_at dksX10_takeBit_0 18 rfl rfl)
theorem dX10_takeBit_19 : decode cX10_takeBit 19 = .ok (.getfield 98, 3) := dk_180 0 98 (dk_at dksX10_takeBit_0 19 rfl rfl)
theorem dX10_takeBit_22 : decode cX10_takeBit 22 = .ok (.sipush 2607, 3) := dk_17 10 47 (dk_at dksX10_takeBit_1 0 rfl rfl)
theorem dX10_takeBit_25 : decode cX10_takeBit 25 = .ok (.iload_n 1, 1) := dk_27 (dk_at dksX10_takeBit_1 3 rfl rfl)
theorem dX10_takeBit_26 : decode cX10_takeBit 26 = .ok (.iadd, 1) := dk_96 (dk_at dksX10_takeBit_1 4 rfl rfl)
theorem dX10_takeBit_27 : decode cX10_takeBit 27 = .ok (.dup2, 1) := dk_92 (dk_at dksX10_takeBit_1 5 rfl rfl)
theorem dX10_takeBit_28 : decode cX10_takeBit 28 = .ok (.iaload, 1) := dk_46 (dk_at dksX10_takeBit_1 6 rfl rfl)
theorem dX10_takeBit_29 : decode cX10_takeBit 29 = .ok (.iconst 1, 1) := dk_4 (dk_at dksX10_takeBit_1 7 rfl rfl)
theorem dX10_takeBit_30 : decode cX10_takeBit 30 = .ok (.isub, 1) := dk_100 (dk_at dksX10_takeBit_1 8 rfl rfl)
theorem dX10_takeBit_31 : decode cX10_takeBit 31 = .ok (.iastore, 1) := dk_79 (dk_at dksX10_takeBit_1 9 rfl rfl)
theorem dX10_takeBit_32 : decode cX10_takeBit 32 = .ok (.iload_n 2, 1) := dk_28 (dk_at dksX10_takeBit_1 10 rfl rfl)
theorem dX10_takeBit_33 : decode cX10_takeBit 33 = .ok (.istore 5, 2) := dk_54 5 (dk_at dksX10_takeBit_1 11 rfl rfl)
theorem dX10_takeBit_35 : decode cX10_takeBit 35 = .ok (.iload 5, 2) := dk_21 5 (dk_at dksX10_takeBit_1 13 rfl rfl)
theorem dX10_takeBit_37 : decode cX10_takeBit 37 = .ok (.aload_n 0, 1) := dk_42 (dk_at dksX10_takeBit_1 15 rfl rfl)
theorem dX10_takeBit_38 : decode cX10_takeBit 38 = .ok (.iload_n 1, 1) := dk_27 (dk_at dksX10_takeBit_1 16 rfl rfl)
theorem dX10_takeBit_39 : decode cX10_takeBit 39 = .ok (.invokevirtual 199, 3) := dk_182 0 199 (dk_at dksX10_takeBit_1 17 rfl rfl)
theorem dX10_takeBit_42 : decode cX10_takeBit 42 = .ok (.if_icmp .ge 29, 3) := dk_162 0 29 (dk_at dksX10_takeBit_1 20 rfl rfl)
theorem dX10_takeBit_45 : decode cX10_takeBit 45 = .ok (.aload_n 0, 1) := dk_42 (dk_at dksX10_takeBit_1 23 rfl rfl)
theorem dX10_takeBit_46 : decode cX10_takeBit 46 = .ok (.getfield 98, 3) := dk_180 0 98 (dk_at dksX10_takeBit_2 0 rfl rfl)
theorem dX10_takeBit_49 : decode cX10_takeBit 49 = .ok (.iload_n 3, 1) := dk_29 (dk_at dksX10_takeBit_2 3 rfl rfl)
theorem dX10_takeBit_50 : decode cX10_takeBit 50 = .ok (.iload 5, 2) := dk_21 5 (dk_at dksX10_takeBit_2 4 rfl rfl)
theorem dX10_takeBit_52 : decode cX10_takeBit 52 = .ok (.iadd, 1) := dk_96 (dk_at dksX10_takeBit_2 6 rfl rfl)
theorem dX10_takeBit_53 : decode cX10_takeBit 53 = .ok (.aload_n 0, 1) := dk_42 (dk_at dksX10_takeBit_2 7 rfl rfl)
theorem dX10_takeBit_54 : decode cX10_takeBit 54 = .ok (.getfield 98, 3) := dk_180 0 98 (dk_at dksX10_takeBit_2 8 rfl rfl)
theorem dX10_takeBit_57 : decode cX10_takeBit 57 = .ok (.iload_n 3, 1) := dk_29 (dk_at dksX10_takeBit_2 11 rfl rfl)
theorem dX10_takeBit_58 : decode cX10_takeBit 58 = .ok (.iload 5, 2) := dk_21 5 (dk_at dksX10_takeBit_2 12 rfl rfl)
theorem dX10_takeBit_60 : decode cX10_takeBit 60 = .ok (.iadd, 1) := dk_96 (dk_at dksX10_takeBit_2 14 rfl rfl)
theorem dX10_takeBit_61 : decode cX10_takeBit 61 = .ok (.iconst 1, 1) := dk_4 (dk_at dksX10_takeBit_2 15 rfl rfl)
theorem dX10_takeBit_62 : decode cX10_takeBit 62 = .ok (.iadd, 1) := dk_96 (dk_at dksX10_takeBit_2 16 rfl rfl)
theorem dX10_takeBit_63 : decode cX10_takeBit 63 = .ok (.iaload, 1) := dk_46 (dk_at dksX10_takeBit_2 17 rfl rfl)
theorem dX10_takeBit_64 : decode cX10_takeBit 64 = .ok (.iastore, 1) := dk_79 (dk_at dksX10_takeBit_2 18 rfl rfl)
theorem dX10_takeBit_65 : decode cX10_takeBit 65 = .ok (.iinc 5 1, 3) := dk_132 5 1 (dk_at dksX10_takeBit_2 19 rfl rfl)
theorem dX10_takeBit_68 : decode cX10_takeBit 68 = .ok (.goto (-33), 3) := dk_167 255 223 (dk_at dksX10_takeBit_3 0 rfl rfl)
theorem dX10_takeBit_71 : decode cX10_takeBit 71 = .ok (.aload_n 0, 1) := dk_42 (dk_at dksX10_takeBit_3 3 rfl rfl)
theorem dX10_takeBit_72 : decode cX10_takeBit 72 = .ok (.getfield 98, 3) := dk_180 0 98 (dk_at dksX10_takeBit_3 4 rfl rfl)
theorem dX10_takeBit_75 : decode cX10_takeBit 75 = .ok (.iload_n 3, 1) := dk_29 (dk_at dksX10_takeBit_3 7 rfl rfl)
theorem dX10_takeBit_76 : decode cX10_takeBit 76 = .ok (.aload_n 0, 1) := dk_42 (dk_at dksX10_takeBit_3 8 rfl rfl)
theorem dX10_takeBit_77 : decode cX10_takeBit 77 = .ok (.iload_n 1, 1) := dk_27 (dk_at dksX10_takeBit_3 9 rfl rfl)
theorem dX10_takeBit_78 : decode cX10_takeBit 78 = .ok (.invokevirtual 199, 3) := dk_182 0 199 (dk_at dksX10_takeBit_3 10 rfl rfl)
theorem dX10_takeBit_81 : decode cX10_takeBit 81 = .ok (.iadd, 1) := dk_96 (dk_at dksX10_takeBit_3 13 rfl rfl)
theorem dX10_takeBit_82 : decode cX10_takeBit 82 = .ok (.iconst 0, 1) := dk_3 (dk_at dksX10_takeBit_3 14 rfl rfl)
theorem dX10_takeBit_83 : decode cX10_takeBit 83 = .ok (.iastore, 1) := dk_79 (dk_at dksX10_takeBit_3 15 rfl rfl)
theorem dX10_takeBit_84 : decode cX10_takeBit 84 = .ok (.aload_n 0, 1) := dk_42 (dk_at dksX10_takeBit_3 16 rfl rfl)
theorem dX10_takeBit_85 : decode cX10_takeBit 85 = .ok (.getfield 98, 3) := dk_180 0 98 (dk_at dksX10_takeBit_3 17 rfl rfl)
theorem dX10_takeBit_88 : decode cX10_takeBit 88 = .ok (.aload_n 0, 1) := dk_42 (dk_at dksX10_takeBit_3 20 rfl rfl)
theorem dX10_takeBit_89 : decode cX10_takeBit 89 = .ok (.iload_n 1, 1) := dk_27 (dk_at dksX10_takeBit_3 21 rfl rfl)
theorem dX10_takeBit_90 : decode cX10_takeBit 90 = .ok (.iload 4, 2) := dk_21 4 (dk_at dksX10_takeBit_3 22 rfl rfl)
theorem dX10_takeBit_92 : decode cX10_takeBit 92 = .ok (.invokevirtual 195, 3) := dk_182 0 195 (dk_at dksX10_takeBit_4 0 rfl rfl)
theorem dX10_takeBit_95 : decode cX10_takeBit 95 = .ok (.dup2, 1) := dk_92 (dk_at dksX10_takeBit_4 3 rfl rfl)
theorem dX10_takeBit_96 : decode cX10_takeBit 96 = .ok (.iaload, 1) := dk_46 (dk_at dksX10_takeBit_4 4 rfl rfl)
theorem dX10_takeBit_97 : decode cX10_takeBit 97 = .ok (.iconst 1, 1) := dk_4 (dk_at dksX10_takeBit_4 5 rfl rfl)
theorem dX10_takeBit_98 : decode cX10_takeBit 98 = .ok (.isub, 1) := dk_100 (dk_at dksX10_takeBit_4 6 rfl rfl)
theorem dX10_takeBit_99 : decode cX10_takeBit 99 = .ok (.iastore, 1) := dk_79 (dk_at dksX10_takeBit_4 7 rfl rfl)
theorem dX10_takeBit_100 : decode cX10_takeBit 100 = .ok (.aload_n 0, 1) := dk_42 (dk_at dksX10_takeBit_4 8 rfl rfl)
theorem dX10_takeBit_101 : decode cX10_takeBit 101 = .ok (.getfield 98, 3) := dk_180 0 98 (dk_at dksX10_takeBit_4 9 rfl rfl)
theorem dX10_takeBit_104 : decode cX10_takeBit 104 = .ok (.sipush 2611, 3) := dk_17 10 51 (dk_at dksX10_takeBit_4 12 rfl rfl)
theorem dX10_takeBit_107 : decode cX10_takeBit 107 = .ok (.iload_n 1, 1) := dk_27 (dk_at dksX10_takeBit_4 15 rfl rfl)
theorem dX10_takeBit_108 : decode cX10_takeBit 108 = .ok (.iadd, 1) := dk_96 (dk_at dksX10_takeBit_4 16 rfl rfl)
theorem dX10_takeBit_109 : decode cX10_takeBit 109 = .ok (.iaload, 1) := dk_46 (dk_at dksX10_takeBit_4 17 rfl rfl)
theorem dX10_takeBit_110 : decode cX10_takeBit 110 = .ok (.iconst 1, 1) := dk_4 (dk_at dksX10_takeBit_4 18 rfl rfl)
theorem dX10_takeBit_111 : decode cX10_takeBit 111 = .ok (.if_icmp .ne 30, 3) := dk_160 0 30 (dk_at dksX10_takeBit_4 19 rfl rfl)
theorem dX10_takeBit_114 : decode cX10_takeBit 114 = .ok (.aload_n 0, 1) := dk_42 (dk_at dksX10_takeBit_4 22 rfl rfl)
theorem dX10_takeBit_115 : decode cX10_takeBit 115 = .ok (.getfield 98, 3) := dk_180 0 98 (dk_at dksX10_takeBit_5 0 rfl rfl)
theorem dX10_takeBit_118 : decode cX10_takeBit 118 = .ok (.aload_n 0, 1) := dk_42 (dk_at dksX10_takeBit_5 3 rfl rfl)
theorem dX10_takeBit_119 : decode cX10_takeBit 119 = .ok (.iload_n 1, 1) := dk_27 (dk_at dksX10_takeBit_5 4 rfl rfl)
theorem dX10_takeBit_120 : decode cX10_takeBit 120 = .ok (.iload 4, 2) := dk_21 4 (dk_at dksX10_takeBit_5 5 rfl rfl)
theorem dX10_takeBit_122 : decode cX10_takeBit 122 = .ok (.invokevirtual 195, 3) := dk_182 0 195 (dk_at dksX10_takeBit_5 7 rfl rfl)
theorem dX10_takeBit_125 : decode cX10_takeBit 125 = .ok (.iaload, 1) := dk_46 (dk_at dksX10_takeBit_5 10 rfl rfl)
theorem dX10_takeBit_126 : decode cX10_takeBit 126 = .ok (.ifCond .ne 14, 3) := dk_154 0 14 (dk_at dksX10_takeBit_5 11 rfl rfl)
theorem dX10_takeBit_129 : decode cX10_takeBit 129 = .ok (.aload_n 0, 1) := dk_42 (dk_at dksX10_takeBit_5 14 rfl rfl)
theorem dX10_takeBit_130 : decode cX10_takeBit 130 = .ok (.getfield 98, 3) := dk_180 0 98 (dk_at dksX10_takeBit_5 15 rfl rfl)
theorem dX10_takeBit_133 : decode cX10_takeBit 133 = .ok (.sipush 2611, 3) := dk_17 10 51 (dk_at dksX10_takeBit_5 18 rfl rfl)
theorem dX10_takeBit_136 : decode cX10_takeBit 136 = .ok (.iload_n 1, 1) := dk_27 (dk_at dksX10_takeBit_5 21 rfl rfl)
theorem dX10_takeBit_137 : decode cX10_takeBit 137 = .ok (.iadd, 1) := dk_96 (dk_at dksX10_takeBit_5 22 rfl rfl)
theorem dX10_takeBit_138 : decode cX10_takeBit 138 = .ok (.iconst 0, 1) := dk_3 (dk_at dksX10_takeBit_5 23 rfl rfl)
theorem dX10_takeBit_139 : decode cX10_takeBit 139 = .ok (.iastore, 1) := dk_79 (dk_at dksX10_takeBit_6 0 rfl rfl)
theorem dX10_takeBit_140 : decode cX10_takeBit 140 = .ok (.return_, 1) := dk_177 (dk_at dksX10_takeBit_6 1 rfl rfl)
theorem dX10_takeBit_141 : decode cX10_takeBit 141 = .ok (.aload_n 0, 1) := dk_42 (dk_at dksX10_takeBit_6 2 rfl rfl)
theorem dX10_takeBit_142 : decode cX10_takeBit 142 = .ok (.getfield 98, 3) := dk_180 0 98 (dk_at dksX10_takeBit_6 3 rfl rfl)
theorem dX10_takeBit_145 : decode cX10_takeBit 145 = .ok (.aload_n 0, 1) := dk_42 (dk_at dksX10_takeBit_6 6 rfl rfl)
theorem dX10_takeBit_146 : decode cX10_takeBit 146 = .ok (.iload_n 1, 1) := dk_27 (dk_at dksX10_takeBit_6 7 rfl rfl)
theorem dX10_takeBit_147 : decode cX10_takeBit 147 = .ok (.iload 4, 2) := dk_21 4 (dk_at dksX10_takeBit_6 8 rfl rfl)
theorem dX10_takeBit_149 : decode cX10_takeBit 149 = .ok (.invokevirtual 195, 3) := dk_182 0 195 (dk_at dksX10_takeBit_6 10 rfl rfl)
theorem dX10_takeBit_152 : decode cX10_takeBit 152 = .ok (.iaload, 1) := dk_46 (dk_at dksX10_takeBit_6 13 rfl rfl)
theorem dX10_takeBit_153 : decode cX10_takeBit 153 = .ok (.aload_n 0, 1) := dk_42 (dk_at dksX10_takeBit_6 14 rfl rfl)
theorem dX10_takeBit_154 : decode cX10_takeBit 154 = .ok (.getfield 98, 3) := dk_180 0 98 (dk_at dksX10_takeBit_6 15 rfl rfl)
theorem dX10_takeBit_157 : decode cX10_takeBit 157 = .ok (.iconst 1, 1) := dk_4 (dk_at dksX10_takeBit_6 18 rfl rfl)
theorem dX10_takeBit_158 : decode cX10_takeBit 158 = .ok (.iaload, 1) := dk_46 (dk_at dksX10_takeBit_6 19 rfl rfl)
theorem dX10_takeBit_159 : decode cX10_takeBit 159 = .ok (.if_icmp .ge 34, 3) := dk_162 0 34 (dk_at dksX10_takeBit_6 20 rfl rfl)
theorem dX10_takeBit_162 : decode cX10_takeBit 162 = .ok (.aload_n 0, 1) := dk_42 (dk_at dksX10_takeBit_6 23 rfl rfl)
theorem dX10_takeBit_163 : decode cX10_takeBit 163 = .ok (.iload_n 1, 1) := dk_27 (dk_at dksX10_takeBit_7 0 rfl rfl)
theorem dX10_takeBit_164 : decode cX10_takeBit 164 = .ok (.iload 4, 2) := dk_21 4 (dk_at dksX10_takeBit_7 1 rfl rfl)
theorem dX10_takeBit_166 : decode cX10_takeBit 166 = .ok (.aload_n 0, 1) := dk_42 (dk_at dksX10_takeBit_7 3 rfl rfl)
theorem dX10_takeBit_167 : decode cX10_takeBit 167 = .ok (.getfield 98, 3) := dk_180 0 98 (dk_at dksX10_takeBit_7 4 rfl rfl)
theorem dX10_takeBit_170 : decode cX10_takeBit 170 = .ok (.sipush 2611, 3) := dk_17 10 51 (dk_at dksX10_takeBit_7 7 rfl rfl)
theorem dX10_takeBit_173 : decode cX10_takeBit 173 = .ok (.iload_n 1, 1) := dk_27 (dk_at dksX10_takeBit_7 10 rfl rfl)
theorem dX10_takeBit_174 : decode cX10_takeBit 174 = .ok (.iadd, 1) := dk_96 (dk_at dksX10_takeBit_7 11 rfl rfl)
theorem dX10_takeBit_175 : decode cX10_takeBit 175 = .ok (.iaload, 1) := dk_46 (dk_at dksX10_takeBit_7 12 rfl rfl)
theorem dX10_takeBit_176 : decode cX10_takeBit 176 = .ok (.iconst 1, 1) := dk_4 (dk_at dksX10_takeBit_7 13 rfl rfl)
theorem dX10_takeBit_177 : decode cX10_takeBit 177 = .ok (.isub, 1) := dk_100 (dk_at dksX10_takeBit_7 14 rfl rfl)
theorem dX10_takeBit_178 : decode cX10_takeBit 178 = .ok (.if_icmp .ge 8, 3) := dk_162 0 8 (dk_at dksX10_takeBit_7 15 rfl rfl)
theorem dX10_takeBit_181 : decode cX10_takeBit 181 = .ok (.iload 4, 2) := dk_21 4 (dk_at dksX10_takeBit_7 18 rfl rfl)
theorem dX10_takeBit_183 : decode cX10_takeBit 183 = .ok (.goto 7, 3) := dk_167 0 7 (dk_at dksX10_takeBit_7 20 rfl rfl)
theorem dX10_takeBit_186 : decode cX10_takeBit 186 = .ok (.iload 4, 2) := dk_21 4 (dk_at dksX10_takeBit_8 0 rfl rfl)
theorem dX10_takeBit_188 : decode cX10_takeBit 188 = .ok (.iconst 1, 1) := dk_4 (dk_at dksX10_takeBit_8 2 rfl rfl)
theorem dX10_takeBit_189 : decode cX10_takeBit 189 = .ok (.isub, 1) := dk_100 (dk_at dksX10_takeBit_8 3 rfl rfl)
theorem dX10_takeBit_190 : decode cX10_takeBit 190 = .ok (.invokevirtual 209, 3) := dk_182 0 209 (dk_at dksX10_takeBit_8 4 rfl rfl)
theorem dX10_takeBit_193 : decode cX10_takeBit 193 = .ok (.return_, 1) := dk_177 (dk_at dksX10_takeBit_8 7 rfl rfl)
abbrev cX10_joinLeaves : ByteArray := prog_23_method_39_code
def yX10_joinLeaves : MethodName := ⟨RX10, "joinLeaves", "(II)V"⟩
def dkwX10_joinLeaves_5 : List UInt8 := [182, 0, 195, 46, 5, 42, 180, 0, 98, 4, 46, 104, 164, 0, 9, 42, 27, 28, 182, 0, 205, 177]
abbrev dktX10_joinLeaves_5 : List UInt8 := dkwX10_joinLeaves_5 ++ []
def dkwX10_joinLeaves_4 : List UInt8 := [27, 42, 180, 0, 98, 17, 10, 51, 27, 96, 46, 182, 0, 195, 3, 79, 42, 180, 0, 98, 42, 27, 28]
abbrev dktX10_joinLeaves_4 : List UInt8 := dkwX10_joinLeaves_4 ++ dktX10_joinLeaves_5
def dkwX10_joinLeaves_3 : List UInt8 := [180, 0, 98, 42, 27, 29, 4, 96, 182, 0, 195, 46, 79, 132, 3, 1, 167, 255, 215, 42, 180, 0, 98, 42]
abbrev dktX10_joinLeaves_3 : List UInt8 := dkwX10_joinLeaves_3 ++ dktX10_joinLeaves_4
def dkwX10_joinLeaves_2 : List UInt8 := [180, 0, 98, 17, 10, 51, 27, 96, 46, 162, 0, 33, 42, 180, 0, 98, 42, 27, 29, 182, 0, 195, 42]
abbrev dktX10_joinLeaves_2 : List UInt8 := dkwX10_joinLeaves_2 ++ dktX10_joinLeaves_3
def dkwX10_joinLeaves_1 : List UInt8 := [46, 96, 79, 42, 180, 0, 98, 17, 10, 51, 27, 96, 92, 46, 4, 100, 79, 28, 4, 96, 62, 29, 42]
abbrev dktX10_joinLeaves_1 : List UInt8 := dkwX10_joinLeaves_1 ++ dktX10_joinLeaves_2
def dkwX10_joinLeaves_0 : List UInt8 := [42, 180, 0, 98, 42, 27, 28, 182, 0, 195, 92, 46, 42, 180, 0, 98, 42, 27, 28, 4, 96, 182, 0, 195]
abbrev dktX10_joinLeaves_0 : List UInt8 := dkwX10_joinLeaves_0 ++ dktX10_joinLeaves_1
theorem dksX10_joinLeaves_0 : cX10_joinLeaves.data.toList.drop 0 = dktX10_joinLeaves_0 := by decide +kernel
theorem dksX10_joinLeaves_1 : cX10_joinLeaves.data.toList.drop 24 = dktX10_joinLeaves_1 := dk_seg dksX10_joinLeaves_0 24 rfl rfl
theorem dksX10_joinLeaves_2 : cX10_joinLeaves.data.toList.drop 47 = dktX10_joinLeaves_2 := dk_seg dksX10_joinLeaves_1 23 rfl rfl
theorem dksX10_joinLeaves_3 : cX10_joinLeaves.data.toList.drop 70 = dktX10_joinLeaves_3 := dk_seg dksX10_joinLeaves_2 23 rfl rfl
theorem dksX10_joinLeaves_4 : cX10_joinLeaves.data.toList.drop 94 = dktX10_joinLeaves_4 := dk_seg dksX10_joinLeaves_3 24 rfl rfl
theorem dksX10_joinLeaves_5 : cX10_joinLeaves.data.toList.drop 117 = dktX10_joinLeaves_5 := dk_seg dksX10_joinLeaves_4 23 rfl rfl
theorem dX10_joinLeaves_0 : decode cX10_joinLeaves 0 = .ok (.aload_n 0, 1) := dk_42 (dk_at dksX10_joinLeaves_0 0 rfl rfl)
theorem dX10_joinLeaves_1 : decode cX10_joinLeaves 1 = .ok (.getfield 98, 3) := dk_180 0 98 (dk_at dksX10_joinLeaves_0 1 rfl rfl)
theorem dX10_joinLeaves_4 : decode cX10_joinLeaves 4 = .ok (.aload_n 0, 1) := dk_42 (dk_at dksX10_joinLeaves_0 4 rfl rfl)
theorem dX10_joinLeaves_5 : decode cX10_joinLeaves 5 = .ok (.iload_n 1, 1) := dk_27 (dk_at dksX10_joinLeaves_0 5 rfl rfl)
theorem dX10_joinLeaves_6 : decode cX10_joinLeaves 6 = .ok (.iload_n 2, 1) := dk_28 (dk_at dksX10_joinLeaves_0 6 rfl rfl)
theorem dX10_joinLeaves_7 : decode cX10_joinLeaves 7 = .ok (.invokevirtual 195, 3) := dk_182 0 195 (dk_at dksX10_joinLeaves_0 7 rfl rfl)
theorem dX10_joinLeaves_10 : decode cX10_joinLeaves 10 = .ok (.dup2, 1) := dk_92 (dk_at dksX10_joinLeaves_0 10 rfl rfl)
theorem dX10_joinLeaves_11 : decode cX10_joinLeaves 11 = .ok (.iaload, 1) := dk_46 (dk_at dksX10_joinLeaves_0 11 rfl rfl)
theorem dX10_joinLeaves_12 : decode cX10_joinLeaves 12 = .ok (.aload_n 0, 1) := dk_42 (dk_at dksX10_joinLeaves_0 12 rfl rfl)
theorem dX10_joinLeaves_13 : decode cX10_joinLeaves 13 = .ok (.getfield 98, 3) := dk_180 0 98 (dk_at dksX10_joinLeaves_0 13 rfl rfl)
theorem dX10_joinLeaves_16 : decode cX10_joinLeaves 16 = .ok (.aload_n 0, 1) := dk_42 (dk_at dksX10_joinLeaves_0 16 rfl rfl)
theorem dX10_joinLeaves_17 : decode cX10_joinLeaves 17 = .ok (.iload_n 1, 1) := dk_27 (dk_at dksX10_joinLeaves_0 17 rfl rfl)
theorem dX10_joinLeaves_18 : decode cX10_joinLeaves 18 = .ok (.iload_n 2, 1) := dk_28 (dk_at dksX10_joinLeaves_0 18 rfl rfl)
theorem dX10_joinLeaves_19 : decode cX10_joinLeaves 19 = .ok (.iconst 1, 1) := dk_4 (dk_at dksX10_joinLeaves_0 19 rfl rfl)
theorem dX10_joinLeaves_20 : decode cX10_joinLeaves 20 = .ok (.iadd, 1) := dk_96 (dk_at dksX10_joinLeaves_0 20 rfl rfl)
theorem dX10_joinLeaves_21 : decode cX10_joinLeaves 21 = .ok (.invokevirtual 195, 3) := dk_182 0 195 (dk_at dksX10_joinLeaves_0 21 rfl rfl)
theorem dX10_joinLeaves_24 : decode cX10_joinLeaves 24 = .ok (.iaload, 1) := dk_46 (dk_at dksX10_joinLeaves_1 0 rfl rfl)
theorem dX10_joinLeaves_25 : decode cX10_joinLeaves 25 = .ok (.iadd, 1) := dk_96 (dk_at dksX10_joinLeaves_1 1 rfl rfl)
theorem dX10_joinLeaves_26 : decode cX10_joinLeaves 26 = .ok (.iastore, 1) := dk_79 (dk_at dksX10_joinLeaves_1 2 rfl rfl)
theorem dX10_joinLeaves_27 : decode cX10_joinLeaves 27 = .ok (.aload_n 0, 1) := dk_42 (dk_at dksX10_joinLeaves_1 3 rfl rfl)
theorem dX10_joinLeaves_28 : decode cX10_joinLeaves 28 = .ok (.getfield 98, 3) := dk_180 0 98 (dk_at dksX10_joinLeaves_1 4 rfl rfl)
theorem dX10_joinLeaves_31 : decode cX10_joinLeaves 31 = .ok (.sipush 2611, 3) := dk_17 10 51 (dk_at dksX10_joinLeaves_1 7 rfl rfl)
theorem dX10_joinLeaves_34 : decode cX10_joinLeaves 34 = .ok (.iload_n 1, 1) := dk_27 (dk_at dksX10_joinLeaves_1 10 rfl rfl)
theorem dX10_joinLeaves_35 : decode cX10_joinLeaves 35 = .ok (.iadd, 1) := dk_96 (dk_at dksX10_joinLeaves_1 11 rfl rfl)
theorem dX10_joinLeaves_36 : decode cX10_joinLeaves 36 = .ok (.dup2, 1) := dk_92 (dk_at dksX10_joinLeaves_1 12 rfl rfl)
theorem dX10_joinLeaves_37 : decode cX10_joinLeaves 37 = .ok (.iaload, 1) := dk_46 (dk_at dksX10_joinLeaves_1 13 rfl rfl)
theorem dX10_joinLeaves_38 : decode cX10_joinLeaves 38 = .ok (.iconst 1, 1) := dk_4 (dk_at dksX10_joinLeaves_1 14 rfl rfl)
theorem dX10_joinLeaves_39 : decode cX10_joinLeaves 39 = .ok (.isub, 1) := dk_100 (dk_at dksX10_joinLeaves_1 15 rfl rfl)
theorem dX10_joinLeaves_40 : decode cX10_joinLeaves 40 = .ok (.iastore, 1) := dk_79 (dk_at dksX10_joinLeaves_1 16 rfl rfl)
theorem dX10_joinLeaves_41 : decode cX10_joinLeaves 41 = .ok (.iload_n 2, 1) := dk_28 (dk_at dksX10_joinLeaves_1 17 rfl rfl)
theorem dX10_joinLeaves_42 : decode cX10_joinLeaves 42 = .ok (.iconst 1, 1) := dk_4 (dk_at dksX10_joinLeaves_1 18 rfl rfl)
theorem dX10_joinLeaves_43 : decode cX10_joinLeaves 43 = .ok (.iadd, 1) := dk_96 (dk_at dksX10_joinLeaves_1 19 rfl rfl)
theorem dX10_joinLeaves_44 : decode cX10_joinLeaves 44 = .ok (.istore_n 3, 1) := dk_62 (dk_at dksX10_joinLeaves_1 20 rfl rfl)
theorem dX10_joinLeaves_45 : decode cX10_joinLeaves 45 = .ok (.iload_n 3, 1) := dk_29 (dk_at dksX10_joinLeaves_1 21 rfl rfl)
theorem dX10_joinLeaves_46 : decode cX10_joinLeaves 46 = .ok (.aload_n 0, 1) := dk_42 (dk_at dksX10_joinLeaves_1 22 rfl rfl)
theorem dX10_joinLeaves_47 : decode cX10_joinLeaves 47 = .ok (.getfield 98, 3) := dk_180 0 98 (dk_at dksX10_joinLeaves_2 0 rfl rfl)
theorem dX10_joinLeaves_50 : decode cX10_joinLeaves 50 = .ok (.sipush 2611, 3) := dk_17 10 51 (dk_at dksX10_joinLeaves_2 3 rfl rfl)
theorem dX10_joinLeaves_53 : decode cX10_joinLeaves 53 = .ok (.iload_n 1, 1) := dk_27 (dk_at dksX10_joinLeaves_2 6 rfl rfl)
theorem dX10_joinLeaves_54 : decode cX10_joinLeaves 54 = .ok (.iadd, 1) := dk_96 (dk_at dksX10_joinLeaves_2 7 rfl rfl)
theorem dX10_joinLeaves_55 : decode cX10_joinLeaves 55 = .ok (.iaload, 1) := dk_46 (dk_at dksX10_joinLeaves_2 8 rfl rfl)
theorem dX10_joinLeaves_56 : decode cX10_joinLeaves 56 = .ok (.if_icmp .ge 33, 3) := dk_162 0 33 (dk_at dksX10_joinLeaves_2 9 rfl rfl)
theorem dX10_joinLeaves_59 : decode cX10_joinLeaves 59 = .ok (.aload_n 0, 1) := dk_42 (dk_at dksX10_joinLeaves_2 12 rfl rfl)
theorem dX10_joinLeaves_60 : decode cX10_joinLeaves 60 = .ok (.getfield 98, 3) := dk_180 0 98 (dk_at dksX10_joinLeaves_2 13 rfl rfl)
theorem dX10_joinLeaves_63 : decode cX10_joinLeaves 63 = .ok (.aload_n 0, 1) := dk_42 (dk_at dksX10_joinLeaves_2 16 rfl rfl)
theorem dX10_joinLeaves_64 : decode cX10_joinLeaves 64 = .ok (.iload_n 1, 1) := dk_27 (dk_at dksX10_joinLeaves_2 17 rfl rfl)
theorem dX10_joinLeaves_65 : decode cX10_joinLeaves 65 = .ok (.iload_n 3, 1) := dk_29 (dk_at dksX10_joinLeaves_2 18 rfl rfl)
theorem dX10_joinLeaves_66 : decode cX10_joinLeaves 66 = .ok (.invokevirtual 195, 3) := dk_182 0 195 (dk_at dksX10_joinLeaves_2 19 rfl rfl)
theorem dX10_joinLeaves_69 : decode cX10_joinLeaves 69 = .ok (.aload_n 0, 1) := dk_42 (dk_at dksX10_joinLeaves_2 22 rfl rfl)
theorem dX10_joinLeaves_70 : decode cX10_joinLeaves 70 = .ok (.getfield 98, 3) := dk_180 0 98 (dk_at dksX10_joinLeaves_3 0 rfl rfl)
theorem dX10_joinLeaves_73 : decode cX10_joinLeaves 73 = .ok (.aload_n 0, 1) := dk_42 (dk_at dksX10_joinLeaves_3 3 rfl rfl)
theorem dX10_joinLeaves_74 : decode cX10_joinLeaves 74 = .ok (.iload_n 1, 1) := dk_27 (dk_at dksX10_joinLeaves_3 4 rfl rfl)
theorem dX10_joinLeaves_75 : decode cX10_joinLeaves 75 = .ok (.iload_n 3, 1) := dk_29 (dk_at dksX10_joinLeaves_3 5 rfl rfl)
theorem dX10_joinLeaves_76 : decode cX10_joinLeaves 76 = .ok (.iconst 1, 1) := dk_4 (dk_at dksX10_joinLeaves_3 6 rfl rfl)
theorem dX10_joinLeaves_77 : decode cX10_joinLeaves 77 = .ok (.iadd, 1) := dk_96 (dk_at dksX10_joinLeaves_3 7 rfl rfl)
theorem dX10_joinLeaves_78 : decode cX10_joinLeaves 78 = .ok (.invokevirtual 195, 3) := dk_182 0 195 (dk_at dksX10_joinLeaves_3 8 rfl rfl)
theorem dX10_joinLeaves_81 : decode cX10_joinLeaves 81 = .ok (.iaload, 1) := dk_46 (dk_at dksX10_joinLeaves_3 11 rfl rfl)
theorem dX10_joinLeaves_82 : decode cX10_joinLeaves 82 = .ok (.iastore, 1) := dk_79 (dk_at dksX10_joinLeaves_3 12 rfl rfl)
theorem dX10_joinLeaves_83 : decode cX10_joinLeaves 83 = .ok (.iinc 3 1, 3) := dk_132 3 1 (dk_at dksX10_joinLeaves_3 13 rfl rfl)
theorem dX10_joinLeaves_86 : decode cX10_joinLeaves 86 = .ok (.goto (-41), 3) := dk_167 255 215 (dk_at dksX10_joinLeaves_3 16 rfl rfl)
theorem dX10_joinLeaves_89 : decode cX10_joinLeaves 89 = .ok (.aload_n 0, 1) := dk_42 (dk_at dksX10_joinLeaves_3 19 rfl rfl)
theorem dX10_joinLeaves_90 : decode cX10_joinLeaves 90 = .ok (.getfield 98, 3) := dk_180 0 98 (dk_at dksX10_joinLeaves_3 20 rfl rfl)
theorem dX10_joinLeaves_93 : decode cX10_joinLeaves 93 = .ok (.aload_n 0, 1) := dk_42 (dk_at dksX10_joinLeaves_3 23 rfl rfl)
theorem dX10_joinLeaves_94 : decode cX10_joinLeaves 94 = .ok (.iload_n 1, 1) := dk_27 (dk_at dksX10_joinLeaves_4 0 rfl rfl)
theorem dX10_joinLeaves_95 : decode cX10_joinLeaves 95 = .ok (.aload_n 0, 1) := dk_42 (dk_at dksX10_joinLeaves_4 1 rfl rfl)
theorem dX10_joinLeaves_96 : decode cX10_joinLeaves 96 = .ok (.getfield 98, 3) := dk_180 0 98 (dk_at dksX10_joinLeaves_4 2 rfl rfl)
theorem dX10_joinLeaves_99 : decode cX10_joinLeaves 99 = .ok (.sipush 2611, 3) := dk_17 10 51 (dk_at dksX10_joinLeaves_4 5 rfl rfl)
theorem dX10_joinLeaves_102 : decode cX10_joinLeaves 102 = .ok (.iload_n 1, 1) := dk_27 (dk_at dksX10_joinLeaves_4 8 rfl rfl)
theorem dX10_joinLeaves_103 : decode cX10_joinLeaves 103 = .ok (.iadd, 1) := dk_96 (dk_at dksX10_joinLeaves_4 9 rfl rfl)
theorem dX10_joinLeaves_104 : decode cX10_joinLeaves 104 = .ok (.iaload, 1) := dk_46 (dk_at dksX10_joinLeaves_4 10 rfl rfl)
theorem dX10_joinLeaves_105 : decode cX10_joinLeaves 105 = .ok (.invokevirtual 195, 3) := dk_182 0 195 (dk_at dksX10_joinLeaves_4 11 rfl rfl)
theorem dX10_joinLeaves_108 : decode cX10_joinLeaves 108 = .ok (.iconst 0, 1) := dk_3 (dk_at dksX10_joinLeaves_4 14 rfl rfl)
theorem dX10_joinLeaves_109 : decode cX10_joinLeaves 109 = .ok (.iastore, 1) := dk_79 (dk_at dksX10_joinLeaves_4 15 rfl rfl)
theorem dX10_joinLeaves_110 : decode cX10_joinLeaves 110 = .ok (.aload_n 0, 1) := dk_42 (dk_at dksX10_joinLeaves_4 16 rfl rfl)
theorem dX10_joinLeaves_111 : decode cX10_joinLeaves 111 = .ok (.getfield 98, 3) := dk_180 0 98 (dk_at dksX10_joinLeaves_4 17 rfl rfl)
theorem dX10_joinLeaves_114 : decode cX10_joinLeaves 114 = .ok (.aload_n 0, 1) := dk_42 (dk_at dksX10_joinLeaves_4 20 rfl rfl)
theorem dX10_joinLeaves_115 : decode cX10_joinLeaves 115 = .ok (.iload_n 1, 1) := dk_27 (dk_at dksX10_joinLeaves_4 21 rfl rfl)
theorem dX10_joinLeaves_116 : decode cX10_joinLeaves 116 = .ok (.iload_n 2, 1) := dk_28 (dk_at dksX10_joinLeaves_4 22 rfl rfl)
theorem dX10_joinLeaves_117 : decode cX10_joinLeaves 117 = .ok (.invokevirtual 195, 3) := dk_182 0 195 (dk_at dksX10_joinLeaves_5 0 rfl rfl)
theorem dX10_joinLeaves_120 : decode cX10_joinLeaves 120 = .ok (.iaload, 1) := dk_46 (dk_at dksX10_joinLeaves_5 3 rfl rfl)
theorem dX10_joinLeaves_121 : decode cX10_joinLeaves 121 = .ok (.iconst 2, 1) := dk_5 (dk_at dksX10_joinLeaves_5 4 rfl rfl)
theorem dX10_joinLeaves_122 : decode cX10_joinLeaves 122 = .ok (.aload_n 0, 1) := dk_42 (dk_at dksX10_joinLeaves_5 5 rfl rfl)
theorem dX10_joinLeaves_123 : decode cX10_joinLeaves 123 = .ok (.getfield 98, 3) := dk_180 0 98 (dk_at dksX10_joinLeaves_5 6 rfl rfl)
theorem dX10_joinLeaves_126 : decode cX10_joinLeaves 126 = .ok (.iconst 1, 1) := dk_4 (dk_at dksX10_joinLeaves_5 9 rfl rfl)
theorem dX10_joinLeaves_127 : decode cX10_joinLeaves 127 = .ok (.iaload, 1) := dk_46 (dk_at dksX10_joinLeaves_5 10 rfl rfl)
theorem dX10_joinLeaves_128 : decode cX10_joinLeaves 128 = .ok (.imul, 1) := dk_104 (dk_at dksX10_joinLeaves_5 11 rfl rfl)
theorem dX10_joinLeaves_129 : decode cX10_joinLeaves 129 = .ok (.if_icmp .le 9, 3) := dk_164 0 9 (dk_at dksX10_joinLeaves_5 12 rfl rfl)
theorem dX10_joinLeaves_132 : decode cX10_joinLeaves 132 = .ok (.aload_n 0, 1) := dk_42 (dk_at dksX10_joinLeaves_5 15 rfl rfl)
theorem dX10_joinLeaves_133 : decode cX10_joinLeaves 133 = .ok (.iload_n 1, 1) := dk_27 (dk_at dksX10_joinLeaves_5 16 rfl rfl)
theorem dX10_joinLeaves_134 : decode cX10_joinLeaves 134 = .ok (.iload_n 2, 1) := dk_28 (dk_at dksX10_joinLeaves_5 17 rfl rfl)
theorem dX10_joinLeaves_135 : decode cX10_joinLeaves 135 = .ok (.invokevirtual 205, 3) := dk_182 0 205 (dk_at dksX10_joinLeaves_5 18 rfl rfl)
theorem dX10_joinLeaves_138 : decode cX10_joinLeaves 138 = .ok (.return_, 1) := dk_177 (dk_at dksX10_joinLeaves_5 21 rfl rfl)
abbrev cX10_moves : ByteArray := prog_23_method_90_code
def yX10_moves : MethodName := ⟨RX10, "moves", "(III)V"⟩
def dkwX10_moves_2 : List UInt8 := [21, 5, 21, 4, 162, 0, 15, 42, 27, 28, 182, 1, 42, 132, 5, 1, 167, 255, 240, 177]
abbrev dktX10_moves_2 : List UInt8 := dkwX10_moves_2 ++ []
def dkwX10_moves_1 : List UInt8 := [182, 0, 199, 42, 27, 28, 21, 5, 96, 182, 0, 212, 182, 0, 142, 132, 5, 1, 167, 255, 227, 3, 54, 5]
abbrev dktX10_moves_1 : List UInt8 := dkwX10_moves_1 ++ dktX10_moves_2
def dkwX10_moves_0 : List UInt8 := [42, 27, 182, 0, 199, 28, 100, 54, 4, 3, 54, 5, 21, 5, 21, 4, 162, 0, 28, 42, 29, 42, 29]
abbrev dktX10_moves_0 : List UInt8 := dkwX10_moves_0 ++ dktX10_moves_1
theorem dksX10_moves_0 : cX10_moves.data.toList.drop 0 = dktX10_moves_0 := by decide +kernel
theorem dksX10_moves_1 : cX10_moves.data.toList.drop 23 = dktX10_moves_1 := dk_seg dksX10_moves_0 23 rfl rfl
theorem dksX10_moves_2 : cX10_moves.data.toList.drop 47 = dktX10_moves_2 := dk_seg dksX10_moves_1 24 rfl rfl
theorem dX10_moves_0 : decode cX10_moves 0 = .ok (.aload_n 0, 1) := dk_42 (dk_at dksX10_moves_0 0 rfl rfl)
theorem dX10_moves_1 : decode cX10_moves 1 = .ok (.iload_n 1, 1) := dk_27 (dk_at dksX10_moves_0 1 rfl rfl)
theorem dX10_moves_2 : decode cX10_moves 2 = .ok (.invokevirtual 199, 3) := dk_182 0 199 (dk_at dksX10_moves_0 2 rfl rfl)
theorem dX10_moves_5 : decode cX10_moves 5 = .ok (.iload_n 2, 1) := dk_28 (dk_at dksX10_moves_0 5 rfl rfl)
theorem dX10_moves_6 : decode cX10_moves 6 = .ok (.isub, 1) := dk_100 (dk_at dksX10_moves_0 6 rfl rfl)
theorem dX10_moves_7 : decode cX10_moves 7 = .ok (.istore 4, 2) := dk_54 4 (dk_at dksX10_moves_0 7 rfl rfl)
theorem dX10_moves_9 : decode cX10_moves 9 = .ok (.iconst 0, 1) := dk_3 (dk_at dksX10_moves_0 9 rfl rfl)
theorem dX10_moves_10 : decode cX10_moves 10 = .ok (.istore 5, 2) := dk_54 5 (dk_at dksX10_moves_0 10 rfl rfl)
theorem dX10_moves_12 : decode cX10_moves 12 = .ok (.iload 5, 2) := dk_21 5 (dk_at dksX10_moves_0 12 rfl rfl)
theorem dX10_moves_14 : decode cX10_moves 14 = .ok (.iload 4, 2) := dk_21 4 (dk_at dksX10_moves_0 14 rfl rfl)
theorem dX10_moves_16 : decode cX10_moves 16 = .ok (.if_icmp .ge 28, 3) := dk_162 0 28 (dk_at dksX10_moves_0 16 rfl rfl)
theorem dX10_moves_19 : decode cX10_moves 19 = .ok (.aload_n 0, 1) := dk_42 (dk_at dksX10_moves_0 19 rfl rfl)
theorem dX10_moves_20 : decode cX10_moves 20 = .ok (.iload_n 3, 1) := dk_29 (dk_at dksX10_moves_0 20 rfl rfl)
theorem dX10_moves_21 : decode cX10_moves 21 = .ok (.aload_n 0, 1) := dk_42 (dk_at dksX10_moves_0 21 rfl rfl)
theorem dX10_moves_22 : decode cX10_moves 22 = .ok (.iload_n 3, 1) := dk_29 (dk_at dksX10_moves_0 22 rfl rfl)
theorem dX10_moves_23 : decode cX10_moves 23 = .ok (.invokevirtual 199, 3) := dk_182 0 199 (dk_at dksX10_moves_1 0 rfl rfl)
theorem dX10_moves_26 : decode cX10_moves 26 = .ok (.aload_n 0, 1) := dk_42 (dk_at dksX10_moves_1 3 rfl rfl)
theorem dX10_moves_27 : decode cX10_moves 27 = .ok (.iload_n 1, 1) := dk_27 (dk_at dksX10_moves_1 4 rfl rfl)
theorem dX10_moves_28 : decode cX10_moves 28 = .ok (.iload_n 2, 1) := dk_28 (dk_at dksX10_moves_1 5 rfl rfl)
theorem dX10_moves_29 : decode cX10_moves 29 = .ok (.iload 5, 2) := dk_21 5 (dk_at dksX10_moves_1 6 rfl rfl)
theorem dX10_moves_31 : decode cX10_moves 31 = .ok (.iadd, 1) := dk_96 (dk_at dksX10_moves_1 8 rfl rfl)
theorem dX10_moves_32 : decode cX10_moves 32 = .ok (.invokevirtual 212, 3) := dk_182 0 212 (dk_at dksX10_moves_1 9 rfl rfl)
theorem dX10_moves_35 : decode cX10_moves 35 = .ok (.invokevirtual 142, 3) := dk_182 0 142 (dk_at dksX10_moves_1 12 rfl rfl)
theorem dX10_moves_38 : decode cX10_moves 38 = .ok (.iinc 5 1, 3) := dk_132 5 1 (dk_at dksX10_moves_1 15 rfl rfl)
theorem dX10_moves_41 : decode cX10_moves 41 = .ok (.goto (-29), 3) := dk_167 255 227 (dk_at dksX10_moves_1 18 rfl rfl)
theorem dX10_moves_44 : decode cX10_moves 44 = .ok (.iconst 0, 1) := dk_3 (dk_at dksX10_moves_1 21 rfl rfl)
theorem dX10_moves_45 : decode cX10_moves 45 = .ok (.istore 5, 2) := dk_54 5 (dk_at dksX10_moves_1 22 rfl rfl)
theorem dX10_moves_47 : decode cX10_moves 47 = .ok (.iload 5, 2) := dk_21 5 (dk_at dksX10_moves_2 0 rfl rfl)
theorem dX10_moves_49 : decode cX10_moves 49 = .ok (.iload 4, 2) := dk_21 4 (dk_at dksX10_moves_2 2 rfl rfl)
theorem dX10_moves_51 : decode cX10_moves 51 = .ok (.if_icmp .ge 15, 3) := dk_162 0 15 (dk_at dksX10_moves_2 4 rfl rfl)
theorem dX10_moves_54 : decode cX10_moves 54 = .ok (.aload_n 0, 1) := dk_42 (dk_at dksX10_moves_2 7 rfl rfl)
theorem dX10_moves_55 : decode cX10_moves 55 = .ok (.iload_n 1, 1) := dk_27 (dk_at dksX10_moves_2 8 rfl rfl)
theorem dX10_moves_56 : decode cX10_moves 56 = .ok (.iload_n 2, 1) := dk_28 (dk_at dksX10_moves_2 9 rfl rfl)
theorem dX10_moves_57 : decode cX10_moves 57 = .ok (.invokevirtual 298, 3) := dk_182 1 42 (dk_at dksX10_moves_2 10 rfl rfl)
theorem dX10_moves_60 : decode cX10_moves 60 = .ok (.iinc 5 1, 3) := dk_132 5 1 (dk_at dksX10_moves_2 13 rfl rfl)
theorem dX10_moves_63 : decode cX10_moves 63 = .ok (.goto (-16), 3) := dk_167 255 240 (dk_at dksX10_moves_2 16 rfl rfl)
theorem dX10_moves_66 : decode cX10_moves 66 = .ok (.return_, 1) := dk_177 (dk_at dksX10_moves_2 19 rfl rfl)
abbrev cX10_set : ByteArray := prog_23_method_93_code
def yX10_set : MethodName := ⟨RX10, "set", "(III)I"⟩
def dkwX10_set_1 : List UInt8 := [153, 0, 7, 4, 167, 0, 4, 3, 182, 1, 59, 172]
abbrev dktX10_set_1 : List UInt8 := dkwX10_set_1 ++ []
def dkwX10_set_0 : List UInt8 := [42, 3, 181, 0, 1, 42, 4, 27, 28, 29, 42, 27, 182, 0, 215, 153, 0, 15, 42, 29, 182, 0, 221]
abbrev dktX10_set_0 : List UInt8 := dkwX10_set_0 ++ dktX10_set_1
theorem dksX10_set_0 : cX10_set.data.toList.drop 0 = dktX10_set_0 := by decide +kernel
theorem dksX10_set_1 : cX10_set.data.toList.drop 23 = dktX10_set_1 := dk_seg dksX10_set_0 23 rfl rfl
theorem dX10_set_0 : decode cX10_set 0 = .ok (.aload_n 0, 1) := dk_42 (dk_at dksX10_set_0 0 rfl rfl)
theorem dX10_set_1 : decode cX10_set 1 = .ok (.iconst 0, 1) := dk_3 (dk_at dksX10_set_0 1 rfl rfl)
theorem dX10_set_2 : decode cX10_set 2 = .ok (.putfield 1, 3) := dk_181 0 1 (dk_at dksX10_set_0 2 rfl rfl)
theorem dX10_set_5 : decode cX10_set 5 = .ok (.aload_n 0, 1) := dk_42 (dk_at dksX10_set_0 5 rfl rfl)
theorem dX10_set_6 : decode cX10_set 6 = .ok (.iconst 1, 1) := dk_4 (dk_at dksX10_set_0 6 rfl rfl)
theorem dX10_set_7 : decode cX10_set 7 = .ok (.iload_n 1, 1) := dk_27 (dk_at dksX10_set_0 7 rfl rfl)
theorem dX10_set_8 : decode cX10_set 8 = .ok (.iload_n 2, 1) := dk_28 (dk_at dksX10_set_0 8 rfl rfl)
theorem dX10_set_9 : decode cX10_set 9 = .ok (.iload_n 3, 1) := dk_29 (dk_at dksX10_set_0 9 rfl rfl)
theorem dX10_set_10 : decode cX10_set 10 = .ok (.aload_n 0, 1) := dk_42 (dk_at dksX10_set_0 10 rfl rfl)
theorem dX10_set_11 : decode cX10_set 11 = .ok (.iload_n 1, 1) := dk_27 (dk_at dksX10_set_0 11 rfl rfl)
theorem dX10_set_12 : decode cX10_set 12 = .ok (.invokevirtual 215, 3) := dk_182 0 215 (dk_at dksX10_set_0 12 rfl rfl)
theorem dX10_set_15 : decode cX10_set 15 = .ok (.ifCond .eq 15, 3) := dk_153 0 15 (dk_at dksX10_set_0 15 rfl rfl)
theorem dX10_set_18 : decode cX10_set 18 = .ok (.aload_n 0, 1) := dk_42 (dk_at dksX10_set_0 18 rfl rfl)
theorem dX10_set_19 : decode cX10_set 19 = .ok (.iload_n 3, 1) := dk_29 (dk_at dksX10_set_0 19 rfl rfl)
theorem dX10_set_20 : decode cX10_set 20 = .ok (.invokevirtual 221, 3) := dk_182 0 221 (dk_at dksX10_set_0 20 rfl rfl)
theorem dX10_set_23 : decode cX10_set 23 = .ok (.ifCond .eq 7, 3) := dk_153 0 7 (dk_at dksX10_set_1 0 rfl rfl)
theorem dX10_set_26 : decode cX10_set 26 = .ok (.iconst 1, 1) := dk_4 (dk_at dksX10_set_1 3 rfl rfl)
theorem dX10_set_27 : decode cX10_set 27 = .ok (.goto 4, 3) := dk_167 0 4 (dk_at dksX10_set_1 4 rfl rfl)
theorem dX10_set_30 : decode cX10_set 30 = .ok (.iconst 0, 1) := dk_3 (dk_at dksX10_set_1 7 rfl rfl)
theorem dX10_set_31 : decode cX10_set 31 = .ok (.invokevirtual 315, 3) := dk_182 1 59 (dk_at dksX10_set_1 8 rfl rfl)
theorem dX10_set_34 : decode cX10_set 34 = .ok (.ireturn, 1) := dk_172 (dk_at dksX10_set_1 11 rfl rfl)
abbrev cX10_cut : ByteArray := prog_23_method_94_code
def yX10_cut : MethodName := ⟨RX10, "cut", "(III)I"⟩
def dkwX10_cut_1 : List UInt8 := [184, 0, 75, 153, 0, 7, 4, 167, 0, 4, 3, 182, 1, 59, 172]
abbrev dktX10_cut_1 : List UInt8 := dkwX10_cut_1 ++ []
def dkwX10_cut_0 : List UInt8 := [42, 3, 181, 0, 1, 42, 5, 27, 28, 29, 42, 27, 182, 0, 215, 153, 0, 18, 29, 4, 17, 2, 88]
abbrev dktX10_cut_0 : List UInt8 := dkwX10_cut_0 ++ dktX10_cut_1
theorem dksX10_cut_0 : cX10_cut.data.toList.drop 0 = dktX10_cut_0 := by decide +kernel
theorem dksX10_cut_1 : cX10_cut.data.toList.drop 23 = dktX10_cut_1 := dk_seg dksX10_cut_0 23 rfl rfl
theorem dX10_cut_0 : decode cX10_cut 0 = .ok (.aload_n 0, 1) := dk_42 (dk_at dksX10_cut_0 0 rfl rfl)
theorem dX10_cut_1 : decode cX10_cut 1 = .ok (.iconst 0, 1) := dk_3 (dk_at dksX10_cut_0 1 rfl rfl)
theorem dX10_cut_2 : decode cX10_cut 2 = .ok (.putfield 1, 3) := dk_181 0 1 (dk_at dksX10_cut_0 2 rfl rfl)
theorem dX10_cut_5 : decode cX10_cut 5 = .ok (.aload_n 0, 1) := dk_42 (dk_at dksX10_cut_0 5 rfl rfl)
theorem dX10_cut_6 : decode cX10_cut 6 = .ok (.iconst 2, 1) := dk_5 (dk_at dksX10_cut_0 6 rfl rfl)
theorem dX10_cut_7 : decode cX10_cut 7 = .ok (.iload_n 1, 1) := dk_27 (dk_at dksX10_cut_0 7 rfl rfl)
theorem dX10_cut_8 : decode cX10_cut 8 = .ok (.iload_n 2, 1) := dk_28 (dk_at dksX10_cut_0 8 rfl rfl)
theorem dX10_cut_9 : decode cX10_cut 9 = .ok (.iload_n 3, 1) := dk_29 (dk_at dksX10_cut_0 9 rfl rfl)
theorem dX10_cut_10 : decode cX10_cut 10 = .ok (.aload_n 0, 1) := dk_42 (dk_at dksX10_cut_0 10 rfl rfl)
theorem dX10_cut_11 : decode cX10_cut 11 = .ok (.iload_n 1, 1) := dk_27 (dk_at dksX10_cut_0 11 rfl rfl)
theorem dX10_cut_12 : decode cX10_cut 12 = .ok (.invokevirtual 215, 3) := dk_182 0 215 (dk_at dksX10_cut_0 12 rfl rfl)
theorem dX10_cut_15 : decode cX10_cut 15 = .ok (.ifCond .eq 18, 3) := dk_153 0 18 (dk_at dksX10_cut_0 15 rfl rfl)
theorem dX10_cut_18 : decode cX10_cut 18 = .ok (.iload_n 3, 1) := dk_29 (dk_at dksX10_cut_0 18 rfl rfl)
theorem dX10_cut_19 : decode cX10_cut 19 = .ok (.iconst 1, 1) := dk_4 (dk_at dksX10_cut_0 19 rfl rfl)
theorem dX10_cut_20 : decode cX10_cut 20 = .ok (.sipush 600, 3) := dk_17 2 88 (dk_at dksX10_cut_0 20 rfl rfl)
theorem dX10_cut_23 : decode cX10_cut 23 = .ok (.invokestatic 75, 3) := dk_184 0 75 (dk_at dksX10_cut_1 0 rfl rfl)
theorem dX10_cut_26 : decode cX10_cut 26 = .ok (.ifCond .eq 7, 3) := dk_153 0 7 (dk_at dksX10_cut_1 3 rfl rfl)
theorem dX10_cut_29 : decode cX10_cut 29 = .ok (.iconst 1, 1) := dk_4 (dk_at dksX10_cut_1 6 rfl rfl)
theorem dX10_cut_30 : decode cX10_cut 30 = .ok (.goto 4, 3) := dk_167 0 4 (dk_at dksX10_cut_1 7 rfl rfl)
theorem dX10_cut_33 : decode cX10_cut 33 = .ok (.iconst 0, 1) := dk_3 (dk_at dksX10_cut_1 10 rfl rfl)
theorem dX10_cut_34 : decode cX10_cut 34 = .ok (.invokevirtual 315, 3) := dk_182 1 59 (dk_at dksX10_cut_1 11 rfl rfl)
theorem dX10_cut_37 : decode cX10_cut 37 = .ok (.ireturn, 1) := dk_172 (dk_at dksX10_cut_1 14 rfl rfl)
abbrev cX10_turn : ByteArray := prog_23_method_95_code
def yX10_turn : MethodName := ⟨RX10, "turn", "(III)I"⟩
def dkwX10_turn_1 : List UInt8 := [184, 0, 75, 153, 0, 7, 4, 167, 0, 4, 3, 182, 1, 59, 172]
abbrev dktX10_turn_1 : List UInt8 := dkwX10_turn_1 ++ []
def dkwX10_turn_0 : List UInt8 := [42, 3, 181, 0, 1, 42, 6, 27, 28, 29, 42, 27, 182, 0, 215, 153, 0, 18, 29, 4, 17, 2, 88]
abbrev dktX10_turn_0 : List UInt8 := dkwX10_turn_0 ++ dktX10_turn_1
theorem dksX10_turn_0 : cX10_turn.data.toList.drop 0 = dktX10_turn_0 := by decide +kernel
theorem dksX10_turn_1 : cX10_turn.data.toList.drop 23 = dktX10_turn_1 := dk_seg dksX10_turn_0 23 rfl rfl
theorem dX10_turn_0 : decode cX10_turn 0 = .ok (.aload_n 0, 1) := dk_42 (dk_at dksX10_turn_0 0 rfl rfl)
theorem dX10_turn_1 : decode cX10_turn 1 = .ok (.iconst 0, 1) := dk_3 (dk_at dksX10_turn_0 1 rfl rfl)
theorem dX10_turn_2 : decode cX10_turn 2 = .ok (.putfield 1, 3) := dk_181 0 1 (dk_at dksX10_turn_0 2 rfl rfl)
theorem dX10_turn_5 : decode cX10_turn 5 = .ok (.aload_n 0, 1) := dk_42 (dk_at dksX10_turn_0 5 rfl rfl)
theorem dX10_turn_6 : decode cX10_turn 6 = .ok (.iconst 3, 1) := dk_6 (dk_at dksX10_turn_0 6 rfl rfl)
theorem dX10_turn_7 : decode cX10_turn 7 = .ok (.iload_n 1, 1) := dk_27 (dk_at dksX10_turn_0 7 rfl rfl)
theorem dX10_turn_8 : decode cX10_turn 8 = .ok (.iload_n 2, 1) := dk_28 (dk_at dksX10_turn_0 8 rfl rfl)
theorem dX10_turn_9 : decode cX10_turn 9 = .ok (.iload_n 3, 1) := dk_29 (dk_at dksX10_turn_0 9 rfl rfl)
theorem dX10_turn_10 : decode cX10_turn 10 = .ok (.aload_n 0, 1) := dk_42 (dk_at dksX10_turn_0 10 rfl rfl)
theorem dX10_turn_11 : decode cX10_turn 11 = .ok (.iload_n 1, 1) := dk_27 (dk_at dksX10_turn_0 11 rfl rfl)
theorem dX10_turn_12 : decode cX10_turn 12 = .ok (.invokevirtual 215, 3) := dk_182 0 215 (dk_at dksX10_turn_0 12 rfl rfl)
theorem dX10_turn_15 : decode cX10_turn 15 = .ok (.ifCond .eq 18, 3) := dk_153 0 18 (dk_at dksX10_turn_0 15 rfl rfl)
theorem dX10_turn_18 : decode cX10_turn 18 = .ok (.iload_n 3, 1) := dk_29 (dk_at dksX10_turn_0 18 rfl rfl)
theorem dX10_turn_19 : decode cX10_turn 19 = .ok (.iconst 1, 1) := dk_4 (dk_at dksX10_turn_0 19 rfl rfl)
theorem dX10_turn_20 : decode cX10_turn 20 = .ok (.sipush 600, 3) := dk_17 2 88 (dk_at dksX10_turn_0 20 rfl rfl)
theorem dX10_turn_23 : decode cX10_turn 23 = .ok (.invokestatic 75, 3) := dk_184 0 75 (dk_at dksX10_turn_1 0 rfl rfl)
theorem dX10_turn_26 : decode cX10_turn 26 = .ok (.ifCond .eq 7, 3) := dk_153 0 7 (dk_at dksX10_turn_1 3 rfl rfl)
theorem dX10_turn_29 : decode cX10_turn 29 = .ok (.iconst 1, 1) := dk_4 (dk_at dksX10_turn_1 6 rfl rfl)
theorem dX10_turn_30 : decode cX10_turn 30 = .ok (.goto 4, 3) := dk_167 0 4 (dk_at dksX10_turn_1 7 rfl rfl)
theorem dX10_turn_33 : decode cX10_turn 33 = .ok (.iconst 0, 1) := dk_3 (dk_at dksX10_turn_1 10 rfl rfl)
theorem dX10_turn_34 : decode cX10_turn 34 = .ok (.invokevirtual 315, 3) := dk_182 1 59 (dk_at dksX10_turn_1 11 rfl rfl)
theorem dX10_turn_37 : decode cX10_turn 37 = .ok (.ireturn, 1) := dk_172 (dk_at dksX10_turn_1 14 rfl rfl)
abbrev cX10_paste : ByteArray := prog_23_method_96_code
def yX10_paste : MethodName := ⟨RX10, "paste", "(II)I"⟩
def dkwX10_paste_3 : List UInt8 := [21, 5, 46, 182, 0, 142, 132, 5, 1, 167, 255, 231, 3, 172]
abbrev dktX10_paste_3 : List UInt8 := dkwX10_paste_3 ++ []
def dkwX10_paste_2 : List UInt8 := [172, 42, 182, 1, 52, 3, 54, 5, 21, 5, 29, 162, 0, 25, 42, 27, 28, 21, 5, 96, 42, 180, 0, 7]
abbrev dktX10_paste_2 : List UInt8 := dkwX10_paste_2 ++ dktX10_paste_3
def dkwX10_paste_1 : List UInt8 := [182, 1, 17, 154, 0, 5, 2, 172, 42, 27, 28, 29, 182, 1, 36, 54, 4, 21, 4, 153, 0, 6, 21, 4]
abbrev dktX10_paste_1 : List UInt8 := dkwX10_paste_1 ++ dktX10_paste_2
def dkwX10_paste_0 : List UInt8 := [42, 3, 181, 0, 1, 42, 182, 0, 89, 62, 42, 27, 182, 0, 215, 153, 0, 13, 42, 29, 16, 64]
abbrev dktX10_paste_0 : List UInt8 := dkwX10_paste_0 ++ dktX10_paste_1
theorem dksX10_paste_0 : cX10_paste.data.toList.drop 0 = dktX10_paste_0 := by decide +kernel
theorem dksX10_paste_1 : cX10_paste.data.toList.drop 22 = dktX10_paste_1 := dk_seg dksX10_paste_0 22 rfl rfl
theorem dksX10_paste_2 : cX10_paste.data.toList.drop 46 = dktX10_paste_2 := dk_seg dksX10_paste_1 24 rfl rfl
theorem dksX10_paste_3 : cX10_paste.data.toList.drop 70 = dktX10_paste_3 := dk_seg dksX10_paste_2 24 rfl rfl
theorem dX10_paste_0 : decode cX10_paste 0 = .ok (.aload_n 0, 1) := dk_42 (dk_at dksX10_paste_0 0 rfl rfl)
theorem dX10_paste_1 : decode cX10_paste 1 = .ok (.iconst 0, 1) := dk_3 (dk_at dksX10_paste_0 1 rfl rfl)
theorem dX10_paste_2 : decode cX10_paste 2 = .ok (.putfield 1, 3) := dk_181 0 1 (dk_at dksX10_paste_0 2 rfl rfl)
theorem dX10_paste_5 : decode cX10_paste 5 = .ok (.aload_n 0, 1) := dk_42 (dk_at dksX10_paste_0 5 rfl rfl)
theorem dX10_paste_6 : decode cX10_paste 6 = .ok (.invokevirtual 89, 3) := dk_182 0 89 (dk_at dksX10_paste_0 6 rfl rfl)
theorem dX10_paste_9 : decode cX10_paste 9 = .ok (.istore_n 3, 1) := dk_62 (dk_at dksX10_paste_0 9 rfl rfl)
theorem dX10_paste_10 : decode cX10_paste 10 = .ok (.aload_n 0, 1) := dk_42 (dk_at dksX10_paste_0 10 rfl rfl)
theorem dX10_paste_11 : decode cX10_paste 11 = .ok (.iload_n 1, 1) := dk_27 (dk_at dksX10_paste_0 11 rfl rfl)
theorem dX10_paste_12 : decode cX10_paste 12 = .ok (.invokevirtual 215, 3) := dk_182 0 215 (dk_at dksX10_paste_0 12 rfl rfl)
theorem dX10_paste_15 : decode cX10_paste 15 = .ok (.ifCond .eq 13, 3) := dk_153 0 13 (dk_at dksX10_paste_0 15 rfl rfl)
theorem dX10_paste_18 : decode cX10_paste 18 = .ok (.aload_n 0, 1) := dk_42 (dk_at dksX10_paste_0 18 rfl rfl)
theorem dX10_paste_19 : decode cX10_paste 19 = .ok (.iload_n 3, 1) := dk_29 (dk_at dksX10_paste_0 19 rfl rfl)
theorem dX10_paste_20 : decode cX10_paste 20 = .ok (.bipush 64, 2) := dk_16 64 (dk_at dksX10_paste_0 20 rfl rfl)
theorem dX10_paste_22 : decode cX10_paste 22 = .ok (.invokevirtual 273, 3) := dk_182 1 17 (dk_at dksX10_paste_1 0 rfl rfl)
theorem dX10_paste_25 : decode cX10_paste 25 = .ok (.ifCond .ne 5, 3) := dk_154 0 5 (dk_at dksX10_paste_1 3 rfl rfl)
theorem dX10_paste_28 : decode cX10_paste 28 = .ok (.iconst (-1), 1) := dk_2 (dk_at dksX10_paste_1 6 rfl rfl)
theorem dX10_paste_29 : decode cX10_paste 29 = .ok (.ireturn, 1) := dk_172 (dk_at dksX10_paste_1 7 rfl rfl)
theorem dX10_paste_30 : decode cX10_paste 30 = .ok (.aload_n 0, 1) := dk_42 (dk_at dksX10_paste_1 8 rfl rfl)
theorem dX10_paste_31 : decode cX10_paste 31 = .ok (.iload_n 1, 1) := dk_27 (dk_at dksX10_paste_1 9 rfl rfl)
theorem dX10_paste_32 : decode cX10_paste 32 = .ok (.iload_n 2, 1) := dk_28 (dk_at dksX10_paste_1 10 rfl rfl)
theorem dX10_paste_33 : decode cX10_paste 33 = .ok (.iload_n 3, 1) := dk_29 (dk_at dksX10_paste_1 11 rfl rfl)
theorem dX10_paste_34 : decode cX10_paste 34 = .ok (.invokevirtual 292, 3) := dk_182 1 36 (dk_at dksX10_paste_1 12 rfl rfl)
theorem dX10_paste_37 : decode cX10_paste 37 = .ok (.istore 4, 2) := dk_54 4 (dk_at dksX10_paste_1 15 rfl rfl)
theorem dX10_paste_39 : decode cX10_paste 39 = .ok (.iload 4, 2) := dk_21 4 (dk_at dksX10_paste_1 17 rfl rfl)
theorem dX10_paste_41 : decode cX10_paste 41 = .ok (.ifCond .eq 6, 3) := dk_153 0 6 (dk_at dksX10_paste_1 19 rfl rfl)
theorem dX10_paste_44 : decode cX10_paste 44 = .ok (.iload 4, 2) := dk_21 4 (dk_at dksX10_paste_1 22 rfl rfl)
theorem dX10_paste_46 : decode cX10_paste 46 = .ok (.ireturn, 1) := dk_172 (dk_at dksX10_paste_2 0 rfl rfl)
theorem dX10_paste_47 : decode cX10_paste 47 = .ok (.aload_n 0, 1) := dk_42 (dk_at dksX10_paste_2 1 rfl rfl)
theorem dX10_paste_48 : decode cX10_paste 48 = .ok (.invokevirtual 308, 3) := dk_182 1 52 (dk_at dksX10_paste_2 2 rfl rfl)
theorem dX10_paste_51 : decode cX10_paste 51 = .ok (.iconst 0, 1) := dk_3 (dk_at dksX10_paste_2 5 rfl rfl)
theorem dX10_paste_52 : decode cX10_paste 52 = .ok (.istore 5, 2) := dk_54 5 (dk_at dksX10_paste_2 6 rfl rfl)
theorem dX10_paste_54 : decode cX10_paste 54 = .ok (.iload 5, 2) := dk_21 5 (dk_at dksX10_paste_2 8 rfl rfl)
theorem dX10_paste_56 : decode cX10_paste 56 = .ok (.iload_n 3, 1) := dk_29 (dk_at dksX10_paste_2 10 rfl rfl)
theorem dX10_paste_57 : decode cX10_paste 57 = .ok (.if_icmp .ge 25, 3) := dk_162 0 25 (dk_at dksX10_paste_2 11 rfl rfl)
theorem dX10_paste_60 : decode cX10_paste 60 = .ok (.aload_n 0, 1) := dk_42 (dk_at dksX10_paste_2 14 rfl rfl)
theorem dX10_paste_61 : decode cX10_paste 61 = .ok (.iload_n 1, 1) := dk_27 (dk_at dksX10_paste_2 15 rfl rfl)
theorem dX10_paste_62 : decode cX10_paste 62 = .ok (.iload_n 2, 1) := dk_28 (dk_at dksX10_paste_2 16 rfl rfl)
theorem dX10_paste_63 : decode cX10_paste 63 = .ok (.iload 5, 2) := dk_21 5 (dk_at dksX10_paste_2 17 rfl rfl)
theorem dX10_paste_65 : decode cX10_paste 65 = .ok (.iadd, 1) := dk_96 (dk_at dksX10_paste_2 19 rfl rfl)
theorem dX10_paste_66 : decode cX10_paste 66 = .ok (.aload_n 0, 1) := dk_42 (dk_at dksX10_paste_2 20 rfl rfl)
theorem dX10_paste_67 : decode cX10_paste 67 = .ok (.getfield 7, 3) := dk_180 0 7 (dk_at dksX10_paste_2 21 rfl rfl)
theorem dX10_paste_70 : decode cX10_paste 70 = .ok (.iload 5, 2) := dk_21 5 (dk_at dksX10_paste_3 0 rfl rfl)
theorem dX10_paste_72 : decode cX10_paste 72 = .ok (.iaload, 1) := dk_46 (dk_at dksX10_paste_3 2 rfl rfl)
theorem dX10_paste_73 : decode cX10_paste 73 = .ok (.invokevirtual 142, 3) := dk_182 0 142 (dk_at dksX10_paste_3 3 rfl rfl)
theorem dX10_paste_76 : decode cX10_paste 76 = .ok (.iinc 5 1, 3) := dk_132 5 1 (dk_at dksX10_paste_3 6 rfl rfl)
theorem dX10_paste_79 : decode cX10_paste 79 = .ok (.goto (-25), 3) := dk_167 255 231 (dk_at dksX10_paste_3 9 rfl rfl)
theorem dX10_paste_82 : decode cX10_paste 82 = .ok (.iconst 0, 1) := dk_3 (dk_at dksX10_paste_3 12 rfl rfl)
theorem dX10_paste_83 : decode cX10_paste 83 = .ok (.ireturn, 1) := dk_172 (dk_at dksX10_paste_3 13 rfl rfl)
abbrev cX10_join : ByteArray := prog_23_method_98_code
def yX10_join : MethodName := ⟨RX10, "join", "(II)I"⟩
def dkwX10_join_0 : List UInt8 := [42, 3, 181, 0, 1, 42, 7, 27, 3, 28, 42, 27, 28, 182, 1, 63, 182, 1, 59, 172]
abbrev dktX10_join_0 : List UInt8 := dkwX10_join_0 ++ []
theorem dksX10_join_0 : cX10_join.data.toList.drop 0 = dktX10_join_0 := by decide +kernel
theorem dX10_join_0 : decode cX10_join 0 = .ok (.aload_n 0, 1) := dk_42 (dk_at dksX10_join_0 0 rfl rfl)
theorem dX10_join_1 : decode cX10_join 1 = .ok (.iconst 0, 1) := dk_3 (dk_at dksX10_join_0 1 rfl rfl)
theorem dX10_join_2 : decode cX10_join 2 = .ok (.putfield 1, 3) := dk_181 0 1 (dk_at dksX10_join_0 2 rfl rfl)
theorem dX10_join_5 : decode cX10_join 5 = .ok (.aload_n 0, 1) := dk_42 (dk_at dksX10_join_0 5 rfl rfl)
theorem dX10_join_6 : decode cX10_join 6 = .ok (.iconst 4, 1) := dk_7 (dk_at dksX10_join_0 6 rfl rfl)
theorem dX10_join_7 : decode cX10_join 7 = .ok (.iload_n 1, 1) := dk_27 (dk_at dksX10_join_0 7 rfl rfl)
theorem dX10_join_8 : decode cX10_join 8 = .ok (.iconst 0, 1) := dk_3 (dk_at dksX10_join_0 8 rfl rfl)
theorem dX10_join_9 : decode cX10_join 9 = .ok (.iload_n 2, 1) := dk_28 (dk_at dksX10_join_0 9 rfl rfl)
theorem dX10_join_10 : decode cX10_join 10 = .ok (.aload_n 0, 1) := dk_42 (dk_at dksX10_join_0 10 rfl rfl)
theorem dX10_join_11 : decode cX10_join 11 = .ok (.iload_n 1, 1) := dk_27 (dk_at dksX10_join_0 11 rfl rfl)
theorem dX10_join_12 : decode cX10_join 12 = .ok (.iload_n 2, 1) := dk_28 (dk_at dksX10_join_0 12 rfl rfl)
theorem dX10_join_13 : decode cX10_join 13 = .ok (.invokevirtual 319, 3) := dk_182 1 63 (dk_at dksX10_join_0 13 rfl rfl)
theorem dX10_join_16 : decode cX10_join 16 = .ok (.invokevirtual 315, 3) := dk_182 1 59 (dk_at dksX10_join_0 16 rfl rfl)
theorem dX10_join_19 : decode cX10_join 19 = .ok (.ireturn, 1) := dk_172 (dk_at dksX10_join_0 19 rfl rfl)
abbrev cX10_areTwo : ByteArray := prog_23_method_97_code
def yX10_areTwo : MethodName := ⟨RX10, "areTwo", "(II)Z"⟩
def dkwX10_areTwo_1 : List UInt8 := [167, 0, 4, 3, 172]
abbrev dktX10_areTwo_1 : List UInt8 := dkwX10_areTwo_1 ++ []
def dkwX10_areTwo_0 : List UInt8 := [42, 27, 182, 0, 215, 153, 0, 20, 42, 28, 182, 0, 215, 153, 0, 12, 27, 28, 159, 0, 7, 4]
abbrev dktX10_areTwo_0 : List UInt8 := dkwX10_areTwo_0 ++ dktX10_areTwo_1
theorem dksX10_areTwo_0 : cX10_areTwo.data.toList.drop 0 = dktX10_areTwo_0 := by decide +kernel
theorem dksX10_areTwo_1 : cX10_areTwo.data.toList.drop 22 = dktX10_areTwo_1 := dk_seg dksX10_areTwo_0 22 rfl rfl
theorem dX10_areTwo_0 : decode cX10_areTwo 0 = .ok (.aload_n 0, 1) := dk_42 (dk_at dksX10_areTwo_0 0 rfl rfl)
theorem dX10_areTwo_1 : decode cX10_areTwo 1 = .ok (.iload_n 1, 1) := dk_27 (dk_at dksX10_areTwo_0 1 rfl rfl)
theorem dX10_areTwo_2 : decode cX10_areTwo 2 = .ok (.invokevirtual 215, 3) := dk_182 0 215 (dk_at dksX10_areTwo_0 2 rfl rfl)
theorem dX10_areTwo_5 : decode cX10_areTwo 5 = .ok (.ifCond .eq 20, 3) := dk_153 0 20 (dk_at dksX10_areTwo_0 5 rfl rfl)
theorem dX10_areTwo_8 : decode cX10_areTwo 8 = .ok (.aload_n 0, 1) := dk_42 (dk_at dksX10_areTwo_0 8 rfl rfl)
theorem dX10_areTwo_9 : decode cX10_areTwo 9 = .ok (.iload_n 2, 1) := dk_28 (dk_at dksX10_areTwo_0 9 rfl rfl)
theorem dX10_areTwo_10 : decode cX10_areTwo 10 = .ok (.invokevirtual 215, 3) := dk_182 0 215 (dk_at dksX10_areTwo_0 10 rfl rfl)
theorem dX10_areTwo_13 : decode cX10_areTwo 13 = .ok (.ifCond .eq 12, 3) := dk_153 0 12 (dk_at dksX10_areTwo_0 13 rfl rfl)
theorem dX10_areTwo_16 : decode cX10_areTwo 16 = .ok (.iload_n 1, 1) := dk_27 (dk_at dksX10_areTwo_0 16 rfl rfl)
theorem dX10_areTwo_17 : decode cX10_areTwo 17 = .ok (.iload_n 2, 1) := dk_28 (dk_at dksX10_areTwo_0 17 rfl rfl)
theorem dX10_areTwo_18 : decode cX10_areTwo 18 = .ok (.if_icmp .eq 7, 3) := dk_159 0 7 (dk_at dksX10_areTwo_0 18 rfl rfl)
theorem dX10_areTwo_21 : decode cX10_areTwo 21 = .ok (.iconst 1, 1) := dk_4 (dk_at dksX10_areTwo_0 21 rfl rfl)
theorem dX10_areTwo_22 : decode cX10_areTwo 22 = .ok (.goto 4, 3) := dk_167 0 4 (dk_at dksX10_areTwo_1 0 rfl rfl)
theorem dX10_areTwo_25 : decode cX10_areTwo 25 = .ok (.iconst 0, 1) := dk_3 (dk_at dksX10_areTwo_1 3 rfl rfl)
theorem dX10_areTwo_26 : decode cX10_areTwo 26 = .ok (.ireturn, 1) := dk_172 (dk_at dksX10_areTwo_1 4 rfl rfl)
abbrev cX10_split : ByteArray := prog_23_method_99_code
def yX10_split : MethodName := ⟨RX10, "split", "(III)I"⟩
def dkwX10_split_0 : List UInt8 := [42, 3, 181, 0, 1, 42, 8, 27, 28, 29, 42, 27, 29, 182, 1, 63, 182, 1, 59, 172]
abbrev dktX10_split_0 : List UInt8 := dkwX10_split_0 ++ []
theorem dksX10_split_0 : cX10_split.data.toList.drop 0 = dktX10_split_0 := by decide +kernel
theorem dX10_split_0 : decode cX10_split 0 = .ok (.aload_n 0, 1) := dk_42 (dk_at dksX10_split_0 0 rfl rfl)
theorem dX10_split_1 : decode cX10_split 1 = .ok (.iconst 0, 1) := dk_3 (dk_at dksX10_split_0 1 rfl rfl)
theorem dX10_split_2 : decode cX10_split 2 = .ok (.putfield 1, 3) := dk_181 0 1 (dk_at dksX10_split_0 2 rfl rfl)
theorem dX10_split_5 : decode cX10_split 5 = .ok (.aload_n 0, 1) := dk_42 (dk_at dksX10_split_0 5 rfl rfl)
theorem dX10_split_6 : decode cX10_split 6 = .ok (.iconst 5, 1) := dk_8 (dk_at dksX10_split_0 6 rfl rfl)
theorem dX10_split_7 : decode cX10_split 7 = .ok (.iload_n 1, 1) := dk_27 (dk_at dksX10_split_0 7 rfl rfl)
theorem dX10_split_8 : decode cX10_split 8 = .ok (.iload_n 2, 1) := dk_28 (dk_at dksX10_split_0 8 rfl rfl)
theorem dX10_split_9 : decode cX10_split 9 = .ok (.iload_n 3, 1) := dk_29 (dk_at dksX10_split_0 9 rfl rfl)
theorem dX10_split_10 : decode cX10_split 10 = .ok (.aload_n 0, 1) := dk_42 (dk_at dksX10_split_0 10 rfl rfl)
theorem dX10_split_11 : decode cX10_split 11 = .ok (.iload_n 1, 1) := dk_27 (dk_at dksX10_split_0 11 rfl rfl)
theorem dX10_split_12 : decode cX10_split 12 = .ok (.iload_n 3, 1) := dk_29 (dk_at dksX10_split_0 12 rfl rfl)
theorem dX10_split_13 : decode cX10_split 13 = .ok (.invokevirtual 319, 3) := dk_182 1 63 (dk_at dksX10_split_0 13 rfl rfl)
theorem dX10_split_16 : decode cX10_split 16 = .ok (.invokevirtual 315, 3) := dk_182 1 59 (dk_at dksX10_split_0 16 rfl rfl)
theorem dX10_split_19 : decode cX10_split 19 = .ok (.ireturn, 1) := dk_172 (dk_at dksX10_split_0 19 rfl rfl)
abbrev cX10_type : ByteArray := prog_23_method_100_code
def yX10_type : MethodName := ⟨RX10, "type", "(II)I"⟩
def dkwX10_type_0 : List UInt8 := [42, 3, 181, 0, 1, 42, 16, 6, 3, 27, 28, 28, 3, 16, 7, 184, 0, 75, 182, 1, 59, 172]
abbrev dktX10_type_0 : List UInt8 := dkwX10_type_0 ++ []
theorem dksX10_type_0 : cX10_type.data.toList.drop 0 = dktX10_type_0 := by decide +kernel
theorem dX10_type_0 : decode cX10_type 0 = .ok (.aload_n 0, 1) := dk_42 (dk_at dksX10_type_0 0 rfl rfl)
theorem dX10_type_1 : decode cX10_type 1 = .ok (.iconst 0, 1) := dk_3 (dk_at dksX10_type_0 1 rfl rfl)
theorem dX10_type_2 : decode cX10_type 2 = .ok (.putfield 1, 3) := dk_181 0 1 (dk_at dksX10_type_0 2 rfl rfl)
theorem dX10_type_5 : decode cX10_type 5 = .ok (.aload_n 0, 1) := dk_42 (dk_at dksX10_type_0 5 rfl rfl)
theorem dX10_type_6 : decode cX10_type 6 = .ok (.bipush 6, 2) := dk_16 6 (dk_at dksX10_type_0 6 rfl rfl)
theorem dX10_type_8 : decode cX10_type 8 = .ok (.iconst 0, 1) := dk_3 (dk_at dksX10_type_0 8 rfl rfl)
theorem dX10_type_9 : decode cX10_type 9 = .ok (.iload_n 1, 1) := dk_27 (dk_at dksX10_type_0 9 rfl rfl)
theorem dX10_type_10 : decode cX10_type 10 = .ok (.iload_n 2, 1) := dk_28 (dk_at dksX10_type_0 10 rfl rfl)
theorem dX10_type_11 : decode cX10_type 11 = .ok (.iload_n 2, 1) := dk_28 (dk_at dksX10_type_0 11 rfl rfl)
theorem dX10_type_12 : decode cX10_type 12 = .ok (.iconst 0, 1) := dk_3 (dk_at dksX10_type_0 12 rfl rfl)
theorem dX10_type_13 : decode cX10_type 13 = .ok (.bipush 7, 2) := dk_16 7 (dk_at dksX10_type_0 13 rfl rfl)
theorem dX10_type_15 : decode cX10_type 15 = .ok (.invokestatic 75, 3) := dk_184 0 75 (dk_at dksX10_type_0 15 rfl rfl)
theorem dX10_type_18 : decode cX10_type 18 = .ok (.invokevirtual 315, 3) := dk_182 1 59 (dk_at dksX10_type_0 18 rfl rfl)
theorem dX10_type_21 : decode cX10_type 21 = .ok (.ireturn, 1) := dk_172 (dk_at dksX10_type_0 21 rfl rfl)
abbrev cX10_erase : ByteArray := prog_23_method_101_code
def yX10_erase : MethodName := ⟨RX10, "erase", "(II)I"⟩
def dkwX10_erase_0 : List UInt8 := [42, 3, 181, 0, 1, 42, 16, 7, 3, 27, 28, 28, 4, 17, 0, 200, 184, 0, 75, 182, 1, 59, 172]
abbrev dktX10_erase_0 : List UInt8 := dkwX10_erase_0 ++ []
theorem dksX10_erase_0 : cX10_erase.data.toList.drop 0 = dktX10_erase_0 := by decide +kernel
theorem dX10_erase_0 : decode cX10_erase 0 = .ok (.aload_n 0, 1) := dk_42 (dk_at dksX10_erase_0 0 rfl rfl)
theorem dX10_erase_1 : decode cX10_erase 1 = .ok (.iconst 0, 1) := dk_3 (dk_at dksX10_erase_0 1 rfl rfl)
theorem dX10_erase_2 : decode cX10_erase 2 = .ok (.putfield 1, 3) := dk_181 0 1 (dk_at dksX10_erase_0 2 rfl rfl)
theorem dX10_erase_5 : decode cX10_erase 5 = .ok (.aload_n 0, 1) := dk_42 (dk_at dksX10_erase_0 5 rfl rfl)
theorem dX10_erase_6 : decode cX10_erase 6 = .ok (.bipush 7, 2) := dk_16 7 (dk_at dksX10_erase_0 6 rfl rfl)
theorem dX10_erase_8 : decode cX10_erase 8 = .ok (.iconst 0, 1) := dk_3 (dk_at dksX10_erase_0 8 rfl rfl)
theorem dX10_erase_9 : decode cX10_erase 9 = .ok (.iload_n 1, 1) := dk_27 (dk_at dksX10_erase_0 9 rfl rfl)
theorem dX10_erase_10 : decode cX10_erase 10 = .ok (.iload_n 2, 1) := dk_28 (dk_at dksX10_erase_0 10 rfl rfl)
theorem dX10_erase_11 : decode cX10_erase 11 = .ok (.iload_n 2, 1) := dk_28 (dk_at dksX10_erase_0 11 rfl rfl)
theorem dX10_erase_12 : decode cX10_erase 12 = .ok (.iconst 1, 1) := dk_4 (dk_at dksX10_erase_0 12 rfl rfl)
theorem dX10_erase_13 : decode cX10_erase 13 = .ok (.sipush 200, 3) := dk_17 0 200 (dk_at dksX10_erase_0 13 rfl rfl)
theorem dX10_erase_16 : decode cX10_erase 16 = .ok (.invokestatic 75, 3) := dk_184 0 75 (dk_at dksX10_erase_0 16 rfl rfl)
theorem dX10_erase_19 : decode cX10_erase 19 = .ok (.invokevirtual 315, 3) := dk_182 1 59 (dk_at dksX10_erase_0 19 rfl rfl)
theorem dX10_erase_22 : decode cX10_erase 22 = .ok (.ireturn, 1) := dk_172 (dk_at dksX10_erase_0 22 rfl rfl)
abbrev cX10_undo : ByteArray := prog_23_method_102_code
def yX10_undo : MethodName := ⟨RX10, "undo", "()I"⟩
def dkwX10_undo_1 : List UInt8 := [42, 42, 180, 0, 107, 17, 12, 141, 42, 180, 0, 192, 104, 182, 1, 66, 42, 180, 0, 192, 172]
abbrev dktX10_undo_1 : List UInt8 := dkwX10_undo_1 ++ []
def dkwX10_undo_0 : List UInt8 := [42, 3, 181, 0, 1, 42, 180, 0, 192, 154, 0, 5, 2, 172, 42, 89, 180, 0, 192, 4, 100, 181, 0, 192]
abbrev dktX10_undo_0 : List UInt8 := dkwX10_undo_0 ++ dktX10_undo_1
theorem dksX10_undo_0 : cX10_undo.data.toList.drop 0 = dktX10_undo_0 := by decide +kernel
theorem dksX10_undo_1 : cX10_undo.data.toList.drop 24 = dktX10_undo_1 := dk_seg dksX10_undo_0 24 rfl rfl
theorem dX10_undo_0 : decode cX10_undo 0 = .ok (.aload_n 0, 1) := dk_42 (dk_at dksX10_undo_0 0 rfl rfl)
theorem dX10_undo_1 : decode cX10_undo 1 = .ok (.iconst 0, 1) := dk_3 (dk_at dksX10_undo_0 1 rfl rfl)
theorem dX10_undo_2 : decode cX10_undo 2 = .ok (.putfield 1, 3) := dk_181 0 1 (dk_at dksX10_undo_0 2 rfl rfl)
theorem dX10_undo_5 : decode cX10_undo 5 = .ok (.aload_n 0, 1) := dk_42 (dk_at dksX10_undo_0 5 rfl rfl)
theorem dX10_undo_6 : decode cX10_undo 6 = .ok (.getfield 192, 3) := dk_180 0 192 (dk_at dksX10_undo_0 6 rfl rfl)
theorem dX10_undo_9 : decode cX10_undo 9 = .ok (.ifCond .ne 5, 3) := dk_154 0 5 (dk_at dksX10_undo_0 9 rfl rfl)
theorem dX10_undo_12 : decode cX10_undo 12 = .ok (.iconst (-1), 1) := dk_2 (dk_at dksX10_undo_0 12 rfl rfl)
theorem dX10_undo_13 : decode cX10_undo 13 = .ok (.ireturn, 1) := dk_172 (dk_at dksX10_undo_0 13 rfl rfl)
theorem dX10_undo_14 : decode cX10_undo 14 = .ok (.aload_n 0, 1) := dk_42 (dk_at dksX10_undo_0 14 rfl rfl)
theorem dX10_undo_15 : decode cX10_undo 15 = .ok (.dup, 1) := dk_89 (dk_at dksX10_undo_0 15 rfl rfl)
theorem dX10_undo_16 : decode cX10_undo 16 = .ok (.getfield 192, 3) := dk_180 0 192 (dk_at dksX10_undo_0 16 rfl rfl)
theorem dX10_undo_19 : decode cX10_undo 19 = .ok (.iconst 1, 1) := dk_4 (dk_at dksX10_undo_0 19 rfl rfl)
theorem dX10_undo_20 : decode cX10_undo 20 = .ok (.isub, 1) := dk_100 (dk_at dksX10_undo_0 20 rfl rfl)
theorem dX10_undo_21 : decode cX10_undo 21 = .ok (.putfield 192, 3) := dk_181 0 192 (dk_at dksX10_undo_0 21 rfl rfl)
theorem dX10_undo_24 : decode cX10_undo 24 = .ok (.aload_n 0, 1) := dk_42 (dk_at dksX10_undo_1 0 rfl rfl)
theorem dX10_undo_25 : decode cX10_undo 25 = .ok (.aload_n 0, 1) := dk_42 (dk_at dksX10_undo_1 1 rfl rfl)
theorem dX10_undo_26 : decode cX10_undo 26 = .ok (.getfield 107, 3) := dk_180 0 107 (dk_at dksX10_undo_1 2 rfl rfl)
theorem dX10_undo_29 : decode cX10_undo 29 = .ok (.sipush 3213, 3) := dk_17 12 141 (dk_at dksX10_undo_1 5 rfl rfl)
theorem dX10_undo_32 : decode cX10_undo 32 = .ok (.aload_n 0, 1) := dk_42 (dk_at dksX10_undo_1 8 rfl rfl)
theorem dX10_undo_33 : decode cX10_undo 33 = .ok (.getfield 192, 3) := dk_180 0 192 (dk_at dksX10_undo_1 9 rfl rfl)
theorem dX10_undo_36 : decode cX10_undo 36 = .ok (.imul, 1) := dk_104 (dk_at dksX10_undo_1 12 rfl rfl)
theorem dX10_undo_37 : decode cX10_undo 37 = .ok (.invokevirtual 322, 3) := dk_182 1 66 (dk_at dksX10_undo_1 13 rfl rfl)
theorem dX10_undo_40 : decode cX10_undo 40 = .ok (.aload_n 0, 1) := dk_42 (dk_at dksX10_undo_1 16 rfl rfl)
theorem dX10_undo_41 : decode cX10_undo 41 = .ok (.getfield 192, 3) := dk_180 0 192 (dk_at dksX10_undo_1 17 rfl rfl)
theorem dX10_undo_44 : decode cX10_undo 44 = .ok (.ireturn, 1) := dk_172 (dk_at dksX10_undo_1 20 rfl rfl)
abbrev cX10_comeBack : ByteArray := prog_23_method_84_code
def yX10_comeBack : MethodName := ⟨RX10, "comeBack", "([II)V"⟩
def dkwX10_comeBack_1 : List UInt8 := [132, 3, 1, 167, 255, 231, 177]
abbrev dktX10_comeBack_1 : List UInt8 := dkwX10_comeBack_1 ++ []
def dkwX10_comeBack_0 : List UInt8 := [3, 62, 29, 17, 12, 141, 162, 0, 24, 42, 180, 0, 98, 17, 10, 47, 29, 96, 43, 28, 29, 96, 46, 79]
abbrev dktX10_comeBack_0 : List UInt8 := dkwX10_comeBack_0 ++ dktX10_comeBack_1
theorem dksX10_comeBack_0 : cX10_comeBack.data.toList.drop 0 = dktX10_comeBack_0 := by decide +kernel
theorem dksX10_comeBack_1 : cX10_comeBack.data.toList.drop 24 = dktX10_comeBack_1 := dk_seg dksX10_comeBack_0 24 rfl rfl
theorem dX10_comeBack_0 : decode cX10_comeBack 0 = .ok (.iconst 0, 1) := dk_3 (dk_at dksX10_comeBack_0 0 rfl rfl)
theorem dX10_comeBack_1 : decode cX10_comeBack 1 = .ok (.istore_n 3, 1) := dk_62 (dk_at dksX10_comeBack_0 1 rfl rfl)
theorem dX10_comeBack_2 : decode cX10_comeBack 2 = .ok (.iload_n 3, 1) := dk_29 (dk_at dksX10_comeBack_0 2 rfl rfl)
theorem dX10_comeBack_3 : decode cX10_comeBack 3 = .ok (.sipush 3213, 3) := dk_17 12 141 (dk_at dksX10_comeBack_0 3 rfl rfl)
theorem dX10_comeBack_6 : decode cX10_comeBack 6 = .ok (.if_icmp .ge 24, 3) := dk_162 0 24 (dk_at dksX10_comeBack_0 6 rfl rfl)
theorem dX10_comeBack_9 : decode cX10_comeBack 9 = .ok (.aload_n 0, 1) := dk_42 (dk_at dksX10_comeBack_0 9 rfl rfl)
theorem dX10_comeBack_10 : decode cX10_comeBack 10 = .ok (.getfield 98, 3) := dk_180 0 98 (dk_at dksX10_comeBack_0 10 rfl rfl)
theorem dX10_comeBack_13 : decode cX10_comeBack 13 = .ok (.sipush 2607, 3) := dk_17 10 47 (dk_at dksX10_comeBack_0 13 rfl rfl)
theorem dX10_comeBack_16 : decode cX10_comeBack 16 = .ok (.iload_n 3, 1) := dk_29 (dk_at dksX10_comeBack_0 16 rfl rfl)
theorem dX10_comeBack_17 : decode cX10_comeBack 17 = .ok (.iadd, 1) := dk_96 (dk_at dksX10_comeBack_0 17 rfl rfl)
theorem dX10_comeBack_18 : decode cX10_comeBack 18 = .ok (.aload_n 1, 1) := dk_43 (dk_at dksX10_comeBack_0 18 rfl rfl)
theorem dX10_comeBack_19 : decode cX10_comeBack 19 = .ok (.iload_n 2, 1) := dk_28 (dk_at dksX10_comeBack_0 19 rfl rfl)
theorem dX10_comeBack_20 : decode cX10_comeBack 20 = .ok (.iload_n 3, 1) := dk_29 (dk_at dksX10_comeBack_0 20 rfl rfl)
theorem dX10_comeBack_21 : decode cX10_comeBack 21 = .ok (.iadd, 1) := dk_96 (dk_at dksX10_comeBack_0 21 rfl rfl)
theorem dX10_comeBack_22 : decode cX10_comeBack 22 = .ok (.iaload, 1) := dk_46 (dk_at dksX10_comeBack_0 22 rfl rfl)
theorem dX10_comeBack_23 : decode cX10_comeBack 23 = .ok (.iastore, 1) := dk_79 (dk_at dksX10_comeBack_0 23 rfl rfl)
theorem dX10_comeBack_24 : decode cX10_comeBack 24 = .ok (.iinc 3 1, 3) := dk_132 3 1 (dk_at dksX10_comeBack_1 0 rfl rfl)
theorem dX10_comeBack_27 : decode cX10_comeBack 27 = .ok (.goto (-25), 3) := dk_167 255 231 (dk_at dksX10_comeBack_1 3 rfl rfl)
theorem dX10_comeBack_30 : decode cX10_comeBack 30 = .ok (.return_, 1) := dk_177 (dk_at dksX10_comeBack_1 6 rfl rfl)
abbrev cX10_drawn : ByteArray := prog_23_method_106_code
def yX10_drawn : MethodName := ⟨RX10, "drawn", "(II)I"⟩
def dkwX10_drawn_3 : List UInt8 := [158, 0, 7, 4, 167, 0, 4, 3, 182, 1, 83, 29, 172]
abbrev dktX10_drawn_3 : List UInt8 := dkwX10_drawn_3 ++ []
def dkwX10_drawn_2 : List UInt8 := [21, 4, 27, 162, 0, 19, 42, 182, 1, 80, 153, 0, 6, 132, 3, 1, 132, 4, 1, 167, 255, 237, 42, 29]
abbrev dktX10_drawn_2 : List UInt8 := dkwX10_drawn_2 ++ dktX10_drawn_3
def dkwX10_drawn_1 : List UInt8 := [154, 0, 5, 3, 172, 42, 42, 180, 0, 113, 3, 182, 1, 32, 42, 28, 181, 1, 69, 3, 62, 3, 54, 4]
abbrev dktX10_drawn_1 : List UInt8 := dkwX10_drawn_1 ++ dktX10_drawn_2
def dkwX10_drawn_0 : List UInt8 := [42, 3, 181, 0, 1, 27, 4, 16, 60, 184, 0, 75, 154, 0, 5, 2, 172, 42, 180, 0, 98, 3, 46]
abbrev dktX10_drawn_0 : List UInt8 := dkwX10_drawn_0 ++ dktX10_drawn_1
theorem dksX10_drawn_0 : cX10_drawn.data.toList.drop 0 = dktX10_drawn_0 := by decide +kernel
theorem dksX10_drawn_1 : cX10_drawn.data.toList.drop 23 = dktX10_drawn_1 := dk_seg dksX10_drawn_0 23 rfl rfl
theorem dksX10_drawn_2 : cX10_drawn.data.toList.drop 47 = dktX10_drawn_2 := dk_seg dksX10_drawn_1 24 rfl rfl
theorem dksX10_drawn_3 : cX10_drawn.data.toList.drop 71 = dktX10_drawn_3 := dk_seg dksX10_drawn_2 24 rfl rfl
theorem dX10_drawn_0 : decode cX10_drawn 0 = .ok (.aload_n 0, 1) := dk_42 (dk_at dksX10_drawn_0 0 rfl rfl)
theorem dX10_drawn_1 : decode cX10_drawn 1 = .ok (.iconst 0, 1) := dk_3 (dk_at dksX10_drawn_0 1 rfl rfl)
theorem dX10_drawn_2 : decode cX10_drawn 2 = .ok (.putfield 1, 3) := dk_181 0 1 (dk_at dksX10_drawn_0 2 rfl rfl)
theorem dX10_drawn_5 : decode cX10_drawn 5 = .ok (.iload_n 1, 1) := dk_27 (dk_at dksX10_drawn_0 5 rfl rfl)
theorem dX10_drawn_6 : decode cX10_drawn 6 = .ok (.iconst 1, 1) := dk_4 (dk_at dksX10_drawn_0 6 rfl rfl)
theorem dX10_drawn_7 : decode cX10_drawn 7 = .ok (.bipush 60, 2) := dk_16 60 (dk_at dksX10_drawn_0 7 rfl rfl)
theorem dX10_drawn_9 : decode cX10_drawn 9 = .ok (.invokestatic 75, 3) := dk_184 0 75 (dk_at dksX10_drawn_0 9 rfl rfl)
theorem dX10_drawn_12 : decode cX10_drawn 12 = .ok (.ifCond .ne 5, 3) := dk_154 0 5 (dk_at dksX10_drawn_0 12 rfl rfl)
theorem dX10_drawn_15 : decode cX10_drawn 15 = .ok (.iconst (-1), 1) := dk_2 (dk_at dksX10_drawn_0 15 rfl rfl)
theorem dX10_drawn_16 : decode cX10_drawn 16 = .ok (.ireturn, 1) := dk_172 (dk_at dksX10_drawn_0 16 rfl rfl)
theorem dX10_drawn_17 : decode cX10_drawn 17 = .ok (.aload_n 0, 1) := dk_42 (dk_at dksX10_drawn_0 17 rfl rfl)
theorem dX10_drawn_18 : decode cX10_drawn 18 = .ok (.getfield 98, 3) := dk_180 0 98 (dk_at dksX10_drawn_0 18 rfl rfl)
theorem dX10_drawn_21 : decode cX10_drawn 21 = .ok (.iconst 0, 1) := dk_3 (dk_at dksX10_drawn_0 21 rfl rfl)
theorem dX10_drawn_22 : decode cX10_drawn 22 = .ok (.iaload, 1) := dk_46 (dk_at dksX10_drawn_0 22 rfl rfl)
theorem dX10_drawn_23 : decode cX10_drawn 23 = .ok (.ifCond .ne 5, 3) := dk_154 0 5 (dk_at dksX10_drawn_1 0 rfl rfl)
theorem dX10_drawn_26 : decode cX10_drawn 26 = .ok (.iconst 0, 1) := dk_3 (dk_at dksX10_drawn_1 3 rfl rfl)
theorem dX10_drawn_27 : decode cX10_drawn 27 = .ok (.ireturn, 1) := dk_172 (dk_at dksX10_drawn_1 4 rfl rfl)
theorem dX10_drawn_28 : decode cX10_drawn 28 = .ok (.aload_n 0, 1) := dk_42 (dk_at dksX10_drawn_1 5 rfl rfl)
theorem dX10_drawn_29 : decode cX10_drawn 29 = .ok (.aload_n 0, 1) := dk_42 (dk_at dksX10_drawn_1 6 rfl rfl)
theorem dX10_drawn_30 : decode cX10_drawn 30 = .ok (.getfield 113, 3) := dk_180 0 113 (dk_at dksX10_drawn_1 7 rfl rfl)
theorem dX10_drawn_33 : decode cX10_drawn 33 = .ok (.iconst 0, 1) := dk_3 (dk_at dksX10_drawn_1 10 rfl rfl)
theorem dX10_drawn_34 : decode cX10_drawn 34 = .ok (.invokevirtual 288, 3) := dk_182 1 32 (dk_at dksX10_drawn_1 11 rfl rfl)
theorem dX10_drawn_37 : decode cX10_drawn 37 = .ok (.aload_n 0, 1) := dk_42 (dk_at dksX10_drawn_1 14 rfl rfl)
theorem dX10_drawn_38 : decode cX10_drawn 38 = .ok (.iload_n 2, 1) := dk_28 (dk_at dksX10_drawn_1 15 rfl rfl)
theorem dX10_drawn_39 : decode cX10_drawn 39 = .ok (.putfield 325, 3) := dk_181 1 69 (dk_at dksX10_drawn_1 16 rfl rfl)
theorem dX10_drawn_42 : decode cX10_drawn 42 = .ok (.iconst 0, 1) := dk_3 (dk_at dksX10_drawn_1 19 rfl rfl)
theorem dX10_drawn_43 : decode cX10_drawn 43 = .ok (.istore_n 3, 1) := dk_62 (dk_at dksX10_drawn_1 20 rfl rfl)
theorem dX10_drawn_44 : decode cX10_drawn 44 = .ok (.iconst 0, 1) := dk_3 (dk_at dksX10_drawn_1 21 rfl rfl)
theorem dX10_drawn_45 : decode cX10_drawn 45 = .ok (.istore 4, 2) := dk_54 4 (dk_at dksX10_drawn_1 22 rfl rfl)
theorem dX10_drawn_47 : decode cX10_drawn 47 = .ok (.iload 4, 2) := dk_21 4 (dk_at dksX10_drawn_2 0 rfl rfl)
theorem dX10_drawn_49 : decode cX10_drawn 49 = .ok (.iload_n 1, 1) := dk_27 (dk_at dksX10_drawn_2 2 rfl rfl)
theorem dX10_drawn_50 : decode cX10_drawn 50 = .ok (.if_icmp .ge 19, 3) := dk_162 0 19 (dk_at dksX10_drawn_2 3 rfl rfl)
theorem dX10_drawn_53 : decode cX10_drawn 53 = .ok (.aload_n 0, 1) := dk_42 (dk_at dksX10_drawn_2 6 rfl rfl)
theorem dX10_drawn_54 : decode cX10_drawn 54 = .ok (.invokevirtual 336, 3) := dk_182 1 80 (dk_at dksX10_drawn_2 7 rfl rfl)
theorem dX10_drawn_57 : decode cX10_drawn 57 = .ok (.ifCond .eq 6, 3) := dk_153 0 6 (dk_at dksX10_drawn_2 10 rfl rfl)
theorem dX10_drawn_60 : decode cX10_drawn 60 = .ok (.iinc 3 1, 3) := dk_132 3 1 (dk_at dksX10_drawn_2 13 rfl rfl)
theorem dX10_drawn_63 : decode cX10_drawn 63 = .ok (.iinc 4 1, 3) := dk_132 4 1 (dk_at dksX10_drawn_2 16 rfl rfl)
theorem dX10_drawn_66 : decode cX10_drawn 66 = .ok (.goto (-19), 3) := dk_167 255 237 (dk_at dksX10_drawn_2 19 rfl rfl)
theorem dX10_drawn_69 : decode cX10_drawn 69 = .ok (.aload_n 0, 1) := dk_42 (dk_at dksX10_drawn_2 22 rfl rfl)
theorem dX10_drawn_70 : decode cX10_drawn 70 = .ok (.iload_n 3, 1) := dk_29 (dk_at dksX10_drawn_2 23 rfl rfl)
theorem dX10_drawn_71 : decode cX10_drawn 71 = .ok (.ifCond .le 7, 3) := dk_158 0 7 (dk_at dksX10_drawn_3 0 rfl rfl)
theorem dX10_drawn_74 : decode cX10_drawn 74 = .ok (.iconst 1, 1) := dk_4 (dk_at dksX10_drawn_3 3 rfl rfl)
theorem dX10_drawn_75 : decode cX10_drawn 75 = .ok (.goto 4, 3) := dk_167 0 4 (dk_at dksX10_drawn_3 4 rfl rfl)
theorem dX10_drawn_78 : decode cX10_drawn 78 = .ok (.iconst 0, 1) := dk_3 (dk_at dksX10_drawn_3 7 rfl rfl)
theorem dX10_drawn_79 : decode cX10_drawn 79 = .ok (.invokevirtual 339, 3) := dk_182 1 83 (dk_at dksX10_drawn_3 8 rfl rfl)
theorem dX10_drawn_82 : decode cX10_drawn 82 = .ok (.iload_n 3, 1) := dk_29 (dk_at dksX10_drawn_3 11 rfl rfl)
theorem dX10_drawn_83 : decode cX10_drawn 83 = .ok (.ireturn, 1) := dk_172 (dk_at dksX10_drawn_3 12 rfl rfl)
abbrev cX10_drawsDeed : ByteArray := prog_23_method_105_code
def yX10_drawsDeed : MethodName := ⟨RX10, "drawsDeed", "()Z"⟩
def dkwX10_drawsDeed_5 : List UInt8 := [8, 28, 29, 21, 4, 182, 1, 76, 153, 0, 7, 4, 167, 0, 4, 3, 172]
abbrev dktX10_drawsDeed_5 : List UInt8 := dkwX10_drawsDeed_5 ++ []
def dkwX10_drawsDeed_4 : List UInt8 := [3, 46, 182, 1, 73, 54, 4, 21, 4, 28, 159, 0, 29, 42, 27, 16, 6, 160, 0, 7, 7, 167, 0, 4]
abbrev dktX10_drawsDeed_4 : List UInt8 := dkwX10_drawsDeed_4 ++ dktX10_drawsDeed_5
def dkwX10_drawsDeed_3 : List UInt8 := [162, 0, 19, 42, 6, 28, 29, 42, 16, 40, 182, 1, 73, 4, 96, 182, 1, 76, 172, 42, 42, 180, 0, 98]
abbrev dktX10_drawsDeed_3 : List UInt8 := dkwX10_drawsDeed_3 ++ dktX10_drawsDeed_4
def dkwX10_drawsDeed_2 : List UInt8 := [27, 6, 160, 0, 19, 42, 5, 28, 29, 42, 16, 8, 182, 1, 73, 4, 96, 182, 1, 76, 172, 27, 16, 6]
abbrev dktX10_drawsDeed_2 : List UInt8 := dkwX10_drawsDeed_2 ++ dktX10_drawsDeed_3
def dkwX10_drawsDeed_1 : List UInt8 := [4, 96, 182, 1, 73, 62, 27, 6, 162, 0, 16, 42, 3, 28, 29, 42, 5, 182, 1, 73, 182, 1, 76, 172]
abbrev dktX10_drawsDeed_1 : List UInt8 := dkwX10_drawsDeed_1 ++ dktX10_drawsDeed_2
def dkwX10_drawsDeed_0 : List UInt8 := [42, 16, 8, 182, 1, 73, 60, 42, 42, 180, 0, 98, 3, 46, 182, 1, 73, 61, 42, 42, 28, 182, 0, 199]
abbrev dktX10_drawsDeed_0 : List UInt8 := dkwX10_drawsDeed_0 ++ dktX10_drawsDeed_1
theorem dksX10_drawsDeed_0 : cX10_drawsDeed.data.toList.drop 0 = dktX10_drawsDeed_0 := by decide +kernel
theorem dksX10_drawsDeed_1 : cX10_drawsDeed.data.toList.drop 24 = dktX10_drawsDeed_1 := dk_seg dksX10_drawsDeed_0 24 rfl rfl
theorem dksX10_drawsDeed_2 : cX10_drawsDeed.data.toList.drop 48 = dktX10_drawsDeed_2 := dk_seg dksX10_drawsDeed_1 24 rfl rfl
theorem dksX10_drawsDeed_3 : cX10_drawsDeed.data.toList.drop 72 = dktX10_drawsDeed_3 := dk_seg dksX10_drawsDeed_2 24 rfl rfl
theorem dksX10_drawsDeed_4 : cX10_drawsDeed.data.toList.drop 96 = dktX10_drawsDeed_4 := dk_seg dksX10_drawsDeed_3 24 rfl rfl
theorem dksX10_drawsDeed_5 : cX10_drawsDeed.data.toList.drop 120 = dktX10_drawsDeed_5 := dk_seg dksX10_drawsDeed_4 24 rfl rfl
theorem dX10_drawsDeed_0 : decode cX10_drawsDeed 0 = .ok (.aload_n 0, 1) := dk_42 (dk_at dksX10_drawsDeed_0 0 rfl rfl)
theorem dX10_drawsDeed_1 : decode cX10_drawsDeed 1 = .ok (.bipush 8, 2) := dk_16 8 (dk_at dksX10_drawsDeed_0 1 rfl rfl)
theorem dX10_drawsDeed_3 : decode cX10_drawsDeed 3 = .ok (.invokevirtual 329, 3) := dk_182 1 73 (dk_at dksX10_drawsDeed_0 3 rfl rfl)
theorem dX10_drawsDeed_6 : decode cX10_drawsDeed 6 = .ok (.istore_n 1, 1) := dk_60 (dk_at dksX10_drawsDeed_0 6 rfl rfl)
theorem dX10_drawsDeed_7 : decode cX10_drawsDeed 7 = .ok (.aload_n 0, 1) := dk_42 (dk_at dksX10_drawsDeed_0 7 rfl rfl)
theorem dX10_drawsDeed_8 : decode cX10_drawsDeed 8 = .ok (.aload_n 0, 1) := dk_42 (dk_at dksX10_drawsDeed_0 8 rfl rfl)
theorem dX10_drawsDeed_9 : decode cX10_drawsDeed 9 = .ok (.getfield 98, 3) := dk_180 0 98 (dk_at dksX10_drawsDeed_0 9 rfl rfl)
theorem dX10_drawsDeed_12 : decode cX10_drawsDeed 12 = .ok (.iconst 0, 1) := dk_3 (dk_at dksX10_drawsDeed_0 12 rfl rfl)
theorem dX10_drawsDeed_13 : decode cX10_drawsDeed 13 = .ok (.iaload, 1) := dk_46 (dk_at dksX10_drawsDeed_0 13 rfl rfl)
theorem dX10_drawsDeed_14 : decode cX10_drawsDeed 14 = .ok (.invokevirtual 329, 3) := dk_182 1 73 (dk_at dksX10_drawsDeed_0 14 rfl rfl)
theorem dX10_drawsDeed_17 : decode cX10_drawsDeed 17 = .ok (.istore_n 2, 1) := dk_61 (dk_at dksX10_drawsDeed_0 17 rfl rfl)
theorem dX10_drawsDeed_18 : decode cX10_drawsDeed 18 = .ok (.aload_n 0, 1) := dk_42 (dk_at dksX10_drawsDeed_0 18 rfl rfl)
theorem dX10_drawsDeed_19 : decode cX10_drawsDeed 19 = .ok (.aload_n 0, 1) := dk_42 (dk_at dksX10_drawsDeed_0 19 rfl rfl)
theorem dX10_drawsDeed_20 : decode cX10_drawsDeed 20 = .ok (.iload_n 2, 1) := dk_28 (dk_at dksX10_drawsDeed_0 20 rfl rfl)
theorem dX10_drawsDeed_21 : decode cX10_drawsDeed 21 = .ok (.invokevirtual 199, 3) := dk_182 0 199 (dk_at dksX10_drawsDeed_0 21 rfl rfl)
theorem dX10_drawsDeed_24 : decode cX10_drawsDeed 24 = .ok (.iconst 1, 1) := dk_4 (dk_at dksX10_drawsDeed_1 0 rfl rfl)
theorem dX10_drawsDeed_25 : decode cX10_drawsDeed 25 = .ok (.iadd, 1) := dk_96 (dk_at dksX10_drawsDeed_1 1 rfl rfl)
theorem dX10_drawsDeed_26 : decode cX10_drawsDeed 26 = .ok (.invokevirtual 329, 3) := dk_182 1 73 (dk_at dksX10_drawsDeed_1 2 rfl rfl)
theorem dX10_drawsDeed_29 : decode cX10_drawsDeed 29 = .ok (.istore_n 3, 1) := dk_62 (dk_at dksX10_drawsDeed_1 5 rfl rfl)
theorem dX10_drawsDeed_30 : decode cX10_drawsDeed 30 = .ok (.iload_n 1, 1) := dk_27 (dk_at dksX10_drawsDeed_1 6 rfl rfl)
theorem dX10_drawsDeed_31 : decode cX10_drawsDeed 31 = .ok (.iconst 3, 1) := dk_6 (dk_at dksX10_drawsDeed_1 7 rfl rfl)
theorem dX10_drawsDeed_32 : decode cX10_drawsDeed 32 = .ok (.if_icmp .ge 16, 3) := dk_162 0 16 (dk_at dksX10_drawsDeed_1 8 rfl rfl)
theorem dX10_drawsDeed_35 : decode cX10_drawsDeed 35 = .ok (.aload_n 0, 1) := dk_42 (dk_at dksX10_drawsDeed_1 11 rfl rfl)
theorem dX10_drawsDeed_36 : decode cX10_drawsDeed 36 = .ok (.iconst 0, 1) := dk_3 (dk_at dksX10_drawsDeed_1 12 rfl rfl)
theorem dX10_drawsDeed_37 : decode cX10_drawsDeed 37 = .ok (.iload_n 2, 1) := dk_28 (dk_at dksX10_drawsDeed_1 13 rfl rfl)
theorem dX10_drawsDeed_38 : decode cX10_drawsDeed 38 = .ok (.iload_n 3, 1) := dk_29 (dk_at dksX10_drawsDeed_1 14 rfl rfl)
theorem dX10_drawsDeed_39 : decode cX10_drawsDeed 39 = .ok (.aload_n 0, 1) := dk_42 (dk_at dksX10_drawsDeed_1 15 rfl rfl)
theorem dX10_drawsDeed_40 : decode cX10_drawsDeed 40 = .ok (.iconst 2, 1) := dk_5 (dk_at dksX10_drawsDeed_1 16 rfl rfl)
theorem dX10_drawsDeed_41 : decode cX10_drawsDeed 41 = .ok (.invokevirtual 329, 3) := dk_182 1 73 (dk_at dksX10_drawsDeed_1 17 rfl rfl)
theorem dX10_drawsDeed_44 : decode cX10_drawsDeed 44 = .ok (.invokevirtual 332, 3) := dk_182 1 76 (dk_at dksX10_drawsDeed_1 20 rfl rfl)
theorem dX10_drawsDeed_47 : decode cX10_drawsDeed 47 = .ok (.ireturn, 1) := dk_172 (dk_at dksX10_drawsDeed_1 23 rfl rfl)
theorem dX10_drawsDeed_48 : decode cX10_drawsDeed 48 = .ok (.iload_n 1, 1) := dk_27 (dk_at dksX10_drawsDeed_2 0 rfl rfl)
theorem dX10_drawsDeed_49 : decode cX10_drawsDeed 49 = .ok (.iconst 3, 1) := dk_6 (dk_at dksX10_drawsDeed_2 1 rfl rfl)
theorem dX10_drawsDeed_50 : decode cX10_drawsDeed 50 = .ok (.if_icmp .ne 19, 3) := dk_160 0 19 (dk_at dksX10_drawsDeed_2 2 rfl rfl)
theorem dX10_drawsDeed_53 : decode cX10_drawsDeed 53 = .ok (.aload_n 0, 1) := dk_42 (dk_at dksX10_drawsDeed_2 5 rfl rfl)
theorem dX10_drawsDeed_54 : decode cX10_drawsDeed 54 = .ok (.iconst 2, 1) := dk_5 (dk_at dksX10_drawsDeed_2 6 rfl rfl)
theorem dX10_drawsDeed_55 : decode cX10_drawsDeed 55 = .ok (.iload_n 2, 1) := dk_28 (dk_at dksX10_drawsDeed_2 7 rfl rfl)
theorem dX10_drawsDeed_56 : decode cX10_drawsDeed 56 = .ok (.iload_n 3, 1) := dk_29 (dk_at dksX10_drawsDeed_2 8 rfl rfl)
theorem dX10_drawsDeed_57 : decode cX10_drawsDeed 57 = .ok (.aload_n 0, 1) := dk_42 (dk_at dksX10_drawsDeed_2 9 rfl rfl)
theorem dX10_drawsDeed_58 : decode cX10_drawsDeed 58 = .ok (.bipush 8, 2) := dk_16 8 (dk_at dksX10_drawsDeed_2 10 rfl rfl)
theorem dX10_drawsDeed_60 : decode cX10_drawsDeed 60 = .ok (.invokevirtual 329, 3) := dk_182 1 73 (dk_at dksX10_drawsDeed_2 12 rfl rfl)
theorem dX10_drawsDeed_63 : decode cX10_drawsDeed 63 = .ok (.iconst 1, 1) := dk_4 (dk_at dksX10_drawsDeed_2 15 rfl rfl)
theorem dX10_drawsDeed_64 : decode cX10_drawsDeed 64 = .ok (.iadd, 1) := dk_96 (dk_at dksX10_drawsDeed_2 16 rfl rfl)
theorem dX10_drawsDeed_65 : decode cX10_drawsDeed 65 = .ok (.invokevirtual 332, 3) := dk_182 1 76 (dk_at dksX10_drawsDeed_2 17 rfl rfl)
theorem dX10_drawsDeed_68 : decode cX10_drawsDeed 68 = .ok (.ireturn, 1) := dk_172 (dk_at dksX10_drawsDeed_2 20 rfl rfl)
theorem dX10_drawsDeed_69 : decode cX10_drawsDeed 69 = .ok (.iload_n 1, 1) := dk_27 (dk_at dksX10_drawsDeed_2 21 rfl rfl)
theorem dX10_drawsDeed_70 : decode cX10_drawsDeed 70 = .ok (.bipush 6, 2) := dk_16 6 (dk_at dksX10_drawsDeed_2 22 rfl rfl)
theorem dX10_drawsDeed_72 : decode cX10_drawsDeed 72 = .ok (.if_icmp .ge 19, 3) := dk_162 0 19 (dk_at dksX10_drawsDeed_3 0 rfl rfl)
theorem dX10_drawsDeed_75 : decode cX10_drawsDeed 75 = .ok (.aload_n 0, 1) := dk_42 (dk_at dksX10_drawsDeed_3 3 rfl rfl)
theorem dX10_drawsDeed_76 : decode cX10_drawsDeed 76 = .ok (.iconst 3, 1) := dk_6 (dk_at dksX10_drawsDeed_3 4 rfl rfl)
theorem dX10_drawsDeed_77 : decode cX10_drawsDeed 77 = .ok (.iload_n 2, 1) := dk_28 (dk_at dksX10_drawsDeed_3 5 rfl rfl)
theorem dX10_drawsDeed_78 : decode cX10_drawsDeed 78 = .ok (.iload_n 3, 1) := dk_29 (dk_at dksX10_drawsDeed_3 6 rfl rfl)
theorem dX10_drawsDeed_79 : decode cX10_drawsDeed 79 = .ok (.aload_n 0, 1) := dk_42 (dk_at dksX10_drawsDeed_3 7 rfl rfl)
theorem dX10_drawsDeed_80 : decode cX10_drawsDeed 80 = .ok (.bipush 40, 2) := dk_16 40 (dk_at dksX10_drawsDeed_3 8 rfl rfl)
theorem dX10_drawsDeed_82 : decode cX10_drawsDeed 82 = .ok (.invokevirtual 329, 3) := dk_182 1 73 (dk_at dksX10_drawsDeed_3 10 rfl rfl)
theorem dX10_drawsDeed_85 : decode cX10_drawsDeed 85 = .ok (.iconst 1, 1) := dk_4 (dk_at dksX10_drawsDeed_3 13 rfl rfl)
theorem dX10_drawsDeed_86 : decode cX10_drawsDeed 86 = .ok (.iadd, 1) := dk_96 (dk_at dksX10_drawsDeed_3 14 rfl rfl)
theorem dX10_drawsDeed_87 : decode cX10_drawsDeed 87 = .ok (.invokevirtual 332, 3) := dk_182 1 76 (dk_at dksX10_drawsDeed_3 15 rfl rfl)
theorem dX10_drawsDeed_90 : decode cX10_drawsDeed 90 = .ok (.ireturn, 1) := dk_172 (dk_at dksX10_drawsDeed_3 18 rfl rfl)
theorem dX10_drawsDeed_91 : decode cX10_drawsDeed 91 = .ok (.aload_n 0, 1) := dk_42 (dk_at dksX10_drawsDeed_3 19 rfl rfl)
theorem dX10_drawsDeed_92 : decode cX10_drawsDeed 92 = .ok (.aload_n 0, 1) := dk_42 (dk_at dksX10_drawsDeed_3 20 rfl rfl)
theorem dX10_drawsDeed_93 : decode cX10_drawsDeed 93 = .ok (.getfield 98, 3) := dk_180 0 98 (dk_at dksX10_drawsDeed_3 21 rfl rfl)
theorem dX10_drawsDeed_96 : decode cX10_drawsDeed 96 = .ok (.iconst 0, 1) := dk_3 (dk_at dksX10_drawsDeed_4 0 rfl rfl)
theorem dX10_drawsDeed_97 : decode cX10_drawsDeed 97 = .ok (.iaload, 1) := dk_46 (dk_at dksX10_drawsDeed_4 1 rfl rfl)
theorem dX10_drawsDeed_98 : decode cX10_drawsDeed 98 = .ok (.invokevirtual 329, 3) := dk_182 1 73 (dk_at dksX10_drawsDeed_4 2 rfl rfl)
theorem dX10_drawsDeed_101 : decode cX10_drawsDeed 101 = .ok (.istore 4, 2) := dk_54 4 (dk_at dksX10_drawsDeed_4 5 rfl rfl)
theorem dX10_drawsDeed_103 : decode cX10_drawsDeed 103 = .ok (.iload 4, 2) := dk_21 4 (dk_at dksX10_drawsDeed_4 7 rfl rfl)
theorem dX10_drawsDeed_105 : decode cX10_drawsDeed 105 = .ok (.iload_n 2, 1) := dk_28 (dk_at dksX10_drawsDeed_4 9 rfl rfl)
theorem dX10_drawsDeed_106 : decode cX10_drawsDeed 106 = .ok (.if_icmp .eq 29, 3) := dk_159 0 29 (dk_at dksX10_drawsDeed_4 10 rfl rfl)
theorem dX10_drawsDeed_109 : decode cX10_drawsDeed 109 = .ok (.aload_n 0, 1) := dk_42 (dk_at dksX10_drawsDeed_4 13 rfl rfl)
theorem dX10_drawsDeed_110 : decode cX10_drawsDeed 110 = .ok (.iload_n 1, 1) := dk_27 (dk_at dksX10_drawsDeed_4 14 rfl rfl)
theorem dX10_drawsDeed_111 : decode cX10_drawsDeed 111 = .ok (.bipush 6, 2) := dk_16 6 (dk_at dksX10_drawsDeed_4 15 rfl rfl)
theorem dX10_drawsDeed_113 : decode cX10_drawsDeed 113 = .ok (.if_icmp .ne 7, 3) := dk_160 0 7 (dk_at dksX10_drawsDeed_4 17 rfl rfl)
theorem dX10_drawsDeed_116 : decode cX10_drawsDeed 116 = .ok (.iconst 4, 1) := dk_7 (dk_at dksX10_drawsDeed_4 20 rfl rfl)
theorem dX10_drawsDeed_117 : decode cX10_drawsDeed 117 = .ok (.goto 4, 3) := dk_167 0 4 (dk_at dksX10_drawsDeed_4 21 rfl rfl)
theorem dX10_drawsDeed_120 : decode cX10_drawsDeed 120 = .ok (.iconst 5, 1) := dk_8 (dk_at dksX10_drawsDeed_5 0 rfl rfl)
theorem dX10_drawsDeed_121 : decode cX10_drawsDeed 121 = .ok (.iload_n 2, 1) := dk_28 (dk_at dksX10_drawsDeed_5 1 rfl rfl)
theorem dX10_drawsDeed_122 : decode cX10_drawsDeed 122 = .ok (.iload_n 3, 1) := dk_29 (dk_at dksX10_drawsDeed_5 2 rfl rfl)
theorem dX10_drawsDeed_123 : decode cX10_drawsDeed 123 = .ok (.iload 4, 2) := dk_21 4 (dk_at dksX10_drawsDeed_5 3 rfl rfl)
theorem dX10_drawsDeed_125 : decode cX10_drawsDeed 125 = .ok (.invokevirtual 332, 3) := dk_182 1 76 (dk_at dksX10_drawsDeed_5 5 rfl rfl)
theorem dX10_drawsDeed_128 : decode cX10_drawsDeed 128 = .ok (.ifCond .eq 7, 3) := dk_153 0 7 (dk_at dksX10_drawsDeed_5 8 rfl rfl)
theorem dX10_drawsDeed_131 : decode cX10_drawsDeed 131 = .ok (.iconst 1, 1) := dk_4 (dk_at dksX10_drawsDeed_5 11 rfl rfl)
theorem dX10_drawsDeed_132 : decode cX10_drawsDeed 132 = .ok (.goto 4, 3) := dk_167 0 4 (dk_at dksX10_drawsDeed_5 12 rfl rfl)
theorem dX10_drawsDeed_135 : decode cX10_drawsDeed 135 = .ok (.iconst 0, 1) := dk_3 (dk_at dksX10_drawsDeed_5 15 rfl rfl)
theorem dX10_drawsDeed_136 : decode cX10_drawsDeed 136 = .ok (.ireturn, 1) := dk_172 (dk_at dksX10_drawsDeed_5 16 rfl rfl)
abbrev cX10_draw : ByteArray := prog_23_method_103_code
def yX10_draw : MethodName := ⟨RX10, "draw", "(I)I"⟩
def dkwX10_draw_1 : List UInt8 := [112, 172]
abbrev dktX10_draw_1 : List UInt8 := dkwX10_draw_1 ++ []
def dkwX10_draw_0 : List UInt8 := [42, 42, 180, 1, 69, 19, 1, 72, 104, 17, 48, 57, 96, 181, 1, 69, 42, 180, 1, 69, 16, 8, 124, 27]
abbrev dktX10_draw_0 : List UInt8 := dkwX10_draw_0 ++ dktX10_draw_1
theorem dksX10_draw_0 : cX10_draw.data.toList.drop 0 = dktX10_draw_0 := by decide +kernel
theorem dksX10_draw_1 : cX10_draw.data.toList.drop 24 = dktX10_draw_1 := dk_seg dksX10_draw_0 24 rfl rfl
theorem dX10_draw_0 : decode cX10_draw 0 = .ok (.aload_n 0, 1) := dk_42 (dk_at dksX10_draw_0 0 rfl rfl)
theorem dX10_draw_1 : decode cX10_draw 1 = .ok (.aload_n 0, 1) := dk_42 (dk_at dksX10_draw_0 1 rfl rfl)
theorem dX10_draw_2 : decode cX10_draw 2 = .ok (.getfield 325, 3) := dk_180 1 69 (dk_at dksX10_draw_0 2 rfl rfl)
theorem dX10_draw_5 : decode cX10_draw 5 = .ok (.ldc_w 328, 3) := dk_19 1 72 (dk_at dksX10_draw_0 5 rfl rfl)
theorem dX10_draw_8 : decode cX10_draw 8 = .ok (.imul, 1) := dk_104 (dk_at dksX10_draw_0 8 rfl rfl)
theorem dX10_draw_9 : decode cX10_draw 9 = .ok (.sipush 12345, 3) := dk_17 48 57 (dk_at dksX10_draw_0 9 rfl rfl)
theorem dX10_draw_12 : decode cX10_draw 12 = .ok (.iadd, 1) := dk_96 (dk_at dksX10_draw_0 12 rfl rfl)
theorem dX10_draw_13 : decode cX10_draw 13 = .ok (.putfield 325, 3) := dk_181 1 69 (dk_at dksX10_draw_0 13 rfl rfl)
theorem dX10_draw_16 : decode cX10_draw 16 = .ok (.aload_n 0, 1) := dk_42 (dk_at dksX10_draw_0 16 rfl rfl)
theorem dX10_draw_17 : decode cX10_draw 17 = .ok (.getfield 325, 3) := dk_180 1 69 (dk_at dksX10_draw_0 17 rfl rfl)
theorem dX10_draw_20 : decode cX10_draw 20 = .ok (.bipush 8, 2) := dk_16 8 (dk_at dksX10_draw_0 20 rfl rfl)
theorem dX10_draw_22 : decode cX10_draw 22 = .ok (.iushr, 1) := dk_124 (dk_at dksX10_draw_0 22 rfl rfl)
theorem dX10_draw_23 : decode cX10_draw 23 = .ok (.iload_n 1, 1) := dk_27 (dk_at dksX10_draw_0 23 rfl rfl)
theorem dX10_draw_24 : decode cX10_draw 24 = .ok (.irem, 1) := dk_112 (dk_at dksX10_draw_1 0 rfl rfl)
theorem dX10_draw_25 : decode cX10_draw 25 = .ok (.ireturn, 1) := dk_172 (dk_at dksX10_draw_1 1 rfl rfl)
abbrev cX10_doIf : ByteArray := prog_23_method_104_code
def yX10_doIf : MethodName := ⟨RX10, "doIf", "(IIII)Z"⟩
def dkwX10_doIf_1 : List UInt8 := [172]
abbrev dktX10_doIf_1 : List UInt8 := dkwX10_doIf_1 ++ []
def dkwX10_doIf_0 : List UInt8 := [42, 27, 28, 29, 21, 4, 182, 1, 48, 153, 0, 5, 3, 172, 42, 27, 28, 29, 21, 4, 182, 1, 55, 4]
abbrev dktX10_doIf_0 : List UInt8 := dkwX10_doIf_0 ++ dktX10_doIf_1
theorem dksX10_doIf_0 : cX10_doIf.data.toList.drop 0 = dktX10_doIf_0 := by decide +kernel
theorem dksX10_doIf_1 : cX10_doIf.data.toList.drop 24 = dktX10_doIf_1 := dk_seg dksX10_doIf_0 24 rfl rfl
theorem dX10_doIf_0 : decode cX10_doIf 0 = .ok (.aload_n 0, 1) := dk_42 (dk_at dksX10_doIf_0 0 rfl rfl)
theorem dX10_doIf_1 : decode cX10_doIf 1 = .ok (.iload_n 1, 1) := dk_27 (dk_at dksX10_doIf_0 1 rfl rfl)
theorem dX10_doIf_2 : decode cX10_doIf 2 = .ok (.iload_n 2, 1) := dk_28 (dk_at dksX10_doIf_0 2 rfl rfl)
theorem dX10_doIf_3 : decode cX10_doIf 3 = .ok (.iload_n 3, 1) := dk_29 (dk_at dksX10_doIf_0 3 rfl rfl)
theorem dX10_doIf_4 : decode cX10_doIf 4 = .ok (.iload 4, 2) := dk_21 4 (dk_at dksX10_doIf_0 4 rfl rfl)
theorem dX10_doIf_6 : decode cX10_doIf 6 = .ok (.invokevirtual 304, 3) := dk_182 1 48 (dk_at dksX10_doIf_0 6 rfl rfl)
theorem dX10_doIf_9 : decode cX10_doIf 9 = .ok (.ifCond .eq 5, 3) := dk_153 0 5 (dk_at dksX10_doIf_0 9 rfl rfl)
theorem dX10_doIf_12 : decode cX10_doIf 12 = .ok (.iconst 0, 1) := dk_3 (dk_at dksX10_doIf_0 12 rfl rfl)
theorem dX10_doIf_13 : decode cX10_doIf 13 = .ok (.ireturn, 1) := dk_172 (dk_at dksX10_doIf_0 13 rfl rfl)
theorem dX10_doIf_14 : decode cX10_doIf 14 = .ok (.aload_n 0, 1) := dk_42 (dk_at dksX10_doIf_0 14 rfl rfl)
theorem dX10_doIf_15 : decode cX10_doIf 15 = .ok (.iload_n 1, 1) := dk_27 (dk_at dksX10_doIf_0 15 rfl rfl)
theorem dX10_doIf_16 : decode cX10_doIf 16 = .ok (.iload_n 2, 1) := dk_28 (dk_at dksX10_doIf_0 16 rfl rfl)
theorem dX10_doIf_17 : decode cX10_doIf 17 = .ok (.iload_n 3, 1) := dk_29 (dk_at dksX10_doIf_0 17 rfl rfl)
theorem dX10_doIf_18 : decode cX10_doIf 18 = .ok (.iload 4, 2) := dk_21 4 (dk_at dksX10_doIf_0 18 rfl rfl)
theorem dX10_doIf_20 : decode cX10_doIf 20 = .ok (.invokevirtual 311, 3) := dk_182 1 55 (dk_at dksX10_doIf_0 20 rfl rfl)
theorem dX10_doIf_23 : decode cX10_doIf 23 = .ok (.iconst 1, 1) := dk_4 (dk_at dksX10_doIf_0 23 rfl rfl)
theorem dX10_doIf_24 : decode cX10_doIf 24 = .ok (.ireturn, 1) := dk_172 (dk_at dksX10_doIf_1 0 rfl rfl)
abbrev cX10_stay : ByteArray := prog_23_method_114_code
def yX10_stay : MethodName := ⟨RX10, "stay", "(Z)V"⟩
def dkwX10_stay_1 : List UInt8 := [182, 1, 52, 42, 42, 180, 0, 110, 3, 182, 1, 66, 177]
abbrev dktX10_stay_1 : List UInt8 := dkwX10_stay_1 ++ []
def dkwX10_stay_0 : List UInt8 := [42, 42, 180, 0, 110, 3, 182, 1, 32, 42, 42, 180, 0, 113, 3, 182, 1, 66, 27, 154, 0, 4, 177, 42]
abbrev dktX10_stay_0 : List UInt8 := dkwX10_stay_0 ++ dktX10_stay_1
theorem dksX10_stay_0 : cX10_stay.data.toList.drop 0 = dktX10_stay_0 := by decide +kernel
theorem dksX10_stay_1 : cX10_stay.data.toList.drop 24 = dktX10_stay_1 := dk_seg dksX10_stay_0 24 rfl rfl
theorem dX10_stay_0 : decode cX10_stay 0 = .ok (.aload_n 0, 1) := dk_42 (dk_at dksX10_stay_0 0 rfl rfl)
theorem dX10_stay_1 : decode cX10_stay 1 = .ok (.aload_n 0, 1) := dk_42 (dk_at dksX10_stay_0 1 rfl rfl)
theorem dX10_stay_2 : decode cX10_stay 2 = .ok (.getfield 110, 3) := dk_180 0 110 (dk_at dksX10_stay_0 2 rfl rfl)
theorem dX10_stay_5 : decode cX10_stay 5 = .ok (.iconst 0, 1) := dk_3 (dk_at dksX10_stay_0 5 rfl rfl)
theorem dX10_stay_6 : decode cX10_stay 6 = .ok (.invokevirtual 288, 3) := dk_182 1 32 (dk_at dksX10_stay_0 6 rfl rfl)
theorem dX10_stay_9 : decode cX10_stay 9 = .ok (.aload_n 0, 1) := dk_42 (dk_at dksX10_stay_0 9 rfl rfl)
theorem dX10_stay_10 : decode cX10_stay 10 = .ok (.aload_n 0, 1) := dk_42 (dk_at dksX10_stay_0 10 rfl rfl)
theorem dX10_stay_11 : decode cX10_stay 11 = .ok (.getfield 113, 3) := dk_180 0 113 (dk_at dksX10_stay_0 11 rfl rfl)
theorem dX10_stay_14 : decode cX10_stay 14 = .ok (.iconst 0, 1) := dk_3 (dk_at dksX10_stay_0 14 rfl rfl)
theorem dX10_stay_15 : decode cX10_stay 15 = .ok (.invokevirtual 322, 3) := dk_182 1 66 (dk_at dksX10_stay_0 15 rfl rfl)
theorem dX10_stay_18 : decode cX10_stay 18 = .ok (.iload_n 1, 1) := dk_27 (dk_at dksX10_stay_0 18 rfl rfl)
theorem dX10_stay_19 : decode cX10_stay 19 = .ok (.ifCond .ne 4, 3) := dk_154 0 4 (dk_at dksX10_stay_0 19 rfl rfl)
theorem dX10_stay_22 : decode cX10_stay 22 = .ok (.return_, 1) := dk_177 (dk_at dksX10_stay_0 22 rfl rfl)
theorem dX10_stay_23 : decode cX10_stay 23 = .ok (.aload_n 0, 1) := dk_42 (dk_at dksX10_stay_0 23 rfl rfl)
theorem dX10_stay_24 : decode cX10_stay 24 = .ok (.invokevirtual 308, 3) := dk_182 1 52 (dk_at dksX10_stay_1 0 rfl rfl)
theorem dX10_stay_27 : decode cX10_stay 27 = .ok (.aload_n 0, 1) := dk_42 (dk_at dksX10_stay_1 3 rfl rfl)
theorem dX10_stay_28 : decode cX10_stay 28 = .ok (.aload_n 0, 1) := dk_42 (dk_at dksX10_stay_1 4 rfl rfl)
theorem dX10_stay_29 : decode cX10_stay 29 = .ok (.getfield 110, 3) := dk_180 0 110 (dk_at dksX10_stay_1 5 rfl rfl)
theorem dX10_stay_32 : decode cX10_stay 32 = .ok (.iconst 0, 1) := dk_3 (dk_at dksX10_stay_1 8 rfl rfl)
theorem dX10_stay_33 : decode cX10_stay 33 = .ok (.invokevirtual 322, 3) := dk_182 1 66 (dk_at dksX10_stay_1 9 rfl rfl)
theorem dX10_stay_36 : decode cX10_stay 36 = .ok (.return_, 1) := dk_177 (dk_at dksX10_stay_1 12 rfl rfl)
abbrev cX10_book : ByteArray := prog_23_method_113_code
def yX10_book : MethodName := ⟨RX10, "book", "(I)I"⟩
def dkwX10_book_7 : List UInt8 := [167, 0, 4, 3, 182, 1, 83, 29, 154, 0, 7, 2, 167, 0, 4, 28, 172]
abbrev dktX10_book_7 : List UInt8 := dkwX10_book_7 ++ []
def dkwX10_book_6 : List UInt8 := [180, 0, 98, 17, 10, 55, 46, 79, 42, 4, 181, 1, 109, 42, 27, 4, 160, 0, 11, 28, 158, 0, 7, 4]
abbrev dktX10_book_6 : List UInt8 := dkwX10_book_6 ++ dktX10_book_7
def dkwX10_book_5 : List UInt8 := [180, 0, 136, 4, 28, 79, 42, 180, 0, 136, 5, 42, 182, 1, 106, 79, 42, 180, 0, 136, 6, 42]
abbrev dktX10_book_5 : List UInt8 := dkwX10_book_5 ++ dktX10_book_6
def dkwX10_book_4 : List UInt8 := [182, 1, 103, 62, 29, 154, 255, 235, 132, 2, 1, 167, 255, 229, 42, 180, 0, 136, 3, 29, 79, 42]
abbrev dktX10_book_4 : List UInt8 := dkwX10_book_4 ++ dktX10_book_5
def dkwX10_book_3 : List UInt8 := [3, 182, 1, 32, 3, 61, 3, 62, 28, 42, 180, 1, 87, 162, 0, 25, 29, 154, 0, 21, 42, 7, 28, 104]
abbrev dktX10_book_3 : List UInt8 := dkwX10_book_3 ++ dktX10_book_4
def dkwX10_book_2 : List UInt8 := [42, 180, 0, 69, 100, 172, 42, 89, 180, 1, 87, 4, 96, 181, 1, 87, 167, 255, 224, 42, 42, 180, 0, 113]
abbrev dktX10_book_2 : List UInt8 := dkwX10_book_2 ++ dktX10_book_3
def dkwX10_book_1 : List UInt8 := [182, 0, 180, 42, 3, 181, 1, 87, 42, 180, 0, 30, 153, 0, 31, 42, 182, 1, 100, 154, 0, 11, 16, 254]
abbrev dktX10_book_1 : List UInt8 := dkwX10_book_1 ++ dktX10_book_2
def dkwX10_book_0 : List UInt8 := [42, 3, 181, 0, 1, 27, 3, 4, 184, 0, 75, 154, 0, 7, 17, 252, 24, 172, 42, 17, 1, 144]
abbrev dktX10_book_0 : List UInt8 := dkwX10_book_0 ++ dktX10_book_1
theorem dksX10_book_0 : cX10_book.data.toList.drop 0 = dktX10_book_0 := by decide +kernel
theorem dksX10_book_1 : cX10_book.data.toList.drop 22 = dktX10_book_1 := dk_seg dksX10_book_0 22 rfl rfl
theorem dksX10_book_2 : cX10_book.data.toList.drop 46 = dktX10_book_2 := dk_seg dksX10_book_1 24 rfl rfl
theorem dksX10_book_3 : cX10_book.data.toList.drop 70 = dktX10_book_3 := dk_seg dksX10_book_2 24 rfl rfl
theorem dksX10_book_4 : cX10_book.data.toList.drop 94 = dktX10_book_4 := dk_seg dksX10_book_3 24 rfl rfl
theorem dksX10_book_5 : cX10_book.data.toList.drop 116 = dktX10_book_5 := dk_seg dksX10_book_4 22 rfl rfl
theorem dksX10_book_6 : cX10_book.data.toList.drop 138 = dktX10_book_6 := dk_seg dksX10_book_5 22 rfl rfl
theorem dksX10_book_7 : cX10_book.data.toList.drop 162 = dktX10_book_7 := dk_seg dksX10_book_6 24 rfl rfl
theorem dX10_book_0 : decode cX10_book 0 = .ok (.aload_n 0, 1) := dk_42 (dk_at dksX10_book_0 0 rfl rfl)
theorem dX10_book_1 : decode cX10_book 1 = .ok (.iconst 0, 1) := dk_3 (dk_at dksX10_book_0 1 rfl rfl)
theorem dX10_book_2 : decode cX10_book 2 = .ok (.putfield 1, 3) := dk_181 0 1 (dk_at dksX10_book_0 2 rfl rfl)
theorem dX10_book_5 : decode cX10_book 5 = .ok (.iload_n 1, 1) := dk_27 (dk_at dksX10_book_0 5 rfl rfl)
theorem dX10_book_6 : decode cX10_book 6 = .ok (.iconst 0, 1) := dk_3 (dk_at dksX10_book_0 6 rfl rfl)
theorem dX10_book_7 : decode cX10_book 7 = .ok (.iconst 1, 1) := dk_4 (dk_at dksX10_book_0 7 rfl rfl)
theorem dX10_book_8 : decode cX10_book 8 = .ok (.invokestatic 75, 3) := dk_184 0 75 (dk_at dksX10_book_0 8 rfl rfl)
theorem dX10_book_11 : decode cX10_book 11 = .ok (.ifCond .ne 7, 3) := dk_154 0 7 (dk_at dksX10_book_0 11 rfl rfl)
theorem dX10_book_14 : decode cX10_book 14 = .ok (.sipush (-1000), 3) := dk_17 252 24 (dk_at dksX10_book_0 14 rfl rfl)
theorem dX10_book_17 : decode cX10_book 17 = .ok (.ireturn, 1) := dk_172 (dk_at dksX10_book_0 17 rfl rfl)
theorem dX10_book_18 : decode cX10_book 18 = .ok (.aload_n 0, 1) := dk_42 (dk_at dksX10_book_0 18 rfl rfl)
theorem dX10_book_19 : decode cX10_book 19 = .ok (.sipush 400, 3) := dk_17 1 144 (dk_at dksX10_book_0 19 rfl rfl)
theorem dX10_book_22 : decode cX10_book 22 = .ok (.invokevirtual 180, 3) := dk_182 0 180 (dk_at dksX10_book_1 0 rfl rfl)
theorem dX10_book_25 : decode cX10_book 25 = .ok (.aload_n 0, 1) := dk_42 (dk_at dksX10_book_1 3 rfl rfl)
theorem dX10_book_26 : decode cX10_book 26 = .ok (.iconst 0, 1) := dk_3 (dk_at dksX10_book_1 4 rfl rfl)
theorem dX10_book_27 : decode cX10_book 27 = .ok (.putfield 343, 3) := dk_181 1 87 (dk_at dksX10_book_1 5 rfl rfl)
theorem dX10_book_30 : decode cX10_book 30 = .ok (.aload_n 0, 1) := dk_42 (dk_at dksX10_book_1 8 rfl rfl)
theorem dX10_book_31 : decode cX10_book 31 = .ok (.getfield 30, 3) := dk_180 0 30 (dk_at dksX10_book_1 9 rfl rfl)
theorem dX10_book_34 : decode cX10_book 34 = .ok (.ifCond .eq 31, 3) := dk_153 0 31 (dk_at dksX10_book_1 12 rfl rfl)
theorem dX10_book_37 : decode cX10_book 37 = .ok (.aload_n 0, 1) := dk_42 (dk_at dksX10_book_1 15 rfl rfl)
theorem dX10_book_38 : decode cX10_book 38 = .ok (.invokevirtual 356, 3) := dk_182 1 100 (dk_at dksX10_book_1 16 rfl rfl)
theorem dX10_book_41 : decode cX10_book 41 = .ok (.ifCond .ne 11, 3) := dk_154 0 11 (dk_at dksX10_book_1 19 rfl rfl)
theorem dX10_book_44 : decode cX10_book 44 = .ok (.bipush (-2), 2) := dk_16 254 (dk_at dksX10_book_1 22 rfl rfl)
theorem dX10_book_46 : decode cX10_book 46 = .ok (.aload_n 0, 1) := dk_42 (dk_at dksX10_book_2 0 rfl rfl)
theorem dX10_book_47 : decode cX10_book 47 = .ok (.getfield 69, 3) := dk_180 0 69 (dk_at dksX10_book_2 1 rfl rfl)
theorem dX10_book_50 : decode cX10_book 50 = .ok (.isub, 1) := dk_100 (dk_at dksX10_book_2 4 rfl rfl)
theorem dX10_book_51 : decode cX10_book 51 = .ok (.ireturn, 1) := dk_172 (dk_at dksX10_book_2 5 rfl rfl)
theorem dX10_book_52 : decode cX10_book 52 = .ok (.aload_n 0, 1) := dk_42 (dk_at dksX10_book_2 6 rfl rfl)
theorem dX10_book_53 : decode cX10_book 53 = .ok (.dup, 1) := dk_89 (dk_at dksX10_book_2 7 rfl rfl)
theorem dX10_book_54 : decode cX10_book 54 = .ok (.getfield 343, 3) := dk_180 1 87 (dk_at dksX10_book_2 8 rfl rfl)
theorem dX10_book_57 : decode cX10_book 57 = .ok (.iconst 1, 1) := dk_4 (dk_at dksX10_book_2 11 rfl rfl)
theorem dX10_book_58 : decode cX10_book 58 = .ok (.iadd, 1) := dk_96 (dk_at dksX10_book_2 12 rfl rfl)
theorem dX10_book_59 : decode cX10_book 59 = .ok (.putfield 343, 3) := dk_181 1 87 (dk_at dksX10_book_2 13 rfl rfl)
theorem dX10_book_62 : decode cX10_book 62 = .ok (.goto (-32), 3) := dk_167 255 224 (dk_at dksX10_book_2 16 rfl rfl)
theorem dX10_book_65 : decode cX10_book 65 = .ok (.aload_n 0, 1) := dk_42 (dk_at dksX10_book_2 19 rfl rfl)
theorem dX10_book_66 : decode cX10_book 66 = .ok (.aload_n 0, 1) := dk_42 (dk_at dksX10_book_2 20 rfl rfl)
theorem dX10_book_67 : decode cX10_book 67 = .ok (.getfield 113, 3) := dk_180 0 113 (dk_at dksX10_book_2 21 rfl rfl)
theorem dX10_book_70 : decode cX10_book 70 = .ok (.iconst 0, 1) := dk_3 (dk_at dksX10_book_3 0 rfl rfl)
theorem dX10_book_71 : decode cX10_book 71 = .ok (.invokevirtual 288, 3) := dk_182 1 32 (dk_at dksX10_book_3 1 rfl rfl)
theorem dX10_book_74 : decode cX10_book 74 = .ok (.iconst 0, 1) := dk_3 (dk_at dksX10_book_3 4 rfl rfl)
theorem dX10_book_75 : decode cX10_book 75 = .ok (.istore_n 2, 1) := dk_61 (dk_at dksX10_book_3 5 rfl rfl)
theorem dX10_book_76 : decode cX10_book 76 = .ok (.iconst 0, 1) := dk_3 (dk_at dksX10_book_3 6 rfl rfl)
theorem dX10_book_77 : decode cX10_book 77 = .ok (.istore_n 3, 1) := dk_62 (dk_at dksX10_book_3 7 rfl rfl)
theorem dX10_book_78 : decode cX10_book 78 = .ok (.iload_n 2, 1) := dk_28 (dk_at dksX10_book_3 8 rfl rfl)
theorem dX10_book_79 : decode cX10_book 79 = .ok (.aload_n 0, 1) := dk_42 (dk_at dksX10_book_3 9 rfl rfl)
theorem dX10_book_80 : decode cX10_book 80 = .ok (.getfield 343, 3) := dk_180 1 87 (dk_at dksX10_book_3 10 rfl rfl)
theorem dX10_book_83 : decode cX10_book 83 = .ok (.if_icmp .ge 25, 3) := dk_162 0 25 (dk_at dksX10_book_3 13 rfl rfl)
theorem dX10_book_86 : decode cX10_book 86 = .ok (.iload_n 3, 1) := dk_29 (dk_at dksX10_book_3 16 rfl rfl)
theorem dX10_book_87 : decode cX10_book 87 = .ok (.ifCond .ne 21, 3) := dk_154 0 21 (dk_at dksX10_book_3 17 rfl rfl)
theorem dX10_book_90 : decode cX10_book 90 = .ok (.aload_n 0, 1) := dk_42 (dk_at dksX10_book_3 20 rfl rfl)
theorem dX10_book_91 : decode cX10_book 91 = .ok (.iconst 4, 1) := dk_7 (dk_at dksX10_book_3 21 rfl rfl)
theorem dX10_book_92 : decode cX10_book 92 = .ok (.iload_n 2, 1) := dk_28 (dk_at dksX10_book_3 22 rfl rfl)
theorem dX10_book_93 : decode cX10_book 93 = .ok (.imul, 1) := dk_104 (dk_at dksX10_book_3 23 rfl rfl)
theorem dX10_book_94 : decode cX10_book 94 = .ok (.invokevirtual 359, 3) := dk_182 1 103 (dk_at dksX10_book_4 0 rfl rfl)
theorem dX10_book_97 : decode cX10_book 97 = .ok (.istore_n 3, 1) := dk_62 (dk_at dksX10_book_4 3 rfl rfl)
theorem dX10_book_98 : decode cX10_book 98 = .ok (.iload_n 3, 1) := dk_29 (dk_at dksX10_book_4 4 rfl rfl)
theorem dX10_book_99 : decode cX10_book 99 = .ok (.ifCond .ne (-21), 3) := dk_154 255 235 (dk_at dksX10_book_4 5 rfl rfl)
theorem dX10_book_102 : decode cX10_book 102 = .ok (.iinc 2 1, 3) := dk_132 2 1 (dk_at dksX10_book_4 8 rfl rfl)
theorem dX10_book_105 : decode cX10_book 105 = .ok (.goto (-27), 3) := dk_167 255 229 (dk_at dksX10_book_4 11 rfl rfl)
theorem dX10_book_108 : decode cX10_book 108 = .ok (.aload_n 0, 1) := dk_42 (dk_at dksX10_book_4 14 rfl rfl)
theorem dX10_book_109 : decode cX10_book 109 = .ok (.getfield 136, 3) := dk_180 0 136 (dk_at dksX10_book_4 15 rfl rfl)
theorem dX10_book_112 : decode cX10_book 112 = .ok (.iconst 0, 1) := dk_3 (dk_at dksX10_book_4 18 rfl rfl)
theorem dX10_book_113 : decode cX10_book 113 = .ok (.iload_n 3, 1) := dk_29 (dk_at dksX10_book_4 19 rfl rfl)
theorem dX10_book_114 : decode cX10_book 114 = .ok (.iastore, 1) := dk_79 (dk_at dksX10_book_4 20 rfl rfl)
theorem dX10_book_115 : decode cX10_book 115 = .ok (.aload_n 0, 1) := dk_42 (dk_at dksX10_book_4 21 rfl rfl)
theorem dX10_book_116 : decode cX10_book 116 = .ok (.getfield 136, 3) := dk_180 0 136 (dk_at dksX10_book_5 0 rfl rfl)
theorem dX10_book_119 : decode cX10_book 119 = .ok (.iconst 1, 1) := dk_4 (dk_at dksX10_book_5 3 rfl rfl)
theorem dX10_book_120 : decode cX10_book 120 = .ok (.iload_n 2, 1) := dk_28 (dk_at dksX10_book_5 4 rfl rfl)
theorem dX10_book_121 : decode cX10_book 121 = .ok (.iastore, 1) := dk_79 (dk_at dksX10_book_5 5 rfl rfl)
theorem dX10_book_122 : decode cX10_book 122 = .ok (.aload_n 0, 1) := dk_42 (dk_at dksX10_book_5 6 rfl rfl)
theorem dX10_book_123 : decode cX10_book 123 = .ok (.getfield 136, 3) := dk_180 0 136 (dk_at dksX10_book_5 7 rfl rfl)
theorem dX10_book_126 : decode cX10_book 126 = .ok (.iconst 2, 1) := dk_5 (dk_at dksX10_book_5 10 rfl rfl)
theorem dX10_book_127 : decode cX10_book 127 = .ok (.aload_n 0, 1) := dk_42 (dk_at dksX10_book_5 11 rfl rfl)
theorem dX10_book_128 : decode cX10_book 128 = .ok (.invokevirtual 362, 3) := dk_182 1 106 (dk_at dksX10_book_5 12 rfl rfl)
theorem dX10_book_131 : decode cX10_book 131 = .ok (.iastore, 1) := dk_79 (dk_at dksX10_book_5 15 rfl rfl)
theorem dX10_book_132 : decode cX10_book 132 = .ok (.aload_n 0, 1) := dk_42 (dk_at dksX10_book_5 16 rfl rfl)
theorem dX10_book_133 : decode cX10_book 133 = .ok (.getfield 136, 3) := dk_180 0 136 (dk_at dksX10_book_5 17 rfl rfl)
theorem dX10_book_136 : decode cX10_book 136 = .ok (.iconst 3, 1) := dk_6 (dk_at dksX10_book_5 20 rfl rfl)
theorem dX10_book_137 : decode cX10_book 137 = .ok (.aload_n 0, 1) := dk_42 (dk_at dksX10_book_5 21 rfl rfl)
theorem dX10_book_138 : decode cX10_book 138 = .ok (.getfield 98, 3) := dk_180 0 98 (dk_at dksX10_book_6 0 rfl rfl)
theorem dX10_book_141 : decode cX10_book 141 = .ok (.sipush 2615, 3) := dk_17 10 55 (dk_at dksX10_book_6 3 rfl rfl)
theorem dX10_book_144 : decode cX10_book 144 = .ok (.iaload, 1) := dk_46 (dk_at dksX10_book_6 6 rfl rfl)
theorem dX10_book_145 : decode cX10_book 145 = .ok (.iastore, 1) := dk_79 (dk_at dksX10_book_6 7 rfl rfl)
theorem dX10_book_146 : decode cX10_book 146 = .ok (.aload_n 0, 1) := dk_42 (dk_at dksX10_book_6 8 rfl rfl)
theorem dX10_book_147 : decode cX10_book 147 = .ok (.iconst 1, 1) := dk_4 (dk_at dksX10_book_6 9 rfl rfl)
theorem dX10_book_148 : decode cX10_book 148 = .ok (.putfield 365, 3) := dk_181 1 109 (dk_at dksX10_book_6 10 rfl rfl)
theorem dX10_book_151 : decode cX10_book 151 = .ok (.aload_n 0, 1) := dk_42 (dk_at dksX10_book_6 13 rfl rfl)
theorem dX10_book_152 : decode cX10_book 152 = .ok (.iload_n 1, 1) := dk_27 (dk_at dksX10_book_6 14 rfl rfl)
theorem dX10_book_153 : decode cX10_book 153 = .ok (.iconst 1, 1) := dk_4 (dk_at dksX10_book_6 15 rfl rfl)
theorem dX10_book_154 : decode cX10_book 154 = .ok (.if_icmp .ne 11, 3) := dk_160 0 11 (dk_at dksX10_book_6 16 rfl rfl)
theorem dX10_book_157 : decode cX10_book 157 = .ok (.iload_n 2, 1) := dk_28 (dk_at dksX10_book_6 19 rfl rfl)
theorem dX10_book_158 : decode cX10_book 158 = .ok (.ifCond .le 7, 3) := dk_158 0 7 (dk_at dksX10_book_6 20 rfl rfl)
theorem dX10_book_161 : decode cX10_book 161 = .ok (.iconst 1, 1) := dk_4 (dk_at dksX10_book_6 23 rfl rfl)
theorem dX10_book_162 : decode cX10_book 162 = .ok (.goto 4, 3) := dk_167 0 4 (dk_at dksX10_book_7 0 rfl rfl)
theorem dX10_book_165 : decode cX10_book 165 = .ok (.iconst 0, 1) := dk_3 (dk_at dksX10_book_7 3 rfl rfl)
theorem dX10_book_166 : decode cX10_book 166 = .ok (.invokevirtual 339, 3) := dk_182 1 83 (dk_at dksX10_book_7 4 rfl rfl)
theorem dX10_book_169 : decode cX10_book 169 = .ok (.iload_n 3, 1) := dk_29 (dk_at dksX10_book_7 7 rfl rfl)
theorem dX10_book_170 : decode cX10_book 170 = .ok (.ifCond .ne 7, 3) := dk_154 0 7 (dk_at dksX10_book_7 8 rfl rfl)
theorem dX10_book_173 : decode cX10_book 173 = .ok (.iconst (-1), 1) := dk_2 (dk_at dksX10_book_7 11 rfl rfl)
theorem dX10_book_174 : decode cX10_book 174 = .ok (.goto 4, 3) := dk_167 0 4 (dk_at dksX10_book_7 12 rfl rfl)
theorem dX10_book_177 : decode cX10_book 177 = .ok (.iload_n 2, 1) := dk_28 (dk_at dksX10_book_7 15 rfl rfl)
theorem dX10_book_178 : decode cX10_book 178 = .ok (.ireturn, 1) := dk_172 (dk_at dksX10_book_7 16 rfl rfl)
abbrev cX10_readBookLine : ByteArray := prog_23_method_110_code
def yX10_readBookLine : MethodName := ⟨RX10, "readBookLine", "()Z"⟩
def dkwX10_readBookLine_10 : List UInt8 := [182, 0, 186, 153, 0, 7, 4, 167, 0, 4, 3, 172]
abbrev dktX10_readBookLine_10 : List UInt8 := dkwX10_readBookLine_10 ++ []
def dkwX10_readBookLine_9 : List UInt8 := [42, 3, 27, 16, 6, 160, 0, 8, 16, 7, 167, 0, 4, 4, 182, 0, 146, 182, 1, 93, 153, 0, 14, 42]
abbrev dktX10_readBookLine_9 : List UInt8 := dkwX10_readBookLine_9 ++ dktX10_readBookLine_10
def dkwX10_readBookLine_8 : List UInt8 := [167, 0, 4, 3, 62, 42, 28, 6, 96, 29, 153, 0, 14, 42, 4, 17, 2, 88, 182, 0, 146, 167, 0, 20]
abbrev dktX10_readBookLine_8 : List UInt8 := dkwX10_readBookLine_8 ++ dktX10_readBookLine_9
def dkwX10_readBookLine_7 : List UInt8 := [167, 0, 4, 3, 172, 27, 5, 159, 0, 14, 27, 6, 159, 0, 9, 27, 16, 7, 160, 0, 7, 4]
abbrev dktX10_readBookLine_7 : List UInt8 := dkwX10_readBookLine_7 ++ dktX10_readBookLine_8
def dkwX10_readBookLine_6 : List UInt8 := [159, 0, 8, 27, 8, 160, 0, 24, 42, 28, 182, 1, 97, 153, 0, 14, 42, 182, 0, 186, 153, 0, 7, 4]
abbrev dktX10_readBookLine_6 : List UInt8 := dkwX10_readBookLine_6 ++ dktX10_readBookLine_7
def dkwX10_readBookLine_5 : List UInt8 := [42, 28, 5, 96, 42, 3, 17, 3, 231, 182, 0, 146, 182, 1, 93, 154, 0, 5, 3, 172, 27, 7]
abbrev dktX10_readBookLine_5 : List UInt8 := dkwX10_readBookLine_5 ++ dktX10_readBookLine_6
def dkwX10_readBookLine_4 : List UInt8 := [162, 0, 19, 42, 28, 4, 96, 42, 182, 1, 90, 182, 1, 93, 154, 0, 5, 3, 172, 27, 7, 159, 0, 23]
abbrev dktX10_readBookLine_4 : List UInt8 := dkwX10_readBookLine_4 ++ dktX10_readBookLine_5
def dkwX10_readBookLine_3 : List UInt8 := [180, 0, 133, 28, 4, 96, 3, 79, 42, 180, 0, 133, 28, 5, 96, 3, 79, 42, 182, 0, 82, 27, 16, 6]
abbrev dktX10_readBookLine_3 : List UInt8 := dkwX10_readBookLine_3 ++ dktX10_readBookLine_4
def dkwX10_readBookLine_2 : List UInt8 := [160, 0, 9, 42, 7, 182, 0, 72, 172, 7, 42, 180, 1, 87, 104, 61, 42, 180, 0, 133, 28, 27, 79, 42]
abbrev dktX10_readBookLine_2 : List UInt8 := dkwX10_readBookLine_2 ++ dktX10_readBookLine_3
def dkwX10_readBookLine_1 : List UInt8 := [132, 2, 1, 167, 255, 235, 27, 2, 160, 0, 9, 42, 4, 182, 0, 72, 172, 42, 180, 1, 87, 16, 40]
abbrev dktX10_readBookLine_1 : List UInt8 := dkwX10_readBookLine_1 ++ dktX10_readBookLine_2
def dkwX10_readBookLine_0 : List UInt8 := [2, 60, 3, 61, 28, 16, 7, 163, 0, 21, 42, 6, 28, 96, 182, 0, 168, 153, 0, 5, 28, 60]
abbrev dktX10_readBookLine_0 : List UInt8 := dkwX10_readBookLine_0 ++ dktX10_readBookLine_1
theorem dksX10_readBookLine_0 : cX10_readBookLine.data.toList.drop 0 = dktX10_readBookLine_0 := by decide +kernel
theorem dksX10_readBookLine_1 : cX10_readBookLine.data.toList.drop 22 = dktX10_readBookLine_1 := dk_seg dksX10_readBookLine_0 22 rfl rfl
theorem dksX10_readBookLine_2 : cX10_readBookLine.data.toList.drop 45 = dktX10_readBookLine_2 := dk_seg dksX10_readBookLine_1 23 rfl rfl
theorem dksX10_readBookLine_3 : cX10_readBookLine.data.toList.drop 69 = dktX10_readBookLine_3 := dk_seg dksX10_readBookLine_2 24 rfl rfl
theorem dksX10_readBookLine_4 : cX10_readBookLine.data.toList.drop 93 = dktX10_readBookLine_4 := dk_seg dksX10_readBookLine_3 24 rfl rfl
theorem dksX10_readBookLine_5 : cX10_readBookLine.data.toList.drop 117 = dktX10_readBookLine_5 := dk_seg dksX10_readBookLine_4 24 rfl rfl
theorem dksX10_readBookLine_6 : cX10_readBookLine.data.toList.drop 139 = dktX10_readBookLine_6 := dk_seg dksX10_readBookLine_5 22 rfl rfl
theorem dksX10_readBookLine_7 : cX10_readBookLine.data.toList.drop 163 = dktX10_readBookLine_7 := dk_seg dksX10_readBookLine_6 24 rfl rfl
theorem dksX10_readBookLine_8 : cX10_readBookLine.data.toList.drop 185 = dktX10_readBookLine_8 := dk_seg dksX10_readBookLine_7 22 rfl rfl
theorem dksX10_readBookLine_9 : cX10_readBookLine.data.toList.drop 209 = dktX10_readBookLine_9 := dk_seg dksX10_readBookLine_8 24 rfl rfl
theorem dksX10_readBookLine_10 : cX10_readBookLine.data.toList.drop 233 = dktX10_readBookLine_10 := dk_seg dksX10_readBookLine_9 24 rfl rfl
theorem dX10_readBookLine_0 : decode cX10_readBookLine 0 = .ok (.iconst (-1), 1) := dk_2 (dk_at dksX10_readBookLine_0 0 rfl rfl)
theorem dX10_readBookLine_1 : decode cX10_readBookLine 1 = .ok (.istore_n 1, 1) := dk_60 (dk_at dksX10_readBookLine_0 1 rfl rfl)
theorem dX10_readBookLine_2 : decode cX10_readBookLine 2 = .ok (.iconst 0, 1) := dk_3 (dk_at dksX10_readBookLine_0 2 rfl rfl)
theorem dX10_readBookLine_3 : decode cX10_readBookLine 3 = .ok (.istore_n 2, 1) := dk_61 (dk_at dksX10_readBookLine_0 3 rfl rfl)
theorem dX10_readBookLine_4 : decode cX10_readBookLine 4 = .ok (.iload_n 2, 1) := dk_28 (dk_at dksX10_readBookLine_0 4 rfl rfl)
theorem dX10_readBookLine_5 : decode cX10_readBookLine 5 = .ok (.bipush 7, 2) := dk_16 7 (dk_at dksX10_readBookLine_0 5 rfl rfl)
theorem dX10_readBookLine_7 : decode cX10_readBookLine 7 = .ok (.if_icmp .gt 21, 3) := dk_163 0 21 (dk_at dksX10_readBookLine_0 7 rfl rfl)
theorem dX10_readBookLine_10 : decode cX10_readBookLine 10 = .ok (.aload_n 0, 1) := dk_42 (dk_at dksX10_readBookLine_0 10 rfl rfl)
theorem dX10_readBookLine_11 : decode cX10_readBookLine 11 = .ok (.iconst 3, 1) := dk_6 (dk_at dksX10_readBookLine_0 11 rfl rfl)
theorem dX10_readBookLine_12 : decode cX10_readBookLine 12 = .ok (.iload_n 2, 1) := dk_28 (dk_at dksX10_readBookLine_0 12 rfl rfl)
theorem dX10_readBookLine_13 : decode cX10_readBookLine 13 = .ok (.iadd, 1) := dk_96 (dk_at dksX10_readBookLine_0 13 rfl rfl)
theorem dX10_readBookLine_14 : decode cX10_readBookLine 14 = .ok (.invokevirtual 168, 3) := dk_182 0 168 (dk_at dksX10_readBookLine_0 14 rfl rfl)
theorem dX10_readBookLine_17 : decode cX10_readBookLine 17 = .ok (.ifCond .eq 5, 3) := dk_153 0 5 (dk_at dksX10_readBookLine_0 17 rfl rfl)
theorem dX10_readBookLine_20 : decode cX10_readBookLine 20 = .ok (.iload_n 2, 1) := dk_28 (dk_at dksX10_readBookLine_0 20 rfl rfl)
theorem dX10_readBookLine_21 : decode cX10_readBookLine 21 = .ok (.istore_n 1, 1) := dk_60 (dk_at dksX10_readBookLine_0 21 rfl rfl)
theorem dX10_readBookLine_22 : decode cX10_readBookLine 22 = .ok (.iinc 2 1, 3) := dk_132 2 1 (dk_at dksX10_readBookLine_1 0 rfl rfl)
theorem dX10_readBookLine_25 : decode cX10_readBookLine 25 = .ok (.goto (-21), 3) := dk_167 255 235 (dk_at dksX10_readBookLine_1 3 rfl rfl)
theorem dX10_readBookLine_28 : decode cX10_readBookLine 28 = .ok (.iload_n 1, 1) := dk_27 (dk_at dksX10_readBookLine_1 6 rfl rfl)
theorem dX10_readBookLine_29 : decode cX10_readBookLine 29 = .ok (.iconst (-1), 1) := dk_2 (dk_at dksX10_readBookLine_1 7 rfl rfl)
theorem dX10_readBookLine_30 : decode cX10_readBookLine 30 = .ok (.if_icmp .ne 9, 3) := dk_160 0 9 (dk_at dksX10_readBookLine_1 8 rfl rfl)
theorem dX10_readBookLine_33 : decode cX10_readBookLine 33 = .ok (.aload_n 0, 1) := dk_42 (dk_at dksX10_readBookLine_1 11 rfl rfl)
theorem dX10_readBookLine_34 : decode cX10_readBookLine 34 = .ok (.iconst 1, 1) := dk_4 (dk_at dksX10_readBookLine_1 12 rfl rfl)
theorem dX10_readBookLine_35 : decode cX10_readBookLine 35 = .ok (.invokevirtual 72, 3) := dk_182 0 72 (dk_at dksX10_readBookLine_1 13 rfl rfl)
theorem dX10_readBookLine_38 : decode cX10_readBookLine 38 = .ok (.ireturn, 1) := dk_172 (dk_at dksX10_readBookLine_1 16 rfl rfl)
theorem dX10_readBookLine_39 : decode cX10_readBookLine 39 = .ok (.aload_n 0, 1) := dk_42 (dk_at dksX10_readBookLine_1 17 rfl rfl)
theorem dX10_readBookLine_40 : decode cX10_readBookLine 40 = .ok (.getfield 343, 3) := dk_180 1 87 (dk_at dksX10_readBookLine_1 18 rfl rfl)
theorem dX10_readBookLine_43 : decode cX10_readBookLine 43 = .ok (.bipush 40, 2) := dk_16 40 (dk_at dksX10_readBookLine_1 21 rfl rfl)
theorem dX10_readBookLine_45 : decode cX10_readBookLine 45 = .ok (.if_icmp .ne 9, 3) := dk_160 0 9 (dk_at dksX10_readBookLine_2 0 rfl rfl)
theorem dX10_readBookLine_48 : decode cX10_readBookLine 48 = .ok (.aload_n 0, 1) := dk_42 (dk_at dksX10_readBookLine_2 3 rfl rfl)
theorem dX10_readBookLine_49 : decode cX10_readBookLine 49 = .ok (.iconst 4, 1) := dk_7 (dk_at dksX10_readBookLine_2 4 rfl rfl)
theorem dX10_readBookLine_50 : decode cX10_readBookLine 50 = .ok (.invokevirtual 72, 3) := dk_182 0 72 (dk_at dksX10_readBookLine_2 5 rfl rfl)
theorem dX10_readBookLine_53 : decode cX10_readBookLine 53 = .ok (.ireturn, 1) := dk_172 (dk_at dksX10_readBookLine_2 8 rfl rfl)
theorem dX10_readBookLine_54 : decode cX10_readBookLine 54 = .ok (.iconst 4, 1) := dk_7 (dk_at dksX10_readBookLine_2 9 rfl rfl)
theorem dX10_readBookLine_55 : decode cX10_readBookLine 55 = .ok (.aload_n 0, 1) := dk_42 (dk_at dksX10_readBookLine_2 10 rfl rfl)
theorem dX10_readBookLine_56 : decode cX10_readBookLine 56 = .ok (.getfield 343, 3) := dk_180 1 87 (dk_at dksX10_readBookLine_2 11 rfl rfl)
theorem dX10_readBookLine_59 : decode cX10_readBookLine 59 = .ok (.imul, 1) := dk_104 (dk_at dksX10_readBookLine_2 14 rfl rfl)
theorem dX10_readBookLine_60 : decode cX10_readBookLine 60 = .ok (.istore_n 2, 1) := dk_61 (dk_at dksX10_readBookLine_2 15 rfl rfl)
theorem dX10_readBookLine_61 : decode cX10_readBookLine 61 = .ok (.aload_n 0, 1) := dk_42 (dk_at dksX10_readBookLine_2 16 rfl rfl)
theorem dX10_readBookLine_62 : decode cX10_readBookLine 62 = .ok (.getfield 133, 3) := dk_180 0 133 (dk_at dksX10_readBookLine_2 17 rfl rfl)
theorem dX10_readBookLine_65 : decode cX10_readBookLine 65 = .ok (.iload_n 2, 1) := dk_28 (dk_at dksX10_readBookLine_2 20 rfl rfl)
theorem dX10_readBookLine_66 : decode cX10_readBookLine 66 = .ok (.iload_n 1, 1) := dk_27 (dk_at dksX10_readBookLine_2 21 rfl rfl)
theorem dX10_readBookLine_67 : decode cX10_readBookLine 67 = .ok (.iastore, 1) := dk_79 (dk_at dksX10_readBookLine_2 22 rfl rfl)
theorem dX10_readBookLine_68 : decode cX10_readBookLine 68 = .ok (.aload_n 0, 1) := dk_42 (dk_at dksX10_readBookLine_2 23 rfl rfl)
theorem dX10_readBookLine_69 : decode cX10_readBookLine 69 = .ok (.getfield 133, 3) := dk_180 0 133 (dk_at dksX10_readBookLine_3 0 rfl rfl)
theorem dX10_readBookLine_72 : decode cX10_readBookLine 72 = .ok (.iload_n 2, 1) := dk_28 (dk_at dksX10_readBookLine_3 3 rfl rfl)
theorem dX10_readBookLine_73 : decode cX10_readBookLine 73 = .ok (.iconst 1, 1) := dk_4 (dk_at dksX10_readBookLine_3 4 rfl rfl)
theorem dX10_readBookLine_74 : decode cX10_readBookLine 74 = .ok (.iadd, 1) := dk_96 (dk_at dksX10_readBookLine_3 5 rfl rfl)
theorem dX10_readBookLine_75 : decode cX10_readBookLine 75 = .ok (.iconst 0, 1) := dk_3 (dk_at dksX10_readBookLine_3 6 rfl rfl)
theorem dX10_readBookLine_76 : decode cX10_readBookLine 76 = .ok (.iastore, 1) := dk_79 (dk_at dksX10_readBookLine_3 7 rfl rfl)
theorem dX10_readBookLine_77 : decode cX10_readBookLine 77 = .ok (.aload_n 0, 1) := dk_42 (dk_at dksX10_readBookLine_3 8 rfl rfl)
theorem dX10_readBookLine_78 : decode cX10_readBookLine 78 = .ok (.getfield 133, 3) := dk_180 0 133 (dk_at dksX10_readBookLine_3 9 rfl rfl)
theorem dX10_readBookLine_81 : decode cX10_readBookLine 81 = .ok (.iload_n 2, 1) := dk_28 (dk_at dksX10_readBookLine_3 12 rfl rfl)
theorem dX10_readBookLine_82 : decode cX10_readBookLine 82 = .ok (.iconst 2, 1) := dk_5 (dk_at dksX10_readBookLine_3 13 rfl rfl)
theorem dX10_readBookLine_83 : decode cX10_readBookLine 83 = .ok (.iadd, 1) := dk_96 (dk_at dksX10_readBookLine_3 14 rfl rfl)
theorem dX10_readBookLine_84 : decode cX10_readBookLine 84 = .ok (.iconst 0, 1) := dk_3 (dk_at dksX10_readBookLine_3 15 rfl rfl)
theorem dX10_readBookLine_85 : decode cX10_readBookLine 85 = .ok (.iastore, 1) := dk_79 (dk_at dksX10_readBookLine_3 16 rfl rfl)
theorem dX10_readBookLine_86 : decode cX10_readBookLine 86 = .ok (.aload_n 0, 1) := dk_42 (dk_at dksX10_readBookLine_3 17 rfl rfl)
theorem dX10_readBookLine_87 : decode cX10_readBookLine 87 = .ok (.invokevirtual 82, 3) := dk_182 0 82 (dk_at dksX10_readBookLine_3 18 rfl rfl)
theorem dX10_readBookLine_90 : decode cX10_readBookLine 90 = .ok (.iload_n 1, 1) := dk_27 (dk_at dksX10_readBookLine_3 21 rfl rfl)
theorem dX10_readBookLine_91 : decode cX10_readBookLine 91 = .ok (.bipush 6, 2) := dk_16 6 (dk_at dksX10_readBookLine_3 22 rfl rfl)
theorem dX10_readBookLine_93 : decode cX10_readBookLine 93 = .ok (.if_icmp .ge 19, 3) := dk_162 0 19 (dk_at dksX10_readBookLine_4 0 rfl rfl)
theorem dX10_readBookLine_96 : decode cX10_readBookLine 96 = .ok (.aload_n 0, 1) := dk_42 (dk_at dksX10_readBookLine_4 3 rfl rfl)
theorem dX10_readBookLine_97 : decode cX10_readBookLine 97 = .ok (.iload_n 2, 1) := dk_28 (dk_at dksX10_readBookLine_4 4 rfl rfl)
theorem dX10_readBookLine_98 : decode cX10_readBookLine 98 = .ok (.iconst 1, 1) := dk_4 (dk_at dksX10_readBookLine_4 5 rfl rfl)
theorem dX10_readBookLine_99 : decode cX10_readBookLine 99 = .ok (.iadd, 1) := dk_96 (dk_at dksX10_readBookLine_4 6 rfl rfl)
theorem dX10_readBookLine_100 : decode cX10_readBookLine 100 = .ok (.aload_n 0, 1) := dk_42 (dk_at dksX10_readBookLine_4 7 rfl rfl)
theorem dX10_readBookLine_101 : decode cX10_readBookLine 101 = .ok (.invokevirtual 346, 3) := dk_182 1 90 (dk_at dksX10_readBookLine_4 8 rfl rfl)
theorem dX10_readBookLine_104 : decode cX10_readBookLine 104 = .ok (.invokevirtual 349, 3) := dk_182 1 93 (dk_at dksX10_readBookLine_4 11 rfl rfl)
theorem dX10_readBookLine_107 : decode cX10_readBookLine 107 = .ok (.ifCond .ne 5, 3) := dk_154 0 5 (dk_at dksX10_readBookLine_4 14 rfl rfl)
theorem dX10_readBookLine_110 : decode cX10_readBookLine 110 = .ok (.iconst 0, 1) := dk_3 (dk_at dksX10_readBookLine_4 17 rfl rfl)
theorem dX10_readBookLine_111 : decode cX10_readBookLine 111 = .ok (.ireturn, 1) := dk_172 (dk_at dksX10_readBookLine_4 18 rfl rfl)
theorem dX10_readBookLine_112 : decode cX10_readBookLine 112 = .ok (.iload_n 1, 1) := dk_27 (dk_at dksX10_readBookLine_4 19 rfl rfl)
theorem dX10_readBookLine_113 : decode cX10_readBookLine 113 = .ok (.iconst 4, 1) := dk_7 (dk_at dksX10_readBookLine_4 20 rfl rfl)
theorem dX10_readBookLine_114 : decode cX10_readBookLine 114 = .ok (.if_icmp .eq 23, 3) := dk_159 0 23 (dk_at dksX10_readBookLine_4 21 rfl rfl)
theorem dX10_readBookLine_117 : decode cX10_readBookLine 117 = .ok (.aload_n 0, 1) := dk_42 (dk_at dksX10_readBookLine_5 0 rfl rfl)
theorem dX10_readBookLine_118 : decode cX10_readBookLine 118 = .ok (.iload_n 2, 1) := dk_28 (dk_at dksX10_readBookLine_5 1 rfl rfl)
theorem dX10_readBookLine_119 : decode cX10_readBookLine 119 = .ok (.iconst 2, 1) := dk_5 (dk_at dksX10_readBookLine_5 2 rfl rfl)
theorem dX10_readBookLine_120 : decode cX10_readBookLine 120 = .ok (.iadd, 1) := dk_96 (dk_at dksX10_readBookLine_5 3 rfl rfl)
theorem dX10_readBookLine_121 : decode cX10_readBookLine 121 = .ok (.aload_n 0, 1) := dk_42 (dk_at dksX10_readBookLine_5 4 rfl rfl)
theorem dX10_readBookLine_122 : decode cX10_readBookLine 122 = .ok (.iconst 0, 1) := dk_3 (dk_at dksX10_readBookLine_5 5 rfl rfl)
theorem dX10_readBookLine_123 : decode cX10_readBookLine 123 = .ok (.sipush 999, 3) := dk_17 3 231 (dk_at dksX10_readBookLine_5 6 rfl rfl)
theorem dX10_readBookLine_126 : decode cX10_readBookLine 126 = .ok (.invokevirtual 146, 3) := dk_182 0 146 (dk_at dksX10_readBookLine_5 9 rfl rfl)
theorem dX10_readBookLine_129 : decode cX10_readBookLine 129 = .ok (.invokevirtual 349, 3) := dk_182 1 93 (dk_at dksX10_readBookLine_5 12 rfl rfl)
theorem dX10_readBookLine_132 : decode cX10_readBookLine 132 = .ok (.ifCond .ne 5, 3) := dk_154 0 5 (dk_at dksX10_readBookLine_5 15 rfl rfl)
theorem dX10_readBookLine_135 : decode cX10_readBookLine 135 = .ok (.iconst 0, 1) := dk_3 (dk_at dksX10_readBookLine_5 18 rfl rfl)
theorem dX10_readBookLine_136 : decode cX10_readBookLine 136 = .ok (.ireturn, 1) := dk_172 (dk_at dksX10_readBookLine_5 19 rfl rfl)
theorem dX10_readBookLine_137 : decode cX10_readBookLine 137 = .ok (.iload_n 1, 1) := dk_27 (dk_at dksX10_readBookLine_5 20 rfl rfl)
theorem dX10_readBookLine_138 : decode cX10_readBookLine 138 = .ok (.iconst 4, 1) := dk_7 (dk_at dksX10_readBookLine_5 21 rfl rfl)
theorem dX10_readBookLine_139 : decode cX10_readBookLine 139 = .ok (.if_icmp .eq 8, 3) := dk_159 0 8 (dk_at dksX10_readBookLine_6 0 rfl rfl)
theorem dX10_readBookLine_142 : decode cX10_readBookLine 142 = .ok (.iload_n 1, 1) := dk_27 (dk_at dksX10_readBookLine_6 3 rfl rfl)
theorem dX10_readBookLine_143 : decode cX10_readBookLine 143 = .ok (.iconst 5, 1) := dk_8 (dk_at dksX10_readBookLine_6 4 rfl rfl)
theorem dX10_readBookLine_144 : decode cX10_readBookLine 144 = .ok (.if_icmp .ne 24, 3) := dk_160 0 24 (dk_at dksX10_readBookLine_6 5 rfl rfl)
theorem dX10_readBookLine_147 : decode cX10_readBookLine 147 = .ok (.aload_n 0, 1) := dk_42 (dk_at dksX10_readBookLine_6 8 rfl rfl)
theorem dX10_readBookLine_148 : decode cX10_readBookLine 148 = .ok (.iload_n 2, 1) := dk_28 (dk_at dksX10_readBookLine_6 9 rfl rfl)
theorem dX10_readBookLine_149 : decode cX10_readBookLine 149 = .ok (.invokevirtual 353, 3) := dk_182 1 97 (dk_at dksX10_readBookLine_6 10 rfl rfl)
theorem dX10_readBookLine_152 : decode cX10_readBookLine 152 = .ok (.ifCond .eq 14, 3) := dk_153 0 14 (dk_at dksX10_readBookLine_6 13 rfl rfl)
theorem dX10_readBookLine_155 : decode cX10_readBookLine 155 = .ok (.aload_n 0, 1) := dk_42 (dk_at dksX10_readBookLine_6 16 rfl rfl)
theorem dX10_readBookLine_156 : decode cX10_readBookLine 156 = .ok (.invokevirtual 186, 3) := dk_182 0 186 (dk_at dksX10_readBookLine_6 17 rfl rfl)
theorem dX10_readBookLine_159 : decode cX10_readBookLine 159 = .ok (.ifCond .eq 7, 3) := dk_153 0 7 (dk_at dksX10_readBookLine_6 20 rfl rfl)
theorem dX10_readBookLine_162 : decode cX10_readBookLine 162 = .ok (.iconst 1, 1) := dk_4 (dk_at dksX10_readBookLine_6 23 rfl rfl)
theorem dX10_readBookLine_163 : decode cX10_readBookLine 163 = .ok (.goto 4, 3) := dk_167 0 4 (dk_at dksX10_readBookLine_7 0 rfl rfl)
theorem dX10_readBookLine_166 : decode cX10_readBookLine 166 = .ok (.iconst 0, 1) := dk_3 (dk_at dksX10_readBookLine_7 3 rfl rfl)
theorem dX10_readBookLine_167 : decode cX10_readBookLine 167 = .ok (.ireturn, 1) := dk_172 (dk_at dksX10_readBookLine_7 4 rfl rfl)
theorem dX10_readBookLine_168 : decode cX10_readBookLine 168 = .ok (.iload_n 1, 1) := dk_27 (dk_at dksX10_readBookLine_7 5 rfl rfl)
theorem dX10_readBookLine_169 : decode cX10_readBookLine 169 = .ok (.iconst 2, 1) := dk_5 (dk_at dksX10_readBookLine_7 6 rfl rfl)
theorem dX10_readBookLine_170 : decode cX10_readBookLine 170 = .ok (.if_icmp .eq 14, 3) := dk_159 0 14 (dk_at dksX10_readBookLine_7 7 rfl rfl)
theorem dX10_readBookLine_173 : decode cX10_readBookLine 173 = .ok (.iload_n 1, 1) := dk_27 (dk_at dksX10_readBookLine_7 10 rfl rfl)
theorem dX10_readBookLine_174 : decode cX10_readBookLine 174 = .ok (.iconst 3, 1) := dk_6 (dk_at dksX10_readBookLine_7 11 rfl rfl)
theorem dX10_readBookLine_175 : decode cX10_readBookLine 175 = .ok (.if_icmp .eq 9, 3) := dk_159 0 9 (dk_at dksX10_readBookLine_7 12 rfl rfl)
theorem dX10_readBookLine_178 : decode cX10_readBookLine 178 = .ok (.iload_n 1, 1) := dk_27 (dk_at dksX10_readBookLine_7 15 rfl rfl)
theorem dX10_readBookLine_179 : decode cX10_readBookLine 179 = .ok (.bipush 7, 2) := dk_16 7 (dk_at dksX10_readBookLine_7 16 rfl rfl)
theorem dX10_readBookLine_181 : decode cX10_readBookLine 181 = .ok (.if_icmp .ne 7, 3) := dk_160 0 7 (dk_at dksX10_readBookLine_7 18 rfl rfl)
theorem dX10_readBookLine_184 : decode cX10_readBookLine 184 = .ok (.iconst 1, 1) := dk_4 (dk_at dksX10_readBookLine_7 21 rfl rfl)
theorem dX10_readBookLine_185 : decode cX10_readBookLine 185 = .ok (.goto 4, 3) := dk_167 0 4 (dk_at dksX10_readBookLine_8 0 rfl rfl)
theorem dX10_readBookLine_188 : decode cX10_readBookLine 188 = .ok (.iconst 0, 1) := dk_3 (dk_at dksX10_readBookLine_8 3 rfl rfl)
theorem dX10_readBookLine_189 : decode cX10_readBookLine 189 = .ok (.istore_n 3, 1) := dk_62 (dk_at dksX10_readBookLine_8 4 rfl rfl)
theorem dX10_readBookLine_190 : decode cX10_readBookLine 190 = .ok (.aload_n 0, 1) := dk_42 (dk_at dksX10_readBookLine_8 5 rfl rfl)
theorem dX10_readBookLine_191 : decode cX10_readBookLine 191 = .ok (.iload_n 2, 1) := dk_28 (dk_at dksX10_readBookLine_8 6 rfl rfl)
theorem dX10_readBookLine_192 : decode cX10_readBookLine 192 = .ok (.iconst 3, 1) := dk_6 (dk_at dksX10_readBookLine_8 7 rfl rfl)
theorem dX10_readBookLine_193 : decode cX10_readBookLine 193 = .ok (.iadd, 1) := dk_96 (dk_at dksX10_readBookLine_8 8 rfl rfl)
theorem dX10_readBookLine_194 : decode cX10_readBookLine 194 = .ok (.iload_n 3, 1) := dk_29 (dk_at dksX10_readBookLine_8 9 rfl rfl)
theorem dX10_readBookLine_195 : decode cX10_readBookLine 195 = .ok (.ifCond .eq 14, 3) := dk_153 0 14 (dk_at dksX10_readBookLine_8 10 rfl rfl)
theorem dX10_readBookLine_198 : decode cX10_readBookLine 198 = .ok (.aload_n 0, 1) := dk_42 (dk_at dksX10_readBookLine_8 13 rfl rfl)
theorem dX10_readBookLine_199 : decode cX10_readBookLine 199 = .ok (.iconst 1, 1) := dk_4 (dk_at dksX10_readBookLine_8 14 rfl rfl)
theorem dX10_readBookLine_200 : decode cX10_readBookLine 200 = .ok (.sipush 600, 3) := dk_17 2 88 (dk_at dksX10_readBookLine_8 15 rfl rfl)
theorem dX10_readBookLine_203 : decode cX10_readBookLine 203 = .ok (.invokevirtual 146, 3) := dk_182 0 146 (dk_at dksX10_readBookLine_8 18 rfl rfl)
theorem dX10_readBookLine_206 : decode cX10_readBookLine 206 = .ok (.goto 20, 3) := dk_167 0 20 (dk_at dksX10_readBookLine_8 21 rfl rfl)
theorem dX10_readBookLine_209 : decode cX10_readBookLine 209 = .ok (.aload_n 0, 1) := dk_42 (dk_at dksX10_readBookLine_9 0 rfl rfl)
theorem dX10_readBookLine_210 : decode cX10_readBookLine 210 = .ok (.iconst 0, 1) := dk_3 (dk_at dksX10_readBookLine_9 1 rfl rfl)
theorem dX10_readBookLine_211 : decode cX10_readBookLine 211 = .ok (.iload_n 1, 1) := dk_27 (dk_at dksX10_readBookLine_9 2 rfl rfl)
theorem dX10_readBookLine_212 : decode cX10_readBookLine 212 = .ok (.bipush 6, 2) := dk_16 6 (dk_at dksX10_readBookLine_9 3 rfl rfl)
theorem dX10_readBookLine_214 : decode cX10_readBookLine 214 = .ok (.if_icmp .ne 8, 3) := dk_160 0 8 (dk_at dksX10_readBookLine_9 5 rfl rfl)
theorem dX10_readBookLine_217 : decode cX10_readBookLine 217 = .ok (.bipush 7, 2) := dk_16 7 (dk_at dksX10_readBookLine_9 8 rfl rfl)
theorem dX10_readBookLine_219 : decode cX10_readBookLine 219 = .ok (.goto 4, 3) := dk_167 0 4 (dk_at dksX10_readBookLine_9 10 rfl rfl)
theorem dX10_readBookLine_222 : decode cX10_readBookLine 222 = .ok (.iconst 1, 1) := dk_4 (dk_at dksX10_readBookLine_9 13 rfl rfl)
theorem dX10_readBookLine_223 : decode cX10_readBookLine 223 = .ok (.invokevirtual 146, 3) := dk_182 0 146 (dk_at dksX10_readBookLine_9 14 rfl rfl)
theorem dX10_readBookLine_226 : decode cX10_readBookLine 226 = .ok (.invokevirtual 349, 3) := dk_182 1 93 (dk_at dksX10_readBookLine_9 17 rfl rfl)
theorem dX10_readBookLine_229 : decode cX10_readBookLine 229 = .ok (.ifCond .eq 14, 3) := dk_153 0 14 (dk_at dksX10_readBookLine_9 20 rfl rfl)
theorem dX10_readBookLine_232 : decode cX10_readBookLine 232 = .ok (.aload_n 0, 1) := dk_42 (dk_at dksX10_readBookLine_9 23 rfl rfl)
theorem dX10_readBookLine_233 : decode cX10_readBookLine 233 = .ok (.invokevirtual 186, 3) := dk_182 0 186 (dk_at dksX10_readBookLine_10 0 rfl rfl)
theorem dX10_readBookLine_236 : decode cX10_readBookLine 236 = .ok (.ifCond .eq 7, 3) := dk_153 0 7 (dk_at dksX10_readBookLine_10 3 rfl rfl)
theorem dX10_readBookLine_239 : decode cX10_readBookLine 239 = .ok (.iconst 1, 1) := dk_4 (dk_at dksX10_readBookLine_10 6 rfl rfl)
theorem dX10_readBookLine_240 : decode cX10_readBookLine 240 = .ok (.goto 4, 3) := dk_167 0 4 (dk_at dksX10_readBookLine_10 7 rfl rfl)
theorem dX10_readBookLine_243 : decode cX10_readBookLine 243 = .ok (.iconst 0, 1) := dk_3 (dk_at dksX10_readBookLine_10 10 rfl rfl)
theorem dX10_readBookLine_244 : decode cX10_readBookLine 244 = .ok (.ireturn, 1) := dk_172 (dk_at dksX10_readBookLine_10 11 rfl rfl)
abbrev cX10_readRowName : ByteArray := prog_23_method_108_code
def yX10_readRowName : MethodName := ⟨RX10, "readRowName", "()Z"⟩
def dkwX10_readRowName_2 : List UInt8 := [42, 182, 0, 82, 4, 172]
abbrev dktX10_readRowName_2 : List UInt8 := dkwX10_readRowName_2 ++ []
def dkwX10_readRowName_1 : List UInt8 := [42, 180, 0, 43, 184, 0, 154, 181, 0, 79, 42, 180, 0, 79, 2, 160, 0, 9, 42, 6, 182, 0, 72, 172]
abbrev dktX10_readRowName_1 : List UInt8 := dkwX10_readRowName_1 ++ dktX10_readRowName_2
def dkwX10_readRowName_0 : List UInt8 := [42, 182, 0, 150, 154, 0, 9, 42, 4, 182, 0, 72, 172, 42, 42, 180, 0, 116, 42, 180, 0, 98, 3, 46]
abbrev dktX10_readRowName_0 : List UInt8 := dkwX10_readRowName_0 ++ dktX10_readRowName_1
theorem dksX10_readRowName_0 : cX10_readRowName.data.toList.drop 0 = dktX10_readRowName_0 := by decide +kernel
theorem dksX10_readRowName_1 : cX10_readRowName.data.toList.drop 24 = dktX10_readRowName_1 := dk_seg dksX10_readRowName_0 24 rfl rfl
theorem dksX10_readRowName_2 : cX10_readRowName.data.toList.drop 48 = dktX10_readRowName_2 := dk_seg dksX10_readRowName_1 24 rfl rfl
theorem dX10_readRowName_0 : decode cX10_readRowName 0 = .ok (.aload_n 0, 1) := dk_42 (dk_at dksX10_readRowName_0 0 rfl rfl)
theorem dX10_readRowName_1 : decode cX10_readRowName 1 = .ok (.invokevirtual 150, 3) := dk_182 0 150 (dk_at dksX10_readRowName_0 1 rfl rfl)
theorem dX10_readRowName_4 : decode cX10_readRowName 4 = .ok (.ifCond .ne 9, 3) := dk_154 0 9 (dk_at dksX10_readRowName_0 4 rfl rfl)
theorem dX10_readRowName_7 : decode cX10_readRowName 7 = .ok (.aload_n 0, 1) := dk_42 (dk_at dksX10_readRowName_0 7 rfl rfl)
theorem dX10_readRowName_8 : decode cX10_readRowName 8 = .ok (.iconst 1, 1) := dk_4 (dk_at dksX10_readRowName_0 8 rfl rfl)
theorem dX10_readRowName_9 : decode cX10_readRowName 9 = .ok (.invokevirtual 72, 3) := dk_182 0 72 (dk_at dksX10_readRowName_0 9 rfl rfl)
theorem dX10_readRowName_12 : decode cX10_readRowName 12 = .ok (.ireturn, 1) := dk_172 (dk_at dksX10_readRowName_0 12 rfl rfl)
theorem dX10_readRowName_13 : decode cX10_readRowName 13 = .ok (.aload_n 0, 1) := dk_42 (dk_at dksX10_readRowName_0 13 rfl rfl)
theorem dX10_readRowName_14 : decode cX10_readRowName 14 = .ok (.aload_n 0, 1) := dk_42 (dk_at dksX10_readRowName_0 14 rfl rfl)
theorem dX10_readRowName_15 : decode cX10_readRowName 15 = .ok (.getfield 116, 3) := dk_180 0 116 (dk_at dksX10_readRowName_0 15 rfl rfl)
theorem dX10_readRowName_18 : decode cX10_readRowName 18 = .ok (.aload_n 0, 1) := dk_42 (dk_at dksX10_readRowName_0 18 rfl rfl)
theorem dX10_readRowName_19 : decode cX10_readRowName 19 = .ok (.getfield 98, 3) := dk_180 0 98 (dk_at dksX10_readRowName_0 19 rfl rfl)
theorem dX10_readRowName_22 : decode cX10_readRowName 22 = .ok (.iconst 0, 1) := dk_3 (dk_at dksX10_readRowName_0 22 rfl rfl)
theorem dX10_readRowName_23 : decode cX10_readRowName 23 = .ok (.iaload, 1) := dk_46 (dk_at dksX10_readRowName_0 23 rfl rfl)
theorem dX10_readRowName_24 : decode cX10_readRowName 24 = .ok (.aload_n 0, 1) := dk_42 (dk_at dksX10_readRowName_1 0 rfl rfl)
theorem dX10_readRowName_25 : decode cX10_readRowName 25 = .ok (.getfield 43, 3) := dk_180 0 43 (dk_at dksX10_readRowName_1 1 rfl rfl)
theorem dX10_readRowName_28 : decode cX10_readRowName 28 = .ok (.invokestatic 154, 3) := dk_184 0 154 (dk_at dksX10_readRowName_1 4 rfl rfl)
theorem dX10_readRowName_31 : decode cX10_readRowName 31 = .ok (.putfield 79, 3) := dk_181 0 79 (dk_at dksX10_readRowName_1 7 rfl rfl)
theorem dX10_readRowName_34 : decode cX10_readRowName 34 = .ok (.aload_n 0, 1) := dk_42 (dk_at dksX10_readRowName_1 10 rfl rfl)
theorem dX10_readRowName_35 : decode cX10_readRowName 35 = .ok (.getfield 79, 3) := dk_180 0 79 (dk_at dksX10_readRowName_1 11 rfl rfl)
theorem dX10_readRowName_38 : decode cX10_readRowName 38 = .ok (.iconst (-1), 1) := dk_2 (dk_at dksX10_readRowName_1 14 rfl rfl)
theorem dX10_readRowName_39 : decode cX10_readRowName 39 = .ok (.if_icmp .ne 9, 3) := dk_160 0 9 (dk_at dksX10_readRowName_1 15 rfl rfl)
theorem dX10_readRowName_42 : decode cX10_readRowName 42 = .ok (.aload_n 0, 1) := dk_42 (dk_at dksX10_readRowName_1 18 rfl rfl)
theorem dX10_readRowName_43 : decode cX10_readRowName 43 = .ok (.iconst 3, 1) := dk_6 (dk_at dksX10_readRowName_1 19 rfl rfl)
theorem dX10_readRowName_44 : decode cX10_readRowName 44 = .ok (.invokevirtual 72, 3) := dk_182 0 72 (dk_at dksX10_readRowName_1 20 rfl rfl)
theorem dX10_readRowName_47 : decode cX10_readRowName 47 = .ok (.ireturn, 1) := dk_172 (dk_at dksX10_readRowName_1 23 rfl rfl)
theorem dX10_readRowName_48 : decode cX10_readRowName 48 = .ok (.aload_n 0, 1) := dk_42 (dk_at dksX10_readRowName_2 0 rfl rfl)
theorem dX10_readRowName_49 : decode cX10_readRowName 49 = .ok (.invokevirtual 82, 3) := dk_182 0 82 (dk_at dksX10_readRowName_2 1 rfl rfl)
theorem dX10_readRowName_52 : decode cX10_readRowName 52 = .ok (.iconst 1, 1) := dk_4 (dk_at dksX10_readRowName_2 4 rfl rfl)
theorem dX10_readRowName_53 : decode cX10_readRowName 53 = .ok (.ireturn, 1) := dk_172 (dk_at dksX10_readRowName_2 5 rfl rfl)
abbrev cX10_keep : ByteArray := prog_23_method_107_code
def yX10_keep : MethodName := ⟨RX10, "keep", "(IZ)Z"⟩
def dkwX10_keep_0 : List UInt8 := [28, 153, 0, 13, 42, 180, 0, 133, 27, 42, 180, 0, 79, 79, 28, 172]
abbrev dktX10_keep_0 : List UInt8 := dkwX10_keep_0 ++ []
theorem dksX10_keep_0 : cX10_keep.data.toList.drop 0 = dktX10_keep_0 := by decide +kernel
theorem dX10_keep_0 : decode cX10_keep 0 = .ok (.iload_n 2, 1) := dk_28 (dk_at dksX10_keep_0 0 rfl rfl)
theorem dX10_keep_1 : decode cX10_keep 1 = .ok (.ifCond .eq 13, 3) := dk_153 0 13 (dk_at dksX10_keep_0 1 rfl rfl)
theorem dX10_keep_4 : decode cX10_keep 4 = .ok (.aload_n 0, 1) := dk_42 (dk_at dksX10_keep_0 4 rfl rfl)
theorem dX10_keep_5 : decode cX10_keep 5 = .ok (.getfield 133, 3) := dk_180 0 133 (dk_at dksX10_keep_0 5 rfl rfl)
theorem dX10_keep_8 : decode cX10_keep 8 = .ok (.iload_n 1, 1) := dk_27 (dk_at dksX10_keep_0 8 rfl rfl)
theorem dX10_keep_9 : decode cX10_keep 9 = .ok (.aload_n 0, 1) := dk_42 (dk_at dksX10_keep_0 9 rfl rfl)
theorem dX10_keep_10 : decode cX10_keep 10 = .ok (.getfield 79, 3) := dk_180 0 79 (dk_at dksX10_keep_0 10 rfl rfl)
theorem dX10_keep_13 : decode cX10_keep 13 = .ok (.iastore, 1) := dk_79 (dk_at dksX10_keep_0 13 rfl rfl)
theorem dX10_keep_14 : decode cX10_keep 14 = .ok (.iload_n 2, 1) := dk_28 (dk_at dksX10_keep_0 14 rfl rfl)
theorem dX10_keep_15 : decode cX10_keep 15 = .ok (.ireturn, 1) := dk_172 (dk_at dksX10_keep_0 15 rfl rfl)
abbrev cX10_readOther : ByteArray := prog_23_method_109_code
def yX10_readOther : MethodName := ⟨RX10, "readOthe\x72", "(I)Z"⟩
def dkwX10_readOther_3 : List UInt8 := [182, 0, 72, 172, 42, 182, 0, 82, 4, 172]
abbrev dktX10_readOther_3 : List UInt8 := dkwX10_readOther_3 ++ []
def dkwX10_readOther_2 : List UInt8 := [159, 0, 22, 42, 180, 0, 133, 27, 6, 96, 46, 42, 180, 0, 133, 27, 4, 96, 46, 160, 0, 9, 42, 6]
abbrev dktX10_readOther_2 : List UInt8 := dkwX10_readOther_2 ++ dktX10_readOther_3
def dkwX10_readOther_1 : List UInt8 := [42, 180, 0, 98, 3, 46, 42, 180, 0, 43, 184, 0, 154, 79, 42, 180, 0, 133, 27, 6, 96, 46, 2]
abbrev dktX10_readOther_1 : List UInt8 := dkwX10_readOther_1 ++ dktX10_readOther_2
def dkwX10_readOther_0 : List UInt8 := [42, 182, 0, 150, 154, 0, 9, 42, 4, 182, 0, 72, 172, 42, 180, 0, 133, 27, 6, 96, 42, 180, 0, 116]
abbrev dktX10_readOther_0 : List UInt8 := dkwX10_readOther_0 ++ dktX10_readOther_1
theorem dksX10_readOther_0 : cX10_readOther.data.toList.drop 0 = dktX10_readOther_0 := by decide +kernel
theorem dksX10_readOther_1 : cX10_readOther.data.toList.drop 24 = dktX10_readOther_1 := dk_seg dksX10_readOther_0 24 rfl rfl
theorem dksX10_readOther_2 : cX10_readOther.data.toList.drop 47 = dktX10_readOther_2 := dk_seg dksX10_readOther_1 23 rfl rfl
theorem dksX10_readOther_3 : cX10_readOther.data.toList.drop 71 = dktX10_readOther_3 := dk_seg dksX10_readOther_2 24 rfl rfl
theorem dX10_readOther_0 : decode cX10_readOther 0 = .ok (.aload_n 0, 1) := dk_42 (dk_at dksX10_readOther_0 0 rfl rfl)
theorem dX10_readOther_1 : decode cX10_readOther 1 = .ok (.invokevirtual 150, 3) := dk_182 0 150 (dk_at dksX10_readOther_0 1 rfl rfl)
theorem dX10_readOther_4 : decode cX10_readOther 4 = .ok (.ifCond .ne 9, 3) := dk_154 0 9 (dk_at dksX10_readOther_0 4 rfl rfl)
theorem dX10_readOther_7 : decode cX10_readOther 7 = .ok (.aload_n 0, 1) := dk_42 (dk_at dksX10_readOther_0 7 rfl rfl)
theorem dX10_readOther_8 : decode cX10_readOther 8 = .ok (.iconst 1, 1) := dk_4 (dk_at dksX10_readOther_0 8 rfl rfl)
theorem dX10_readOther_9 : decode cX10_readOther 9 = .ok (.invokevirtual 72, 3) := dk_182 0 72 (dk_at dksX10_readOther_0 9 rfl rfl)
theorem dX10_readOther_12 : decode cX10_readOther 12 = .ok (.ireturn, 1) := dk_172 (dk_at dksX10_readOther_0 12 rfl rfl)
theorem dX10_readOther_13 : decode cX10_readOther 13 = .ok (.aload_n 0, 1) := dk_42 (dk_at dksX10_readOther_0 13 rfl rfl)
theorem dX10_readOther_14 : decode cX10_readOther 14 = .ok (.getfield 133, 3) := dk_180 0 133 (dk_at dksX10_readOther_0 14 rfl rfl)
theorem dX10_readOther_17 : decode cX10_readOther 17 = .ok (.iload_n 1, 1) := dk_27 (dk_at dksX10_readOther_0 17 rfl rfl)
theorem dX10_readOther_18 : decode cX10_readOther 18 = .ok (.iconst 3, 1) := dk_6 (dk_at dksX10_readOther_0 18 rfl rfl)
theorem dX10_readOther_19 : decode cX10_readOther 19 = .ok (.iadd, 1) := dk_96 (dk_at dksX10_readOther_0 19 rfl rfl)
theorem dX10_readOther_20 : decode cX10_readOther 20 = .ok (.aload_n 0, 1) := dk_42 (dk_at dksX10_readOther_0 20 rfl rfl)
theorem dX10_readOther_21 : decode cX10_readOther 21 = .ok (.getfield 116, 3) := dk_180 0 116 (dk_at dksX10_readOther_0 21 rfl rfl)
theorem dX10_readOther_24 : decode cX10_readOther 24 = .ok (.aload_n 0, 1) := dk_42 (dk_at dksX10_readOther_1 0 rfl rfl)
theorem dX10_readOther_25 : decode cX10_readOther 25 = .ok (.getfield 98, 3) := dk_180 0 98 (dk_at dksX10_readOther_1 1 rfl rfl)
theorem dX10_readOther_28 : decode cX10_readOther 28 = .ok (.iconst 0, 1) := dk_3 (dk_at dksX10_readOther_1 4 rfl rfl)
theorem dX10_readOther_29 : decode cX10_readOther 29 = .ok (.iaload, 1) := dk_46 (dk_at dksX10_readOther_1 5 rfl rfl)
theorem dX10_readOther_30 : decode cX10_readOther 30 = .ok (.aload_n 0, 1) := dk_42 (dk_at dksX10_readOther_1 6 rfl rfl)
theorem dX10_readOther_31 : decode cX10_readOther 31 = .ok (.getfield 43, 3) := dk_180 0 43 (dk_at dksX10_readOther_1 7 rfl rfl)
theorem dX10_readOther_34 : decode cX10_readOther 34 = .ok (.invokestatic 154, 3) := dk_184 0 154 (dk_at dksX10_readOther_1 10 rfl rfl)
theorem dX10_readOther_37 : decode cX10_readOther 37 = .ok (.iastore, 1) := dk_79 (dk_at dksX10_readOther_1 13 rfl rfl)
theorem dX10_readOther_38 : decode cX10_readOther 38 = .ok (.aload_n 0, 1) := dk_42 (dk_at dksX10_readOther_1 14 rfl rfl)
theorem dX10_readOther_39 : decode cX10_readOther 39 = .ok (.getfield 133, 3) := dk_180 0 133 (dk_at dksX10_readOther_1 15 rfl rfl)
theorem dX10_readOther_42 : decode cX10_readOther 42 = .ok (.iload_n 1, 1) := dk_27 (dk_at dksX10_readOther_1 18 rfl rfl)
theorem dX10_readOther_43 : decode cX10_readOther 43 = .ok (.iconst 3, 1) := dk_6 (dk_at dksX10_readOther_1 19 rfl rfl)
theorem dX10_readOther_44 : decode cX10_readOther 44 = .ok (.iadd, 1) := dk_96 (dk_at dksX10_readOther_1 20 rfl rfl)
theorem dX10_readOther_45 : decode cX10_readOther 45 = .ok (.iaload, 1) := dk_46 (dk_at dksX10_readOther_1 21 rfl rfl)
theorem dX10_readOther_46 : decode cX10_readOther 46 = .ok (.iconst (-1), 1) := dk_2 (dk_at dksX10_readOther_1 22 rfl rfl)
theorem dX10_readOther_47 : decode cX10_readOther 47 = .ok (.if_icmp .eq 22, 3) := dk_159 0 22 (dk_at dksX10_readOther_2 0 rfl rfl)
theorem dX10_readOther_50 : decode cX10_readOther 50 = .ok (.aload_n 0, 1) := dk_42 (dk_at dksX10_readOther_2 3 rfl rfl)
theorem dX10_readOther_51 : decode cX10_readOther 51 = .ok (.getfield 133, 3) := dk_180 0 133 (dk_at dksX10_readOther_2 4 rfl rfl)
theorem dX10_readOther_54 : decode cX10_readOther 54 = .ok (.iload_n 1, 1) := dk_27 (dk_at dksX10_readOther_2 7 rfl rfl)
theorem dX10_readOther_55 : decode cX10_readOther 55 = .ok (.iconst 3, 1) := dk_6 (dk_at dksX10_readOther_2 8 rfl rfl)
theorem dX10_readOther_56 : decode cX10_readOther 56 = .ok (.iadd, 1) := dk_96 (dk_at dksX10_readOther_2 9 rfl rfl)
theorem dX10_readOther_57 : decode cX10_readOther 57 = .ok (.iaload, 1) := dk_46 (dk_at dksX10_readOther_2 10 rfl rfl)
theorem dX10_readOther_58 : decode cX10_readOther 58 = .ok (.aload_n 0, 1) := dk_42 (dk_at dksX10_readOther_2 11 rfl rfl)
theorem dX10_readOther_59 : decode cX10_readOther 59 = .ok (.getfield 133, 3) := dk_180 0 133 (dk_at dksX10_readOther_2 12 rfl rfl)
theorem dX10_readOther_62 : decode cX10_readOther 62 = .ok (.iload_n 1, 1) := dk_27 (dk_at dksX10_readOther_2 15 rfl rfl)
theorem dX10_readOther_63 : decode cX10_readOther 63 = .ok (.iconst 1, 1) := dk_4 (dk_at dksX10_readOther_2 16 rfl rfl)
theorem dX10_readOther_64 : decode cX10_readOther 64 = .ok (.iadd, 1) := dk_96 (dk_at dksX10_readOther_2 17 rfl rfl)
theorem dX10_readOther_65 : decode cX10_readOther 65 = .ok (.iaload, 1) := dk_46 (dk_at dksX10_readOther_2 18 rfl rfl)
theorem dX10_readOther_66 : decode cX10_readOther 66 = .ok (.if_icmp .ne 9, 3) := dk_160 0 9 (dk_at dksX10_readOther_2 19 rfl rfl)
theorem dX10_readOther_69 : decode cX10_readOther 69 = .ok (.aload_n 0, 1) := dk_42 (dk_at dksX10_readOther_2 22 rfl rfl)
theorem dX10_readOther_70 : decode cX10_readOther 70 = .ok (.iconst 3, 1) := dk_6 (dk_at dksX10_readOther_2 23 rfl rfl)
theorem dX10_readOther_71 : decode cX10_readOther 71 = .ok (.invokevirtual 72, 3) := dk_182 0 72 (dk_at dksX10_readOther_3 0 rfl rfl)
theorem dX10_readOther_74 : decode cX10_readOther 74 = .ok (.ireturn, 1) := dk_172 (dk_at dksX10_readOther_3 3 rfl rfl)
theorem dX10_readOther_75 : decode cX10_readOther 75 = .ok (.aload_n 0, 1) := dk_42 (dk_at dksX10_readOther_3 4 rfl rfl)
theorem dX10_readOther_76 : decode cX10_readOther 76 = .ok (.invokevirtual 82, 3) := dk_182 0 82 (dk_at dksX10_readOther_3 5 rfl rfl)
theorem dX10_readOther_79 : decode cX10_readOther 79 = .ok (.iconst 1, 1) := dk_4 (dk_at dksX10_readOther_3 8 rfl rfl)
theorem dX10_readOther_80 : decode cX10_readOther 80 = .ok (.ireturn, 1) := dk_172 (dk_at dksX10_readOther_3 9 rfl rfl)
abbrev cX10_goBy : ByteArray := prog_23_method_111_code
def yX10_goBy : MethodName := ⟨RX10, "goBy", "(I)I"⟩
def dkwX10_goBy_3 : List UInt8 := [96, 46, 182, 1, 55, 3, 172]
abbrev dktX10_goBy_3 : List UInt8 := dkwX10_goBy_3 ++ []
def dkwX10_goBy_2 : List UInt8 := [42, 28, 42, 180, 0, 133, 27, 4, 96, 46, 42, 180, 0, 133, 27, 5, 96, 46, 42, 180, 0, 133, 27, 6]
abbrev dktX10_goBy_2 : List UInt8 := dkwX10_goBy_2 ++ dktX10_goBy_3
def dkwX10_goBy_1 : List UInt8 := [46, 42, 180, 0, 133, 27, 6, 96, 46, 182, 1, 48, 62, 29, 153, 0, 10, 16, 10, 28, 104, 29, 96, 172]
abbrev dktX10_goBy_1 : List UInt8 := dkwX10_goBy_1 ++ dktX10_goBy_2
def dkwX10_goBy_0 : List UInt8 := [42, 180, 0, 133, 27, 46, 61, 42, 28, 42, 180, 0, 133, 27, 4, 96, 46, 42, 180, 0, 133, 27, 5, 96]
abbrev dktX10_goBy_0 : List UInt8 := dkwX10_goBy_0 ++ dktX10_goBy_1
theorem dksX10_goBy_0 : cX10_goBy.data.toList.drop 0 = dktX10_goBy_0 := by decide +kernel
theorem dksX10_goBy_1 : cX10_goBy.data.toList.drop 24 = dktX10_goBy_1 := dk_seg dksX10_goBy_0 24 rfl rfl
theorem dksX10_goBy_2 : cX10_goBy.data.toList.drop 48 = dktX10_goBy_2 := dk_seg dksX10_goBy_1 24 rfl rfl
theorem dksX10_goBy_3 : cX10_goBy.data.toList.drop 72 = dktX10_goBy_3 := dk_seg dksX10_goBy_2 24 rfl rfl
theorem dX10_goBy_0 : decode cX10_goBy 0 = .ok (.aload_n 0, 1) := dk_42 (dk_at dksX10_goBy_0 0 rfl rfl)
theorem dX10_goBy_1 : decode cX10_goBy 1 = .ok (.getfield 133, 3) := dk_180 0 133 (dk_at dksX10_goBy_0 1 rfl rfl)
theorem dX10_goBy_4 : decode cX10_goBy 4 = .ok (.iload_n 1, 1) := dk_27 (dk_at dksX10_goBy_0 4 rfl rfl)
theorem dX10_goBy_5 : decode cX10_goBy 5 = .ok (.iaload, 1) := dk_46 (dk_at dksX10_goBy_0 5 rfl rfl)
theorem dX10_goBy_6 : decode cX10_goBy 6 = .ok (.istore_n 2, 1) := dk_61 (dk_at dksX10_goBy_0 6 rfl rfl)
theorem dX10_goBy_7 : decode cX10_goBy 7 = .ok (.aload_n 0, 1) := dk_42 (dk_at dksX10_goBy_0 7 rfl rfl)
theorem dX10_goBy_8 : decode cX10_goBy 8 = .ok (.iload_n 2, 1) := dk_28 (dk_at dksX10_goBy_0 8 rfl rfl)
theorem dX10_goBy_9 : decode cX10_goBy 9 = .ok (.aload_n 0, 1) := dk_42 (dk_at dksX10_goBy_0 9 rfl rfl)
theorem dX10_goBy_10 : decode cX10_goBy 10 = .ok (.getfield 133, 3) := dk_180 0 133 (dk_at dksX10_goBy_0 10 rfl rfl)
theorem dX10_goBy_13 : decode cX10_goBy 13 = .ok (.iload_n 1, 1) := dk_27 (dk_at dksX10_goBy_0 13 rfl rfl)
theorem dX10_goBy_14 : decode cX10_goBy 14 = .ok (.iconst 1, 1) := dk_4 (dk_at dksX10_goBy_0 14 rfl rfl)
theorem dX10_goBy_15 : decode cX10_goBy 15 = .ok (.iadd, 1) := dk_96 (dk_at dksX10_goBy_0 15 rfl rfl)
theorem dX10_goBy_16 : decode cX10_goBy 16 = .ok (.iaload, 1) := dk_46 (dk_at dksX10_goBy_0 16 rfl rfl)
theorem dX10_goBy_17 : decode cX10_goBy 17 = .ok (.aload_n 0, 1) := dk_42 (dk_at dksX10_goBy_0 17 rfl rfl)
theorem dX10_goBy_18 : decode cX10_goBy 18 = .ok (.getfield 133, 3) := dk_180 0 133 (dk_at dksX10_goBy_0 18 rfl rfl)
theorem dX10_goBy_21 : decode cX10_goBy 21 = .ok (.iload_n 1, 1) := dk_27 (dk_at dksX10_goBy_0 21 rfl rfl)
theorem dX10_goBy_22 : decode cX10_goBy 22 = .ok (.iconst 2, 1) := dk_5 (dk_at dksX10_goBy_0 22 rfl rfl)
theorem dX10_goBy_23 : decode cX10_goBy 23 = .ok (.iadd, 1) := dk_96 (dk_at dksX10_goBy_0 23 rfl rfl)
theorem dX10_goBy_24 : decode cX10_goBy 24 = .ok (.iaload, 1) := dk_46 (dk_at dksX10_goBy_1 0 rfl rfl)
theorem dX10_goBy_25 : decode cX10_goBy 25 = .ok (.aload_n 0, 1) := dk_42 (dk_at dksX10_goBy_1 1 rfl rfl)
theorem dX10_goBy_26 : decode cX10_goBy 26 = .ok (.getfield 133, 3) := dk_180 0 133 (dk_at dksX10_goBy_1 2 rfl rfl)
theorem dX10_goBy_29 : decode cX10_goBy 29 = .ok (.iload_n 1, 1) := dk_27 (dk_at dksX10_goBy_1 5 rfl rfl)
theorem dX10_goBy_30 : decode cX10_goBy 30 = .ok (.iconst 3, 1) := dk_6 (dk_at dksX10_goBy_1 6 rfl rfl)
theorem dX10_goBy_31 : decode cX10_goBy 31 = .ok (.iadd, 1) := dk_96 (dk_at dksX10_goBy_1 7 rfl rfl)
theorem dX10_goBy_32 : decode cX10_goBy 32 = .ok (.iaload, 1) := dk_46 (dk_at dksX10_goBy_1 8 rfl rfl)
theorem dX10_goBy_33 : decode cX10_goBy 33 = .ok (.invokevirtual 304, 3) := dk_182 1 48 (dk_at dksX10_goBy_1 9 rfl rfl)
theorem dX10_goBy_36 : decode cX10_goBy 36 = .ok (.istore_n 3, 1) := dk_62 (dk_at dksX10_goBy_1 12 rfl rfl)
theorem dX10_goBy_37 : decode cX10_goBy 37 = .ok (.iload_n 3, 1) := dk_29 (dk_at dksX10_goBy_1 13 rfl rfl)
theorem dX10_goBy_38 : decode cX10_goBy 38 = .ok (.ifCond .eq 10, 3) := dk_153 0 10 (dk_at dksX10_goBy_1 14 rfl rfl)
theorem dX10_goBy_41 : decode cX10_goBy 41 = .ok (.bipush 10, 2) := dk_16 10 (dk_at dksX10_goBy_1 17 rfl rfl)
theorem dX10_goBy_43 : decode cX10_goBy 43 = .ok (.iload_n 2, 1) := dk_28 (dk_at dksX10_goBy_1 19 rfl rfl)
theorem dX10_goBy_44 : decode cX10_goBy 44 = .ok (.imul, 1) := dk_104 (dk_at dksX10_goBy_1 20 rfl rfl)
theorem dX10_goBy_45 : decode cX10_goBy 45 = .ok (.iload_n 3, 1) := dk_29 (dk_at dksX10_goBy_1 21 rfl rfl)
theorem dX10_goBy_46 : decode cX10_goBy 46 = .ok (.iadd, 1) := dk_96 (dk_at dksX10_goBy_1 22 rfl rfl)
theorem dX10_goBy_47 : decode cX10_goBy 47 = .ok (.ireturn, 1) := dk_172 (dk_at dksX10_goBy_1 23 rfl rfl)
theorem dX10_goBy_48 : decode cX10_goBy 48 = .ok (.aload_n 0, 1) := dk_42 (dk_at dksX10_goBy_2 0 rfl rfl)
theorem dX10_goBy_49 : decode cX10_goBy 49 = .ok (.iload_n 2, 1) := dk_28 (dk_at dksX10_goBy_2 1 rfl rfl)
theorem dX10_goBy_50 : decode cX10_goBy 50 = .ok (.aload_n 0, 1) := dk_42 (dk_at dksX10_goBy_2 2 rfl rfl)
theorem dX10_goBy_51 : decode cX10_goBy 51 = .ok (.getfield 133, 3) := dk_180 0 133 (dk_at dksX10_goBy_2 3 rfl rfl)
theorem dX10_goBy_54 : decode cX10_goBy 54 = .ok (.iload_n 1, 1) := dk_27 (dk_at dksX10_goBy_2 6 rfl rfl)
theorem dX10_goBy_55 : decode cX10_goBy 55 = .ok (.iconst 1, 1) := dk_4 (dk_at dksX10_goBy_2 7 rfl rfl)
theorem dX10_goBy_56 : decode cX10_goBy 56 = .ok (.iadd, 1) := dk_96 (dk_at dksX10_goBy_2 8 rfl rfl)
theorem dX10_goBy_57 : decode cX10_goBy 57 = .ok (.iaload, 1) := dk_46 (dk_at dksX10_goBy_2 9 rfl rfl)
theorem dX10_goBy_58 : decode cX10_goBy 58 = .ok (.aload_n 0, 1) := dk_42 (dk_at dksX10_goBy_2 10 rfl rfl)
theorem dX10_goBy_59 : decode cX10_goBy 59 = .ok (.getfield 133, 3) := dk_180 0 133 (dk_at dksX10_goBy_2 11 rfl rfl)
theorem dX10_goBy_62 : decode cX10_goBy 62 = .ok (.iload_n 1, 1) := dk_27 (dk_at dksX10_goBy_2 14 rfl rfl)
theorem dX10_goBy_63 : decode cX10_goBy 63 = .ok (.iconst 2, 1) := dk_5 (dk_at dksX10_goBy_2 15 rfl rfl)
theorem dX10_goBy_64 : decode cX10_goBy 64 = .ok (.iadd, 1) := dk_96 (dk_at dksX10_goBy_2 16 rfl rfl)
theorem dX10_goBy_65 : decode cX10_goBy 65 = .ok (.iaload, 1) := dk_46 (dk_at dksX10_goBy_2 17 rfl rfl)
theorem dX10_goBy_66 : decode cX10_goBy 66 = .ok (.aload_n 0, 1) := dk_42 (dk_at dksX10_goBy_2 18 rfl rfl)
theorem dX10_goBy_67 : decode cX10_goBy 67 = .ok (.getfield 133, 3) := dk_180 0 133 (dk_at dksX10_goBy_2 19 rfl rfl)
theorem dX10_goBy_70 : decode cX10_goBy 70 = .ok (.iload_n 1, 1) := dk_27 (dk_at dksX10_goBy_2 22 rfl rfl)
theorem dX10_goBy_71 : decode cX10_goBy 71 = .ok (.iconst 3, 1) := dk_6 (dk_at dksX10_goBy_2 23 rfl rfl)
theorem dX10_goBy_72 : decode cX10_goBy 72 = .ok (.iadd, 1) := dk_96 (dk_at dksX10_goBy_3 0 rfl rfl)
theorem dX10_goBy_73 : decode cX10_goBy 73 = .ok (.iaload, 1) := dk_46 (dk_at dksX10_goBy_3 1 rfl rfl)
theorem dX10_goBy_74 : decode cX10_goBy 74 = .ok (.invokevirtual 311, 3) := dk_182 1 55 (dk_at dksX10_goBy_3 2 rfl rfl)
theorem dX10_goBy_77 : decode cX10_goBy 77 = .ok (.iconst 0, 1) := dk_3 (dk_at dksX10_goBy_3 5 rfl rfl)
theorem dX10_goBy_78 : decode cX10_goBy 78 = .ok (.ireturn, 1) := dk_172 (dk_at dksX10_goBy_3 6 rfl rfl)
abbrev cX10_allBits : ByteArray := prog_23_method_112_code
def yX10_allBits : MethodName := ⟨RX10, "allBits", "()I"⟩
def dkwX10_allBits_1 : List UInt8 := [132, 2, 1, 167, 255, 235, 27, 172]
abbrev dktX10_allBits_1 : List UInt8 := dkwX10_allBits_1 ++ []
def dkwX10_allBits_0 : List UInt8 := [3, 60, 3, 61, 28, 42, 180, 0, 98, 3, 46, 162, 0, 17, 27, 42, 28, 182, 0, 199, 96, 60]
abbrev dktX10_allBits_0 : List UInt8 := dkwX10_allBits_0 ++ dktX10_allBits_1
theorem dksX10_allBits_0 : cX10_allBits.data.toList.drop 0 = dktX10_allBits_0 := by decide +kernel
theorem dksX10_allBits_1 : cX10_allBits.data.toList.drop 22 = dktX10_allBits_1 := dk_seg dksX10_allBits_0 22 rfl rfl
theorem dX10_allBits_0 : decode cX10_allBits 0 = .ok (.iconst 0, 1) := dk_3 (dk_at dksX10_allBits_0 0 rfl rfl)
theorem dX10_allBits_1 : decode cX10_allBits 1 = .ok (.istore_n 1, 1) := dk_60 (dk_at dksX10_allBits_0 1 rfl rfl)
theorem dX10_allBits_2 : decode cX10_allBits 2 = .ok (.iconst 0, 1) := dk_3 (dk_at dksX10_allBits_0 2 rfl rfl)
theorem dX10_allBits_3 : decode cX10_allBits 3 = .ok (.istore_n 2, 1) := dk_61 (dk_at dksX10_allBits_0 3 rfl rfl)
theorem dX10_allBits_4 : decode cX10_allBits 4 = .ok (.iload_n 2, 1) := dk_28 (dk_at dksX10_allBits_0 4 rfl rfl)
theorem dX10_allBits_5 : decode cX10_allBits 5 = .ok (.aload_n 0, 1) := dk_42 (dk_at dksX10_allBits_0 5 rfl rfl)
theorem dX10_allBits_6 : decode cX10_allBits 6 = .ok (.getfield 98, 3) := dk_180 0 98 (dk_at dksX10_allBits_0 6 rfl rfl)
theorem dX10_allBits_9 : decode cX10_allBits 9 = .ok (.iconst 0, 1) := dk_3 (dk_at dksX10_allBits_0 9 rfl rfl)
theorem dX10_allBits_10 : decode cX10_allBits 10 = .ok (.iaload, 1) := dk_46 (dk_at dksX10_allBits_0 10 rfl rfl)
theorem dX10_allBits_11 : decode cX10_allBits 11 = .ok (.if_icmp .ge 17, 3) := dk_162 0 17 (dk_at dksX10_allBits_0 11 rfl rfl)
theorem dX10_allBits_14 : decode cX10_allBits 14 = .ok (.iload_n 1, 1) := dk_27 (dk_at dksX10_allBits_0 14 rfl rfl)
theorem dX10_allBits_15 : decode cX10_allBits 15 = .ok (.aload_n 0, 1) := dk_42 (dk_at dksX10_allBits_0 15 rfl rfl)
theorem dX10_allBits_16 : decode cX10_allBits 16 = .ok (.iload_n 2, 1) := dk_28 (dk_at dksX10_allBits_0 16 rfl rfl)
theorem dX10_allBits_17 : decode cX10_allBits 17 = .ok (.invokevirtual 199, 3) := dk_182 0 199 (dk_at dksX10_allBits_0 17 rfl rfl)
theorem dX10_allBits_20 : decode cX10_allBits 20 = .ok (.iadd, 1) := dk_96 (dk_at dksX10_allBits_0 20 rfl rfl)
theorem dX10_allBits_21 : decode cX10_allBits 21 = .ok (.istore_n 1, 1) := dk_60 (dk_at dksX10_allBits_0 21 rfl rfl)
theorem dX10_allBits_22 : decode cX10_allBits 22 = .ok (.iinc 2 1, 3) := dk_132 2 1 (dk_at dksX10_allBits_1 0 rfl rfl)
theorem dX10_allBits_25 : decode cX10_allBits 25 = .ok (.goto (-21), 3) := dk_167 255 235 (dk_at dksX10_allBits_1 3 rfl rfl)
theorem dX10_allBits_28 : decode cX10_allBits 28 = .ok (.iload_n 1, 1) := dk_27 (dk_at dksX10_allBits_1 6 rfl rfl)
theorem dX10_allBits_29 : decode cX10_allBits 29 = .ok (.ireturn, 1) := dk_172 (dk_at dksX10_allBits_1 7 rfl rfl)
abbrev cX10_told : ByteArray := prog_23_method_115_code
def yX10_told : MethodName := ⟨RX10, "told", "(I)I"⟩
def dkwX10_told_1 : List UInt8 := [180, 0, 136, 27, 46, 167, 0, 4, 2, 172]
abbrev dktX10_told_1 : List UInt8 := dkwX10_told_1 ++ []
def dkwX10_told_0 : List UInt8 := [42, 3, 181, 0, 1, 42, 180, 1, 109, 153, 0, 21, 27, 3, 6, 184, 0, 75, 153, 0, 12, 42]
abbrev dktX10_told_0 : List UInt8 := dkwX10_told_0 ++ dktX10_told_1
theorem dksX10_told_0 : cX10_told.data.toList.drop 0 = dktX10_told_0 := by decide +kernel
theorem dksX10_told_1 : cX10_told.data.toList.drop 22 = dktX10_told_1 := dk_seg dksX10_told_0 22 rfl rfl
theorem dX10_told_0 : decode cX10_told 0 = .ok (.aload_n 0, 1) := dk_42 (dk_at dksX10_told_0 0 rfl rfl)
theorem dX10_told_1 : decode cX10_told 1 = .ok (.iconst 0, 1) := dk_3 (dk_at dksX10_told_0 1 rfl rfl)
theorem dX10_told_2 : decode cX10_told 2 = .ok (.putfield 1, 3) := dk_181 0 1 (dk_at dksX10_told_0 2 rfl rfl)
theorem dX10_told_5 : decode cX10_told 5 = .ok (.aload_n 0, 1) := dk_42 (dk_at dksX10_told_0 5 rfl rfl)
theorem dX10_told_6 : decode cX10_told 6 = .ok (.getfield 365, 3) := dk_180 1 109 (dk_at dksX10_told_0 6 rfl rfl)
theorem dX10_told_9 : decode cX10_told 9 = .ok (.ifCond .eq 21, 3) := dk_153 0 21 (dk_at dksX10_told_0 9 rfl rfl)
theorem dX10_told_12 : decode cX10_told 12 = .ok (.iload_n 1, 1) := dk_27 (dk_at dksX10_told_0 12 rfl rfl)
theorem dX10_told_13 : decode cX10_told 13 = .ok (.iconst 0, 1) := dk_3 (dk_at dksX10_told_0 13 rfl rfl)
theorem dX10_told_14 : decode cX10_told 14 = .ok (.iconst 3, 1) := dk_6 (dk_at dksX10_told_0 14 rfl rfl)
theorem dX10_told_15 : decode cX10_told 15 = .ok (.invokestatic 75, 3) := dk_184 0 75 (dk_at dksX10_told_0 15 rfl rfl)
theorem dX10_told_18 : decode cX10_told 18 = .ok (.ifCond .eq 12, 3) := dk_153 0 12 (dk_at dksX10_told_0 18 rfl rfl)
theorem dX10_told_21 : decode cX10_told 21 = .ok (.aload_n 0, 1) := dk_42 (dk_at dksX10_told_0 21 rfl rfl)
theorem dX10_told_22 : decode cX10_told 22 = .ok (.getfield 136, 3) := dk_180 0 136 (dk_at dksX10_told_1 0 rfl rfl)
theorem dX10_told_25 : decode cX10_told 25 = .ok (.iload_n 1, 1) := dk_27 (dk_at dksX10_told_1 3 rfl rfl)
theorem dX10_told_26 : decode cX10_told 26 = .ok (.iaload, 1) := dk_46 (dk_at dksX10_told_1 4 rfl rfl)
theorem dX10_told_27 : decode cX10_told 27 = .ok (.goto 4, 3) := dk_167 0 4 (dk_at dksX10_told_1 5 rfl rfl)
theorem dX10_told_30 : decode cX10_told 30 = .ok (.iconst (-1), 1) := dk_2 (dk_at dksX10_told_1 8 rfl rfl)
theorem dX10_told_31 : decode cX10_told 31 = .ok (.ireturn, 1) := dk_172 (dk_at dksX10_told_1 9 rfl rfl)
abbrev cX10_sentence : ByteArray := prog_23_method_126_code
def yX10_sentence : MethodName := ⟨RX10, "sentence", "()I"⟩
def dkwX10_sentence_4 : List UInt8 := [27, 96, 42, 180, 0, 139, 27, 46, 79, 132, 1, 1, 167, 255, 230, 42, 180, 1, 127, 172]
abbrev dktX10_sentence_4 : List UInt8 := dkwX10_sentence_4 ++ []
def dkwX10_sentence_3 : List UInt8 := [17, 22, 189, 42, 180, 1, 118, 79, 3, 60, 27, 17, 0, 240, 162, 0, 25, 42, 180, 0, 98, 17, 22, 190]
abbrev dktX10_sentence_3 : List UInt8 := dkwX10_sentence_3 ++ dktX10_sentence_4
def dkwX10_sentence_2 : List UInt8 := [182, 0, 72, 87, 2, 42, 180, 0, 69, 100, 172, 42, 180, 0, 98, 17, 22, 188, 4, 79, 42, 180, 0, 98]
abbrev dktX10_sentence_2 : List UInt8 := dkwX10_sentence_2 ++ dktX10_sentence_3
def dkwX10_sentence_1 : List UInt8 := [182, 1, 145, 154, 0, 10, 2, 42, 180, 0, 69, 100, 172, 42, 180, 0, 30, 153, 0, 16, 42, 4]
abbrev dktX10_sentence_1 : List UInt8 := dkwX10_sentence_1 ++ dktX10_sentence_2
def dkwX10_sentence_0 : List UInt8 := [42, 17, 0, 200, 182, 0, 180, 42, 3, 181, 1, 112, 42, 3, 181, 1, 127, 42, 3, 181, 1, 130, 42]
abbrev dktX10_sentence_0 : List UInt8 := dkwX10_sentence_0 ++ dktX10_sentence_1
theorem dksX10_sentence_0 : cX10_sentence.data.toList.drop 0 = dktX10_sentence_0 := by decide +kernel
theorem dksX10_sentence_1 : cX10_sentence.data.toList.drop 23 = dktX10_sentence_1 := dk_seg dksX10_sentence_0 23 rfl rfl
theorem dksX10_sentence_2 : cX10_sentence.data.toList.drop 45 = dktX10_sentence_2 := dk_seg dksX10_sentence_1 22 rfl rfl
theorem dksX10_sentence_3 : cX10_sentence.data.toList.drop 69 = dktX10_sentence_3 := dk_seg dksX10_sentence_2 24 rfl rfl
theorem dksX10_sentence_4 : cX10_sentence.data.toList.drop 93 = dktX10_sentence_4 := dk_seg dksX10_sentence_3 24 rfl rfl
theorem dX10_sentence_0 : decode cX10_sentence 0 = .ok (.aload_n 0, 1) := dk_42 (dk_at dksX10_sentence_0 0 rfl rfl)
theorem dX10_sentence_1 : decode cX10_sentence 1 = .ok (.sipush 200, 3) := dk_17 0 200 (dk_at dksX10_sentence_0 1 rfl rfl)
theorem dX10_sentence_4 : decode cX10_sentence 4 = .ok (.invokevirtual 180, 3) := dk_182 0 180 (dk_at dksX10_sentence_0 4 rfl rfl)
theorem dX10_sentence_7 : decode cX10_sentence 7 = .ok (.aload_n 0, 1) := dk_42 (dk_at dksX10_sentence_0 7 rfl rfl)
theorem dX10_sentence_8 : decode cX10_sentence 8 = .ok (.iconst 0, 1) := dk_3 (dk_at dksX10_sentence_0 8 rfl rfl)
theorem dX10_sentence_9 : decode cX10_sentence 9 = .ok (.putfield 368, 3) := dk_181 1 112 (dk_at dksX10_sentence_0 9 rfl rfl)
theorem dX10_sentence_12 : decode cX10_sentence 12 = .ok (.aload_n 0, 1) := dk_42 (dk_at dksX10_sentence_0 12 rfl rfl)
theorem dX10_sentence_13 : decode cX10_sentence 13 = .ok (.iconst 0, 1) := dk_3 (dk_at dksX10_sentence_0 13 rfl rfl)
theorem dX10_sentence_14 : decode cX10_sentence 14 = .ok (.putfield 383, 3) := dk_181 1 127 (dk_at dksX10_sentence_0 14 rfl rfl)
theorem dX10_sentence_17 : decode cX10_sentence 17 = .ok (.aload_n 0, 1) := dk_42 (dk_at dksX10_sentence_0 17 rfl rfl)
theorem dX10_sentence_18 : decode cX10_sentence 18 = .ok (.iconst 0, 1) := dk_3 (dk_at dksX10_sentence_0 18 rfl rfl)
theorem dX10_sentence_19 : decode cX10_sentence 19 = .ok (.putfield 386, 3) := dk_181 1 130 (dk_at dksX10_sentence_0 19 rfl rfl)
theorem dX10_sentence_22 : decode cX10_sentence 22 = .ok (.aload_n 0, 1) := dk_42 (dk_at dksX10_sentence_0 22 rfl rfl)
theorem dX10_sentence_23 : decode cX10_sentence 23 = .ok (.invokevirtual 401, 3) := dk_182 1 145 (dk_at dksX10_sentence_1 0 rfl rfl)
theorem dX10_sentence_26 : decode cX10_sentence 26 = .ok (.ifCond .ne 10, 3) := dk_154 0 10 (dk_at dksX10_sentence_1 3 rfl rfl)
theorem dX10_sentence_29 : decode cX10_sentence 29 = .ok (.iconst (-1), 1) := dk_2 (dk_at dksX10_sentence_1 6 rfl rfl)
theorem dX10_sentence_30 : decode cX10_sentence 30 = .ok (.aload_n 0, 1) := dk_42 (dk_at dksX10_sentence_1 7 rfl rfl)
theorem dX10_sentence_31 : decode cX10_sentence 31 = .ok (.getfield 69, 3) := dk_180 0 69 (dk_at dksX10_sentence_1 8 rfl rfl)
theorem dX10_sentence_34 : decode cX10_sentence 34 = .ok (.isub, 1) := dk_100 (dk_at dksX10_sentence_1 11 rfl rfl)
theorem dX10_sentence_35 : decode cX10_sentence 35 = .ok (.ireturn, 1) := dk_172 (dk_at dksX10_sentence_1 12 rfl rfl)
theorem dX10_sentence_36 : decode cX10_sentence 36 = .ok (.aload_n 0, 1) := dk_42 (dk_at dksX10_sentence_1 13 rfl rfl)
theorem dX10_sentence_37 : decode cX10_sentence 37 = .ok (.getfield 30, 3) := dk_180 0 30 (dk_at dksX10_sentence_1 14 rfl rfl)
theorem dX10_sentence_40 : decode cX10_sentence 40 = .ok (.ifCond .eq 16, 3) := dk_153 0 16 (dk_at dksX10_sentence_1 17 rfl rfl)
theorem dX10_sentence_43 : decode cX10_sentence 43 = .ok (.aload_n 0, 1) := dk_42 (dk_at dksX10_sentence_1 20 rfl rfl)
theorem dX10_sentence_44 : decode cX10_sentence 44 = .ok (.iconst 1, 1) := dk_4 (dk_at dksX10_sentence_1 21 rfl rfl)
theorem dX10_sentence_45 : decode cX10_sentence 45 = .ok (.invokevirtual 72, 3) := dk_182 0 72 (dk_at dksX10_sentence_2 0 rfl rfl)
theorem dX10_sentence_48 : decode cX10_sentence 48 = .ok (.pop, 1) := dk_87 (dk_at dksX10_sentence_2 3 rfl rfl)
theorem dX10_sentence_49 : decode cX10_sentence 49 = .ok (.iconst (-1), 1) := dk_2 (dk_at dksX10_sentence_2 4 rfl rfl)
theorem dX10_sentence_50 : decode cX10_sentence 50 = .ok (.aload_n 0, 1) := dk_42 (dk_at dksX10_sentence_2 5 rfl rfl)
theorem dX10_sentence_51 : decode cX10_sentence 51 = .ok (.getfield 69, 3) := dk_180 0 69 (dk_at dksX10_sentence_2 6 rfl rfl)
theorem dX10_sentence_54 : decode cX10_sentence 54 = .ok (.isub, 1) := dk_100 (dk_at dksX10_sentence_2 9 rfl rfl)
theorem dX10_sentence_55 : decode cX10_sentence 55 = .ok (.ireturn, 1) := dk_172 (dk_at dksX10_sentence_2 10 rfl rfl)
theorem dX10_sentence_56 : decode cX10_sentence 56 = .ok (.aload_n 0, 1) := dk_42 (dk_at dksX10_sentence_2 11 rfl rfl)
theorem dX10_sentence_57 : decode cX10_sentence 57 = .ok (.getfield 98, 3) := dk_180 0 98 (dk_at dksX10_sentence_2 12 rfl rfl)
theorem dX10_sentence_60 : decode cX10_sentence 60 = .ok (.sipush 5820, 3) := dk_17 22 188 (dk_at dksX10_sentence_2 15 rfl rfl)
theorem dX10_sentence_63 : decode cX10_sentence 63 = .ok (.iconst 1, 1) := dk_4 (dk_at dksX10_sentence_2 18 rfl rfl)
theorem dX10_sentence_64 : decode cX10_sentence 64 = .ok (.iastore, 1) := dk_79 (dk_at dksX10_sentence_2 19 rfl rfl)
theorem dX10_sentence_65 : decode cX10_sentence 65 = .ok (.aload_n 0, 1) := dk_42 (dk_at dksX10_sentence_2 20 rfl rfl)
theorem dX10_sentence_66 : decode cX10_sentence 66 = .ok (.getfield 98, 3) := dk_180 0 98 (dk_at dksX10_sentence_2 21 rfl rfl)
theorem dX10_sentence_69 : decode cX10_sentence 69 = .ok (.sipush 5821, 3) := dk_17 22 189 (dk_at dksX10_sentence_3 0 rfl rfl)
theorem dX10_sentence_72 : decode cX10_sentence 72 = .ok (.aload_n 0, 1) := dk_42 (dk_at dksX10_sentence_3 3 rfl rfl)
theorem dX10_sentence_73 : decode cX10_sentence 73 = .ok (.getfield 374, 3) := dk_180 1 118 (dk_at dksX10_sentence_3 4 rfl rfl)
theorem dX10_sentence_76 : decode cX10_sentence 76 = .ok (.iastore, 1) := dk_79 (dk_at dksX10_sentence_3 7 rfl rfl)
theorem dX10_sentence_77 : decode cX10_sentence 77 = .ok (.iconst 0, 1) := dk_3 (dk_at dksX10_sentence_3 8 rfl rfl)
theorem dX10_sentence_78 : decode cX10_sentence 78 = .ok (.istore_n 1, 1) := dk_60 (dk_at dksX10_sentence_3 9 rfl rfl)
theorem dX10_sentence_79 : decode cX10_sentence 79 = .ok (.iload_n 1, 1) := dk_27 (dk_at dksX10_sentence_3 10 rfl rfl)
theorem dX10_sentence_80 : decode cX10_sentence 80 = .ok (.sipush 240, 3) := dk_17 0 240 (dk_at dksX10_sentence_3 11 rfl rfl)
theorem dX10_sentence_83 : decode cX10_sentence 83 = .ok (.if_icmp .ge 25, 3) := dk_162 0 25 (dk_at dksX10_sentence_3 14 rfl rfl)
theorem dX10_sentence_86 : decode cX10_sentence 86 = .ok (.aload_n 0, 1) := dk_42 (dk_at dksX10_sentence_3 17 rfl rfl)
theorem dX10_sentence_87 : decode cX10_sentence 87 = .ok (.getfield 98, 3) := dk_180 0 98 (dk_at dksX10_sentence_3 18 rfl rfl)
theorem dX10_sentence_90 : decode cX10_sentence 90 = .ok (.sipush 5822, 3) := dk_17 22 190 (dk_at dksX10_sentence_3 21 rfl rfl)
theorem dX10_sentence_93 : decode cX10_sentence 93 = .ok (.iload_n 1, 1) := dk_27 (dk_at dksX10_sentence_4 0 rfl rfl)
theorem dX10_sentence_94 : decode cX10_sentence 94 = .ok (.iadd, 1) := dk_96 (dk_at dksX10_sentence_4 1 rfl rfl)
theorem dX10_sentence_95 : decode cX10_sentence 95 = .ok (.aload_n 0, 1) := dk_42 (dk_at dksX10_sentence_4 2 rfl rfl)
theorem dX10_sentence_96 : decode cX10_sentence 96 = .ok (.getfield 139, 3) := dk_180 0 139 (dk_at dksX10_sentence_4 3 rfl rfl)
theorem dX10_sentence_99 : decode cX10_sentence 99 = .ok (.iload_n 1, 1) := dk_27 (dk_at dksX10_sentence_4 6 rfl rfl)
theorem dX10_sentence_100 : decode cX10_sentence 100 = .ok (.iaload, 1) := dk_46 (dk_at dksX10_sentence_4 7 rfl rfl)
theorem dX10_sentence_101 : decode cX10_sentence 101 = .ok (.iastore, 1) := dk_79 (dk_at dksX10_sentence_4 8 rfl rfl)
theorem dX10_sentence_102 : decode cX10_sentence 102 = .ok (.iinc 1 1, 3) := dk_132 1 1 (dk_at dksX10_sentence_4 9 rfl rfl)
theorem dX10_sentence_105 : decode cX10_sentence 105 = .ok (.goto (-26), 3) := dk_167 255 230 (dk_at dksX10_sentence_4 12 rfl rfl)
theorem dX10_sentence_108 : decode cX10_sentence 108 = .ok (.aload_n 0, 1) := dk_42 (dk_at dksX10_sentence_4 15 rfl rfl)
theorem dX10_sentence_109 : decode cX10_sentence 109 = .ok (.getfield 383, 3) := dk_180 1 127 (dk_at dksX10_sentence_4 16 rfl rfl)
theorem dX10_sentence_112 : decode cX10_sentence 112 = .ok (.ireturn, 1) := dk_172 (dk_at dksX10_sentence_4 19 rfl rfl)
abbrev cX10_readOr : ByteArray := prog_23_method_119_code
def yX10_readOr : MethodName := ⟨RX10, "readO\x72", "()Z"⟩
def dkwX10_readOr_2 : List UInt8 := [167, 255, 222, 42, 27, 181, 1, 118, 4, 172]
abbrev dktX10_readOr_2 : List UInt8 := dkwX10_readOr_2 ++ []
def dkwX10_readOr_1 : List UInt8 := [182, 0, 82, 42, 182, 1, 115, 154, 0, 5, 3, 172, 42, 6, 27, 42, 180, 1, 118, 3, 182, 1, 121, 60]
abbrev dktX10_readOr_1 : List UInt8 := dkwX10_readOr_1 ++ dktX10_readOr_2
def dkwX10_readOr_0 : List UInt8 := [42, 182, 1, 115, 154, 0, 5, 3, 172, 42, 180, 1, 118, 60, 42, 16, 11, 182, 0, 168, 153, 0, 31, 42]
abbrev dktX10_readOr_0 : List UInt8 := dkwX10_readOr_0 ++ dktX10_readOr_1
theorem dksX10_readOr_0 : cX10_readOr.data.toList.drop 0 = dktX10_readOr_0 := by decide +kernel
theorem dksX10_readOr_1 : cX10_readOr.data.toList.drop 24 = dktX10_readOr_1 := dk_seg dksX10_readOr_0 24 rfl rfl
theorem dksX10_readOr_2 : cX10_readOr.data.toList.drop 48 = dktX10_readOr_2 := dk_seg dksX10_readOr_1 24 rfl rfl
theorem dX10_readOr_0 : decode cX10_readOr 0 = .ok (.aload_n 0, 1) := dk_42 (dk_at dksX10_readOr_0 0 rfl rfl)
theorem dX10_readOr_1 : decode cX10_readOr 1 = .ok (.invokevirtual 371, 3) := dk_182 1 115 (dk_at dksX10_readOr_0 1 rfl rfl)
theorem dX10_readOr_4 : decode cX10_readOr 4 = .ok (.ifCond .ne 5, 3) := dk_154 0 5 (dk_at dksX10_readOr_0 4 rfl rfl)
theorem dX10_readOr_7 : decode cX10_readOr 7 = .ok (.iconst 0, 1) := dk_3 (dk_at dksX10_readOr_0 7 rfl rfl)
theorem dX10_readOr_8 : decode cX10_readOr 8 = .ok (.ireturn, 1) := dk_172 (dk_at dksX10_readOr_0 8 rfl rfl)
theorem dX10_readOr_9 : decode cX10_readOr 9 = .ok (.aload_n 0, 1) := dk_42 (dk_at dksX10_readOr_0 9 rfl rfl)
theorem dX10_readOr_10 : decode cX10_readOr 10 = .ok (.getfield 374, 3) := dk_180 1 118 (dk_at dksX10_readOr_0 10 rfl rfl)
theorem dX10_readOr_13 : decode cX10_readOr 13 = .ok (.istore_n 1, 1) := dk_60 (dk_at dksX10_readOr_0 13 rfl rfl)
theorem dX10_readOr_14 : decode cX10_readOr 14 = .ok (.aload_n 0, 1) := dk_42 (dk_at dksX10_readOr_0 14 rfl rfl)
theorem dX10_readOr_15 : decode cX10_readOr 15 = .ok (.bipush 11, 2) := dk_16 11 (dk_at dksX10_readOr_0 15 rfl rfl)
theorem dX10_readOr_17 : decode cX10_readOr 17 = .ok (.invokevirtual 168, 3) := dk_182 0 168 (dk_at dksX10_readOr_0 17 rfl rfl)
theorem dX10_readOr_20 : decode cX10_readOr 20 = .ok (.ifCond .eq 31, 3) := dk_153 0 31 (dk_at dksX10_readOr_0 20 rfl rfl)
theorem dX10_readOr_23 : decode cX10_readOr 23 = .ok (.aload_n 0, 1) := dk_42 (dk_at dksX10_readOr_0 23 rfl rfl)
theorem dX10_readOr_24 : decode cX10_readOr 24 = .ok (.invokevirtual 82, 3) := dk_182 0 82 (dk_at dksX10_readOr_1 0 rfl rfl)
theorem dX10_readOr_27 : decode cX10_readOr 27 = .ok (.aload_n 0, 1) := dk_42 (dk_at dksX10_readOr_1 3 rfl rfl)
theorem dX10_readOr_28 : decode cX10_readOr 28 = .ok (.invokevirtual 371, 3) := dk_182 1 115 (dk_at dksX10_readOr_1 4 rfl rfl)
theorem dX10_readOr_31 : decode cX10_readOr 31 = .ok (.ifCond .ne 5, 3) := dk_154 0 5 (dk_at dksX10_readOr_1 7 rfl rfl)
theorem dX10_readOr_34 : decode cX10_readOr 34 = .ok (.iconst 0, 1) := dk_3 (dk_at dksX10_readOr_1 10 rfl rfl)
theorem dX10_readOr_35 : decode cX10_readOr 35 = .ok (.ireturn, 1) := dk_172 (dk_at dksX10_readOr_1 11 rfl rfl)
theorem dX10_readOr_36 : decode cX10_readOr 36 = .ok (.aload_n 0, 1) := dk_42 (dk_at dksX10_readOr_1 12 rfl rfl)
theorem dX10_readOr_37 : decode cX10_readOr 37 = .ok (.iconst 3, 1) := dk_6 (dk_at dksX10_readOr_1 13 rfl rfl)
theorem dX10_readOr_38 : decode cX10_readOr 38 = .ok (.iload_n 1, 1) := dk_27 (dk_at dksX10_readOr_1 14 rfl rfl)
theorem dX10_readOr_39 : decode cX10_readOr 39 = .ok (.aload_n 0, 1) := dk_42 (dk_at dksX10_readOr_1 15 rfl rfl)
theorem dX10_readOr_40 : decode cX10_readOr 40 = .ok (.getfield 374, 3) := dk_180 1 118 (dk_at dksX10_readOr_1 16 rfl rfl)
theorem dX10_readOr_43 : decode cX10_readOr 43 = .ok (.iconst 0, 1) := dk_3 (dk_at dksX10_readOr_1 19 rfl rfl)
theorem dX10_readOr_44 : decode cX10_readOr 44 = .ok (.invokevirtual 377, 3) := dk_182 1 121 (dk_at dksX10_readOr_1 20 rfl rfl)
theorem dX10_readOr_47 : decode cX10_readOr 47 = .ok (.istore_n 1, 1) := dk_60 (dk_at dksX10_readOr_1 23 rfl rfl)
theorem dX10_readOr_48 : decode cX10_readOr 48 = .ok (.goto (-34), 3) := dk_167 255 222 (dk_at dksX10_readOr_2 0 rfl rfl)
theorem dX10_readOr_51 : decode cX10_readOr 51 = .ok (.aload_n 0, 1) := dk_42 (dk_at dksX10_readOr_2 3 rfl rfl)
theorem dX10_readOr_52 : decode cX10_readOr 52 = .ok (.iload_n 1, 1) := dk_27 (dk_at dksX10_readOr_2 4 rfl rfl)
theorem dX10_readOr_53 : decode cX10_readOr 53 = .ok (.putfield 374, 3) := dk_181 1 118 (dk_at dksX10_readOr_2 5 rfl rfl)
theorem dX10_readOr_56 : decode cX10_readOr 56 = .ok (.iconst 1, 1) := dk_4 (dk_at dksX10_readOr_2 8 rfl rfl)
theorem dX10_readOr_57 : decode cX10_readOr 57 = .ok (.ireturn, 1) := dk_172 (dk_at dksX10_readOr_2 9 rfl rfl)
abbrev cX10_readAnd : ByteArray := prog_23_method_120_code
def yX10_readAnd : MethodName := ⟨RX10, "readAnd", "()Z"⟩
def dkwX10_readAnd_2 : List UInt8 := [167, 255, 222, 42, 27, 181, 1, 118, 4, 172]
abbrev dktX10_readAnd_2 : List UInt8 := dkwX10_readAnd_2 ++ []
def dkwX10_readAnd_1 : List UInt8 := [182, 0, 82, 42, 182, 1, 124, 154, 0, 5, 3, 172, 42, 5, 27, 42, 180, 1, 118, 3, 182, 1, 121, 60]
abbrev dktX10_readAnd_1 : List UInt8 := dkwX10_readAnd_1 ++ dktX10_readAnd_2
def dkwX10_readAnd_0 : List UInt8 := [42, 182, 1, 124, 154, 0, 5, 3, 172, 42, 180, 1, 118, 60, 42, 16, 12, 182, 0, 168, 153, 0, 31, 42]
abbrev dktX10_readAnd_0 : List UInt8 := dkwX10_readAnd_0 ++ dktX10_readAnd_1
theorem dksX10_readAnd_0 : cX10_readAnd.data.toList.drop 0 = dktX10_readAnd_0 := by decide +kernel
theorem dksX10_readAnd_1 : cX10_readAnd.data.toList.drop 24 = dktX10_readAnd_1 := dk_seg dksX10_readAnd_0 24 rfl rfl
theorem dksX10_readAnd_2 : cX10_readAnd.data.toList.drop 48 = dktX10_readAnd_2 := dk_seg dksX10_readAnd_1 24 rfl rfl
theorem dX10_readAnd_0 : decode cX10_readAnd 0 = .ok (.aload_n 0, 1) := dk_42 (dk_at dksX10_readAnd_0 0 rfl rfl)
theorem dX10_readAnd_1 : decode cX10_readAnd 1 = .ok (.invokevirtual 380, 3) := dk_182 1 124 (dk_at dksX10_readAnd_0 1 rfl rfl)
theorem dX10_readAnd_4 : decode cX10_readAnd 4 = .ok (.ifCond .ne 5, 3) := dk_154 0 5 (dk_at dksX10_readAnd_0 4 rfl rfl)
theorem dX10_readAnd_7 : decode cX10_readAnd 7 = .ok (.iconst 0, 1) := dk_3 (dk_at dksX10_readAnd_0 7 rfl rfl)
theorem dX10_readAnd_8 : decode cX10_readAnd 8 = .ok (.ireturn, 1) := dk_172 (dk_at dksX10_readAnd_0 8 rfl rfl)
theorem dX10_readAnd_9 : decode cX10_readAnd 9 = .ok (.aload_n 0, 1) := dk_42 (dk_at dksX10_readAnd_0 9 rfl rfl)
theorem dX10_readAnd_10 : decode cX10_readAnd 10 = .ok (.getfield 374, 3) := dk_180 1 118 (dk_at dksX10_readAnd_0 10 rfl rfl)
theorem dX10_readAnd_13 : decode cX10_readAnd 13 = .ok (.istore_n 1, 1) := dk_60 (dk_at dksX10_readAnd_0 13 rfl rfl)
theorem dX10_readAnd_14 : decode cX10_readAnd 14 = .ok (.aload_n 0, 1) := dk_42 (dk_at dksX10_readAnd_0 14 rfl rfl)
theorem dX10_readAnd_15 : decode cX10_readAnd 15 = .ok (.bipush 12, 2) := dk_16 12 (dk_at dksX10_readAnd_0 15 rfl rfl)
theorem dX10_readAnd_17 : decode cX10_readAnd 17 = .ok (.invokevirtual 168, 3) := dk_182 0 168 (dk_at dksX10_readAnd_0 17 rfl rfl)
theorem dX10_readAnd_20 : decode cX10_readAnd 20 = .ok (.ifCond .eq 31, 3) := dk_153 0 31 (dk_at dksX10_readAnd_0 20 rfl rfl)
theorem dX10_readAnd_23 : decode cX10_readAnd 23 = .ok (.aload_n 0, 1) := dk_42 (dk_at dksX10_readAnd_0 23 rfl rfl)
theorem dX10_readAnd_24 : decode cX10_readAnd 24 = .ok (.invokevirtual 82, 3) := dk_182 0 82 (dk_at dksX10_readAnd_1 0 rfl rfl)
theorem dX10_readAnd_27 : decode cX10_readAnd 27 = .ok (.aload_n 0, 1) := dk_42 (dk_at dksX10_readAnd_1 3 rfl rfl)
theorem dX10_readAnd_28 : decode cX10_readAnd 28 = .ok (.invokevirtual 380, 3) := dk_182 1 124 (dk_at dksX10_readAnd_1 4 rfl rfl)
theorem dX10_readAnd_31 : decode cX10_readAnd 31 = .ok (.ifCond .ne 5, 3) := dk_154 0 5 (dk_at dksX10_readAnd_1 7 rfl rfl)
theorem dX10_readAnd_34 : decode cX10_readAnd 34 = .ok (.iconst 0, 1) := dk_3 (dk_at dksX10_readAnd_1 10 rfl rfl)
theorem dX10_readAnd_35 : decode cX10_readAnd 35 = .ok (.ireturn, 1) := dk_172 (dk_at dksX10_readAnd_1 11 rfl rfl)
theorem dX10_readAnd_36 : decode cX10_readAnd 36 = .ok (.aload_n 0, 1) := dk_42 (dk_at dksX10_readAnd_1 12 rfl rfl)
theorem dX10_readAnd_37 : decode cX10_readAnd 37 = .ok (.iconst 2, 1) := dk_5 (dk_at dksX10_readAnd_1 13 rfl rfl)
theorem dX10_readAnd_38 : decode cX10_readAnd 38 = .ok (.iload_n 1, 1) := dk_27 (dk_at dksX10_readAnd_1 14 rfl rfl)
theorem dX10_readAnd_39 : decode cX10_readAnd 39 = .ok (.aload_n 0, 1) := dk_42 (dk_at dksX10_readAnd_1 15 rfl rfl)
theorem dX10_readAnd_40 : decode cX10_readAnd 40 = .ok (.getfield 374, 3) := dk_180 1 118 (dk_at dksX10_readAnd_1 16 rfl rfl)
theorem dX10_readAnd_43 : decode cX10_readAnd 43 = .ok (.iconst 0, 1) := dk_3 (dk_at dksX10_readAnd_1 19 rfl rfl)
theorem dX10_readAnd_44 : decode cX10_readAnd 44 = .ok (.invokevirtual 377, 3) := dk_182 1 121 (dk_at dksX10_readAnd_1 20 rfl rfl)
theorem dX10_readAnd_47 : decode cX10_readAnd 47 = .ok (.istore_n 1, 1) := dk_60 (dk_at dksX10_readAnd_1 23 rfl rfl)
theorem dX10_readAnd_48 : decode cX10_readAnd 48 = .ok (.goto (-34), 3) := dk_167 255 222 (dk_at dksX10_readAnd_2 0 rfl rfl)
theorem dX10_readAnd_51 : decode cX10_readAnd 51 = .ok (.aload_n 0, 1) := dk_42 (dk_at dksX10_readAnd_2 3 rfl rfl)
theorem dX10_readAnd_52 : decode cX10_readAnd 52 = .ok (.iload_n 1, 1) := dk_27 (dk_at dksX10_readAnd_2 4 rfl rfl)
theorem dX10_readAnd_53 : decode cX10_readAnd 53 = .ok (.putfield 374, 3) := dk_181 1 118 (dk_at dksX10_readAnd_2 5 rfl rfl)
theorem dX10_readAnd_56 : decode cX10_readAnd 56 = .ok (.iconst 1, 1) := dk_4 (dk_at dksX10_readAnd_2 8 rfl rfl)
theorem dX10_readAnd_57 : decode cX10_readAnd 57 = .ok (.ireturn, 1) := dk_172 (dk_at dksX10_readAnd_2 9 rfl rfl)
abbrev cX10_readSaid : ByteArray := prog_23_method_121_code
def yX10_readSaid : MethodName := ⟨RX10, "readSaid", "()Z"⟩
def dkwX10_readSaid_7 : List UInt8 := [89, 180, 1, 130, 4, 100, 181, 1, 130, 29, 172]
abbrev dktX10_readSaid_7 : List UInt8 := dkwX10_readSaid_7 ++ []
def dkwX10_readSaid_6 : List UInt8 := [167, 0, 23, 28, 16, 18, 162, 0, 11, 42, 28, 182, 1, 139, 167, 0, 8, 42, 28, 182, 1, 142, 62, 42]
abbrev dktX10_readSaid_6 : List UInt8 := dkwX10_readSaid_6 ++ dktX10_readSaid_7
def dkwX10_readSaid_5 : List UInt8 := [167, 0, 47, 28, 16, 16, 162, 0, 21, 42, 42, 16, 50, 28, 96, 3, 3, 3, 182, 1, 121, 181, 1, 118]
abbrev dktX10_readSaid_5 : List UInt8 := dkwX10_readSaid_5 ++ dktX10_readSaid_6
def dkwX10_readSaid_4 : List UInt8 := [62, 27, 153, 0, 11, 42, 182, 1, 133, 62, 167, 0, 61, 28, 16, 13, 160, 0, 11, 42, 182, 1, 136, 62]
abbrev dktX10_readSaid_4 : List UInt8 := dkwX10_readSaid_4 ++ dktX10_readSaid_5
def dkwX10_readSaid_3 : List UInt8 := [89, 180, 1, 127, 4, 96, 181, 1, 127, 42, 89, 180, 1, 130, 4, 96, 181, 1, 130, 42, 182, 0, 82, 4]
abbrev dktX10_readSaid_3 : List UInt8 := dkwX10_readSaid_3 ++ dktX10_readSaid_4
def dkwX10_readSaid_2 : List UInt8 := [180, 1, 127, 16, 20, 159, 0, 12, 42, 180, 1, 130, 16, 8, 160, 0, 9, 42, 7, 182, 0, 72, 172, 42]
abbrev dktX10_readSaid_2 : List UInt8 := dkwX10_readSaid_2 ++ dktX10_readSaid_3
def dkwX10_readSaid_1 : List UInt8 := [132, 2, 1, 167, 255, 239, 27, 154, 0, 15, 28, 16, 22, 164, 0, 9, 42, 4, 182, 0, 72, 172, 42]
abbrev dktX10_readSaid_1 : List UInt8 := dkwX10_readSaid_1 ++ dktX10_readSaid_2
def dkwX10_readSaid_0 : List UInt8 := [42, 16, 40, 182, 0, 86, 60, 16, 13, 61, 28, 16, 22, 163, 0, 17, 42, 28, 182, 0, 168, 154, 0, 9]
abbrev dktX10_readSaid_0 : List UInt8 := dkwX10_readSaid_0 ++ dktX10_readSaid_1
theorem dksX10_readSaid_0 : cX10_readSaid.data.toList.drop 0 = dktX10_readSaid_0 := by decide +kernel
theorem dksX10_readSaid_1 : cX10_readSaid.data.toList.drop 24 = dktX10_readSaid_1 := dk_seg dksX10_readSaid_0 24 rfl rfl
theorem dksX10_readSaid_2 : cX10_readSaid.data.toList.drop 47 = dktX10_readSaid_2 := dk_seg dksX10_readSaid_1 23 rfl rfl
theorem dksX10_readSaid_3 : cX10_readSaid.data.toList.drop 71 = dktX10_readSaid_3 := dk_seg dksX10_readSaid_2 24 rfl rfl
theorem dksX10_readSaid_4 : cX10_readSaid.data.toList.drop 95 = dktX10_readSaid_4 := dk_seg dksX10_readSaid_3 24 rfl rfl
theorem dksX10_readSaid_5 : cX10_readSaid.data.toList.drop 119 = dktX10_readSaid_5 := dk_seg dksX10_readSaid_4 24 rfl rfl
theorem dksX10_readSaid_6 : cX10_readSaid.data.toList.drop 143 = dktX10_readSaid_6 := dk_seg dksX10_readSaid_5 24 rfl rfl
theorem dksX10_readSaid_7 : cX10_readSaid.data.toList.drop 167 = dktX10_readSaid_7 := dk_seg dksX10_readSaid_6 24 rfl rfl
theorem dX10_readSaid_0 : decode cX10_readSaid 0 = .ok (.aload_n 0, 1) := dk_42 (dk_at dksX10_readSaid_0 0 rfl rfl)
theorem dX10_readSaid_1 : decode cX10_readSaid 1 = .ok (.bipush 40, 2) := dk_16 40 (dk_at dksX10_readSaid_0 1 rfl rfl)
theorem dX10_readSaid_3 : decode cX10_readSaid 3 = .ok (.invokevirtual 86, 3) := dk_182 0 86 (dk_at dksX10_readSaid_0 3 rfl rfl)
theorem dX10_readSaid_6 : decode cX10_readSaid 6 = .ok (.istore_n 1, 1) := dk_60 (dk_at dksX10_readSaid_0 6 rfl rfl)
theorem dX10_readSaid_7 : decode cX10_readSaid 7 = .ok (.bipush 13, 2) := dk_16 13 (dk_at dksX10_readSaid_0 7 rfl rfl)
theorem dX10_readSaid_9 : decode cX10_readSaid 9 = .ok (.istore_n 2, 1) := dk_61 (dk_at dksX10_readSaid_0 9 rfl rfl)
theorem dX10_readSaid_10 : decode cX10_readSaid 10 = .ok (.iload_n 2, 1) := dk_28 (dk_at dksX10_readSaid_0 10 rfl rfl)
theorem dX10_readSaid_11 : decode cX10_readSaid 11 = .ok (.bipush 22, 2) := dk_16 22 (dk_at dksX10_readSaid_0 11 rfl rfl)
theorem dX10_readSaid_13 : decode cX10_readSaid 13 = .ok (.if_icmp .gt 17, 3) := dk_163 0 17 (dk_at dksX10_readSaid_0 13 rfl rfl)
theorem dX10_readSaid_16 : decode cX10_readSaid 16 = .ok (.aload_n 0, 1) := dk_42 (dk_at dksX10_readSaid_0 16 rfl rfl)
theorem dX10_readSaid_17 : decode cX10_readSaid 17 = .ok (.iload_n 2, 1) := dk_28 (dk_at dksX10_readSaid_0 17 rfl rfl)
theorem dX10_readSaid_18 : decode cX10_readSaid 18 = .ok (.invokevirtual 168, 3) := dk_182 0 168 (dk_at dksX10_readSaid_0 18 rfl rfl)
theorem dX10_readSaid_21 : decode cX10_readSaid 21 = .ok (.ifCond .ne 9, 3) := dk_154 0 9 (dk_at dksX10_readSaid_0 21 rfl rfl)
theorem dX10_readSaid_24 : decode cX10_readSaid 24 = .ok (.iinc 2 1, 3) := dk_132 2 1 (dk_at dksX10_readSaid_1 0 rfl rfl)
theorem dX10_readSaid_27 : decode cX10_readSaid 27 = .ok (.goto (-17), 3) := dk_167 255 239 (dk_at dksX10_readSaid_1 3 rfl rfl)
theorem dX10_readSaid_30 : decode cX10_readSaid 30 = .ok (.iload_n 1, 1) := dk_27 (dk_at dksX10_readSaid_1 6 rfl rfl)
theorem dX10_readSaid_31 : decode cX10_readSaid 31 = .ok (.ifCond .ne 15, 3) := dk_154 0 15 (dk_at dksX10_readSaid_1 7 rfl rfl)
theorem dX10_readSaid_34 : decode cX10_readSaid 34 = .ok (.iload_n 2, 1) := dk_28 (dk_at dksX10_readSaid_1 10 rfl rfl)
theorem dX10_readSaid_35 : decode cX10_readSaid 35 = .ok (.bipush 22, 2) := dk_16 22 (dk_at dksX10_readSaid_1 11 rfl rfl)
theorem dX10_readSaid_37 : decode cX10_readSaid 37 = .ok (.if_icmp .le 9, 3) := dk_164 0 9 (dk_at dksX10_readSaid_1 13 rfl rfl)
theorem dX10_readSaid_40 : decode cX10_readSaid 40 = .ok (.aload_n 0, 1) := dk_42 (dk_at dksX10_readSaid_1 16 rfl rfl)
theorem dX10_readSaid_41 : decode cX10_readSaid 41 = .ok (.iconst 1, 1) := dk_4 (dk_at dksX10_readSaid_1 17 rfl rfl)
theorem dX10_readSaid_42 : decode cX10_readSaid 42 = .ok (.invokevirtual 72, 3) := dk_182 0 72 (dk_at dksX10_readSaid_1 18 rfl rfl)
theorem dX10_readSaid_45 : decode cX10_readSaid 45 = .ok (.ireturn, 1) := dk_172 (dk_at dksX10_readSaid_1 21 rfl rfl)
theorem dX10_readSaid_46 : decode cX10_readSaid 46 = .ok (.aload_n 0, 1) := dk_42 (dk_at dksX10_readSaid_1 22 rfl rfl)
theorem dX10_readSaid_47 : decode cX10_readSaid 47 = .ok (.getfield 383, 3) := dk_180 1 127 (dk_at dksX10_readSaid_2 0 rfl rfl)
theorem dX10_readSaid_50 : decode cX10_readSaid 50 = .ok (.bipush 20, 2) := dk_16 20 (dk_at dksX10_readSaid_2 3 rfl rfl)
theorem dX10_readSaid_52 : decode cX10_readSaid 52 = .ok (.if_icmp .eq 12, 3) := dk_159 0 12 (dk_at dksX10_readSaid_2 5 rfl rfl)
theorem dX10_readSaid_55 : decode cX10_readSaid 55 = .ok (.aload_n 0, 1) := dk_42 (dk_at dksX10_readSaid_2 8 rfl rfl)
theorem dX10_readSaid_56 : decode cX10_readSaid 56 = .ok (.getfield 386, 3) := dk_180 1 130 (dk_at dksX10_readSaid_2 9 rfl rfl)
theorem dX10_readSaid_59 : decode cX10_readSaid 59 = .ok (.bipush 8, 2) := dk_16 8 (dk_at dksX10_readSaid_2 12 rfl rfl)
theorem dX10_readSaid_61 : decode cX10_readSaid 61 = .ok (.if_icmp .ne 9, 3) := dk_160 0 9 (dk_at dksX10_readSaid_2 14 rfl rfl)
theorem dX10_readSaid_64 : decode cX10_readSaid 64 = .ok (.aload_n 0, 1) := dk_42 (dk_at dksX10_readSaid_2 17 rfl rfl)
theorem dX10_readSaid_65 : decode cX10_readSaid 65 = .ok (.iconst 4, 1) := dk_7 (dk_at dksX10_readSaid_2 18 rfl rfl)
theorem dX10_readSaid_66 : decode cX10_readSaid 66 = .ok (.invokevirtual 72, 3) := dk_182 0 72 (dk_at dksX10_readSaid_2 19 rfl rfl)
theorem dX10_readSaid_69 : decode cX10_readSaid 69 = .ok (.ireturn, 1) := dk_172 (dk_at dksX10_readSaid_2 22 rfl rfl)
theorem dX10_readSaid_70 : decode cX10_readSaid 70 = .ok (.aload_n 0, 1) := dk_42 (dk_at dksX10_readSaid_2 23 rfl rfl)
theorem dX10_readSaid_71 : decode cX10_readSaid 71 = .ok (.dup, 1) := dk_89 (dk_at dksX10_readSaid_3 0 rfl rfl)
theorem dX10_readSaid_72 : decode cX10_readSaid 72 = .ok (.getfield 383, 3) := dk_180 1 127 (dk_at dksX10_readSaid_3 1 rfl rfl)
theorem dX10_readSaid_75 : decode cX10_readSaid 75 = .ok (.iconst 1, 1) := dk_4 (dk_at dksX10_readSaid_3 4 rfl rfl)
theorem dX10_readSaid_76 : decode cX10_readSaid 76 = .ok (.iadd, 1) := dk_96 (dk_at dksX10_readSaid_3 5 rfl rfl)
theorem dX10_readSaid_77 : decode cX10_readSaid 77 = .ok (.putfield 383, 3) := dk_181 1 127 (dk_at dksX10_readSaid_3 6 rfl rfl)
theorem dX10_readSaid_80 : decode cX10_readSaid 80 = .ok (.aload_n 0, 1) := dk_42 (dk_at dksX10_readSaid_3 9 rfl rfl)
theorem dX10_readSaid_81 : decode cX10_readSaid 81 = .ok (.dup, 1) := dk_89 (dk_at dksX10_readSaid_3 10 rfl rfl)
theorem dX10_readSaid_82 : decode cX10_readSaid 82 = .ok (.getfield 386, 3) := dk_180 1 130 (dk_at dksX10_readSaid_3 11 rfl rfl)
theorem dX10_readSaid_85 : decode cX10_readSaid 85 = .ok (.iconst 1, 1) := dk_4 (dk_at dksX10_readSaid_3 14 rfl rfl)
theorem dX10_readSaid_86 : decode cX10_readSaid 86 = .ok (.iadd, 1) := dk_96 (dk_at dksX10_readSaid_3 15 rfl rfl)
theorem dX10_readSaid_87 : decode cX10_readSaid 87 = .ok (.putfield 386, 3) := dk_181 1 130 (dk_at dksX10_readSaid_3 16 rfl rfl)
theorem dX10_readSaid_90 : decode cX10_readSaid 90 = .ok (.aload_n 0, 1) := dk_42 (dk_at dksX10_readSaid_3 19 rfl rfl)
theorem dX10_readSaid_91 : decode cX10_readSaid 91 = .ok (.invokevirtual 82, 3) := dk_182 0 82 (dk_at dksX10_readSaid_3 20 rfl rfl)
theorem dX10_readSaid_94 : decode cX10_readSaid 94 = .ok (.iconst 1, 1) := dk_4 (dk_at dksX10_readSaid_3 23 rfl rfl)
theorem dX10_readSaid_95 : decode cX10_readSaid 95 = .ok (.istore_n 3, 1) := dk_62 (dk_at dksX10_readSaid_4 0 rfl rfl)
theorem dX10_readSaid_96 : decode cX10_readSaid 96 = .ok (.iload_n 1, 1) := dk_27 (dk_at dksX10_readSaid_4 1 rfl rfl)
theorem dX10_readSaid_97 : decode cX10_readSaid 97 = .ok (.ifCond .eq 11, 3) := dk_153 0 11 (dk_at dksX10_readSaid_4 2 rfl rfl)
theorem dX10_readSaid_100 : decode cX10_readSaid 100 = .ok (.aload_n 0, 1) := dk_42 (dk_at dksX10_readSaid_4 5 rfl rfl)
theorem dX10_readSaid_101 : decode cX10_readSaid 101 = .ok (.invokevirtual 389, 3) := dk_182 1 133 (dk_at dksX10_readSaid_4 6 rfl rfl)
theorem dX10_readSaid_104 : decode cX10_readSaid 104 = .ok (.istore_n 3, 1) := dk_62 (dk_at dksX10_readSaid_4 9 rfl rfl)
theorem dX10_readSaid_105 : decode cX10_readSaid 105 = .ok (.goto 61, 3) := dk_167 0 61 (dk_at dksX10_readSaid_4 10 rfl rfl)
theorem dX10_readSaid_108 : decode cX10_readSaid 108 = .ok (.iload_n 2, 1) := dk_28 (dk_at dksX10_readSaid_4 13 rfl rfl)
theorem dX10_readSaid_109 : decode cX10_readSaid 109 = .ok (.bipush 13, 2) := dk_16 13 (dk_at dksX10_readSaid_4 14 rfl rfl)
theorem dX10_readSaid_111 : decode cX10_readSaid 111 = .ok (.if_icmp .ne 11, 3) := dk_160 0 11 (dk_at dksX10_readSaid_4 16 rfl rfl)
theorem dX10_readSaid_114 : decode cX10_readSaid 114 = .ok (.aload_n 0, 1) := dk_42 (dk_at dksX10_readSaid_4 19 rfl rfl)
theorem dX10_readSaid_115 : decode cX10_readSaid 115 = .ok (.invokevirtual 392, 3) := dk_182 1 136 (dk_at dksX10_readSaid_4 20 rfl rfl)
theorem dX10_readSaid_118 : decode cX10_readSaid 118 = .ok (.istore_n 3, 1) := dk_62 (dk_at dksX10_readSaid_4 23 rfl rfl)
theorem dX10_readSaid_119 : decode cX10_readSaid 119 = .ok (.goto 47, 3) := dk_167 0 47 (dk_at dksX10_readSaid_5 0 rfl rfl)
theorem dX10_readSaid_122 : decode cX10_readSaid 122 = .ok (.iload_n 2, 1) := dk_28 (dk_at dksX10_readSaid_5 3 rfl rfl)
theorem dX10_readSaid_123 : decode cX10_readSaid 123 = .ok (.bipush 16, 2) := dk_16 16 (dk_at dksX10_readSaid_5 4 rfl rfl)
theorem dX10_readSaid_125 : decode cX10_readSaid 125 = .ok (.if_icmp .ge 21, 3) := dk_162 0 21 (dk_at dksX10_readSaid_5 6 rfl rfl)
theorem dX10_readSaid_128 : decode cX10_readSaid 128 = .ok (.aload_n 0, 1) := dk_42 (dk_at dksX10_readSaid_5 9 rfl rfl)
theorem dX10_readSaid_129 : decode cX10_readSaid 129 = .ok (.aload_n 0, 1) := dk_42 (dk_at dksX10_readSaid_5 10 rfl rfl)
theorem dX10_readSaid_130 : decode cX10_readSaid 130 = .ok (.bipush 50, 2) := dk_16 50 (dk_at dksX10_readSaid_5 11 rfl rfl)
theorem dX10_readSaid_132 : decode cX10_readSaid 132 = .ok (.iload_n 2, 1) := dk_28 (dk_at dksX10_readSaid_5 13 rfl rfl)
theorem dX10_readSaid_133 : decode cX10_readSaid 133 = .ok (.iadd, 1) := dk_96 (dk_at dksX10_readSaid_5 14 rfl rfl)
theorem dX10_readSaid_134 : decode cX10_readSaid 134 = .ok (.iconst 0, 1) := dk_3 (dk_at dksX10_readSaid_5 15 rfl rfl)
theorem dX10_readSaid_135 : decode cX10_readSaid 135 = .ok (.iconst 0, 1) := dk_3 (dk_at dksX10_readSaid_5 16 rfl rfl)
theorem dX10_readSaid_136 : decode cX10_readSaid 136 = .ok (.iconst 0, 1) := dk_3 (dk_at dksX10_readSaid_5 17 rfl rfl)
theorem dX10_readSaid_137 : decode cX10_readSaid 137 = .ok (.invokevirtual 377, 3) := dk_182 1 121 (dk_at dksX10_readSaid_5 18 rfl rfl)
theorem dX10_readSaid_140 : decode cX10_readSaid 140 = .ok (.putfield 374, 3) := dk_181 1 118 (dk_at dksX10_readSaid_5 21 rfl rfl)
theorem dX10_readSaid_143 : decode cX10_readSaid 143 = .ok (.goto 23, 3) := dk_167 0 23 (dk_at dksX10_readSaid_6 0 rfl rfl)
theorem dX10_readSaid_146 : decode cX10_readSaid 146 = .ok (.iload_n 2, 1) := dk_28 (dk_at dksX10_readSaid_6 3 rfl rfl)
theorem dX10_readSaid_147 : decode cX10_readSaid 147 = .ok (.bipush 18, 2) := dk_16 18 (dk_at dksX10_readSaid_6 4 rfl rfl)
theorem dX10_readSaid_149 : decode cX10_readSaid 149 = .ok (.if_icmp .ge 11, 3) := dk_162 0 11 (dk_at dksX10_readSaid_6 6 rfl rfl)
theorem dX10_readSaid_152 : decode cX10_readSaid 152 = .ok (.aload_n 0, 1) := dk_42 (dk_at dksX10_readSaid_6 9 rfl rfl)
theorem dX10_readSaid_153 : decode cX10_readSaid 153 = .ok (.iload_n 2, 1) := dk_28 (dk_at dksX10_readSaid_6 10 rfl rfl)
theorem dX10_readSaid_154 : decode cX10_readSaid 154 = .ok (.invokevirtual 395, 3) := dk_182 1 139 (dk_at dksX10_readSaid_6 11 rfl rfl)
theorem dX10_readSaid_157 : decode cX10_readSaid 157 = .ok (.goto 8, 3) := dk_167 0 8 (dk_at dksX10_readSaid_6 14 rfl rfl)
theorem dX10_readSaid_160 : decode cX10_readSaid 160 = .ok (.aload_n 0, 1) := dk_42 (dk_at dksX10_readSaid_6 17 rfl rfl)
theorem dX10_readSaid_161 : decode cX10_readSaid 161 = .ok (.iload_n 2, 1) := dk_28 (dk_at dksX10_readSaid_6 18 rfl rfl)
theorem dX10_readSaid_162 : decode cX10_readSaid 162 = .ok (.invokevirtual 398, 3) := dk_182 1 142 (dk_at dksX10_readSaid_6 19 rfl rfl)
theorem dX10_readSaid_165 : decode cX10_readSaid 165 = .ok (.istore_n 3, 1) := dk_62 (dk_at dksX10_readSaid_6 22 rfl rfl)
theorem dX10_readSaid_166 : decode cX10_readSaid 166 = .ok (.aload_n 0, 1) := dk_42 (dk_at dksX10_readSaid_6 23 rfl rfl)
theorem dX10_readSaid_167 : decode cX10_readSaid 167 = .ok (.dup, 1) := dk_89 (dk_at dksX10_readSaid_7 0 rfl rfl)
theorem dX10_readSaid_168 : decode cX10_readSaid 168 = .ok (.getfield 386, 3) := dk_180 1 130 (dk_at dksX10_readSaid_7 1 rfl rfl)
theorem dX10_readSaid_171 : decode cX10_readSaid 171 = .ok (.iconst 1, 1) := dk_4 (dk_at dksX10_readSaid_7 4 rfl rfl)
theorem dX10_readSaid_172 : decode cX10_readSaid 172 = .ok (.isub, 1) := dk_100 (dk_at dksX10_readSaid_7 5 rfl rfl)
theorem dX10_readSaid_173 : decode cX10_readSaid 173 = .ok (.putfield 386, 3) := dk_181 1 130 (dk_at dksX10_readSaid_7 6 rfl rfl)
theorem dX10_readSaid_176 : decode cX10_readSaid 176 = .ok (.iload_n 3, 1) := dk_29 (dk_at dksX10_readSaid_7 9 rfl rfl)
theorem dX10_readSaid_177 : decode cX10_readSaid 177 = .ok (.ireturn, 1) := dk_172 (dk_at dksX10_readSaid_7 10 rfl rfl)
abbrev cX10_readBracket : ByteArray := prog_23_method_123_code
def yX10_readBracket : MethodName := ⟨RX10, "readBracket", "()Z"⟩
def dkwX10_readBracket_1 : List UInt8 := [42, 182, 0, 82, 4, 172]
abbrev dktX10_readBracket_1 : List UInt8 := dkwX10_readBracket_1 ++ []
def dkwX10_readBracket_0 : List UInt8 := [42, 182, 1, 145, 154, 0, 5, 3, 172, 42, 16, 41, 182, 0, 86, 154, 0, 9, 42, 4, 182, 0, 72, 172]
abbrev dktX10_readBracket_0 : List UInt8 := dkwX10_readBracket_0 ++ dktX10_readBracket_1
theorem dksX10_readBracket_0 : cX10_readBracket.data.toList.drop 0 = dktX10_readBracket_0 := by decide +kernel
theorem dksX10_readBracket_1 : cX10_readBracket.data.toList.drop 24 = dktX10_readBracket_1 := dk_seg dksX10_readBracket_0 24 rfl rfl
theorem dX10_readBracket_0 : decode cX10_readBracket 0 = .ok (.aload_n 0, 1) := dk_42 (dk_at dksX10_readBracket_0 0 rfl rfl)
theorem dX10_readBracket_1 : decode cX10_readBracket 1 = .ok (.invokevirtual 401, 3) := dk_182 1 145 (dk_at dksX10_readBracket_0 1 rfl rfl)
theorem dX10_readBracket_4 : decode cX10_readBracket 4 = .ok (.ifCond .ne 5, 3) := dk_154 0 5 (dk_at dksX10_readBracket_0 4 rfl rfl)
theorem dX10_readBracket_7 : decode cX10_readBracket 7 = .ok (.iconst 0, 1) := dk_3 (dk_at dksX10_readBracket_0 7 rfl rfl)
theorem dX10_readBracket_8 : decode cX10_readBracket 8 = .ok (.ireturn, 1) := dk_172 (dk_at dksX10_readBracket_0 8 rfl rfl)
theorem dX10_readBracket_9 : decode cX10_readBracket 9 = .ok (.aload_n 0, 1) := dk_42 (dk_at dksX10_readBracket_0 9 rfl rfl)
theorem dX10_readBracket_10 : decode cX10_readBracket 10 = .ok (.bipush 41, 2) := dk_16 41 (dk_at dksX10_readBracket_0 10 rfl rfl)
theorem dX10_readBracket_12 : decode cX10_readBracket 12 = .ok (.invokevirtual 86, 3) := dk_182 0 86 (dk_at dksX10_readBracket_0 12 rfl rfl)
theorem dX10_readBracket_15 : decode cX10_readBracket 15 = .ok (.ifCond .ne 9, 3) := dk_154 0 9 (dk_at dksX10_readBracket_0 15 rfl rfl)
theorem dX10_readBracket_18 : decode cX10_readBracket 18 = .ok (.aload_n 0, 1) := dk_42 (dk_at dksX10_readBracket_0 18 rfl rfl)
theorem dX10_readBracket_19 : decode cX10_readBracket 19 = .ok (.iconst 1, 1) := dk_4 (dk_at dksX10_readBracket_0 19 rfl rfl)
theorem dX10_readBracket_20 : decode cX10_readBracket 20 = .ok (.invokevirtual 72, 3) := dk_182 0 72 (dk_at dksX10_readBracket_0 20 rfl rfl)
theorem dX10_readBracket_23 : decode cX10_readBracket 23 = .ok (.ireturn, 1) := dk_172 (dk_at dksX10_readBracket_0 23 rfl rfl)
theorem dX10_readBracket_24 : decode cX10_readBracket 24 = .ok (.aload_n 0, 1) := dk_42 (dk_at dksX10_readBracket_1 0 rfl rfl)
theorem dX10_readBracket_25 : decode cX10_readBracket 25 = .ok (.invokevirtual 82, 3) := dk_182 0 82 (dk_at dksX10_readBracket_1 1 rfl rfl)
theorem dX10_readBracket_28 : decode cX10_readBracket 28 = .ok (.iconst 1, 1) := dk_4 (dk_at dksX10_readBracket_1 4 rfl rfl)
theorem dX10_readBracket_29 : decode cX10_readBracket 29 = .ok (.ireturn, 1) := dk_172 (dk_at dksX10_readBracket_1 5 rfl rfl)
abbrev cX10_readNot : ByteArray := prog_23_method_122_code
def yX10_readNot : MethodName := ⟨RX10, "readNot", "()Z"⟩
def dkwX10_readNot_1 : List UInt8 := [4, 172]
abbrev dktX10_readNot_1 : List UInt8 := dkwX10_readNot_1 ++ []
def dkwX10_readNot_0 : List UInt8 := [42, 182, 1, 124, 154, 0, 5, 3, 172, 42, 42, 4, 42, 180, 1, 118, 3, 3, 182, 1, 121, 181, 1, 118]
abbrev dktX10_readNot_0 : List UInt8 := dkwX10_readNot_0 ++ dktX10_readNot_1
theorem dksX10_readNot_0 : cX10_readNot.data.toList.drop 0 = dktX10_readNot_0 := by decide +kernel
theorem dksX10_readNot_1 : cX10_readNot.data.toList.drop 24 = dktX10_readNot_1 := dk_seg dksX10_readNot_0 24 rfl rfl
theorem dX10_readNot_0 : decode cX10_readNot 0 = .ok (.aload_n 0, 1) := dk_42 (dk_at dksX10_readNot_0 0 rfl rfl)
theorem dX10_readNot_1 : decode cX10_readNot 1 = .ok (.invokevirtual 380, 3) := dk_182 1 124 (dk_at dksX10_readNot_0 1 rfl rfl)
theorem dX10_readNot_4 : decode cX10_readNot 4 = .ok (.ifCond .ne 5, 3) := dk_154 0 5 (dk_at dksX10_readNot_0 4 rfl rfl)
theorem dX10_readNot_7 : decode cX10_readNot 7 = .ok (.iconst 0, 1) := dk_3 (dk_at dksX10_readNot_0 7 rfl rfl)
theorem dX10_readNot_8 : decode cX10_readNot 8 = .ok (.ireturn, 1) := dk_172 (dk_at dksX10_readNot_0 8 rfl rfl)
theorem dX10_readNot_9 : decode cX10_readNot 9 = .ok (.aload_n 0, 1) := dk_42 (dk_at dksX10_readNot_0 9 rfl rfl)
theorem dX10_readNot_10 : decode cX10_readNot 10 = .ok (.aload_n 0, 1) := dk_42 (dk_at dksX10_readNot_0 10 rfl rfl)
theorem dX10_readNot_11 : decode cX10_readNot 11 = .ok (.iconst 1, 1) := dk_4 (dk_at dksX10_readNot_0 11 rfl rfl)
theorem dX10_readNot_12 : decode cX10_readNot 12 = .ok (.aload_n 0, 1) := dk_42 (dk_at dksX10_readNot_0 12 rfl rfl)
theorem dX10_readNot_13 : decode cX10_readNot 13 = .ok (.getfield 374, 3) := dk_180 1 118 (dk_at dksX10_readNot_0 13 rfl rfl)
theorem dX10_readNot_16 : decode cX10_readNot 16 = .ok (.iconst 0, 1) := dk_3 (dk_at dksX10_readNot_0 16 rfl rfl)
theorem dX10_readNot_17 : decode cX10_readNot 17 = .ok (.iconst 0, 1) := dk_3 (dk_at dksX10_readNot_0 17 rfl rfl)
theorem dX10_readNot_18 : decode cX10_readNot 18 = .ok (.invokevirtual 377, 3) := dk_182 1 121 (dk_at dksX10_readNot_0 18 rfl rfl)
theorem dX10_readNot_21 : decode cX10_readNot 21 = .ok (.putfield 374, 3) := dk_181 1 118 (dk_at dksX10_readNot_0 21 rfl rfl)
theorem dX10_readNot_24 : decode cX10_readNot 24 = .ok (.iconst 1, 1) := dk_4 (dk_at dksX10_readNot_1 0 rfl rfl)
theorem dX10_readNot_25 : decode cX10_readNot 25 = .ok (.ireturn, 1) := dk_172 (dk_at dksX10_readNot_1 1 rfl rfl)
abbrev cX10_saysOne : ByteArray := prog_23_method_118_code
def yX10_saysOne : MethodName := ⟨RX10, "saysOne", "(IIII)I"⟩
def dkwX10_saysOne_2 : List UInt8 := [89, 180, 1, 112, 4, 96, 181, 1, 112, 42, 180, 1, 112, 4, 100, 172]
abbrev dktX10_saysOne_2 : List UInt8 := dkwX10_saysOne_2 ++ []
def dkwX10_saysOne_1 : List UInt8 := [28, 79, 42, 180, 0, 139, 21, 5, 5, 96, 29, 79, 42, 180, 0, 139, 21, 5, 6, 96, 21, 4, 79, 42]
abbrev dktX10_saysOne_1 : List UInt8 := dkwX10_saysOne_1 ++ dktX10_saysOne_2
def dkwX10_saysOne_0 : List UInt8 := [7, 42, 180, 1, 112, 104, 54, 5, 42, 180, 0, 139, 21, 5, 27, 79, 42, 180, 0, 139, 21, 5, 4, 96]
abbrev dktX10_saysOne_0 : List UInt8 := dkwX10_saysOne_0 ++ dktX10_saysOne_1
theorem dksX10_saysOne_0 : cX10_saysOne.data.toList.drop 0 = dktX10_saysOne_0 := by decide +kernel
theorem dksX10_saysOne_1 : cX10_saysOne.data.toList.drop 24 = dktX10_saysOne_1 := dk_seg dksX10_saysOne_0 24 rfl rfl
theorem dksX10_saysOne_2 : cX10_saysOne.data.toList.drop 48 = dktX10_saysOne_2 := dk_seg dksX10_saysOne_1 24 rfl rfl
theorem dX10_saysOne_0 : decode cX10_saysOne 0 = .ok (.iconst 4, 1) := dk_7 (dk_at dksX10_saysOne_0 0 rfl rfl)
theorem dX10_saysOne_1 : decode cX10_saysOne 1 = .ok (.aload_n 0, 1) := dk_42 (dk_at dksX10_saysOne_0 1 rfl rfl)
theorem dX10_saysOne_2 : decode cX10_saysOne 2 = .ok (.getfield 368, 3) := dk_180 1 112 (dk_at dksX10_saysOne_0 2 rfl rfl)
theorem dX10_saysOne_5 : decode cX10_saysOne 5 = .ok (.imul, 1) := dk_104 (dk_at dksX10_saysOne_0 5 rfl rfl)
theorem dX10_saysOne_6 : decode cX10_saysOne 6 = .ok (.istore 5, 2) := dk_54 5 (dk_at dksX10_saysOne_0 6 rfl rfl)
theorem dX10_saysOne_8 : decode cX10_saysOne 8 = .ok (.aload_n 0, 1) := dk_42 (dk_at dksX10_saysOne_0 8 rfl rfl)
theorem dX10_saysOne_9 : decode cX10_saysOne 9 = .ok (.getfield 139, 3) := dk_180 0 139 (dk_at dksX10_saysOne_0 9 rfl rfl)
theorem dX10_saysOne_12 : decode cX10_saysOne 12 = .ok (.iload 5, 2) := dk_21 5 (dk_at dksX10_saysOne_0 12 rfl rfl)
theorem dX10_saysOne_14 : decode cX10_saysOne 14 = .ok (.iload_n 1, 1) := dk_27 (dk_at dksX10_saysOne_0 14 rfl rfl)
theorem dX10_saysOne_15 : decode cX10_saysOne 15 = .ok (.iastore, 1) := dk_79 (dk_at dksX10_saysOne_0 15 rfl rfl)
theorem dX10_saysOne_16 : decode cX10_saysOne 16 = .ok (.aload_n 0, 1) := dk_42 (dk_at dksX10_saysOne_0 16 rfl rfl)
theorem dX10_saysOne_17 : decode cX10_saysOne 17 = .ok (.getfield 139, 3) := dk_180 0 139 (dk_at dksX10_saysOne_0 17 rfl rfl)
theorem dX10_saysOne_20 : decode cX10_saysOne 20 = .ok (.iload 5, 2) := dk_21 5 (dk_at dksX10_saysOne_0 20 rfl rfl)
theorem dX10_saysOne_22 : decode cX10_saysOne 22 = .ok (.iconst 1, 1) := dk_4 (dk_at dksX10_saysOne_0 22 rfl rfl)
theorem dX10_saysOne_23 : decode cX10_saysOne 23 = .ok (.iadd, 1) := dk_96 (dk_at dksX10_saysOne_0 23 rfl rfl)
theorem dX10_saysOne_24 : decode cX10_saysOne 24 = .ok (.iload_n 2, 1) := dk_28 (dk_at dksX10_saysOne_1 0 rfl rfl)
theorem dX10_saysOne_25 : decode cX10_saysOne 25 = .ok (.iastore, 1) := dk_79 (dk_at dksX10_saysOne_1 1 rfl rfl)
theorem dX10_saysOne_26 : decode cX10_saysOne 26 = .ok (.aload_n 0, 1) := dk_42 (dk_at dksX10_saysOne_1 2 rfl rfl)
theorem dX10_saysOne_27 : decode cX10_saysOne 27 = .ok (.getfield 139, 3) := dk_180 0 139 (dk_at dksX10_saysOne_1 3 rfl rfl)
theorem dX10_saysOne_30 : decode cX10_saysOne 30 = .ok (.iload 5, 2) := dk_21 5 (dk_at dksX10_saysOne_1 6 rfl rfl)
theorem dX10_saysOne_32 : decode cX10_saysOne 32 = .ok (.iconst 2, 1) := dk_5 (dk_at dksX10_saysOne_1 8 rfl rfl)
theorem dX10_saysOne_33 : decode cX10_saysOne 33 = .ok (.iadd, 1) := dk_96 (dk_at dksX10_saysOne_1 9 rfl rfl)
theorem dX10_saysOne_34 : decode cX10_saysOne 34 = .ok (.iload_n 3, 1) := dk_29 (dk_at dksX10_saysOne_1 10 rfl rfl)
theorem dX10_saysOne_35 : decode cX10_saysOne 35 = .ok (.iastore, 1) := dk_79 (dk_at dksX10_saysOne_1 11 rfl rfl)
theorem dX10_saysOne_36 : decode cX10_saysOne 36 = .ok (.aload_n 0, 1) := dk_42 (dk_at dksX10_saysOne_1 12 rfl rfl)
theorem dX10_saysOne_37 : decode cX10_saysOne 37 = .ok (.getfield 139, 3) := dk_180 0 139 (dk_at dksX10_saysOne_1 13 rfl rfl)
theorem dX10_saysOne_40 : decode cX10_saysOne 40 = .ok (.iload 5, 2) := dk_21 5 (dk_at dksX10_saysOne_1 16 rfl rfl)
theorem dX10_saysOne_42 : decode cX10_saysOne 42 = .ok (.iconst 3, 1) := dk_6 (dk_at dksX10_saysOne_1 18 rfl rfl)
theorem dX10_saysOne_43 : decode cX10_saysOne 43 = .ok (.iadd, 1) := dk_96 (dk_at dksX10_saysOne_1 19 rfl rfl)
theorem dX10_saysOne_44 : decode cX10_saysOne 44 = .ok (.iload 4, 2) := dk_21 4 (dk_at dksX10_saysOne_1 20 rfl rfl)
theorem dX10_saysOne_46 : decode cX10_saysOne 46 = .ok (.iastore, 1) := dk_79 (dk_at dksX10_saysOne_1 22 rfl rfl)
theorem dX10_saysOne_47 : decode cX10_saysOne 47 = .ok (.aload_n 0, 1) := dk_42 (dk_at dksX10_saysOne_1 23 rfl rfl)
theorem dX10_saysOne_48 : decode cX10_saysOne 48 = .ok (.dup, 1) := dk_89 (dk_at dksX10_saysOne_2 0 rfl rfl)
theorem dX10_saysOne_49 : decode cX10_saysOne 49 = .ok (.getfield 368, 3) := dk_180 1 112 (dk_at dksX10_saysOne_2 1 rfl rfl)
theorem dX10_saysOne_52 : decode cX10_saysOne 52 = .ok (.iconst 1, 1) := dk_4 (dk_at dksX10_saysOne_2 4 rfl rfl)
theorem dX10_saysOne_53 : decode cX10_saysOne 53 = .ok (.iadd, 1) := dk_96 (dk_at dksX10_saysOne_2 5 rfl rfl)
theorem dX10_saysOne_54 : decode cX10_saysOne 54 = .ok (.putfield 368, 3) := dk_181 1 112 (dk_at dksX10_saysOne_2 6 rfl rfl)
theorem dX10_saysOne_57 : decode cX10_saysOne 57 = .ok (.aload_n 0, 1) := dk_42 (dk_at dksX10_saysOne_2 9 rfl rfl)
theorem dX10_saysOne_58 : decode cX10_saysOne 58 = .ok (.getfield 368, 3) := dk_180 1 112 (dk_at dksX10_saysOne_2 10 rfl rfl)
theorem dX10_saysOne_61 : decode cX10_saysOne 61 = .ok (.iconst 1, 1) := dk_4 (dk_at dksX10_saysOne_2 13 rfl rfl)
theorem dX10_saysOne_62 : decode cX10_saysOne 62 = .ok (.isub, 1) := dk_100 (dk_at dksX10_saysOne_2 14 rfl rfl)
theorem dX10_saysOne_63 : decode cX10_saysOne 63 = .ok (.ireturn, 1) := dk_172 (dk_at dksX10_saysOne_2 15 rfl rfl)
abbrev cX10_readOf : ByteArray := prog_23_method_124_code
def yX10_readOf : MethodName := ⟨RX10, "readOf", "(I)Z"⟩
def dkwX10_readOf_1 : List UInt8 := [181, 1, 118, 4, 172]
abbrev dktX10_readOf_1 : List UInt8 := dkwX10_readOf_1 ++ []
def dkwX10_readOf_0 : List UInt8 := [42, 182, 1, 90, 154, 0, 5, 3, 172, 42, 42, 16, 50, 27, 96, 42, 180, 0, 79, 3, 3, 182, 1, 121]
abbrev dktX10_readOf_0 : List UInt8 := dkwX10_readOf_0 ++ dktX10_readOf_1
theorem dksX10_readOf_0 : cX10_readOf.data.toList.drop 0 = dktX10_readOf_0 := by decide +kernel
theorem dksX10_readOf_1 : cX10_readOf.data.toList.drop 24 = dktX10_readOf_1 := dk_seg dksX10_readOf_0 24 rfl rfl
theorem dX10_readOf_0 : decode cX10_readOf 0 = .ok (.aload_n 0, 1) := dk_42 (dk_at dksX10_readOf_0 0 rfl rfl)
theorem dX10_readOf_1 : decode cX10_readOf 1 = .ok (.invokevirtual 346, 3) := dk_182 1 90 (dk_at dksX10_readOf_0 1 rfl rfl)
theorem dX10_readOf_4 : decode cX10_readOf 4 = .ok (.ifCond .ne 5, 3) := dk_154 0 5 (dk_at dksX10_readOf_0 4 rfl rfl)
theorem dX10_readOf_7 : decode cX10_readOf 7 = .ok (.iconst 0, 1) := dk_3 (dk_at dksX10_readOf_0 7 rfl rfl)
theorem dX10_readOf_8 : decode cX10_readOf 8 = .ok (.ireturn, 1) := dk_172 (dk_at dksX10_readOf_0 8 rfl rfl)
theorem dX10_readOf_9 : decode cX10_readOf 9 = .ok (.aload_n 0, 1) := dk_42 (dk_at dksX10_readOf_0 9 rfl rfl)
theorem dX10_readOf_10 : decode cX10_readOf 10 = .ok (.aload_n 0, 1) := dk_42 (dk_at dksX10_readOf_0 10 rfl rfl)
theorem dX10_readOf_11 : decode cX10_readOf 11 = .ok (.bipush 50, 2) := dk_16 50 (dk_at dksX10_readOf_0 11 rfl rfl)
theorem dX10_readOf_13 : decode cX10_readOf 13 = .ok (.iload_n 1, 1) := dk_27 (dk_at dksX10_readOf_0 13 rfl rfl)
theorem dX10_readOf_14 : decode cX10_readOf 14 = .ok (.iadd, 1) := dk_96 (dk_at dksX10_readOf_0 14 rfl rfl)
theorem dX10_readOf_15 : decode cX10_readOf 15 = .ok (.aload_n 0, 1) := dk_42 (dk_at dksX10_readOf_0 15 rfl rfl)
theorem dX10_readOf_16 : decode cX10_readOf 16 = .ok (.getfield 79, 3) := dk_180 0 79 (dk_at dksX10_readOf_0 16 rfl rfl)
theorem dX10_readOf_19 : decode cX10_readOf 19 = .ok (.iconst 0, 1) := dk_3 (dk_at dksX10_readOf_0 19 rfl rfl)
theorem dX10_readOf_20 : decode cX10_readOf 20 = .ok (.iconst 0, 1) := dk_3 (dk_at dksX10_readOf_0 20 rfl rfl)
theorem dX10_readOf_21 : decode cX10_readOf 21 = .ok (.invokevirtual 377, 3) := dk_182 1 121 (dk_at dksX10_readOf_0 21 rfl rfl)
theorem dX10_readOf_24 : decode cX10_readOf 24 = .ok (.putfield 374, 3) := dk_181 1 118 (dk_at dksX10_readOf_1 0 rfl rfl)
theorem dX10_readOf_27 : decode cX10_readOf 27 = .ok (.iconst 1, 1) := dk_4 (dk_at dksX10_readOf_1 3 rfl rfl)
theorem dX10_readOf_28 : decode cX10_readOf 28 = .ok (.ireturn, 1) := dk_172 (dk_at dksX10_readOf_1 4 rfl rfl)
abbrev cX10_readCompare : ByteArray := prog_23_method_125_code
def yX10_readCompare : MethodName := ⟨RX10, "readCompare", "(I)Z"⟩
def dkwX10_readCompare_3 : List UInt8 := [181, 1, 118, 4, 172]
abbrev dktX10_readCompare_3 : List UInt8 := dkwX10_readCompare_3 ++ []
def dkwX10_readCompare_2 : List UInt8 := [182, 0, 146, 154, 0, 5, 3, 172, 42, 42, 16, 50, 27, 96, 3, 42, 180, 0, 79, 28, 182, 1, 121]
abbrev dktX10_readCompare_2 : List UInt8 := dkwX10_readCompare_2 ++ dktX10_readCompare_3
def dkwX10_readCompare_1 : List UInt8 := [154, 0, 9, 42, 4, 182, 0, 72, 172, 42, 180, 0, 40, 61, 42, 182, 0, 82, 42, 3, 17, 3, 231]
abbrev dktX10_readCompare_1 : List UInt8 := dkwX10_readCompare_1 ++ dktX10_readCompare_2
def dkwX10_readCompare_0 : List UInt8 := [42, 16, 60, 182, 0, 86, 154, 0, 27, 42, 16, 61, 182, 0, 86, 154, 0, 18, 42, 16, 62, 182, 0, 86]
abbrev dktX10_readCompare_0 : List UInt8 := dkwX10_readCompare_0 ++ dktX10_readCompare_1
theorem dksX10_readCompare_0 : cX10_readCompare.data.toList.drop 0 = dktX10_readCompare_0 := by decide +kernel
theorem dksX10_readCompare_1 : cX10_readCompare.data.toList.drop 24 = dktX10_readCompare_1 := dk_seg dksX10_readCompare_0 24 rfl rfl
theorem dksX10_readCompare_2 : cX10_readCompare.data.toList.drop 47 = dktX10_readCompare_2 := dk_seg dksX10_readCompare_1 23 rfl rfl
theorem dksX10_readCompare_3 : cX10_readCompare.data.toList.drop 70 = dktX10_readCompare_3 := dk_seg dksX10_readCompare_2 23 rfl rfl
theorem dX10_readCompare_0 : decode cX10_readCompare 0 = .ok (.aload_n 0, 1) := dk_42 (dk_at dksX10_readCompare_0 0 rfl rfl)
theorem dX10_readCompare_1 : decode cX10_readCompare 1 = .ok (.bipush 60, 2) := dk_16 60 (dk_at dksX10_readCompare_0 1 rfl rfl)
theorem dX10_readCompare_3 : decode cX10_readCompare 3 = .ok (.invokevirtual 86, 3) := dk_182 0 86 (dk_at dksX10_readCompare_0 3 rfl rfl)
theorem dX10_readCompare_6 : decode cX10_readCompare 6 = .ok (.ifCond .ne 27, 3) := dk_154 0 27 (dk_at dksX10_readCompare_0 6 rfl rfl)
theorem dX10_readCompare_9 : decode cX10_readCompare 9 = .ok (.aload_n 0, 1) := dk_42 (dk_at dksX10_readCompare_0 9 rfl rfl)
theorem dX10_readCompare_10 : decode cX10_readCompare 10 = .ok (.bipush 61, 2) := dk_16 61 (dk_at dksX10_readCompare_0 10 rfl rfl)
theorem dX10_readCompare_12 : decode cX10_readCompare 12 = .ok (.invokevirtual 86, 3) := dk_182 0 86 (dk_at dksX10_readCompare_0 12 rfl rfl)
theorem dX10_readCompare_15 : decode cX10_readCompare 15 = .ok (.ifCond .ne 18, 3) := dk_154 0 18 (dk_at dksX10_readCompare_0 15 rfl rfl)
theorem dX10_readCompare_18 : decode cX10_readCompare 18 = .ok (.aload_n 0, 1) := dk_42 (dk_at dksX10_readCompare_0 18 rfl rfl)
theorem dX10_readCompare_19 : decode cX10_readCompare 19 = .ok (.bipush 62, 2) := dk_16 62 (dk_at dksX10_readCompare_0 19 rfl rfl)
theorem dX10_readCompare_21 : decode cX10_readCompare 21 = .ok (.invokevirtual 86, 3) := dk_182 0 86 (dk_at dksX10_readCompare_0 21 rfl rfl)
theorem dX10_readCompare_24 : decode cX10_readCompare 24 = .ok (.ifCond .ne 9, 3) := dk_154 0 9 (dk_at dksX10_readCompare_1 0 rfl rfl)
theorem dX10_readCompare_27 : decode cX10_readCompare 27 = .ok (.aload_n 0, 1) := dk_42 (dk_at dksX10_readCompare_1 3 rfl rfl)
theorem dX10_readCompare_28 : decode cX10_readCompare 28 = .ok (.iconst 1, 1) := dk_4 (dk_at dksX10_readCompare_1 4 rfl rfl)
theorem dX10_readCompare_29 : decode cX10_readCompare 29 = .ok (.invokevirtual 72, 3) := dk_182 0 72 (dk_at dksX10_readCompare_1 5 rfl rfl)
theorem dX10_readCompare_32 : decode cX10_readCompare 32 = .ok (.ireturn, 1) := dk_172 (dk_at dksX10_readCompare_1 8 rfl rfl)
theorem dX10_readCompare_33 : decode cX10_readCompare 33 = .ok (.aload_n 0, 1) := dk_42 (dk_at dksX10_readCompare_1 9 rfl rfl)
theorem dX10_readCompare_34 : decode cX10_readCompare 34 = .ok (.getfield 40, 3) := dk_180 0 40 (dk_at dksX10_readCompare_1 10 rfl rfl)
theorem dX10_readCompare_37 : decode cX10_readCompare 37 = .ok (.istore_n 2, 1) := dk_61 (dk_at dksX10_readCompare_1 13 rfl rfl)
theorem dX10_readCompare_38 : decode cX10_readCompare 38 = .ok (.aload_n 0, 1) := dk_42 (dk_at dksX10_readCompare_1 14 rfl rfl)
theorem dX10_readCompare_39 : decode cX10_readCompare 39 = .ok (.invokevirtual 82, 3) := dk_182 0 82 (dk_at dksX10_readCompare_1 15 rfl rfl)
theorem dX10_readCompare_42 : decode cX10_readCompare 42 = .ok (.aload_n 0, 1) := dk_42 (dk_at dksX10_readCompare_1 18 rfl rfl)
theorem dX10_readCompare_43 : decode cX10_readCompare 43 = .ok (.iconst 0, 1) := dk_3 (dk_at dksX10_readCompare_1 19 rfl rfl)
theorem dX10_readCompare_44 : decode cX10_readCompare 44 = .ok (.sipush 999, 3) := dk_17 3 231 (dk_at dksX10_readCompare_1 20 rfl rfl)
theorem dX10_readCompare_47 : decode cX10_readCompare 47 = .ok (.invokevirtual 146, 3) := dk_182 0 146 (dk_at dksX10_readCompare_2 0 rfl rfl)
theorem dX10_readCompare_50 : decode cX10_readCompare 50 = .ok (.ifCond .ne 5, 3) := dk_154 0 5 (dk_at dksX10_readCompare_2 3 rfl rfl)
theorem dX10_readCompare_53 : decode cX10_readCompare 53 = .ok (.iconst 0, 1) := dk_3 (dk_at dksX10_readCompare_2 6 rfl rfl)
theorem dX10_readCompare_54 : decode cX10_readCompare 54 = .ok (.ireturn, 1) := dk_172 (dk_at dksX10_readCompare_2 7 rfl rfl)
theorem dX10_readCompare_55 : decode cX10_readCompare 55 = .ok (.aload_n 0, 1) := dk_42 (dk_at dksX10_readCompare_2 8 rfl rfl)
theorem dX10_readCompare_56 : decode cX10_readCompare 56 = .ok (.aload_n 0, 1) := dk_42 (dk_at dksX10_readCompare_2 9 rfl rfl)
theorem dX10_readCompare_57 : decode cX10_readCompare 57 = .ok (.bipush 50, 2) := dk_16 50 (dk_at dksX10_readCompare_2 10 rfl rfl)
theorem dX10_readCompare_59 : decode cX10_readCompare 59 = .ok (.iload_n 1, 1) := dk_27 (dk_at dksX10_readCompare_2 12 rfl rfl)
theorem dX10_readCompare_60 : decode cX10_readCompare 60 = .ok (.iadd, 1) := dk_96 (dk_at dksX10_readCompare_2 13 rfl rfl)
theorem dX10_readCompare_61 : decode cX10_readCompare 61 = .ok (.iconst 0, 1) := dk_3 (dk_at dksX10_readCompare_2 14 rfl rfl)
theorem dX10_readCompare_62 : decode cX10_readCompare 62 = .ok (.aload_n 0, 1) := dk_42 (dk_at dksX10_readCompare_2 15 rfl rfl)
theorem dX10_readCompare_63 : decode cX10_readCompare 63 = .ok (.getfield 79, 3) := dk_180 0 79 (dk_at dksX10_readCompare_2 16 rfl rfl)
theorem dX10_readCompare_66 : decode cX10_readCompare 66 = .ok (.iload_n 2, 1) := dk_28 (dk_at dksX10_readCompare_2 19 rfl rfl)
theorem dX10_readCompare_67 : decode cX10_readCompare 67 = .ok (.invokevirtual 377, 3) := dk_182 1 121 (dk_at dksX10_readCompare_2 20 rfl rfl)
theorem dX10_readCompare_70 : decode cX10_readCompare 70 = .ok (.putfield 374, 3) := dk_181 1 118 (dk_at dksX10_readCompare_3 0 rfl rfl)
theorem dX10_readCompare_73 : decode cX10_readCompare 73 = .ok (.iconst 1, 1) := dk_4 (dk_at dksX10_readCompare_3 3 rfl rfl)
theorem dX10_readCompare_74 : decode cX10_readCompare 74 = .ok (.ireturn, 1) := dk_172 (dk_at dksX10_readCompare_3 4 rfl rfl)
abbrev cX10_said : ByteArray := prog_23_method_128_code
def yX10_said : MethodName := ⟨RX10, "said", "(I)I"⟩
def dkwX10_said_3 : List UInt8 := [28, 167, 0, 4, 2, 172]
abbrev dktX10_said_3 : List UInt8 := dkwX10_said_3 ++ []
def dkwX10_said_2 : List UInt8 := [167, 0, 13, 28, 27, 160, 0, 5, 29, 172, 132, 2, 1, 132, 3, 1, 167, 255, 214, 27, 2, 160, 0, 7]
abbrev dktX10_said_2 : List UInt8 := dkwX10_said_2 ++ dktX10_said_3
def dkwX10_said_1 : List UInt8 := [180, 0, 98, 3, 46, 162, 0, 38, 42, 42, 180, 0, 98, 17, 22, 189, 46, 29, 182, 1, 148, 154, 0, 6]
abbrev dktX10_said_1 : List UInt8 := dkwX10_said_1 ++ dktX10_said_2
def dkwX10_said_0 : List UInt8 := [42, 3, 181, 0, 1, 42, 180, 0, 98, 17, 22, 188, 46, 154, 0, 5, 2, 172, 3, 61, 3, 62, 29, 42]
abbrev dktX10_said_0 : List UInt8 := dkwX10_said_0 ++ dktX10_said_1
theorem dksX10_said_0 : cX10_said.data.toList.drop 0 = dktX10_said_0 := by decide +kernel
theorem dksX10_said_1 : cX10_said.data.toList.drop 24 = dktX10_said_1 := dk_seg dksX10_said_0 24 rfl rfl
theorem dksX10_said_2 : cX10_said.data.toList.drop 48 = dktX10_said_2 := dk_seg dksX10_said_1 24 rfl rfl
theorem dksX10_said_3 : cX10_said.data.toList.drop 72 = dktX10_said_3 := dk_seg dksX10_said_2 24 rfl rfl
theorem dX10_said_0 : decode cX10_said 0 = .ok (.aload_n 0, 1) := dk_42 (dk_at dksX10_said_0 0 rfl rfl)
theorem dX10_said_1 : decode cX10_said 1 = .ok (.iconst 0, 1) := dk_3 (dk_at dksX10_said_0 1 rfl rfl)
theorem dX10_said_2 : decode cX10_said 2 = .ok (.putfield 1, 3) := dk_181 0 1 (dk_at dksX10_said_0 2 rfl rfl)
theorem dX10_said_5 : decode cX10_said 5 = .ok (.aload_n 0, 1) := dk_42 (dk_at dksX10_said_0 5 rfl rfl)
theorem dX10_said_6 : decode cX10_said 6 = .ok (.getfield 98, 3) := dk_180 0 98 (dk_at dksX10_said_0 6 rfl rfl)
theorem dX10_said_9 : decode cX10_said 9 = .ok (.sipush 5820, 3) := dk_17 22 188 (dk_at dksX10_said_0 9 rfl rfl)
theorem dX10_said_12 : decode cX10_said 12 = .ok (.iaload, 1) := dk_46 (dk_at dksX10_said_0 12 rfl rfl)
theorem dX10_said_13 : decode cX10_said 13 = .ok (.ifCond .ne 5, 3) := dk_154 0 5 (dk_at dksX10_said_0 13 rfl rfl)
theorem dX10_said_16 : decode cX10_said 16 = .ok (.iconst (-1), 1) := dk_2 (dk_at dksX10_said_0 16 rfl rfl)
theorem dX10_said_17 : decode cX10_said 17 = .ok (.ireturn, 1) := dk_172 (dk_at dksX10_said_0 17 rfl rfl)
theorem dX10_said_18 : decode cX10_said 18 = .ok (.iconst 0, 1) := dk_3 (dk_at dksX10_said_0 18 rfl rfl)
theorem dX10_said_19 : decode cX10_said 19 = .ok (.istore_n 2, 1) := dk_61 (dk_at dksX10_said_0 19 rfl rfl)
theorem dX10_said_20 : decode cX10_said 20 = .ok (.iconst 0, 1) := dk_3 (dk_at dksX10_said_0 20 rfl rfl)
theorem dX10_said_21 : decode cX10_said 21 = .ok (.istore_n 3, 1) := dk_62 (dk_at dksX10_said_0 21 rfl rfl)
theorem dX10_said_22 : decode cX10_said 22 = .ok (.iload_n 3, 1) := dk_29 (dk_at dksX10_said_0 22 rfl rfl)
theorem dX10_said_23 : decode cX10_said 23 = .ok (.aload_n 0, 1) := dk_42 (dk_at dksX10_said_0 23 rfl rfl)
theorem dX10_said_24 : decode cX10_said 24 = .ok (.getfield 98, 3) := dk_180 0 98 (dk_at dksX10_said_1 0 rfl rfl)
theorem dX10_said_27 : decode cX10_said 27 = .ok (.iconst 0, 1) := dk_3 (dk_at dksX10_said_1 3 rfl rfl)
theorem dX10_said_28 : decode cX10_said 28 = .ok (.iaload, 1) := dk_46 (dk_at dksX10_said_1 4 rfl rfl)
theorem dX10_said_29 : decode cX10_said 29 = .ok (.if_icmp .ge 38, 3) := dk_162 0 38 (dk_at dksX10_said_1 5 rfl rfl)
theorem dX10_said_32 : decode cX10_said 32 = .ok (.aload_n 0, 1) := dk_42 (dk_at dksX10_said_1 8 rfl rfl)
theorem dX10_said_33 : decode cX10_said 33 = .ok (.aload_n 0, 1) := dk_42 (dk_at dksX10_said_1 9 rfl rfl)
theorem dX10_said_34 : decode cX10_said 34 = .ok (.getfield 98, 3) := dk_180 0 98 (dk_at dksX10_said_1 10 rfl rfl)
theorem dX10_said_37 : decode cX10_said 37 = .ok (.sipush 5821, 3) := dk_17 22 189 (dk_at dksX10_said_1 13 rfl rfl)
theorem dX10_said_40 : decode cX10_said 40 = .ok (.iaload, 1) := dk_46 (dk_at dksX10_said_1 16 rfl rfl)
theorem dX10_said_41 : decode cX10_said 41 = .ok (.iload_n 3, 1) := dk_29 (dk_at dksX10_said_1 17 rfl rfl)
theorem dX10_said_42 : decode cX10_said 42 = .ok (.invokevirtual 404, 3) := dk_182 1 148 (dk_at dksX10_said_1 18 rfl rfl)
theorem dX10_said_45 : decode cX10_said 45 = .ok (.ifCond .ne 6, 3) := dk_154 0 6 (dk_at dksX10_said_1 21 rfl rfl)
theorem dX10_said_48 : decode cX10_said 48 = .ok (.goto 13, 3) := dk_167 0 13 (dk_at dksX10_said_2 0 rfl rfl)
theorem dX10_said_51 : decode cX10_said 51 = .ok (.iload_n 2, 1) := dk_28 (dk_at dksX10_said_2 3 rfl rfl)
theorem dX10_said_52 : decode cX10_said 52 = .ok (.iload_n 1, 1) := dk_27 (dk_at dksX10_said_2 4 rfl rfl)
theorem dX10_said_53 : decode cX10_said 53 = .ok (.if_icmp .ne 5, 3) := dk_160 0 5 (dk_at dksX10_said_2 5 rfl rfl)
theorem dX10_said_56 : decode cX10_said 56 = .ok (.iload_n 3, 1) := dk_29 (dk_at dksX10_said_2 8 rfl rfl)
theorem dX10_said_57 : decode cX10_said 57 = .ok (.ireturn, 1) := dk_172 (dk_at dksX10_said_2 9 rfl rfl)
theorem dX10_said_58 : decode cX10_said 58 = .ok (.iinc 2 1, 3) := dk_132 2 1 (dk_at dksX10_said_2 10 rfl rfl)
theorem dX10_said_61 : decode cX10_said 61 = .ok (.iinc 3 1, 3) := dk_132 3 1 (dk_at dksX10_said_2 13 rfl rfl)
theorem dX10_said_64 : decode cX10_said 64 = .ok (.goto (-42), 3) := dk_167 255 214 (dk_at dksX10_said_2 16 rfl rfl)
theorem dX10_said_67 : decode cX10_said 67 = .ok (.iload_n 1, 1) := dk_27 (dk_at dksX10_said_2 19 rfl rfl)
theorem dX10_said_68 : decode cX10_said 68 = .ok (.iconst (-1), 1) := dk_2 (dk_at dksX10_said_2 20 rfl rfl)
theorem dX10_said_69 : decode cX10_said 69 = .ok (.if_icmp .ne 7, 3) := dk_160 0 7 (dk_at dksX10_said_2 21 rfl rfl)
theorem dX10_said_72 : decode cX10_said 72 = .ok (.iload_n 2, 1) := dk_28 (dk_at dksX10_said_3 0 rfl rfl)
theorem dX10_said_73 : decode cX10_said 73 = .ok (.goto 4, 3) := dk_167 0 4 (dk_at dksX10_said_3 1 rfl rfl)
theorem dX10_said_76 : decode cX10_said 76 = .ok (.iconst (-1), 1) := dk_2 (dk_at dksX10_said_3 4 rfl rfl)
theorem dX10_said_77 : decode cX10_said 77 = .ok (.ireturn, 1) := dk_172 (dk_at dksX10_said_3 5 rfl rfl)
abbrev cX10_holds : ByteArray := prog_23_method_127_code
def yX10_holds : MethodName := ⟨RX10, "holds", "(II)Z"⟩
def dkwX10_holds_14 : List UInt8 := [21, 5, 164, 0, 7, 4, 167, 0, 4, 3, 172]
abbrev dktX10_holds_14 : List UInt8 := dkwX10_holds_14 ++ []
def dkwX10_holds_13 : List UInt8 := [96, 46, 16, 61, 160, 0, 18, 21, 7, 21, 5, 160, 0, 7, 4, 167, 0, 19, 3, 167, 0, 15, 21, 7]
abbrev dktX10_holds_13 : List UInt8 := dkwX10_holds_13 ++ dktX10_holds_14
def dkwX10_holds_12 : List UInt8 := [160, 0, 18, 21, 7, 21, 5, 162, 0, 7, 4, 167, 0, 47, 3, 167, 0, 43, 42, 180, 0, 98, 29, 6]
abbrev dktX10_holds_12 : List UInt8 := dkwX10_holds_12 ++ dktX10_holds_13
def dkwX10_holds_11 : List UInt8 := [17, 10, 51, 28, 96, 46, 167, 0, 4, 28, 54, 7, 42, 180, 0, 98, 29, 6, 96, 46, 16, 60]
abbrev dktX10_holds_11 : List UInt8 := dkwX10_holds_11 ++ dktX10_holds_12
def dkwX10_holds_10 : List UInt8 := [160, 0, 11, 42, 28, 182, 0, 228, 167, 0, 24, 21, 6, 16, 21, 160, 0, 16, 42, 180, 0, 98]
abbrev dktX10_holds_10 : List UInt8 := dkwX10_holds_10 ++ dktX10_holds_11
def dkwX10_holds_9 : List UInt8 := [167, 0, 54, 21, 6, 16, 19, 160, 0, 11, 42, 28, 182, 1, 151, 167, 0, 39, 21, 6, 16, 20]
abbrev dktX10_holds_9 : List UInt8 := dkwX10_holds_9 ++ dktX10_holds_10
def dkwX10_holds_8 : List UInt8 := [180, 0, 98, 29, 46, 16, 50, 100, 54, 6, 21, 6, 16, 18, 160, 0, 11, 42, 28, 182, 0, 199]
abbrev dktX10_holds_8 : List UInt8 := dkwX10_holds_8 ++ dktX10_holds_9
def dkwX10_holds_7 : List UInt8 := [167, 0, 4, 3, 172, 42, 28, 21, 4, 182, 1, 14, 172, 42, 28, 21, 4, 182, 1, 154, 172, 42]
abbrev dktX10_holds_7 : List UInt8 := dkwX10_holds_7 ++ dktX10_holds_8
def dkwX10_holds_6 : List UInt8 := [182, 0, 199, 154, 0, 7, 4, 167, 0, 4, 3, 172, 42, 28, 182, 1, 151, 5, 112, 154, 0, 7, 4]
abbrev dktX10_holds_6 : List UInt8 := dkwX10_holds_6 ++ dktX10_holds_7
def dkwX10_holds_5 : List UInt8 := [182, 1, 148, 154, 0, 13, 42, 21, 5, 28, 182, 1, 148, 153, 0, 7, 4, 167, 0, 4, 3, 172, 42, 28]
abbrev dktX10_holds_5 : List UInt8 := dkwX10_holds_5 ++ dktX10_holds_6
def dkwX10_holds_4 : List UInt8 := [153, 0, 17, 42, 21, 5, 28, 182, 1, 148, 153, 0, 7, 4, 167, 0, 4, 3, 172, 42, 21, 4, 28]
abbrev dktX10_holds_4 : List UInt8 := dkwX10_holds_4 ++ dktX10_holds_5
def dkwX10_holds_3 : List UInt8 := [42, 21, 4, 28, 182, 1, 148, 154, 0, 7, 4, 167, 0, 4, 3, 172, 42, 21, 4, 28, 182, 1, 148]
abbrev dktX10_holds_3 : List UInt8 := dkwX10_holds_3 ++ dktX10_holds_4
def dkwX10_holds_2 : List UInt8 := [171, 0, 0, 0, 0, 180, 0, 0, 0, 7, 0, 0, 0, 1, 0, 0, 0, 66, 0, 0, 0, 2, 0, 0, 0, 82, 0, 0, 0, 3, 0, 0, 0, 108, 0, 0, 0, 64, 0, 0, 0, 134, 0, 0, 0, 65, 0, 0, 0, 148, 0, 0, 0, 66, 0, 0, 0, 164, 0, 0, 0, 67, 0, 0, 0, 172]
abbrev dktX10_holds_2 : List UInt8 := dkwX10_holds_2 ++ dktX10_holds_3
def dkwX10_holds_1 : List UInt8 := [96, 46, 54, 5, 42, 180, 0, 98, 29, 46]
abbrev dktX10_holds_1 : List UInt8 := dkwX10_holds_1 ++ dktX10_holds_2
def dkwX10_holds_0 : List UInt8 := [17, 22, 190, 7, 27, 104, 96, 62, 42, 180, 0, 98, 29, 4, 96, 46, 54, 4, 42, 180, 0, 98, 29, 5]
abbrev dktX10_holds_0 : List UInt8 := dkwX10_holds_0 ++ dktX10_holds_1
theorem dksX10_holds_0 : cX10_holds.data.toList.drop 0 = dktX10_holds_0 := by decide +kernel
theorem dksX10_holds_1 : cX10_holds.data.toList.drop 24 = dktX10_holds_1 := dk_seg dksX10_holds_0 24 rfl rfl
theorem dksX10_holds_2 : cX10_holds.data.toList.drop 34 = dktX10_holds_2 := dk_seg dksX10_holds_1 10 rfl rfl
theorem dksX10_holds_3 : cX10_holds.data.toList.drop 100 = dktX10_holds_3 := dk_seg dksX10_holds_2 66 rfl rfl
theorem dksX10_holds_4 : cX10_holds.data.toList.drop 123 = dktX10_holds_4 := dk_seg dksX10_holds_3 23 rfl rfl
theorem dksX10_holds_5 : cX10_holds.data.toList.drop 146 = dktX10_holds_5 := dk_seg dksX10_holds_4 23 rfl rfl
theorem dksX10_holds_6 : cX10_holds.data.toList.drop 170 = dktX10_holds_6 := dk_seg dksX10_holds_5 24 rfl rfl
theorem dksX10_holds_7 : cX10_holds.data.toList.drop 193 = dktX10_holds_7 := dk_seg dksX10_holds_6 23 rfl rfl
theorem dksX10_holds_8 : cX10_holds.data.toList.drop 215 = dktX10_holds_8 := dk_seg dksX10_holds_7 22 rfl rfl
theorem dksX10_holds_9 : cX10_holds.data.toList.drop 237 = dktX10_holds_9 := dk_seg dksX10_holds_8 22 rfl rfl
theorem dksX10_holds_10 : cX10_holds.data.toList.drop 259 = dktX10_holds_10 := dk_seg dksX10_holds_9 22 rfl rfl
theorem dksX10_holds_11 : cX10_holds.data.toList.drop 281 = dktX10_holds_11 := dk_seg dksX10_holds_10 22 rfl rfl
theorem dksX10_holds_12 : cX10_holds.data.toList.drop 303 = dktX10_holds_12 := dk_seg dksX10_holds_11 22 rfl rfl
theorem dksX10_holds_13 : cX10_holds.data.toList.drop 327 = dktX10_holds_13 := dk_seg dksX10_holds_12 24 rfl rfl
theorem dksX10_holds_14 : cX10_holds.data.toList.drop 351 = dktX10_holds_14 := dk_seg dksX10_holds_13 24 rfl rfl
theorem dX10_holds_0 : decode cX10_holds 0 = .ok (.sipush 5822, 3) := dk_17 22 190 (dk_at dksX10_holds_0 0 rfl rfl)
theorem dX10_holds_3 : decode cX10_holds 3 = .ok (.iconst 4, 1) := dk_7 (dk_at dksX10_holds_0 3 rfl rfl)
theorem dX10_holds_4 : decode cX10_holds 4 = .ok (.iload_n 1, 1) := dk_27 (dk_at dksX10_holds_0 4 rfl rfl)
theorem dX10_holds_5 : decode cX10_holds 5 = .ok (.imul, 1) := dk_104 (dk_at dksX10_holds_0 5 rfl rfl)
theorem dX10_holds_6 : decode cX10_holds 6 = .ok (.iadd, 1) := dk_96 (dk_at dksX10_holds_0 6 rfl rfl)
theorem dX10_holds_7 : decode cX10_holds 7 = .ok (.istore_n 3, 1) := dk_62 (dk_at dksX10_holds_0 7 rfl rfl)
theorem dX10_holds_8 : decode cX10_holds 8 = .ok (.aload_n 0, 1) := dk_42 (dk_at dksX10_holds_0 8 rfl rfl)
theorem dX10_holds_9 : decode cX10_holds 9 = .ok (.getfield 98, 3) := dk_180 0 98 (dk_at dksX10_holds_0 9 rfl rfl)
theorem dX10_holds_12 : decode cX10_holds 12 = .ok (.iload_n 3, 1) := dk_29 (dk_at dksX10_holds_0 12 rfl rfl)
theorem dX10_holds_13 : decode cX10_holds 13 = .ok (.iconst 1, 1) := dk_4 (dk_at dksX10_holds_0 13 rfl rfl)
theorem dX10_holds_14 : decode cX10_holds 14 = .ok (.iadd, 1) := dk_96 (dk_at dksX10_holds_0 14 rfl rfl)
theorem dX10_holds_15 : decode cX10_holds 15 = .ok (.iaload, 1) := dk_46 (dk_at dksX10_holds_0 15 rfl rfl)
theorem dX10_holds_16 : decode cX10_holds 16 = .ok (.istore 4, 2) := dk_54 4 (dk_at dksX10_holds_0 16 rfl rfl)
theorem dX10_holds_18 : decode cX10_holds 18 = .ok (.aload_n 0, 1) := dk_42 (dk_at dksX10_holds_0 18 rfl rfl)
theorem dX10_holds_19 : decode cX10_holds 19 = .ok (.getfield 98, 3) := dk_180 0 98 (dk_at dksX10_holds_0 19 rfl rfl)
theorem dX10_holds_22 : decode cX10_holds 22 = .ok (.iload_n 3, 1) := dk_29 (dk_at dksX10_holds_0 22 rfl rfl)
theorem dX10_holds_23 : decode cX10_holds 23 = .ok (.iconst 2, 1) := dk_5 (dk_at dksX10_holds_0 23 rfl rfl)
theorem dX10_holds_24 : decode cX10_holds 24 = .ok (.iadd, 1) := dk_96 (dk_at dksX10_holds_1 0 rfl rfl)
theorem dX10_holds_25 : decode cX10_holds 25 = .ok (.iaload, 1) := dk_46 (dk_at dksX10_holds_1 1 rfl rfl)
theorem dX10_holds_26 : decode cX10_holds 26 = .ok (.istore 5, 2) := dk_54 5 (dk_at dksX10_holds_1 2 rfl rfl)
theorem dX10_holds_28 : decode cX10_holds 28 = .ok (.aload_n 0, 1) := dk_42 (dk_at dksX10_holds_1 4 rfl rfl)
theorem dX10_holds_29 : decode cX10_holds 29 = .ok (.getfield 98, 3) := dk_180 0 98 (dk_at dksX10_holds_1 5 rfl rfl)
theorem dX10_holds_32 : decode cX10_holds 32 = .ok (.iload_n 3, 1) := dk_29 (dk_at dksX10_holds_1 8 rfl rfl)
theorem dX10_holds_33 : decode cX10_holds 33 = .ok (.iaload, 1) := dk_46 (dk_at dksX10_holds_1 9 rfl rfl)
theorem dX10_holds_34 : decode cX10_holds 34 = .ok (.lookupswitch 180 #[(1, 66), (2, 82), (3, 108), (64, 134), (65, 148), (66, 164), (67, 172)], 66) := by decide +kernel
theorem dX10_holds_100 : decode cX10_holds 100 = .ok (.aload_n 0, 1) := dk_42 (dk_at dksX10_holds_3 0 rfl rfl)
theorem dX10_holds_101 : decode cX10_holds 101 = .ok (.iload 4, 2) := dk_21 4 (dk_at dksX10_holds_3 1 rfl rfl)
theorem dX10_holds_103 : decode cX10_holds 103 = .ok (.iload_n 2, 1) := dk_28 (dk_at dksX10_holds_3 3 rfl rfl)
theorem dX10_holds_104 : decode cX10_holds 104 = .ok (.invokevirtual 404, 3) := dk_182 1 148 (dk_at dksX10_holds_3 4 rfl rfl)
theorem dX10_holds_107 : decode cX10_holds 107 = .ok (.ifCond .ne 7, 3) := dk_154 0 7 (dk_at dksX10_holds_3 7 rfl rfl)
theorem dX10_holds_110 : decode cX10_holds 110 = .ok (.iconst 1, 1) := dk_4 (dk_at dksX10_holds_3 10 rfl rfl)
theorem dX10_holds_111 : decode cX10_holds 111 = .ok (.goto 4, 3) := dk_167 0 4 (dk_at dksX10_holds_3 11 rfl rfl)
theorem dX10_holds_114 : decode cX10_holds 114 = .ok (.iconst 0, 1) := dk_3 (dk_at dksX10_holds_3 14 rfl rfl)
theorem dX10_holds_115 : decode cX10_holds 115 = .ok (.ireturn, 1) := dk_172 (dk_at dksX10_holds_3 15 rfl rfl)
theorem dX10_holds_116 : decode cX10_holds 116 = .ok (.aload_n 0, 1) := dk_42 (dk_at dksX10_holds_3 16 rfl rfl)
theorem dX10_holds_117 : decode cX10_holds 117 = .ok (.iload 4, 2) := dk_21 4 (dk_at dksX10_holds_3 17 rfl rfl)
theorem dX10_holds_119 : decode cX10_holds 119 = .ok (.iload_n 2, 1) := dk_28 (dk_at dksX10_holds_3 19 rfl rfl)
theorem dX10_holds_120 : decode cX10_holds 120 = .ok (.invokevirtual 404, 3) := dk_182 1 148 (dk_at dksX10_holds_3 20 rfl rfl)
theorem dX10_holds_123 : decode cX10_holds 123 = .ok (.ifCond .eq 17, 3) := dk_153 0 17 (dk_at dksX10_holds_4 0 rfl rfl)
theorem dX10_holds_126 : decode cX10_holds 126 = .ok (.aload_n 0, 1) := dk_42 (dk_at dksX10_holds_4 3 rfl rfl)
theorem dX10_holds_127 : decode cX10_holds 127 = .ok (.iload 5, 2) := dk_21 5 (dk_at dksX10_holds_4 4 rfl rfl)
theorem dX10_holds_129 : decode cX10_holds 129 = .ok (.iload_n 2, 1) := dk_28 (dk_at dksX10_holds_4 6 rfl rfl)
theorem dX10_holds_130 : decode cX10_holds 130 = .ok (.invokevirtual 404, 3) := dk_182 1 148 (dk_at dksX10_holds_4 7 rfl rfl)
theorem dX10_holds_133 : decode cX10_holds 133 = .ok (.ifCond .eq 7, 3) := dk_153 0 7 (dk_at dksX10_holds_4 10 rfl rfl)
theorem dX10_holds_136 : decode cX10_holds 136 = .ok (.iconst 1, 1) := dk_4 (dk_at dksX10_holds_4 13 rfl rfl)
theorem dX10_holds_137 : decode cX10_holds 137 = .ok (.goto 4, 3) := dk_167 0 4 (dk_at dksX10_holds_4 14 rfl rfl)
theorem dX10_holds_140 : decode cX10_holds 140 = .ok (.iconst 0, 1) := dk_3 (dk_at dksX10_holds_4 17 rfl rfl)
theorem dX10_holds_141 : decode cX10_holds 141 = .ok (.ireturn, 1) := dk_172 (dk_at dksX10_holds_4 18 rfl rfl)
theorem dX10_holds_142 : decode cX10_holds 142 = .ok (.aload_n 0, 1) := dk_42 (dk_at dksX10_holds_4 19 rfl rfl)
theorem dX10_holds_143 : decode cX10_holds 143 = .ok (.iload 4, 2) := dk_21 4 (dk_at dksX10_holds_4 20 rfl rfl)
theorem dX10_holds_145 : decode cX10_holds 145 = .ok (.iload_n 2, 1) := dk_28 (dk_at dksX10_holds_4 22 rfl rfl)
theorem dX10_holds_146 : decode cX10_holds 146 = .ok (.invokevirtual 404, 3) := dk_182 1 148 (dk_at dksX10_holds_5 0 rfl rfl)
theorem dX10_holds_149 : decode cX10_holds 149 = .ok (.ifCond .ne 13, 3) := dk_154 0 13 (dk_at dksX10_holds_5 3 rfl rfl)
theorem dX10_holds_152 : decode cX10_holds 152 = .ok (.aload_n 0, 1) := dk_42 (dk_at dksX10_holds_5 6 rfl rfl)
theorem dX10_holds_153 : decode cX10_holds 153 = .ok (.iload 5, 2) := dk_21 5 (dk_at dksX10_holds_5 7 rfl rfl)
theorem dX10_holds_155 : decode cX10_holds 155 = .ok (.iload_n 2, 1) := dk_28 (dk_at dksX10_holds_5 9 rfl rfl)
theorem dX10_holds_156 : decode cX10_holds 156 = .ok (.invokevirtual 404, 3) := dk_182 1 148 (dk_at dksX10_holds_5 10 rfl rfl)
theorem dX10_holds_159 : decode cX10_holds 159 = .ok (.ifCond .eq 7, 3) := dk_153 0 7 (dk_at dksX10_holds_5 13 rfl rfl)
theorem dX10_holds_162 : decode cX10_holds 162 = .ok (.iconst 1, 1) := dk_4 (dk_at dksX10_holds_5 16 rfl rfl)
theorem dX10_holds_163 : decode cX10_holds 163 = .ok (.goto 4, 3) := dk_167 0 4 (dk_at dksX10_holds_5 17 rfl rfl)
theorem dX10_holds_166 : decode cX10_holds 166 = .ok (.iconst 0, 1) := dk_3 (dk_at dksX10_holds_5 20 rfl rfl)
theorem dX10_holds_167 : decode cX10_holds 167 = .ok (.ireturn, 1) := dk_172 (dk_at dksX10_holds_5 21 rfl rfl)
theorem dX10_holds_168 : decode cX10_holds 168 = .ok (.aload_n 0, 1) := dk_42 (dk_at dksX10_holds_5 22 rfl rfl)
theorem dX10_holds_169 : decode cX10_holds 169 = .ok (.iload_n 2, 1) := dk_28 (dk_at dksX10_holds_5 23 rfl rfl)
theorem dX10_holds_170 : decode cX10_holds 170 = .ok (.invokevirtual 199, 3) := dk_182 0 199 (dk_at dksX10_holds_6 0 rfl rfl)
theorem dX10_holds_173 : decode cX10_holds 173 = .ok (.ifCond .ne 7, 3) := dk_154 0 7 (dk_at dksX10_holds_6 3 rfl rfl)
theorem dX10_holds_176 : decode cX10_holds 176 = .ok (.iconst 1, 1) := dk_4 (dk_at dksX10_holds_6 6 rfl rfl)
theorem dX10_holds_177 : decode cX10_holds 177 = .ok (.goto 4, 3) := dk_167 0 4 (dk_at dksX10_holds_6 7 rfl rfl)
theorem dX10_holds_180 : decode cX10_holds 180 = .ok (.iconst 0, 1) := dk_3 (dk_at dksX10_holds_6 10 rfl rfl)
theorem dX10_holds_181 : decode cX10_holds 181 = .ok (.ireturn, 1) := dk_172 (dk_at dksX10_holds_6 11 rfl rfl)
theorem dX10_holds_182 : decode cX10_holds 182 = .ok (.aload_n 0, 1) := dk_42 (dk_at dksX10_holds_6 12 rfl rfl)
theorem dX10_holds_183 : decode cX10_holds 183 = .ok (.iload_n 2, 1) := dk_28 (dk_at dksX10_holds_6 13 rfl rfl)
theorem dX10_holds_184 : decode cX10_holds 184 = .ok (.invokevirtual 407, 3) := dk_182 1 151 (dk_at dksX10_holds_6 14 rfl rfl)
theorem dX10_holds_187 : decode cX10_holds 187 = .ok (.iconst 2, 1) := dk_5 (dk_at dksX10_holds_6 17 rfl rfl)
theorem dX10_holds_188 : decode cX10_holds 188 = .ok (.irem, 1) := dk_112 (dk_at dksX10_holds_6 18 rfl rfl)
theorem dX10_holds_189 : decode cX10_holds 189 = .ok (.ifCond .ne 7, 3) := dk_154 0 7 (dk_at dksX10_holds_6 19 rfl rfl)
theorem dX10_holds_192 : decode cX10_holds 192 = .ok (.iconst 1, 1) := dk_4 (dk_at dksX10_holds_6 22 rfl rfl)
theorem dX10_holds_193 : decode cX10_holds 193 = .ok (.goto 4, 3) := dk_167 0 4 (dk_at dksX10_holds_7 0 rfl rfl)
theorem dX10_holds_196 : decode cX10_holds 196 = .ok (.iconst 0, 1) := dk_3 (dk_at dksX10_holds_7 3 rfl rfl)
theorem dX10_holds_197 : decode cX10_holds 197 = .ok (.ireturn, 1) := dk_172 (dk_at dksX10_holds_7 4 rfl rfl)
theorem dX10_holds_198 : decode cX10_holds 198 = .ok (.aload_n 0, 1) := dk_42 (dk_at dksX10_holds_7 5 rfl rfl)
theorem dX10_holds_199 : decode cX10_holds 199 = .ok (.iload_n 2, 1) := dk_28 (dk_at dksX10_holds_7 6 rfl rfl)
theorem dX10_holds_200 : decode cX10_holds 200 = .ok (.iload 4, 2) := dk_21 4 (dk_at dksX10_holds_7 7 rfl rfl)
theorem dX10_holds_202 : decode cX10_holds 202 = .ok (.invokevirtual 270, 3) := dk_182 1 14 (dk_at dksX10_holds_7 9 rfl rfl)
theorem dX10_holds_205 : decode cX10_holds 205 = .ok (.ireturn, 1) := dk_172 (dk_at dksX10_holds_7 12 rfl rfl)
theorem dX10_holds_206 : decode cX10_holds 206 = .ok (.aload_n 0, 1) := dk_42 (dk_at dksX10_holds_7 13 rfl rfl)
theorem dX10_holds_207 : decode cX10_holds 207 = .ok (.iload_n 2, 1) := dk_28 (dk_at dksX10_holds_7 14 rfl rfl)
theorem dX10_holds_208 : decode cX10_holds 208 = .ok (.iload 4, 2) := dk_21 4 (dk_at dksX10_holds_7 15 rfl rfl)
theorem dX10_holds_210 : decode cX10_holds 210 = .ok (.invokevirtual 410, 3) := dk_182 1 154 (dk_at dksX10_holds_7 17 rfl rfl)
theorem dX10_holds_213 : decode cX10_holds 213 = .ok (.ireturn, 1) := dk_172 (dk_at dksX10_holds_7 20 rfl rfl)
theorem dX10_holds_214 : decode cX10_holds 214 = .ok (.aload_n 0, 1) := dk_42 (dk_at dksX10_holds_7 21 rfl rfl)
theorem dX10_holds_215 : decode cX10_holds 215 = .ok (.getfield 98, 3) := dk_180 0 98 (dk_at dksX10_holds_8 0 rfl rfl)
theorem dX10_holds_218 : decode cX10_holds 218 = .ok (.iload_n 3, 1) := dk_29 (dk_at dksX10_holds_8 3 rfl rfl)
theorem dX10_holds_219 : decode cX10_holds 219 = .ok (.iaload, 1) := dk_46 (dk_at dksX10_holds_8 4 rfl rfl)
theorem dX10_holds_220 : decode cX10_holds 220 = .ok (.bipush 50, 2) := dk_16 50 (dk_at dksX10_holds_8 5 rfl rfl)
theorem dX10_holds_222 : decode cX10_holds 222 = .ok (.isub, 1) := dk_100 (dk_at dksX10_holds_8 7 rfl rfl)
theorem dX10_holds_223 : decode cX10_holds 223 = .ok (.istore 6, 2) := dk_54 6 (dk_at dksX10_holds_8 8 rfl rfl)
theorem dX10_holds_225 : decode cX10_holds 225 = .ok (.iload 6, 2) := dk_21 6 (dk_at dksX10_holds_8 10 rfl rfl)
theorem dX10_holds_227 : decode cX10_holds 227 = .ok (.bipush 18, 2) := dk_16 18 (dk_at dksX10_holds_8 12 rfl rfl)
theorem dX10_holds_229 : decode cX10_holds 229 = .ok (.if_icmp .ne 11, 3) := dk_160 0 11 (dk_at dksX10_holds_8 14 rfl rfl)
theorem dX10_holds_232 : decode cX10_holds 232 = .ok (.aload_n 0, 1) := dk_42 (dk_at dksX10_holds_8 17 rfl rfl)
theorem dX10_holds_233 : decode cX10_holds 233 = .ok (.iload_n 2, 1) := dk_28 (dk_at dksX10_holds_8 18 rfl rfl)
theorem dX10_holds_234 : decode cX10_holds 234 = .ok (.invokevirtual 199, 3) := dk_182 0 199 (dk_at dksX10_holds_8 19 rfl rfl)
theorem dX10_holds_237 : decode cX10_holds 237 = .ok (.goto 54, 3) := dk_167 0 54 (dk_at dksX10_holds_9 0 rfl rfl)
theorem dX10_holds_240 : decode cX10_holds 240 = .ok (.iload 6, 2) := dk_21 6 (dk_at dksX10_holds_9 3 rfl rfl)
theorem dX10_holds_242 : decode cX10_holds 242 = .ok (.bipush 19, 2) := dk_16 19 (dk_at dksX10_holds_9 5 rfl rfl)
theorem dX10_holds_244 : decode cX10_holds 244 = .ok (.if_icmp .ne 11, 3) := dk_160 0 11 (dk_at dksX10_holds_9 7 rfl rfl)
theorem dX10_holds_247 : decode cX10_holds 247 = .ok (.aload_n 0, 1) := dk_42 (dk_at dksX10_holds_9 10 rfl rfl)
theorem dX10_holds_248 : decode cX10_holds 248 = .ok (.iload_n 2, 1) := dk_28 (dk_at dksX10_holds_9 11 rfl rfl)
theorem dX10_holds_249 : decode cX10_holds 249 = .ok (.invokevirtual 407, 3) := dk_182 1 151 (dk_at dksX10_holds_9 12 rfl rfl)
theorem dX10_holds_252 : decode cX10_holds 252 = .ok (.goto 39, 3) := dk_167 0 39 (dk_at dksX10_holds_9 15 rfl rfl)
theorem dX10_holds_255 : decode cX10_holds 255 = .ok (.iload 6, 2) := dk_21 6 (dk_at dksX10_holds_9 18 rfl rfl)
theorem dX10_holds_257 : decode cX10_holds 257 = .ok (.bipush 20, 2) := dk_16 20 (dk_at dksX10_holds_9 20 rfl rfl)
theorem dX10_holds_259 : decode cX10_holds 259 = .ok (.if_icmp .ne 11, 3) := dk_160 0 11 (dk_at dksX10_holds_10 0 rfl rfl)
theorem dX10_holds_262 : decode cX10_holds 262 = .ok (.aload_n 0, 1) := dk_42 (dk_at dksX10_holds_10 3 rfl rfl)
theorem dX10_holds_263 : decode cX10_holds 263 = .ok (.iload_n 2, 1) := dk_28 (dk_at dksX10_holds_10 4 rfl rfl)
theorem dX10_holds_264 : decode cX10_holds 264 = .ok (.invokevirtual 228, 3) := dk_182 0 228 (dk_at dksX10_holds_10 5 rfl rfl)
theorem dX10_holds_267 : decode cX10_holds 267 = .ok (.goto 24, 3) := dk_167 0 24 (dk_at dksX10_holds_10 8 rfl rfl)
theorem dX10_holds_270 : decode cX10_holds 270 = .ok (.iload 6, 2) := dk_21 6 (dk_at dksX10_holds_10 11 rfl rfl)
theorem dX10_holds_272 : decode cX10_holds 272 = .ok (.bipush 21, 2) := dk_16 21 (dk_at dksX10_holds_10 13 rfl rfl)
theorem dX10_holds_274 : decode cX10_holds 274 = .ok (.if_icmp .ne 16, 3) := dk_160 0 16 (dk_at dksX10_holds_10 15 rfl rfl)
theorem dX10_holds_277 : decode cX10_holds 277 = .ok (.aload_n 0, 1) := dk_42 (dk_at dksX10_holds_10 18 rfl rfl)
theorem dX10_holds_278 : decode cX10_holds 278 = .ok (.getfield 98, 3) := dk_180 0 98 (dk_at dksX10_holds_10 19 rfl rfl)
theorem dX10_holds_281 : decode cX10_holds 281 = .ok (.sipush 2611, 3) := dk_17 10 51 (dk_at dksX10_holds_11 0 rfl rfl)
theorem dX10_holds_284 : decode cX10_holds 284 = .ok (.iload_n 2, 1) := dk_28 (dk_at dksX10_holds_11 3 rfl rfl)
theorem dX10_holds_285 : decode cX10_holds 285 = .ok (.iadd, 1) := dk_96 (dk_at dksX10_holds_11 4 rfl rfl)
theorem dX10_holds_286 : decode cX10_holds 286 = .ok (.iaload, 1) := dk_46 (dk_at dksX10_holds_11 5 rfl rfl)
theorem dX10_holds_287 : decode cX10_holds 287 = .ok (.goto 4, 3) := dk_167 0 4 (dk_at dksX10_holds_11 6 rfl rfl)
theorem dX10_holds_290 : decode cX10_holds 290 = .ok (.iload_n 2, 1) := dk_28 (dk_at dksX10_holds_11 9 rfl rfl)
theorem dX10_holds_291 : decode cX10_holds 291 = .ok (.istore 7, 2) := dk_54 7 (dk_at dksX10_holds_11 10 rfl rfl)
theorem dX10_holds_293 : decode cX10_holds 293 = .ok (.aload_n 0, 1) := dk_42 (dk_at dksX10_holds_11 12 rfl rfl)
theorem dX10_holds_294 : decode cX10_holds 294 = .ok (.getfield 98, 3) := dk_180 0 98 (dk_at dksX10_holds_11 13 rfl rfl)
theorem dX10_holds_297 : decode cX10_holds 297 = .ok (.iload_n 3, 1) := dk_29 (dk_at dksX10_holds_11 16 rfl rfl)
theorem dX10_holds_298 : decode cX10_holds 298 = .ok (.iconst 3, 1) := dk_6 (dk_at dksX10_holds_11 17 rfl rfl)
theorem dX10_holds_299 : decode cX10_holds 299 = .ok (.iadd, 1) := dk_96 (dk_at dksX10_holds_11 18 rfl rfl)
theorem dX10_holds_300 : decode cX10_holds 300 = .ok (.iaload, 1) := dk_46 (dk_at dksX10_holds_11 19 rfl rfl)
theorem dX10_holds_301 : decode cX10_holds 301 = .ok (.bipush 60, 2) := dk_16 60 (dk_at dksX10_holds_11 20 rfl rfl)
theorem dX10_holds_303 : decode cX10_holds 303 = .ok (.if_icmp .ne 18, 3) := dk_160 0 18 (dk_at dksX10_holds_12 0 rfl rfl)
theorem dX10_holds_306 : decode cX10_holds 306 = .ok (.iload 7, 2) := dk_21 7 (dk_at dksX10_holds_12 3 rfl rfl)
theorem dX10_holds_308 : decode cX10_holds 308 = .ok (.iload 5, 2) := dk_21 5 (dk_at dksX10_holds_12 5 rfl rfl)
theorem dX10_holds_310 : decode cX10_holds 310 = .ok (.if_icmp .ge 7, 3) := dk_162 0 7 (dk_at dksX10_holds_12 7 rfl rfl)
theorem dX10_holds_313 : decode cX10_holds 313 = .ok (.iconst 1, 1) := dk_4 (dk_at dksX10_holds_12 10 rfl rfl)
theorem dX10_holds_314 : decode cX10_holds 314 = .ok (.goto 47, 3) := dk_167 0 47 (dk_at dksX10_holds_12 11 rfl rfl)
theorem dX10_holds_317 : decode cX10_holds 317 = .ok (.iconst 0, 1) := dk_3 (dk_at dksX10_holds_12 14 rfl rfl)
theorem dX10_holds_318 : decode cX10_holds 318 = .ok (.goto 43, 3) := dk_167 0 43 (dk_at dksX10_holds_12 15 rfl rfl)
theorem dX10_holds_321 : decode cX10_holds 321 = .ok (.aload_n 0, 1) := dk_42 (dk_at dksX10_holds_12 18 rfl rfl)
theorem dX10_holds_322 : decode cX10_holds 322 = .ok (.getfield 98, 3) := dk_180 0 98 (dk_at dksX10_holds_12 19 rfl rfl)
theorem dX10_holds_325 : decode cX10_holds 325 = .ok (.iload_n 3, 1) := dk_29 (dk_at dksX10_holds_12 22 rfl rfl)
theorem dX10_holds_326 : decode cX10_holds 326 = .ok (.iconst 3, 1) := dk_6 (dk_at dksX10_holds_12 23 rfl rfl)
theorem dX10_holds_327 : decode cX10_holds 327 = .ok (.iadd, 1) := dk_96 (dk_at dksX10_holds_13 0 rfl rfl)
theorem dX10_holds_328 : decode cX10_holds 328 = .ok (.iaload, 1) := dk_46 (dk_at dksX10_holds_13 1 rfl rfl)
theorem dX10_holds_329 : decode cX10_holds 329 = .ok (.bipush 61, 2) := dk_16 61 (dk_at dksX10_holds_13 2 rfl rfl)
theorem dX10_holds_331 : decode cX10_holds 331 = .ok (.if_icmp .ne 18, 3) := dk_160 0 18 (dk_at dksX10_holds_13 4 rfl rfl)
theorem dX10_holds_334 : decode cX10_holds 334 = .ok (.iload 7, 2) := dk_21 7 (dk_at dksX10_holds_13 7 rfl rfl)
theorem dX10_holds_336 : decode cX10_holds 336 = .ok (.iload 5, 2) := dk_21 5 (dk_at dksX10_holds_13 9 rfl rfl)
theorem dX10_holds_338 : decode cX10_holds 338 = .ok (.if_icmp .ne 7, 3) := dk_160 0 7 (dk_at dksX10_holds_13 11 rfl rfl)
theorem dX10_holds_341 : decode cX10_holds 341 = .ok (.iconst 1, 1) := dk_4 (dk_at dksX10_holds_13 14 rfl rfl)
theorem dX10_holds_342 : decode cX10_holds 342 = .ok (.goto 19, 3) := dk_167 0 19 (dk_at dksX10_holds_13 15 rfl rfl)
theorem dX10_holds_345 : decode cX10_holds 345 = .ok (.iconst 0, 1) := dk_3 (dk_at dksX10_holds_13 18 rfl rfl)
theorem dX10_holds_346 : decode cX10_holds 346 = .ok (.goto 15, 3) := dk_167 0 15 (dk_at dksX10_holds_13 19 rfl rfl)
theorem dX10_holds_349 : decode cX10_holds 349 = .ok (.iload 7, 2) := dk_21 7 (dk_at dksX10_holds_13 22 rfl rfl)
theorem dX10_holds_351 : decode cX10_holds 351 = .ok (.iload 5, 2) := dk_21 5 (dk_at dksX10_holds_14 0 rfl rfl)
theorem dX10_holds_353 : decode cX10_holds 353 = .ok (.if_icmp .le 7, 3) := dk_164 0 7 (dk_at dksX10_holds_14 2 rfl rfl)
theorem dX10_holds_356 : decode cX10_holds 356 = .ok (.iconst 1, 1) := dk_4 (dk_at dksX10_holds_14 5 rfl rfl)
theorem dX10_holds_357 : decode cX10_holds 357 = .ok (.goto 4, 3) := dk_167 0 4 (dk_at dksX10_holds_14 6 rfl rfl)
theorem dX10_holds_360 : decode cX10_holds 360 = .ok (.iconst 0, 1) := dk_3 (dk_at dksX10_holds_14 9 rfl rfl)
theorem dX10_holds_361 : decode cX10_holds 361 = .ok (.ireturn, 1) := dk_172 (dk_at dksX10_holds_14 10 rfl rfl)
abbrev cX10_onesOf : ByteArray := prog_23_method_117_code
def yX10_onesOf : MethodName := ⟨RX10, "onesOf", "(I)I"⟩
def dkwX10_onesOf_0 : List UInt8 := [42, 27, 3, 42, 27, 182, 0, 199, 182, 0, 224, 172]
abbrev dktX10_onesOf_0 : List UInt8 := dkwX10_onesOf_0 ++ []
theorem dksX10_onesOf_0 : cX10_onesOf.data.toList.drop 0 = dktX10_onesOf_0 := by decide +kernel
theorem dX10_onesOf_0 : decode cX10_onesOf 0 = .ok (.aload_n 0, 1) := dk_42 (dk_at dksX10_onesOf_0 0 rfl rfl)
theorem dX10_onesOf_1 : decode cX10_onesOf 1 = .ok (.iload_n 1, 1) := dk_27 (dk_at dksX10_onesOf_0 1 rfl rfl)
theorem dX10_onesOf_2 : decode cX10_onesOf 2 = .ok (.iconst 0, 1) := dk_3 (dk_at dksX10_onesOf_0 2 rfl rfl)
theorem dX10_onesOf_3 : decode cX10_onesOf 3 = .ok (.aload_n 0, 1) := dk_42 (dk_at dksX10_onesOf_0 3 rfl rfl)
theorem dX10_onesOf_4 : decode cX10_onesOf 4 = .ok (.iload_n 1, 1) := dk_27 (dk_at dksX10_onesOf_0 4 rfl rfl)
theorem dX10_onesOf_5 : decode cX10_onesOf 5 = .ok (.invokevirtual 199, 3) := dk_182 0 199 (dk_at dksX10_onesOf_0 5 rfl rfl)
theorem dX10_onesOf_8 : decode cX10_onesOf 8 = .ok (.invokevirtual 224, 3) := dk_182 0 224 (dk_at dksX10_onesOf_0 8 rfl rfl)
theorem dX10_onesOf_11 : decode cX10_onesOf 11 = .ok (.ireturn, 1) := dk_172 (dk_at dksX10_onesOf_0 11 rfl rfl)
abbrev cX10_beginsWith : ByteArray := prog_23_method_116_code
def yX10_beginsWith : MethodName := ⟨RX10, "beginsWith", "(II)Z"⟩
def dkwX10_beginsWith_1 : List UInt8 := [160, 0, 7, 4, 167, 0, 4, 3, 172]
abbrev dktX10_beginsWith_1 : List UInt8 := dkwX10_beginsWith_1 ++ []
def dkwX10_beginsWith_0 : List UInt8 := [42, 28, 182, 0, 199, 42, 27, 182, 0, 199, 163, 0, 21, 42, 27, 28, 182, 1, 11, 42, 28, 182, 0, 199]
abbrev dktX10_beginsWith_0 : List UInt8 := dkwX10_beginsWith_0 ++ dktX10_beginsWith_1
theorem dksX10_beginsWith_0 : cX10_beginsWith.data.toList.drop 0 = dktX10_beginsWith_0 := by decide +kernel
theorem dksX10_beginsWith_1 : cX10_beginsWith.data.toList.drop 24 = dktX10_beginsWith_1 := dk_seg dksX10_beginsWith_0 24 rfl rfl
theorem dX10_beginsWith_0 : decode cX10_beginsWith 0 = .ok (.aload_n 0, 1) := dk_42 (dk_at dksX10_beginsWith_0 0 rfl rfl)
theorem dX10_beginsWith_1 : decode cX10_beginsWith 1 = .ok (.iload_n 2, 1) := dk_28 (dk_at dksX10_beginsWith_0 1 rfl rfl)
theorem dX10_beginsWith_2 : decode cX10_beginsWith 2 = .ok (.invokevirtual 199, 3) := dk_182 0 199 (dk_at dksX10_beginsWith_0 2 rfl rfl)
theorem dX10_beginsWith_5 : decode cX10_beginsWith 5 = .ok (.aload_n 0, 1) := dk_42 (dk_at dksX10_beginsWith_0 5 rfl rfl)
theorem dX10_beginsWith_6 : decode cX10_beginsWith 6 = .ok (.iload_n 1, 1) := dk_27 (dk_at dksX10_beginsWith_0 6 rfl rfl)
theorem dX10_beginsWith_7 : decode cX10_beginsWith 7 = .ok (.invokevirtual 199, 3) := dk_182 0 199 (dk_at dksX10_beginsWith_0 7 rfl rfl)
theorem dX10_beginsWith_10 : decode cX10_beginsWith 10 = .ok (.if_icmp .gt 21, 3) := dk_163 0 21 (dk_at dksX10_beginsWith_0 10 rfl rfl)
theorem dX10_beginsWith_13 : decode cX10_beginsWith 13 = .ok (.aload_n 0, 1) := dk_42 (dk_at dksX10_beginsWith_0 13 rfl rfl)
theorem dX10_beginsWith_14 : decode cX10_beginsWith 14 = .ok (.iload_n 1, 1) := dk_27 (dk_at dksX10_beginsWith_0 14 rfl rfl)
theorem dX10_beginsWith_15 : decode cX10_beginsWith 15 = .ok (.iload_n 2, 1) := dk_28 (dk_at dksX10_beginsWith_0 15 rfl rfl)
theorem dX10_beginsWith_16 : decode cX10_beginsWith 16 = .ok (.invokevirtual 267, 3) := dk_182 1 11 (dk_at dksX10_beginsWith_0 16 rfl rfl)
theorem dX10_beginsWith_19 : decode cX10_beginsWith 19 = .ok (.aload_n 0, 1) := dk_42 (dk_at dksX10_beginsWith_0 19 rfl rfl)
theorem dX10_beginsWith_20 : decode cX10_beginsWith 20 = .ok (.iload_n 2, 1) := dk_28 (dk_at dksX10_beginsWith_0 20 rfl rfl)
theorem dX10_beginsWith_21 : decode cX10_beginsWith 21 = .ok (.invokevirtual 199, 3) := dk_182 0 199 (dk_at dksX10_beginsWith_0 21 rfl rfl)
theorem dX10_beginsWith_24 : decode cX10_beginsWith 24 = .ok (.if_icmp .ne 7, 3) := dk_160 0 7 (dk_at dksX10_beginsWith_1 0 rfl rfl)
theorem dX10_beginsWith_27 : decode cX10_beginsWith 27 = .ok (.iconst 1, 1) := dk_4 (dk_at dksX10_beginsWith_1 3 rfl rfl)
theorem dX10_beginsWith_28 : decode cX10_beginsWith 28 = .ok (.goto 4, 3) := dk_167 0 4 (dk_at dksX10_beginsWith_1 4 rfl rfl)
theorem dX10_beginsWith_31 : decode cX10_beginsWith 31 = .ok (.iconst 0, 1) := dk_3 (dk_at dksX10_beginsWith_1 7 rfl rfl)
theorem dX10_beginsWith_32 : decode cX10_beginsWith 32 = .ok (.ireturn, 1) := dk_172 (dk_at dksX10_beginsWith_1 8 rfl rfl)
abbrev cX10_image : ByteArray := prog_23_method_129_code
def yX10_image : MethodName := ⟨RX10, "image", "(I)Z"⟩
def dkwX10_image_3 : List UInt8 := [47, 80, 132, 2, 1, 167, 255, 232, 42, 180, 0, 126, 27, 4, 84, 4, 172]
abbrev dktX10_image_3 : List UInt8 := dkwX10_image_3 ++ []
def dkwX10_image_2 : List UInt8 := [167, 255, 228, 3, 61, 28, 7, 162, 0, 25, 42, 180, 0, 123, 7, 27, 104, 28, 96, 42, 180, 0, 116, 28]
abbrev dktX10_image_2 : List UInt8 := dkwX10_image_2 ++ dktX10_image_3
def dkwX10_image_1 : List UInt8 := [162, 0, 27, 42, 180, 0, 104, 17, 23, 174, 27, 104, 28, 96, 42, 180, 0, 98, 28, 46, 79, 132, 2, 1]
abbrev dktX10_image_1 : List UInt8 := dkwX10_image_1 ++ dktX10_image_2
def dkwX10_image_0 : List UInt8 := [42, 3, 181, 0, 1, 27, 3, 4, 184, 0, 75, 154, 0, 5, 3, 172, 3, 61, 28, 17, 23, 174]
abbrev dktX10_image_0 : List UInt8 := dkwX10_image_0 ++ dktX10_image_1
theorem dksX10_image_0 : cX10_image.data.toList.drop 0 = dktX10_image_0 := by decide +kernel
theorem dksX10_image_1 : cX10_image.data.toList.drop 22 = dktX10_image_1 := dk_seg dksX10_image_0 22 rfl rfl
theorem dksX10_image_2 : cX10_image.data.toList.drop 46 = dktX10_image_2 := dk_seg dksX10_image_1 24 rfl rfl
theorem dksX10_image_3 : cX10_image.data.toList.drop 70 = dktX10_image_3 := dk_seg dksX10_image_2 24 rfl rfl
theorem dX10_image_0 : decode cX10_image 0 = .ok (.aload_n 0, 1) := dk_42 (dk_at dksX10_image_0 0 rfl rfl)
theorem dX10_image_1 : decode cX10_image 1 = .ok (.iconst 0, 1) := dk_3 (dk_at dksX10_image_0 1 rfl rfl)
theorem dX10_image_2 : decode cX10_image 2 = .ok (.putfield 1, 3) := dk_181 0 1 (dk_at dksX10_image_0 2 rfl rfl)
theorem dX10_image_5 : decode cX10_image 5 = .ok (.iload_n 1, 1) := dk_27 (dk_at dksX10_image_0 5 rfl rfl)
theorem dX10_image_6 : decode cX10_image 6 = .ok (.iconst 0, 1) := dk_3 (dk_at dksX10_image_0 6 rfl rfl)
theorem dX10_image_7 : decode cX10_image 7 = .ok (.iconst 1, 1) := dk_4 (dk_at dksX10_image_0 7 rfl rfl)
theorem dX10_image_8 : decode cX10_image 8 = .ok (.invokestatic 75, 3) := dk_184 0 75 (dk_at dksX10_image_0 8 rfl rfl)
theorem dX10_image_11 : decode cX10_image 11 = .ok (.ifCond .ne 5, 3) := dk_154 0 5 (dk_at dksX10_image_0 11 rfl rfl)
theorem dX10_image_14 : decode cX10_image 14 = .ok (.iconst 0, 1) := dk_3 (dk_at dksX10_image_0 14 rfl rfl)
theorem dX10_image_15 : decode cX10_image 15 = .ok (.ireturn, 1) := dk_172 (dk_at dksX10_image_0 15 rfl rfl)
theorem dX10_image_16 : decode cX10_image 16 = .ok (.iconst 0, 1) := dk_3 (dk_at dksX10_image_0 16 rfl rfl)
theorem dX10_image_17 : decode cX10_image 17 = .ok (.istore_n 2, 1) := dk_61 (dk_at dksX10_image_0 17 rfl rfl)
theorem dX10_image_18 : decode cX10_image 18 = .ok (.iload_n 2, 1) := dk_28 (dk_at dksX10_image_0 18 rfl rfl)
theorem dX10_image_19 : decode cX10_image 19 = .ok (.sipush 6062, 3) := dk_17 23 174 (dk_at dksX10_image_0 19 rfl rfl)
theorem dX10_image_22 : decode cX10_image 22 = .ok (.if_icmp .ge 27, 3) := dk_162 0 27 (dk_at dksX10_image_1 0 rfl rfl)
theorem dX10_image_25 : decode cX10_image 25 = .ok (.aload_n 0, 1) := dk_42 (dk_at dksX10_image_1 3 rfl rfl)
theorem dX10_image_26 : decode cX10_image 26 = .ok (.getfield 104, 3) := dk_180 0 104 (dk_at dksX10_image_1 4 rfl rfl)
theorem dX10_image_29 : decode cX10_image 29 = .ok (.sipush 6062, 3) := dk_17 23 174 (dk_at dksX10_image_1 7 rfl rfl)
theorem dX10_image_32 : decode cX10_image 32 = .ok (.iload_n 1, 1) := dk_27 (dk_at dksX10_image_1 10 rfl rfl)
theorem dX10_image_33 : decode cX10_image 33 = .ok (.imul, 1) := dk_104 (dk_at dksX10_image_1 11 rfl rfl)
theorem dX10_image_34 : decode cX10_image 34 = .ok (.iload_n 2, 1) := dk_28 (dk_at dksX10_image_1 12 rfl rfl)
theorem dX10_image_35 : decode cX10_image 35 = .ok (.iadd, 1) := dk_96 (dk_at dksX10_image_1 13 rfl rfl)
theorem dX10_image_36 : decode cX10_image 36 = .ok (.aload_n 0, 1) := dk_42 (dk_at dksX10_image_1 14 rfl rfl)
theorem dX10_image_37 : decode cX10_image 37 = .ok (.getfield 98, 3) := dk_180 0 98 (dk_at dksX10_image_1 15 rfl rfl)
theorem dX10_image_40 : decode cX10_image 40 = .ok (.iload_n 2, 1) := dk_28 (dk_at dksX10_image_1 18 rfl rfl)
theorem dX10_image_41 : decode cX10_image 41 = .ok (.iaload, 1) := dk_46 (dk_at dksX10_image_1 19 rfl rfl)
theorem dX10_image_42 : decode cX10_image 42 = .ok (.iastore, 1) := dk_79 (dk_at dksX10_image_1 20 rfl rfl)
theorem dX10_image_43 : decode cX10_image 43 = .ok (.iinc 2 1, 3) := dk_132 2 1 (dk_at dksX10_image_1 21 rfl rfl)
theorem dX10_image_46 : decode cX10_image 46 = .ok (.goto (-28), 3) := dk_167 255 228 (dk_at dksX10_image_2 0 rfl rfl)
theorem dX10_image_49 : decode cX10_image 49 = .ok (.iconst 0, 1) := dk_3 (dk_at dksX10_image_2 3 rfl rfl)
theorem dX10_image_50 : decode cX10_image 50 = .ok (.istore_n 2, 1) := dk_61 (dk_at dksX10_image_2 4 rfl rfl)
theorem dX10_image_51 : decode cX10_image 51 = .ok (.iload_n 2, 1) := dk_28 (dk_at dksX10_image_2 5 rfl rfl)
theorem dX10_image_52 : decode cX10_image 52 = .ok (.iconst 4, 1) := dk_7 (dk_at dksX10_image_2 6 rfl rfl)
theorem dX10_image_53 : decode cX10_image 53 = .ok (.if_icmp .ge 25, 3) := dk_162 0 25 (dk_at dksX10_image_2 7 rfl rfl)
theorem dX10_image_56 : decode cX10_image 56 = .ok (.aload_n 0, 1) := dk_42 (dk_at dksX10_image_2 10 rfl rfl)
theorem dX10_image_57 : decode cX10_image 57 = .ok (.getfield 123, 3) := dk_180 0 123 (dk_at dksX10_image_2 11 rfl rfl)
theorem dX10_image_60 : decode cX10_image 60 = .ok (.iconst 4, 1) := dk_7 (dk_at dksX10_image_2 14 rfl rfl)
theorem dX10_image_61 : decode cX10_image 61 = .ok (.iload_n 1, 1) := dk_27 (dk_at dksX10_image_2 15 rfl rfl)
theorem dX10_image_62 : decode cX10_image 62 = .ok (.imul, 1) := dk_104 (dk_at dksX10_image_2 16 rfl rfl)
theorem dX10_image_63 : decode cX10_image 63 = .ok (.iload_n 2, 1) := dk_28 (dk_at dksX10_image_2 17 rfl rfl)
theorem dX10_image_64 : decode cX10_image 64 = .ok (.iadd, 1) := dk_96 (dk_at dksX10_image_2 18 rfl rfl)
theorem dX10_image_65 : decode cX10_image 65 = .ok (.aload_n 0, 1) := dk_42 (dk_at dksX10_image_2 19 rfl rfl)
theorem dX10_image_66 : decode cX10_image 66 = .ok (.getfield 116, 3) := dk_180 0 116 (dk_at dksX10_image_2 20 rfl rfl)
theorem dX10_image_69 : decode cX10_image 69 = .ok (.iload_n 2, 1) := dk_28 (dk_at dksX10_image_2 23 rfl rfl)
theorem dX10_image_70 : decode cX10_image 70 = .ok (.laload, 1) := dk_47 (dk_at dksX10_image_3 0 rfl rfl)
theorem dX10_image_71 : decode cX10_image 71 = .ok (.lastore, 1) := dk_80 (dk_at dksX10_image_3 1 rfl rfl)
theorem dX10_image_72 : decode cX10_image 72 = .ok (.iinc 2 1, 3) := dk_132 2 1 (dk_at dksX10_image_3 2 rfl rfl)
theorem dX10_image_75 : decode cX10_image 75 = .ok (.goto (-24), 3) := dk_167 255 232 (dk_at dksX10_image_3 5 rfl rfl)
theorem dX10_image_78 : decode cX10_image 78 = .ok (.aload_n 0, 1) := dk_42 (dk_at dksX10_image_3 8 rfl rfl)
theorem dX10_image_79 : decode cX10_image 79 = .ok (.getfield 126, 3) := dk_180 0 126 (dk_at dksX10_image_3 9 rfl rfl)
theorem dX10_image_82 : decode cX10_image 82 = .ok (.iload_n 1, 1) := dk_27 (dk_at dksX10_image_3 12 rfl rfl)
theorem dX10_image_83 : decode cX10_image 83 = .ok (.iconst 1, 1) := dk_4 (dk_at dksX10_image_3 13 rfl rfl)
theorem dX10_image_84 : decode cX10_image 84 = .ok (.bastore, 1) := dk_84 (dk_at dksX10_image_3 14 rfl rfl)
theorem dX10_image_85 : decode cX10_image 85 = .ok (.iconst 1, 1) := dk_4 (dk_at dksX10_image_3 15 rfl rfl)
theorem dX10_image_86 : decode cX10_image 86 = .ok (.ireturn, 1) := dk_172 (dk_at dksX10_image_3 16 rfl rfl)
abbrev cX10_restore : ByteArray := prog_23_method_130_code
def yX10_restore : MethodName := ⟨RX10, "restore", "(I)Z"⟩
def dkwX10_restore_3 : List UInt8 := [180, 0, 123, 7, 27, 104, 28, 96, 47, 80, 132, 2, 1, 167, 255, 232, 42, 3, 181, 0, 192, 4, 172]
abbrev dktX10_restore_3 : List UInt8 := dkwX10_restore_3 ++ []
def dkwX10_restore_2 : List UInt8 := [28, 96, 46, 79, 132, 2, 1, 167, 255, 228, 3, 61, 28, 7, 162, 0, 25, 42, 180, 0, 116, 28, 42]
abbrev dktX10_restore_2 : List UInt8 := dkwX10_restore_2 ++ dktX10_restore_3
def dkwX10_restore_1 : List UInt8 := [172, 3, 61, 28, 17, 23, 174, 162, 0, 27, 42, 180, 0, 98, 28, 42, 180, 0, 104, 17, 23, 174, 27, 104]
abbrev dktX10_restore_1 : List UInt8 := dkwX10_restore_1 ++ dktX10_restore_2
def dkwX10_restore_0 : List UInt8 := [42, 3, 181, 0, 1, 27, 3, 4, 184, 0, 75, 153, 0, 12, 42, 180, 0, 126, 27, 51, 154, 0, 5, 3]
abbrev dktX10_restore_0 : List UInt8 := dkwX10_restore_0 ++ dktX10_restore_1
theorem dksX10_restore_0 : cX10_restore.data.toList.drop 0 = dktX10_restore_0 := by decide +kernel
theorem dksX10_restore_1 : cX10_restore.data.toList.drop 24 = dktX10_restore_1 := dk_seg dksX10_restore_0 24 rfl rfl
theorem dksX10_restore_2 : cX10_restore.data.toList.drop 48 = dktX10_restore_2 := dk_seg dksX10_restore_1 24 rfl rfl
theorem dksX10_restore_3 : cX10_restore.data.toList.drop 71 = dktX10_restore_3 := dk_seg dksX10_restore_2 23 rfl rfl
theorem dX10_restore_0 : decode cX10_restore 0 = .ok (.aload_n 0, 1) := dk_42 (dk_at dksX10_restore_0 0 rfl rfl)
theorem dX10_restore_1 : decode cX10_restore 1 = .ok (.iconst 0, 1) := dk_3 (dk_at dksX10_restore_0 1 rfl rfl)
theorem dX10_restore_2 : decode cX10_restore 2 = .ok (.putfield 1, 3) := dk_181 0 1 (dk_at dksX10_restore_0 2 rfl rfl)
theorem dX10_restore_5 : decode cX10_restore 5 = .ok (.iload_n 1, 1) := dk_27 (dk_at dksX10_restore_0 5 rfl rfl)
theorem dX10_restore_6 : decode cX10_restore 6 = .ok (.iconst 0, 1) := dk_3 (dk_at dksX10_restore_0 6 rfl rfl)
theorem dX10_restore_7 : decode cX10_restore 7 = .ok (.iconst 1, 1) := dk_4 (dk_at dksX10_restore_0 7 rfl rfl)
theorem dX10_restore_8 : decode cX10_restore 8 = .ok (.invokestatic 75, 3) := dk_184 0 75 (dk_at dksX10_restore_0 8 rfl rfl)
theorem dX10_restore_11 : decode cX10_restore 11 = .ok (.ifCond .eq 12, 3) := dk_153 0 12 (dk_at dksX10_restore_0 11 rfl rfl)
theorem dX10_restore_14 : decode cX10_restore 14 = .ok (.aload_n 0, 1) := dk_42 (dk_at dksX10_restore_0 14 rfl rfl)
theorem dX10_restore_15 : decode cX10_restore 15 = .ok (.getfield 126, 3) := dk_180 0 126 (dk_at dksX10_restore_0 15 rfl rfl)
theorem dX10_restore_18 : decode cX10_restore 18 = .ok (.iload_n 1, 1) := dk_27 (dk_at dksX10_restore_0 18 rfl rfl)
theorem dX10_restore_19 : decode cX10_restore 19 = .ok (.baload, 1) := dk_51 (dk_at dksX10_restore_0 19 rfl rfl)
theorem dX10_restore_20 : decode cX10_restore 20 = .ok (.ifCond .ne 5, 3) := dk_154 0 5 (dk_at dksX10_restore_0 20 rfl rfl)
theorem dX10_restore_23 : decode cX10_restore 23 = .ok (.iconst 0, 1) := dk_3 (dk_at dksX10_restore_0 23 rfl rfl)
theorem dX10_restore_24 : decode cX10_restore 24 = .ok (.ireturn, 1) := dk_172 (dk_at dksX10_restore_1 0 rfl rfl)
theorem dX10_restore_25 : decode cX10_restore 25 = .ok (.iconst 0, 1) := dk_3 (dk_at dksX10_restore_1 1 rfl rfl)
theorem dX10_restore_26 : decode cX10_restore 26 = .ok (.istore_n 2, 1) := dk_61 (dk_at dksX10_restore_1 2 rfl rfl)
theorem dX10_restore_27 : decode cX10_restore 27 = .ok (.iload_n 2, 1) := dk_28 (dk_at dksX10_restore_1 3 rfl rfl)
theorem dX10_restore_28 : decode cX10_restore 28 = .ok (.sipush 6062, 3) := dk_17 23 174 (dk_at dksX10_restore_1 4 rfl rfl)
theorem dX10_restore_31 : decode cX10_restore 31 = .ok (.if_icmp .ge 27, 3) := dk_162 0 27 (dk_at dksX10_restore_1 7 rfl rfl)
theorem dX10_restore_34 : decode cX10_restore 34 = .ok (.aload_n 0, 1) := dk_42 (dk_at dksX10_restore_1 10 rfl rfl)
theorem dX10_restore_35 : decode cX10_restore 35 = .ok (.getfield 98, 3) := dk_180 0 98 (dk_at dksX10_restore_1 11 rfl rfl)
theorem dX10_restore_38 : decode cX10_restore 38 = .ok (.iload_n 2, 1) := dk_28 (dk_at dksX10_restore_1 14 rfl rfl)
theorem dX10_restore_39 : decode cX10_restore 39 = .ok (.aload_n 0, 1) := dk_42 (dk_at dksX10_restore_1 15 rfl rfl)
theorem dX10_restore_40 : decode cX10_restore 40 = .ok (.getfield 104, 3) := dk_180 0 104 (dk_at dksX10_restore_1 16 rfl rfl)
theorem dX10_restore_43 : decode cX10_restore 43 = .ok (.sipush 6062, 3) := dk_17 23 174 (dk_at dksX10_restore_1 19 rfl rfl)
theorem dX10_restore_46 : decode cX10_restore 46 = .ok (.iload_n 1, 1) := dk_27 (dk_at dksX10_restore_1 22 rfl rfl)
theorem dX10_restore_47 : decode cX10_restore 47 = .ok (.imul, 1) := dk_104 (dk_at dksX10_restore_1 23 rfl rfl)
theorem dX10_restore_48 : decode cX10_restore 48 = .ok (.iload_n 2, 1) := dk_28 (dk_at dksX10_restore_2 0 rfl rfl)
theorem dX10_restore_49 : decode cX10_restore 49 = .ok (.iadd, 1) := dk_96 (dk_at dksX10_restore_2 1 rfl rfl)
theorem dX10_restore_50 : decode cX10_restore 50 = .ok (.iaload, 1) := dk_46 (dk_at dksX10_restore_2 2 rfl rfl)
theorem dX10_restore_51 : decode cX10_restore 51 = .ok (.iastore, 1) := dk_79 (dk_at dksX10_restore_2 3 rfl rfl)
theorem dX10_restore_52 : decode cX10_restore 52 = .ok (.iinc 2 1, 3) := dk_132 2 1 (dk_at dksX10_restore_2 4 rfl rfl)
theorem dX10_restore_55 : decode cX10_restore 55 = .ok (.goto (-28), 3) := dk_167 255 228 (dk_at dksX10_restore_2 7 rfl rfl)
theorem dX10_restore_58 : decode cX10_restore 58 = .ok (.iconst 0, 1) := dk_3 (dk_at dksX10_restore_2 10 rfl rfl)
theorem dX10_restore_59 : decode cX10_restore 59 = .ok (.istore_n 2, 1) := dk_61 (dk_at dksX10_restore_2 11 rfl rfl)
theorem dX10_restore_60 : decode cX10_restore 60 = .ok (.iload_n 2, 1) := dk_28 (dk_at dksX10_restore_2 12 rfl rfl)
theorem dX10_restore_61 : decode cX10_restore 61 = .ok (.iconst 4, 1) := dk_7 (dk_at dksX10_restore_2 13 rfl rfl)
theorem dX10_restore_62 : decode cX10_restore 62 = .ok (.if_icmp .ge 25, 3) := dk_162 0 25 (dk_at dksX10_restore_2 14 rfl rfl)
theorem dX10_restore_65 : decode cX10_restore 65 = .ok (.aload_n 0, 1) := dk_42 (dk_at dksX10_restore_2 17 rfl rfl)
theorem dX10_restore_66 : decode cX10_restore 66 = .ok (.getfield 116, 3) := dk_180 0 116 (dk_at dksX10_restore_2 18 rfl rfl)
theorem dX10_restore_69 : decode cX10_restore 69 = .ok (.iload_n 2, 1) := dk_28 (dk_at dksX10_restore_2 21 rfl rfl)
theorem dX10_restore_70 : decode cX10_restore 70 = .ok (.aload_n 0, 1) := dk_42 (dk_at dksX10_restore_2 22 rfl rfl)
theorem dX10_restore_71 : decode cX10_restore 71 = .ok (.getfield 123, 3) := dk_180 0 123 (dk_at dksX10_restore_3 0 rfl rfl)
theorem dX10_restore_74 : decode cX10_restore 74 = .ok (.iconst 4, 1) := dk_7 (dk_at dksX10_restore_3 3 rfl rfl)
theorem dX10_restore_75 : decode cX10_restore 75 = .ok (.iload_n 1, 1) := dk_27 (dk_at dksX10_restore_3 4 rfl rfl)
theorem dX10_restore_76 : decode cX10_restore 76 = .ok (.imul, 1) := dk_104 (dk_at dksX10_restore_3 5 rfl rfl)
theorem dX10_restore_77 : decode cX10_restore 77 = .ok (.iload_n 2, 1) := dk_28 (dk_at dksX10_restore_3 6 rfl rfl)
theorem dX10_restore_78 : decode cX10_restore 78 = .ok (.iadd, 1) := dk_96 (dk_at dksX10_restore_3 7 rfl rfl)
theorem dX10_restore_79 : decode cX10_restore 79 = .ok (.laload, 1) := dk_47 (dk_at dksX10_restore_3 8 rfl rfl)
theorem dX10_restore_80 : decode cX10_restore 80 = .ok (.lastore, 1) := dk_80 (dk_at dksX10_restore_3 9 rfl rfl)
theorem dX10_restore_81 : decode cX10_restore 81 = .ok (.iinc 2 1, 3) := dk_132 2 1 (dk_at dksX10_restore_3 10 rfl rfl)
theorem dX10_restore_84 : decode cX10_restore 84 = .ok (.goto (-24), 3) := dk_167 255 232 (dk_at dksX10_restore_3 13 rfl rfl)
theorem dX10_restore_87 : decode cX10_restore 87 = .ok (.aload_n 0, 1) := dk_42 (dk_at dksX10_restore_3 16 rfl rfl)
theorem dX10_restore_88 : decode cX10_restore 88 = .ok (.iconst 0, 1) := dk_3 (dk_at dksX10_restore_3 17 rfl rfl)
theorem dX10_restore_89 : decode cX10_restore 89 = .ok (.putfield 192, 3) := dk_181 0 192 (dk_at dksX10_restore_3 18 rfl rfl)
theorem dX10_restore_92 : decode cX10_restore 92 = .ok (.iconst 1, 1) := dk_4 (dk_at dksX10_restore_3 21 rfl rfl)
theorem dX10_restore_93 : decode cX10_restore 93 = .ok (.ireturn, 1) := dk_172 (dk_at dksX10_restore_3 22 rfl rfl)
abbrev cX10_total : ByteArray := prog_23_method_131_code
def yX10_total : MethodName := ⟨RX10, "total", "(I)I"⟩
def dkwX10_total_3 : List UInt8 := [2, 172]
abbrev dktX10_total_3 : List UInt8 := dkwX10_total_3 ++ []
def dkwX10_total_2 : List UInt8 := [42, 180, 0, 98, 3, 46, 172, 42, 180, 0, 98, 4, 46, 172, 42, 182, 1, 106, 172, 42, 180, 0, 11, 172]
abbrev dktX10_total_2 : List UInt8 := dkwX10_total_2 ++ dktX10_total_3
def dkwX10_total_1 : List UInt8 := [170, 0, 0, 0, 0, 54, 0, 0, 0, 0, 0, 0, 0, 3, 0, 0, 0, 30, 0, 0, 0, 37, 0, 0, 0, 44, 0, 0, 0, 49]
abbrev dktX10_total_1 : List UInt8 := dkwX10_total_1 ++ dktX10_total_2
def dkwX10_total_0 : List UInt8 := [42, 3, 181, 0, 1, 27]
abbrev dktX10_total_0 : List UInt8 := dkwX10_total_0 ++ dktX10_total_1
theorem dksX10_total_0 : cX10_total.data.toList.drop 0 = dktX10_total_0 := by decide +kernel
theorem dksX10_total_1 : cX10_total.data.toList.drop 6 = dktX10_total_1 := dk_seg dksX10_total_0 6 rfl rfl
theorem dksX10_total_2 : cX10_total.data.toList.drop 36 = dktX10_total_2 := dk_seg dksX10_total_1 30 rfl rfl
theorem dksX10_total_3 : cX10_total.data.toList.drop 60 = dktX10_total_3 := dk_seg dksX10_total_2 24 rfl rfl
theorem dX10_total_0 : decode cX10_total 0 = .ok (.aload_n 0, 1) := dk_42 (dk_at dksX10_total_0 0 rfl rfl)
theorem dX10_total_1 : decode cX10_total 1 = .ok (.iconst 0, 1) := dk_3 (dk_at dksX10_total_0 1 rfl rfl)
theorem dX10_total_2 : decode cX10_total 2 = .ok (.putfield 1, 3) := dk_181 0 1 (dk_at dksX10_total_0 2 rfl rfl)
theorem dX10_total_5 : decode cX10_total 5 = .ok (.iload_n 1, 1) := dk_27 (dk_at dksX10_total_0 5 rfl rfl)
theorem dX10_total_6 : decode cX10_total 6 = .ok (.tableswitch 54 0 3 #[30, 37, 44, 49], 30) := by decide +kernel
theorem dX10_total_36 : decode cX10_total 36 = .ok (.aload_n 0, 1) := dk_42 (dk_at dksX10_total_2 0 rfl rfl)
theorem dX10_total_37 : decode cX10_total 37 = .ok (.getfield 98, 3) := dk_180 0 98 (dk_at dksX10_total_2 1 rfl rfl)
theorem dX10_total_40 : decode cX10_total 40 = .ok (.iconst 0, 1) := dk_3 (dk_at dksX10_total_2 4 rfl rfl)
theorem dX10_total_41 : decode cX10_total 41 = .ok (.iaload, 1) := dk_46 (dk_at dksX10_total_2 5 rfl rfl)
theorem dX10_total_42 : decode cX10_total 42 = .ok (.ireturn, 1) := dk_172 (dk_at dksX10_total_2 6 rfl rfl)
theorem dX10_total_43 : decode cX10_total 43 = .ok (.aload_n 0, 1) := dk_42 (dk_at dksX10_total_2 7 rfl rfl)
theorem dX10_total_44 : decode cX10_total 44 = .ok (.getfield 98, 3) := dk_180 0 98 (dk_at dksX10_total_2 8 rfl rfl)
theorem dX10_total_47 : decode cX10_total 47 = .ok (.iconst 1, 1) := dk_4 (dk_at dksX10_total_2 11 rfl rfl)
theorem dX10_total_48 : decode cX10_total 48 = .ok (.iaload, 1) := dk_46 (dk_at dksX10_total_2 12 rfl rfl)
theorem dX10_total_49 : decode cX10_total 49 = .ok (.ireturn, 1) := dk_172 (dk_at dksX10_total_2 13 rfl rfl)
theorem dX10_total_50 : decode cX10_total 50 = .ok (.aload_n 0, 1) := dk_42 (dk_at dksX10_total_2 14 rfl rfl)
theorem dX10_total_51 : decode cX10_total 51 = .ok (.invokevirtual 362, 3) := dk_182 1 106 (dk_at dksX10_total_2 15 rfl rfl)
theorem dX10_total_54 : decode cX10_total 54 = .ok (.ireturn, 1) := dk_172 (dk_at dksX10_total_2 18 rfl rfl)
theorem dX10_total_55 : decode cX10_total 55 = .ok (.aload_n 0, 1) := dk_42 (dk_at dksX10_total_2 19 rfl rfl)
theorem dX10_total_56 : decode cX10_total 56 = .ok (.getfield 11, 3) := dk_180 0 11 (dk_at dksX10_total_2 20 rfl rfl)
theorem dX10_total_59 : decode cX10_total 59 = .ok (.ireturn, 1) := dk_172 (dk_at dksX10_total_2 23 rfl rfl)
theorem dX10_total_60 : decode cX10_total 60 = .ok (.iconst (-1), 1) := dk_2 (dk_at dksX10_total_3 0 rfl rfl)
theorem dX10_total_61 : decode cX10_total 61 = .ok (.ireturn, 1) := dk_172 (dk_at dksX10_total_3 1 rfl rfl)
theorem q121 : (Jvm.Cond.initialized "BitRopesModel") ∈ lw_all := lw_g (lw_at lw_m1 12 rfl) rfl
theorem q1665 : (Jvm.Cond.instanceMethod ({ cls := "BitRopesModel", name := "thrown", desc := "()I" } : Jvm.MethodName)) ∈ lw_all := lw_g (lw_at lw_m7 116 rfl) rfl
theorem q1666 : (Jvm.Cond.selects "BitRopesModel" ({ cls := "BitRopesModel", name := "thrown", desc := "()I" } : Jvm.MethodName) ({ cls := "BitRopesModel", name := "thrown", desc := "()I" } : Jvm.MethodName)) ∈ lw_all := lw_g (lw_at lw_m7 117 rfl) rfl
theorem q1667 : (Jvm.Cond.code ({ cls := "BitRopesModel", name := "thrown", desc := "()I" } : Jvm.MethodName) prog_23_method_1_code (1 : Nat) (Option.some Jvm.ClassFile.FieldType.int)) ∈ lw_all := lw_g (lw_at lw_m7 118 rfl) rfl
theorem q1669 : (Jvm.Cond.instanceMethod ({ cls := "BitRopesModel", name := "feed", desc := "(IIIII)I" } : Jvm.MethodName)) ∈ lw_all := lw_g (lw_at lw_m7 120 rfl) rfl
theorem q1670 : (Jvm.Cond.selects "BitRopesModel" ({ cls := "BitRopesModel", name := "feed", desc := "(IIIII)I" } : Jvm.MethodName) ({ cls := "BitRopesModel", name := "feed", desc := "(IIIII)I" } : Jvm.MethodName)) ∈ lw_all := lw_g (lw_at lw_m7 121 rfl) rfl
theorem q1671 : (Jvm.Cond.code ({ cls := "BitRopesModel", name := "feed", desc := "(IIIII)I" } : Jvm.MethodName) prog_23_method_4_code (6 : Nat) (Option.some Jvm.ClassFile.FieldType.int)) ∈ lw_all := lw_g (lw_at lw_m7 122 rfl) rfl
theorem q1672 : (Jvm.Cond.methodLink "BitRopesModel" (14 : Nat) ({ cls := "BitRopesModel", name := "come", desc := "(I)V" } : Jvm.MethodName)) ∈ lw_all := lw_g (lw_at lw_m7 123 rfl) rfl
theorem q1673 : (Jvm.Cond.privateMethod ({ cls := "BitRopesModel", name := "come", desc := "(I)V" } : Jvm.MethodName)) ∈ lw_tbl := lw_at lw_m7 124 rfl
theorem q1674 : (Jvm.Cond.instanceMethod ({ cls := "BitRopesModel", name := "come", desc := "(I)V" } : Jvm.MethodName)) ∈ lw_all := lw_g (lw_at lw_m7 125 rfl) rfl
theorem q1675 : (Jvm.Cond.instantiable "BitRopesModel" (39 : Nat)) ∈ lw_all := lw_g (lw_at lw_m7 126 rfl) rfl
theorem q1676 : (Jvm.Cond.code ({ cls := "BitRopesModel", name := "come", desc := "(I)V" } : Jvm.MethodName) prog_23_method_3_code (3 : Nat) (Option.none : Option Jvm.ClassFile.FieldType)) ∈ lw_all := lw_g (lw_at lw_m7 127 rfl) rfl
theorem q1678 : (Jvm.Cond.instanceMethod ({ cls := "BitRopesModel", name := "end", desc := "(I)Z" } : Jvm.MethodName)) ∈ lw_all := lw_g (lw_at lw_m7 129 rfl) rfl
theorem q1679 : (Jvm.Cond.selects "BitRopesModel" ({ cls := "BitRopesModel", name := "end", desc := "(I)Z" } : Jvm.MethodName) ({ cls := "BitRopesModel", name := "end", desc := "(I)Z" } : Jvm.MethodName)) ∈ lw_all := lw_g (lw_at lw_m7 130 rfl) rfl
theorem q1680 : (Jvm.Cond.code ({ cls := "BitRopesModel", name := "end", desc := "(I)Z" } : Jvm.MethodName) prog_23_method_5_code (2 : Nat) (Option.some Jvm.ClassFile.FieldType.boolean)) ∈ lw_all := lw_g (lw_at lw_m7 131 rfl) rfl
theorem q1683 : (Jvm.Cond.instanceMethod ({ cls := "BitRopesModel", name := "<init>", desc := "()V" } : Jvm.MethodName)) ∈ lw_all := lw_g (lw_at lw_m7 134 rfl) rfl
theorem q1684 : (Jvm.Cond.code ({ cls := "BitRopesModel", name := "<init>", desc := "()V" } : Jvm.MethodName) prog_23_method_22_code (1 : Nat) (Option.none : Option Jvm.ClassFile.FieldType)) ∈ lw_all := lw_g (lw_at lw_m7 135 rfl) rfl
theorem q1685 : (Jvm.Cond.methodLink "BitRopesModel" (93 : Nat) ({ cls := "java/lang/Object", name := "<init>", desc := "()V" } : Jvm.MethodName)) ∈ lw_all := lw_g (lw_at lw_m7 136 rfl) rfl
theorem q1686 : (Jvm.Cond.fieldLink "BitRopesModel" (1 : Nat) "BitRopesModel" "thrown" "I") ∈ lw_all := lw_g (lw_at lw_m7 137 rfl) rfl
theorem q1687 : (Jvm.Cond.fieldLink "BitRopesModel" (7 : Nat) "BitRopesModel" "tape" "[I") ∈ lw_all := lw_g (lw_at lw_m7 138 rfl) rfl
theorem q1688 : (Jvm.Cond.fieldLink "BitRopesModel" (11 : Nat) "BitRopesModel" "taped" "I") ∈ lw_all := lw_g (lw_at lw_m7 139 rfl) rfl
theorem q1689 : (Jvm.Cond.fieldLink "BitRopesModel" (18 : Nat) "BitRopesModel" "size" "I") ∈ lw_all := lw_g (lw_at lw_m7 140 rfl) rfl
theorem q1690 : (Jvm.Cond.fieldLink "BitRopesModel" (27 : Nat) "BitRopesModel" "limit" "I") ∈ lw_all := lw_g (lw_at lw_m7 141 rfl) rfl
theorem q1691 : (Jvm.Cond.fieldLink "BitRopesModel" (21 : Nat) "BitRopesModel" "to" "I") ∈ lw_all := lw_g (lw_at lw_m7 142 rfl) rfl
theorem q1692 : (Jvm.Cond.fieldLink "BitRopesModel" (24 : Nat) "BitRopesModel" "from" "I") ∈ lw_all := lw_g (lw_at lw_m7 143 rfl) rfl
theorem q1693 : (Jvm.Cond.fieldLink "BitRopesModel" (30 : Nat) "BitRopesModel" "kind" "I") ∈ lw_all := lw_g (lw_at lw_m7 144 rfl) rfl
theorem q1694 : (Jvm.Cond.fieldLink "BitRopesModel" (47 : Nat) "BitRopesModel" "numbe\x72" "I") ∈ lw_all := lw_g (lw_at lw_m7 145 rfl) rfl
theorem q1695 : (Jvm.Cond.fieldLink "BitRopesModel" (40 : Nat) "BitRopesModel" "sign" "I") ∈ lw_all := lw_g (lw_at lw_m7 146 rfl) rfl
theorem q1696 : (Jvm.Cond.fieldLink "BitRopesModel" (66 : Nat) "BitRopesModel" "fault" "I") ∈ lw_all := lw_g (lw_at lw_m7 147 rfl) rfl
theorem q1697 : (Jvm.Cond.fieldLink "BitRopesModel" (69 : Nat) "BitRopesModel" "place" "I") ∈ lw_all := lw_g (lw_at lw_m7 148 rfl) rfl
theorem q1698 : (Jvm.Cond.fieldLink "BitRopesModel" (43 : Nat) "BitRopesModel" "word" "J") ∈ lw_all := lw_g (lw_at lw_m7 149 rfl) rfl
theorem q1699 : (Jvm.Cond.fieldLink "BitRopesModel" (79 : Nat) "BitRopesModel" "told" "I") ∈ lw_all := lw_g (lw_at lw_m7 150 rfl) rfl
theorem q1700 : (Jvm.Cond.fieldLink "BitRopesModel" (98 : Nat) "BitRopesModel" "now" "[I") ∈ lw_all := lw_g (lw_at lw_m7 151 rfl) rfl
theorem q1701 : (Jvm.Cond.fieldLink "BitRopesModel" (101 : Nat) "BitRopesModel" "read" "[I") ∈ lw_all := lw_g (lw_at lw_m7 152 rfl) rfl
theorem q1702 : (Jvm.Cond.fieldLink "BitRopesModel" (104 : Nat) "BitRopesModel" "kept" "[I") ∈ lw_all := lw_g (lw_at lw_m7 153 rfl) rfl
theorem q1703 : (Jvm.Cond.fieldLink "BitRopesModel" (107 : Nat) "BitRopesModel" "snaps" "[I") ∈ lw_all := lw_g (lw_at lw_m7 154 rfl) rfl
theorem q1704 : (Jvm.Cond.fieldLink "BitRopesModel" (110 : Nat) "BitRopesModel" "aside" "[I") ∈ lw_all := lw_g (lw_at lw_m7 155 rfl) rfl
theorem q1705 : (Jvm.Cond.fieldLink "BitRopesModel" (113 : Nat) "BitRopesModel" "then" "[I") ∈ lw_all := lw_g (lw_at lw_m7 156 rfl) rfl
theorem q1706 : (Jvm.Cond.fieldLink "BitRopesModel" (116 : Nat) "BitRopesModel" "name" "[J") ∈ lw_all := lw_g (lw_at lw_m7 157 rfl) rfl
theorem q1707 : (Jvm.Cond.fieldLink "BitRopesModel" (120 : Nat) "BitRopesModel" "readName" "[J") ∈ lw_all := lw_g (lw_at lw_m7 158 rfl) rfl
theorem q1708 : (Jvm.Cond.fieldLink "BitRopesModel" (123 : Nat) "BitRopesModel" "keptName" "[J") ∈ lw_all := lw_g (lw_at lw_m7 159 rfl) rfl
theorem q1709 : (Jvm.Cond.fieldLink "BitRopesModel" (126 : Nat) "BitRopesModel" "isKept" "[Z") ∈ lw_all := lw_g (lw_at lw_m7 160 rfl) rfl
theorem q1710 : (Jvm.Cond.fieldLink "BitRopesModel" (192 : Nat) "BitRopesModel" "snapMany" "I") ∈ lw_all := lw_g (lw_at lw_m7 161 rfl) rfl
theorem q1711 : (Jvm.Cond.fieldLink "BitRopesModel" (161 : Nat) "BitRopesModel" "hasLetters" "Z") ∈ lw_all := lw_g (lw_at lw_m7 162 rfl) rfl
theorem q1712 : (Jvm.Cond.fieldLink "BitRopesModel" (246 : Nat) "BitRopesModel" "powe\x72" "I") ∈ lw_all := lw_g (lw_at lw_m7 163 rfl) rfl
theorem q1713 : (Jvm.Cond.fieldLink "BitRopesModel" (130 : Nat) "BitRopesModel" "sought" "[I") ∈ lw_all := lw_g (lw_at lw_m7 164 rfl) rfl
theorem q1714 : (Jvm.Cond.fieldLink "BitRopesModel" (276 : Nat) "BitRopesModel" "soughtMany" "I") ∈ lw_all := lw_g (lw_at lw_m7 165 rfl) rfl
theorem q1715 : (Jvm.Cond.fieldLink "BitRopesModel" (325 : Nat) "BitRopesModel" "seed" "I") ∈ lw_all := lw_g (lw_at lw_m7 166 rfl) rfl
theorem q1716 : (Jvm.Cond.fieldLink "BitRopesModel" (133 : Nat) "BitRopesModel" "line" "[I") ∈ lw_all := lw_g (lw_at lw_m7 167 rfl) rfl
theorem q1717 : (Jvm.Cond.fieldLink "BitRopesModel" (136 : Nat) "BitRopesModel" "written" "[I") ∈ lw_all := lw_g (lw_at lw_m7 168 rfl) rfl
theorem q1718 : (Jvm.Cond.fieldLink "BitRopesModel" (343 : Nat) "BitRopesModel" "lineMany" "I") ∈ lw_all := lw_g (lw_at lw_m7 169 rfl) rfl
theorem q1719 : (Jvm.Cond.fieldLink "BitRopesModel" (365 : Nat) "BitRopesModel" "hasWritten" "Z") ∈ lw_all := lw_g (lw_at lw_m7 170 rfl) rfl
theorem q1720 : (Jvm.Cond.fieldLink "BitRopesModel" (139 : Nat) "BitRopesModel" "node" "[I") ∈ lw_all := lw_g (lw_at lw_m7 171 rfl) rfl
theorem q1721 : (Jvm.Cond.fieldLink "BitRopesModel" (368 : Nat) "BitRopesModel" "nodes" "I") ∈ lw_all := lw_g (lw_at lw_m7 172 rfl) rfl
theorem q1722 : (Jvm.Cond.fieldLink "BitRopesModel" (383 : Nat) "BitRopesModel" "onesMany" "I") ∈ lw_all := lw_g (lw_at lw_m7 173 rfl) rfl
theorem q1723 : (Jvm.Cond.fieldLink "BitRopesModel" (386 : Nat) "BitRopesModel" "within" "I") ∈ lw_all := lw_g (lw_at lw_m7 174 rfl) rfl
theorem q1724 : (Jvm.Cond.fieldLink "BitRopesModel" (374 : Nat) "BitRopesModel" "top" "I") ∈ lw_all := lw_g (lw_at lw_m7 175 rfl) rfl
theorem q1725 : (Jvm.Cond.lays "BitRopesModel" "BitRopesModel" "thrown" "I") ∈ lw_all := lw_g (lw_at lw_m7 176 rfl) rfl
theorem q1726 : (Jvm.Cond.soleField "BitRopesModel" "thrown") ∈ lw_all := lw_g (lw_at lw_m7 177 rfl) rfl
theorem q1727 : (Jvm.Cond.laysFinal "BitRopesModel" "BitRopesModel" "tape" "[I") ∈ lw_all := lw_g (lw_at lw_m7 178 rfl) rfl
theorem q1728 : (Jvm.Cond.soleField "BitRopesModel" "tape") ∈ lw_all := lw_g (lw_at lw_m7 179 rfl) rfl
theorem q1729 : (Jvm.Cond.lays "BitRopesModel" "BitRopesModel" "taped" "I") ∈ lw_all := lw_g (lw_at lw_m7 180 rfl) rfl
theorem q1730 : (Jvm.Cond.soleField "BitRopesModel" "taped") ∈ lw_all := lw_g (lw_at lw_m7 181 rfl) rfl
theorem q1731 : (Jvm.Cond.lays "BitRopesModel" "BitRopesModel" "size" "I") ∈ lw_all := lw_g (lw_at lw_m7 182 rfl) rfl
theorem q1732 : (Jvm.Cond.soleField "BitRopesModel" "size") ∈ lw_all := lw_g (lw_at lw_m7 183 rfl) rfl
theorem q1733 : (Jvm.Cond.lays "BitRopesModel" "BitRopesModel" "limit" "I") ∈ lw_all := lw_g (lw_at lw_m7 184 rfl) rfl
theorem q1734 : (Jvm.Cond.soleField "BitRopesModel" "limit") ∈ lw_all := lw_g (lw_at lw_m7 185 rfl) rfl
theorem q1735 : (Jvm.Cond.lays "BitRopesModel" "BitRopesModel" "to" "I") ∈ lw_all := lw_g (lw_at lw_m7 186 rfl) rfl
theorem q1736 : (Jvm.Cond.soleField "BitRopesModel" "to") ∈ lw_all := lw_g (lw_at lw_m7 187 rfl) rfl
theorem q1737 : (Jvm.Cond.lays "BitRopesModel" "BitRopesModel" "from" "I") ∈ lw_all := lw_g (lw_at lw_m7 188 rfl) rfl
theorem q1738 : (Jvm.Cond.soleField "BitRopesModel" "from") ∈ lw_all := lw_g (lw_at lw_m7 189 rfl) rfl
theorem q1739 : (Jvm.Cond.lays "BitRopesModel" "BitRopesModel" "kind" "I") ∈ lw_all := lw_g (lw_at lw_m7 190 rfl) rfl
theorem q1740 : (Jvm.Cond.soleField "BitRopesModel" "kind") ∈ lw_all := lw_g (lw_at lw_m7 191 rfl) rfl
theorem q1741 : (Jvm.Cond.lays "BitRopesModel" "BitRopesModel" "numbe\x72" "I") ∈ lw_all := lw_g (lw_at lw_m7 192 rfl) rfl
theorem q1742 : (Jvm.Cond.soleField "BitRopesModel" "numbe\x72") ∈ lw_all := lw_g (lw_at lw_m7 193 rfl) rfl
theorem q1743 : (Jvm.Cond.lays "BitRopesModel" "BitRopesModel" "sign" "I") ∈ lw_all := lw_g (lw_at lw_m7 194 rfl) rfl
theorem q1744 : (Jvm.Cond.soleField "BitRopesModel" "sign") ∈ lw_all := lw_g (lw_at lw_m7 195 rfl) rfl
theorem q1745 : (Jvm.Cond.lays "BitRopesModel" "BitRopesModel" "fault" "I") ∈ lw_all := lw_g (lw_at lw_m7 196 rfl) rfl
theorem q1746 : (Jvm.Cond.soleField "BitRopesModel" "fault") ∈ lw_all := lw_g (lw_at lw_m7 197 rfl) rfl
theorem q1747 : (Jvm.Cond.lays "BitRopesModel" "BitRopesModel" "place" "I") ∈ lw_all := lw_g (lw_at lw_m7 198 rfl) rfl
theorem q1748 : (Jvm.Cond.soleField "BitRopesModel" "place") ∈ lw_all := lw_g (lw_at lw_m7 199 rfl) rfl
theorem q1749 : (Jvm.Cond.lays "BitRopesModel" "BitRopesModel" "word" "J") ∈ lw_all := lw_g (lw_at lw_m7 200 rfl) rfl
theorem q1750 : (Jvm.Cond.soleField "BitRopesModel" "word") ∈ lw_all := lw_g (lw_at lw_m7 201 rfl) rfl
theorem q1751 : (Jvm.Cond.lays "BitRopesModel" "BitRopesModel" "told" "I") ∈ lw_all := lw_g (lw_at lw_m7 202 rfl) rfl
theorem q1752 : (Jvm.Cond.soleField "BitRopesModel" "told") ∈ lw_all := lw_g (lw_at lw_m7 203 rfl) rfl
theorem q1753 : (Jvm.Cond.laysFinal "BitRopesModel" "BitRopesModel" "now" "[I") ∈ lw_all := lw_g (lw_at lw_m7 204 rfl) rfl
theorem q1754 : (Jvm.Cond.soleField "BitRopesModel" "now") ∈ lw_all := lw_g (lw_at lw_m7 205 rfl) rfl
theorem q1755 : (Jvm.Cond.laysFinal "BitRopesModel" "BitRopesModel" "read" "[I") ∈ lw_all := lw_g (lw_at lw_m7 206 rfl) rfl
theorem q1756 : (Jvm.Cond.soleField "BitRopesModel" "read") ∈ lw_all := lw_g (lw_at lw_m7 207 rfl) rfl
theorem q1757 : (Jvm.Cond.laysFinal "BitRopesModel" "BitRopesModel" "kept" "[I") ∈ lw_all := lw_g (lw_at lw_m7 208 rfl) rfl
theorem q1758 : (Jvm.Cond.soleField "BitRopesModel" "kept") ∈ lw_all := lw_g (lw_at lw_m7 209 rfl) rfl
theorem q1759 : (Jvm.Cond.laysFinal "BitRopesModel" "BitRopesModel" "snaps" "[I") ∈ lw_all := lw_g (lw_at lw_m7 210 rfl) rfl
theorem q1760 : (Jvm.Cond.soleField "BitRopesModel" "snaps") ∈ lw_all := lw_g (lw_at lw_m7 211 rfl) rfl
theorem q1761 : (Jvm.Cond.laysFinal "BitRopesModel" "BitRopesModel" "aside" "[I") ∈ lw_all := lw_g (lw_at lw_m7 212 rfl) rfl
theorem q1762 : (Jvm.Cond.soleField "BitRopesModel" "aside") ∈ lw_all := lw_g (lw_at lw_m7 213 rfl) rfl
theorem q1763 : (Jvm.Cond.laysFinal "BitRopesModel" "BitRopesModel" "then" "[I") ∈ lw_all := lw_g (lw_at lw_m7 214 rfl) rfl
theorem q1764 : (Jvm.Cond.soleField "BitRopesModel" "then") ∈ lw_all := lw_g (lw_at lw_m7 215 rfl) rfl
theorem q1765 : (Jvm.Cond.laysFinal "BitRopesModel" "BitRopesModel" "name" "[J") ∈ lw_all := lw_g (lw_at lw_m7 216 rfl) rfl
theorem q1766 : (Jvm.Cond.soleField "BitRopesModel" "name") ∈ lw_all := lw_g (lw_at lw_m7 217 rfl) rfl
theorem q1767 : (Jvm.Cond.laysFinal "BitRopesModel" "BitRopesModel" "readName" "[J") ∈ lw_all := lw_g (lw_at lw_m7 218 rfl) rfl
theorem q1768 : (Jvm.Cond.soleField "BitRopesModel" "readName") ∈ lw_all := lw_g (lw_at lw_m7 219 rfl) rfl
theorem q1769 : (Jvm.Cond.laysFinal "BitRopesModel" "BitRopesModel" "keptName" "[J") ∈ lw_all := lw_g (lw_at lw_m7 220 rfl) rfl
theorem q1770 : (Jvm.Cond.soleField "BitRopesModel" "keptName") ∈ lw_all := lw_g (lw_at lw_m7 221 rfl) rfl
theorem q1771 : (Jvm.Cond.laysFinal "BitRopesModel" "BitRopesModel" "isKept" "[Z") ∈ lw_all := lw_g (lw_at lw_m7 222 rfl) rfl
theorem q1772 : (Jvm.Cond.soleField "BitRopesModel" "isKept") ∈ lw_all := lw_g (lw_at lw_m7 223 rfl) rfl
theorem q1773 : (Jvm.Cond.lays "BitRopesModel" "BitRopesModel" "snapMany" "I") ∈ lw_all := lw_g (lw_at lw_m7 224 rfl) rfl
theorem q1774 : (Jvm.Cond.soleField "BitRopesModel" "snapMany") ∈ lw_all := lw_g (lw_at lw_m7 225 rfl) rfl
theorem q1775 : (Jvm.Cond.lays "BitRopesModel" "BitRopesModel" "hasLetters" "Z") ∈ lw_all := lw_g (lw_at lw_m7 226 rfl) rfl
theorem q1776 : (Jvm.Cond.soleField "BitRopesModel" "hasLetters") ∈ lw_all := lw_g (lw_at lw_m7 227 rfl) rfl
theorem q1777 : (Jvm.Cond.lays "BitRopesModel" "BitRopesModel" "powe\x72" "I") ∈ lw_all := lw_g (lw_at lw_m7 228 rfl) rfl
theorem q1778 : (Jvm.Cond.soleField "BitRopesModel" "powe\x72") ∈ lw_all := lw_g (lw_at lw_m7 229 rfl) rfl
theorem q1779 : (Jvm.Cond.laysFinal "BitRopesModel" "BitRopesModel" "sought" "[I") ∈ lw_all := lw_g (lw_at lw_m7 230 rfl) rfl
theorem q1780 : (Jvm.Cond.soleField "BitRopesModel" "sought") ∈ lw_all := lw_g (lw_at lw_m7 231 rfl) rfl
theorem q1781 : (Jvm.Cond.lays "BitRopesModel" "BitRopesModel" "soughtMany" "I") ∈ lw_all := lw_g (lw_at lw_m7 232 rfl) rfl
theorem q1782 : (Jvm.Cond.soleField "BitRopesModel" "soughtMany") ∈ lw_all := lw_g (lw_at lw_m7 233 rfl) rfl
theorem q1783 : (Jvm.Cond.lays "BitRopesModel" "BitRopesModel" "seed" "I") ∈ lw_all := lw_g (lw_at lw_m7 234 rfl) rfl
theorem q1784 : (Jvm.Cond.soleField "BitRopesModel" "seed") ∈ lw_all := lw_g (lw_at lw_m7 235 rfl) rfl
theorem q1785 : (Jvm.Cond.laysFinal "BitRopesModel" "BitRopesModel" "line" "[I") ∈ lw_all := lw_g (lw_at lw_m7 236 rfl) rfl
theorem q1786 : (Jvm.Cond.soleField "BitRopesModel" "line") ∈ lw_all := lw_g (lw_at lw_m7 237 rfl) rfl
theorem q1787 : (Jvm.Cond.laysFinal "BitRopesModel" "BitRopesModel" "written" "[I") ∈ lw_all := lw_g (lw_at lw_m7 238 rfl) rfl
theorem q1788 : (Jvm.Cond.soleField "BitRopesModel" "written") ∈ lw_all := lw_g (lw_at lw_m7 239 rfl) rfl
theorem q1789 : (Jvm.Cond.lays "BitRopesModel" "BitRopesModel" "lineMany" "I") ∈ lw_all := lw_g (lw_at lw_m8 0 rfl) rfl
theorem q1790 : (Jvm.Cond.soleField "BitRopesModel" "lineMany") ∈ lw_all := lw_g (lw_at lw_m8 1 rfl) rfl
theorem q1791 : (Jvm.Cond.lays "BitRopesModel" "BitRopesModel" "hasWritten" "Z") ∈ lw_all := lw_g (lw_at lw_m8 2 rfl) rfl
theorem q1792 : (Jvm.Cond.soleField "BitRopesModel" "hasWritten") ∈ lw_all := lw_g (lw_at lw_m8 3 rfl) rfl
theorem q1793 : (Jvm.Cond.laysFinal "BitRopesModel" "BitRopesModel" "node" "[I") ∈ lw_all := lw_g (lw_at lw_m8 4 rfl) rfl
theorem q1794 : (Jvm.Cond.soleField "BitRopesModel" "node") ∈ lw_all := lw_g (lw_at lw_m8 5 rfl) rfl
theorem q1795 : (Jvm.Cond.lays "BitRopesModel" "BitRopesModel" "nodes" "I") ∈ lw_all := lw_g (lw_at lw_m8 6 rfl) rfl
theorem q1796 : (Jvm.Cond.soleField "BitRopesModel" "nodes") ∈ lw_all := lw_g (lw_at lw_m8 7 rfl) rfl
theorem q1797 : (Jvm.Cond.lays "BitRopesModel" "BitRopesModel" "onesMany" "I") ∈ lw_all := lw_g (lw_at lw_m8 8 rfl) rfl
theorem q1798 : (Jvm.Cond.soleField "BitRopesModel" "onesMany") ∈ lw_all := lw_g (lw_at lw_m8 9 rfl) rfl
theorem q1799 : (Jvm.Cond.lays "BitRopesModel" "BitRopesModel" "within" "I") ∈ lw_all := lw_g (lw_at lw_m8 10 rfl) rfl
theorem q1800 : (Jvm.Cond.soleField "BitRopesModel" "within") ∈ lw_all := lw_g (lw_at lw_m8 11 rfl) rfl
theorem q1801 : (Jvm.Cond.lays "BitRopesModel" "BitRopesModel" "top" "I") ∈ lw_all := lw_g (lw_at lw_m8 12 rfl) rfl
theorem q1802 : (Jvm.Cond.soleField "BitRopesModel" "top") ∈ lw_all := lw_g (lw_at lw_m8 13 rfl) rfl
theorem q1803 : (Jvm.Cond.superclass "BitRopesModel" "java/lang/Object") ∈ lw_all := lw_g (lw_at lw_m8 14 rfl) rfl
theorem q1806 : (Jvm.Cond.instanceMethod ({ cls := "BitRopesModel", name := "room", desc := "()I" } : Jvm.MethodName)) ∈ lw_all := lw_g (lw_at lw_m8 17 rfl) rfl
theorem q1807 : (Jvm.Cond.selects "BitRopesModel" ({ cls := "BitRopesModel", name := "room", desc := "()I" } : Jvm.MethodName) ({ cls := "BitRopesModel", name := "room", desc := "()I" } : Jvm.MethodName)) ∈ lw_all := lw_g (lw_at lw_m8 18 rfl) rfl
theorem q1808 : (Jvm.Cond.code ({ cls := "BitRopesModel", name := "room", desc := "()I" } : Jvm.MethodName) prog_23_method_31_code (3 : Nat) (Option.some Jvm.ClassFile.FieldType.int)) ∈ lw_all := lw_g (lw_at lw_m8 19 rfl) rfl
theorem q1809 : (Jvm.Cond.methodLink "BitRopesModel" (180 : Nat) ({ cls := "BitRopesModel", name := "begin", desc := "(I)V" } : Jvm.MethodName)) ∈ lw_all := lw_g (lw_at lw_m8 20 rfl) rfl
theorem q1810 : (Jvm.Cond.privateMethod ({ cls := "BitRopesModel", name := "begin", desc := "(I)V" } : Jvm.MethodName)) ∈ lw_tbl := lw_at lw_m8 21 rfl
theorem q1811 : (Jvm.Cond.instanceMethod ({ cls := "BitRopesModel", name := "begin", desc := "(I)V" } : Jvm.MethodName)) ∈ lw_all := lw_g (lw_at lw_m8 22 rfl) rfl
theorem q1812 : (Jvm.Cond.code ({ cls := "BitRopesModel", name := "begin", desc := "(I)V" } : Jvm.MethodName) prog_23_method_21_code (2 : Nat) (Option.none : Option Jvm.ClassFile.FieldType)) ∈ lw_all := lw_g (lw_at lw_m8 23 rfl) rfl
theorem q1813 : (Jvm.Cond.methodLink "BitRopesModel" (89 : Nat) ({ cls := "BitRopesModel", name := "take", desc := "()I" } : Jvm.MethodName)) ∈ lw_all := lw_g (lw_at lw_m8 24 rfl) rfl
theorem q1814 : (Jvm.Cond.privateMethod ({ cls := "BitRopesModel", name := "take", desc := "()I" } : Jvm.MethodName)) ∈ lw_tbl := lw_at lw_m8 25 rfl
theorem q1815 : (Jvm.Cond.instanceMethod ({ cls := "BitRopesModel", name := "take", desc := "()I" } : Jvm.MethodName)) ∈ lw_all := lw_g (lw_at lw_m8 26 rfl) rfl
theorem q1816 : (Jvm.Cond.code ({ cls := "BitRopesModel", name := "take", desc := "()I" } : Jvm.MethodName) prog_23_method_6_code (2 : Nat) (Option.some Jvm.ClassFile.FieldType.int)) ∈ lw_all := lw_g (lw_at lw_m8 27 rfl) rfl
theorem q1817 : (Jvm.Cond.methodLink "BitRopesModel" (82 : Nat) ({ cls := "BitRopesModel", name := "go", desc := "()V" } : Jvm.MethodName)) ∈ lw_all := lw_g (lw_at lw_m8 28 rfl) rfl
theorem q1818 : (Jvm.Cond.privateMethod ({ cls := "BitRopesModel", name := "go", desc := "()V" } : Jvm.MethodName)) ∈ lw_tbl := lw_at lw_m8 29 rfl
theorem q1819 : (Jvm.Cond.instanceMethod ({ cls := "BitRopesModel", name := "go", desc := "()V" } : Jvm.MethodName)) ∈ lw_all := lw_g (lw_at lw_m8 30 rfl) rfl
theorem q1820 : (Jvm.Cond.code ({ cls := "BitRopesModel", name := "go", desc := "()V" } : Jvm.MethodName) prog_23_method_12_code (5 : Nat) (Option.none : Option Jvm.ClassFile.FieldType)) ∈ lw_all := lw_g (lw_at lw_m8 31 rfl) rfl
theorem q1821 : (Jvm.Cond.methodLink "BitRopesModel" (33 : Nat) ({ cls := "BitRopesModel", name := "isLette\x72", desc := "(I)Z" } : Jvm.MethodName)) ∈ lw_all := lw_g (lw_at lw_m8 32 rfl) rfl
theorem q1822 : (Jvm.Cond.static ({ cls := "BitRopesModel", name := "isLette\x72", desc := "(I)Z" } : Jvm.MethodName)) ∈ lw_all := lw_g (lw_at lw_m8 33 rfl) rfl
theorem q1823 : (Jvm.Cond.code ({ cls := "BitRopesModel", name := "isLette\x72", desc := "(I)Z" } : Jvm.MethodName) prog_23_method_11_code (1 : Nat) (Option.some Jvm.ClassFile.FieldType.boolean)) ∈ lw_all := lw_g (lw_at lw_m8 34 rfl) rfl
theorem q1824 : (Jvm.Cond.methodLink "BitRopesModel" (37 : Nat) ({ cls := "BitRopesModel", name := "isDigit", desc := "(I)Z" } : Jvm.MethodName)) ∈ lw_all := lw_g (lw_at lw_m8 35 rfl) rfl
theorem q1825 : (Jvm.Cond.static ({ cls := "BitRopesModel", name := "isDigit", desc := "(I)Z" } : Jvm.MethodName)) ∈ lw_all := lw_g (lw_at lw_m8 36 rfl) rfl
theorem q1826 : (Jvm.Cond.code ({ cls := "BitRopesModel", name := "isDigit", desc := "(I)Z" } : Jvm.MethodName) prog_23_method_10_code (1 : Nat) (Option.some Jvm.ClassFile.FieldType.boolean)) ∈ lw_all := lw_g (lw_at lw_m8 37 rfl) rfl
theorem q1827 : (Jvm.Cond.methodLink "BitRopesModel" (50 : Nat) ({ cls := "BitRopesModel", name := "tapeAt", desc := "(I)I" } : Jvm.MethodName)) ∈ lw_all := lw_g (lw_at lw_m8 38 rfl) rfl
theorem q1828 : (Jvm.Cond.privateMethod ({ cls := "BitRopesModel", name := "tapeAt", desc := "(I)I" } : Jvm.MethodName)) ∈ lw_tbl := lw_at lw_m8 39 rfl
theorem q1829 : (Jvm.Cond.instanceMethod ({ cls := "BitRopesModel", name := "tapeAt", desc := "(I)I" } : Jvm.MethodName)) ∈ lw_all := lw_g (lw_at lw_m8 40 rfl) rfl
theorem q1830 : (Jvm.Cond.code ({ cls := "BitRopesModel", name := "tapeAt", desc := "(I)I" } : Jvm.MethodName) prog_23_method_9_code (2 : Nat) (Option.some Jvm.ClassFile.FieldType.int)) ∈ lw_all := lw_g (lw_at lw_m8 41 rfl) rfl
theorem q1831 : (Jvm.Cond.constantLong "BitRopesModel" (54 : Nat) (27 : Int64)) ∈ lw_all := lw_g (lw_at lw_m8 42 rfl) rfl
theorem q1832 : (Jvm.Cond.constantLong "BitRopesModel" (56 : Nat) (96 : Int64)) ∈ lw_all := lw_g (lw_at lw_m8 43 rfl) rfl
theorem q1833 : (Jvm.Cond.methodLink "BitRopesModel" (183 : Nat) ({ cls := "BitRopesModel", name := "readLine", desc := "(I)Z" } : Jvm.MethodName)) ∈ lw_all := lw_g (lw_at lw_m8 44 rfl) rfl
theorem q1834 : (Jvm.Cond.privateMethod ({ cls := "BitRopesModel", name := "readLine", desc := "(I)Z" } : Jvm.MethodName)) ∈ lw_tbl := lw_at lw_m8 45 rfl
theorem q1835 : (Jvm.Cond.instanceMethod ({ cls := "BitRopesModel", name := "readLine", desc := "(I)Z" } : Jvm.MethodName)) ∈ lw_all := lw_g (lw_at lw_m8 46 rfl) rfl
theorem q1836 : (Jvm.Cond.code ({ cls := "BitRopesModel", name := "readLine", desc := "(I)Z" } : Jvm.MethodName) prog_23_method_30_code (2 : Nat) (Option.some Jvm.ClassFile.FieldType.boolean)) ∈ lw_all := lw_g (lw_at lw_m8 47 rfl) rfl
theorem q1837 : (Jvm.Cond.methodLink "BitRopesModel" (168 : Nat) ({ cls := "BitRopesModel", name := "isWord", desc := "(I)Z" } : Jvm.MethodName)) ∈ lw_all := lw_g (lw_at lw_m8 48 rfl) rfl
theorem q1838 : (Jvm.Cond.privateMethod ({ cls := "BitRopesModel", name := "isWord", desc := "(I)Z" } : Jvm.MethodName)) ∈ lw_tbl := lw_at lw_m8 49 rfl
theorem q1839 : (Jvm.Cond.instanceMethod ({ cls := "BitRopesModel", name := "isWord", desc := "(I)Z" } : Jvm.MethodName)) ∈ lw_all := lw_g (lw_at lw_m8 50 rfl) rfl
theorem q1840 : (Jvm.Cond.code ({ cls := "BitRopesModel", name := "isWord", desc := "(I)Z" } : Jvm.MethodName) prog_23_method_15_code (2 : Nat) (Option.some Jvm.ClassFile.FieldType.boolean)) ∈ lw_all := lw_g (lw_at lw_m8 51 rfl) rfl
theorem q1841 : (Jvm.Cond.methodLink "BitRopesModel" (62 : Nat) ({ cls := "BitRopesModel", name := "wordOf", desc := "(I)J" } : Jvm.MethodName)) ∈ lw_all := lw_g (lw_at lw_m8 52 rfl) rfl
theorem q1842 : (Jvm.Cond.static ({ cls := "BitRopesModel", name := "wordOf", desc := "(I)J" } : Jvm.MethodName)) ∈ lw_all := lw_g (lw_at lw_m8 53 rfl) rfl
theorem q1843 : (Jvm.Cond.code ({ cls := "BitRopesModel", name := "wordOf", desc := "(I)J" } : Jvm.MethodName) prog_23_method_14_code (1 : Nat) (Option.some Jvm.ClassFile.FieldType.long)) ∈ lw_all := lw_g (lw_at lw_m8 54 rfl) rfl
theorem q1844 : (Jvm.Cond.methodLink "BitRopesModel" (58 : Nat) ({ cls := "BitRopesModel", name := "spelt", desc := "(IIIIIII)J" } : Jvm.MethodName)) ∈ lw_all := lw_g (lw_at lw_m8 55 rfl) rfl
theorem q1845 : (Jvm.Cond.static ({ cls := "BitRopesModel", name := "spelt", desc := "(IIIIIII)J" } : Jvm.MethodName)) ∈ lw_all := lw_g (lw_at lw_m8 56 rfl) rfl
theorem q1846 : (Jvm.Cond.code ({ cls := "BitRopesModel", name := "spelt", desc := "(IIIIIII)J" } : Jvm.MethodName) prog_23_method_13_code (9 : Nat) (Option.some Jvm.ClassFile.FieldType.long)) ∈ lw_all := lw_g (lw_at lw_m8 57 rfl) rfl
theorem q1847 : (Jvm.Cond.methodLink "BitRopesModel" (171 : Nat) ({ cls := "BitRopesModel", name := "readLeaf", desc := "(I)Z" } : Jvm.MethodName)) ∈ lw_all := lw_g (lw_at lw_m8 58 rfl) rfl
theorem q1848 : (Jvm.Cond.privateMethod ({ cls := "BitRopesModel", name := "readLeaf", desc := "(I)Z" } : Jvm.MethodName)) ∈ lw_tbl := lw_at lw_m8 59 rfl
theorem q1849 : (Jvm.Cond.instanceMethod ({ cls := "BitRopesModel", name := "readLeaf", desc := "(I)Z" } : Jvm.MethodName)) ∈ lw_all := lw_g (lw_at lw_m8 60 rfl) rfl
theorem q1850 : (Jvm.Cond.code ({ cls := "BitRopesModel", name := "readLeaf", desc := "(I)Z" } : Jvm.MethodName) prog_23_method_25_code (2 : Nat) (Option.some Jvm.ClassFile.FieldType.boolean)) ∈ lw_all := lw_g (lw_at lw_m8 61 rfl) rfl
theorem q1851 : (Jvm.Cond.methodLink "BitRopesModel" (72 : Nat) ({ cls := "BitRopesModel", name := "bad", desc := "(I)Z" } : Jvm.MethodName)) ∈ lw_all := lw_g (lw_at lw_m8 62 rfl) rfl
theorem q1852 : (Jvm.Cond.privateMethod ({ cls := "BitRopesModel", name := "bad", desc := "(I)Z" } : Jvm.MethodName)) ∈ lw_tbl := lw_at lw_m8 63 rfl
theorem q1853 : (Jvm.Cond.instanceMethod ({ cls := "BitRopesModel", name := "bad", desc := "(I)Z" } : Jvm.MethodName)) ∈ lw_all := lw_g (lw_at lw_m8 64 rfl) rfl
theorem q1854 : (Jvm.Cond.code ({ cls := "BitRopesModel", name := "bad", desc := "(I)Z" } : Jvm.MethodName) prog_23_method_18_code (2 : Nat) (Option.some Jvm.ClassFile.FieldType.boolean)) ∈ lw_all := lw_g (lw_at lw_m8 65 rfl) rfl
theorem q1855 : (Jvm.Cond.methodLink "BitRopesModel" (146 : Nat) ({ cls := "BitRopesModel", name := "readNumbe\x72", desc := "(II)Z" } : Jvm.MethodName)) ∈ lw_all := lw_g (lw_at lw_m8 66 rfl) rfl
theorem q1856 : (Jvm.Cond.privateMethod ({ cls := "BitRopesModel", name := "readNumbe\x72", desc := "(II)Z" } : Jvm.MethodName)) ∈ lw_tbl := lw_at lw_m8 67 rfl
theorem q1857 : (Jvm.Cond.instanceMethod ({ cls := "BitRopesModel", name := "readNumbe\x72", desc := "(II)Z" } : Jvm.MethodName)) ∈ lw_all := lw_g (lw_at lw_m8 68 rfl) rfl
theorem q1858 : (Jvm.Cond.code ({ cls := "BitRopesModel", name := "readNumbe\x72", desc := "(II)Z" } : Jvm.MethodName) prog_23_method_19_code (3 : Nat) (Option.some Jvm.ClassFile.FieldType.boolean)) ∈ lw_all := lw_g (lw_at lw_m8 69 rfl) rfl
theorem q1859 : (Jvm.Cond.methodLink "BitRopesModel" (75 : Nat) ({ cls := "BitRopesModel", name := "isIn", desc := "(III)Z" } : Jvm.MethodName)) ∈ lw_all := lw_g (lw_at lw_m8 70 rfl) rfl
theorem q1860 : (Jvm.Cond.static ({ cls := "BitRopesModel", name := "isIn", desc := "(III)Z" } : Jvm.MethodName)) ∈ lw_all := lw_g (lw_at lw_m8 71 rfl) rfl
theorem q1861 : (Jvm.Cond.code ({ cls := "BitRopesModel", name := "isIn", desc := "(III)Z" } : Jvm.MethodName) prog_23_method_7_code (3 : Nat) (Option.some Jvm.ClassFile.FieldType.boolean)) ∈ lw_all := lw_g (lw_at lw_m8 72 rfl) rfl
theorem q1862 : (Jvm.Cond.methodLink "BitRopesModel" (174 : Nat) ({ cls := "BitRopesModel", name := "readRow", desc := "()Z" } : Jvm.MethodName)) ∈ lw_all := lw_g (lw_at lw_m8 73 rfl) rfl
theorem q1863 : (Jvm.Cond.privateMethod ({ cls := "BitRopesModel", name := "readRow", desc := "()Z" } : Jvm.MethodName)) ∈ lw_tbl := lw_at lw_m8 74 rfl
theorem q1864 : (Jvm.Cond.instanceMethod ({ cls := "BitRopesModel", name := "readRow", desc := "()Z" } : Jvm.MethodName)) ∈ lw_all := lw_g (lw_at lw_m8 75 rfl) rfl
theorem q1865 : (Jvm.Cond.code ({ cls := "BitRopesModel", name := "readRow", desc := "()Z" } : Jvm.MethodName) prog_23_method_28_code (3 : Nat) (Option.some Jvm.ClassFile.FieldType.boolean)) ∈ lw_all := lw_g (lw_at lw_m8 76 rfl) rfl
theorem q1866 : (Jvm.Cond.methodLink "BitRopesModel" (150 : Nat) ({ cls := "BitRopesModel", name := "isName", desc := "()Z" } : Jvm.MethodName)) ∈ lw_all := lw_g (lw_at lw_m8 77 rfl) rfl
theorem q1867 : (Jvm.Cond.privateMethod ({ cls := "BitRopesModel", name := "isName", desc := "()Z" } : Jvm.MethodName)) ∈ lw_tbl := lw_at lw_m8 78 rfl
theorem q1868 : (Jvm.Cond.instanceMethod ({ cls := "BitRopesModel", name := "isName", desc := "()Z" } : Jvm.MethodName)) ∈ lw_all := lw_g (lw_at lw_m8 79 rfl) rfl
theorem q1869 : (Jvm.Cond.code ({ cls := "BitRopesModel", name := "isName", desc := "()Z" } : Jvm.MethodName) prog_23_method_17_code (2 : Nat) (Option.some Jvm.ClassFile.FieldType.boolean)) ∈ lw_all := lw_g (lw_at lw_m8 80 rfl) rfl
theorem q1870 : (Jvm.Cond.methodLink "BitRopesModel" (154 : Nat) ({ cls := "BitRopesModel", name := "findIn", desc := "([JIJ)I" } : Jvm.MethodName)) ∈ lw_all := lw_g (lw_at lw_m8 81 rfl) rfl
theorem q1871 : (Jvm.Cond.static ({ cls := "BitRopesModel", name := "findIn", desc := "([JIJ)I" } : Jvm.MethodName)) ∈ lw_all := lw_g (lw_at lw_m8 82 rfl) rfl
theorem q1872 : (Jvm.Cond.code ({ cls := "BitRopesModel", name := "findIn", desc := "([JIJ)I" } : Jvm.MethodName) prog_23_method_24_code (5 : Nat) (Option.some Jvm.ClassFile.FieldType.int)) ∈ lw_all := lw_g (lw_at lw_m8 83 rfl) rfl
theorem q1873 : (Jvm.Cond.methodLink "BitRopesModel" (158 : Nat) ({ cls := "BitRopesModel", name := "areBits", desc := "()Z" } : Jvm.MethodName)) ∈ lw_all := lw_g (lw_at lw_m8 84 rfl) rfl
theorem q1874 : (Jvm.Cond.privateMethod ({ cls := "BitRopesModel", name := "areBits", desc := "()Z" } : Jvm.MethodName)) ∈ lw_tbl := lw_at lw_m8 85 rfl
theorem q1875 : (Jvm.Cond.instanceMethod ({ cls := "BitRopesModel", name := "areBits", desc := "()Z" } : Jvm.MethodName)) ∈ lw_all := lw_g (lw_at lw_m8 86 rfl) rfl
theorem q1876 : (Jvm.Cond.code ({ cls := "BitRopesModel", name := "areBits", desc := "()Z" } : Jvm.MethodName) prog_23_method_27_code (2 : Nat) (Option.some Jvm.ClassFile.FieldType.boolean)) ∈ lw_all := lw_g (lw_at lw_m8 87 rfl) rfl
theorem q1877 : (Jvm.Cond.methodLink "BitRopesModel" (177 : Nat) ({ cls := "BitRopesModel", name := "readLetters", desc := "()Z" } : Jvm.MethodName)) ∈ lw_all := lw_g (lw_at lw_m8 88 rfl) rfl
theorem q1878 : (Jvm.Cond.privateMethod ({ cls := "BitRopesModel", name := "readLetters", desc := "()Z" } : Jvm.MethodName)) ∈ lw_tbl := lw_at lw_m8 89 rfl
theorem q1879 : (Jvm.Cond.instanceMethod ({ cls := "BitRopesModel", name := "readLetters", desc := "()Z" } : Jvm.MethodName)) ∈ lw_all := lw_g (lw_at lw_m8 90 rfl) rfl
theorem q1880 : (Jvm.Cond.code ({ cls := "BitRopesModel", name := "readLetters", desc := "()Z" } : Jvm.MethodName) prog_23_method_29_code (2 : Nat) (Option.some Jvm.ClassFile.FieldType.boolean)) ∈ lw_all := lw_g (lw_at lw_m8 91 rfl) rfl
theorem q1881 : (Jvm.Cond.methodLink "BitRopesModel" (165 : Nat) ({ cls := "BitRopesModel", name := "areOf", desc := "(I)Z" } : Jvm.MethodName)) ∈ lw_all := lw_g (lw_at lw_m8 92 rfl) rfl
theorem q1882 : (Jvm.Cond.privateMethod ({ cls := "BitRopesModel", name := "areOf", desc := "(I)Z" } : Jvm.MethodName)) ∈ lw_tbl := lw_at lw_m8 93 rfl
theorem q1883 : (Jvm.Cond.instanceMethod ({ cls := "BitRopesModel", name := "areOf", desc := "(I)Z" } : Jvm.MethodName)) ∈ lw_all := lw_g (lw_at lw_m8 94 rfl) rfl
theorem q1884 : (Jvm.Cond.code ({ cls := "BitRopesModel", name := "areOf", desc := "(I)Z" } : Jvm.MethodName) prog_23_method_26_code (3 : Nat) (Option.some Jvm.ClassFile.FieldType.boolean)) ∈ lw_all := lw_g (lw_at lw_m8 95 rfl) rfl
theorem q1885 : (Jvm.Cond.methodLink "BitRopesModel" (186 : Nat) ({ cls := "BitRopesModel", name := "readEnd", desc := "()Z" } : Jvm.MethodName)) ∈ lw_all := lw_g (lw_at lw_m8 96 rfl) rfl
theorem q1886 : (Jvm.Cond.privateMethod ({ cls := "BitRopesModel", name := "readEnd", desc := "()Z" } : Jvm.MethodName)) ∈ lw_tbl := lw_at lw_m8 97 rfl
theorem q1887 : (Jvm.Cond.instanceMethod ({ cls := "BitRopesModel", name := "readEnd", desc := "()Z" } : Jvm.MethodName)) ∈ lw_all := lw_g (lw_at lw_m8 98 rfl) rfl
theorem q1888 : (Jvm.Cond.code ({ cls := "BitRopesModel", name := "readEnd", desc := "()Z" } : Jvm.MethodName) prog_23_method_20_code (1 : Nat) (Option.some Jvm.ClassFile.FieldType.boolean)) ∈ lw_all := lw_g (lw_at lw_m8 99 rfl) rfl
theorem q1889 : (Jvm.Cond.methodLink "BitRopesModel" (86 : Nat) ({ cls := "BitRopesModel", name := "isSign", desc := "(I)Z" } : Jvm.MethodName)) ∈ lw_all := lw_g (lw_at lw_m8 100 rfl) rfl
theorem q1890 : (Jvm.Cond.privateMethod ({ cls := "BitRopesModel", name := "isSign", desc := "(I)Z" } : Jvm.MethodName)) ∈ lw_tbl := lw_at lw_m8 101 rfl
theorem q1891 : (Jvm.Cond.instanceMethod ({ cls := "BitRopesModel", name := "isSign", desc := "(I)Z" } : Jvm.MethodName)) ∈ lw_all := lw_g (lw_at lw_m8 102 rfl) rfl
theorem q1892 : (Jvm.Cond.code ({ cls := "BitRopesModel", name := "isSign", desc := "(I)Z" } : Jvm.MethodName) prog_23_method_16_code (2 : Nat) (Option.some Jvm.ClassFile.FieldType.boolean)) ∈ lw_all := lw_g (lw_at lw_m8 103 rfl) rfl
theorem q1893 : (Jvm.Cond.methodLink "BitRopesModel" (189 : Nat) ({ cls := "BitRopesModel", name := "startSo", desc := "()V" } : Jvm.MethodName)) ∈ lw_all := lw_g (lw_at lw_m8 104 rfl) rfl
theorem q1894 : (Jvm.Cond.privateMethod ({ cls := "BitRopesModel", name := "startSo", desc := "()V" } : Jvm.MethodName)) ∈ lw_tbl := lw_at lw_m8 105 rfl
theorem q1895 : (Jvm.Cond.instanceMethod ({ cls := "BitRopesModel", name := "startSo", desc := "()V" } : Jvm.MethodName)) ∈ lw_all := lw_g (lw_at lw_m8 106 rfl) rfl
theorem q1896 : (Jvm.Cond.code ({ cls := "BitRopesModel", name := "startSo", desc := "()V" } : Jvm.MethodName) prog_23_method_23_code (3 : Nat) (Option.none : Option Jvm.ClassFile.FieldType)) ∈ lw_all := lw_g (lw_at lw_m8 107 rfl) rfl
theorem q1897 : (Jvm.Cond.methodLink "BitRopesModel" (142 : Nat) ({ cls := "BitRopesModel", name := "putBit", desc := "(III)V" } : Jvm.MethodName)) ∈ lw_all := lw_g (lw_at lw_m8 108 rfl) rfl
theorem q1898 : (Jvm.Cond.privateMethod ({ cls := "BitRopesModel", name := "putBit", desc := "(III)V" } : Jvm.MethodName)) ∈ lw_tbl := lw_at lw_m8 109 rfl
theorem q1899 : (Jvm.Cond.instanceMethod ({ cls := "BitRopesModel", name := "putBit", desc := "(III)V" } : Jvm.MethodName)) ∈ lw_all := lw_g (lw_at lw_m8 110 rfl) rfl
theorem q1900 : (Jvm.Cond.code ({ cls := "BitRopesModel", name := "putBit", desc := "(III)V" } : Jvm.MethodName) prog_23_method_38_code (6 : Nat) (Option.none : Option Jvm.ClassFile.FieldType)) ∈ lw_all := lw_g (lw_at lw_m8 111 rfl) rfl
theorem q1901 : (Jvm.Cond.methodLink "BitRopesModel" (199 : Nat) ({ cls := "BitRopesModel", name := "sizeOf", desc := "(I)I" } : Jvm.MethodName)) ∈ lw_all := lw_g (lw_at lw_m8 112 rfl) rfl
theorem q1902 : (Jvm.Cond.privateMethod ({ cls := "BitRopesModel", name := "sizeOf", desc := "(I)I" } : Jvm.MethodName)) ∈ lw_tbl := lw_at lw_m8 113 rfl
theorem q1903 : (Jvm.Cond.instanceMethod ({ cls := "BitRopesModel", name := "sizeOf", desc := "(I)I" } : Jvm.MethodName)) ∈ lw_all := lw_g (lw_at lw_m8 114 rfl) rfl
theorem q1904 : (Jvm.Cond.code ({ cls := "BitRopesModel", name := "sizeOf", desc := "(I)I" } : Jvm.MethodName) prog_23_method_33_code (2 : Nat) (Option.some Jvm.ClassFile.FieldType.int)) ∈ lw_all := lw_g (lw_at lw_m8 115 rfl) rfl
theorem q1905 : (Jvm.Cond.methodLink "BitRopesModel" (202 : Nat) ({ cls := "BitRopesModel", name := "leafOf", desc := "(II)I" } : Jvm.MethodName)) ∈ lw_all := lw_g (lw_at lw_m8 116 rfl) rfl
theorem q1906 : (Jvm.Cond.privateMethod ({ cls := "BitRopesModel", name := "leafOf", desc := "(II)I" } : Jvm.MethodName)) ∈ lw_tbl := lw_at lw_m8 117 rfl
theorem q1907 : (Jvm.Cond.instanceMethod ({ cls := "BitRopesModel", name := "leafOf", desc := "(II)I" } : Jvm.MethodName)) ∈ lw_all := lw_g (lw_at lw_m8 118 rfl) rfl
theorem q1908 : (Jvm.Cond.code ({ cls := "BitRopesModel", name := "leafOf", desc := "(II)I" } : Jvm.MethodName) prog_23_method_36_code (5 : Nat) (Option.some Jvm.ClassFile.FieldType.int)) ∈ lw_all := lw_g (lw_at lw_m8 119 rfl) rfl
theorem q1909 : (Jvm.Cond.methodLink "BitRopesModel" (195 : Nat) ({ cls := "BitRopesModel", name := "leafAt", desc := "(II)I" } : Jvm.MethodName)) ∈ lw_all := lw_g (lw_at lw_m8 120 rfl) rfl
theorem q1910 : (Jvm.Cond.privateMethod ({ cls := "BitRopesModel", name := "leafAt", desc := "(II)I" } : Jvm.MethodName)) ∈ lw_tbl := lw_at lw_m8 121 rfl
theorem q1911 : (Jvm.Cond.instanceMethod ({ cls := "BitRopesModel", name := "leafAt", desc := "(II)I" } : Jvm.MethodName)) ∈ lw_all := lw_g (lw_at lw_m8 122 rfl) rfl
theorem q1912 : (Jvm.Cond.code ({ cls := "BitRopesModel", name := "leafAt", desc := "(II)I" } : Jvm.MethodName) prog_23_method_35_code (3 : Nat) (Option.some Jvm.ClassFile.FieldType.int)) ∈ lw_all := lw_g (lw_at lw_m8 123 rfl) rfl
theorem q1913 : (Jvm.Cond.methodLink "BitRopesModel" (205 : Nat) ({ cls := "BitRopesModel", name := "splitLeaf", desc := "(II)V" } : Jvm.MethodName)) ∈ lw_all := lw_g (lw_at lw_m8 124 rfl) rfl
theorem q1914 : (Jvm.Cond.privateMethod ({ cls := "BitRopesModel", name := "splitLeaf", desc := "(II)V" } : Jvm.MethodName)) ∈ lw_tbl := lw_at lw_m8 125 rfl
theorem q1915 : (Jvm.Cond.instanceMethod ({ cls := "BitRopesModel", name := "splitLeaf", desc := "(II)V" } : Jvm.MethodName)) ∈ lw_all := lw_g (lw_at lw_m8 126 rfl) rfl
theorem q1916 : (Jvm.Cond.code ({ cls := "BitRopesModel", name := "splitLeaf", desc := "(II)V" } : Jvm.MethodName) prog_23_method_37_code (5 : Nat) (Option.none : Option Jvm.ClassFile.FieldType)) ∈ lw_all := lw_g (lw_at lw_m8 127 rfl) rfl
theorem q1918 : (Jvm.Cond.instanceMethod ({ cls := "BitRopesModel", name := "fault", desc := "()I" } : Jvm.MethodName)) ∈ lw_all := lw_g (lw_at lw_m8 129 rfl) rfl
theorem q1919 : (Jvm.Cond.selects "BitRopesModel" ({ cls := "BitRopesModel", name := "fault", desc := "()I" } : Jvm.MethodName) ({ cls := "BitRopesModel", name := "fault", desc := "()I" } : Jvm.MethodName)) ∈ lw_all := lw_g (lw_at lw_m8 130 rfl) rfl
theorem q1920 : (Jvm.Cond.code ({ cls := "BitRopesModel", name := "fault", desc := "()I" } : Jvm.MethodName) prog_23_method_32_code (1 : Nat) (Option.some Jvm.ClassFile.FieldType.int)) ∈ lw_all := lw_g (lw_at lw_m8 131 rfl) rfl
theorem q1922 : (Jvm.Cond.instanceMethod ({ cls := "BitRopesModel", name := "size", desc := "(I)I" } : Jvm.MethodName)) ∈ lw_all := lw_g (lw_at lw_m8 133 rfl) rfl
theorem q1923 : (Jvm.Cond.selects "BitRopesModel" ({ cls := "BitRopesModel", name := "size", desc := "(I)I" } : Jvm.MethodName) ({ cls := "BitRopesModel", name := "size", desc := "(I)I" } : Jvm.MethodName)) ∈ lw_all := lw_g (lw_at lw_m8 134 rfl) rfl
theorem q1924 : (Jvm.Cond.code ({ cls := "BitRopesModel", name := "size", desc := "(I)I" } : Jvm.MethodName) prog_23_method_45_code (2 : Nat) (Option.some Jvm.ClassFile.FieldType.int)) ∈ lw_all := lw_g (lw_at lw_m8 135 rfl) rfl
theorem q1925 : (Jvm.Cond.methodLink "BitRopesModel" (215 : Nat) ({ cls := "BitRopesModel", name := "isRow", desc := "(I)Z" } : Jvm.MethodName)) ∈ lw_all := lw_g (lw_at lw_m8 136 rfl) rfl
theorem q1926 : (Jvm.Cond.privateMethod ({ cls := "BitRopesModel", name := "isRow", desc := "(I)Z" } : Jvm.MethodName)) ∈ lw_tbl := lw_at lw_m8 137 rfl
theorem q1927 : (Jvm.Cond.instanceMethod ({ cls := "BitRopesModel", name := "isRow", desc := "(I)Z" } : Jvm.MethodName)) ∈ lw_all := lw_g (lw_at lw_m8 138 rfl) rfl
theorem q1928 : (Jvm.Cond.code ({ cls := "BitRopesModel", name := "isRow", desc := "(I)Z" } : Jvm.MethodName) prog_23_method_41_code (2 : Nat) (Option.some Jvm.ClassFile.FieldType.boolean)) ∈ lw_all := lw_g (lw_at lw_m8 139 rfl) rfl
theorem q1930 : (Jvm.Cond.instanceMethod ({ cls := "BitRopesModel", name := "bit", desc := "(II)I" } : Jvm.MethodName)) ∈ lw_all := lw_g (lw_at lw_m8 141 rfl) rfl
theorem q1931 : (Jvm.Cond.selects "BitRopesModel" ({ cls := "BitRopesModel", name := "bit", desc := "(II)I" } : Jvm.MethodName) ({ cls := "BitRopesModel", name := "bit", desc := "(II)I" } : Jvm.MethodName)) ∈ lw_all := lw_g (lw_at lw_m8 142 rfl) rfl
theorem q1932 : (Jvm.Cond.code ({ cls := "BitRopesModel", name := "bit", desc := "(II)I" } : Jvm.MethodName) prog_23_method_46_code (3 : Nat) (Option.some Jvm.ClassFile.FieldType.int)) ∈ lw_all := lw_g (lw_at lw_m8 143 rfl) rfl
theorem q1933 : (Jvm.Cond.methodLink "BitRopesModel" (218 : Nat) ({ cls := "BitRopesModel", name := "isThere", desc := "(II)Z" } : Jvm.MethodName)) ∈ lw_all := lw_g (lw_at lw_m8 144 rfl) rfl
theorem q1934 : (Jvm.Cond.privateMethod ({ cls := "BitRopesModel", name := "isThere", desc := "(II)Z" } : Jvm.MethodName)) ∈ lw_tbl := lw_at lw_m8 145 rfl
theorem q1935 : (Jvm.Cond.instanceMethod ({ cls := "BitRopesModel", name := "isThere", desc := "(II)Z" } : Jvm.MethodName)) ∈ lw_all := lw_g (lw_at lw_m8 146 rfl) rfl
theorem q1936 : (Jvm.Cond.code ({ cls := "BitRopesModel", name := "isThere", desc := "(II)Z" } : Jvm.MethodName) prog_23_method_43_code (3 : Nat) (Option.some Jvm.ClassFile.FieldType.boolean)) ∈ lw_all := lw_g (lw_at lw_m8 147 rfl) rfl
theorem q1937 : (Jvm.Cond.methodLink "BitRopesModel" (212 : Nat) ({ cls := "BitRopesModel", name := "bitOf", desc := "(II)I" } : Jvm.MethodName)) ∈ lw_all := lw_g (lw_at lw_m8 148 rfl) rfl
theorem q1938 : (Jvm.Cond.privateMethod ({ cls := "BitRopesModel", name := "bitOf", desc := "(II)I" } : Jvm.MethodName)) ∈ lw_tbl := lw_at lw_m8 149 rfl
theorem q1939 : (Jvm.Cond.instanceMethod ({ cls := "BitRopesModel", name := "bitOf", desc := "(II)I" } : Jvm.MethodName)) ∈ lw_all := lw_g (lw_at lw_m8 150 rfl) rfl
theorem q1940 : (Jvm.Cond.code ({ cls := "BitRopesModel", name := "bitOf", desc := "(II)I" } : Jvm.MethodName) prog_23_method_34_code (3 : Nat) (Option.some Jvm.ClassFile.FieldType.int)) ∈ lw_all := lw_g (lw_at lw_m8 151 rfl) rfl
theorem q1942 : (Jvm.Cond.instanceMethod ({ cls := "BitRopesModel", name := "rank", desc := "(III)I" } : Jvm.MethodName)) ∈ lw_all := lw_g (lw_at lw_m8 153 rfl) rfl
theorem q1943 : (Jvm.Cond.selects "BitRopesModel" ({ cls := "BitRopesModel", name := "rank", desc := "(III)I" } : Jvm.MethodName) ({ cls := "BitRopesModel", name := "rank", desc := "(III)I" } : Jvm.MethodName)) ∈ lw_all := lw_g (lw_at lw_m8 154 rfl) rfl
theorem q1944 : (Jvm.Cond.code ({ cls := "BitRopesModel", name := "rank", desc := "(III)I" } : Jvm.MethodName) prog_23_method_47_code (5 : Nat) (Option.some Jvm.ClassFile.FieldType.int)) ∈ lw_all := lw_g (lw_at lw_m8 155 rfl) rfl
theorem q1945 : (Jvm.Cond.methodLink "BitRopesModel" (221 : Nat) ({ cls := "BitRopesModel", name := "isBit", desc := "(I)Z" } : Jvm.MethodName)) ∈ lw_all := lw_g (lw_at lw_m8 156 rfl) rfl
theorem q1946 : (Jvm.Cond.privateMethod ({ cls := "BitRopesModel", name := "isBit", desc := "(I)Z" } : Jvm.MethodName)) ∈ lw_tbl := lw_at lw_m8 157 rfl
theorem q1947 : (Jvm.Cond.instanceMethod ({ cls := "BitRopesModel", name := "isBit", desc := "(I)Z" } : Jvm.MethodName)) ∈ lw_all := lw_g (lw_at lw_m8 158 rfl) rfl
theorem q1948 : (Jvm.Cond.code ({ cls := "BitRopesModel", name := "isBit", desc := "(I)Z" } : Jvm.MethodName) prog_23_method_42_code (2 : Nat) (Option.some Jvm.ClassFile.FieldType.boolean)) ∈ lw_all := lw_g (lw_at lw_m8 159 rfl) rfl
theorem q1949 : (Jvm.Cond.methodLink "BitRopesModel" (224 : Nat) ({ cls := "BitRopesModel", name := "onesIn", desc := "(III)I" } : Jvm.MethodName)) ∈ lw_all := lw_g (lw_at lw_m8 160 rfl) rfl
theorem q1950 : (Jvm.Cond.privateMethod ({ cls := "BitRopesModel", name := "onesIn", desc := "(III)I" } : Jvm.MethodName)) ∈ lw_tbl := lw_at lw_m8 161 rfl
theorem q1951 : (Jvm.Cond.instanceMethod ({ cls := "BitRopesModel", name := "onesIn", desc := "(III)I" } : Jvm.MethodName)) ∈ lw_all := lw_g (lw_at lw_m8 162 rfl) rfl
theorem q1952 : (Jvm.Cond.code ({ cls := "BitRopesModel", name := "onesIn", desc := "(III)I" } : Jvm.MethodName) prog_23_method_44_code (6 : Nat) (Option.some Jvm.ClassFile.FieldType.int)) ∈ lw_all := lw_g (lw_at lw_m8 163 rfl) rfl
theorem q1954 : (Jvm.Cond.instanceMethod ({ cls := "BitRopesModel", name := "select", desc := "(III)I" } : Jvm.MethodName)) ∈ lw_all := lw_g (lw_at lw_m8 165 rfl) rfl
theorem q1955 : (Jvm.Cond.selects "BitRopesModel" ({ cls := "BitRopesModel", name := "select", desc := "(III)I" } : Jvm.MethodName) ({ cls := "BitRopesModel", name := "select", desc := "(III)I" } : Jvm.MethodName)) ∈ lw_all := lw_g (lw_at lw_m8 166 rfl) rfl
theorem q1956 : (Jvm.Cond.code ({ cls := "BitRopesModel", name := "select", desc := "(III)I" } : Jvm.MethodName) prog_23_method_48_code (6 : Nat) (Option.some Jvm.ClassFile.FieldType.int)) ∈ lw_all := lw_g (lw_at lw_m8 167 rfl) rfl
theorem q1958 : (Jvm.Cond.instanceMethod ({ cls := "BitRopesModel", name := "find", desc := "(III)I" } : Jvm.MethodName)) ∈ lw_all := lw_g (lw_at lw_m8 169 rfl) rfl
theorem q1959 : (Jvm.Cond.selects "BitRopesModel" ({ cls := "BitRopesModel", name := "find", desc := "(III)I" } : Jvm.MethodName) ({ cls := "BitRopesModel", name := "find", desc := "(III)I" } : Jvm.MethodName)) ∈ lw_all := lw_g (lw_at lw_m8 170 rfl) rfl
theorem q1960 : (Jvm.Cond.code ({ cls := "BitRopesModel", name := "find", desc := "(III)I" } : Jvm.MethodName) prog_23_method_49_code (5 : Nat) (Option.some Jvm.ClassFile.FieldType.int)) ∈ lw_all := lw_g (lw_at lw_m8 171 rfl) rfl
theorem q1962 : (Jvm.Cond.instanceMethod ({ cls := "BitRopesModel", name := "runs", desc := "(I)I" } : Jvm.MethodName)) ∈ lw_all := lw_g (lw_at lw_m8 173 rfl) rfl
theorem q1963 : (Jvm.Cond.selects "BitRopesModel" ({ cls := "BitRopesModel", name := "runs", desc := "(I)I" } : Jvm.MethodName) ({ cls := "BitRopesModel", name := "runs", desc := "(I)I" } : Jvm.MethodName)) ∈ lw_all := lw_g (lw_at lw_m8 174 rfl) rfl
theorem q1964 : (Jvm.Cond.code ({ cls := "BitRopesModel", name := "runs", desc := "(I)I" } : Jvm.MethodName) prog_23_method_51_code (2 : Nat) (Option.some Jvm.ClassFile.FieldType.int)) ∈ lw_all := lw_g (lw_at lw_m8 175 rfl) rfl
theorem q1965 : (Jvm.Cond.methodLink "BitRopesModel" (228 : Nat) ({ cls := "BitRopesModel", name := "runsOf", desc := "(I)I" } : Jvm.MethodName)) ∈ lw_all := lw_g (lw_at lw_m8 176 rfl) rfl
theorem q1966 : (Jvm.Cond.privateMethod ({ cls := "BitRopesModel", name := "runsOf", desc := "(I)I" } : Jvm.MethodName)) ∈ lw_tbl := lw_at lw_m8 177 rfl
theorem q1967 : (Jvm.Cond.instanceMethod ({ cls := "BitRopesModel", name := "runsOf", desc := "(I)I" } : Jvm.MethodName)) ∈ lw_all := lw_g (lw_at lw_m8 178 rfl) rfl
theorem q1968 : (Jvm.Cond.code ({ cls := "BitRopesModel", name := "runsOf", desc := "(I)I" } : Jvm.MethodName) prog_23_method_50_code (4 : Nat) (Option.some Jvm.ClassFile.FieldType.int)) ∈ lw_all := lw_g (lw_at lw_m8 179 rfl) rfl
theorem q1970 : (Jvm.Cond.instanceMethod ({ cls := "BitRopesModel", name := "longest", desc := "(II)I" } : Jvm.MethodName)) ∈ lw_all := lw_g (lw_at lw_m8 181 rfl) rfl
theorem q1971 : (Jvm.Cond.selects "BitRopesModel" ({ cls := "BitRopesModel", name := "longest", desc := "(II)I" } : Jvm.MethodName) ({ cls := "BitRopesModel", name := "longest", desc := "(II)I" } : Jvm.MethodName)) ∈ lw_all := lw_g (lw_at lw_m8 182 rfl) rfl
theorem q1972 : (Jvm.Cond.code ({ cls := "BitRopesModel", name := "longest", desc := "(II)I" } : Jvm.MethodName) prog_23_method_52_code (6 : Nat) (Option.some Jvm.ClassFile.FieldType.int)) ∈ lw_all := lw_g (lw_at lw_m8 183 rfl) rfl
theorem q1974 : (Jvm.Cond.instanceMethod ({ cls := "BitRopesModel", name := "word", desc := "(II)I" } : Jvm.MethodName)) ∈ lw_all := lw_g (lw_at lw_m8 185 rfl) rfl
theorem q1975 : (Jvm.Cond.selects "BitRopesModel" ({ cls := "BitRopesModel", name := "word", desc := "(II)I" } : Jvm.MethodName) ({ cls := "BitRopesModel", name := "word", desc := "(II)I" } : Jvm.MethodName)) ∈ lw_all := lw_g (lw_at lw_m8 186 rfl) rfl
theorem q1976 : (Jvm.Cond.code ({ cls := "BitRopesModel", name := "word", desc := "(II)I" } : Jvm.MethodName) prog_23_method_53_code (5 : Nat) (Option.some Jvm.ClassFile.FieldType.int)) ∈ lw_all := lw_g (lw_at lw_m8 187 rfl) rfl
theorem q1977 : (Jvm.Cond.methodLink "BitRopesModel" (231 : Nat) ({ cls := "BitRopesModel", name := "refuse", desc := "()I" } : Jvm.MethodName)) ∈ lw_all := lw_g (lw_at lw_m8 188 rfl) rfl
theorem q1978 : (Jvm.Cond.privateMethod ({ cls := "BitRopesModel", name := "refuse", desc := "()I" } : Jvm.MethodName)) ∈ lw_tbl := lw_at lw_m8 189 rfl
theorem q1979 : (Jvm.Cond.instanceMethod ({ cls := "BitRopesModel", name := "refuse", desc := "()I" } : Jvm.MethodName)) ∈ lw_all := lw_g (lw_at lw_m8 190 rfl) rfl
theorem q1980 : (Jvm.Cond.code ({ cls := "BitRopesModel", name := "refuse", desc := "()I" } : Jvm.MethodName) prog_23_method_2_code (1 : Nat) (Option.some Jvm.ClassFile.FieldType.int)) ∈ lw_all := lw_g (lw_at lw_m8 191 rfl) rfl
theorem q1982 : (Jvm.Cond.instanceMethod ({ cls := "BitRopesModel", name := "leaves", desc := "(I)I" } : Jvm.MethodName)) ∈ lw_all := lw_g (lw_at lw_m8 193 rfl) rfl
theorem q1983 : (Jvm.Cond.selects "BitRopesModel" ({ cls := "BitRopesModel", name := "leaves", desc := "(I)I" } : Jvm.MethodName) ({ cls := "BitRopesModel", name := "leaves", desc := "(I)I" } : Jvm.MethodName)) ∈ lw_all := lw_g (lw_at lw_m8 194 rfl) rfl
theorem q1984 : (Jvm.Cond.code ({ cls := "BitRopesModel", name := "leaves", desc := "(I)I" } : Jvm.MethodName) prog_23_method_54_code (2 : Nat) (Option.some Jvm.ClassFile.FieldType.int)) ∈ lw_all := lw_g (lw_at lw_m8 195 rfl) rfl
theorem q1986 : (Jvm.Cond.instanceMethod ({ cls := "BitRopesModel", name := "leaf", desc := "(III)I" } : Jvm.MethodName)) ∈ lw_all := lw_g (lw_at lw_m8 197 rfl) rfl
theorem q1987 : (Jvm.Cond.selects "BitRopesModel" ({ cls := "BitRopesModel", name := "leaf", desc := "(III)I" } : Jvm.MethodName) ({ cls := "BitRopesModel", name := "leaf", desc := "(III)I" } : Jvm.MethodName)) ∈ lw_all := lw_g (lw_at lw_m8 198 rfl) rfl
theorem q1988 : (Jvm.Cond.code ({ cls := "BitRopesModel", name := "leaf", desc := "(III)I" } : Jvm.MethodName) prog_23_method_55_code (6 : Nat) (Option.some Jvm.ClassFile.FieldType.int)) ∈ lw_all := lw_g (lw_at lw_m8 199 rfl) rfl
theorem q1990 : (Jvm.Cond.instanceMethod ({ cls := "BitRopesModel", name := "tree", desc := "(II)I" } : Jvm.MethodName)) ∈ lw_all := lw_g (lw_at lw_m8 201 rfl) rfl
theorem q1991 : (Jvm.Cond.selects "BitRopesModel" ({ cls := "BitRopesModel", name := "tree", desc := "(II)I" } : Jvm.MethodName) ({ cls := "BitRopesModel", name := "tree", desc := "(II)I" } : Jvm.MethodName)) ∈ lw_all := lw_g (lw_at lw_m8 202 rfl) rfl
theorem q1992 : (Jvm.Cond.code ({ cls := "BitRopesModel", name := "tree", desc := "(II)I" } : Jvm.MethodName) prog_23_method_60_code (4 : Nat) (Option.some Jvm.ClassFile.FieldType.int)) ∈ lw_all := lw_g (lw_at lw_m8 203 rfl) rfl
theorem q1993 : (Jvm.Cond.methodLink "BitRopesModel" (234 : Nat) ({ cls := "BitRopesModel", name := "highOf", desc := "(I)I" } : Jvm.MethodName)) ∈ lw_all := lw_g (lw_at lw_m8 204 rfl) rfl
theorem q1994 : (Jvm.Cond.static ({ cls := "BitRopesModel", name := "highOf", desc := "(I)I" } : Jvm.MethodName)) ∈ lw_all := lw_g (lw_at lw_m8 205 rfl) rfl
theorem q1995 : (Jvm.Cond.code ({ cls := "BitRopesModel", name := "highOf", desc := "(I)I" } : Jvm.MethodName) prog_23_method_56_code (1 : Nat) (Option.some Jvm.ClassFile.FieldType.int)) ∈ lw_all := lw_g (lw_at lw_m8 206 rfl) rfl
theorem q1996 : (Jvm.Cond.methodLink "BitRopesModel" (240 : Nat) ({ cls := "BitRopesModel", name := "innerOf", desc := "(I)I" } : Jvm.MethodName)) ∈ lw_all := lw_g (lw_at lw_m8 207 rfl) rfl
theorem q1997 : (Jvm.Cond.static ({ cls := "BitRopesModel", name := "innerOf", desc := "(I)I" } : Jvm.MethodName)) ∈ lw_all := lw_g (lw_at lw_m8 208 rfl) rfl
theorem q1998 : (Jvm.Cond.code ({ cls := "BitRopesModel", name := "innerOf", desc := "(I)I" } : Jvm.MethodName) prog_23_method_58_code (1 : Nat) (Option.some Jvm.ClassFile.FieldType.int)) ∈ lw_all := lw_g (lw_at lw_m8 209 rfl) rfl
theorem q1999 : (Jvm.Cond.methodLink "BitRopesModel" (237 : Nat) ({ cls := "BitRopesModel", name := "mixedOf", desc := "(I)I" } : Jvm.MethodName)) ∈ lw_all := lw_g (lw_at lw_m8 210 rfl) rfl
theorem q2000 : (Jvm.Cond.static ({ cls := "BitRopesModel", name := "mixedOf", desc := "(I)I" } : Jvm.MethodName)) ∈ lw_all := lw_g (lw_at lw_m8 211 rfl) rfl
theorem q2001 : (Jvm.Cond.code ({ cls := "BitRopesModel", name := "mixedOf", desc := "(I)I" } : Jvm.MethodName) prog_23_method_57_code (1 : Nat) (Option.some Jvm.ClassFile.FieldType.int)) ∈ lw_all := lw_g (lw_at lw_m8 212 rfl) rfl
theorem q2002 : (Jvm.Cond.methodLink "BitRopesModel" (243 : Nat) ({ cls := "BitRopesModel", name := "costOf", desc := "(I)I" } : Jvm.MethodName)) ∈ lw_all := lw_g (lw_at lw_m8 213 rfl) rfl
theorem q2003 : (Jvm.Cond.privateMethod ({ cls := "BitRopesModel", name := "costOf", desc := "(I)I" } : Jvm.MethodName)) ∈ lw_tbl := lw_at lw_m8 214 rfl
theorem q2004 : (Jvm.Cond.instanceMethod ({ cls := "BitRopesModel", name := "costOf", desc := "(I)I" } : Jvm.MethodName)) ∈ lw_all := lw_g (lw_at lw_m8 215 rfl) rfl
theorem q2005 : (Jvm.Cond.code ({ cls := "BitRopesModel", name := "costOf", desc := "(I)I" } : Jvm.MethodName) prog_23_method_59_code (4 : Nat) (Option.some Jvm.ClassFile.FieldType.int)) ∈ lw_all := lw_g (lw_at lw_m8 216 rfl) rfl
theorem q2007 : (Jvm.Cond.instanceMethod ({ cls := "BitRopesModel", name := "dense", desc := "(III)I" } : Jvm.MethodName)) ∈ lw_all := lw_g (lw_at lw_m8 218 rfl) rfl
theorem q2008 : (Jvm.Cond.selects "BitRopesModel" ({ cls := "BitRopesModel", name := "dense", desc := "(III)I" } : Jvm.MethodName) ({ cls := "BitRopesModel", name := "dense", desc := "(III)I" } : Jvm.MethodName)) ∈ lw_all := lw_g (lw_at lw_m8 219 rfl) rfl
theorem q2009 : (Jvm.Cond.code ({ cls := "BitRopesModel", name := "dense", desc := "(III)I" } : Jvm.MethodName) prog_23_method_64_code (4 : Nat) (Option.some Jvm.ClassFile.FieldType.int)) ∈ lw_all := lw_g (lw_at lw_m8 220 rfl) rfl
theorem q2010 : (Jvm.Cond.methodLink "BitRopesModel" (260 : Nat) ({ cls := "BitRopesModel", name := "asFloat", desc := "(II)I" } : Jvm.MethodName)) ∈ lw_all := lw_g (lw_at lw_m8 221 rfl) rfl
theorem q2011 : (Jvm.Cond.privateMethod ({ cls := "BitRopesModel", name := "asFloat", desc := "(II)I" } : Jvm.MethodName)) ∈ lw_tbl := lw_at lw_m8 222 rfl
theorem q2012 : (Jvm.Cond.instanceMethod ({ cls := "BitRopesModel", name := "asFloat", desc := "(II)I" } : Jvm.MethodName)) ∈ lw_all := lw_g (lw_at lw_m8 223 rfl) rfl
theorem q2013 : (Jvm.Cond.code ({ cls := "BitRopesModel", name := "asFloat", desc := "(II)I" } : Jvm.MethodName) prog_23_method_62_code (4 : Nat) (Option.some Jvm.ClassFile.FieldType.int)) ∈ lw_all := lw_g (lw_at lw_m8 224 rfl) rfl
theorem q2014 : (Jvm.Cond.methodLink "BitRopesModel" (251 : Nat) ({ cls := "BitRopesModel", name := "firstBits", desc := "(III)J" } : Jvm.MethodName)) ∈ lw_all := lw_g (lw_at lw_m8 225 rfl) rfl
theorem q2015 : (Jvm.Cond.privateMethod ({ cls := "BitRopesModel", name := "firstBits", desc := "(III)J" } : Jvm.MethodName)) ∈ lw_tbl := lw_at lw_m8 226 rfl
theorem q2016 : (Jvm.Cond.instanceMethod ({ cls := "BitRopesModel", name := "firstBits", desc := "(III)J" } : Jvm.MethodName)) ∈ lw_all := lw_g (lw_at lw_m8 227 rfl) rfl
theorem q2017 : (Jvm.Cond.code ({ cls := "BitRopesModel", name := "firstBits", desc := "(III)J" } : Jvm.MethodName) prog_23_method_61_code (13 : Nat) (Option.some Jvm.ClassFile.FieldType.long)) ∈ lw_all := lw_g (lw_at lw_m8 228 rfl) rfl
theorem q2018 : (Jvm.Cond.constantLong "BitRopesModel" (249 : Nat) (2 : Int64)) ∈ lw_all := lw_g (lw_at lw_m8 229 rfl) rfl
theorem q2019 : (Jvm.Cond.constant "BitRopesModel" (255 : Nat) (8388608 : Int32)) ∈ lw_all := lw_g (lw_at lw_m8 230 rfl) rfl
theorem q2021 : (Jvm.Cond.instanceMethod ({ cls := "BitRopesModel", name := "load", desc := "(I)I" } : Jvm.MethodName)) ∈ lw_all := lw_g (lw_at lw_m8 232 rfl) rfl
theorem q2022 : (Jvm.Cond.selects "BitRopesModel" ({ cls := "BitRopesModel", name := "load", desc := "(I)I" } : Jvm.MethodName) ({ cls := "BitRopesModel", name := "load", desc := "(I)I" } : Jvm.MethodName)) ∈ lw_all := lw_g (lw_at lw_m8 233 rfl) rfl
theorem q2023 : (Jvm.Cond.code ({ cls := "BitRopesModel", name := "load", desc := "(I)I" } : Jvm.MethodName) prog_23_method_65_code (2 : Nat) (Option.some Jvm.ClassFile.FieldType.int)) ∈ lw_all := lw_g (lw_at lw_m8 234 rfl) rfl
theorem q2025 : (Jvm.Cond.instanceMethod ({ cls := "BitRopesModel", name := "centre", desc := "(II)I" } : Jvm.MethodName)) ∈ lw_all := lw_g (lw_at lw_m8 236 rfl) rfl
theorem q2026 : (Jvm.Cond.selects "BitRopesModel" ({ cls := "BitRopesModel", name := "centre", desc := "(II)I" } : Jvm.MethodName) ({ cls := "BitRopesModel", name := "centre", desc := "(II)I" } : Jvm.MethodName)) ∈ lw_all := lw_g (lw_at lw_m8 237 rfl) rfl
theorem q2027 : (Jvm.Cond.code ({ cls := "BitRopesModel", name := "centre", desc := "(II)I" } : Jvm.MethodName) prog_23_method_66_code (7 : Nat) (Option.some Jvm.ClassFile.FieldType.int)) ∈ lw_all := lw_g (lw_at lw_m8 238 rfl) rfl
theorem q2028 : (Jvm.Cond.methodLink "BitRopesModel" (263 : Nat) ({ cls := "BitRopesModel", name := "asDouble", desc := "(II)J" } : Jvm.MethodName)) ∈ lw_all := lw_g (lw_at lw_m8 239 rfl) rfl
theorem q2029 : (Jvm.Cond.privateMethod ({ cls := "BitRopesModel", name := "asDouble", desc := "(II)J" } : Jvm.MethodName)) ∈ lw_tbl := lw_at lw_m9 0 rfl
theorem q2030 : (Jvm.Cond.instanceMethod ({ cls := "BitRopesModel", name := "asDouble", desc := "(II)J" } : Jvm.MethodName)) ∈ lw_all := lw_g (lw_at lw_m9 1 rfl) rfl
theorem q2031 : (Jvm.Cond.code ({ cls := "BitRopesModel", name := "asDouble", desc := "(II)J" } : Jvm.MethodName) prog_23_method_63_code (5 : Nat) (Option.some Jvm.ClassFile.FieldType.long)) ∈ lw_all := lw_g (lw_at lw_m9 2 rfl) rfl
theorem q2032 : (Jvm.Cond.constantLong "BitRopesModel" (256 : Nat) (1023 : Int64)) ∈ lw_all := lw_g (lw_at lw_m9 3 rfl) rfl
theorem q2033 : (Jvm.Cond.constantLong "BitRopesModel" (258 : Nat) (4503599627370496 : Int64)) ∈ lw_all := lw_g (lw_at lw_m9 4 rfl) rfl
theorem q2035 : (Jvm.Cond.instanceMethod ({ cls := "BitRopesModel", name := "apart", desc := "(II)I" } : Jvm.MethodName)) ∈ lw_all := lw_g (lw_at lw_m9 6 rfl) rfl
theorem q2036 : (Jvm.Cond.selects "BitRopesModel" ({ cls := "BitRopesModel", name := "apart", desc := "(II)I" } : Jvm.MethodName) ({ cls := "BitRopesModel", name := "apart", desc := "(II)I" } : Jvm.MethodName)) ∈ lw_all := lw_g (lw_at lw_m9 7 rfl) rfl
theorem q2037 : (Jvm.Cond.code ({ cls := "BitRopesModel", name := "apart", desc := "(II)I" } : Jvm.MethodName) prog_23_method_68_code (5 : Nat) (Option.some Jvm.ClassFile.FieldType.int)) ∈ lw_all := lw_g (lw_at lw_m9 8 rfl) rfl
theorem q2039 : (Jvm.Cond.instanceMethod ({ cls := "BitRopesModel", name := "diffe\x72", desc := "(II)I" } : Jvm.MethodName)) ∈ lw_all := lw_g (lw_at lw_m9 10 rfl) rfl
theorem q2040 : (Jvm.Cond.selects "BitRopesModel" ({ cls := "BitRopesModel", name := "diffe\x72", desc := "(II)I" } : Jvm.MethodName) ({ cls := "BitRopesModel", name := "diffe\x72", desc := "(II)I" } : Jvm.MethodName)) ∈ lw_all := lw_g (lw_at lw_m9 11 rfl) rfl
theorem q2041 : (Jvm.Cond.code ({ cls := "BitRopesModel", name := "diffe\x72", desc := "(II)I" } : Jvm.MethodName) prog_23_method_70_code (3 : Nat) (Option.some Jvm.ClassFile.FieldType.int)) ∈ lw_all := lw_g (lw_at lw_m9 12 rfl) rfl
theorem q2042 : (Jvm.Cond.methodLink "BitRopesModel" (270 : Nat) ({ cls := "BitRopesModel", name := "areLike", desc := "(II)Z" } : Jvm.MethodName)) ∈ lw_all := lw_g (lw_at lw_m9 13 rfl) rfl
theorem q2043 : (Jvm.Cond.privateMethod ({ cls := "BitRopesModel", name := "areLike", desc := "(II)Z" } : Jvm.MethodName)) ∈ lw_tbl := lw_at lw_m9 14 rfl
theorem q2044 : (Jvm.Cond.instanceMethod ({ cls := "BitRopesModel", name := "areLike", desc := "(II)Z" } : Jvm.MethodName)) ∈ lw_all := lw_g (lw_at lw_m9 15 rfl) rfl
theorem q2045 : (Jvm.Cond.code ({ cls := "BitRopesModel", name := "areLike", desc := "(II)Z" } : Jvm.MethodName) prog_23_method_69_code (3 : Nat) (Option.some Jvm.ClassFile.FieldType.boolean)) ∈ lw_all := lw_g (lw_at lw_m9 16 rfl) rfl
theorem q2046 : (Jvm.Cond.methodLink "BitRopesModel" (267 : Nat) ({ cls := "BitRopesModel", name := "firstApart", desc := "(II)I" } : Jvm.MethodName)) ∈ lw_all := lw_g (lw_at lw_m9 17 rfl) rfl
theorem q2047 : (Jvm.Cond.privateMethod ({ cls := "BitRopesModel", name := "firstApart", desc := "(II)I" } : Jvm.MethodName)) ∈ lw_tbl := lw_at lw_m9 18 rfl
theorem q2048 : (Jvm.Cond.instanceMethod ({ cls := "BitRopesModel", name := "firstApart", desc := "(II)I" } : Jvm.MethodName)) ∈ lw_all := lw_g (lw_at lw_m9 19 rfl) rfl
theorem q2049 : (Jvm.Cond.code ({ cls := "BitRopesModel", name := "firstApart", desc := "(II)I" } : Jvm.MethodName) prog_23_method_67_code (4 : Nat) (Option.some Jvm.ClassFile.FieldType.int)) ∈ lw_all := lw_g (lw_at lw_m9 20 rfl) rfl
theorem q2051 : (Jvm.Cond.instanceMethod ({ cls := "BitRopesModel", name := "seek", desc := "(I)I" } : Jvm.MethodName)) ∈ lw_all := lw_g (lw_at lw_m9 22 rfl) rfl
theorem q2052 : (Jvm.Cond.selects "BitRopesModel" ({ cls := "BitRopesModel", name := "seek", desc := "(I)I" } : Jvm.MethodName) ({ cls := "BitRopesModel", name := "seek", desc := "(I)I" } : Jvm.MethodName)) ∈ lw_all := lw_g (lw_at lw_m9 23 rfl) rfl
theorem q2053 : (Jvm.Cond.code ({ cls := "BitRopesModel", name := "seek", desc := "(I)I" } : Jvm.MethodName) prog_23_method_73_code (4 : Nat) (Option.some Jvm.ClassFile.FieldType.int)) ∈ lw_all := lw_g (lw_at lw_m9 24 rfl) rfl
theorem q2054 : (Jvm.Cond.methodLink "BitRopesModel" (273 : Nat) ({ cls := "BitRopesModel", name := "areTapeBits", desc := "(II)Z" } : Jvm.MethodName)) ∈ lw_all := lw_g (lw_at lw_m9 25 rfl) rfl
theorem q2055 : (Jvm.Cond.privateMethod ({ cls := "BitRopesModel", name := "areTapeBits", desc := "(II)Z" } : Jvm.MethodName)) ∈ lw_tbl := lw_at lw_m9 26 rfl
theorem q2056 : (Jvm.Cond.instanceMethod ({ cls := "BitRopesModel", name := "areTapeBits", desc := "(II)Z" } : Jvm.MethodName)) ∈ lw_all := lw_g (lw_at lw_m9 27 rfl) rfl
theorem q2057 : (Jvm.Cond.code ({ cls := "BitRopesModel", name := "areTapeBits", desc := "(II)Z" } : Jvm.MethodName) prog_23_method_72_code (4 : Nat) (Option.some Jvm.ClassFile.FieldType.boolean)) ∈ lw_all := lw_g (lw_at lw_m9 28 rfl) rfl
theorem q2058 : (Jvm.Cond.methodLink "BitRopesModel" (279 : Nat) ({ cls := "BitRopesModel", name := "isOnTape", desc := "(III)Z" } : Jvm.MethodName)) ∈ lw_all := lw_g (lw_at lw_m9 29 rfl) rfl
theorem q2059 : (Jvm.Cond.privateMethod ({ cls := "BitRopesModel", name := "isOnTape", desc := "(III)Z" } : Jvm.MethodName)) ∈ lw_tbl := lw_at lw_m9 30 rfl
theorem q2060 : (Jvm.Cond.instanceMethod ({ cls := "BitRopesModel", name := "isOnTape", desc := "(III)Z" } : Jvm.MethodName)) ∈ lw_all := lw_g (lw_at lw_m9 31 rfl) rfl
theorem q2061 : (Jvm.Cond.code ({ cls := "BitRopesModel", name := "isOnTape", desc := "(III)Z" } : Jvm.MethodName) prog_23_method_71_code (5 : Nat) (Option.some Jvm.ClassFile.FieldType.boolean)) ∈ lw_all := lw_g (lw_at lw_m9 32 rfl) rfl
theorem q2063 : (Jvm.Cond.instanceMethod ({ cls := "BitRopesModel", name := "seekAt", desc := "(I)I" } : Jvm.MethodName)) ∈ lw_all := lw_g (lw_at lw_m9 34 rfl) rfl
theorem q2064 : (Jvm.Cond.selects "BitRopesModel" ({ cls := "BitRopesModel", name := "seekAt", desc := "(I)I" } : Jvm.MethodName) ({ cls := "BitRopesModel", name := "seekAt", desc := "(I)I" } : Jvm.MethodName)) ∈ lw_all := lw_g (lw_at lw_m9 35 rfl) rfl
theorem q2065 : (Jvm.Cond.code ({ cls := "BitRopesModel", name := "seekAt", desc := "(I)I" } : Jvm.MethodName) prog_23_method_74_code (2 : Nat) (Option.some Jvm.ClassFile.FieldType.int)) ∈ lw_all := lw_g (lw_at lw_m9 36 rfl) rfl
theorem q2067 : (Jvm.Cond.instanceMethod ({ cls := "BitRopesModel", name := "letters", desc := "()I" } : Jvm.MethodName)) ∈ lw_all := lw_g (lw_at lw_m9 38 rfl) rfl
theorem q2068 : (Jvm.Cond.selects "BitRopesModel" ({ cls := "BitRopesModel", name := "letters", desc := "()I" } : Jvm.MethodName) ({ cls := "BitRopesModel", name := "letters", desc := "()I" } : Jvm.MethodName)) ∈ lw_all := lw_g (lw_at lw_m9 39 rfl) rfl
theorem q2069 : (Jvm.Cond.code ({ cls := "BitRopesModel", name := "letters", desc := "()I" } : Jvm.MethodName) prog_23_method_76_code (1 : Nat) (Option.some Jvm.ClassFile.FieldType.int)) ∈ lw_all := lw_g (lw_at lw_m9 40 rfl) rfl
theorem q2071 : (Jvm.Cond.instanceMethod ({ cls := "BitRopesModel", name := "lette\x72", desc := "(I)I" } : Jvm.MethodName)) ∈ lw_all := lw_g (lw_at lw_m9 42 rfl) rfl
theorem q2072 : (Jvm.Cond.selects "BitRopesModel" ({ cls := "BitRopesModel", name := "lette\x72", desc := "(I)I" } : Jvm.MethodName) ({ cls := "BitRopesModel", name := "lette\x72", desc := "(I)I" } : Jvm.MethodName)) ∈ lw_all := lw_g (lw_at lw_m9 43 rfl) rfl
theorem q2073 : (Jvm.Cond.code ({ cls := "BitRopesModel", name := "lette\x72", desc := "(I)I" } : Jvm.MethodName) prog_23_method_77_code (2 : Nat) (Option.some Jvm.ClassFile.FieldType.int)) ∈ lw_all := lw_g (lw_at lw_m9 44 rfl) rfl
theorem q2074 : (Jvm.Cond.methodLink "BitRopesModel" (282 : Nat) ({ cls := "BitRopesModel", name := "isLetterAt", desc := "(I)Z" } : Jvm.MethodName)) ∈ lw_all := lw_g (lw_at lw_m9 45 rfl) rfl
theorem q2075 : (Jvm.Cond.privateMethod ({ cls := "BitRopesModel", name := "isLetterAt", desc := "(I)Z" } : Jvm.MethodName)) ∈ lw_tbl := lw_at lw_m9 46 rfl
theorem q2076 : (Jvm.Cond.instanceMethod ({ cls := "BitRopesModel", name := "isLetterAt", desc := "(I)Z" } : Jvm.MethodName)) ∈ lw_all := lw_g (lw_at lw_m9 47 rfl) rfl
theorem q2077 : (Jvm.Cond.code ({ cls := "BitRopesModel", name := "isLetterAt", desc := "(I)Z" } : Jvm.MethodName) prog_23_method_75_code (2 : Nat) (Option.some Jvm.ClassFile.FieldType.boolean)) ∈ lw_all := lw_g (lw_at lw_m9 48 rfl) rfl
theorem q2079 : (Jvm.Cond.instanceMethod ({ cls := "BitRopesModel", name := "count", desc := "(II)I" } : Jvm.MethodName)) ∈ lw_all := lw_g (lw_at lw_m9 50 rfl) rfl
theorem q2080 : (Jvm.Cond.selects "BitRopesModel" ({ cls := "BitRopesModel", name := "count", desc := "(II)I" } : Jvm.MethodName) ({ cls := "BitRopesModel", name := "count", desc := "(II)I" } : Jvm.MethodName)) ∈ lw_all := lw_g (lw_at lw_m9 51 rfl) rfl
theorem q2081 : (Jvm.Cond.code ({ cls := "BitRopesModel", name := "count", desc := "(II)I" } : Jvm.MethodName) prog_23_method_78_code (5 : Nat) (Option.some Jvm.ClassFile.FieldType.int)) ∈ lw_all := lw_g (lw_at lw_m9 52 rfl) rfl
theorem q2083 : (Jvm.Cond.instanceMethod ({ cls := "BitRopesModel", name := "place", desc := "(II)I" } : Jvm.MethodName)) ∈ lw_all := lw_g (lw_at lw_m9 54 rfl) rfl
theorem q2084 : (Jvm.Cond.selects "BitRopesModel" ({ cls := "BitRopesModel", name := "place", desc := "(II)I" } : Jvm.MethodName) ({ cls := "BitRopesModel", name := "place", desc := "(II)I" } : Jvm.MethodName)) ∈ lw_all := lw_g (lw_at lw_m9 55 rfl) rfl
theorem q2085 : (Jvm.Cond.code ({ cls := "BitRopesModel", name := "place", desc := "(II)I" } : Jvm.MethodName) prog_23_method_79_code (5 : Nat) (Option.some Jvm.ClassFile.FieldType.int)) ∈ lw_all := lw_g (lw_at lw_m9 56 rfl) rfl
theorem q2087 : (Jvm.Cond.instanceMethod ({ cls := "BitRopesModel", name := "least", desc := "(III)I" } : Jvm.MethodName)) ∈ lw_all := lw_g (lw_at lw_m9 58 rfl) rfl
theorem q2088 : (Jvm.Cond.selects "BitRopesModel" ({ cls := "BitRopesModel", name := "least", desc := "(III)I" } : Jvm.MethodName) ({ cls := "BitRopesModel", name := "least", desc := "(III)I" } : Jvm.MethodName)) ∈ lw_all := lw_g (lw_at lw_m9 59 rfl) rfl
theorem q2089 : (Jvm.Cond.code ({ cls := "BitRopesModel", name := "least", desc := "(III)I" } : Jvm.MethodName) prog_23_method_80_code (7 : Nat) (Option.some Jvm.ClassFile.FieldType.int)) ∈ lw_all := lw_g (lw_at lw_m9 60 rfl) rfl
theorem q2091 : (Jvm.Cond.instanceMethod ({ cls := "BitRopesModel", name := "node", desc := "(II)I" } : Jvm.MethodName)) ∈ lw_all := lw_g (lw_at lw_m9 62 rfl) rfl
theorem q2092 : (Jvm.Cond.selects "BitRopesModel" ({ cls := "BitRopesModel", name := "node", desc := "(II)I" } : Jvm.MethodName) ({ cls := "BitRopesModel", name := "node", desc := "(II)I" } : Jvm.MethodName)) ∈ lw_all := lw_g (lw_at lw_m9 63 rfl) rfl
theorem q2093 : (Jvm.Cond.code ({ cls := "BitRopesModel", name := "node", desc := "(II)I" } : Jvm.MethodName) prog_23_method_82_code (6 : Nat) (Option.some Jvm.ClassFile.FieldType.int)) ∈ lw_all := lw_g (lw_at lw_m9 64 rfl) rfl
theorem q2094 : (Jvm.Cond.methodLink "BitRopesModel" (285 : Nat) ({ cls := "BitRopesModel", name := "isInNode", desc := "(II)Z" } : Jvm.MethodName)) ∈ lw_all := lw_g (lw_at lw_m9 65 rfl) rfl
theorem q2095 : (Jvm.Cond.static ({ cls := "BitRopesModel", name := "isInNode", desc := "(II)Z" } : Jvm.MethodName)) ∈ lw_all := lw_g (lw_at lw_m9 66 rfl) rfl
theorem q2096 : (Jvm.Cond.code ({ cls := "BitRopesModel", name := "isInNode", desc := "(II)Z" } : Jvm.MethodName) prog_23_method_81_code (2 : Nat) (Option.some Jvm.ClassFile.FieldType.boolean)) ∈ lw_all := lw_g (lw_at lw_m9 67 rfl) rfl
theorem q2098 : (Jvm.Cond.instanceMethod ({ cls := "BitRopesModel", name := "put", desc := "(III)I" } : Jvm.MethodName)) ∈ lw_all := lw_g (lw_at lw_m9 69 rfl) rfl
theorem q2099 : (Jvm.Cond.selects "BitRopesModel" ({ cls := "BitRopesModel", name := "put", desc := "(III)I" } : Jvm.MethodName) ({ cls := "BitRopesModel", name := "put", desc := "(III)I" } : Jvm.MethodName)) ∈ lw_all := lw_g (lw_at lw_m9 70 rfl) rfl
theorem q2100 : (Jvm.Cond.code ({ cls := "BitRopesModel", name := "put", desc := "(III)I" } : Jvm.MethodName) prog_23_method_92_code (4 : Nat) (Option.some Jvm.ClassFile.FieldType.int)) ∈ lw_all := lw_g (lw_at lw_m9 71 rfl) rfl
theorem q2101 : (Jvm.Cond.methodLink "BitRopesModel" (315 : Nat) ({ cls := "BitRopesModel", name := "act", desc := "(IIIIZ)I" } : Jvm.MethodName)) ∈ lw_all := lw_g (lw_at lw_m9 72 rfl) rfl
theorem q2102 : (Jvm.Cond.privateMethod ({ cls := "BitRopesModel", name := "act", desc := "(IIIIZ)I" } : Jvm.MethodName)) ∈ lw_tbl := lw_at lw_m9 73 rfl
theorem q2103 : (Jvm.Cond.instanceMethod ({ cls := "BitRopesModel", name := "act", desc := "(IIIIZ)I" } : Jvm.MethodName)) ∈ lw_all := lw_g (lw_at lw_m9 74 rfl) rfl
theorem q2104 : (Jvm.Cond.code ({ cls := "BitRopesModel", name := "act", desc := "(IIIIZ)I" } : Jvm.MethodName) prog_23_method_91_code (7 : Nat) (Option.some Jvm.ClassFile.FieldType.int)) ∈ lw_all := lw_g (lw_at lw_m9 75 rfl) rfl
theorem q2105 : (Jvm.Cond.methodLink "BitRopesModel" (304 : Nat) ({ cls := "BitRopesModel", name := "refusal", desc := "(IIII)I" } : Jvm.MethodName)) ∈ lw_all := lw_g (lw_at lw_m9 76 rfl) rfl
theorem q2106 : (Jvm.Cond.privateMethod ({ cls := "BitRopesModel", name := "refusal", desc := "(IIII)I" } : Jvm.MethodName)) ∈ lw_tbl := lw_at lw_m9 77 rfl
theorem q2107 : (Jvm.Cond.instanceMethod ({ cls := "BitRopesModel", name := "refusal", desc := "(IIII)I" } : Jvm.MethodName)) ∈ lw_all := lw_g (lw_at lw_m9 78 rfl) rfl
theorem q2108 : (Jvm.Cond.code ({ cls := "BitRopesModel", name := "refusal", desc := "(IIII)I" } : Jvm.MethodName) prog_23_method_88_code (5 : Nat) (Option.some Jvm.ClassFile.FieldType.int)) ∈ lw_all := lw_g (lw_at lw_m9 79 rfl) rfl
theorem q2109 : (Jvm.Cond.methodLink "BitRopesModel" (292 : Nat) ({ cls := "BitRopesModel", name := "whyPut", desc := "(III)I" } : Jvm.MethodName)) ∈ lw_all := lw_g (lw_at lw_m9 80 rfl) rfl
theorem q2110 : (Jvm.Cond.privateMethod ({ cls := "BitRopesModel", name := "whyPut", desc := "(III)I" } : Jvm.MethodName)) ∈ lw_tbl := lw_at lw_m9 81 rfl
theorem q2111 : (Jvm.Cond.instanceMethod ({ cls := "BitRopesModel", name := "whyPut", desc := "(III)I" } : Jvm.MethodName)) ∈ lw_all := lw_g (lw_at lw_m9 82 rfl) rfl
theorem q2112 : (Jvm.Cond.code ({ cls := "BitRopesModel", name := "whyPut", desc := "(III)I" } : Jvm.MethodName) prog_23_method_87_code (4 : Nat) (Option.some Jvm.ClassFile.FieldType.int)) ∈ lw_all := lw_g (lw_at lw_m9 83 rfl) rfl
theorem q2113 : (Jvm.Cond.methodLink "BitRopesModel" (295 : Nat) ({ cls := "BitRopesModel", name := "areThere", desc := "(III)Z" } : Jvm.MethodName)) ∈ lw_all := lw_g (lw_at lw_m9 84 rfl) rfl
theorem q2114 : (Jvm.Cond.static ({ cls := "BitRopesModel", name := "areThere", desc := "(III)Z" } : Jvm.MethodName)) ∈ lw_all := lw_g (lw_at lw_m9 85 rfl) rfl
theorem q2115 : (Jvm.Cond.code ({ cls := "BitRopesModel", name := "areThere", desc := "(III)Z" } : Jvm.MethodName) prog_23_method_86_code (3 : Nat) (Option.some Jvm.ClassFile.FieldType.boolean)) ∈ lw_all := lw_g (lw_at lw_m9 86 rfl) rfl
theorem q2116 : (Jvm.Cond.methodLink "BitRopesModel" (308 : Nat) ({ cls := "BitRopesModel", name := "snap", desc := "()V" } : Jvm.MethodName)) ∈ lw_all := lw_g (lw_at lw_m9 87 rfl) rfl
theorem q2117 : (Jvm.Cond.privateMethod ({ cls := "BitRopesModel", name := "snap", desc := "()V" } : Jvm.MethodName)) ∈ lw_tbl := lw_at lw_m9 88 rfl
theorem q2118 : (Jvm.Cond.instanceMethod ({ cls := "BitRopesModel", name := "snap", desc := "()V" } : Jvm.MethodName)) ∈ lw_all := lw_g (lw_at lw_m9 89 rfl) rfl
theorem q2119 : (Jvm.Cond.code ({ cls := "BitRopesModel", name := "snap", desc := "()V" } : Jvm.MethodName) prog_23_method_85_code (2 : Nat) (Option.none : Option Jvm.ClassFile.FieldType)) ∈ lw_all := lw_g (lw_at lw_m9 90 rfl) rfl
theorem q2120 : (Jvm.Cond.methodLink "BitRopesModel" (288 : Nat) ({ cls := "BitRopesModel", name := "save", desc := "([II)V" } : Jvm.MethodName)) ∈ lw_all := lw_g (lw_at lw_m9 91 rfl) rfl
theorem q2121 : (Jvm.Cond.privateMethod ({ cls := "BitRopesModel", name := "save", desc := "([II)V" } : Jvm.MethodName)) ∈ lw_tbl := lw_at lw_m9 92 rfl
theorem q2122 : (Jvm.Cond.instanceMethod ({ cls := "BitRopesModel", name := "save", desc := "([II)V" } : Jvm.MethodName)) ∈ lw_all := lw_g (lw_at lw_m9 93 rfl) rfl
theorem q2123 : (Jvm.Cond.code ({ cls := "BitRopesModel", name := "save", desc := "([II)V" } : Jvm.MethodName) prog_23_method_83_code (4 : Nat) (Option.none : Option Jvm.ClassFile.FieldType)) ∈ lw_all := lw_g (lw_at lw_m9 94 rfl) rfl
theorem q2124 : (Jvm.Cond.methodLink "BitRopesModel" (311 : Nat) ({ cls := "BitRopesModel", name := "live", desc := "(IIII)V" } : Jvm.MethodName)) ∈ lw_all := lw_g (lw_at lw_m9 95 rfl) rfl
theorem q2125 : (Jvm.Cond.privateMethod ({ cls := "BitRopesModel", name := "live", desc := "(IIII)V" } : Jvm.MethodName)) ∈ lw_tbl := lw_at lw_m9 96 rfl
theorem q2126 : (Jvm.Cond.instanceMethod ({ cls := "BitRopesModel", name := "live", desc := "(IIII)V" } : Jvm.MethodName)) ∈ lw_all := lw_g (lw_at lw_m9 97 rfl) rfl
theorem q2127 : (Jvm.Cond.code ({ cls := "BitRopesModel", name := "live", desc := "(IIII)V" } : Jvm.MethodName) prog_23_method_89_code (6 : Nat) (Option.none : Option Jvm.ClassFile.FieldType)) ∈ lw_all := lw_g (lw_at lw_m9 98 rfl) rfl
theorem q2128 : (Jvm.Cond.methodLink "BitRopesModel" (298 : Nat) ({ cls := "BitRopesModel", name := "takeBit", desc := "(II)V" } : Jvm.MethodName)) ∈ lw_all := lw_g (lw_at lw_m9 99 rfl) rfl
theorem q2129 : (Jvm.Cond.privateMethod ({ cls := "BitRopesModel", name := "takeBit", desc := "(II)V" } : Jvm.MethodName)) ∈ lw_tbl := lw_at lw_m9 100 rfl
theorem q2130 : (Jvm.Cond.instanceMethod ({ cls := "BitRopesModel", name := "takeBit", desc := "(II)V" } : Jvm.MethodName)) ∈ lw_all := lw_g (lw_at lw_m9 101 rfl) rfl
theorem q2131 : (Jvm.Cond.code ({ cls := "BitRopesModel", name := "takeBit", desc := "(II)V" } : Jvm.MethodName) prog_23_method_40_code (6 : Nat) (Option.none : Option Jvm.ClassFile.FieldType)) ∈ lw_all := lw_g (lw_at lw_m9 102 rfl) rfl
theorem q2132 : (Jvm.Cond.methodLink "BitRopesModel" (209 : Nat) ({ cls := "BitRopesModel", name := "joinLeaves", desc := "(II)V" } : Jvm.MethodName)) ∈ lw_all := lw_g (lw_at lw_m9 103 rfl) rfl
theorem q2133 : (Jvm.Cond.privateMethod ({ cls := "BitRopesModel", name := "joinLeaves", desc := "(II)V" } : Jvm.MethodName)) ∈ lw_tbl := lw_at lw_m9 104 rfl
theorem q2134 : (Jvm.Cond.instanceMethod ({ cls := "BitRopesModel", name := "joinLeaves", desc := "(II)V" } : Jvm.MethodName)) ∈ lw_all := lw_g (lw_at lw_m9 105 rfl) rfl
theorem q2135 : (Jvm.Cond.code ({ cls := "BitRopesModel", name := "joinLeaves", desc := "(II)V" } : Jvm.MethodName) prog_23_method_39_code (4 : Nat) (Option.none : Option Jvm.ClassFile.FieldType)) ∈ lw_all := lw_g (lw_at lw_m9 106 rfl) rfl
theorem q2136 : (Jvm.Cond.methodLink "BitRopesModel" (301 : Nat) ({ cls := "BitRopesModel", name := "moves", desc := "(III)V" } : Jvm.MethodName)) ∈ lw_all := lw_g (lw_at lw_m9 107 rfl) rfl
theorem q2137 : (Jvm.Cond.privateMethod ({ cls := "BitRopesModel", name := "moves", desc := "(III)V" } : Jvm.MethodName)) ∈ lw_tbl := lw_at lw_m9 108 rfl
theorem q2138 : (Jvm.Cond.instanceMethod ({ cls := "BitRopesModel", name := "moves", desc := "(III)V" } : Jvm.MethodName)) ∈ lw_all := lw_g (lw_at lw_m9 109 rfl) rfl
theorem q2139 : (Jvm.Cond.code ({ cls := "BitRopesModel", name := "moves", desc := "(III)V" } : Jvm.MethodName) prog_23_method_90_code (6 : Nat) (Option.none : Option Jvm.ClassFile.FieldType)) ∈ lw_all := lw_g (lw_at lw_m9 110 rfl) rfl
theorem q2141 : (Jvm.Cond.instanceMethod ({ cls := "BitRopesModel", name := "set", desc := "(III)I" } : Jvm.MethodName)) ∈ lw_all := lw_g (lw_at lw_m9 112 rfl) rfl
theorem q2142 : (Jvm.Cond.selects "BitRopesModel" ({ cls := "BitRopesModel", name := "set", desc := "(III)I" } : Jvm.MethodName) ({ cls := "BitRopesModel", name := "set", desc := "(III)I" } : Jvm.MethodName)) ∈ lw_all := lw_g (lw_at lw_m9 113 rfl) rfl
theorem q2143 : (Jvm.Cond.code ({ cls := "BitRopesModel", name := "set", desc := "(III)I" } : Jvm.MethodName) prog_23_method_93_code (4 : Nat) (Option.some Jvm.ClassFile.FieldType.int)) ∈ lw_all := lw_g (lw_at lw_m9 114 rfl) rfl
theorem q2145 : (Jvm.Cond.instanceMethod ({ cls := "BitRopesModel", name := "cut", desc := "(III)I" } : Jvm.MethodName)) ∈ lw_all := lw_g (lw_at lw_m9 116 rfl) rfl
theorem q2146 : (Jvm.Cond.selects "BitRopesModel" ({ cls := "BitRopesModel", name := "cut", desc := "(III)I" } : Jvm.MethodName) ({ cls := "BitRopesModel", name := "cut", desc := "(III)I" } : Jvm.MethodName)) ∈ lw_all := lw_g (lw_at lw_m9 117 rfl) rfl
theorem q2147 : (Jvm.Cond.code ({ cls := "BitRopesModel", name := "cut", desc := "(III)I" } : Jvm.MethodName) prog_23_method_94_code (4 : Nat) (Option.some Jvm.ClassFile.FieldType.int)) ∈ lw_all := lw_g (lw_at lw_m9 118 rfl) rfl
theorem q2149 : (Jvm.Cond.instanceMethod ({ cls := "BitRopesModel", name := "turn", desc := "(III)I" } : Jvm.MethodName)) ∈ lw_all := lw_g (lw_at lw_m9 120 rfl) rfl
theorem q2150 : (Jvm.Cond.selects "BitRopesModel" ({ cls := "BitRopesModel", name := "turn", desc := "(III)I" } : Jvm.MethodName) ({ cls := "BitRopesModel", name := "turn", desc := "(III)I" } : Jvm.MethodName)) ∈ lw_all := lw_g (lw_at lw_m9 121 rfl) rfl
theorem q2151 : (Jvm.Cond.code ({ cls := "BitRopesModel", name := "turn", desc := "(III)I" } : Jvm.MethodName) prog_23_method_95_code (4 : Nat) (Option.some Jvm.ClassFile.FieldType.int)) ∈ lw_all := lw_g (lw_at lw_m9 122 rfl) rfl
theorem q2153 : (Jvm.Cond.instanceMethod ({ cls := "BitRopesModel", name := "paste", desc := "(II)I" } : Jvm.MethodName)) ∈ lw_all := lw_g (lw_at lw_m9 124 rfl) rfl
theorem q2154 : (Jvm.Cond.selects "BitRopesModel" ({ cls := "BitRopesModel", name := "paste", desc := "(II)I" } : Jvm.MethodName) ({ cls := "BitRopesModel", name := "paste", desc := "(II)I" } : Jvm.MethodName)) ∈ lw_all := lw_g (lw_at lw_m9 125 rfl) rfl
theorem q2155 : (Jvm.Cond.code ({ cls := "BitRopesModel", name := "paste", desc := "(II)I" } : Jvm.MethodName) prog_23_method_96_code (6 : Nat) (Option.some Jvm.ClassFile.FieldType.int)) ∈ lw_all := lw_g (lw_at lw_m9 126 rfl) rfl
theorem q2157 : (Jvm.Cond.instanceMethod ({ cls := "BitRopesModel", name := "join", desc := "(II)I" } : Jvm.MethodName)) ∈ lw_all := lw_g (lw_at lw_m9 128 rfl) rfl
theorem q2158 : (Jvm.Cond.selects "BitRopesModel" ({ cls := "BitRopesModel", name := "join", desc := "(II)I" } : Jvm.MethodName) ({ cls := "BitRopesModel", name := "join", desc := "(II)I" } : Jvm.MethodName)) ∈ lw_all := lw_g (lw_at lw_m9 129 rfl) rfl
theorem q2159 : (Jvm.Cond.code ({ cls := "BitRopesModel", name := "join", desc := "(II)I" } : Jvm.MethodName) prog_23_method_98_code (3 : Nat) (Option.some Jvm.ClassFile.FieldType.int)) ∈ lw_all := lw_g (lw_at lw_m9 130 rfl) rfl
theorem q2160 : (Jvm.Cond.methodLink "BitRopesModel" (319 : Nat) ({ cls := "BitRopesModel", name := "areTwo", desc := "(II)Z" } : Jvm.MethodName)) ∈ lw_all := lw_g (lw_at lw_m9 131 rfl) rfl
theorem q2161 : (Jvm.Cond.privateMethod ({ cls := "BitRopesModel", name := "areTwo", desc := "(II)Z" } : Jvm.MethodName)) ∈ lw_tbl := lw_at lw_m9 132 rfl
theorem q2162 : (Jvm.Cond.instanceMethod ({ cls := "BitRopesModel", name := "areTwo", desc := "(II)Z" } : Jvm.MethodName)) ∈ lw_all := lw_g (lw_at lw_m9 133 rfl) rfl
theorem q2163 : (Jvm.Cond.code ({ cls := "BitRopesModel", name := "areTwo", desc := "(II)Z" } : Jvm.MethodName) prog_23_method_97_code (3 : Nat) (Option.some Jvm.ClassFile.FieldType.boolean)) ∈ lw_all := lw_g (lw_at lw_m9 134 rfl) rfl
theorem q2165 : (Jvm.Cond.instanceMethod ({ cls := "BitRopesModel", name := "split", desc := "(III)I" } : Jvm.MethodName)) ∈ lw_all := lw_g (lw_at lw_m9 136 rfl) rfl
theorem q2166 : (Jvm.Cond.selects "BitRopesModel" ({ cls := "BitRopesModel", name := "split", desc := "(III)I" } : Jvm.MethodName) ({ cls := "BitRopesModel", name := "split", desc := "(III)I" } : Jvm.MethodName)) ∈ lw_all := lw_g (lw_at lw_m9 137 rfl) rfl
theorem q2167 : (Jvm.Cond.code ({ cls := "BitRopesModel", name := "split", desc := "(III)I" } : Jvm.MethodName) prog_23_method_99_code (4 : Nat) (Option.some Jvm.ClassFile.FieldType.int)) ∈ lw_all := lw_g (lw_at lw_m9 138 rfl) rfl
theorem q2169 : (Jvm.Cond.instanceMethod ({ cls := "BitRopesModel", name := "type", desc := "(II)I" } : Jvm.MethodName)) ∈ lw_all := lw_g (lw_at lw_m9 140 rfl) rfl
theorem q2170 : (Jvm.Cond.selects "BitRopesModel" ({ cls := "BitRopesModel", name := "type", desc := "(II)I" } : Jvm.MethodName) ({ cls := "BitRopesModel", name := "type", desc := "(II)I" } : Jvm.MethodName)) ∈ lw_all := lw_g (lw_at lw_m9 141 rfl) rfl
theorem q2171 : (Jvm.Cond.code ({ cls := "BitRopesModel", name := "type", desc := "(II)I" } : Jvm.MethodName) prog_23_method_100_code (3 : Nat) (Option.some Jvm.ClassFile.FieldType.int)) ∈ lw_all := lw_g (lw_at lw_m9 142 rfl) rfl
theorem q2173 : (Jvm.Cond.instanceMethod ({ cls := "BitRopesModel", name := "erase", desc := "(II)I" } : Jvm.MethodName)) ∈ lw_all := lw_g (lw_at lw_m9 144 rfl) rfl
theorem q2174 : (Jvm.Cond.selects "BitRopesModel" ({ cls := "BitRopesModel", name := "erase", desc := "(II)I" } : Jvm.MethodName) ({ cls := "BitRopesModel", name := "erase", desc := "(II)I" } : Jvm.MethodName)) ∈ lw_all := lw_g (lw_at lw_m9 145 rfl) rfl
theorem q2175 : (Jvm.Cond.code ({ cls := "BitRopesModel", name := "erase", desc := "(II)I" } : Jvm.MethodName) prog_23_method_101_code (3 : Nat) (Option.some Jvm.ClassFile.FieldType.int)) ∈ lw_all := lw_g (lw_at lw_m9 146 rfl) rfl
theorem q2177 : (Jvm.Cond.instanceMethod ({ cls := "BitRopesModel", name := "undo", desc := "()I" } : Jvm.MethodName)) ∈ lw_all := lw_g (lw_at lw_m9 148 rfl) rfl
theorem q2178 : (Jvm.Cond.selects "BitRopesModel" ({ cls := "BitRopesModel", name := "undo", desc := "()I" } : Jvm.MethodName) ({ cls := "BitRopesModel", name := "undo", desc := "()I" } : Jvm.MethodName)) ∈ lw_all := lw_g (lw_at lw_m9 149 rfl) rfl
theorem q2179 : (Jvm.Cond.code ({ cls := "BitRopesModel", name := "undo", desc := "()I" } : Jvm.MethodName) prog_23_method_102_code (1 : Nat) (Option.some Jvm.ClassFile.FieldType.int)) ∈ lw_all := lw_g (lw_at lw_m9 150 rfl) rfl
theorem q2180 : (Jvm.Cond.methodLink "BitRopesModel" (322 : Nat) ({ cls := "BitRopesModel", name := "comeBack", desc := "([II)V" } : Jvm.MethodName)) ∈ lw_all := lw_g (lw_at lw_m9 151 rfl) rfl
theorem q2181 : (Jvm.Cond.privateMethod ({ cls := "BitRopesModel", name := "comeBack", desc := "([II)V" } : Jvm.MethodName)) ∈ lw_tbl := lw_at lw_m9 152 rfl
theorem q2182 : (Jvm.Cond.instanceMethod ({ cls := "BitRopesModel", name := "comeBack", desc := "([II)V" } : Jvm.MethodName)) ∈ lw_all := lw_g (lw_at lw_m9 153 rfl) rfl
theorem q2183 : (Jvm.Cond.code ({ cls := "BitRopesModel", name := "comeBack", desc := "([II)V" } : Jvm.MethodName) prog_23_method_84_code (4 : Nat) (Option.none : Option Jvm.ClassFile.FieldType)) ∈ lw_all := lw_g (lw_at lw_m9 154 rfl) rfl
theorem q2185 : (Jvm.Cond.instanceMethod ({ cls := "BitRopesModel", name := "drawn", desc := "(II)I" } : Jvm.MethodName)) ∈ lw_all := lw_g (lw_at lw_m9 156 rfl) rfl
theorem q2186 : (Jvm.Cond.selects "BitRopesModel" ({ cls := "BitRopesModel", name := "drawn", desc := "(II)I" } : Jvm.MethodName) ({ cls := "BitRopesModel", name := "drawn", desc := "(II)I" } : Jvm.MethodName)) ∈ lw_all := lw_g (lw_at lw_m9 157 rfl) rfl
theorem q2187 : (Jvm.Cond.code ({ cls := "BitRopesModel", name := "drawn", desc := "(II)I" } : Jvm.MethodName) prog_23_method_106_code (5 : Nat) (Option.some Jvm.ClassFile.FieldType.int)) ∈ lw_all := lw_g (lw_at lw_m9 158 rfl) rfl
theorem q2188 : (Jvm.Cond.methodLink "BitRopesModel" (336 : Nat) ({ cls := "BitRopesModel", name := "drawsDeed", desc := "()Z" } : Jvm.MethodName)) ∈ lw_all := lw_g (lw_at lw_m9 159 rfl) rfl
theorem q2189 : (Jvm.Cond.privateMethod ({ cls := "BitRopesModel", name := "drawsDeed", desc := "()Z" } : Jvm.MethodName)) ∈ lw_tbl := lw_at lw_m9 160 rfl
theorem q2190 : (Jvm.Cond.instanceMethod ({ cls := "BitRopesModel", name := "drawsDeed", desc := "()Z" } : Jvm.MethodName)) ∈ lw_all := lw_g (lw_at lw_m9 161 rfl) rfl
theorem q2191 : (Jvm.Cond.code ({ cls := "BitRopesModel", name := "drawsDeed", desc := "()Z" } : Jvm.MethodName) prog_23_method_105_code (5 : Nat) (Option.some Jvm.ClassFile.FieldType.boolean)) ∈ lw_all := lw_g (lw_at lw_m9 162 rfl) rfl
theorem q2192 : (Jvm.Cond.methodLink "BitRopesModel" (329 : Nat) ({ cls := "BitRopesModel", name := "draw", desc := "(I)I" } : Jvm.MethodName)) ∈ lw_all := lw_g (lw_at lw_m9 163 rfl) rfl
theorem q2193 : (Jvm.Cond.privateMethod ({ cls := "BitRopesModel", name := "draw", desc := "(I)I" } : Jvm.MethodName)) ∈ lw_tbl := lw_at lw_m9 164 rfl
theorem q2194 : (Jvm.Cond.instanceMethod ({ cls := "BitRopesModel", name := "draw", desc := "(I)I" } : Jvm.MethodName)) ∈ lw_all := lw_g (lw_at lw_m9 165 rfl) rfl
theorem q2195 : (Jvm.Cond.code ({ cls := "BitRopesModel", name := "draw", desc := "(I)I" } : Jvm.MethodName) prog_23_method_103_code (2 : Nat) (Option.some Jvm.ClassFile.FieldType.int)) ∈ lw_all := lw_g (lw_at lw_m9 166 rfl) rfl
theorem q2196 : (Jvm.Cond.constant "BitRopesModel" (328 : Nat) (1103515245 : Int32)) ∈ lw_all := lw_g (lw_at lw_m9 167 rfl) rfl
theorem q2197 : (Jvm.Cond.methodLink "BitRopesModel" (332 : Nat) ({ cls := "BitRopesModel", name := "doIf", desc := "(IIII)Z" } : Jvm.MethodName)) ∈ lw_all := lw_g (lw_at lw_m9 168 rfl) rfl
theorem q2198 : (Jvm.Cond.privateMethod ({ cls := "BitRopesModel", name := "doIf", desc := "(IIII)Z" } : Jvm.MethodName)) ∈ lw_tbl := lw_at lw_m9 169 rfl
theorem q2199 : (Jvm.Cond.instanceMethod ({ cls := "BitRopesModel", name := "doIf", desc := "(IIII)Z" } : Jvm.MethodName)) ∈ lw_all := lw_g (lw_at lw_m9 170 rfl) rfl
theorem q2200 : (Jvm.Cond.code ({ cls := "BitRopesModel", name := "doIf", desc := "(IIII)Z" } : Jvm.MethodName) prog_23_method_104_code (5 : Nat) (Option.some Jvm.ClassFile.FieldType.boolean)) ∈ lw_all := lw_g (lw_at lw_m9 171 rfl) rfl
theorem q2201 : (Jvm.Cond.methodLink "BitRopesModel" (339 : Nat) ({ cls := "BitRopesModel", name := "stay", desc := "(Z)V" } : Jvm.MethodName)) ∈ lw_all := lw_g (lw_at lw_m9 172 rfl) rfl
theorem q2202 : (Jvm.Cond.privateMethod ({ cls := "BitRopesModel", name := "stay", desc := "(Z)V" } : Jvm.MethodName)) ∈ lw_tbl := lw_at lw_m9 173 rfl
theorem q2203 : (Jvm.Cond.instanceMethod ({ cls := "BitRopesModel", name := "stay", desc := "(Z)V" } : Jvm.MethodName)) ∈ lw_all := lw_g (lw_at lw_m9 174 rfl) rfl
theorem q2204 : (Jvm.Cond.code ({ cls := "BitRopesModel", name := "stay", desc := "(Z)V" } : Jvm.MethodName) prog_23_method_114_code (2 : Nat) (Option.none : Option Jvm.ClassFile.FieldType)) ∈ lw_all := lw_g (lw_at lw_m9 175 rfl) rfl
theorem q2206 : (Jvm.Cond.instanceMethod ({ cls := "BitRopesModel", name := "book", desc := "(I)I" } : Jvm.MethodName)) ∈ lw_all := lw_g (lw_at lw_m9 177 rfl) rfl
theorem q2207 : (Jvm.Cond.selects "BitRopesModel" ({ cls := "BitRopesModel", name := "book", desc := "(I)I" } : Jvm.MethodName) ({ cls := "BitRopesModel", name := "book", desc := "(I)I" } : Jvm.MethodName)) ∈ lw_all := lw_g (lw_at lw_m9 178 rfl) rfl
theorem q2208 : (Jvm.Cond.code ({ cls := "BitRopesModel", name := "book", desc := "(I)I" } : Jvm.MethodName) prog_23_method_113_code (4 : Nat) (Option.some Jvm.ClassFile.FieldType.int)) ∈ lw_all := lw_g (lw_at lw_m9 179 rfl) rfl
theorem q2209 : (Jvm.Cond.methodLink "BitRopesModel" (356 : Nat) ({ cls := "BitRopesModel", name := "readBookLine", desc := "()Z" } : Jvm.MethodName)) ∈ lw_all := lw_g (lw_at lw_m9 180 rfl) rfl
theorem q2210 : (Jvm.Cond.privateMethod ({ cls := "BitRopesModel", name := "readBookLine", desc := "()Z" } : Jvm.MethodName)) ∈ lw_tbl := lw_at lw_m9 181 rfl
theorem q2211 : (Jvm.Cond.instanceMethod ({ cls := "BitRopesModel", name := "readBookLine", desc := "()Z" } : Jvm.MethodName)) ∈ lw_all := lw_g (lw_at lw_m9 182 rfl) rfl
theorem q2212 : (Jvm.Cond.code ({ cls := "BitRopesModel", name := "readBookLine", desc := "()Z" } : Jvm.MethodName) prog_23_method_110_code (4 : Nat) (Option.some Jvm.ClassFile.FieldType.boolean)) ∈ lw_all := lw_g (lw_at lw_m9 183 rfl) rfl
theorem q2213 : (Jvm.Cond.methodLink "BitRopesModel" (346 : Nat) ({ cls := "BitRopesModel", name := "readRowName", desc := "()Z" } : Jvm.MethodName)) ∈ lw_all := lw_g (lw_at lw_m9 184 rfl) rfl
theorem q2214 : (Jvm.Cond.privateMethod ({ cls := "BitRopesModel", name := "readRowName", desc := "()Z" } : Jvm.MethodName)) ∈ lw_tbl := lw_at lw_m9 185 rfl
theorem q2215 : (Jvm.Cond.instanceMethod ({ cls := "BitRopesModel", name := "readRowName", desc := "()Z" } : Jvm.MethodName)) ∈ lw_all := lw_g (lw_at lw_m9 186 rfl) rfl
theorem q2216 : (Jvm.Cond.code ({ cls := "BitRopesModel", name := "readRowName", desc := "()Z" } : Jvm.MethodName) prog_23_method_108_code (1 : Nat) (Option.some Jvm.ClassFile.FieldType.boolean)) ∈ lw_all := lw_g (lw_at lw_m9 187 rfl) rfl
theorem q2217 : (Jvm.Cond.methodLink "BitRopesModel" (349 : Nat) ({ cls := "BitRopesModel", name := "keep", desc := "(IZ)Z" } : Jvm.MethodName)) ∈ lw_all := lw_g (lw_at lw_m9 188 rfl) rfl
theorem q2218 : (Jvm.Cond.privateMethod ({ cls := "BitRopesModel", name := "keep", desc := "(IZ)Z" } : Jvm.MethodName)) ∈ lw_tbl := lw_at lw_m9 189 rfl
theorem q2219 : (Jvm.Cond.instanceMethod ({ cls := "BitRopesModel", name := "keep", desc := "(IZ)Z" } : Jvm.MethodName)) ∈ lw_all := lw_g (lw_at lw_m9 190 rfl) rfl
theorem q2220 : (Jvm.Cond.code ({ cls := "BitRopesModel", name := "keep", desc := "(IZ)Z" } : Jvm.MethodName) prog_23_method_107_code (3 : Nat) (Option.some Jvm.ClassFile.FieldType.boolean)) ∈ lw_all := lw_g (lw_at lw_m9 191 rfl) rfl
theorem q2221 : (Jvm.Cond.methodLink "BitRopesModel" (353 : Nat) ({ cls := "BitRopesModel", name := "readOthe\x72", desc := "(I)Z" } : Jvm.MethodName)) ∈ lw_all := lw_g (lw_at lw_m9 192 rfl) rfl
theorem q2222 : (Jvm.Cond.privateMethod ({ cls := "BitRopesModel", name := "readOthe\x72", desc := "(I)Z" } : Jvm.MethodName)) ∈ lw_tbl := lw_at lw_m9 193 rfl
theorem q2223 : (Jvm.Cond.instanceMethod ({ cls := "BitRopesModel", name := "readOthe\x72", desc := "(I)Z" } : Jvm.MethodName)) ∈ lw_all := lw_g (lw_at lw_m9 194 rfl) rfl
theorem q2224 : (Jvm.Cond.code ({ cls := "BitRopesModel", name := "readOthe\x72", desc := "(I)Z" } : Jvm.MethodName) prog_23_method_109_code (2 : Nat) (Option.some Jvm.ClassFile.FieldType.boolean)) ∈ lw_all := lw_g (lw_at lw_m9 195 rfl) rfl
theorem q2225 : (Jvm.Cond.methodLink "BitRopesModel" (359 : Nat) ({ cls := "BitRopesModel", name := "goBy", desc := "(I)I" } : Jvm.MethodName)) ∈ lw_all := lw_g (lw_at lw_m9 196 rfl) rfl
theorem q2226 : (Jvm.Cond.privateMethod ({ cls := "BitRopesModel", name := "goBy", desc := "(I)I" } : Jvm.MethodName)) ∈ lw_tbl := lw_at lw_m9 197 rfl
theorem q2227 : (Jvm.Cond.instanceMethod ({ cls := "BitRopesModel", name := "goBy", desc := "(I)I" } : Jvm.MethodName)) ∈ lw_all := lw_g (lw_at lw_m9 198 rfl) rfl
theorem q2228 : (Jvm.Cond.code ({ cls := "BitRopesModel", name := "goBy", desc := "(I)I" } : Jvm.MethodName) prog_23_method_111_code (4 : Nat) (Option.some Jvm.ClassFile.FieldType.int)) ∈ lw_all := lw_g (lw_at lw_m9 199 rfl) rfl
theorem q2229 : (Jvm.Cond.methodLink "BitRopesModel" (362 : Nat) ({ cls := "BitRopesModel", name := "allBits", desc := "()I" } : Jvm.MethodName)) ∈ lw_all := lw_g (lw_at lw_m9 200 rfl) rfl
theorem q2230 : (Jvm.Cond.privateMethod ({ cls := "BitRopesModel", name := "allBits", desc := "()I" } : Jvm.MethodName)) ∈ lw_tbl := lw_at lw_m9 201 rfl
theorem q2231 : (Jvm.Cond.instanceMethod ({ cls := "BitRopesModel", name := "allBits", desc := "()I" } : Jvm.MethodName)) ∈ lw_all := lw_g (lw_at lw_m9 202 rfl) rfl
theorem q2232 : (Jvm.Cond.code ({ cls := "BitRopesModel", name := "allBits", desc := "()I" } : Jvm.MethodName) prog_23_method_112_code (3 : Nat) (Option.some Jvm.ClassFile.FieldType.int)) ∈ lw_all := lw_g (lw_at lw_m9 203 rfl) rfl
theorem q2234 : (Jvm.Cond.instanceMethod ({ cls := "BitRopesModel", name := "told", desc := "(I)I" } : Jvm.MethodName)) ∈ lw_all := lw_g (lw_at lw_m9 205 rfl) rfl
theorem q2235 : (Jvm.Cond.selects "BitRopesModel" ({ cls := "BitRopesModel", name := "told", desc := "(I)I" } : Jvm.MethodName) ({ cls := "BitRopesModel", name := "told", desc := "(I)I" } : Jvm.MethodName)) ∈ lw_all := lw_g (lw_at lw_m9 206 rfl) rfl
theorem q2236 : (Jvm.Cond.code ({ cls := "BitRopesModel", name := "told", desc := "(I)I" } : Jvm.MethodName) prog_23_method_115_code (2 : Nat) (Option.some Jvm.ClassFile.FieldType.int)) ∈ lw_all := lw_g (lw_at lw_m9 207 rfl) rfl
theorem q2238 : (Jvm.Cond.instanceMethod ({ cls := "BitRopesModel", name := "sentence", desc := "()I" } : Jvm.MethodName)) ∈ lw_all := lw_g (lw_at lw_m9 209 rfl) rfl
theorem q2239 : (Jvm.Cond.selects "BitRopesModel" ({ cls := "BitRopesModel", name := "sentence", desc := "()I" } : Jvm.MethodName) ({ cls := "BitRopesModel", name := "sentence", desc := "()I" } : Jvm.MethodName)) ∈ lw_all := lw_g (lw_at lw_m9 210 rfl) rfl
theorem q2240 : (Jvm.Cond.code ({ cls := "BitRopesModel", name := "sentence", desc := "()I" } : Jvm.MethodName) prog_23_method_126_code (2 : Nat) (Option.some Jvm.ClassFile.FieldType.int)) ∈ lw_all := lw_g (lw_at lw_m9 211 rfl) rfl
theorem q2241 : (Jvm.Cond.methodLink "BitRopesModel" (401 : Nat) ({ cls := "BitRopesModel", name := "readO\x72", desc := "()Z" } : Jvm.MethodName)) ∈ lw_all := lw_g (lw_at lw_m9 212 rfl) rfl
theorem q2242 : (Jvm.Cond.privateMethod ({ cls := "BitRopesModel", name := "readO\x72", desc := "()Z" } : Jvm.MethodName)) ∈ lw_tbl := lw_at lw_m9 213 rfl
theorem q2243 : (Jvm.Cond.instanceMethod ({ cls := "BitRopesModel", name := "readO\x72", desc := "()Z" } : Jvm.MethodName)) ∈ lw_all := lw_g (lw_at lw_m9 214 rfl) rfl
theorem q2244 : (Jvm.Cond.code ({ cls := "BitRopesModel", name := "readO\x72", desc := "()Z" } : Jvm.MethodName) prog_23_method_119_code (2 : Nat) (Option.some Jvm.ClassFile.FieldType.boolean)) ∈ lw_all := lw_g (lw_at lw_m9 215 rfl) rfl
theorem q2245 : (Jvm.Cond.methodLink "BitRopesModel" (371 : Nat) ({ cls := "BitRopesModel", name := "readAnd", desc := "()Z" } : Jvm.MethodName)) ∈ lw_all := lw_g (lw_at lw_m9 216 rfl) rfl
theorem q2246 : (Jvm.Cond.privateMethod ({ cls := "BitRopesModel", name := "readAnd", desc := "()Z" } : Jvm.MethodName)) ∈ lw_tbl := lw_at lw_m9 217 rfl
theorem q2247 : (Jvm.Cond.instanceMethod ({ cls := "BitRopesModel", name := "readAnd", desc := "()Z" } : Jvm.MethodName)) ∈ lw_all := lw_g (lw_at lw_m9 218 rfl) rfl
theorem q2248 : (Jvm.Cond.code ({ cls := "BitRopesModel", name := "readAnd", desc := "()Z" } : Jvm.MethodName) prog_23_method_120_code (2 : Nat) (Option.some Jvm.ClassFile.FieldType.boolean)) ∈ lw_all := lw_g (lw_at lw_m9 219 rfl) rfl
theorem q2249 : (Jvm.Cond.methodLink "BitRopesModel" (380 : Nat) ({ cls := "BitRopesModel", name := "readSaid", desc := "()Z" } : Jvm.MethodName)) ∈ lw_all := lw_g (lw_at lw_m9 220 rfl) rfl
theorem q2250 : (Jvm.Cond.privateMethod ({ cls := "BitRopesModel", name := "readSaid", desc := "()Z" } : Jvm.MethodName)) ∈ lw_tbl := lw_at lw_m9 221 rfl
theorem q2251 : (Jvm.Cond.instanceMethod ({ cls := "BitRopesModel", name := "readSaid", desc := "()Z" } : Jvm.MethodName)) ∈ lw_all := lw_g (lw_at lw_m9 222 rfl) rfl
theorem q2252 : (Jvm.Cond.code ({ cls := "BitRopesModel", name := "readSaid", desc := "()Z" } : Jvm.MethodName) prog_23_method_121_code (4 : Nat) (Option.some Jvm.ClassFile.FieldType.boolean)) ∈ lw_all := lw_g (lw_at lw_m9 223 rfl) rfl
theorem q2253 : (Jvm.Cond.methodLink "BitRopesModel" (389 : Nat) ({ cls := "BitRopesModel", name := "readBracket", desc := "()Z" } : Jvm.MethodName)) ∈ lw_all := lw_g (lw_at lw_m9 224 rfl) rfl
theorem q2254 : (Jvm.Cond.privateMethod ({ cls := "BitRopesModel", name := "readBracket", desc := "()Z" } : Jvm.MethodName)) ∈ lw_tbl := lw_at lw_m9 225 rfl
theorem q2255 : (Jvm.Cond.instanceMethod ({ cls := "BitRopesModel", name := "readBracket", desc := "()Z" } : Jvm.MethodName)) ∈ lw_all := lw_g (lw_at lw_m9 226 rfl) rfl
theorem q2256 : (Jvm.Cond.code ({ cls := "BitRopesModel", name := "readBracket", desc := "()Z" } : Jvm.MethodName) prog_23_method_123_code (1 : Nat) (Option.some Jvm.ClassFile.FieldType.boolean)) ∈ lw_all := lw_g (lw_at lw_m9 227 rfl) rfl
theorem q2257 : (Jvm.Cond.methodLink "BitRopesModel" (392 : Nat) ({ cls := "BitRopesModel", name := "readNot", desc := "()Z" } : Jvm.MethodName)) ∈ lw_all := lw_g (lw_at lw_m9 228 rfl) rfl
theorem q2258 : (Jvm.Cond.privateMethod ({ cls := "BitRopesModel", name := "readNot", desc := "()Z" } : Jvm.MethodName)) ∈ lw_tbl := lw_at lw_m9 229 rfl
theorem q2259 : (Jvm.Cond.instanceMethod ({ cls := "BitRopesModel", name := "readNot", desc := "()Z" } : Jvm.MethodName)) ∈ lw_all := lw_g (lw_at lw_m9 230 rfl) rfl
theorem q2260 : (Jvm.Cond.code ({ cls := "BitRopesModel", name := "readNot", desc := "()Z" } : Jvm.MethodName) prog_23_method_122_code (1 : Nat) (Option.some Jvm.ClassFile.FieldType.boolean)) ∈ lw_all := lw_g (lw_at lw_m9 231 rfl) rfl
theorem q2261 : (Jvm.Cond.methodLink "BitRopesModel" (377 : Nat) ({ cls := "BitRopesModel", name := "saysOne", desc := "(IIII)I" } : Jvm.MethodName)) ∈ lw_all := lw_g (lw_at lw_m9 232 rfl) rfl
theorem q2262 : (Jvm.Cond.privateMethod ({ cls := "BitRopesModel", name := "saysOne", desc := "(IIII)I" } : Jvm.MethodName)) ∈ lw_tbl := lw_at lw_m9 233 rfl
theorem q2263 : (Jvm.Cond.instanceMethod ({ cls := "BitRopesModel", name := "saysOne", desc := "(IIII)I" } : Jvm.MethodName)) ∈ lw_all := lw_g (lw_at lw_m9 234 rfl) rfl
theorem q2264 : (Jvm.Cond.code ({ cls := "BitRopesModel", name := "saysOne", desc := "(IIII)I" } : Jvm.MethodName) prog_23_method_118_code (6 : Nat) (Option.some Jvm.ClassFile.FieldType.int)) ∈ lw_all := lw_g (lw_at lw_m9 235 rfl) rfl
theorem q2265 : (Jvm.Cond.methodLink "BitRopesModel" (395 : Nat) ({ cls := "BitRopesModel", name := "readOf", desc := "(I)Z" } : Jvm.MethodName)) ∈ lw_all := lw_g (lw_at lw_m9 236 rfl) rfl
theorem q2266 : (Jvm.Cond.privateMethod ({ cls := "BitRopesModel", name := "readOf", desc := "(I)Z" } : Jvm.MethodName)) ∈ lw_tbl := lw_at lw_m9 237 rfl
theorem q2267 : (Jvm.Cond.instanceMethod ({ cls := "BitRopesModel", name := "readOf", desc := "(I)Z" } : Jvm.MethodName)) ∈ lw_all := lw_g (lw_at lw_m9 238 rfl) rfl
theorem q2268 : (Jvm.Cond.code ({ cls := "BitRopesModel", name := "readOf", desc := "(I)Z" } : Jvm.MethodName) prog_23_method_124_code (2 : Nat) (Option.some Jvm.ClassFile.FieldType.boolean)) ∈ lw_all := lw_g (lw_at lw_m9 239 rfl) rfl
theorem q2269 : (Jvm.Cond.methodLink "BitRopesModel" (398 : Nat) ({ cls := "BitRopesModel", name := "readCompare", desc := "(I)Z" } : Jvm.MethodName)) ∈ lw_all := lw_g (lw_at lw_m10 0 rfl) rfl
theorem q2270 : (Jvm.Cond.privateMethod ({ cls := "BitRopesModel", name := "readCompare", desc := "(I)Z" } : Jvm.MethodName)) ∈ lw_tbl := lw_at lw_m10 1 rfl
theorem q2271 : (Jvm.Cond.instanceMethod ({ cls := "BitRopesModel", name := "readCompare", desc := "(I)Z" } : Jvm.MethodName)) ∈ lw_all := lw_g (lw_at lw_m10 2 rfl) rfl
theorem q2272 : (Jvm.Cond.code ({ cls := "BitRopesModel", name := "readCompare", desc := "(I)Z" } : Jvm.MethodName) prog_23_method_125_code (3 : Nat) (Option.some Jvm.ClassFile.FieldType.boolean)) ∈ lw_all := lw_g (lw_at lw_m10 3 rfl) rfl
theorem q2274 : (Jvm.Cond.instanceMethod ({ cls := "BitRopesModel", name := "said", desc := "(I)I" } : Jvm.MethodName)) ∈ lw_all := lw_g (lw_at lw_m10 5 rfl) rfl
theorem q2275 : (Jvm.Cond.selects "BitRopesModel" ({ cls := "BitRopesModel", name := "said", desc := "(I)I" } : Jvm.MethodName) ({ cls := "BitRopesModel", name := "said", desc := "(I)I" } : Jvm.MethodName)) ∈ lw_all := lw_g (lw_at lw_m10 6 rfl) rfl
theorem q2276 : (Jvm.Cond.code ({ cls := "BitRopesModel", name := "said", desc := "(I)I" } : Jvm.MethodName) prog_23_method_128_code (4 : Nat) (Option.some Jvm.ClassFile.FieldType.int)) ∈ lw_all := lw_g (lw_at lw_m10 7 rfl) rfl
theorem q2277 : (Jvm.Cond.methodLink "BitRopesModel" (404 : Nat) ({ cls := "BitRopesModel", name := "holds", desc := "(II)Z" } : Jvm.MethodName)) ∈ lw_all := lw_g (lw_at lw_m10 8 rfl) rfl
theorem q2278 : (Jvm.Cond.privateMethod ({ cls := "BitRopesModel", name := "holds", desc := "(II)Z" } : Jvm.MethodName)) ∈ lw_tbl := lw_at lw_m10 9 rfl
theorem q2279 : (Jvm.Cond.instanceMethod ({ cls := "BitRopesModel", name := "holds", desc := "(II)Z" } : Jvm.MethodName)) ∈ lw_all := lw_g (lw_at lw_m10 10 rfl) rfl
theorem q2280 : (Jvm.Cond.code ({ cls := "BitRopesModel", name := "holds", desc := "(II)Z" } : Jvm.MethodName) prog_23_method_127_code (8 : Nat) (Option.some Jvm.ClassFile.FieldType.boolean)) ∈ lw_all := lw_g (lw_at lw_m10 11 rfl) rfl
theorem q2281 : (Jvm.Cond.methodLink "BitRopesModel" (407 : Nat) ({ cls := "BitRopesModel", name := "onesOf", desc := "(I)I" } : Jvm.MethodName)) ∈ lw_all := lw_g (lw_at lw_m10 12 rfl) rfl
theorem q2282 : (Jvm.Cond.privateMethod ({ cls := "BitRopesModel", name := "onesOf", desc := "(I)I" } : Jvm.MethodName)) ∈ lw_tbl := lw_at lw_m10 13 rfl
theorem q2283 : (Jvm.Cond.instanceMethod ({ cls := "BitRopesModel", name := "onesOf", desc := "(I)I" } : Jvm.MethodName)) ∈ lw_all := lw_g (lw_at lw_m10 14 rfl) rfl
theorem q2284 : (Jvm.Cond.code ({ cls := "BitRopesModel", name := "onesOf", desc := "(I)I" } : Jvm.MethodName) prog_23_method_117_code (2 : Nat) (Option.some Jvm.ClassFile.FieldType.int)) ∈ lw_all := lw_g (lw_at lw_m10 15 rfl) rfl
theorem q2285 : (Jvm.Cond.methodLink "BitRopesModel" (410 : Nat) ({ cls := "BitRopesModel", name := "beginsWith", desc := "(II)Z" } : Jvm.MethodName)) ∈ lw_all := lw_g (lw_at lw_m10 16 rfl) rfl
theorem q2286 : (Jvm.Cond.privateMethod ({ cls := "BitRopesModel", name := "beginsWith", desc := "(II)Z" } : Jvm.MethodName)) ∈ lw_tbl := lw_at lw_m10 17 rfl
theorem q2287 : (Jvm.Cond.instanceMethod ({ cls := "BitRopesModel", name := "beginsWith", desc := "(II)Z" } : Jvm.MethodName)) ∈ lw_all := lw_g (lw_at lw_m10 18 rfl) rfl
theorem q2288 : (Jvm.Cond.code ({ cls := "BitRopesModel", name := "beginsWith", desc := "(II)Z" } : Jvm.MethodName) prog_23_method_116_code (3 : Nat) (Option.some Jvm.ClassFile.FieldType.boolean)) ∈ lw_all := lw_g (lw_at lw_m10 19 rfl) rfl
theorem q2290 : (Jvm.Cond.instanceMethod ({ cls := "BitRopesModel", name := "image", desc := "(I)Z" } : Jvm.MethodName)) ∈ lw_all := lw_g (lw_at lw_m10 21 rfl) rfl
theorem q2291 : (Jvm.Cond.selects "BitRopesModel" ({ cls := "BitRopesModel", name := "image", desc := "(I)Z" } : Jvm.MethodName) ({ cls := "BitRopesModel", name := "image", desc := "(I)Z" } : Jvm.MethodName)) ∈ lw_all := lw_g (lw_at lw_m10 22 rfl) rfl
theorem q2292 : (Jvm.Cond.code ({ cls := "BitRopesModel", name := "image", desc := "(I)Z" } : Jvm.MethodName) prog_23_method_129_code (3 : Nat) (Option.some Jvm.ClassFile.FieldType.boolean)) ∈ lw_all := lw_g (lw_at lw_m10 23 rfl) rfl
theorem q2294 : (Jvm.Cond.instanceMethod ({ cls := "BitRopesModel", name := "restore", desc := "(I)Z" } : Jvm.MethodName)) ∈ lw_all := lw_g (lw_at lw_m10 25 rfl) rfl
theorem q2295 : (Jvm.Cond.selects "BitRopesModel" ({ cls := "BitRopesModel", name := "restore", desc := "(I)Z" } : Jvm.MethodName) ({ cls := "BitRopesModel", name := "restore", desc := "(I)Z" } : Jvm.MethodName)) ∈ lw_all := lw_g (lw_at lw_m10 26 rfl) rfl
theorem q2296 : (Jvm.Cond.code ({ cls := "BitRopesModel", name := "restore", desc := "(I)Z" } : Jvm.MethodName) prog_23_method_130_code (3 : Nat) (Option.some Jvm.ClassFile.FieldType.boolean)) ∈ lw_all := lw_g (lw_at lw_m10 27 rfl) rfl
theorem q2298 : (Jvm.Cond.instanceMethod ({ cls := "BitRopesModel", name := "total", desc := "(I)I" } : Jvm.MethodName)) ∈ lw_all := lw_g (lw_at lw_m10 29 rfl) rfl
theorem q2299 : (Jvm.Cond.selects "BitRopesModel" ({ cls := "BitRopesModel", name := "total", desc := "(I)I" } : Jvm.MethodName) ({ cls := "BitRopesModel", name := "total", desc := "(I)I" } : Jvm.MethodName)) ∈ lw_all := lw_g (lw_at lw_m10 30 rfl) rfl
theorem q2300 : (Jvm.Cond.code ({ cls := "BitRopesModel", name := "total", desc := "(I)I" } : Jvm.MethodName) prog_23_method_131_code (2 : Nat) (Option.some Jvm.ClassFile.FieldType.int)) ∈ lw_all := lw_g (lw_at lw_m10 31 rfl) rfl
theorem q2331 : (Jvm.Cond.castable "BitRopesModel" "java/lang/Object") ∈ lw_tbl := lw_at lw_m10 62 rfl
theorem in_X10 : ∀ w ∈ wsX100, w ∈ lw_all := lw_in wsX100 [1725, 1727, 1729, 1731, 1733, 1735, 1737, 1739, 1741, 1743, 1745, 1747, 1749, 1751, 1753, 1755, 1757, 1759, 1761, 1763, 1765, 1767, 1769, 1771, 1773, 1775, 1777, 1779, 1781, 1783, 1785, 1787, 1789, 1791, 1793, 1795, 1797, 1799, 1801] (by decide +kernel) (by decide +kernel)
