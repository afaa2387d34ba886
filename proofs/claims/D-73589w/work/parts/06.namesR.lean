/-! BitRopes$State -/
set_option maxRecDepth 100000
def RX4 : String := "BitRopes$State"
def TX4 : u_T := fun k => match k with
  | 0 => ("BitRopes$State", "rope", "[LBitRopes$Rope;", true)
  | 1 => ("BitRopes$State", "node", "[LBitRopes$Rope;", true)
  | 2 => ("BitRopes$State", "rows", "I", false)
  | _ => ("BitRopes$State", "seed", "I", false)
def tyX4 : Nat → FieldType := fun k => match k with
  | 0 => .array (.object "BitRopes$Rope")
  | 1 => .array (.object "BitRopes$Rope")
  | 2 => .int
  | _ => .int
abbrev wsX40 : List Cond := u_ws RX4 TX4 4
theorem nmX4 : ∀ a, a < 4 → ∀ b, b < 4 → a ≠ b → (TX4 a).2.1 ≠ (TX4 b).2.1 := by decide +kernel
theorem tyX4_ok : ∀ k, k < 4 → parseFieldDescriptor (TX4 k).2.2.1 = some (tyX4 k) := by decide +kernel
abbrev cX4_init : ByteArray := prog_21_method_1_code
def yX4_init : MethodName := ⟨RX4, "<init>", "()V"⟩
def dkwX4_init_3 : List UInt8 := [167, 255, 234, 177]
abbrev dktX4_init_3 : List UInt8 := dkwX4_init_3 ++ []
def dkwX4_init_2 : List UInt8 := [60, 27, 16, 7, 162, 0, 22, 42, 180, 0, 17, 27, 187, 0, 9, 89, 183, 0, 20, 83, 132, 1, 1]
abbrev dktX4_init_2 : List UInt8 := dkwX4_init_2 ++ dktX4_init_3
def dkwX4_init_1 : List UInt8 := [7, 162, 0, 22, 42, 180, 0, 11, 27, 187, 0, 9, 89, 183, 0, 20, 83, 132, 1, 1, 167, 255, 235, 3]
abbrev dktX4_init_1 : List UInt8 := dkwX4_init_1 ++ dktX4_init_2
def dkwX4_init_0 : List UInt8 := [42, 183, 0, 3, 42, 7, 189, 0, 9, 181, 0, 11, 42, 16, 7, 189, 0, 9, 181, 0, 17, 3, 60, 27]
abbrev dktX4_init_0 : List UInt8 := dkwX4_init_0 ++ dktX4_init_1
theorem dksX4_init_0 : cX4_init.data.toList.drop 0 = dktX4_init_0 := by decide +kernel
theorem dksX4_init_1 : cX4_init.data.toList.drop 24 = dktX4_init_1 := dk_seg dksX4_init_0 24 rfl rfl
theorem dksX4_init_2 : cX4_init.data.toList.drop 48 = dktX4_init_2 := dk_seg dksX4_init_1 24 rfl rfl
theorem dksX4_init_3 : cX4_init.data.toList.drop 71 = dktX4_init_3 := dk_seg dksX4_init_2 23 rfl rfl
theorem dX4_init_0 : decode cX4_init 0 = .ok (.aload_n 0, 1) := dk_42 (dk_at dksX4_init_0 0 rfl rfl)
theorem dX4_init_1 : decode cX4_init 1 = .ok (.invokespecial 3, 3) := dk_183 0 3 (dk_at dksX4_init_0 1 rfl rfl)
theorem dX4_init_4 : decode cX4_init 4 = .ok (.aload_n 0, 1) := dk_42 (dk_at dksX4_init_0 4 rfl rfl)
theorem dX4_init_5 : decode cX4_init 5 = .ok (.iconst 4, 1) := dk_7 (dk_at dksX4_init_0 5 rfl rfl)
theorem dX4_init_6 : decode cX4_init 6 = .ok (.anewarray 9, 3) := dk_189 0 9 (dk_at dksX4_init_0 6 rfl rfl)
theorem dX4_init_9 : decode cX4_init 9 = .ok (.putfield 11, 3) := dk_181 0 11 (dk_at dksX4_init_0 9 rfl rfl)
theorem dX4_init_12 : decode cX4_init 12 = .ok (.aload_n 0, 1) := dk_42 (dk_at dksX4_init_0 12 rfl rfl)
theorem dX4_init_13 : decode cX4_init 13 = .ok (.bipush 7, 2) := dk_16 7 (dk_at dksX4_init_0 13 rfl rfl)
theorem dX4_init_15 : decode cX4_init 15 = .ok (.anewarray 9, 3) := dk_189 0 9 (dk_at dksX4_init_0 15 rfl rfl)
theorem dX4_init_18 : decode cX4_init 18 = .ok (.putfield 17, 3) := dk_181 0 17 (dk_at dksX4_init_0 18 rfl rfl)
theorem dX4_init_21 : decode cX4_init 21 = .ok (.iconst 0, 1) := dk_3 (dk_at dksX4_init_0 21 rfl rfl)
theorem dX4_init_22 : decode cX4_init 22 = .ok (.istore_n 1, 1) := dk_60 (dk_at dksX4_init_0 22 rfl rfl)
theorem dX4_init_23 : decode cX4_init 23 = .ok (.iload_n 1, 1) := dk_27 (dk_at dksX4_init_0 23 rfl rfl)
theorem dX4_init_24 : decode cX4_init 24 = .ok (.iconst 4, 1) := dk_7 (dk_at dksX4_init_1 0 rfl rfl)
theorem dX4_init_25 : decode cX4_init 25 = .ok (.if_icmp .ge 22, 3) := dk_162 0 22 (dk_at dksX4_init_1 1 rfl rfl)
theorem dX4_init_28 : decode cX4_init 28 = .ok (.aload_n 0, 1) := dk_42 (dk_at dksX4_init_1 4 rfl rfl)
theorem dX4_init_29 : decode cX4_init 29 = .ok (.getfield 11, 3) := dk_180 0 11 (dk_at dksX4_init_1 5 rfl rfl)
theorem dX4_init_32 : decode cX4_init 32 = .ok (.iload_n 1, 1) := dk_27 (dk_at dksX4_init_1 8 rfl rfl)
theorem dX4_init_33 : decode cX4_init 33 = .ok (.new 9, 3) := dk_187 0 9 (dk_at dksX4_init_1 9 rfl rfl)
theorem dX4_init_36 : decode cX4_init 36 = .ok (.dup, 1) := dk_89 (dk_at dksX4_init_1 12 rfl rfl)
theorem dX4_init_37 : decode cX4_init 37 = .ok (.invokespecial 20, 3) := dk_183 0 20 (dk_at dksX4_init_1 13 rfl rfl)
theorem dX4_init_40 : decode cX4_init 40 = .ok (.aastore, 1) := dk_83 (dk_at dksX4_init_1 16 rfl rfl)
theorem dX4_init_41 : decode cX4_init 41 = .ok (.iinc 1 1, 3) := dk_132 1 1 (dk_at dksX4_init_1 17 rfl rfl)
theorem dX4_init_44 : decode cX4_init 44 = .ok (.goto (-21), 3) := dk_167 255 235 (dk_at dksX4_init_1 20 rfl rfl)
theorem dX4_init_47 : decode cX4_init 47 = .ok (.iconst 0, 1) := dk_3 (dk_at dksX4_init_1 23 rfl rfl)
theorem dX4_init_48 : decode cX4_init 48 = .ok (.istore_n 1, 1) := dk_60 (dk_at dksX4_init_2 0 rfl rfl)
theorem dX4_init_49 : decode cX4_init 49 = .ok (.iload_n 1, 1) := dk_27 (dk_at dksX4_init_2 1 rfl rfl)
theorem dX4_init_50 : decode cX4_init 50 = .ok (.bipush 7, 2) := dk_16 7 (dk_at dksX4_init_2 2 rfl rfl)
theorem dX4_init_52 : decode cX4_init 52 = .ok (.if_icmp .ge 22, 3) := dk_162 0 22 (dk_at dksX4_init_2 4 rfl rfl)
theorem dX4_init_55 : decode cX4_init 55 = .ok (.aload_n 0, 1) := dk_42 (dk_at dksX4_init_2 7 rfl rfl)
theorem dX4_init_56 : decode cX4_init 56 = .ok (.getfield 17, 3) := dk_180 0 17 (dk_at dksX4_init_2 8 rfl rfl)
theorem dX4_init_59 : decode cX4_init 59 = .ok (.iload_n 1, 1) := dk_27 (dk_at dksX4_init_2 11 rfl rfl)
theorem dX4_init_60 : decode cX4_init 60 = .ok (.new 9, 3) := dk_187 0 9 (dk_at dksX4_init_2 12 rfl rfl)
theorem dX4_init_63 : decode cX4_init 63 = .ok (.dup, 1) := dk_89 (dk_at dksX4_init_2 15 rfl rfl)
theorem dX4_init_64 : decode cX4_init 64 = .ok (.invokespecial 20, 3) := dk_183 0 20 (dk_at dksX4_init_2 16 rfl rfl)
theorem dX4_init_67 : decode cX4_init 67 = .ok (.aastore, 1) := dk_83 (dk_at dksX4_init_2 19 rfl rfl)
theorem dX4_init_68 : decode cX4_init 68 = .ok (.iinc 1 1, 3) := dk_132 1 1 (dk_at dksX4_init_2 20 rfl rfl)
theorem dX4_init_71 : decode cX4_init 71 = .ok (.goto (-22), 3) := dk_167 255 234 (dk_at dksX4_init_3 0 rfl rfl)
theorem dX4_init_74 : decode cX4_init 74 = .ok (.return_, 1) := dk_177 (dk_at dksX4_init_3 3 rfl rfl)
abbrev cX4_begin : ByteArray := prog_21_method_2_code
def yX4_begin : MethodName := ⟨RX4, "begin", "(LBitRopes$Room;)V"⟩
def dkwX4_begin_3 : List UInt8 := [58, 5, 42, 25, 5, 43, 180, 0, 28, 182, 0, 31, 132, 4, 1, 167, 255, 231, 177]
abbrev dktX4_begin_3 : List UInt8 := dkwX4_begin_3 ++ []
def dkwX4_begin_2 : List UInt8 := [167, 255, 231, 42, 180, 0, 17, 77, 44, 190, 62, 3, 54, 4, 21, 4, 29, 162, 0, 25, 44, 21, 4, 50]
abbrev dktX4_begin_2 : List UInt8 := dkwX4_begin_2 ++ dktX4_begin_3
def dkwX4_begin_1 : List UInt8 := [162, 0, 25, 44, 21, 4, 50, 58, 5, 42, 25, 5, 43, 180, 0, 28, 182, 0, 31, 132, 4, 1]
abbrev dktX4_begin_1 : List UInt8 := dkwX4_begin_1 ++ dktX4_begin_2
def dkwX4_begin_0 : List UInt8 := [42, 43, 180, 0, 21, 181, 0, 27, 42, 180, 0, 11, 77, 44, 190, 62, 3, 54, 4, 21, 4, 29]
abbrev dktX4_begin_0 : List UInt8 := dkwX4_begin_0 ++ dktX4_begin_1
theorem dksX4_begin_0 : cX4_begin.data.toList.drop 0 = dktX4_begin_0 := by decide +kernel
theorem dksX4_begin_1 : cX4_begin.data.toList.drop 22 = dktX4_begin_1 := dk_seg dksX4_begin_0 22 rfl rfl
theorem dksX4_begin_2 : cX4_begin.data.toList.drop 44 = dktX4_begin_2 := dk_seg dksX4_begin_1 22 rfl rfl
theorem dksX4_begin_3 : cX4_begin.data.toList.drop 68 = dktX4_begin_3 := dk_seg dksX4_begin_2 24 rfl rfl
theorem dX4_begin_0 : decode cX4_begin 0 = .ok (.aload_n 0, 1) := dk_42 (dk_at dksX4_begin_0 0 rfl rfl)
theorem dX4_begin_1 : decode cX4_begin 1 = .ok (.aload_n 1, 1) := dk_43 (dk_at dksX4_begin_0 1 rfl rfl)
theorem dX4_begin_2 : decode cX4_begin 2 = .ok (.getfield 21, 3) := dk_180 0 21 (dk_at dksX4_begin_0 2 rfl rfl)
theorem dX4_begin_5 : decode cX4_begin 5 = .ok (.putfield 27, 3) := dk_181 0 27 (dk_at dksX4_begin_0 5 rfl rfl)
theorem dX4_begin_8 : decode cX4_begin 8 = .ok (.aload_n 0, 1) := dk_42 (dk_at dksX4_begin_0 8 rfl rfl)
theorem dX4_begin_9 : decode cX4_begin 9 = .ok (.getfield 11, 3) := dk_180 0 11 (dk_at dksX4_begin_0 9 rfl rfl)
theorem dX4_begin_12 : decode cX4_begin 12 = .ok (.astore_n 2, 1) := dk_77 (dk_at dksX4_begin_0 12 rfl rfl)
theorem dX4_begin_13 : decode cX4_begin 13 = .ok (.aload_n 2, 1) := dk_44 (dk_at dksX4_begin_0 13 rfl rfl)
theorem dX4_begin_14 : decode cX4_begin 14 = .ok (.arraylength, 1) := dk_190 (dk_at dksX4_begin_0 14 rfl rfl)
theorem dX4_begin_15 : decode cX4_begin 15 = .ok (.istore_n 3, 1) := dk_62 (dk_at dksX4_begin_0 15 rfl rfl)
theorem dX4_begin_16 : decode cX4_begin 16 = .ok (.iconst 0, 1) := dk_3 (dk_at dksX4_begin_0 16 rfl rfl)
theorem dX4_begin_17 : decode cX4_begin 17 = .ok (.istore 4, 2) := dk_54 4 (dk_at dksX4_begin_0 17 rfl rfl)
theorem dX4_begin_19 : decode cX4_begin 19 = .ok (.iload 4, 2) := dk_21 4 (dk_at dksX4_begin_0 19 rfl rfl)
theorem dX4_begin_21 : decode cX4_begin 21 = .ok (.iload_n 3, 1) := dk_29 (dk_at dksX4_begin_0 21 rfl rfl)
theorem dX4_begin_22 : decode cX4_begin 22 = .ok (.if_icmp .ge 25, 3) := dk_162 0 25 (dk_at dksX4_begin_1 0 rfl rfl)
theorem dX4_begin_25 : decode cX4_begin 25 = .ok (.aload_n 2, 1) := dk_44 (dk_at dksX4_begin_1 3 rfl rfl)
theorem dX4_begin_26 : decode cX4_begin 26 = .ok (.iload 4, 2) := dk_21 4 (dk_at dksX4_begin_1 4 rfl rfl)
theorem dX4_begin_28 : decode cX4_begin 28 = .ok (.aaload, 1) := dk_50 (dk_at dksX4_begin_1 6 rfl rfl)
theorem dX4_begin_29 : decode cX4_begin 29 = .ok (.astore 5, 2) := dk_58 5 (dk_at dksX4_begin_1 7 rfl rfl)
theorem dX4_begin_31 : decode cX4_begin 31 = .ok (.aload_n 0, 1) := dk_42 (dk_at dksX4_begin_1 9 rfl rfl)
theorem dX4_begin_32 : decode cX4_begin 32 = .ok (.aload 5, 2) := dk_25 5 (dk_at dksX4_begin_1 10 rfl rfl)
theorem dX4_begin_34 : decode cX4_begin 34 = .ok (.aload_n 1, 1) := dk_43 (dk_at dksX4_begin_1 12 rfl rfl)
theorem dX4_begin_35 : decode cX4_begin 35 = .ok (.getfield 28, 3) := dk_180 0 28 (dk_at dksX4_begin_1 13 rfl rfl)
theorem dX4_begin_38 : decode cX4_begin 38 = .ok (.invokevirtual 31, 3) := dk_182 0 31 (dk_at dksX4_begin_1 16 rfl rfl)
theorem dX4_begin_41 : decode cX4_begin 41 = .ok (.iinc 4 1, 3) := dk_132 4 1 (dk_at dksX4_begin_1 19 rfl rfl)
theorem dX4_begin_44 : decode cX4_begin 44 = .ok (.goto (-25), 3) := dk_167 255 231 (dk_at dksX4_begin_2 0 rfl rfl)
theorem dX4_begin_47 : decode cX4_begin 47 = .ok (.aload_n 0, 1) := dk_42 (dk_at dksX4_begin_2 3 rfl rfl)
theorem dX4_begin_48 : decode cX4_begin 48 = .ok (.getfield 17, 3) := dk_180 0 17 (dk_at dksX4_begin_2 4 rfl rfl)
theorem dX4_begin_51 : decode cX4_begin 51 = .ok (.astore_n 2, 1) := dk_77 (dk_at dksX4_begin_2 7 rfl rfl)
theorem dX4_begin_52 : decode cX4_begin 52 = .ok (.aload_n 2, 1) := dk_44 (dk_at dksX4_begin_2 8 rfl rfl)
theorem dX4_begin_53 : decode cX4_begin 53 = .ok (.arraylength, 1) := dk_190 (dk_at dksX4_begin_2 9 rfl rfl)
theorem dX4_begin_54 : decode cX4_begin 54 = .ok (.istore_n 3, 1) := dk_62 (dk_at dksX4_begin_2 10 rfl rfl)
theorem dX4_begin_55 : decode cX4_begin 55 = .ok (.iconst 0, 1) := dk_3 (dk_at dksX4_begin_2 11 rfl rfl)
theorem dX4_begin_56 : decode cX4_begin 56 = .ok (.istore 4, 2) := dk_54 4 (dk_at dksX4_begin_2 12 rfl rfl)
theorem dX4_begin_58 : decode cX4_begin 58 = .ok (.iload 4, 2) := dk_21 4 (dk_at dksX4_begin_2 14 rfl rfl)
theorem dX4_begin_60 : decode cX4_begin 60 = .ok (.iload_n 3, 1) := dk_29 (dk_at dksX4_begin_2 16 rfl rfl)
theorem dX4_begin_61 : decode cX4_begin 61 = .ok (.if_icmp .ge 25, 3) := dk_162 0 25 (dk_at dksX4_begin_2 17 rfl rfl)
theorem dX4_begin_64 : decode cX4_begin 64 = .ok (.aload_n 2, 1) := dk_44 (dk_at dksX4_begin_2 20 rfl rfl)
theorem dX4_begin_65 : decode cX4_begin 65 = .ok (.iload 4, 2) := dk_21 4 (dk_at dksX4_begin_2 21 rfl rfl)
theorem dX4_begin_67 : decode cX4_begin 67 = .ok (.aaload, 1) := dk_50 (dk_at dksX4_begin_2 23 rfl rfl)
theorem dX4_begin_68 : decode cX4_begin 68 = .ok (.astore 5, 2) := dk_58 5 (dk_at dksX4_begin_3 0 rfl rfl)
theorem dX4_begin_70 : decode cX4_begin 70 = .ok (.aload_n 0, 1) := dk_42 (dk_at dksX4_begin_3 2 rfl rfl)
theorem dX4_begin_71 : decode cX4_begin 71 = .ok (.aload 5, 2) := dk_25 5 (dk_at dksX4_begin_3 3 rfl rfl)
theorem dX4_begin_73 : decode cX4_begin 73 = .ok (.aload_n 1, 1) := dk_43 (dk_at dksX4_begin_3 5 rfl rfl)
theorem dX4_begin_74 : decode cX4_begin 74 = .ok (.getfield 28, 3) := dk_180 0 28 (dk_at dksX4_begin_3 6 rfl rfl)
theorem dX4_begin_77 : decode cX4_begin 77 = .ok (.invokevirtual 31, 3) := dk_182 0 31 (dk_at dksX4_begin_3 9 rfl rfl)
theorem dX4_begin_80 : decode cX4_begin 80 = .ok (.iinc 4 1, 3) := dk_132 4 1 (dk_at dksX4_begin_3 12 rfl rfl)
theorem dX4_begin_83 : decode cX4_begin 83 = .ok (.goto (-25), 3) := dk_167 255 231 (dk_at dksX4_begin_3 15 rfl rfl)
theorem dX4_begin_86 : decode cX4_begin 86 = .ok (.return_, 1) := dk_177 (dk_at dksX4_begin_3 18 rfl rfl)
abbrev cX4_begin_2 : ByteArray := prog_21_method_3_code
def yX4_begin_2 : MethodName := ⟨RX4, "begin", "(LBitRopes$Rope;I)V"⟩
def dkwX4_begin_2_0 : List UInt8 := [43, 28, 181, 0, 35, 43, 182, 0, 36, 177]
abbrev dktX4_begin_2_0 : List UInt8 := dkwX4_begin_2_0 ++ []
theorem dksX4_begin_2_0 : cX4_begin_2.data.toList.drop 0 = dktX4_begin_2_0 := by decide +kernel
theorem dX4_begin_2_0 : decode cX4_begin_2 0 = .ok (.aload_n 1, 1) := dk_43 (dk_at dksX4_begin_2_0 0 rfl rfl)
theorem dX4_begin_2_1 : decode cX4_begin_2 1 = .ok (.iload_n 2, 1) := dk_28 (dk_at dksX4_begin_2_0 1 rfl rfl)
theorem dX4_begin_2_2 : decode cX4_begin_2 2 = .ok (.putfield 35, 3) := dk_181 0 35 (dk_at dksX4_begin_2_0 2 rfl rfl)
theorem dX4_begin_2_5 : decode cX4_begin_2 5 = .ok (.aload_n 1, 1) := dk_43 (dk_at dksX4_begin_2_0 5 rfl rfl)
theorem dX4_begin_2_6 : decode cX4_begin_2 6 = .ok (.invokevirtual 36, 3) := dk_182 0 36 (dk_at dksX4_begin_2_0 6 rfl rfl)
theorem dX4_begin_2_9 : decode cX4_begin_2 9 = .ok (.return_, 1) := dk_177 (dk_at dksX4_begin_2_0 9 rfl rfl)
abbrev cX4_typed : ByteArray := prog_21_method_7_code
def yX4_typed : MethodName := ⟨RX4, "typed", "()I"⟩
def dkwX4_typed_0 : List UInt8 := [42, 180, 0, 17, 3, 50, 182, 0, 49, 172]
abbrev dktX4_typed_0 : List UInt8 := dkwX4_typed_0 ++ []
theorem dksX4_typed_0 : cX4_typed.data.toList.drop 0 = dktX4_typed_0 := by decide +kernel
theorem dX4_typed_0 : decode cX4_typed 0 = .ok (.aload_n 0, 1) := dk_42 (dk_at dksX4_typed_0 0 rfl rfl)
theorem dX4_typed_1 : decode cX4_typed 1 = .ok (.getfield 17, 3) := dk_180 0 17 (dk_at dksX4_typed_0 1 rfl rfl)
theorem dX4_typed_4 : decode cX4_typed 4 = .ok (.iconst 0, 1) := dk_3 (dk_at dksX4_typed_0 4 rfl rfl)
theorem dX4_typed_5 : decode cX4_typed 5 = .ok (.aaload, 1) := dk_50 (dk_at dksX4_typed_0 5 rfl rfl)
theorem dX4_typed_6 : decode cX4_typed 6 = .ok (.invokevirtual 49, 3) := dk_182 0 49 (dk_at dksX4_typed_0 6 rfl rfl)
theorem dX4_typed_9 : decode cX4_typed 9 = .ok (.ireturn, 1) := dk_172 (dk_at dksX4_typed_0 9 rfl rfl)
abbrev cX4_types : ByteArray := prog_21_method_12_code
def yX4_types : MethodName := ⟨RX4, "types", "(II)V"⟩
def dkwX4_types_2 : List UInt8 := [182, 0, 74, 21, 7, 54, 4, 5, 29, 104, 4, 96, 21, 6, 96, 62, 132, 5, 255, 167, 255, 199, 177]
abbrev dktX4_types_2 : List UInt8 := dkwX4_types_2 ++ []
def dkwX4_types_1 : List UInt8 := [180, 0, 17, 29, 50, 21, 4, 21, 6, 182, 0, 57, 54, 7, 42, 180, 0, 17, 29, 50, 21, 4, 21, 6]
abbrev dktX4_types_1 : List UInt8 := dkwX4_types_1 ++ dktX4_types_2
def dkwX4_types_0 : List UInt8 := [3, 62, 27, 54, 4, 5, 54, 5, 21, 5, 155, 0, 58, 28, 21, 5, 122, 4, 126, 54, 6, 42]
abbrev dktX4_types_0 : List UInt8 := dkwX4_types_0 ++ dktX4_types_1
theorem dksX4_types_0 : cX4_types.data.toList.drop 0 = dktX4_types_0 := by decide +kernel
theorem dksX4_types_1 : cX4_types.data.toList.drop 22 = dktX4_types_1 := dk_seg dksX4_types_0 22 rfl rfl
theorem dksX4_types_2 : cX4_types.data.toList.drop 46 = dktX4_types_2 := dk_seg dksX4_types_1 24 rfl rfl
theorem dX4_types_0 : decode cX4_types 0 = .ok (.iconst 0, 1) := dk_3 (dk_at dksX4_types_0 0 rfl rfl)
theorem dX4_types_1 : decode cX4_types 1 = .ok (.istore_n 3, 1) := dk_62 (dk_at dksX4_types_0 1 rfl rfl)
theorem dX4_types_2 : decode cX4_types 2 = .ok (.iload_n 1, 1) := dk_27 (dk_at dksX4_types_0 2 rfl rfl)
theorem dX4_types_3 : decode cX4_types 3 = .ok (.istore 4, 2) := dk_54 4 (dk_at dksX4_types_0 3 rfl rfl)
theorem dX4_types_5 : decode cX4_types 5 = .ok (.iconst 2, 1) := dk_5 (dk_at dksX4_types_0 5 rfl rfl)
theorem dX4_types_6 : decode cX4_types 6 = .ok (.istore 5, 2) := dk_54 5 (dk_at dksX4_types_0 6 rfl rfl)
theorem dX4_types_8 : decode cX4_types 8 = .ok (.iload 5, 2) := dk_21 5 (dk_at dksX4_types_0 8 rfl rfl)
theorem dX4_types_10 : decode cX4_types 10 = .ok (.ifCond .lt 58, 3) := dk_155 0 58 (dk_at dksX4_types_0 10 rfl rfl)
theorem dX4_types_13 : decode cX4_types 13 = .ok (.iload_n 2, 1) := dk_28 (dk_at dksX4_types_0 13 rfl rfl)
theorem dX4_types_14 : decode cX4_types 14 = .ok (.iload 5, 2) := dk_21 5 (dk_at dksX4_types_0 14 rfl rfl)
theorem dX4_types_16 : decode cX4_types 16 = .ok (.ishr, 1) := dk_122 (dk_at dksX4_types_0 16 rfl rfl)
theorem dX4_types_17 : decode cX4_types 17 = .ok (.iconst 1, 1) := dk_4 (dk_at dksX4_types_0 17 rfl rfl)
theorem dX4_types_18 : decode cX4_types 18 = .ok (.iand, 1) := dk_126 (dk_at dksX4_types_0 18 rfl rfl)
theorem dX4_types_19 : decode cX4_types 19 = .ok (.istore 6, 2) := dk_54 6 (dk_at dksX4_types_0 19 rfl rfl)
theorem dX4_types_21 : decode cX4_types 21 = .ok (.aload_n 0, 1) := dk_42 (dk_at dksX4_types_0 21 rfl rfl)
theorem dX4_types_22 : decode cX4_types 22 = .ok (.getfield 17, 3) := dk_180 0 17 (dk_at dksX4_types_1 0 rfl rfl)
theorem dX4_types_25 : decode cX4_types 25 = .ok (.iload_n 3, 1) := dk_29 (dk_at dksX4_types_1 3 rfl rfl)
theorem dX4_types_26 : decode cX4_types 26 = .ok (.aaload, 1) := dk_50 (dk_at dksX4_types_1 4 rfl rfl)
theorem dX4_types_27 : decode cX4_types 27 = .ok (.iload 4, 2) := dk_21 4 (dk_at dksX4_types_1 5 rfl rfl)
theorem dX4_types_29 : decode cX4_types 29 = .ok (.iload 6, 2) := dk_21 6 (dk_at dksX4_types_1 7 rfl rfl)
theorem dX4_types_31 : decode cX4_types 31 = .ok (.invokevirtual 57, 3) := dk_182 0 57 (dk_at dksX4_types_1 9 rfl rfl)
theorem dX4_types_34 : decode cX4_types 34 = .ok (.istore 7, 2) := dk_54 7 (dk_at dksX4_types_1 12 rfl rfl)
theorem dX4_types_36 : decode cX4_types 36 = .ok (.aload_n 0, 1) := dk_42 (dk_at dksX4_types_1 14 rfl rfl)
theorem dX4_types_37 : decode cX4_types 37 = .ok (.getfield 17, 3) := dk_180 0 17 (dk_at dksX4_types_1 15 rfl rfl)
theorem dX4_types_40 : decode cX4_types 40 = .ok (.iload_n 3, 1) := dk_29 (dk_at dksX4_types_1 18 rfl rfl)
theorem dX4_types_41 : decode cX4_types 41 = .ok (.aaload, 1) := dk_50 (dk_at dksX4_types_1 19 rfl rfl)
theorem dX4_types_42 : decode cX4_types 42 = .ok (.iload 4, 2) := dk_21 4 (dk_at dksX4_types_1 20 rfl rfl)
theorem dX4_types_44 : decode cX4_types 44 = .ok (.iload 6, 2) := dk_21 6 (dk_at dksX4_types_1 22 rfl rfl)
theorem dX4_types_46 : decode cX4_types 46 = .ok (.invokevirtual 74, 3) := dk_182 0 74 (dk_at dksX4_types_2 0 rfl rfl)
theorem dX4_types_49 : decode cX4_types 49 = .ok (.iload 7, 2) := dk_21 7 (dk_at dksX4_types_2 3 rfl rfl)
theorem dX4_types_51 : decode cX4_types 51 = .ok (.istore 4, 2) := dk_54 4 (dk_at dksX4_types_2 5 rfl rfl)
theorem dX4_types_53 : decode cX4_types 53 = .ok (.iconst 2, 1) := dk_5 (dk_at dksX4_types_2 7 rfl rfl)
theorem dX4_types_54 : decode cX4_types 54 = .ok (.iload_n 3, 1) := dk_29 (dk_at dksX4_types_2 8 rfl rfl)
theorem dX4_types_55 : decode cX4_types 55 = .ok (.imul, 1) := dk_104 (dk_at dksX4_types_2 9 rfl rfl)
theorem dX4_types_56 : decode cX4_types 56 = .ok (.iconst 1, 1) := dk_4 (dk_at dksX4_types_2 10 rfl rfl)
theorem dX4_types_57 : decode cX4_types 57 = .ok (.iadd, 1) := dk_96 (dk_at dksX4_types_2 11 rfl rfl)
theorem dX4_types_58 : decode cX4_types 58 = .ok (.iload 6, 2) := dk_21 6 (dk_at dksX4_types_2 12 rfl rfl)
theorem dX4_types_60 : decode cX4_types 60 = .ok (.iadd, 1) := dk_96 (dk_at dksX4_types_2 14 rfl rfl)
theorem dX4_types_61 : decode cX4_types 61 = .ok (.istore_n 3, 1) := dk_62 (dk_at dksX4_types_2 15 rfl rfl)
theorem dX4_types_62 : decode cX4_types 62 = .ok (.iinc 5 (-1), 3) := dk_132 5 255 (dk_at dksX4_types_2 16 rfl rfl)
theorem dX4_types_65 : decode cX4_types 65 = .ok (.goto (-57), 3) := dk_167 255 199 (dk_at dksX4_types_2 19 rfl rfl)
theorem dX4_types_68 : decode cX4_types 68 = .ok (.return_, 1) := dk_177 (dk_at dksX4_types_2 22 rfl rfl)
abbrev cX4_unpack : ByteArray := prog_21_method_5_code
def yX4_unpack : MethodName := ⟨RX4, "unpack", "([LBitRopes$Packed;)V"⟩
def dkwX4_unpack_2 : List UInt8 := [167, 255, 213, 177]
abbrev dktX4_unpack_2 : List UInt8 := dkwX4_unpack_2 ++ []
def dkwX4_unpack_1 : List UInt8 := [182, 0, 45, 167, 0, 17, 42, 180, 0, 17, 28, 7, 100, 50, 43, 28, 50, 182, 0, 45, 132, 2, 1]
abbrev dktX4_unpack_1 : List UInt8 := dkwX4_unpack_1 ++ dktX4_unpack_2
def dkwX4_unpack_0 : List UInt8 := [3, 61, 28, 43, 190, 162, 0, 43, 28, 7, 162, 0, 18, 42, 180, 0, 11, 28, 50, 43, 28, 50]
abbrev dktX4_unpack_0 : List UInt8 := dkwX4_unpack_0 ++ dktX4_unpack_1
theorem dksX4_unpack_0 : cX4_unpack.data.toList.drop 0 = dktX4_unpack_0 := by decide +kernel
theorem dksX4_unpack_1 : cX4_unpack.data.toList.drop 22 = dktX4_unpack_1 := dk_seg dksX4_unpack_0 22 rfl rfl
theorem dksX4_unpack_2 : cX4_unpack.data.toList.drop 45 = dktX4_unpack_2 := dk_seg dksX4_unpack_1 23 rfl rfl
theorem dX4_unpack_0 : decode cX4_unpack 0 = .ok (.iconst 0, 1) := dk_3 (dk_at dksX4_unpack_0 0 rfl rfl)
theorem dX4_unpack_1 : decode cX4_unpack 1 = .ok (.istore_n 2, 1) := dk_61 (dk_at dksX4_unpack_0 1 rfl rfl)
theorem dX4_unpack_2 : decode cX4_unpack 2 = .ok (.iload_n 2, 1) := dk_28 (dk_at dksX4_unpack_0 2 rfl rfl)
theorem dX4_unpack_3 : decode cX4_unpack 3 = .ok (.aload_n 1, 1) := dk_43 (dk_at dksX4_unpack_0 3 rfl rfl)
theorem dX4_unpack_4 : decode cX4_unpack 4 = .ok (.arraylength, 1) := dk_190 (dk_at dksX4_unpack_0 4 rfl rfl)
theorem dX4_unpack_5 : decode cX4_unpack 5 = .ok (.if_icmp .ge 43, 3) := dk_162 0 43 (dk_at dksX4_unpack_0 5 rfl rfl)
theorem dX4_unpack_8 : decode cX4_unpack 8 = .ok (.iload_n 2, 1) := dk_28 (dk_at dksX4_unpack_0 8 rfl rfl)
theorem dX4_unpack_9 : decode cX4_unpack 9 = .ok (.iconst 4, 1) := dk_7 (dk_at dksX4_unpack_0 9 rfl rfl)
theorem dX4_unpack_10 : decode cX4_unpack 10 = .ok (.if_icmp .ge 18, 3) := dk_162 0 18 (dk_at dksX4_unpack_0 10 rfl rfl)
theorem dX4_unpack_13 : decode cX4_unpack 13 = .ok (.aload_n 0, 1) := dk_42 (dk_at dksX4_unpack_0 13 rfl rfl)
theorem dX4_unpack_14 : decode cX4_unpack 14 = .ok (.getfield 11, 3) := dk_180 0 11 (dk_at dksX4_unpack_0 14 rfl rfl)
theorem dX4_unpack_17 : decode cX4_unpack 17 = .ok (.iload_n 2, 1) := dk_28 (dk_at dksX4_unpack_0 17 rfl rfl)
theorem dX4_unpack_18 : decode cX4_unpack 18 = .ok (.aaload, 1) := dk_50 (dk_at dksX4_unpack_0 18 rfl rfl)
theorem dX4_unpack_19 : decode cX4_unpack 19 = .ok (.aload_n 1, 1) := dk_43 (dk_at dksX4_unpack_0 19 rfl rfl)
theorem dX4_unpack_20 : decode cX4_unpack 20 = .ok (.iload_n 2, 1) := dk_28 (dk_at dksX4_unpack_0 20 rfl rfl)
theorem dX4_unpack_21 : decode cX4_unpack 21 = .ok (.aaload, 1) := dk_50 (dk_at dksX4_unpack_0 21 rfl rfl)
theorem dX4_unpack_22 : decode cX4_unpack 22 = .ok (.invokevirtual 45, 3) := dk_182 0 45 (dk_at dksX4_unpack_1 0 rfl rfl)
theorem dX4_unpack_25 : decode cX4_unpack 25 = .ok (.goto 17, 3) := dk_167 0 17 (dk_at dksX4_unpack_1 3 rfl rfl)
theorem dX4_unpack_28 : decode cX4_unpack 28 = .ok (.aload_n 0, 1) := dk_42 (dk_at dksX4_unpack_1 6 rfl rfl)
theorem dX4_unpack_29 : decode cX4_unpack 29 = .ok (.getfield 17, 3) := dk_180 0 17 (dk_at dksX4_unpack_1 7 rfl rfl)
theorem dX4_unpack_32 : decode cX4_unpack 32 = .ok (.iload_n 2, 1) := dk_28 (dk_at dksX4_unpack_1 10 rfl rfl)
theorem dX4_unpack_33 : decode cX4_unpack 33 = .ok (.iconst 4, 1) := dk_7 (dk_at dksX4_unpack_1 11 rfl rfl)
theorem dX4_unpack_34 : decode cX4_unpack 34 = .ok (.isub, 1) := dk_100 (dk_at dksX4_unpack_1 12 rfl rfl)
theorem dX4_unpack_35 : decode cX4_unpack 35 = .ok (.aaload, 1) := dk_50 (dk_at dksX4_unpack_1 13 rfl rfl)
theorem dX4_unpack_36 : decode cX4_unpack 36 = .ok (.aload_n 1, 1) := dk_43 (dk_at dksX4_unpack_1 14 rfl rfl)
theorem dX4_unpack_37 : decode cX4_unpack 37 = .ok (.iload_n 2, 1) := dk_28 (dk_at dksX4_unpack_1 15 rfl rfl)
theorem dX4_unpack_38 : decode cX4_unpack 38 = .ok (.aaload, 1) := dk_50 (dk_at dksX4_unpack_1 16 rfl rfl)
theorem dX4_unpack_39 : decode cX4_unpack 39 = .ok (.invokevirtual 45, 3) := dk_182 0 45 (dk_at dksX4_unpack_1 17 rfl rfl)
theorem dX4_unpack_42 : decode cX4_unpack 42 = .ok (.iinc 2 1, 3) := dk_132 2 1 (dk_at dksX4_unpack_1 20 rfl rfl)
theorem dX4_unpack_45 : decode cX4_unpack 45 = .ok (.goto (-43), 3) := dk_167 255 213 (dk_at dksX4_unpack_2 0 rfl rfl)
theorem dX4_unpack_48 : decode cX4_unpack 48 = .ok (.return_, 1) := dk_177 (dk_at dksX4_unpack_2 3 rfl rfl)
abbrev cX4_whyNot : ByteArray := prog_21_method_14_code
def yX4_whyNot : MethodName := ⟨RX4, "whyNot", "(IIII)I"⟩
def dkwX4_whyNot_12 : List UInt8 := [21, 4, 96, 42, 182, 0, 61, 164, 0, 7, 4, 167, 0, 4, 3, 172]
abbrev dktX4_whyNot_12 : List UInt8 := dkwX4_whyNot_12 ++ []
def dkwX4_whyNot_11 : List UInt8 := [164, 0, 7, 4, 167, 0, 18, 42, 182, 0, 61, 17, 0, 200, 160, 0, 7, 5, 167, 0, 4, 3, 172, 29]
abbrev dktX4_whyNot_11 : List UInt8 := dkwX4_whyNot_11 ++ dktX4_whyNot_12
def dkwX4_whyNot_10 : List UInt8 := [182, 0, 49, 96, 29, 100, 17, 2, 88, 164, 0, 7, 5, 167, 0, 4, 3, 172, 29, 42, 182, 0, 61]
abbrev dktX4_whyNot_10 : List UInt8 := dkwX4_whyNot_10 ++ dktX4_whyNot_11
def dkwX4_whyNot_9 : List UInt8 := [161, 0, 7, 4, 167, 0, 36, 42, 180, 0, 11, 21, 4, 50, 182, 0, 49, 42, 180, 0, 11, 28, 50]
abbrev dktX4_whyNot_9 : List UInt8 := dkwX4_whyNot_9 ++ dktX4_whyNot_10
def dkwX4_whyNot_8 : List UInt8 := [17, 2, 88, 164, 0, 7, 5, 167, 0, 4, 3, 172, 29, 42, 180, 0, 11, 28, 50, 182, 0, 49]
abbrev dktX4_whyNot_8 : List UInt8 := dkwX4_whyNot_8 ++ dktX4_whyNot_9
def dkwX4_whyNot_7 : List UInt8 := [167, 0, 34, 42, 180, 0, 11, 28, 50, 182, 0, 49, 42, 180, 0, 11, 21, 4, 50, 182, 0, 49, 96]
abbrev dktX4_whyNot_7 : List UInt8 := dkwX4_whyNot_7 ++ dktX4_whyNot_8
def dkwX4_whyNot_6 : List UInt8 := [164, 0, 7, 4, 167, 0, 4, 3, 172, 42, 180, 0, 11, 21, 4, 50, 182, 0, 49, 154, 0, 7, 4]
abbrev dktX4_whyNot_6 : List UInt8 := dkwX4_whyNot_6 ++ dktX4_whyNot_7
def dkwX4_whyNot_5 : List UInt8 := [160, 0, 7, 5, 167, 0, 4, 3, 172, 29, 21, 4, 96, 42, 180, 0, 11, 28, 50, 182, 0, 49]
abbrev dktX4_whyNot_5 : List UInt8 := dkwX4_whyNot_5 ++ dktX4_whyNot_6
def dkwX4_whyNot_4 : List UInt8 := [182, 0, 49, 161, 0, 7, 4, 167, 0, 23, 42, 180, 0, 11, 28, 50, 29, 182, 0, 53, 21, 4]
abbrev dktX4_whyNot_4 : List UInt8 := dkwX4_whyNot_4 ++ dktX4_whyNot_5
def dkwX4_whyNot_3 : List UInt8 := [182, 0, 49, 17, 2, 88, 160, 0, 7, 5, 167, 0, 4, 3, 172, 29, 42, 180, 0, 11, 28, 50]
abbrev dktX4_whyNot_3 : List UInt8 := dkwX4_whyNot_3 ++ dktX4_whyNot_4
def dkwX4_whyNot_2 : List UInt8 := [29, 42, 180, 0, 11, 28, 50, 182, 0, 49, 164, 0, 7, 4, 167, 0, 23, 42, 180, 0, 11, 28, 50]
abbrev dktX4_whyNot_2 : List UInt8 := dkwX4_whyNot_2 ++ dktX4_whyNot_3
def dkwX4_whyNot_1 : List UInt8 := [170, 0, 0, 0, 0, 1, 13, 0, 0, 0, 0, 0, 0, 0, 6, 0, 0, 0, 43, 0, 0, 0, 81, 0, 0, 0, 119, 0, 0, 0, 119, 0, 0, 0, 141, 0, 0, 0, 190, 0, 0, 0, 241]
abbrev dktX4_whyNot_1 : List UInt8 := dkwX4_whyNot_1 ++ dktX4_whyNot_2
def dkwX4_whyNot_0 : List UInt8 := [27]
abbrev dktX4_whyNot_0 : List UInt8 := dkwX4_whyNot_0 ++ dktX4_whyNot_1
theorem dksX4_whyNot_0 : cX4_whyNot.data.toList.drop 0 = dktX4_whyNot_0 := by decide +kernel
theorem dksX4_whyNot_1 : cX4_whyNot.data.toList.drop 1 = dktX4_whyNot_1 := dk_seg dksX4_whyNot_0 1 rfl rfl
theorem dksX4_whyNot_2 : cX4_whyNot.data.toList.drop 44 = dktX4_whyNot_2 := dk_seg dksX4_whyNot_1 43 rfl rfl
theorem dksX4_whyNot_3 : cX4_whyNot.data.toList.drop 67 = dktX4_whyNot_3 := dk_seg dksX4_whyNot_2 23 rfl rfl
theorem dksX4_whyNot_4 : cX4_whyNot.data.toList.drop 89 = dktX4_whyNot_4 := dk_seg dksX4_whyNot_3 22 rfl rfl
theorem dksX4_whyNot_5 : cX4_whyNot.data.toList.drop 111 = dktX4_whyNot_5 := dk_seg dksX4_whyNot_4 22 rfl rfl
theorem dksX4_whyNot_6 : cX4_whyNot.data.toList.drop 133 = dktX4_whyNot_6 := dk_seg dksX4_whyNot_5 22 rfl rfl
theorem dksX4_whyNot_7 : cX4_whyNot.data.toList.drop 156 = dktX4_whyNot_7 := dk_seg dksX4_whyNot_6 23 rfl rfl
theorem dksX4_whyNot_8 : cX4_whyNot.data.toList.drop 179 = dktX4_whyNot_8 := dk_seg dksX4_whyNot_7 23 rfl rfl
theorem dksX4_whyNot_9 : cX4_whyNot.data.toList.drop 201 = dktX4_whyNot_9 := dk_seg dksX4_whyNot_8 22 rfl rfl
theorem dksX4_whyNot_10 : cX4_whyNot.data.toList.drop 224 = dktX4_whyNot_10 := dk_seg dksX4_whyNot_9 23 rfl rfl
theorem dksX4_whyNot_11 : cX4_whyNot.data.toList.drop 247 = dktX4_whyNot_11 := dk_seg dksX4_whyNot_10 23 rfl rfl
theorem dksX4_whyNot_12 : cX4_whyNot.data.toList.drop 271 = dktX4_whyNot_12 := dk_seg dksX4_whyNot_11 24 rfl rfl
theorem dX4_whyNot_0 : decode cX4_whyNot 0 = .ok (.iload_n 1, 1) := dk_27 (dk_at dksX4_whyNot_0 0 rfl rfl)
theorem dX4_whyNot_1 : decode cX4_whyNot 1 = .ok (.tableswitch 269 0 6 #[43, 81, 119, 119, 141, 190, 241], 43) := by decide +kernel
theorem dX4_whyNot_44 : decode cX4_whyNot 44 = .ok (.iload_n 3, 1) := dk_29 (dk_at dksX4_whyNot_2 0 rfl rfl)
theorem dX4_whyNot_45 : decode cX4_whyNot 45 = .ok (.aload_n 0, 1) := dk_42 (dk_at dksX4_whyNot_2 1 rfl rfl)
theorem dX4_whyNot_46 : decode cX4_whyNot 46 = .ok (.getfield 11, 3) := dk_180 0 11 (dk_at dksX4_whyNot_2 2 rfl rfl)
theorem dX4_whyNot_49 : decode cX4_whyNot 49 = .ok (.iload_n 2, 1) := dk_28 (dk_at dksX4_whyNot_2 5 rfl rfl)
theorem dX4_whyNot_50 : decode cX4_whyNot 50 = .ok (.aaload, 1) := dk_50 (dk_at dksX4_whyNot_2 6 rfl rfl)
theorem dX4_whyNot_51 : decode cX4_whyNot 51 = .ok (.invokevirtual 49, 3) := dk_182 0 49 (dk_at dksX4_whyNot_2 7 rfl rfl)
theorem dX4_whyNot_54 : decode cX4_whyNot 54 = .ok (.if_icmp .le 7, 3) := dk_164 0 7 (dk_at dksX4_whyNot_2 10 rfl rfl)
theorem dX4_whyNot_57 : decode cX4_whyNot 57 = .ok (.iconst 1, 1) := dk_4 (dk_at dksX4_whyNot_2 13 rfl rfl)
theorem dX4_whyNot_58 : decode cX4_whyNot 58 = .ok (.goto 23, 3) := dk_167 0 23 (dk_at dksX4_whyNot_2 14 rfl rfl)
theorem dX4_whyNot_61 : decode cX4_whyNot 61 = .ok (.aload_n 0, 1) := dk_42 (dk_at dksX4_whyNot_2 17 rfl rfl)
theorem dX4_whyNot_62 : decode cX4_whyNot 62 = .ok (.getfield 11, 3) := dk_180 0 11 (dk_at dksX4_whyNot_2 18 rfl rfl)
theorem dX4_whyNot_65 : decode cX4_whyNot 65 = .ok (.iload_n 2, 1) := dk_28 (dk_at dksX4_whyNot_2 21 rfl rfl)
theorem dX4_whyNot_66 : decode cX4_whyNot 66 = .ok (.aaload, 1) := dk_50 (dk_at dksX4_whyNot_2 22 rfl rfl)
theorem dX4_whyNot_67 : decode cX4_whyNot 67 = .ok (.invokevirtual 49, 3) := dk_182 0 49 (dk_at dksX4_whyNot_3 0 rfl rfl)
theorem dX4_whyNot_70 : decode cX4_whyNot 70 = .ok (.sipush 600, 3) := dk_17 2 88 (dk_at dksX4_whyNot_3 3 rfl rfl)
theorem dX4_whyNot_73 : decode cX4_whyNot 73 = .ok (.if_icmp .ne 7, 3) := dk_160 0 7 (dk_at dksX4_whyNot_3 6 rfl rfl)
theorem dX4_whyNot_76 : decode cX4_whyNot 76 = .ok (.iconst 2, 1) := dk_5 (dk_at dksX4_whyNot_3 9 rfl rfl)
theorem dX4_whyNot_77 : decode cX4_whyNot 77 = .ok (.goto 4, 3) := dk_167 0 4 (dk_at dksX4_whyNot_3 10 rfl rfl)
theorem dX4_whyNot_80 : decode cX4_whyNot 80 = .ok (.iconst 0, 1) := dk_3 (dk_at dksX4_whyNot_3 13 rfl rfl)
theorem dX4_whyNot_81 : decode cX4_whyNot 81 = .ok (.ireturn, 1) := dk_172 (dk_at dksX4_whyNot_3 14 rfl rfl)
theorem dX4_whyNot_82 : decode cX4_whyNot 82 = .ok (.iload_n 3, 1) := dk_29 (dk_at dksX4_whyNot_3 15 rfl rfl)
theorem dX4_whyNot_83 : decode cX4_whyNot 83 = .ok (.aload_n 0, 1) := dk_42 (dk_at dksX4_whyNot_3 16 rfl rfl)
theorem dX4_whyNot_84 : decode cX4_whyNot 84 = .ok (.getfield 11, 3) := dk_180 0 11 (dk_at dksX4_whyNot_3 17 rfl rfl)
theorem dX4_whyNot_87 : decode cX4_whyNot 87 = .ok (.iload_n 2, 1) := dk_28 (dk_at dksX4_whyNot_3 20 rfl rfl)
theorem dX4_whyNot_88 : decode cX4_whyNot 88 = .ok (.aaload, 1) := dk_50 (dk_at dksX4_whyNot_3 21 rfl rfl)
theorem dX4_whyNot_89 : decode cX4_whyNot 89 = .ok (.invokevirtual 49, 3) := dk_182 0 49 (dk_at dksX4_whyNot_4 0 rfl rfl)
theorem dX4_whyNot_92 : decode cX4_whyNot 92 = .ok (.if_icmp .lt 7, 3) := dk_161 0 7 (dk_at dksX4_whyNot_4 3 rfl rfl)
theorem dX4_whyNot_95 : decode cX4_whyNot 95 = .ok (.iconst 1, 1) := dk_4 (dk_at dksX4_whyNot_4 6 rfl rfl)
theorem dX4_whyNot_96 : decode cX4_whyNot 96 = .ok (.goto 23, 3) := dk_167 0 23 (dk_at dksX4_whyNot_4 7 rfl rfl)
theorem dX4_whyNot_99 : decode cX4_whyNot 99 = .ok (.aload_n 0, 1) := dk_42 (dk_at dksX4_whyNot_4 10 rfl rfl)
theorem dX4_whyNot_100 : decode cX4_whyNot 100 = .ok (.getfield 11, 3) := dk_180 0 11 (dk_at dksX4_whyNot_4 11 rfl rfl)
theorem dX4_whyNot_103 : decode cX4_whyNot 103 = .ok (.iload_n 2, 1) := dk_28 (dk_at dksX4_whyNot_4 14 rfl rfl)
theorem dX4_whyNot_104 : decode cX4_whyNot 104 = .ok (.aaload, 1) := dk_50 (dk_at dksX4_whyNot_4 15 rfl rfl)
theorem dX4_whyNot_105 : decode cX4_whyNot 105 = .ok (.iload_n 3, 1) := dk_29 (dk_at dksX4_whyNot_4 16 rfl rfl)
theorem dX4_whyNot_106 : decode cX4_whyNot 106 = .ok (.invokevirtual 53, 3) := dk_182 0 53 (dk_at dksX4_whyNot_4 17 rfl rfl)
theorem dX4_whyNot_109 : decode cX4_whyNot 109 = .ok (.iload 4, 2) := dk_21 4 (dk_at dksX4_whyNot_4 20 rfl rfl)
theorem dX4_whyNot_111 : decode cX4_whyNot 111 = .ok (.if_icmp .ne 7, 3) := dk_160 0 7 (dk_at dksX4_whyNot_5 0 rfl rfl)
theorem dX4_whyNot_114 : decode cX4_whyNot 114 = .ok (.iconst 2, 1) := dk_5 (dk_at dksX4_whyNot_5 3 rfl rfl)
theorem dX4_whyNot_115 : decode cX4_whyNot 115 = .ok (.goto 4, 3) := dk_167 0 4 (dk_at dksX4_whyNot_5 4 rfl rfl)
theorem dX4_whyNot_118 : decode cX4_whyNot 118 = .ok (.iconst 0, 1) := dk_3 (dk_at dksX4_whyNot_5 7 rfl rfl)
theorem dX4_whyNot_119 : decode cX4_whyNot 119 = .ok (.ireturn, 1) := dk_172 (dk_at dksX4_whyNot_5 8 rfl rfl)
theorem dX4_whyNot_120 : decode cX4_whyNot 120 = .ok (.iload_n 3, 1) := dk_29 (dk_at dksX4_whyNot_5 9 rfl rfl)
theorem dX4_whyNot_121 : decode cX4_whyNot 121 = .ok (.iload 4, 2) := dk_21 4 (dk_at dksX4_whyNot_5 10 rfl rfl)
theorem dX4_whyNot_123 : decode cX4_whyNot 123 = .ok (.iadd, 1) := dk_96 (dk_at dksX4_whyNot_5 12 rfl rfl)
theorem dX4_whyNot_124 : decode cX4_whyNot 124 = .ok (.aload_n 0, 1) := dk_42 (dk_at dksX4_whyNot_5 13 rfl rfl)
theorem dX4_whyNot_125 : decode cX4_whyNot 125 = .ok (.getfield 11, 3) := dk_180 0 11 (dk_at dksX4_whyNot_5 14 rfl rfl)
theorem dX4_whyNot_128 : decode cX4_whyNot 128 = .ok (.iload_n 2, 1) := dk_28 (dk_at dksX4_whyNot_5 17 rfl rfl)
theorem dX4_whyNot_129 : decode cX4_whyNot 129 = .ok (.aaload, 1) := dk_50 (dk_at dksX4_whyNot_5 18 rfl rfl)
theorem dX4_whyNot_130 : decode cX4_whyNot 130 = .ok (.invokevirtual 49, 3) := dk_182 0 49 (dk_at dksX4_whyNot_5 19 rfl rfl)
theorem dX4_whyNot_133 : decode cX4_whyNot 133 = .ok (.if_icmp .le 7, 3) := dk_164 0 7 (dk_at dksX4_whyNot_6 0 rfl rfl)
theorem dX4_whyNot_136 : decode cX4_whyNot 136 = .ok (.iconst 1, 1) := dk_4 (dk_at dksX4_whyNot_6 3 rfl rfl)
theorem dX4_whyNot_137 : decode cX4_whyNot 137 = .ok (.goto 4, 3) := dk_167 0 4 (dk_at dksX4_whyNot_6 4 rfl rfl)
theorem dX4_whyNot_140 : decode cX4_whyNot 140 = .ok (.iconst 0, 1) := dk_3 (dk_at dksX4_whyNot_6 7 rfl rfl)
theorem dX4_whyNot_141 : decode cX4_whyNot 141 = .ok (.ireturn, 1) := dk_172 (dk_at dksX4_whyNot_6 8 rfl rfl)
theorem dX4_whyNot_142 : decode cX4_whyNot 142 = .ok (.aload_n 0, 1) := dk_42 (dk_at dksX4_whyNot_6 9 rfl rfl)
theorem dX4_whyNot_143 : decode cX4_whyNot 143 = .ok (.getfield 11, 3) := dk_180 0 11 (dk_at dksX4_whyNot_6 10 rfl rfl)
theorem dX4_whyNot_146 : decode cX4_whyNot 146 = .ok (.iload 4, 2) := dk_21 4 (dk_at dksX4_whyNot_6 13 rfl rfl)
theorem dX4_whyNot_148 : decode cX4_whyNot 148 = .ok (.aaload, 1) := dk_50 (dk_at dksX4_whyNot_6 15 rfl rfl)
theorem dX4_whyNot_149 : decode cX4_whyNot 149 = .ok (.invokevirtual 49, 3) := dk_182 0 49 (dk_at dksX4_whyNot_6 16 rfl rfl)
theorem dX4_whyNot_152 : decode cX4_whyNot 152 = .ok (.ifCond .ne 7, 3) := dk_154 0 7 (dk_at dksX4_whyNot_6 19 rfl rfl)
theorem dX4_whyNot_155 : decode cX4_whyNot 155 = .ok (.iconst 1, 1) := dk_4 (dk_at dksX4_whyNot_6 22 rfl rfl)
theorem dX4_whyNot_156 : decode cX4_whyNot 156 = .ok (.goto 34, 3) := dk_167 0 34 (dk_at dksX4_whyNot_7 0 rfl rfl)
theorem dX4_whyNot_159 : decode cX4_whyNot 159 = .ok (.aload_n 0, 1) := dk_42 (dk_at dksX4_whyNot_7 3 rfl rfl)
theorem dX4_whyNot_160 : decode cX4_whyNot 160 = .ok (.getfield 11, 3) := dk_180 0 11 (dk_at dksX4_whyNot_7 4 rfl rfl)
theorem dX4_whyNot_163 : decode cX4_whyNot 163 = .ok (.iload_n 2, 1) := dk_28 (dk_at dksX4_whyNot_7 7 rfl rfl)
theorem dX4_whyNot_164 : decode cX4_whyNot 164 = .ok (.aaload, 1) := dk_50 (dk_at dksX4_whyNot_7 8 rfl rfl)
theorem dX4_whyNot_165 : decode cX4_whyNot 165 = .ok (.invokevirtual 49, 3) := dk_182 0 49 (dk_at dksX4_whyNot_7 9 rfl rfl)
theorem dX4_whyNot_168 : decode cX4_whyNot 168 = .ok (.aload_n 0, 1) := dk_42 (dk_at dksX4_whyNot_7 12 rfl rfl)
theorem dX4_whyNot_169 : decode cX4_whyNot 169 = .ok (.getfield 11, 3) := dk_180 0 11 (dk_at dksX4_whyNot_7 13 rfl rfl)
theorem dX4_whyNot_172 : decode cX4_whyNot 172 = .ok (.iload 4, 2) := dk_21 4 (dk_at dksX4_whyNot_7 16 rfl rfl)
theorem dX4_whyNot_174 : decode cX4_whyNot 174 = .ok (.aaload, 1) := dk_50 (dk_at dksX4_whyNot_7 18 rfl rfl)
theorem dX4_whyNot_175 : decode cX4_whyNot 175 = .ok (.invokevirtual 49, 3) := dk_182 0 49 (dk_at dksX4_whyNot_7 19 rfl rfl)
theorem dX4_whyNot_178 : decode cX4_whyNot 178 = .ok (.iadd, 1) := dk_96 (dk_at dksX4_whyNot_7 22 rfl rfl)
theorem dX4_whyNot_179 : decode cX4_whyNot 179 = .ok (.sipush 600, 3) := dk_17 2 88 (dk_at dksX4_whyNot_8 0 rfl rfl)
theorem dX4_whyNot_182 : decode cX4_whyNot 182 = .ok (.if_icmp .le 7, 3) := dk_164 0 7 (dk_at dksX4_whyNot_8 3 rfl rfl)
theorem dX4_whyNot_185 : decode cX4_whyNot 185 = .ok (.iconst 2, 1) := dk_5 (dk_at dksX4_whyNot_8 6 rfl rfl)
theorem dX4_whyNot_186 : decode cX4_whyNot 186 = .ok (.goto 4, 3) := dk_167 0 4 (dk_at dksX4_whyNot_8 7 rfl rfl)
theorem dX4_whyNot_189 : decode cX4_whyNot 189 = .ok (.iconst 0, 1) := dk_3 (dk_at dksX4_whyNot_8 10 rfl rfl)
theorem dX4_whyNot_190 : decode cX4_whyNot 190 = .ok (.ireturn, 1) := dk_172 (dk_at dksX4_whyNot_8 11 rfl rfl)
theorem dX4_whyNot_191 : decode cX4_whyNot 191 = .ok (.iload_n 3, 1) := dk_29 (dk_at dksX4_whyNot_8 12 rfl rfl)
theorem dX4_whyNot_192 : decode cX4_whyNot 192 = .ok (.aload_n 0, 1) := dk_42 (dk_at dksX4_whyNot_8 13 rfl rfl)
theorem dX4_whyNot_193 : decode cX4_whyNot 193 = .ok (.getfield 11, 3) := dk_180 0 11 (dk_at dksX4_whyNot_8 14 rfl rfl)
theorem dX4_whyNot_196 : decode cX4_whyNot 196 = .ok (.iload_n 2, 1) := dk_28 (dk_at dksX4_whyNot_8 17 rfl rfl)
theorem dX4_whyNot_197 : decode cX4_whyNot 197 = .ok (.aaload, 1) := dk_50 (dk_at dksX4_whyNot_8 18 rfl rfl)
theorem dX4_whyNot_198 : decode cX4_whyNot 198 = .ok (.invokevirtual 49, 3) := dk_182 0 49 (dk_at dksX4_whyNot_8 19 rfl rfl)
theorem dX4_whyNot_201 : decode cX4_whyNot 201 = .ok (.if_icmp .lt 7, 3) := dk_161 0 7 (dk_at dksX4_whyNot_9 0 rfl rfl)
theorem dX4_whyNot_204 : decode cX4_whyNot 204 = .ok (.iconst 1, 1) := dk_4 (dk_at dksX4_whyNot_9 3 rfl rfl)
theorem dX4_whyNot_205 : decode cX4_whyNot 205 = .ok (.goto 36, 3) := dk_167 0 36 (dk_at dksX4_whyNot_9 4 rfl rfl)
theorem dX4_whyNot_208 : decode cX4_whyNot 208 = .ok (.aload_n 0, 1) := dk_42 (dk_at dksX4_whyNot_9 7 rfl rfl)
theorem dX4_whyNot_209 : decode cX4_whyNot 209 = .ok (.getfield 11, 3) := dk_180 0 11 (dk_at dksX4_whyNot_9 8 rfl rfl)
theorem dX4_whyNot_212 : decode cX4_whyNot 212 = .ok (.iload 4, 2) := dk_21 4 (dk_at dksX4_whyNot_9 11 rfl rfl)
theorem dX4_whyNot_214 : decode cX4_whyNot 214 = .ok (.aaload, 1) := dk_50 (dk_at dksX4_whyNot_9 13 rfl rfl)
theorem dX4_whyNot_215 : decode cX4_whyNot 215 = .ok (.invokevirtual 49, 3) := dk_182 0 49 (dk_at dksX4_whyNot_9 14 rfl rfl)
theorem dX4_whyNot_218 : decode cX4_whyNot 218 = .ok (.aload_n 0, 1) := dk_42 (dk_at dksX4_whyNot_9 17 rfl rfl)
theorem dX4_whyNot_219 : decode cX4_whyNot 219 = .ok (.getfield 11, 3) := dk_180 0 11 (dk_at dksX4_whyNot_9 18 rfl rfl)
theorem dX4_whyNot_222 : decode cX4_whyNot 222 = .ok (.iload_n 2, 1) := dk_28 (dk_at dksX4_whyNot_9 21 rfl rfl)
theorem dX4_whyNot_223 : decode cX4_whyNot 223 = .ok (.aaload, 1) := dk_50 (dk_at dksX4_whyNot_9 22 rfl rfl)
theorem dX4_whyNot_224 : decode cX4_whyNot 224 = .ok (.invokevirtual 49, 3) := dk_182 0 49 (dk_at dksX4_whyNot_10 0 rfl rfl)
theorem dX4_whyNot_227 : decode cX4_whyNot 227 = .ok (.iadd, 1) := dk_96 (dk_at dksX4_whyNot_10 3 rfl rfl)
theorem dX4_whyNot_228 : decode cX4_whyNot 228 = .ok (.iload_n 3, 1) := dk_29 (dk_at dksX4_whyNot_10 4 rfl rfl)
theorem dX4_whyNot_229 : decode cX4_whyNot 229 = .ok (.isub, 1) := dk_100 (dk_at dksX4_whyNot_10 5 rfl rfl)
theorem dX4_whyNot_230 : decode cX4_whyNot 230 = .ok (.sipush 600, 3) := dk_17 2 88 (dk_at dksX4_whyNot_10 6 rfl rfl)
theorem dX4_whyNot_233 : decode cX4_whyNot 233 = .ok (.if_icmp .le 7, 3) := dk_164 0 7 (dk_at dksX4_whyNot_10 9 rfl rfl)
theorem dX4_whyNot_236 : decode cX4_whyNot 236 = .ok (.iconst 2, 1) := dk_5 (dk_at dksX4_whyNot_10 12 rfl rfl)
theorem dX4_whyNot_237 : decode cX4_whyNot 237 = .ok (.goto 4, 3) := dk_167 0 4 (dk_at dksX4_whyNot_10 13 rfl rfl)
theorem dX4_whyNot_240 : decode cX4_whyNot 240 = .ok (.iconst 0, 1) := dk_3 (dk_at dksX4_whyNot_10 16 rfl rfl)
theorem dX4_whyNot_241 : decode cX4_whyNot 241 = .ok (.ireturn, 1) := dk_172 (dk_at dksX4_whyNot_10 17 rfl rfl)
theorem dX4_whyNot_242 : decode cX4_whyNot 242 = .ok (.iload_n 3, 1) := dk_29 (dk_at dksX4_whyNot_10 18 rfl rfl)
theorem dX4_whyNot_243 : decode cX4_whyNot 243 = .ok (.aload_n 0, 1) := dk_42 (dk_at dksX4_whyNot_10 19 rfl rfl)
theorem dX4_whyNot_244 : decode cX4_whyNot 244 = .ok (.invokevirtual 61, 3) := dk_182 0 61 (dk_at dksX4_whyNot_10 20 rfl rfl)
theorem dX4_whyNot_247 : decode cX4_whyNot 247 = .ok (.if_icmp .le 7, 3) := dk_164 0 7 (dk_at dksX4_whyNot_11 0 rfl rfl)
theorem dX4_whyNot_250 : decode cX4_whyNot 250 = .ok (.iconst 1, 1) := dk_4 (dk_at dksX4_whyNot_11 3 rfl rfl)
theorem dX4_whyNot_251 : decode cX4_whyNot 251 = .ok (.goto 18, 3) := dk_167 0 18 (dk_at dksX4_whyNot_11 4 rfl rfl)
theorem dX4_whyNot_254 : decode cX4_whyNot 254 = .ok (.aload_n 0, 1) := dk_42 (dk_at dksX4_whyNot_11 7 rfl rfl)
theorem dX4_whyNot_255 : decode cX4_whyNot 255 = .ok (.invokevirtual 61, 3) := dk_182 0 61 (dk_at dksX4_whyNot_11 8 rfl rfl)
theorem dX4_whyNot_258 : decode cX4_whyNot 258 = .ok (.sipush 200, 3) := dk_17 0 200 (dk_at dksX4_whyNot_11 11 rfl rfl)
theorem dX4_whyNot_261 : decode cX4_whyNot 261 = .ok (.if_icmp .ne 7, 3) := dk_160 0 7 (dk_at dksX4_whyNot_11 14 rfl rfl)
theorem dX4_whyNot_264 : decode cX4_whyNot 264 = .ok (.iconst 2, 1) := dk_5 (dk_at dksX4_whyNot_11 17 rfl rfl)
theorem dX4_whyNot_265 : decode cX4_whyNot 265 = .ok (.goto 4, 3) := dk_167 0 4 (dk_at dksX4_whyNot_11 18 rfl rfl)
theorem dX4_whyNot_268 : decode cX4_whyNot 268 = .ok (.iconst 0, 1) := dk_3 (dk_at dksX4_whyNot_11 21 rfl rfl)
theorem dX4_whyNot_269 : decode cX4_whyNot 269 = .ok (.ireturn, 1) := dk_172 (dk_at dksX4_whyNot_11 22 rfl rfl)
theorem dX4_whyNot_270 : decode cX4_whyNot 270 = .ok (.iload_n 3, 1) := dk_29 (dk_at dksX4_whyNot_11 23 rfl rfl)
theorem dX4_whyNot_271 : decode cX4_whyNot 271 = .ok (.iload 4, 2) := dk_21 4 (dk_at dksX4_whyNot_12 0 rfl rfl)
theorem dX4_whyNot_273 : decode cX4_whyNot 273 = .ok (.iadd, 1) := dk_96 (dk_at dksX4_whyNot_12 2 rfl rfl)
theorem dX4_whyNot_274 : decode cX4_whyNot 274 = .ok (.aload_n 0, 1) := dk_42 (dk_at dksX4_whyNot_12 3 rfl rfl)
theorem dX4_whyNot_275 : decode cX4_whyNot 275 = .ok (.invokevirtual 61, 3) := dk_182 0 61 (dk_at dksX4_whyNot_12 4 rfl rfl)
theorem dX4_whyNot_278 : decode cX4_whyNot 278 = .ok (.if_icmp .le 7, 3) := dk_164 0 7 (dk_at dksX4_whyNot_12 7 rfl rfl)
theorem dX4_whyNot_281 : decode cX4_whyNot 281 = .ok (.iconst 1, 1) := dk_4 (dk_at dksX4_whyNot_12 10 rfl rfl)
theorem dX4_whyNot_282 : decode cX4_whyNot 282 = .ok (.goto 4, 3) := dk_167 0 4 (dk_at dksX4_whyNot_12 11 rfl rfl)
theorem dX4_whyNot_285 : decode cX4_whyNot 285 = .ok (.iconst 0, 1) := dk_3 (dk_at dksX4_whyNot_12 14 rfl rfl)
theorem dX4_whyNot_286 : decode cX4_whyNot 286 = .ok (.ireturn, 1) := dk_172 (dk_at dksX4_whyNot_12 15 rfl rfl)
abbrev cX4_pack : ByteArray := prog_21_method_4_code
def yX4_pack : MethodName := ⟨RX4, "pack", "()[LBitRopes$Packed;"⟩
def dkwX4_pack_2 : List UInt8 := [132, 2, 1, 167, 255, 216, 43, 176]
abbrev dktX4_pack_2 : List UInt8 := dkwX4_pack_2 ++ []
def dkwX4_pack_1 : List UInt8 := [180, 0, 11, 28, 50, 182, 0, 41, 167, 0, 14, 42, 180, 0, 17, 28, 7, 100, 50, 182, 0, 41, 83]
abbrev dktX4_pack_1 : List UInt8 := dkwX4_pack_1 ++ dktX4_pack_2
def dkwX4_pack_0 : List UInt8 := [16, 11, 189, 0, 39, 76, 3, 61, 28, 43, 190, 162, 0, 40, 43, 28, 28, 7, 162, 0, 15, 42]
abbrev dktX4_pack_0 : List UInt8 := dkwX4_pack_0 ++ dktX4_pack_1
theorem dksX4_pack_0 : cX4_pack.data.toList.drop 0 = dktX4_pack_0 := by decide +kernel
theorem dksX4_pack_1 : cX4_pack.data.toList.drop 22 = dktX4_pack_1 := dk_seg dksX4_pack_0 22 rfl rfl
theorem dksX4_pack_2 : cX4_pack.data.toList.drop 45 = dktX4_pack_2 := dk_seg dksX4_pack_1 23 rfl rfl
theorem dX4_pack_0 : decode cX4_pack 0 = .ok (.bipush 11, 2) := dk_16 11 (dk_at dksX4_pack_0 0 rfl rfl)
theorem dX4_pack_2 : decode cX4_pack 2 = .ok (.anewarray 39, 3) := dk_189 0 39 (dk_at dksX4_pack_0 2 rfl rfl)
theorem dX4_pack_5 : decode cX4_pack 5 = .ok (.astore_n 1, 1) := dk_76 (dk_at dksX4_pack_0 5 rfl rfl)
theorem dX4_pack_6 : decode cX4_pack 6 = .ok (.iconst 0, 1) := dk_3 (dk_at dksX4_pack_0 6 rfl rfl)
theorem dX4_pack_7 : decode cX4_pack 7 = .ok (.istore_n 2, 1) := dk_61 (dk_at dksX4_pack_0 7 rfl rfl)
theorem dX4_pack_8 : decode cX4_pack 8 = .ok (.iload_n 2, 1) := dk_28 (dk_at dksX4_pack_0 8 rfl rfl)
theorem dX4_pack_9 : decode cX4_pack 9 = .ok (.aload_n 1, 1) := dk_43 (dk_at dksX4_pack_0 9 rfl rfl)
theorem dX4_pack_10 : decode cX4_pack 10 = .ok (.arraylength, 1) := dk_190 (dk_at dksX4_pack_0 10 rfl rfl)
theorem dX4_pack_11 : decode cX4_pack 11 = .ok (.if_icmp .ge 40, 3) := dk_162 0 40 (dk_at dksX4_pack_0 11 rfl rfl)
theorem dX4_pack_14 : decode cX4_pack 14 = .ok (.aload_n 1, 1) := dk_43 (dk_at dksX4_pack_0 14 rfl rfl)
theorem dX4_pack_15 : decode cX4_pack 15 = .ok (.iload_n 2, 1) := dk_28 (dk_at dksX4_pack_0 15 rfl rfl)
theorem dX4_pack_16 : decode cX4_pack 16 = .ok (.iload_n 2, 1) := dk_28 (dk_at dksX4_pack_0 16 rfl rfl)
theorem dX4_pack_17 : decode cX4_pack 17 = .ok (.iconst 4, 1) := dk_7 (dk_at dksX4_pack_0 17 rfl rfl)
theorem dX4_pack_18 : decode cX4_pack 18 = .ok (.if_icmp .ge 15, 3) := dk_162 0 15 (dk_at dksX4_pack_0 18 rfl rfl)
theorem dX4_pack_21 : decode cX4_pack 21 = .ok (.aload_n 0, 1) := dk_42 (dk_at dksX4_pack_0 21 rfl rfl)
theorem dX4_pack_22 : decode cX4_pack 22 = .ok (.getfield 11, 3) := dk_180 0 11 (dk_at dksX4_pack_1 0 rfl rfl)
theorem dX4_pack_25 : decode cX4_pack 25 = .ok (.iload_n 2, 1) := dk_28 (dk_at dksX4_pack_1 3 rfl rfl)
theorem dX4_pack_26 : decode cX4_pack 26 = .ok (.aaload, 1) := dk_50 (dk_at dksX4_pack_1 4 rfl rfl)
theorem dX4_pack_27 : decode cX4_pack 27 = .ok (.invokevirtual 41, 3) := dk_182 0 41 (dk_at dksX4_pack_1 5 rfl rfl)
theorem dX4_pack_30 : decode cX4_pack 30 = .ok (.goto 14, 3) := dk_167 0 14 (dk_at dksX4_pack_1 8 rfl rfl)
theorem dX4_pack_33 : decode cX4_pack 33 = .ok (.aload_n 0, 1) := dk_42 (dk_at dksX4_pack_1 11 rfl rfl)
theorem dX4_pack_34 : decode cX4_pack 34 = .ok (.getfield 17, 3) := dk_180 0 17 (dk_at dksX4_pack_1 12 rfl rfl)
theorem dX4_pack_37 : decode cX4_pack 37 = .ok (.iload_n 2, 1) := dk_28 (dk_at dksX4_pack_1 15 rfl rfl)
theorem dX4_pack_38 : decode cX4_pack 38 = .ok (.iconst 4, 1) := dk_7 (dk_at dksX4_pack_1 16 rfl rfl)
theorem dX4_pack_39 : decode cX4_pack 39 = .ok (.isub, 1) := dk_100 (dk_at dksX4_pack_1 17 rfl rfl)
theorem dX4_pack_40 : decode cX4_pack 40 = .ok (.aaload, 1) := dk_50 (dk_at dksX4_pack_1 18 rfl rfl)
theorem dX4_pack_41 : decode cX4_pack 41 = .ok (.invokevirtual 41, 3) := dk_182 0 41 (dk_at dksX4_pack_1 19 rfl rfl)
theorem dX4_pack_44 : decode cX4_pack 44 = .ok (.aastore, 1) := dk_83 (dk_at dksX4_pack_1 22 rfl rfl)
theorem dX4_pack_45 : decode cX4_pack 45 = .ok (.iinc 2 1, 3) := dk_132 2 1 (dk_at dksX4_pack_2 0 rfl rfl)
theorem dX4_pack_48 : decode cX4_pack 48 = .ok (.goto (-40), 3) := dk_167 255 216 (dk_at dksX4_pack_2 3 rfl rfl)
theorem dX4_pack_51 : decode cX4_pack 51 = .ok (.aload_n 1, 1) := dk_43 (dk_at dksX4_pack_2 6 rfl rfl)
theorem dX4_pack_52 : decode cX4_pack 52 = .ok (.areturn, 1) := dk_176 (dk_at dksX4_pack_2 7 rfl rfl)
abbrev cX4_does : ByteArray := prog_21_method_17_code
def yX4_does : MethodName := ⟨RX4, "does", "(IIII)V"⟩
def dkwX4_does_8 : List UInt8 := [177]
abbrev dktX4_does_8 : List UInt8 := dkwX4_does_8 ++ []
def dkwX4_does_7 : List UInt8 := [167, 0, 24, 3, 54, 5, 21, 5, 21, 4, 162, 0, 14, 42, 29, 182, 0, 102, 132, 5, 1, 167, 255, 241]
abbrev dktX4_does_7 : List UInt8 := dkwX4_does_7 ++ dktX4_does_8
def dkwX4_does_6 : List UInt8 := [21, 4, 182, 0, 96, 42, 28, 29, 21, 5, 182, 0, 89, 167, 0, 34, 42, 29, 21, 4, 182, 0, 99]
abbrev dktX4_does_6 : List UInt8 := dkwX4_does_6 ++ dktX4_does_7
def dkwX4_does_5 : List UInt8 := [50, 182, 0, 36, 167, 0, 66, 42, 180, 0, 11, 28, 50, 182, 0, 49, 29, 100, 54, 5, 42, 28, 29]
abbrev dktX4_does_5 : List UInt8 := dkwX4_does_5 ++ dktX4_does_6
def dkwX4_does_4 : List UInt8 := [29, 21, 4, 96, 182, 0, 93, 167, 0, 87, 42, 21, 4, 3, 28, 182, 0, 96, 42, 180, 0, 11, 21, 4]
abbrev dktX4_does_4 : List UInt8 := dkwX4_does_4 ++ dktX4_does_5
def dkwX4_does_3 : List UInt8 := [182, 0, 86, 167, 0, 115, 42, 28, 29, 21, 4, 182, 0, 89, 167, 0, 104, 42, 180, 0, 11, 28, 50, 29]
abbrev dktX4_does_3 : List UInt8 := dkwX4_does_3 ++ dktX4_does_4
def dkwX4_does_2 : List UInt8 := [42, 180, 0, 11, 28, 50, 29, 21, 4, 182, 0, 74, 167, 0, 130, 42, 180, 0, 11, 28, 50, 29, 21, 4]
abbrev dktX4_does_2 : List UInt8 := dkwX4_does_2 ++ dktX4_does_3
def dkwX4_does_1 : List UInt8 := [170, 0, 0, 0, 0, 0, 164, 0, 0, 0, 0, 0, 0, 0, 6, 0, 0, 0, 43, 0, 0, 0, 58, 0, 0, 0, 73, 0, 0, 0, 84, 0, 0, 0, 101, 0, 0, 0, 122, 0, 0, 0, 154]
abbrev dktX4_does_1 : List UInt8 := dkwX4_does_1 ++ dktX4_does_2
def dkwX4_does_0 : List UInt8 := [27]
abbrev dktX4_does_0 : List UInt8 := dkwX4_does_0 ++ dktX4_does_1
theorem dksX4_does_0 : cX4_does.data.toList.drop 0 = dktX4_does_0 := by decide +kernel
theorem dksX4_does_1 : cX4_does.data.toList.drop 1 = dktX4_does_1 := dk_seg dksX4_does_0 1 rfl rfl
theorem dksX4_does_2 : cX4_does.data.toList.drop 44 = dktX4_does_2 := dk_seg dksX4_does_1 43 rfl rfl
theorem dksX4_does_3 : cX4_does.data.toList.drop 68 = dktX4_does_3 := dk_seg dksX4_does_2 24 rfl rfl
theorem dksX4_does_4 : cX4_does.data.toList.drop 92 = dktX4_does_4 := dk_seg dksX4_does_3 24 rfl rfl
theorem dksX4_does_5 : cX4_does.data.toList.drop 116 = dktX4_does_5 := dk_seg dksX4_does_4 24 rfl rfl
theorem dksX4_does_6 : cX4_does.data.toList.drop 139 = dktX4_does_6 := dk_seg dksX4_does_5 23 rfl rfl
theorem dksX4_does_7 : cX4_does.data.toList.drop 162 = dktX4_does_7 := dk_seg dksX4_does_6 23 rfl rfl
theorem dksX4_does_8 : cX4_does.data.toList.drop 186 = dktX4_does_8 := dk_seg dksX4_does_7 24 rfl rfl
theorem dX4_does_0 : decode cX4_does 0 = .ok (.iload_n 1, 1) := dk_27 (dk_at dksX4_does_0 0 rfl rfl)
theorem dX4_does_1 : decode cX4_does 1 = .ok (.tableswitch 164 0 6 #[43, 58, 73, 84, 101, 122, 154], 43) := by decide +kernel
theorem dX4_does_44 : decode cX4_does 44 = .ok (.aload_n 0, 1) := dk_42 (dk_at dksX4_does_2 0 rfl rfl)
theorem dX4_does_45 : decode cX4_does 45 = .ok (.getfield 11, 3) := dk_180 0 11 (dk_at dksX4_does_2 1 rfl rfl)
theorem dX4_does_48 : decode cX4_does 48 = .ok (.iload_n 2, 1) := dk_28 (dk_at dksX4_does_2 4 rfl rfl)
theorem dX4_does_49 : decode cX4_does 49 = .ok (.aaload, 1) := dk_50 (dk_at dksX4_does_2 5 rfl rfl)
theorem dX4_does_50 : decode cX4_does 50 = .ok (.iload_n 3, 1) := dk_29 (dk_at dksX4_does_2 6 rfl rfl)
theorem dX4_does_51 : decode cX4_does 51 = .ok (.iload 4, 2) := dk_21 4 (dk_at dksX4_does_2 7 rfl rfl)
theorem dX4_does_53 : decode cX4_does 53 = .ok (.invokevirtual 74, 3) := dk_182 0 74 (dk_at dksX4_does_2 9 rfl rfl)
theorem dX4_does_56 : decode cX4_does 56 = .ok (.goto 130, 3) := dk_167 0 130 (dk_at dksX4_does_2 12 rfl rfl)
theorem dX4_does_59 : decode cX4_does 59 = .ok (.aload_n 0, 1) := dk_42 (dk_at dksX4_does_2 15 rfl rfl)
theorem dX4_does_60 : decode cX4_does 60 = .ok (.getfield 11, 3) := dk_180 0 11 (dk_at dksX4_does_2 16 rfl rfl)
theorem dX4_does_63 : decode cX4_does 63 = .ok (.iload_n 2, 1) := dk_28 (dk_at dksX4_does_2 19 rfl rfl)
theorem dX4_does_64 : decode cX4_does 64 = .ok (.aaload, 1) := dk_50 (dk_at dksX4_does_2 20 rfl rfl)
theorem dX4_does_65 : decode cX4_does 65 = .ok (.iload_n 3, 1) := dk_29 (dk_at dksX4_does_2 21 rfl rfl)
theorem dX4_does_66 : decode cX4_does 66 = .ok (.iload 4, 2) := dk_21 4 (dk_at dksX4_does_2 22 rfl rfl)
theorem dX4_does_68 : decode cX4_does 68 = .ok (.invokevirtual 86, 3) := dk_182 0 86 (dk_at dksX4_does_3 0 rfl rfl)
theorem dX4_does_71 : decode cX4_does 71 = .ok (.goto 115, 3) := dk_167 0 115 (dk_at dksX4_does_3 3 rfl rfl)
theorem dX4_does_74 : decode cX4_does 74 = .ok (.aload_n 0, 1) := dk_42 (dk_at dksX4_does_3 6 rfl rfl)
theorem dX4_does_75 : decode cX4_does 75 = .ok (.iload_n 2, 1) := dk_28 (dk_at dksX4_does_3 7 rfl rfl)
theorem dX4_does_76 : decode cX4_does 76 = .ok (.iload_n 3, 1) := dk_29 (dk_at dksX4_does_3 8 rfl rfl)
theorem dX4_does_77 : decode cX4_does 77 = .ok (.iload 4, 2) := dk_21 4 (dk_at dksX4_does_3 9 rfl rfl)
theorem dX4_does_79 : decode cX4_does 79 = .ok (.invokevirtual 89, 3) := dk_182 0 89 (dk_at dksX4_does_3 11 rfl rfl)
theorem dX4_does_82 : decode cX4_does 82 = .ok (.goto 104, 3) := dk_167 0 104 (dk_at dksX4_does_3 14 rfl rfl)
theorem dX4_does_85 : decode cX4_does 85 = .ok (.aload_n 0, 1) := dk_42 (dk_at dksX4_does_3 17 rfl rfl)
theorem dX4_does_86 : decode cX4_does 86 = .ok (.getfield 11, 3) := dk_180 0 11 (dk_at dksX4_does_3 18 rfl rfl)
theorem dX4_does_89 : decode cX4_does 89 = .ok (.iload_n 2, 1) := dk_28 (dk_at dksX4_does_3 21 rfl rfl)
theorem dX4_does_90 : decode cX4_does 90 = .ok (.aaload, 1) := dk_50 (dk_at dksX4_does_3 22 rfl rfl)
theorem dX4_does_91 : decode cX4_does 91 = .ok (.iload_n 3, 1) := dk_29 (dk_at dksX4_does_3 23 rfl rfl)
theorem dX4_does_92 : decode cX4_does 92 = .ok (.iload_n 3, 1) := dk_29 (dk_at dksX4_does_4 0 rfl rfl)
theorem dX4_does_93 : decode cX4_does 93 = .ok (.iload 4, 2) := dk_21 4 (dk_at dksX4_does_4 1 rfl rfl)
theorem dX4_does_95 : decode cX4_does 95 = .ok (.iadd, 1) := dk_96 (dk_at dksX4_does_4 3 rfl rfl)
theorem dX4_does_96 : decode cX4_does 96 = .ok (.invokevirtual 93, 3) := dk_182 0 93 (dk_at dksX4_does_4 4 rfl rfl)
theorem dX4_does_99 : decode cX4_does 99 = .ok (.goto 87, 3) := dk_167 0 87 (dk_at dksX4_does_4 7 rfl rfl)
theorem dX4_does_102 : decode cX4_does 102 = .ok (.aload_n 0, 1) := dk_42 (dk_at dksX4_does_4 10 rfl rfl)
theorem dX4_does_103 : decode cX4_does 103 = .ok (.iload 4, 2) := dk_21 4 (dk_at dksX4_does_4 11 rfl rfl)
theorem dX4_does_105 : decode cX4_does 105 = .ok (.iconst 0, 1) := dk_3 (dk_at dksX4_does_4 13 rfl rfl)
theorem dX4_does_106 : decode cX4_does 106 = .ok (.iload_n 2, 1) := dk_28 (dk_at dksX4_does_4 14 rfl rfl)
theorem dX4_does_107 : decode cX4_does 107 = .ok (.invokevirtual 96, 3) := dk_182 0 96 (dk_at dksX4_does_4 15 rfl rfl)
theorem dX4_does_110 : decode cX4_does 110 = .ok (.aload_n 0, 1) := dk_42 (dk_at dksX4_does_4 18 rfl rfl)
theorem dX4_does_111 : decode cX4_does 111 = .ok (.getfield 11, 3) := dk_180 0 11 (dk_at dksX4_does_4 19 rfl rfl)
theorem dX4_does_114 : decode cX4_does 114 = .ok (.iload 4, 2) := dk_21 4 (dk_at dksX4_does_4 22 rfl rfl)
theorem dX4_does_116 : decode cX4_does 116 = .ok (.aaload, 1) := dk_50 (dk_at dksX4_does_5 0 rfl rfl)
theorem dX4_does_117 : decode cX4_does 117 = .ok (.invokevirtual 36, 3) := dk_182 0 36 (dk_at dksX4_does_5 1 rfl rfl)
theorem dX4_does_120 : decode cX4_does 120 = .ok (.goto 66, 3) := dk_167 0 66 (dk_at dksX4_does_5 4 rfl rfl)
theorem dX4_does_123 : decode cX4_does 123 = .ok (.aload_n 0, 1) := dk_42 (dk_at dksX4_does_5 7 rfl rfl)
theorem dX4_does_124 : decode cX4_does 124 = .ok (.getfield 11, 3) := dk_180 0 11 (dk_at dksX4_does_5 8 rfl rfl)
theorem dX4_does_127 : decode cX4_does 127 = .ok (.iload_n 2, 1) := dk_28 (dk_at dksX4_does_5 11 rfl rfl)
theorem dX4_does_128 : decode cX4_does 128 = .ok (.aaload, 1) := dk_50 (dk_at dksX4_does_5 12 rfl rfl)
theorem dX4_does_129 : decode cX4_does 129 = .ok (.invokevirtual 49, 3) := dk_182 0 49 (dk_at dksX4_does_5 13 rfl rfl)
theorem dX4_does_132 : decode cX4_does 132 = .ok (.iload_n 3, 1) := dk_29 (dk_at dksX4_does_5 16 rfl rfl)
theorem dX4_does_133 : decode cX4_does 133 = .ok (.isub, 1) := dk_100 (dk_at dksX4_does_5 17 rfl rfl)
theorem dX4_does_134 : decode cX4_does 134 = .ok (.istore 5, 2) := dk_54 5 (dk_at dksX4_does_5 18 rfl rfl)
theorem dX4_does_136 : decode cX4_does 136 = .ok (.aload_n 0, 1) := dk_42 (dk_at dksX4_does_5 20 rfl rfl)
theorem dX4_does_137 : decode cX4_does 137 = .ok (.iload_n 2, 1) := dk_28 (dk_at dksX4_does_5 21 rfl rfl)
theorem dX4_does_138 : decode cX4_does 138 = .ok (.iload_n 3, 1) := dk_29 (dk_at dksX4_does_5 22 rfl rfl)
theorem dX4_does_139 : decode cX4_does 139 = .ok (.iload 4, 2) := dk_21 4 (dk_at dksX4_does_6 0 rfl rfl)
theorem dX4_does_141 : decode cX4_does 141 = .ok (.invokevirtual 96, 3) := dk_182 0 96 (dk_at dksX4_does_6 2 rfl rfl)
theorem dX4_does_144 : decode cX4_does 144 = .ok (.aload_n 0, 1) := dk_42 (dk_at dksX4_does_6 5 rfl rfl)
theorem dX4_does_145 : decode cX4_does 145 = .ok (.iload_n 2, 1) := dk_28 (dk_at dksX4_does_6 6 rfl rfl)
theorem dX4_does_146 : decode cX4_does 146 = .ok (.iload_n 3, 1) := dk_29 (dk_at dksX4_does_6 7 rfl rfl)
theorem dX4_does_147 : decode cX4_does 147 = .ok (.iload 5, 2) := dk_21 5 (dk_at dksX4_does_6 8 rfl rfl)
theorem dX4_does_149 : decode cX4_does 149 = .ok (.invokevirtual 89, 3) := dk_182 0 89 (dk_at dksX4_does_6 10 rfl rfl)
theorem dX4_does_152 : decode cX4_does 152 = .ok (.goto 34, 3) := dk_167 0 34 (dk_at dksX4_does_6 13 rfl rfl)
theorem dX4_does_155 : decode cX4_does 155 = .ok (.aload_n 0, 1) := dk_42 (dk_at dksX4_does_6 16 rfl rfl)
theorem dX4_does_156 : decode cX4_does 156 = .ok (.iload_n 3, 1) := dk_29 (dk_at dksX4_does_6 17 rfl rfl)
theorem dX4_does_157 : decode cX4_does 157 = .ok (.iload 4, 2) := dk_21 4 (dk_at dksX4_does_6 18 rfl rfl)
theorem dX4_does_159 : decode cX4_does 159 = .ok (.invokevirtual 99, 3) := dk_182 0 99 (dk_at dksX4_does_6 20 rfl rfl)
theorem dX4_does_162 : decode cX4_does 162 = .ok (.goto 24, 3) := dk_167 0 24 (dk_at dksX4_does_7 0 rfl rfl)
theorem dX4_does_165 : decode cX4_does 165 = .ok (.iconst 0, 1) := dk_3 (dk_at dksX4_does_7 3 rfl rfl)
theorem dX4_does_166 : decode cX4_does 166 = .ok (.istore 5, 2) := dk_54 5 (dk_at dksX4_does_7 4 rfl rfl)
theorem dX4_does_168 : decode cX4_does 168 = .ok (.iload 5, 2) := dk_21 5 (dk_at dksX4_does_7 6 rfl rfl)
theorem dX4_does_170 : decode cX4_does 170 = .ok (.iload 4, 2) := dk_21 4 (dk_at dksX4_does_7 8 rfl rfl)
theorem dX4_does_172 : decode cX4_does 172 = .ok (.if_icmp .ge 14, 3) := dk_162 0 14 (dk_at dksX4_does_7 10 rfl rfl)
theorem dX4_does_175 : decode cX4_does 175 = .ok (.aload_n 0, 1) := dk_42 (dk_at dksX4_does_7 13 rfl rfl)
theorem dX4_does_176 : decode cX4_does 176 = .ok (.iload_n 3, 1) := dk_29 (dk_at dksX4_does_7 14 rfl rfl)
theorem dX4_does_177 : decode cX4_does 177 = .ok (.invokevirtual 102, 3) := dk_182 0 102 (dk_at dksX4_does_7 15 rfl rfl)
theorem dX4_does_180 : decode cX4_does 180 = .ok (.iinc 5 1, 3) := dk_132 5 1 (dk_at dksX4_does_7 18 rfl rfl)
theorem dX4_does_183 : decode cX4_does 183 = .ok (.goto (-15), 3) := dk_167 255 241 (dk_at dksX4_does_7 21 rfl rfl)
theorem dX4_does_186 : decode cX4_does 186 = .ok (.return_, 1) := dk_177 (dk_at dksX4_does_8 0 rfl rfl)
abbrev cX4_cuts : ByteArray := prog_21_method_15_code
def yX4_cuts : MethodName := ⟨RX4, "cuts", "(III)V"⟩
def dkwX4_cuts_1 : List UInt8 := [167, 255, 237, 177]
abbrev dktX4_cuts_1 : List UInt8 := dkwX4_cuts_1 ++ []
def dkwX4_cuts_0 : List UInt8 := [3, 54, 4, 21, 4, 29, 162, 0, 19, 42, 180, 0, 11, 27, 50, 28, 182, 0, 78, 132, 4, 1]
abbrev dktX4_cuts_0 : List UInt8 := dkwX4_cuts_0 ++ dktX4_cuts_1
theorem dksX4_cuts_0 : cX4_cuts.data.toList.drop 0 = dktX4_cuts_0 := by decide +kernel
theorem dksX4_cuts_1 : cX4_cuts.data.toList.drop 22 = dktX4_cuts_1 := dk_seg dksX4_cuts_0 22 rfl rfl
theorem dX4_cuts_0 : decode cX4_cuts 0 = .ok (.iconst 0, 1) := dk_3 (dk_at dksX4_cuts_0 0 rfl rfl)
theorem dX4_cuts_1 : decode cX4_cuts 1 = .ok (.istore 4, 2) := dk_54 4 (dk_at dksX4_cuts_0 1 rfl rfl)
theorem dX4_cuts_3 : decode cX4_cuts 3 = .ok (.iload 4, 2) := dk_21 4 (dk_at dksX4_cuts_0 3 rfl rfl)
theorem dX4_cuts_5 : decode cX4_cuts 5 = .ok (.iload_n 3, 1) := dk_29 (dk_at dksX4_cuts_0 5 rfl rfl)
theorem dX4_cuts_6 : decode cX4_cuts 6 = .ok (.if_icmp .ge 19, 3) := dk_162 0 19 (dk_at dksX4_cuts_0 6 rfl rfl)
theorem dX4_cuts_9 : decode cX4_cuts 9 = .ok (.aload_n 0, 1) := dk_42 (dk_at dksX4_cuts_0 9 rfl rfl)
theorem dX4_cuts_10 : decode cX4_cuts 10 = .ok (.getfield 11, 3) := dk_180 0 11 (dk_at dksX4_cuts_0 10 rfl rfl)
theorem dX4_cuts_13 : decode cX4_cuts 13 = .ok (.iload_n 1, 1) := dk_27 (dk_at dksX4_cuts_0 13 rfl rfl)
theorem dX4_cuts_14 : decode cX4_cuts 14 = .ok (.aaload, 1) := dk_50 (dk_at dksX4_cuts_0 14 rfl rfl)
theorem dX4_cuts_15 : decode cX4_cuts 15 = .ok (.iload_n 2, 1) := dk_28 (dk_at dksX4_cuts_0 15 rfl rfl)
theorem dX4_cuts_16 : decode cX4_cuts 16 = .ok (.invokevirtual 78, 3) := dk_182 0 78 (dk_at dksX4_cuts_0 16 rfl rfl)
theorem dX4_cuts_19 : decode cX4_cuts 19 = .ok (.iinc 4 1, 3) := dk_132 4 1 (dk_at dksX4_cuts_0 19 rfl rfl)
theorem dX4_cuts_22 : decode cX4_cuts 22 = .ok (.goto (-19), 3) := dk_167 255 237 (dk_at dksX4_cuts_1 0 rfl rfl)
theorem dX4_cuts_25 : decode cX4_cuts 25 = .ok (.return_, 1) := dk_177 (dk_at dksX4_cuts_1 3 rfl rfl)
abbrev cX4_moves : ByteArray := prog_21_method_16_code
def yX4_moves : MethodName := ⟨RX4, "moves", "(III)V"⟩
def dkwX4_moves_3 : List UInt8 := [132, 6, 1, 167, 255, 208, 177]
abbrev dktX4_moves_3 : List UInt8 := dkwX4_moves_3 ++ []
def dkwX4_moves_2 : List UInt8 := [25, 4, 180, 0, 82, 21, 6, 16, 64, 108, 47, 21, 6, 16, 64, 112, 123, 10, 127, 136, 182, 0, 74]
abbrev dktX4_moves_2 : List UInt8 := dkwX4_moves_2 ++ dktX4_moves_3
def dkwX4_moves_1 : List UInt8 := [54, 6, 21, 6, 21, 5, 162, 0, 47, 42, 180, 0, 11, 29, 50, 42, 180, 0, 11, 29, 50, 182, 0, 49]
abbrev dktX4_moves_1 : List UInt8 := dkwX4_moves_1 ++ dktX4_moves_2
def dkwX4_moves_0 : List UInt8 := [42, 180, 0, 11, 27, 50, 182, 0, 41, 58, 4, 42, 180, 0, 11, 27, 50, 182, 0, 49, 54, 5, 28]
abbrev dktX4_moves_0 : List UInt8 := dkwX4_moves_0 ++ dktX4_moves_1
theorem dksX4_moves_0 : cX4_moves.data.toList.drop 0 = dktX4_moves_0 := by decide +kernel
theorem dksX4_moves_1 : cX4_moves.data.toList.drop 23 = dktX4_moves_1 := dk_seg dksX4_moves_0 23 rfl rfl
theorem dksX4_moves_2 : cX4_moves.data.toList.drop 47 = dktX4_moves_2 := dk_seg dksX4_moves_1 24 rfl rfl
theorem dksX4_moves_3 : cX4_moves.data.toList.drop 70 = dktX4_moves_3 := dk_seg dksX4_moves_2 23 rfl rfl
theorem dX4_moves_0 : decode cX4_moves 0 = .ok (.aload_n 0, 1) := dk_42 (dk_at dksX4_moves_0 0 rfl rfl)
theorem dX4_moves_1 : decode cX4_moves 1 = .ok (.getfield 11, 3) := dk_180 0 11 (dk_at dksX4_moves_0 1 rfl rfl)
theorem dX4_moves_4 : decode cX4_moves 4 = .ok (.iload_n 1, 1) := dk_27 (dk_at dksX4_moves_0 4 rfl rfl)
theorem dX4_moves_5 : decode cX4_moves 5 = .ok (.aaload, 1) := dk_50 (dk_at dksX4_moves_0 5 rfl rfl)
theorem dX4_moves_6 : decode cX4_moves 6 = .ok (.invokevirtual 41, 3) := dk_182 0 41 (dk_at dksX4_moves_0 6 rfl rfl)
theorem dX4_moves_9 : decode cX4_moves 9 = .ok (.astore 4, 2) := dk_58 4 (dk_at dksX4_moves_0 9 rfl rfl)
theorem dX4_moves_11 : decode cX4_moves 11 = .ok (.aload_n 0, 1) := dk_42 (dk_at dksX4_moves_0 11 rfl rfl)
theorem dX4_moves_12 : decode cX4_moves 12 = .ok (.getfield 11, 3) := dk_180 0 11 (dk_at dksX4_moves_0 12 rfl rfl)
theorem dX4_moves_15 : decode cX4_moves 15 = .ok (.iload_n 1, 1) := dk_27 (dk_at dksX4_moves_0 15 rfl rfl)
theorem dX4_moves_16 : decode cX4_moves 16 = .ok (.aaload, 1) := dk_50 (dk_at dksX4_moves_0 16 rfl rfl)
theorem dX4_moves_17 : decode cX4_moves 17 = .ok (.invokevirtual 49, 3) := dk_182 0 49 (dk_at dksX4_moves_0 17 rfl rfl)
theorem dX4_moves_20 : decode cX4_moves 20 = .ok (.istore 5, 2) := dk_54 5 (dk_at dksX4_moves_0 20 rfl rfl)
theorem dX4_moves_22 : decode cX4_moves 22 = .ok (.iload_n 2, 1) := dk_28 (dk_at dksX4_moves_0 22 rfl rfl)
theorem dX4_moves_23 : decode cX4_moves 23 = .ok (.istore 6, 2) := dk_54 6 (dk_at dksX4_moves_1 0 rfl rfl)
theorem dX4_moves_25 : decode cX4_moves 25 = .ok (.iload 6, 2) := dk_21 6 (dk_at dksX4_moves_1 2 rfl rfl)
theorem dX4_moves_27 : decode cX4_moves 27 = .ok (.iload 5, 2) := dk_21 5 (dk_at dksX4_moves_1 4 rfl rfl)
theorem dX4_moves_29 : decode cX4_moves 29 = .ok (.if_icmp .ge 47, 3) := dk_162 0 47 (dk_at dksX4_moves_1 6 rfl rfl)
theorem dX4_moves_32 : decode cX4_moves 32 = .ok (.aload_n 0, 1) := dk_42 (dk_at dksX4_moves_1 9 rfl rfl)
theorem dX4_moves_33 : decode cX4_moves 33 = .ok (.getfield 11, 3) := dk_180 0 11 (dk_at dksX4_moves_1 10 rfl rfl)
theorem dX4_moves_36 : decode cX4_moves 36 = .ok (.iload_n 3, 1) := dk_29 (dk_at dksX4_moves_1 13 rfl rfl)
theorem dX4_moves_37 : decode cX4_moves 37 = .ok (.aaload, 1) := dk_50 (dk_at dksX4_moves_1 14 rfl rfl)
theorem dX4_moves_38 : decode cX4_moves 38 = .ok (.aload_n 0, 1) := dk_42 (dk_at dksX4_moves_1 15 rfl rfl)
theorem dX4_moves_39 : decode cX4_moves 39 = .ok (.getfield 11, 3) := dk_180 0 11 (dk_at dksX4_moves_1 16 rfl rfl)
theorem dX4_moves_42 : decode cX4_moves 42 = .ok (.iload_n 3, 1) := dk_29 (dk_at dksX4_moves_1 19 rfl rfl)
theorem dX4_moves_43 : decode cX4_moves 43 = .ok (.aaload, 1) := dk_50 (dk_at dksX4_moves_1 20 rfl rfl)
theorem dX4_moves_44 : decode cX4_moves 44 = .ok (.invokevirtual 49, 3) := dk_182 0 49 (dk_at dksX4_moves_1 21 rfl rfl)
theorem dX4_moves_47 : decode cX4_moves 47 = .ok (.aload 4, 2) := dk_25 4 (dk_at dksX4_moves_2 0 rfl rfl)
theorem dX4_moves_49 : decode cX4_moves 49 = .ok (.getfield 82, 3) := dk_180 0 82 (dk_at dksX4_moves_2 2 rfl rfl)
theorem dX4_moves_52 : decode cX4_moves 52 = .ok (.iload 6, 2) := dk_21 6 (dk_at dksX4_moves_2 5 rfl rfl)
theorem dX4_moves_54 : decode cX4_moves 54 = .ok (.bipush 64, 2) := dk_16 64 (dk_at dksX4_moves_2 7 rfl rfl)
theorem dX4_moves_56 : decode cX4_moves 56 = .ok (.idiv, 1) := dk_108 (dk_at dksX4_moves_2 9 rfl rfl)
theorem dX4_moves_57 : decode cX4_moves 57 = .ok (.laload, 1) := dk_47 (dk_at dksX4_moves_2 10 rfl rfl)
theorem dX4_moves_58 : decode cX4_moves 58 = .ok (.iload 6, 2) := dk_21 6 (dk_at dksX4_moves_2 11 rfl rfl)
theorem dX4_moves_60 : decode cX4_moves 60 = .ok (.bipush 64, 2) := dk_16 64 (dk_at dksX4_moves_2 13 rfl rfl)
theorem dX4_moves_62 : decode cX4_moves 62 = .ok (.irem, 1) := dk_112 (dk_at dksX4_moves_2 15 rfl rfl)
theorem dX4_moves_63 : decode cX4_moves 63 = .ok (.lshr, 1) := dk_123 (dk_at dksX4_moves_2 16 rfl rfl)
theorem dX4_moves_64 : decode cX4_moves 64 = .ok (.lconst 1, 1) := dk_10 (dk_at dksX4_moves_2 17 rfl rfl)
theorem dX4_moves_65 : decode cX4_moves 65 = .ok (.land, 1) := dk_127 (dk_at dksX4_moves_2 18 rfl rfl)
theorem dX4_moves_66 : decode cX4_moves 66 = .ok (.l2i, 1) := dk_136 (dk_at dksX4_moves_2 19 rfl rfl)
theorem dX4_moves_67 : decode cX4_moves 67 = .ok (.invokevirtual 74, 3) := dk_182 0 74 (dk_at dksX4_moves_2 20 rfl rfl)
theorem dX4_moves_70 : decode cX4_moves 70 = .ok (.iinc 6 1, 3) := dk_132 6 1 (dk_at dksX4_moves_3 0 rfl rfl)
theorem dX4_moves_73 : decode cX4_moves 73 = .ok (.goto (-48), 3) := dk_167 255 208 (dk_at dksX4_moves_3 3 rfl rfl)
theorem dX4_moves_76 : decode cX4_moves 76 = .ok (.return_, 1) := dk_177 (dk_at dksX4_moves_3 6 rfl rfl)
abbrev cX4_erases : ByteArray := prog_21_method_13_code
def yX4_erases : MethodName := ⟨RX4, "erases", "(I)V"⟩
def dkwX4_erases_2 : List UInt8 := [21, 5, 62, 5, 28, 104, 4, 96, 21, 4, 96, 61, 167, 255, 202, 177]
abbrev dktX4_erases_2 : List UInt8 := dkwX4_erases_2 ++ []
def dkwX4_erases_1 : List UInt8 := [180, 0, 17, 28, 50, 29, 21, 4, 182, 0, 57, 54, 5, 42, 180, 0, 17, 28, 50, 29, 182, 0, 78]
abbrev dktX4_erases_1 : List UInt8 := dkwX4_erases_1 ++ dktX4_erases_2
def dkwX4_erases_0 : List UInt8 := [3, 61, 27, 62, 28, 16, 7, 162, 0, 54, 42, 180, 0, 17, 28, 50, 29, 182, 0, 53, 54, 4, 42]
abbrev dktX4_erases_0 : List UInt8 := dkwX4_erases_0 ++ dktX4_erases_1
theorem dksX4_erases_0 : cX4_erases.data.toList.drop 0 = dktX4_erases_0 := by decide +kernel
theorem dksX4_erases_1 : cX4_erases.data.toList.drop 23 = dktX4_erases_1 := dk_seg dksX4_erases_0 23 rfl rfl
theorem dksX4_erases_2 : cX4_erases.data.toList.drop 46 = dktX4_erases_2 := dk_seg dksX4_erases_1 23 rfl rfl
theorem dX4_erases_0 : decode cX4_erases 0 = .ok (.iconst 0, 1) := dk_3 (dk_at dksX4_erases_0 0 rfl rfl)
theorem dX4_erases_1 : decode cX4_erases 1 = .ok (.istore_n 2, 1) := dk_61 (dk_at dksX4_erases_0 1 rfl rfl)
theorem dX4_erases_2 : decode cX4_erases 2 = .ok (.iload_n 1, 1) := dk_27 (dk_at dksX4_erases_0 2 rfl rfl)
theorem dX4_erases_3 : decode cX4_erases 3 = .ok (.istore_n 3, 1) := dk_62 (dk_at dksX4_erases_0 3 rfl rfl)
theorem dX4_erases_4 : decode cX4_erases 4 = .ok (.iload_n 2, 1) := dk_28 (dk_at dksX4_erases_0 4 rfl rfl)
theorem dX4_erases_5 : decode cX4_erases 5 = .ok (.bipush 7, 2) := dk_16 7 (dk_at dksX4_erases_0 5 rfl rfl)
theorem dX4_erases_7 : decode cX4_erases 7 = .ok (.if_icmp .ge 54, 3) := dk_162 0 54 (dk_at dksX4_erases_0 7 rfl rfl)
theorem dX4_erases_10 : decode cX4_erases 10 = .ok (.aload_n 0, 1) := dk_42 (dk_at dksX4_erases_0 10 rfl rfl)
theorem dX4_erases_11 : decode cX4_erases 11 = .ok (.getfield 17, 3) := dk_180 0 17 (dk_at dksX4_erases_0 11 rfl rfl)
theorem dX4_erases_14 : decode cX4_erases 14 = .ok (.iload_n 2, 1) := dk_28 (dk_at dksX4_erases_0 14 rfl rfl)
theorem dX4_erases_15 : decode cX4_erases 15 = .ok (.aaload, 1) := dk_50 (dk_at dksX4_erases_0 15 rfl rfl)
theorem dX4_erases_16 : decode cX4_erases 16 = .ok (.iload_n 3, 1) := dk_29 (dk_at dksX4_erases_0 16 rfl rfl)
theorem dX4_erases_17 : decode cX4_erases 17 = .ok (.invokevirtual 53, 3) := dk_182 0 53 (dk_at dksX4_erases_0 17 rfl rfl)
theorem dX4_erases_20 : decode cX4_erases 20 = .ok (.istore 4, 2) := dk_54 4 (dk_at dksX4_erases_0 20 rfl rfl)
theorem dX4_erases_22 : decode cX4_erases 22 = .ok (.aload_n 0, 1) := dk_42 (dk_at dksX4_erases_0 22 rfl rfl)
theorem dX4_erases_23 : decode cX4_erases 23 = .ok (.getfield 17, 3) := dk_180 0 17 (dk_at dksX4_erases_1 0 rfl rfl)
theorem dX4_erases_26 : decode cX4_erases 26 = .ok (.iload_n 2, 1) := dk_28 (dk_at dksX4_erases_1 3 rfl rfl)
theorem dX4_erases_27 : decode cX4_erases 27 = .ok (.aaload, 1) := dk_50 (dk_at dksX4_erases_1 4 rfl rfl)
theorem dX4_erases_28 : decode cX4_erases 28 = .ok (.iload_n 3, 1) := dk_29 (dk_at dksX4_erases_1 5 rfl rfl)
theorem dX4_erases_29 : decode cX4_erases 29 = .ok (.iload 4, 2) := dk_21 4 (dk_at dksX4_erases_1 6 rfl rfl)
theorem dX4_erases_31 : decode cX4_erases 31 = .ok (.invokevirtual 57, 3) := dk_182 0 57 (dk_at dksX4_erases_1 8 rfl rfl)
theorem dX4_erases_34 : decode cX4_erases 34 = .ok (.istore 5, 2) := dk_54 5 (dk_at dksX4_erases_1 11 rfl rfl)
theorem dX4_erases_36 : decode cX4_erases 36 = .ok (.aload_n 0, 1) := dk_42 (dk_at dksX4_erases_1 13 rfl rfl)
theorem dX4_erases_37 : decode cX4_erases 37 = .ok (.getfield 17, 3) := dk_180 0 17 (dk_at dksX4_erases_1 14 rfl rfl)
theorem dX4_erases_40 : decode cX4_erases 40 = .ok (.iload_n 2, 1) := dk_28 (dk_at dksX4_erases_1 17 rfl rfl)
theorem dX4_erases_41 : decode cX4_erases 41 = .ok (.aaload, 1) := dk_50 (dk_at dksX4_erases_1 18 rfl rfl)
theorem dX4_erases_42 : decode cX4_erases 42 = .ok (.iload_n 3, 1) := dk_29 (dk_at dksX4_erases_1 19 rfl rfl)
theorem dX4_erases_43 : decode cX4_erases 43 = .ok (.invokevirtual 78, 3) := dk_182 0 78 (dk_at dksX4_erases_1 20 rfl rfl)
theorem dX4_erases_46 : decode cX4_erases 46 = .ok (.iload 5, 2) := dk_21 5 (dk_at dksX4_erases_2 0 rfl rfl)
theorem dX4_erases_48 : decode cX4_erases 48 = .ok (.istore_n 3, 1) := dk_62 (dk_at dksX4_erases_2 2 rfl rfl)
theorem dX4_erases_49 : decode cX4_erases 49 = .ok (.iconst 2, 1) := dk_5 (dk_at dksX4_erases_2 3 rfl rfl)
theorem dX4_erases_50 : decode cX4_erases 50 = .ok (.iload_n 2, 1) := dk_28 (dk_at dksX4_erases_2 4 rfl rfl)
theorem dX4_erases_51 : decode cX4_erases 51 = .ok (.imul, 1) := dk_104 (dk_at dksX4_erases_2 5 rfl rfl)
theorem dX4_erases_52 : decode cX4_erases 52 = .ok (.iconst 1, 1) := dk_4 (dk_at dksX4_erases_2 6 rfl rfl)
theorem dX4_erases_53 : decode cX4_erases 53 = .ok (.iadd, 1) := dk_96 (dk_at dksX4_erases_2 7 rfl rfl)
theorem dX4_erases_54 : decode cX4_erases 54 = .ok (.iload 4, 2) := dk_21 4 (dk_at dksX4_erases_2 8 rfl rfl)
theorem dX4_erases_56 : decode cX4_erases 56 = .ok (.iadd, 1) := dk_96 (dk_at dksX4_erases_2 10 rfl rfl)
theorem dX4_erases_57 : decode cX4_erases 57 = .ok (.istore_n 2, 1) := dk_61 (dk_at dksX4_erases_2 11 rfl rfl)
theorem dX4_erases_58 : decode cX4_erases 58 = .ok (.goto (-54), 3) := dk_167 255 202 (dk_at dksX4_erases_2 12 rfl rfl)
theorem dX4_erases_61 : decode cX4_erases 61 = .ok (.return_, 1) := dk_177 (dk_at dksX4_erases_2 15 rfl rfl)
abbrev cX4_letterAt : ByteArray := prog_21_method_8_code
def yX4_letterAt : MethodName := ⟨RX4, "letterAt", "(I)I"⟩
def dkwX4_letterAt_2 : List UInt8 := [5, 28, 104, 4, 96, 21, 5, 96, 61, 167, 255, 207, 21, 4, 172]
abbrev dktX4_letterAt_2 : List UInt8 := dkwX4_letterAt_2 ++ []
def dkwX4_letterAt_1 : List UInt8 := [54, 5, 42, 180, 0, 17, 28, 50, 29, 21, 5, 182, 0, 57, 62, 5, 21, 4, 104, 21, 5, 96, 54, 4]
abbrev dktX4_letterAt_1 : List UInt8 := dkwX4_letterAt_1 ++ dktX4_letterAt_2
def dkwX4_letterAt_0 : List UInt8 := [3, 61, 27, 62, 3, 54, 4, 28, 16, 7, 162, 0, 49, 42, 180, 0, 17, 28, 50, 29, 182, 0, 53]
abbrev dktX4_letterAt_0 : List UInt8 := dkwX4_letterAt_0 ++ dktX4_letterAt_1
theorem dksX4_letterAt_0 : cX4_letterAt.data.toList.drop 0 = dktX4_letterAt_0 := by decide +kernel
theorem dksX4_letterAt_1 : cX4_letterAt.data.toList.drop 23 = dktX4_letterAt_1 := dk_seg dksX4_letterAt_0 23 rfl rfl
theorem dksX4_letterAt_2 : cX4_letterAt.data.toList.drop 47 = dktX4_letterAt_2 := dk_seg dksX4_letterAt_1 24 rfl rfl
theorem dX4_letterAt_0 : decode cX4_letterAt 0 = .ok (.iconst 0, 1) := dk_3 (dk_at dksX4_letterAt_0 0 rfl rfl)
theorem dX4_letterAt_1 : decode cX4_letterAt 1 = .ok (.istore_n 2, 1) := dk_61 (dk_at dksX4_letterAt_0 1 rfl rfl)
theorem dX4_letterAt_2 : decode cX4_letterAt 2 = .ok (.iload_n 1, 1) := dk_27 (dk_at dksX4_letterAt_0 2 rfl rfl)
theorem dX4_letterAt_3 : decode cX4_letterAt 3 = .ok (.istore_n 3, 1) := dk_62 (dk_at dksX4_letterAt_0 3 rfl rfl)
theorem dX4_letterAt_4 : decode cX4_letterAt 4 = .ok (.iconst 0, 1) := dk_3 (dk_at dksX4_letterAt_0 4 rfl rfl)
theorem dX4_letterAt_5 : decode cX4_letterAt 5 = .ok (.istore 4, 2) := dk_54 4 (dk_at dksX4_letterAt_0 5 rfl rfl)
theorem dX4_letterAt_7 : decode cX4_letterAt 7 = .ok (.iload_n 2, 1) := dk_28 (dk_at dksX4_letterAt_0 7 rfl rfl)
theorem dX4_letterAt_8 : decode cX4_letterAt 8 = .ok (.bipush 7, 2) := dk_16 7 (dk_at dksX4_letterAt_0 8 rfl rfl)
theorem dX4_letterAt_10 : decode cX4_letterAt 10 = .ok (.if_icmp .ge 49, 3) := dk_162 0 49 (dk_at dksX4_letterAt_0 10 rfl rfl)
theorem dX4_letterAt_13 : decode cX4_letterAt 13 = .ok (.aload_n 0, 1) := dk_42 (dk_at dksX4_letterAt_0 13 rfl rfl)
theorem dX4_letterAt_14 : decode cX4_letterAt 14 = .ok (.getfield 17, 3) := dk_180 0 17 (dk_at dksX4_letterAt_0 14 rfl rfl)
theorem dX4_letterAt_17 : decode cX4_letterAt 17 = .ok (.iload_n 2, 1) := dk_28 (dk_at dksX4_letterAt_0 17 rfl rfl)
theorem dX4_letterAt_18 : decode cX4_letterAt 18 = .ok (.aaload, 1) := dk_50 (dk_at dksX4_letterAt_0 18 rfl rfl)
theorem dX4_letterAt_19 : decode cX4_letterAt 19 = .ok (.iload_n 3, 1) := dk_29 (dk_at dksX4_letterAt_0 19 rfl rfl)
theorem dX4_letterAt_20 : decode cX4_letterAt 20 = .ok (.invokevirtual 53, 3) := dk_182 0 53 (dk_at dksX4_letterAt_0 20 rfl rfl)
theorem dX4_letterAt_23 : decode cX4_letterAt 23 = .ok (.istore 5, 2) := dk_54 5 (dk_at dksX4_letterAt_1 0 rfl rfl)
theorem dX4_letterAt_25 : decode cX4_letterAt 25 = .ok (.aload_n 0, 1) := dk_42 (dk_at dksX4_letterAt_1 2 rfl rfl)
theorem dX4_letterAt_26 : decode cX4_letterAt 26 = .ok (.getfield 17, 3) := dk_180 0 17 (dk_at dksX4_letterAt_1 3 rfl rfl)
theorem dX4_letterAt_29 : decode cX4_letterAt 29 = .ok (.iload_n 2, 1) := dk_28 (dk_at dksX4_letterAt_1 6 rfl rfl)
theorem dX4_letterAt_30 : decode cX4_letterAt 30 = .ok (.aaload, 1) := dk_50 (dk_at dksX4_letterAt_1 7 rfl rfl)
theorem dX4_letterAt_31 : decode cX4_letterAt 31 = .ok (.iload_n 3, 1) := dk_29 (dk_at dksX4_letterAt_1 8 rfl rfl)
theorem dX4_letterAt_32 : decode cX4_letterAt 32 = .ok (.iload 5, 2) := dk_21 5 (dk_at dksX4_letterAt_1 9 rfl rfl)
theorem dX4_letterAt_34 : decode cX4_letterAt 34 = .ok (.invokevirtual 57, 3) := dk_182 0 57 (dk_at dksX4_letterAt_1 11 rfl rfl)
theorem dX4_letterAt_37 : decode cX4_letterAt 37 = .ok (.istore_n 3, 1) := dk_62 (dk_at dksX4_letterAt_1 14 rfl rfl)
theorem dX4_letterAt_38 : decode cX4_letterAt 38 = .ok (.iconst 2, 1) := dk_5 (dk_at dksX4_letterAt_1 15 rfl rfl)
theorem dX4_letterAt_39 : decode cX4_letterAt 39 = .ok (.iload 4, 2) := dk_21 4 (dk_at dksX4_letterAt_1 16 rfl rfl)
theorem dX4_letterAt_41 : decode cX4_letterAt 41 = .ok (.imul, 1) := dk_104 (dk_at dksX4_letterAt_1 18 rfl rfl)
theorem dX4_letterAt_42 : decode cX4_letterAt 42 = .ok (.iload 5, 2) := dk_21 5 (dk_at dksX4_letterAt_1 19 rfl rfl)
theorem dX4_letterAt_44 : decode cX4_letterAt 44 = .ok (.iadd, 1) := dk_96 (dk_at dksX4_letterAt_1 21 rfl rfl)
theorem dX4_letterAt_45 : decode cX4_letterAt 45 = .ok (.istore 4, 2) := dk_54 4 (dk_at dksX4_letterAt_1 22 rfl rfl)
theorem dX4_letterAt_47 : decode cX4_letterAt 47 = .ok (.iconst 2, 1) := dk_5 (dk_at dksX4_letterAt_2 0 rfl rfl)
theorem dX4_letterAt_48 : decode cX4_letterAt 48 = .ok (.iload_n 2, 1) := dk_28 (dk_at dksX4_letterAt_2 1 rfl rfl)
theorem dX4_letterAt_49 : decode cX4_letterAt 49 = .ok (.imul, 1) := dk_104 (dk_at dksX4_letterAt_2 2 rfl rfl)
theorem dX4_letterAt_50 : decode cX4_letterAt 50 = .ok (.iconst 1, 1) := dk_4 (dk_at dksX4_letterAt_2 3 rfl rfl)
theorem dX4_letterAt_51 : decode cX4_letterAt 51 = .ok (.iadd, 1) := dk_96 (dk_at dksX4_letterAt_2 4 rfl rfl)
theorem dX4_letterAt_52 : decode cX4_letterAt 52 = .ok (.iload 5, 2) := dk_21 5 (dk_at dksX4_letterAt_2 5 rfl rfl)
theorem dX4_letterAt_54 : decode cX4_letterAt 54 = .ok (.iadd, 1) := dk_96 (dk_at dksX4_letterAt_2 7 rfl rfl)
theorem dX4_letterAt_55 : decode cX4_letterAt 55 = .ok (.istore_n 2, 1) := dk_61 (dk_at dksX4_letterAt_2 8 rfl rfl)
theorem dX4_letterAt_56 : decode cX4_letterAt 56 = .ok (.goto (-49), 3) := dk_167 255 207 (dk_at dksX4_letterAt_2 9 rfl rfl)
theorem dX4_letterAt_59 : decode cX4_letterAt 59 = .ok (.iload 4, 2) := dk_21 4 (dk_at dksX4_letterAt_2 12 rfl rfl)
theorem dX4_letterAt_61 : decode cX4_letterAt 61 = .ok (.ireturn, 1) := dk_172 (dk_at dksX4_letterAt_2 14 rfl rfl)
abbrev cX4_ahead : ByteArray := prog_21_method_9_code
def yX4_ahead : MethodName := ⟨RX4, "ahead", "(II)I"⟩
def dkwX4_ahead_2 : List UInt8 := [132, 5, 255, 167, 255, 216, 21, 4, 172]
abbrev dktX4_ahead_2 : List UInt8 := dkwX4_ahead_2 ++ []
def dkwX4_ahead_1 : List UInt8 := [180, 0, 17, 29, 50, 21, 4, 21, 6, 182, 0, 57, 54, 4, 5, 29, 104, 4, 96, 21, 6, 96, 62]
abbrev dktX4_ahead_1 : List UInt8 := dkwX4_ahead_1 ++ dktX4_ahead_2
def dkwX4_ahead_0 : List UInt8 := [3, 62, 28, 54, 4, 5, 54, 5, 21, 5, 155, 0, 41, 27, 21, 5, 122, 4, 126, 54, 6, 42]
abbrev dktX4_ahead_0 : List UInt8 := dkwX4_ahead_0 ++ dktX4_ahead_1
theorem dksX4_ahead_0 : cX4_ahead.data.toList.drop 0 = dktX4_ahead_0 := by decide +kernel
theorem dksX4_ahead_1 : cX4_ahead.data.toList.drop 22 = dktX4_ahead_1 := dk_seg dksX4_ahead_0 22 rfl rfl
theorem dksX4_ahead_2 : cX4_ahead.data.toList.drop 45 = dktX4_ahead_2 := dk_seg dksX4_ahead_1 23 rfl rfl
theorem dX4_ahead_0 : decode cX4_ahead 0 = .ok (.iconst 0, 1) := dk_3 (dk_at dksX4_ahead_0 0 rfl rfl)
theorem dX4_ahead_1 : decode cX4_ahead 1 = .ok (.istore_n 3, 1) := dk_62 (dk_at dksX4_ahead_0 1 rfl rfl)
theorem dX4_ahead_2 : decode cX4_ahead 2 = .ok (.iload_n 2, 1) := dk_28 (dk_at dksX4_ahead_0 2 rfl rfl)
theorem dX4_ahead_3 : decode cX4_ahead 3 = .ok (.istore 4, 2) := dk_54 4 (dk_at dksX4_ahead_0 3 rfl rfl)
theorem dX4_ahead_5 : decode cX4_ahead 5 = .ok (.iconst 2, 1) := dk_5 (dk_at dksX4_ahead_0 5 rfl rfl)
theorem dX4_ahead_6 : decode cX4_ahead 6 = .ok (.istore 5, 2) := dk_54 5 (dk_at dksX4_ahead_0 6 rfl rfl)
theorem dX4_ahead_8 : decode cX4_ahead 8 = .ok (.iload 5, 2) := dk_21 5 (dk_at dksX4_ahead_0 8 rfl rfl)
theorem dX4_ahead_10 : decode cX4_ahead 10 = .ok (.ifCond .lt 41, 3) := dk_155 0 41 (dk_at dksX4_ahead_0 10 rfl rfl)
theorem dX4_ahead_13 : decode cX4_ahead 13 = .ok (.iload_n 1, 1) := dk_27 (dk_at dksX4_ahead_0 13 rfl rfl)
theorem dX4_ahead_14 : decode cX4_ahead 14 = .ok (.iload 5, 2) := dk_21 5 (dk_at dksX4_ahead_0 14 rfl rfl)
theorem dX4_ahead_16 : decode cX4_ahead 16 = .ok (.ishr, 1) := dk_122 (dk_at dksX4_ahead_0 16 rfl rfl)
theorem dX4_ahead_17 : decode cX4_ahead 17 = .ok (.iconst 1, 1) := dk_4 (dk_at dksX4_ahead_0 17 rfl rfl)
theorem dX4_ahead_18 : decode cX4_ahead 18 = .ok (.iand, 1) := dk_126 (dk_at dksX4_ahead_0 18 rfl rfl)
theorem dX4_ahead_19 : decode cX4_ahead 19 = .ok (.istore 6, 2) := dk_54 6 (dk_at dksX4_ahead_0 19 rfl rfl)
theorem dX4_ahead_21 : decode cX4_ahead 21 = .ok (.aload_n 0, 1) := dk_42 (dk_at dksX4_ahead_0 21 rfl rfl)
theorem dX4_ahead_22 : decode cX4_ahead 22 = .ok (.getfield 17, 3) := dk_180 0 17 (dk_at dksX4_ahead_1 0 rfl rfl)
theorem dX4_ahead_25 : decode cX4_ahead 25 = .ok (.iload_n 3, 1) := dk_29 (dk_at dksX4_ahead_1 3 rfl rfl)
theorem dX4_ahead_26 : decode cX4_ahead 26 = .ok (.aaload, 1) := dk_50 (dk_at dksX4_ahead_1 4 rfl rfl)
theorem dX4_ahead_27 : decode cX4_ahead 27 = .ok (.iload 4, 2) := dk_21 4 (dk_at dksX4_ahead_1 5 rfl rfl)
theorem dX4_ahead_29 : decode cX4_ahead 29 = .ok (.iload 6, 2) := dk_21 6 (dk_at dksX4_ahead_1 7 rfl rfl)
theorem dX4_ahead_31 : decode cX4_ahead 31 = .ok (.invokevirtual 57, 3) := dk_182 0 57 (dk_at dksX4_ahead_1 9 rfl rfl)
theorem dX4_ahead_34 : decode cX4_ahead 34 = .ok (.istore 4, 2) := dk_54 4 (dk_at dksX4_ahead_1 12 rfl rfl)
theorem dX4_ahead_36 : decode cX4_ahead 36 = .ok (.iconst 2, 1) := dk_5 (dk_at dksX4_ahead_1 14 rfl rfl)
theorem dX4_ahead_37 : decode cX4_ahead 37 = .ok (.iload_n 3, 1) := dk_29 (dk_at dksX4_ahead_1 15 rfl rfl)
theorem dX4_ahead_38 : decode cX4_ahead 38 = .ok (.imul, 1) := dk_104 (dk_at dksX4_ahead_1 16 rfl rfl)
theorem dX4_ahead_39 : decode cX4_ahead 39 = .ok (.iconst 1, 1) := dk_4 (dk_at dksX4_ahead_1 17 rfl rfl)
theorem dX4_ahead_40 : decode cX4_ahead 40 = .ok (.iadd, 1) := dk_96 (dk_at dksX4_ahead_1 18 rfl rfl)
theorem dX4_ahead_41 : decode cX4_ahead 41 = .ok (.iload 6, 2) := dk_21 6 (dk_at dksX4_ahead_1 19 rfl rfl)
theorem dX4_ahead_43 : decode cX4_ahead 43 = .ok (.iadd, 1) := dk_96 (dk_at dksX4_ahead_1 21 rfl rfl)
theorem dX4_ahead_44 : decode cX4_ahead 44 = .ok (.istore_n 3, 1) := dk_62 (dk_at dksX4_ahead_1 22 rfl rfl)
theorem dX4_ahead_45 : decode cX4_ahead 45 = .ok (.iinc 5 (-1), 3) := dk_132 5 255 (dk_at dksX4_ahead_2 0 rfl rfl)
theorem dX4_ahead_48 : decode cX4_ahead 48 = .ok (.goto (-40), 3) := dk_167 255 216 (dk_at dksX4_ahead_2 3 rfl rfl)
theorem dX4_ahead_51 : decode cX4_ahead 51 = .ok (.iload 4, 2) := dk_21 4 (dk_at dksX4_ahead_2 6 rfl rfl)
theorem dX4_ahead_53 : decode cX4_ahead 53 = .ok (.ireturn, 1) := dk_172 (dk_at dksX4_ahead_2 8 rfl rfl)
abbrev cX4_placeOf : ByteArray := prog_21_method_10_code
def yX4_placeOf : MethodName := ⟨RX4, "placeOf", "(II)I"⟩
def dkwX4_placeOf_4 : List UInt8 := [4, 126, 182, 0, 71, 62, 132, 4, 1, 167, 255, 216, 29, 172]
abbrev dktX4_placeOf_4 : List UInt8 := dkwX4_placeOf_4 ++ []
def dkwX4_placeOf_3 : List UInt8 := [180, 0, 17, 4, 5, 21, 4, 100, 120, 4, 100, 27, 21, 4, 4, 96, 122, 96, 50, 29, 27, 21, 4, 122]
abbrev dktX4_placeOf_3 : List UInt8 := dkwX4_placeOf_3 ++ dktX4_placeOf_4
def dkwX4_placeOf_2 : List UInt8 := [182, 0, 67, 87, 132, 5, 1, 167, 255, 234, 28, 62, 3, 54, 4, 21, 4, 6, 162, 0, 40, 42]
abbrev dktX4_placeOf_2 : List UInt8 := dkwX4_placeOf_2 ++ dktX4_placeOf_3
def dkwX4_placeOf_1 : List UInt8 := [45, 190, 54, 4, 3, 54, 5, 21, 5, 21, 4, 162, 0, 21, 45, 21, 5, 50, 58, 6, 25, 6]
abbrev dktX4_placeOf_1 : List UInt8 := dkwX4_placeOf_1 ++ dktX4_placeOf_2
def dkwX4_placeOf_0 : List UInt8 := [28, 155, 0, 16, 28, 42, 27, 42, 182, 0, 61, 182, 0, 64, 161, 0, 5, 2, 172, 42, 180, 0, 17, 78]
abbrev dktX4_placeOf_0 : List UInt8 := dkwX4_placeOf_0 ++ dktX4_placeOf_1
theorem dksX4_placeOf_0 : cX4_placeOf.data.toList.drop 0 = dktX4_placeOf_0 := by decide +kernel
theorem dksX4_placeOf_1 : cX4_placeOf.data.toList.drop 24 = dktX4_placeOf_1 := dk_seg dksX4_placeOf_0 24 rfl rfl
theorem dksX4_placeOf_2 : cX4_placeOf.data.toList.drop 46 = dktX4_placeOf_2 := dk_seg dksX4_placeOf_1 22 rfl rfl
theorem dksX4_placeOf_3 : cX4_placeOf.data.toList.drop 68 = dktX4_placeOf_3 := dk_seg dksX4_placeOf_2 22 rfl rfl
theorem dksX4_placeOf_4 : cX4_placeOf.data.toList.drop 92 = dktX4_placeOf_4 := dk_seg dksX4_placeOf_3 24 rfl rfl
theorem dX4_placeOf_0 : decode cX4_placeOf 0 = .ok (.iload_n 2, 1) := dk_28 (dk_at dksX4_placeOf_0 0 rfl rfl)
theorem dX4_placeOf_1 : decode cX4_placeOf 1 = .ok (.ifCond .lt 16, 3) := dk_155 0 16 (dk_at dksX4_placeOf_0 1 rfl rfl)
theorem dX4_placeOf_4 : decode cX4_placeOf 4 = .ok (.iload_n 2, 1) := dk_28 (dk_at dksX4_placeOf_0 4 rfl rfl)
theorem dX4_placeOf_5 : decode cX4_placeOf 5 = .ok (.aload_n 0, 1) := dk_42 (dk_at dksX4_placeOf_0 5 rfl rfl)
theorem dX4_placeOf_6 : decode cX4_placeOf 6 = .ok (.iload_n 1, 1) := dk_27 (dk_at dksX4_placeOf_0 6 rfl rfl)
theorem dX4_placeOf_7 : decode cX4_placeOf 7 = .ok (.aload_n 0, 1) := dk_42 (dk_at dksX4_placeOf_0 7 rfl rfl)
theorem dX4_placeOf_8 : decode cX4_placeOf 8 = .ok (.invokevirtual 61, 3) := dk_182 0 61 (dk_at dksX4_placeOf_0 8 rfl rfl)
theorem dX4_placeOf_11 : decode cX4_placeOf 11 = .ok (.invokevirtual 64, 3) := dk_182 0 64 (dk_at dksX4_placeOf_0 11 rfl rfl)
theorem dX4_placeOf_14 : decode cX4_placeOf 14 = .ok (.if_icmp .lt 5, 3) := dk_161 0 5 (dk_at dksX4_placeOf_0 14 rfl rfl)
theorem dX4_placeOf_17 : decode cX4_placeOf 17 = .ok (.iconst (-1), 1) := dk_2 (dk_at dksX4_placeOf_0 17 rfl rfl)
theorem dX4_placeOf_18 : decode cX4_placeOf 18 = .ok (.ireturn, 1) := dk_172 (dk_at dksX4_placeOf_0 18 rfl rfl)
theorem dX4_placeOf_19 : decode cX4_placeOf 19 = .ok (.aload_n 0, 1) := dk_42 (dk_at dksX4_placeOf_0 19 rfl rfl)
theorem dX4_placeOf_20 : decode cX4_placeOf 20 = .ok (.getfield 17, 3) := dk_180 0 17 (dk_at dksX4_placeOf_0 20 rfl rfl)
theorem dX4_placeOf_23 : decode cX4_placeOf 23 = .ok (.astore_n 3, 1) := dk_78 (dk_at dksX4_placeOf_0 23 rfl rfl)
theorem dX4_placeOf_24 : decode cX4_placeOf 24 = .ok (.aload_n 3, 1) := dk_45 (dk_at dksX4_placeOf_1 0 rfl rfl)
theorem dX4_placeOf_25 : decode cX4_placeOf 25 = .ok (.arraylength, 1) := dk_190 (dk_at dksX4_placeOf_1 1 rfl rfl)
theorem dX4_placeOf_26 : decode cX4_placeOf 26 = .ok (.istore 4, 2) := dk_54 4 (dk_at dksX4_placeOf_1 2 rfl rfl)
theorem dX4_placeOf_28 : decode cX4_placeOf 28 = .ok (.iconst 0, 1) := dk_3 (dk_at dksX4_placeOf_1 4 rfl rfl)
theorem dX4_placeOf_29 : decode cX4_placeOf 29 = .ok (.istore 5, 2) := dk_54 5 (dk_at dksX4_placeOf_1 5 rfl rfl)
theorem dX4_placeOf_31 : decode cX4_placeOf 31 = .ok (.iload 5, 2) := dk_21 5 (dk_at dksX4_placeOf_1 7 rfl rfl)
theorem dX4_placeOf_33 : decode cX4_placeOf 33 = .ok (.iload 4, 2) := dk_21 4 (dk_at dksX4_placeOf_1 9 rfl rfl)
theorem dX4_placeOf_35 : decode cX4_placeOf 35 = .ok (.if_icmp .ge 21, 3) := dk_162 0 21 (dk_at dksX4_placeOf_1 11 rfl rfl)
theorem dX4_placeOf_38 : decode cX4_placeOf 38 = .ok (.aload_n 3, 1) := dk_45 (dk_at dksX4_placeOf_1 14 rfl rfl)
theorem dX4_placeOf_39 : decode cX4_placeOf 39 = .ok (.iload 5, 2) := dk_21 5 (dk_at dksX4_placeOf_1 15 rfl rfl)
theorem dX4_placeOf_41 : decode cX4_placeOf 41 = .ok (.aaload, 1) := dk_50 (dk_at dksX4_placeOf_1 17 rfl rfl)
theorem dX4_placeOf_42 : decode cX4_placeOf 42 = .ok (.astore 6, 2) := dk_58 6 (dk_at dksX4_placeOf_1 18 rfl rfl)
theorem dX4_placeOf_44 : decode cX4_placeOf 44 = .ok (.aload 6, 2) := dk_25 6 (dk_at dksX4_placeOf_1 20 rfl rfl)
theorem dX4_placeOf_46 : decode cX4_placeOf 46 = .ok (.invokevirtual 67, 3) := dk_182 0 67 (dk_at dksX4_placeOf_2 0 rfl rfl)
theorem dX4_placeOf_49 : decode cX4_placeOf 49 = .ok (.pop, 1) := dk_87 (dk_at dksX4_placeOf_2 3 rfl rfl)
theorem dX4_placeOf_50 : decode cX4_placeOf 50 = .ok (.iinc 5 1, 3) := dk_132 5 1 (dk_at dksX4_placeOf_2 4 rfl rfl)
theorem dX4_placeOf_53 : decode cX4_placeOf 53 = .ok (.goto (-22), 3) := dk_167 255 234 (dk_at dksX4_placeOf_2 7 rfl rfl)
theorem dX4_placeOf_56 : decode cX4_placeOf 56 = .ok (.iload_n 2, 1) := dk_28 (dk_at dksX4_placeOf_2 10 rfl rfl)
theorem dX4_placeOf_57 : decode cX4_placeOf 57 = .ok (.istore_n 3, 1) := dk_62 (dk_at dksX4_placeOf_2 11 rfl rfl)
theorem dX4_placeOf_58 : decode cX4_placeOf 58 = .ok (.iconst 0, 1) := dk_3 (dk_at dksX4_placeOf_2 12 rfl rfl)
theorem dX4_placeOf_59 : decode cX4_placeOf 59 = .ok (.istore 4, 2) := dk_54 4 (dk_at dksX4_placeOf_2 13 rfl rfl)
theorem dX4_placeOf_61 : decode cX4_placeOf 61 = .ok (.iload 4, 2) := dk_21 4 (dk_at dksX4_placeOf_2 15 rfl rfl)
theorem dX4_placeOf_63 : decode cX4_placeOf 63 = .ok (.iconst 3, 1) := dk_6 (dk_at dksX4_placeOf_2 17 rfl rfl)
theorem dX4_placeOf_64 : decode cX4_placeOf 64 = .ok (.if_icmp .ge 40, 3) := dk_162 0 40 (dk_at dksX4_placeOf_2 18 rfl rfl)
theorem dX4_placeOf_67 : decode cX4_placeOf 67 = .ok (.aload_n 0, 1) := dk_42 (dk_at dksX4_placeOf_2 21 rfl rfl)
theorem dX4_placeOf_68 : decode cX4_placeOf 68 = .ok (.getfield 17, 3) := dk_180 0 17 (dk_at dksX4_placeOf_3 0 rfl rfl)
theorem dX4_placeOf_71 : decode cX4_placeOf 71 = .ok (.iconst 1, 1) := dk_4 (dk_at dksX4_placeOf_3 3 rfl rfl)
theorem dX4_placeOf_72 : decode cX4_placeOf 72 = .ok (.iconst 2, 1) := dk_5 (dk_at dksX4_placeOf_3 4 rfl rfl)
theorem dX4_placeOf_73 : decode cX4_placeOf 73 = .ok (.iload 4, 2) := dk_21 4 (dk_at dksX4_placeOf_3 5 rfl rfl)
theorem dX4_placeOf_75 : decode cX4_placeOf 75 = .ok (.isub, 1) := dk_100 (dk_at dksX4_placeOf_3 7 rfl rfl)
theorem dX4_placeOf_76 : decode cX4_placeOf 76 = .ok (.ishl, 1) := dk_120 (dk_at dksX4_placeOf_3 8 rfl rfl)
theorem dX4_placeOf_77 : decode cX4_placeOf 77 = .ok (.iconst 1, 1) := dk_4 (dk_at dksX4_placeOf_3 9 rfl rfl)
theorem dX4_placeOf_78 : decode cX4_placeOf 78 = .ok (.isub, 1) := dk_100 (dk_at dksX4_placeOf_3 10 rfl rfl)
theorem dX4_placeOf_79 : decode cX4_placeOf 79 = .ok (.iload_n 1, 1) := dk_27 (dk_at dksX4_placeOf_3 11 rfl rfl)
theorem dX4_placeOf_80 : decode cX4_placeOf 80 = .ok (.iload 4, 2) := dk_21 4 (dk_at dksX4_placeOf_3 12 rfl rfl)
theorem dX4_placeOf_82 : decode cX4_placeOf 82 = .ok (.iconst 1, 1) := dk_4 (dk_at dksX4_placeOf_3 14 rfl rfl)
theorem dX4_placeOf_83 : decode cX4_placeOf 83 = .ok (.iadd, 1) := dk_96 (dk_at dksX4_placeOf_3 15 rfl rfl)
theorem dX4_placeOf_84 : decode cX4_placeOf 84 = .ok (.ishr, 1) := dk_122 (dk_at dksX4_placeOf_3 16 rfl rfl)
theorem dX4_placeOf_85 : decode cX4_placeOf 85 = .ok (.iadd, 1) := dk_96 (dk_at dksX4_placeOf_3 17 rfl rfl)
theorem dX4_placeOf_86 : decode cX4_placeOf 86 = .ok (.aaload, 1) := dk_50 (dk_at dksX4_placeOf_3 18 rfl rfl)
theorem dX4_placeOf_87 : decode cX4_placeOf 87 = .ok (.iload_n 3, 1) := dk_29 (dk_at dksX4_placeOf_3 19 rfl rfl)
theorem dX4_placeOf_88 : decode cX4_placeOf 88 = .ok (.iload_n 1, 1) := dk_27 (dk_at dksX4_placeOf_3 20 rfl rfl)
theorem dX4_placeOf_89 : decode cX4_placeOf 89 = .ok (.iload 4, 2) := dk_21 4 (dk_at dksX4_placeOf_3 21 rfl rfl)
theorem dX4_placeOf_91 : decode cX4_placeOf 91 = .ok (.ishr, 1) := dk_122 (dk_at dksX4_placeOf_3 23 rfl rfl)
theorem dX4_placeOf_92 : decode cX4_placeOf 92 = .ok (.iconst 1, 1) := dk_4 (dk_at dksX4_placeOf_4 0 rfl rfl)
theorem dX4_placeOf_93 : decode cX4_placeOf 93 = .ok (.iand, 1) := dk_126 (dk_at dksX4_placeOf_4 1 rfl rfl)
theorem dX4_placeOf_94 : decode cX4_placeOf 94 = .ok (.invokevirtual 71, 3) := dk_182 0 71 (dk_at dksX4_placeOf_4 2 rfl rfl)
theorem dX4_placeOf_97 : decode cX4_placeOf 97 = .ok (.istore_n 3, 1) := dk_62 (dk_at dksX4_placeOf_4 5 rfl rfl)
theorem dX4_placeOf_98 : decode cX4_placeOf 98 = .ok (.iinc 4 1, 3) := dk_132 4 1 (dk_at dksX4_placeOf_4 6 rfl rfl)
theorem dX4_placeOf_101 : decode cX4_placeOf 101 = .ok (.goto (-40), 3) := dk_167 255 216 (dk_at dksX4_placeOf_4 9 rfl rfl)
theorem dX4_placeOf_104 : decode cX4_placeOf 104 = .ok (.iload_n 3, 1) := dk_29 (dk_at dksX4_placeOf_4 12 rfl rfl)
theorem dX4_placeOf_105 : decode cX4_placeOf 105 = .ok (.ireturn, 1) := dk_172 (dk_at dksX4_placeOf_4 13 rfl rfl)
abbrev cX4_leastOf : ByteArray := prog_21_method_11_code
def yX4_leastOf : MethodName := ⟨RX4, "leastOf", "(III)I"⟩
def dkwX4_leastOf_5 : List UInt8 := [96, 54, 8, 5, 21, 4, 104, 4, 96, 21, 10, 96, 54, 4, 167, 255, 141, 21, 8, 172]
abbrev dktX4_leastOf_5 : List UInt8 := dkwX4_leastOf_5 ++ []
def dkwX4_leastOf_4 : List UInt8 := [54, 5, 42, 180, 0, 17, 21, 4, 50, 21, 6, 21, 10, 182, 0, 57, 54, 6, 5, 21, 8, 104, 21, 10]
abbrev dktX4_leastOf_4 : List UInt8 := dkwX4_leastOf_4 ++ dktX4_leastOf_5
def dkwX4_leastOf_3 : List UInt8 := [160, 0, 10, 21, 7, 21, 9, 100, 54, 7, 42, 180, 0, 17, 21, 4, 50, 21, 5, 21, 10, 182, 0, 57]
abbrev dktX4_leastOf_3 : List UInt8 := dkwX4_leastOf_3 ++ dktX4_leastOf_4
def dkwX4_leastOf_2 : List UInt8 := [182, 0, 57, 100, 54, 9, 21, 7, 21, 9, 162, 0, 7, 3, 167, 0, 4, 4, 54, 10, 21, 10, 4]
abbrev dktX4_leastOf_2 : List UInt8 := dkwX4_leastOf_2 ++ dktX4_leastOf_3
def dkwX4_leastOf_1 : List UInt8 := [180, 0, 17, 21, 4, 50, 21, 6, 3, 182, 0, 57, 42, 180, 0, 17, 21, 4, 50, 21, 5, 3]
abbrev dktX4_leastOf_1 : List UInt8 := dkwX4_leastOf_1 ++ dktX4_leastOf_2
def dkwX4_leastOf_0 : List UInt8 := [3, 54, 4, 27, 54, 5, 28, 54, 6, 29, 54, 7, 3, 54, 8, 21, 4, 16, 7, 162, 0, 114, 42]
abbrev dktX4_leastOf_0 : List UInt8 := dkwX4_leastOf_0 ++ dktX4_leastOf_1
theorem dksX4_leastOf_0 : cX4_leastOf.data.toList.drop 0 = dktX4_leastOf_0 := by decide +kernel
theorem dksX4_leastOf_1 : cX4_leastOf.data.toList.drop 23 = dktX4_leastOf_1 := dk_seg dksX4_leastOf_0 23 rfl rfl
theorem dksX4_leastOf_2 : cX4_leastOf.data.toList.drop 45 = dktX4_leastOf_2 := dk_seg dksX4_leastOf_1 22 rfl rfl
theorem dksX4_leastOf_3 : cX4_leastOf.data.toList.drop 68 = dktX4_leastOf_3 := dk_seg dksX4_leastOf_2 23 rfl rfl
theorem dksX4_leastOf_4 : cX4_leastOf.data.toList.drop 92 = dktX4_leastOf_4 := dk_seg dksX4_leastOf_3 24 rfl rfl
theorem dksX4_leastOf_5 : cX4_leastOf.data.toList.drop 116 = dktX4_leastOf_5 := dk_seg dksX4_leastOf_4 24 rfl rfl
theorem dX4_leastOf_0 : decode cX4_leastOf 0 = .ok (.iconst 0, 1) := dk_3 (dk_at dksX4_leastOf_0 0 rfl rfl)
theorem dX4_leastOf_1 : decode cX4_leastOf 1 = .ok (.istore 4, 2) := dk_54 4 (dk_at dksX4_leastOf_0 1 rfl rfl)
theorem dX4_leastOf_3 : decode cX4_leastOf 3 = .ok (.iload_n 1, 1) := dk_27 (dk_at dksX4_leastOf_0 3 rfl rfl)
theorem dX4_leastOf_4 : decode cX4_leastOf 4 = .ok (.istore 5, 2) := dk_54 5 (dk_at dksX4_leastOf_0 4 rfl rfl)
theorem dX4_leastOf_6 : decode cX4_leastOf 6 = .ok (.iload_n 2, 1) := dk_28 (dk_at dksX4_leastOf_0 6 rfl rfl)
theorem dX4_leastOf_7 : decode cX4_leastOf 7 = .ok (.istore 6, 2) := dk_54 6 (dk_at dksX4_leastOf_0 7 rfl rfl)
theorem dX4_leastOf_9 : decode cX4_leastOf 9 = .ok (.iload_n 3, 1) := dk_29 (dk_at dksX4_leastOf_0 9 rfl rfl)
theorem dX4_leastOf_10 : decode cX4_leastOf 10 = .ok (.istore 7, 2) := dk_54 7 (dk_at dksX4_leastOf_0 10 rfl rfl)
theorem dX4_leastOf_12 : decode cX4_leastOf 12 = .ok (.iconst 0, 1) := dk_3 (dk_at dksX4_leastOf_0 12 rfl rfl)
theorem dX4_leastOf_13 : decode cX4_leastOf 13 = .ok (.istore 8, 2) := dk_54 8 (dk_at dksX4_leastOf_0 13 rfl rfl)
theorem dX4_leastOf_15 : decode cX4_leastOf 15 = .ok (.iload 4, 2) := dk_21 4 (dk_at dksX4_leastOf_0 15 rfl rfl)
theorem dX4_leastOf_17 : decode cX4_leastOf 17 = .ok (.bipush 7, 2) := dk_16 7 (dk_at dksX4_leastOf_0 17 rfl rfl)
theorem dX4_leastOf_19 : decode cX4_leastOf 19 = .ok (.if_icmp .ge 114, 3) := dk_162 0 114 (dk_at dksX4_leastOf_0 19 rfl rfl)
theorem dX4_leastOf_22 : decode cX4_leastOf 22 = .ok (.aload_n 0, 1) := dk_42 (dk_at dksX4_leastOf_0 22 rfl rfl)
theorem dX4_leastOf_23 : decode cX4_leastOf 23 = .ok (.getfield 17, 3) := dk_180 0 17 (dk_at dksX4_leastOf_1 0 rfl rfl)
theorem dX4_leastOf_26 : decode cX4_leastOf 26 = .ok (.iload 4, 2) := dk_21 4 (dk_at dksX4_leastOf_1 3 rfl rfl)
theorem dX4_leastOf_28 : decode cX4_leastOf 28 = .ok (.aaload, 1) := dk_50 (dk_at dksX4_leastOf_1 5 rfl rfl)
theorem dX4_leastOf_29 : decode cX4_leastOf 29 = .ok (.iload 6, 2) := dk_21 6 (dk_at dksX4_leastOf_1 6 rfl rfl)
theorem dX4_leastOf_31 : decode cX4_leastOf 31 = .ok (.iconst 0, 1) := dk_3 (dk_at dksX4_leastOf_1 8 rfl rfl)
theorem dX4_leastOf_32 : decode cX4_leastOf 32 = .ok (.invokevirtual 57, 3) := dk_182 0 57 (dk_at dksX4_leastOf_1 9 rfl rfl)
theorem dX4_leastOf_35 : decode cX4_leastOf 35 = .ok (.aload_n 0, 1) := dk_42 (dk_at dksX4_leastOf_1 12 rfl rfl)
theorem dX4_leastOf_36 : decode cX4_leastOf 36 = .ok (.getfield 17, 3) := dk_180 0 17 (dk_at dksX4_leastOf_1 13 rfl rfl)
theorem dX4_leastOf_39 : decode cX4_leastOf 39 = .ok (.iload 4, 2) := dk_21 4 (dk_at dksX4_leastOf_1 16 rfl rfl)
theorem dX4_leastOf_41 : decode cX4_leastOf 41 = .ok (.aaload, 1) := dk_50 (dk_at dksX4_leastOf_1 18 rfl rfl)
theorem dX4_leastOf_42 : decode cX4_leastOf 42 = .ok (.iload 5, 2) := dk_21 5 (dk_at dksX4_leastOf_1 19 rfl rfl)
theorem dX4_leastOf_44 : decode cX4_leastOf 44 = .ok (.iconst 0, 1) := dk_3 (dk_at dksX4_leastOf_1 21 rfl rfl)
theorem dX4_leastOf_45 : decode cX4_leastOf 45 = .ok (.invokevirtual 57, 3) := dk_182 0 57 (dk_at dksX4_leastOf_2 0 rfl rfl)
theorem dX4_leastOf_48 : decode cX4_leastOf 48 = .ok (.isub, 1) := dk_100 (dk_at dksX4_leastOf_2 3 rfl rfl)
theorem dX4_leastOf_49 : decode cX4_leastOf 49 = .ok (.istore 9, 2) := dk_54 9 (dk_at dksX4_leastOf_2 4 rfl rfl)
theorem dX4_leastOf_51 : decode cX4_leastOf 51 = .ok (.iload 7, 2) := dk_21 7 (dk_at dksX4_leastOf_2 6 rfl rfl)
theorem dX4_leastOf_53 : decode cX4_leastOf 53 = .ok (.iload 9, 2) := dk_21 9 (dk_at dksX4_leastOf_2 8 rfl rfl)
theorem dX4_leastOf_55 : decode cX4_leastOf 55 = .ok (.if_icmp .ge 7, 3) := dk_162 0 7 (dk_at dksX4_leastOf_2 10 rfl rfl)
theorem dX4_leastOf_58 : decode cX4_leastOf 58 = .ok (.iconst 0, 1) := dk_3 (dk_at dksX4_leastOf_2 13 rfl rfl)
theorem dX4_leastOf_59 : decode cX4_leastOf 59 = .ok (.goto 4, 3) := dk_167 0 4 (dk_at dksX4_leastOf_2 14 rfl rfl)
theorem dX4_leastOf_62 : decode cX4_leastOf 62 = .ok (.iconst 1, 1) := dk_4 (dk_at dksX4_leastOf_2 17 rfl rfl)
theorem dX4_leastOf_63 : decode cX4_leastOf 63 = .ok (.istore 10, 2) := dk_54 10 (dk_at dksX4_leastOf_2 18 rfl rfl)
theorem dX4_leastOf_65 : decode cX4_leastOf 65 = .ok (.iload 10, 2) := dk_21 10 (dk_at dksX4_leastOf_2 20 rfl rfl)
theorem dX4_leastOf_67 : decode cX4_leastOf 67 = .ok (.iconst 1, 1) := dk_4 (dk_at dksX4_leastOf_2 22 rfl rfl)
theorem dX4_leastOf_68 : decode cX4_leastOf 68 = .ok (.if_icmp .ne 10, 3) := dk_160 0 10 (dk_at dksX4_leastOf_3 0 rfl rfl)
theorem dX4_leastOf_71 : decode cX4_leastOf 71 = .ok (.iload 7, 2) := dk_21 7 (dk_at dksX4_leastOf_3 3 rfl rfl)
theorem dX4_leastOf_73 : decode cX4_leastOf 73 = .ok (.iload 9, 2) := dk_21 9 (dk_at dksX4_leastOf_3 5 rfl rfl)
theorem dX4_leastOf_75 : decode cX4_leastOf 75 = .ok (.isub, 1) := dk_100 (dk_at dksX4_leastOf_3 7 rfl rfl)
theorem dX4_leastOf_76 : decode cX4_leastOf 76 = .ok (.istore 7, 2) := dk_54 7 (dk_at dksX4_leastOf_3 8 rfl rfl)
theorem dX4_leastOf_78 : decode cX4_leastOf 78 = .ok (.aload_n 0, 1) := dk_42 (dk_at dksX4_leastOf_3 10 rfl rfl)
theorem dX4_leastOf_79 : decode cX4_leastOf 79 = .ok (.getfield 17, 3) := dk_180 0 17 (dk_at dksX4_leastOf_3 11 rfl rfl)
theorem dX4_leastOf_82 : decode cX4_leastOf 82 = .ok (.iload 4, 2) := dk_21 4 (dk_at dksX4_leastOf_3 14 rfl rfl)
theorem dX4_leastOf_84 : decode cX4_leastOf 84 = .ok (.aaload, 1) := dk_50 (dk_at dksX4_leastOf_3 16 rfl rfl)
theorem dX4_leastOf_85 : decode cX4_leastOf 85 = .ok (.iload 5, 2) := dk_21 5 (dk_at dksX4_leastOf_3 17 rfl rfl)
theorem dX4_leastOf_87 : decode cX4_leastOf 87 = .ok (.iload 10, 2) := dk_21 10 (dk_at dksX4_leastOf_3 19 rfl rfl)
theorem dX4_leastOf_89 : decode cX4_leastOf 89 = .ok (.invokevirtual 57, 3) := dk_182 0 57 (dk_at dksX4_leastOf_3 21 rfl rfl)
theorem dX4_leastOf_92 : decode cX4_leastOf 92 = .ok (.istore 5, 2) := dk_54 5 (dk_at dksX4_leastOf_4 0 rfl rfl)
theorem dX4_leastOf_94 : decode cX4_leastOf 94 = .ok (.aload_n 0, 1) := dk_42 (dk_at dksX4_leastOf_4 2 rfl rfl)
theorem dX4_leastOf_95 : decode cX4_leastOf 95 = .ok (.getfield 17, 3) := dk_180 0 17 (dk_at dksX4_leastOf_4 3 rfl rfl)
theorem dX4_leastOf_98 : decode cX4_leastOf 98 = .ok (.iload 4, 2) := dk_21 4 (dk_at dksX4_leastOf_4 6 rfl rfl)
theorem dX4_leastOf_100 : decode cX4_leastOf 100 = .ok (.aaload, 1) := dk_50 (dk_at dksX4_leastOf_4 8 rfl rfl)
theorem dX4_leastOf_101 : decode cX4_leastOf 101 = .ok (.iload 6, 2) := dk_21 6 (dk_at dksX4_leastOf_4 9 rfl rfl)
theorem dX4_leastOf_103 : decode cX4_leastOf 103 = .ok (.iload 10, 2) := dk_21 10 (dk_at dksX4_leastOf_4 11 rfl rfl)
theorem dX4_leastOf_105 : decode cX4_leastOf 105 = .ok (.invokevirtual 57, 3) := dk_182 0 57 (dk_at dksX4_leastOf_4 13 rfl rfl)
theorem dX4_leastOf_108 : decode cX4_leastOf 108 = .ok (.istore 6, 2) := dk_54 6 (dk_at dksX4_leastOf_4 16 rfl rfl)
theorem dX4_leastOf_110 : decode cX4_leastOf 110 = .ok (.iconst 2, 1) := dk_5 (dk_at dksX4_leastOf_4 18 rfl rfl)
theorem dX4_leastOf_111 : decode cX4_leastOf 111 = .ok (.iload 8, 2) := dk_21 8 (dk_at dksX4_leastOf_4 19 rfl rfl)
theorem dX4_leastOf_113 : decode cX4_leastOf 113 = .ok (.imul, 1) := dk_104 (dk_at dksX4_leastOf_4 21 rfl rfl)
theorem dX4_leastOf_114 : decode cX4_leastOf 114 = .ok (.iload 10, 2) := dk_21 10 (dk_at dksX4_leastOf_4 22 rfl rfl)
theorem dX4_leastOf_116 : decode cX4_leastOf 116 = .ok (.iadd, 1) := dk_96 (dk_at dksX4_leastOf_5 0 rfl rfl)
theorem dX4_leastOf_117 : decode cX4_leastOf 117 = .ok (.istore 8, 2) := dk_54 8 (dk_at dksX4_leastOf_5 1 rfl rfl)
theorem dX4_leastOf_119 : decode cX4_leastOf 119 = .ok (.iconst 2, 1) := dk_5 (dk_at dksX4_leastOf_5 3 rfl rfl)
theorem dX4_leastOf_120 : decode cX4_leastOf 120 = .ok (.iload 4, 2) := dk_21 4 (dk_at dksX4_leastOf_5 4 rfl rfl)
theorem dX4_leastOf_122 : decode cX4_leastOf 122 = .ok (.imul, 1) := dk_104 (dk_at dksX4_leastOf_5 6 rfl rfl)
theorem dX4_leastOf_123 : decode cX4_leastOf 123 = .ok (.iconst 1, 1) := dk_4 (dk_at dksX4_leastOf_5 7 rfl rfl)
theorem dX4_leastOf_124 : decode cX4_leastOf 124 = .ok (.iadd, 1) := dk_96 (dk_at dksX4_leastOf_5 8 rfl rfl)
theorem dX4_leastOf_125 : decode cX4_leastOf 125 = .ok (.iload 10, 2) := dk_21 10 (dk_at dksX4_leastOf_5 9 rfl rfl)
theorem dX4_leastOf_127 : decode cX4_leastOf 127 = .ok (.iadd, 1) := dk_96 (dk_at dksX4_leastOf_5 11 rfl rfl)
theorem dX4_leastOf_128 : decode cX4_leastOf 128 = .ok (.istore 4, 2) := dk_54 4 (dk_at dksX4_leastOf_5 12 rfl rfl)
theorem dX4_leastOf_130 : decode cX4_leastOf 130 = .ok (.goto (-115), 3) := dk_167 255 141 (dk_at dksX4_leastOf_5 14 rfl rfl)
theorem dX4_leastOf_133 : decode cX4_leastOf 133 = .ok (.iload 8, 2) := dk_21 8 (dk_at dksX4_leastOf_5 17 rfl rfl)
theorem dX4_leastOf_135 : decode cX4_leastOf 135 = .ok (.ireturn, 1) := dk_172 (dk_at dksX4_leastOf_5 19 rfl rfl)
abbrev cX4_drawDeeds : ByteArray := prog_21_method_20_code
def yX4_drawDeeds : MethodName := ⟨RX4, "drawDeeds", "(II)I"⟩
def dkwX4_drawDeeds_1 : List UInt8 := [162, 0, 19, 42, 182, 0, 120, 153, 0, 6, 132, 3, 1, 132, 4, 1, 167, 255, 237, 29, 172]
abbrev dktX4_drawDeeds_1 : List UInt8 := dkwX4_drawDeeds_1 ++ []
def dkwX4_drawDeeds_0 : List UInt8 := [42, 180, 0, 27, 154, 0, 5, 3, 172, 42, 28, 181, 0, 105, 3, 62, 3, 54, 4, 21, 4, 27]
abbrev dktX4_drawDeeds_0 : List UInt8 := dkwX4_drawDeeds_0 ++ dktX4_drawDeeds_1
theorem dksX4_drawDeeds_0 : cX4_drawDeeds.data.toList.drop 0 = dktX4_drawDeeds_0 := by decide +kernel
theorem dksX4_drawDeeds_1 : cX4_drawDeeds.data.toList.drop 22 = dktX4_drawDeeds_1 := dk_seg dksX4_drawDeeds_0 22 rfl rfl
theorem dX4_drawDeeds_0 : decode cX4_drawDeeds 0 = .ok (.aload_n 0, 1) := dk_42 (dk_at dksX4_drawDeeds_0 0 rfl rfl)
theorem dX4_drawDeeds_1 : decode cX4_drawDeeds 1 = .ok (.getfield 27, 3) := dk_180 0 27 (dk_at dksX4_drawDeeds_0 1 rfl rfl)
theorem dX4_drawDeeds_4 : decode cX4_drawDeeds 4 = .ok (.ifCond .ne 5, 3) := dk_154 0 5 (dk_at dksX4_drawDeeds_0 4 rfl rfl)
theorem dX4_drawDeeds_7 : decode cX4_drawDeeds 7 = .ok (.iconst 0, 1) := dk_3 (dk_at dksX4_drawDeeds_0 7 rfl rfl)
theorem dX4_drawDeeds_8 : decode cX4_drawDeeds 8 = .ok (.ireturn, 1) := dk_172 (dk_at dksX4_drawDeeds_0 8 rfl rfl)
theorem dX4_drawDeeds_9 : decode cX4_drawDeeds 9 = .ok (.aload_n 0, 1) := dk_42 (dk_at dksX4_drawDeeds_0 9 rfl rfl)
theorem dX4_drawDeeds_10 : decode cX4_drawDeeds 10 = .ok (.iload_n 2, 1) := dk_28 (dk_at dksX4_drawDeeds_0 10 rfl rfl)
theorem dX4_drawDeeds_11 : decode cX4_drawDeeds 11 = .ok (.putfield 105, 3) := dk_181 0 105 (dk_at dksX4_drawDeeds_0 11 rfl rfl)
theorem dX4_drawDeeds_14 : decode cX4_drawDeeds 14 = .ok (.iconst 0, 1) := dk_3 (dk_at dksX4_drawDeeds_0 14 rfl rfl)
theorem dX4_drawDeeds_15 : decode cX4_drawDeeds 15 = .ok (.istore_n 3, 1) := dk_62 (dk_at dksX4_drawDeeds_0 15 rfl rfl)
theorem dX4_drawDeeds_16 : decode cX4_drawDeeds 16 = .ok (.iconst 0, 1) := dk_3 (dk_at dksX4_drawDeeds_0 16 rfl rfl)
theorem dX4_drawDeeds_17 : decode cX4_drawDeeds 17 = .ok (.istore 4, 2) := dk_54 4 (dk_at dksX4_drawDeeds_0 17 rfl rfl)
theorem dX4_drawDeeds_19 : decode cX4_drawDeeds 19 = .ok (.iload 4, 2) := dk_21 4 (dk_at dksX4_drawDeeds_0 19 rfl rfl)
theorem dX4_drawDeeds_21 : decode cX4_drawDeeds 21 = .ok (.iload_n 1, 1) := dk_27 (dk_at dksX4_drawDeeds_0 21 rfl rfl)
theorem dX4_drawDeeds_22 : decode cX4_drawDeeds 22 = .ok (.if_icmp .ge 19, 3) := dk_162 0 19 (dk_at dksX4_drawDeeds_1 0 rfl rfl)
theorem dX4_drawDeeds_25 : decode cX4_drawDeeds 25 = .ok (.aload_n 0, 1) := dk_42 (dk_at dksX4_drawDeeds_1 3 rfl rfl)
theorem dX4_drawDeeds_26 : decode cX4_drawDeeds 26 = .ok (.invokevirtual 120, 3) := dk_182 0 120 (dk_at dksX4_drawDeeds_1 4 rfl rfl)
theorem dX4_drawDeeds_29 : decode cX4_drawDeeds 29 = .ok (.ifCond .eq 6, 3) := dk_153 0 6 (dk_at dksX4_drawDeeds_1 7 rfl rfl)
theorem dX4_drawDeeds_32 : decode cX4_drawDeeds 32 = .ok (.iinc 3 1, 3) := dk_132 3 1 (dk_at dksX4_drawDeeds_1 10 rfl rfl)
theorem dX4_drawDeeds_35 : decode cX4_drawDeeds 35 = .ok (.iinc 4 1, 3) := dk_132 4 1 (dk_at dksX4_drawDeeds_1 13 rfl rfl)
theorem dX4_drawDeeds_38 : decode cX4_drawDeeds 38 = .ok (.goto (-19), 3) := dk_167 255 237 (dk_at dksX4_drawDeeds_1 16 rfl rfl)
theorem dX4_drawDeeds_41 : decode cX4_drawDeeds 41 = .ok (.iload_n 3, 1) := dk_29 (dk_at dksX4_drawDeeds_1 19 rfl rfl)
theorem dX4_drawDeeds_42 : decode cX4_drawDeeds 42 = .ok (.ireturn, 1) := dk_172 (dk_at dksX4_drawDeeds_1 20 rfl rfl)
abbrev cX4_drawDeed : ByteArray := prog_21_method_19_code
def yX4_drawDeed : MethodName := ⟨RX4, "drawDeed", "()Z"⟩
def dkwX4_drawDeed_7 : List UInt8 := [182, 0, 116, 4, 172]
abbrev dktX4_drawDeed_7 : List UInt8 := dkwX4_drawDeed_7 ++ []
def dkwX4_drawDeed_6 : List UInt8 := [42, 21, 4, 28, 29, 21, 5, 182, 0, 112, 153, 0, 5, 3, 172, 42, 21, 4, 28, 29, 21, 5]
abbrev dktX4_drawDeed_6 : List UInt8 := dkwX4_drawDeed_6 ++ dktX4_drawDeed_7
def dkwX4_drawDeed_5 : List UInt8 := [167, 0, 11, 42, 42, 180, 0, 27, 182, 0, 109, 54, 5, 27, 8, 164, 0, 9, 21, 5, 28, 159, 0, 16]
abbrev dktX4_drawDeed_5 : List UInt8 := dkwX4_drawDeed_5 ++ dktX4_drawDeed_6
def dkwX4_drawDeed_4 : List UInt8 := [182, 0, 109, 4, 96, 167, 0, 28, 27, 16, 6, 162, 0, 14, 42, 16, 40, 182, 0, 109, 4, 96]
abbrev dktX4_drawDeed_4 : List UInt8 := dkwX4_drawDeed_4 ++ dktX4_drawDeed_5
def dkwX4_drawDeed_3 : List UInt8 := [54, 4, 27, 6, 162, 0, 11, 42, 5, 182, 0, 109, 167, 0, 44, 27, 6, 160, 0, 14, 42, 16, 8]
abbrev dktX4_drawDeed_3 : List UInt8 := dkwX4_drawDeed_3 ++ dktX4_drawDeed_4
def dkwX4_drawDeed_2 : List UInt8 := [167, 0, 24, 27, 16, 6, 162, 0, 7, 6, 167, 0, 14, 27, 16, 6, 160, 0, 7, 7, 167, 0, 4, 8]
abbrev dktX4_drawDeed_2 : List UInt8 := dkwX4_drawDeed_2 ++ dktX4_drawDeed_3
def dkwX4_drawDeed_1 : List UInt8 := [182, 0, 49, 4, 96, 182, 0, 109, 62, 27, 6, 162, 0, 7, 3, 167, 0, 33, 27, 6, 160, 0, 7, 5]
abbrev dktX4_drawDeed_1 : List UInt8 := dkwX4_drawDeed_1 ++ dktX4_drawDeed_2
def dkwX4_drawDeed_0 : List UInt8 := [42, 16, 8, 182, 0, 109, 60, 42, 42, 180, 0, 27, 182, 0, 109, 61, 42, 42, 180, 0, 11, 28, 50]
abbrev dktX4_drawDeed_0 : List UInt8 := dkwX4_drawDeed_0 ++ dktX4_drawDeed_1
theorem dksX4_drawDeed_0 : cX4_drawDeed.data.toList.drop 0 = dktX4_drawDeed_0 := by decide +kernel
theorem dksX4_drawDeed_1 : cX4_drawDeed.data.toList.drop 23 = dktX4_drawDeed_1 := dk_seg dksX4_drawDeed_0 23 rfl rfl
theorem dksX4_drawDeed_2 : cX4_drawDeed.data.toList.drop 47 = dktX4_drawDeed_2 := dk_seg dksX4_drawDeed_1 24 rfl rfl
theorem dksX4_drawDeed_3 : cX4_drawDeed.data.toList.drop 71 = dktX4_drawDeed_3 := dk_seg dksX4_drawDeed_2 24 rfl rfl
theorem dksX4_drawDeed_4 : cX4_drawDeed.data.toList.drop 94 = dktX4_drawDeed_4 := dk_seg dksX4_drawDeed_3 23 rfl rfl
theorem dksX4_drawDeed_5 : cX4_drawDeed.data.toList.drop 116 = dktX4_drawDeed_5 := dk_seg dksX4_drawDeed_4 22 rfl rfl
theorem dksX4_drawDeed_6 : cX4_drawDeed.data.toList.drop 140 = dktX4_drawDeed_6 := dk_seg dksX4_drawDeed_5 24 rfl rfl
theorem dksX4_drawDeed_7 : cX4_drawDeed.data.toList.drop 162 = dktX4_drawDeed_7 := dk_seg dksX4_drawDeed_6 22 rfl rfl
theorem dX4_drawDeed_0 : decode cX4_drawDeed 0 = .ok (.aload_n 0, 1) := dk_42 (dk_at dksX4_drawDeed_0 0 rfl rfl)
theorem dX4_drawDeed_1 : decode cX4_drawDeed 1 = .ok (.bipush 8, 2) := dk_16 8 (dk_at dksX4_drawDeed_0 1 rfl rfl)
theorem dX4_drawDeed_3 : decode cX4_drawDeed 3 = .ok (.invokevirtual 109, 3) := dk_182 0 109 (dk_at dksX4_drawDeed_0 3 rfl rfl)
theorem dX4_drawDeed_6 : decode cX4_drawDeed 6 = .ok (.istore_n 1, 1) := dk_60 (dk_at dksX4_drawDeed_0 6 rfl rfl)
theorem dX4_drawDeed_7 : decode cX4_drawDeed 7 = .ok (.aload_n 0, 1) := dk_42 (dk_at dksX4_drawDeed_0 7 rfl rfl)
theorem dX4_drawDeed_8 : decode cX4_drawDeed 8 = .ok (.aload_n 0, 1) := dk_42 (dk_at dksX4_drawDeed_0 8 rfl rfl)
theorem dX4_drawDeed_9 : decode cX4_drawDeed 9 = .ok (.getfield 27, 3) := dk_180 0 27 (dk_at dksX4_drawDeed_0 9 rfl rfl)
theorem dX4_drawDeed_12 : decode cX4_drawDeed 12 = .ok (.invokevirtual 109, 3) := dk_182 0 109 (dk_at dksX4_drawDeed_0 12 rfl rfl)
theorem dX4_drawDeed_15 : decode cX4_drawDeed 15 = .ok (.istore_n 2, 1) := dk_61 (dk_at dksX4_drawDeed_0 15 rfl rfl)
theorem dX4_drawDeed_16 : decode cX4_drawDeed 16 = .ok (.aload_n 0, 1) := dk_42 (dk_at dksX4_drawDeed_0 16 rfl rfl)
theorem dX4_drawDeed_17 : decode cX4_drawDeed 17 = .ok (.aload_n 0, 1) := dk_42 (dk_at dksX4_drawDeed_0 17 rfl rfl)
theorem dX4_drawDeed_18 : decode cX4_drawDeed 18 = .ok (.getfield 11, 3) := dk_180 0 11 (dk_at dksX4_drawDeed_0 18 rfl rfl)
theorem dX4_drawDeed_21 : decode cX4_drawDeed 21 = .ok (.iload_n 2, 1) := dk_28 (dk_at dksX4_drawDeed_0 21 rfl rfl)
theorem dX4_drawDeed_22 : decode cX4_drawDeed 22 = .ok (.aaload, 1) := dk_50 (dk_at dksX4_drawDeed_0 22 rfl rfl)
theorem dX4_drawDeed_23 : decode cX4_drawDeed 23 = .ok (.invokevirtual 49, 3) := dk_182 0 49 (dk_at dksX4_drawDeed_1 0 rfl rfl)
theorem dX4_drawDeed_26 : decode cX4_drawDeed 26 = .ok (.iconst 1, 1) := dk_4 (dk_at dksX4_drawDeed_1 3 rfl rfl)
theorem dX4_drawDeed_27 : decode cX4_drawDeed 27 = .ok (.iadd, 1) := dk_96 (dk_at dksX4_drawDeed_1 4 rfl rfl)
theorem dX4_drawDeed_28 : decode cX4_drawDeed 28 = .ok (.invokevirtual 109, 3) := dk_182 0 109 (dk_at dksX4_drawDeed_1 5 rfl rfl)
theorem dX4_drawDeed_31 : decode cX4_drawDeed 31 = .ok (.istore_n 3, 1) := dk_62 (dk_at dksX4_drawDeed_1 8 rfl rfl)
theorem dX4_drawDeed_32 : decode cX4_drawDeed 32 = .ok (.iload_n 1, 1) := dk_27 (dk_at dksX4_drawDeed_1 9 rfl rfl)
theorem dX4_drawDeed_33 : decode cX4_drawDeed 33 = .ok (.iconst 3, 1) := dk_6 (dk_at dksX4_drawDeed_1 10 rfl rfl)
theorem dX4_drawDeed_34 : decode cX4_drawDeed 34 = .ok (.if_icmp .ge 7, 3) := dk_162 0 7 (dk_at dksX4_drawDeed_1 11 rfl rfl)
theorem dX4_drawDeed_37 : decode cX4_drawDeed 37 = .ok (.iconst 0, 1) := dk_3 (dk_at dksX4_drawDeed_1 14 rfl rfl)
theorem dX4_drawDeed_38 : decode cX4_drawDeed 38 = .ok (.goto 33, 3) := dk_167 0 33 (dk_at dksX4_drawDeed_1 15 rfl rfl)
theorem dX4_drawDeed_41 : decode cX4_drawDeed 41 = .ok (.iload_n 1, 1) := dk_27 (dk_at dksX4_drawDeed_1 18 rfl rfl)
theorem dX4_drawDeed_42 : decode cX4_drawDeed 42 = .ok (.iconst 3, 1) := dk_6 (dk_at dksX4_drawDeed_1 19 rfl rfl)
theorem dX4_drawDeed_43 : decode cX4_drawDeed 43 = .ok (.if_icmp .ne 7, 3) := dk_160 0 7 (dk_at dksX4_drawDeed_1 20 rfl rfl)
theorem dX4_drawDeed_46 : decode cX4_drawDeed 46 = .ok (.iconst 2, 1) := dk_5 (dk_at dksX4_drawDeed_1 23 rfl rfl)
theorem dX4_drawDeed_47 : decode cX4_drawDeed 47 = .ok (.goto 24, 3) := dk_167 0 24 (dk_at dksX4_drawDeed_2 0 rfl rfl)
theorem dX4_drawDeed_50 : decode cX4_drawDeed 50 = .ok (.iload_n 1, 1) := dk_27 (dk_at dksX4_drawDeed_2 3 rfl rfl)
theorem dX4_drawDeed_51 : decode cX4_drawDeed 51 = .ok (.bipush 6, 2) := dk_16 6 (dk_at dksX4_drawDeed_2 4 rfl rfl)
theorem dX4_drawDeed_53 : decode cX4_drawDeed 53 = .ok (.if_icmp .ge 7, 3) := dk_162 0 7 (dk_at dksX4_drawDeed_2 6 rfl rfl)
theorem dX4_drawDeed_56 : decode cX4_drawDeed 56 = .ok (.iconst 3, 1) := dk_6 (dk_at dksX4_drawDeed_2 9 rfl rfl)
theorem dX4_drawDeed_57 : decode cX4_drawDeed 57 = .ok (.goto 14, 3) := dk_167 0 14 (dk_at dksX4_drawDeed_2 10 rfl rfl)
theorem dX4_drawDeed_60 : decode cX4_drawDeed 60 = .ok (.iload_n 1, 1) := dk_27 (dk_at dksX4_drawDeed_2 13 rfl rfl)
theorem dX4_drawDeed_61 : decode cX4_drawDeed 61 = .ok (.bipush 6, 2) := dk_16 6 (dk_at dksX4_drawDeed_2 14 rfl rfl)
theorem dX4_drawDeed_63 : decode cX4_drawDeed 63 = .ok (.if_icmp .ne 7, 3) := dk_160 0 7 (dk_at dksX4_drawDeed_2 16 rfl rfl)
theorem dX4_drawDeed_66 : decode cX4_drawDeed 66 = .ok (.iconst 4, 1) := dk_7 (dk_at dksX4_drawDeed_2 19 rfl rfl)
theorem dX4_drawDeed_67 : decode cX4_drawDeed 67 = .ok (.goto 4, 3) := dk_167 0 4 (dk_at dksX4_drawDeed_2 20 rfl rfl)
theorem dX4_drawDeed_70 : decode cX4_drawDeed 70 = .ok (.iconst 5, 1) := dk_8 (dk_at dksX4_drawDeed_2 23 rfl rfl)
theorem dX4_drawDeed_71 : decode cX4_drawDeed 71 = .ok (.istore 4, 2) := dk_54 4 (dk_at dksX4_drawDeed_3 0 rfl rfl)
theorem dX4_drawDeed_73 : decode cX4_drawDeed 73 = .ok (.iload_n 1, 1) := dk_27 (dk_at dksX4_drawDeed_3 2 rfl rfl)
theorem dX4_drawDeed_74 : decode cX4_drawDeed 74 = .ok (.iconst 3, 1) := dk_6 (dk_at dksX4_drawDeed_3 3 rfl rfl)
theorem dX4_drawDeed_75 : decode cX4_drawDeed 75 = .ok (.if_icmp .ge 11, 3) := dk_162 0 11 (dk_at dksX4_drawDeed_3 4 rfl rfl)
theorem dX4_drawDeed_78 : decode cX4_drawDeed 78 = .ok (.aload_n 0, 1) := dk_42 (dk_at dksX4_drawDeed_3 7 rfl rfl)
theorem dX4_drawDeed_79 : decode cX4_drawDeed 79 = .ok (.iconst 2, 1) := dk_5 (dk_at dksX4_drawDeed_3 8 rfl rfl)
theorem dX4_drawDeed_80 : decode cX4_drawDeed 80 = .ok (.invokevirtual 109, 3) := dk_182 0 109 (dk_at dksX4_drawDeed_3 9 rfl rfl)
theorem dX4_drawDeed_83 : decode cX4_drawDeed 83 = .ok (.goto 44, 3) := dk_167 0 44 (dk_at dksX4_drawDeed_3 12 rfl rfl)
theorem dX4_drawDeed_86 : decode cX4_drawDeed 86 = .ok (.iload_n 1, 1) := dk_27 (dk_at dksX4_drawDeed_3 15 rfl rfl)
theorem dX4_drawDeed_87 : decode cX4_drawDeed 87 = .ok (.iconst 3, 1) := dk_6 (dk_at dksX4_drawDeed_3 16 rfl rfl)
theorem dX4_drawDeed_88 : decode cX4_drawDeed 88 = .ok (.if_icmp .ne 14, 3) := dk_160 0 14 (dk_at dksX4_drawDeed_3 17 rfl rfl)
theorem dX4_drawDeed_91 : decode cX4_drawDeed 91 = .ok (.aload_n 0, 1) := dk_42 (dk_at dksX4_drawDeed_3 20 rfl rfl)
theorem dX4_drawDeed_92 : decode cX4_drawDeed 92 = .ok (.bipush 8, 2) := dk_16 8 (dk_at dksX4_drawDeed_3 21 rfl rfl)
theorem dX4_drawDeed_94 : decode cX4_drawDeed 94 = .ok (.invokevirtual 109, 3) := dk_182 0 109 (dk_at dksX4_drawDeed_4 0 rfl rfl)
theorem dX4_drawDeed_97 : decode cX4_drawDeed 97 = .ok (.iconst 1, 1) := dk_4 (dk_at dksX4_drawDeed_4 3 rfl rfl)
theorem dX4_drawDeed_98 : decode cX4_drawDeed 98 = .ok (.iadd, 1) := dk_96 (dk_at dksX4_drawDeed_4 4 rfl rfl)
theorem dX4_drawDeed_99 : decode cX4_drawDeed 99 = .ok (.goto 28, 3) := dk_167 0 28 (dk_at dksX4_drawDeed_4 5 rfl rfl)
theorem dX4_drawDeed_102 : decode cX4_drawDeed 102 = .ok (.iload_n 1, 1) := dk_27 (dk_at dksX4_drawDeed_4 8 rfl rfl)
theorem dX4_drawDeed_103 : decode cX4_drawDeed 103 = .ok (.bipush 6, 2) := dk_16 6 (dk_at dksX4_drawDeed_4 9 rfl rfl)
theorem dX4_drawDeed_105 : decode cX4_drawDeed 105 = .ok (.if_icmp .ge 14, 3) := dk_162 0 14 (dk_at dksX4_drawDeed_4 11 rfl rfl)
theorem dX4_drawDeed_108 : decode cX4_drawDeed 108 = .ok (.aload_n 0, 1) := dk_42 (dk_at dksX4_drawDeed_4 14 rfl rfl)
theorem dX4_drawDeed_109 : decode cX4_drawDeed 109 = .ok (.bipush 40, 2) := dk_16 40 (dk_at dksX4_drawDeed_4 15 rfl rfl)
theorem dX4_drawDeed_111 : decode cX4_drawDeed 111 = .ok (.invokevirtual 109, 3) := dk_182 0 109 (dk_at dksX4_drawDeed_4 17 rfl rfl)
theorem dX4_drawDeed_114 : decode cX4_drawDeed 114 = .ok (.iconst 1, 1) := dk_4 (dk_at dksX4_drawDeed_4 20 rfl rfl)
theorem dX4_drawDeed_115 : decode cX4_drawDeed 115 = .ok (.iadd, 1) := dk_96 (dk_at dksX4_drawDeed_4 21 rfl rfl)
theorem dX4_drawDeed_116 : decode cX4_drawDeed 116 = .ok (.goto 11, 3) := dk_167 0 11 (dk_at dksX4_drawDeed_5 0 rfl rfl)
theorem dX4_drawDeed_119 : decode cX4_drawDeed 119 = .ok (.aload_n 0, 1) := dk_42 (dk_at dksX4_drawDeed_5 3 rfl rfl)
theorem dX4_drawDeed_120 : decode cX4_drawDeed 120 = .ok (.aload_n 0, 1) := dk_42 (dk_at dksX4_drawDeed_5 4 rfl rfl)
theorem dX4_drawDeed_121 : decode cX4_drawDeed 121 = .ok (.getfield 27, 3) := dk_180 0 27 (dk_at dksX4_drawDeed_5 5 rfl rfl)
theorem dX4_drawDeed_124 : decode cX4_drawDeed 124 = .ok (.invokevirtual 109, 3) := dk_182 0 109 (dk_at dksX4_drawDeed_5 8 rfl rfl)
theorem dX4_drawDeed_127 : decode cX4_drawDeed 127 = .ok (.istore 5, 2) := dk_54 5 (dk_at dksX4_drawDeed_5 11 rfl rfl)
theorem dX4_drawDeed_129 : decode cX4_drawDeed 129 = .ok (.iload_n 1, 1) := dk_27 (dk_at dksX4_drawDeed_5 13 rfl rfl)
theorem dX4_drawDeed_130 : decode cX4_drawDeed 130 = .ok (.iconst 5, 1) := dk_8 (dk_at dksX4_drawDeed_5 14 rfl rfl)
theorem dX4_drawDeed_131 : decode cX4_drawDeed 131 = .ok (.if_icmp .le 9, 3) := dk_164 0 9 (dk_at dksX4_drawDeed_5 15 rfl rfl)
theorem dX4_drawDeed_134 : decode cX4_drawDeed 134 = .ok (.iload 5, 2) := dk_21 5 (dk_at dksX4_drawDeed_5 18 rfl rfl)
theorem dX4_drawDeed_136 : decode cX4_drawDeed 136 = .ok (.iload_n 2, 1) := dk_28 (dk_at dksX4_drawDeed_5 20 rfl rfl)
theorem dX4_drawDeed_137 : decode cX4_drawDeed 137 = .ok (.if_icmp .eq 16, 3) := dk_159 0 16 (dk_at dksX4_drawDeed_5 21 rfl rfl)
theorem dX4_drawDeed_140 : decode cX4_drawDeed 140 = .ok (.aload_n 0, 1) := dk_42 (dk_at dksX4_drawDeed_6 0 rfl rfl)
theorem dX4_drawDeed_141 : decode cX4_drawDeed 141 = .ok (.iload 4, 2) := dk_21 4 (dk_at dksX4_drawDeed_6 1 rfl rfl)
theorem dX4_drawDeed_143 : decode cX4_drawDeed 143 = .ok (.iload_n 2, 1) := dk_28 (dk_at dksX4_drawDeed_6 3 rfl rfl)
theorem dX4_drawDeed_144 : decode cX4_drawDeed 144 = .ok (.iload_n 3, 1) := dk_29 (dk_at dksX4_drawDeed_6 4 rfl rfl)
theorem dX4_drawDeed_145 : decode cX4_drawDeed 145 = .ok (.iload 5, 2) := dk_21 5 (dk_at dksX4_drawDeed_6 5 rfl rfl)
theorem dX4_drawDeed_147 : decode cX4_drawDeed 147 = .ok (.invokevirtual 112, 3) := dk_182 0 112 (dk_at dksX4_drawDeed_6 7 rfl rfl)
theorem dX4_drawDeed_150 : decode cX4_drawDeed 150 = .ok (.ifCond .eq 5, 3) := dk_153 0 5 (dk_at dksX4_drawDeed_6 10 rfl rfl)
theorem dX4_drawDeed_153 : decode cX4_drawDeed 153 = .ok (.iconst 0, 1) := dk_3 (dk_at dksX4_drawDeed_6 13 rfl rfl)
theorem dX4_drawDeed_154 : decode cX4_drawDeed 154 = .ok (.ireturn, 1) := dk_172 (dk_at dksX4_drawDeed_6 14 rfl rfl)
theorem dX4_drawDeed_155 : decode cX4_drawDeed 155 = .ok (.aload_n 0, 1) := dk_42 (dk_at dksX4_drawDeed_6 15 rfl rfl)
theorem dX4_drawDeed_156 : decode cX4_drawDeed 156 = .ok (.iload 4, 2) := dk_21 4 (dk_at dksX4_drawDeed_6 16 rfl rfl)
theorem dX4_drawDeed_158 : decode cX4_drawDeed 158 = .ok (.iload_n 2, 1) := dk_28 (dk_at dksX4_drawDeed_6 18 rfl rfl)
theorem dX4_drawDeed_159 : decode cX4_drawDeed 159 = .ok (.iload_n 3, 1) := dk_29 (dk_at dksX4_drawDeed_6 19 rfl rfl)
theorem dX4_drawDeed_160 : decode cX4_drawDeed 160 = .ok (.iload 5, 2) := dk_21 5 (dk_at dksX4_drawDeed_6 20 rfl rfl)
theorem dX4_drawDeed_162 : decode cX4_drawDeed 162 = .ok (.invokevirtual 116, 3) := dk_182 0 116 (dk_at dksX4_drawDeed_7 0 rfl rfl)
theorem dX4_drawDeed_165 : decode cX4_drawDeed 165 = .ok (.iconst 1, 1) := dk_4 (dk_at dksX4_drawDeed_7 3 rfl rfl)
theorem dX4_drawDeed_166 : decode cX4_drawDeed 166 = .ok (.ireturn, 1) := dk_172 (dk_at dksX4_drawDeed_7 4 rfl rfl)
abbrev cX4_draw : ByteArray := prog_21_method_18_code
def yX4_draw : MethodName := ⟨RX4, "draw", "(I)I"⟩
def dkwX4_draw_1 : List UInt8 := [172]
abbrev dktX4_draw_1 : List UInt8 := dkwX4_draw_1 ++ []
def dkwX4_draw_0 : List UInt8 := [42, 42, 180, 0, 105, 18, 108, 104, 17, 48, 57, 96, 181, 0, 105, 42, 180, 0, 105, 16, 8, 124, 27, 112]
abbrev dktX4_draw_0 : List UInt8 := dkwX4_draw_0 ++ dktX4_draw_1
theorem dksX4_draw_0 : cX4_draw.data.toList.drop 0 = dktX4_draw_0 := by decide +kernel
theorem dksX4_draw_1 : cX4_draw.data.toList.drop 24 = dktX4_draw_1 := dk_seg dksX4_draw_0 24 rfl rfl
theorem dX4_draw_0 : decode cX4_draw 0 = .ok (.aload_n 0, 1) := dk_42 (dk_at dksX4_draw_0 0 rfl rfl)
theorem dX4_draw_1 : decode cX4_draw 1 = .ok (.aload_n 0, 1) := dk_42 (dk_at dksX4_draw_0 1 rfl rfl)
theorem dX4_draw_2 : decode cX4_draw 2 = .ok (.getfield 105, 3) := dk_180 0 105 (dk_at dksX4_draw_0 2 rfl rfl)
theorem dX4_draw_5 : decode cX4_draw 5 = .ok (.ldc 108, 2) := dk_18 108 (dk_at dksX4_draw_0 5 rfl rfl)
theorem dX4_draw_7 : decode cX4_draw 7 = .ok (.imul, 1) := dk_104 (dk_at dksX4_draw_0 7 rfl rfl)
theorem dX4_draw_8 : decode cX4_draw 8 = .ok (.sipush 12345, 3) := dk_17 48 57 (dk_at dksX4_draw_0 8 rfl rfl)
theorem dX4_draw_11 : decode cX4_draw 11 = .ok (.iadd, 1) := dk_96 (dk_at dksX4_draw_0 11 rfl rfl)
theorem dX4_draw_12 : decode cX4_draw 12 = .ok (.putfield 105, 3) := dk_181 0 105 (dk_at dksX4_draw_0 12 rfl rfl)
theorem dX4_draw_15 : decode cX4_draw 15 = .ok (.aload_n 0, 1) := dk_42 (dk_at dksX4_draw_0 15 rfl rfl)
theorem dX4_draw_16 : decode cX4_draw 16 = .ok (.getfield 105, 3) := dk_180 0 105 (dk_at dksX4_draw_0 16 rfl rfl)
theorem dX4_draw_19 : decode cX4_draw 19 = .ok (.bipush 8, 2) := dk_16 8 (dk_at dksX4_draw_0 19 rfl rfl)
theorem dX4_draw_21 : decode cX4_draw 21 = .ok (.iushr, 1) := dk_124 (dk_at dksX4_draw_0 21 rfl rfl)
theorem dX4_draw_22 : decode cX4_draw 22 = .ok (.iload_n 1, 1) := dk_27 (dk_at dksX4_draw_0 22 rfl rfl)
theorem dX4_draw_23 : decode cX4_draw 23 = .ok (.irem, 1) := dk_112 (dk_at dksX4_draw_0 23 rfl rfl)
theorem dX4_draw_24 : decode cX4_draw 24 = .ok (.ireturn, 1) := dk_172 (dk_at dksX4_draw_1 0 rfl rfl)
abbrev cX4_bits : ByteArray := prog_21_method_6_code
def yX4_bits : MethodName := ⟨RX4, "bits", "()I"⟩
def dkwX4_bits_1 : List UInt8 := [58, 5, 27, 25, 5, 182, 0, 49, 96, 60, 132, 4, 1, 167, 255, 233, 27, 172]
abbrev dktX4_bits_1 : List UInt8 := dkwX4_bits_1 ++ []
def dkwX4_bits_0 : List UInt8 := [3, 60, 42, 180, 0, 11, 77, 44, 190, 62, 3, 54, 4, 21, 4, 29, 162, 0, 23, 44, 21, 4, 50]
abbrev dktX4_bits_0 : List UInt8 := dkwX4_bits_0 ++ dktX4_bits_1
theorem dksX4_bits_0 : cX4_bits.data.toList.drop 0 = dktX4_bits_0 := by decide +kernel
theorem dksX4_bits_1 : cX4_bits.data.toList.drop 23 = dktX4_bits_1 := dk_seg dksX4_bits_0 23 rfl rfl
theorem dX4_bits_0 : decode cX4_bits 0 = .ok (.iconst 0, 1) := dk_3 (dk_at dksX4_bits_0 0 rfl rfl)
theorem dX4_bits_1 : decode cX4_bits 1 = .ok (.istore_n 1, 1) := dk_60 (dk_at dksX4_bits_0 1 rfl rfl)
theorem dX4_bits_2 : decode cX4_bits 2 = .ok (.aload_n 0, 1) := dk_42 (dk_at dksX4_bits_0 2 rfl rfl)
theorem dX4_bits_3 : decode cX4_bits 3 = .ok (.getfield 11, 3) := dk_180 0 11 (dk_at dksX4_bits_0 3 rfl rfl)
theorem dX4_bits_6 : decode cX4_bits 6 = .ok (.astore_n 2, 1) := dk_77 (dk_at dksX4_bits_0 6 rfl rfl)
theorem dX4_bits_7 : decode cX4_bits 7 = .ok (.aload_n 2, 1) := dk_44 (dk_at dksX4_bits_0 7 rfl rfl)
theorem dX4_bits_8 : decode cX4_bits 8 = .ok (.arraylength, 1) := dk_190 (dk_at dksX4_bits_0 8 rfl rfl)
theorem dX4_bits_9 : decode cX4_bits 9 = .ok (.istore_n 3, 1) := dk_62 (dk_at dksX4_bits_0 9 rfl rfl)
theorem dX4_bits_10 : decode cX4_bits 10 = .ok (.iconst 0, 1) := dk_3 (dk_at dksX4_bits_0 10 rfl rfl)
theorem dX4_bits_11 : decode cX4_bits 11 = .ok (.istore 4, 2) := dk_54 4 (dk_at dksX4_bits_0 11 rfl rfl)
theorem dX4_bits_13 : decode cX4_bits 13 = .ok (.iload 4, 2) := dk_21 4 (dk_at dksX4_bits_0 13 rfl rfl)
theorem dX4_bits_15 : decode cX4_bits 15 = .ok (.iload_n 3, 1) := dk_29 (dk_at dksX4_bits_0 15 rfl rfl)
theorem dX4_bits_16 : decode cX4_bits 16 = .ok (.if_icmp .ge 23, 3) := dk_162 0 23 (dk_at dksX4_bits_0 16 rfl rfl)
theorem dX4_bits_19 : decode cX4_bits 19 = .ok (.aload_n 2, 1) := dk_44 (dk_at dksX4_bits_0 19 rfl rfl)
theorem dX4_bits_20 : decode cX4_bits 20 = .ok (.iload 4, 2) := dk_21 4 (dk_at dksX4_bits_0 20 rfl rfl)
theorem dX4_bits_22 : decode cX4_bits 22 = .ok (.aaload, 1) := dk_50 (dk_at dksX4_bits_0 22 rfl rfl)
theorem dX4_bits_23 : decode cX4_bits 23 = .ok (.astore 5, 2) := dk_58 5 (dk_at dksX4_bits_1 0 rfl rfl)
theorem dX4_bits_25 : decode cX4_bits 25 = .ok (.iload_n 1, 1) := dk_27 (dk_at dksX4_bits_1 2 rfl rfl)
theorem dX4_bits_26 : decode cX4_bits 26 = .ok (.aload 5, 2) := dk_25 5 (dk_at dksX4_bits_1 3 rfl rfl)
theorem dX4_bits_28 : decode cX4_bits 28 = .ok (.invokevirtual 49, 3) := dk_182 0 49 (dk_at dksX4_bits_1 5 rfl rfl)
theorem dX4_bits_31 : decode cX4_bits 31 = .ok (.iadd, 1) := dk_96 (dk_at dksX4_bits_1 8 rfl rfl)
theorem dX4_bits_32 : decode cX4_bits 32 = .ok (.istore_n 1, 1) := dk_60 (dk_at dksX4_bits_1 9 rfl rfl)
theorem dX4_bits_33 : decode cX4_bits 33 = .ok (.iinc 4 1, 3) := dk_132 4 1 (dk_at dksX4_bits_1 10 rfl rfl)
theorem dX4_bits_36 : decode cX4_bits 36 = .ok (.goto (-23), 3) := dk_167 255 233 (dk_at dksX4_bits_1 13 rfl rfl)
theorem dX4_bits_39 : decode cX4_bits 39 = .ok (.iload_n 1, 1) := dk_27 (dk_at dksX4_bits_1 16 rfl rfl)
theorem dX4_bits_40 : decode cX4_bits 40 = .ok (.ireturn, 1) := dk_172 (dk_at dksX4_bits_1 17 rfl rfl)
theorem q115 : (Jvm.Cond.initialized "BitRopes$State") ∈ lw_all := lw_g (lw_at lw_m1 6 rfl) rfl
theorem q258 : (Jvm.Cond.fieldLinkNest "BitRopes$State" (21 : Nat) "BitRopes$Room" "rows" "I" "BitRopes") ∈ lw_tbl := lw_at lw_m1 149 rfl
theorem q264 : (Jvm.Cond.fieldLinkNest "BitRopes$State" (28 : Nat) "BitRopes$Room" "low" "I" "BitRopes") ∈ lw_tbl := lw_at lw_m1 155 rfl
theorem q276 : (Jvm.Cond.instantiable "BitRopes$State" (4 : Nat)) ∈ lw_all := lw_g (lw_at lw_m1 167 rfl) rfl
theorem q278 : (Jvm.Cond.instanceMethod ({ cls := "BitRopes$State", name := "<init>", desc := "()V" } : Jvm.MethodName)) ∈ lw_all := lw_g (lw_at lw_m1 169 rfl) rfl
theorem q279 : (Jvm.Cond.code ({ cls := "BitRopes$State", name := "<init>", desc := "()V" } : Jvm.MethodName) prog_21_method_1_code (2 : Nat) (Option.none : Option Jvm.ClassFile.FieldType)) ∈ lw_all := lw_g (lw_at lw_m1 170 rfl) rfl
theorem q280 : (Jvm.Cond.methodLink "BitRopes$State" (3 : Nat) ({ cls := "java/lang/Object", name := "<init>", desc := "()V" } : Jvm.MethodName)) ∈ lw_all := lw_g (lw_at lw_m1 171 rfl) rfl
theorem q281 : (Jvm.Cond.classLink "BitRopes$State" (9 : Nat) "BitRopes$Rope") ∈ lw_all := lw_g (lw_at lw_m1 172 rfl) rfl
theorem q284 : (Jvm.Cond.methodLinkNest "BitRopes$State" (20 : Nat) ({ cls := "BitRopes$Rope", name := "<init>", desc := "()V" } : Jvm.MethodName) "BitRopes") ∈ lw_tbl := lw_at lw_m1 175 rfl
theorem q294 : (Jvm.Cond.fieldLinkNest "BitRopes$State" (35 : Nat) "BitRopes$Rope" "low" "I" "BitRopes") ∈ lw_tbl := lw_at lw_m1 185 rfl
theorem q321 : (Jvm.Cond.fieldLink "BitRopes$State" (11 : Nat) "BitRopes$State" "rope" "[LBitRopes$Rope;") ∈ lw_all := lw_g (lw_at lw_m1 212 rfl) rfl
theorem q324 : (Jvm.Cond.fieldLink "BitRopes$State" (17 : Nat) "BitRopes$State" "node" "[LBitRopes$Rope;") ∈ lw_all := lw_g (lw_at lw_m1 215 rfl) rfl
theorem q326 : (Jvm.Cond.fieldLink "BitRopes$State" (27 : Nat) "BitRopes$State" "rows" "I") ∈ lw_all := lw_g (lw_at lw_m1 217 rfl) rfl
theorem q328 : (Jvm.Cond.fieldLink "BitRopes$State" (105 : Nat) "BitRopes$State" "seed" "I") ∈ lw_all := lw_g (lw_at lw_m1 219 rfl) rfl
theorem q329 : (Jvm.Cond.laysFinal "BitRopes$State" "BitRopes$State" "rope" "[LBitRopes$Rope;") ∈ lw_all := lw_g (lw_at lw_m1 220 rfl) rfl
theorem q330 : (Jvm.Cond.soleField "BitRopes$State" "rope") ∈ lw_all := lw_g (lw_at lw_m1 221 rfl) rfl
theorem q331 : (Jvm.Cond.laysFinal "BitRopes$State" "BitRopes$State" "node" "[LBitRopes$Rope;") ∈ lw_all := lw_g (lw_at lw_m1 222 rfl) rfl
theorem q332 : (Jvm.Cond.soleField "BitRopes$State" "node") ∈ lw_all := lw_g (lw_at lw_m1 223 rfl) rfl
theorem q333 : (Jvm.Cond.lays "BitRopes$State" "BitRopes$State" "rows" "I") ∈ lw_all := lw_g (lw_at lw_m1 224 rfl) rfl
theorem q334 : (Jvm.Cond.soleField "BitRopes$State" "rows") ∈ lw_all := lw_g (lw_at lw_m1 225 rfl) rfl
theorem q335 : (Jvm.Cond.lays "BitRopes$State" "BitRopes$State" "seed" "I") ∈ lw_all := lw_g (lw_at lw_m1 226 rfl) rfl
theorem q336 : (Jvm.Cond.soleField "BitRopes$State" "seed") ∈ lw_all := lw_g (lw_at lw_m1 227 rfl) rfl
theorem q337 : (Jvm.Cond.superclass "BitRopes$State" "java/lang/Object") ∈ lw_all := lw_g (lw_at lw_m1 228 rfl) rfl
theorem q439 : (Jvm.Cond.instanceMethod ({ cls := "BitRopes$State", name := "begin", desc := "(LBitRopes$Room;)V" } : Jvm.MethodName)) ∈ lw_all := lw_g (lw_at lw_m2 90 rfl) rfl
theorem q440 : (Jvm.Cond.selects "BitRopes$State" ({ cls := "BitRopes$State", name := "begin", desc := "(LBitRopes$Room;)V" } : Jvm.MethodName) ({ cls := "BitRopes$State", name := "begin", desc := "(LBitRopes$Room;)V" } : Jvm.MethodName)) ∈ lw_all := lw_g (lw_at lw_m2 91 rfl) rfl
theorem q441 : (Jvm.Cond.code ({ cls := "BitRopes$State", name := "begin", desc := "(LBitRopes$Room;)V" } : Jvm.MethodName) prog_21_method_2_code (6 : Nat) (Option.none : Option Jvm.ClassFile.FieldType)) ∈ lw_all := lw_g (lw_at lw_m2 92 rfl) rfl
theorem q442 : (Jvm.Cond.methodLink "BitRopes$State" (31 : Nat) ({ cls := "BitRopes$State", name := "begin", desc := "(LBitRopes$Rope;I)V" } : Jvm.MethodName)) ∈ lw_all := lw_g (lw_at lw_m2 93 rfl) rfl
theorem q443 : (Jvm.Cond.privateMethod ({ cls := "BitRopes$State", name := "begin", desc := "(LBitRopes$Rope;I)V" } : Jvm.MethodName)) ∈ lw_tbl := lw_at lw_m2 94 rfl
theorem q444 : (Jvm.Cond.instanceMethod ({ cls := "BitRopes$State", name := "begin", desc := "(LBitRopes$Rope;I)V" } : Jvm.MethodName)) ∈ lw_all := lw_g (lw_at lw_m2 95 rfl) rfl
theorem q445 : (Jvm.Cond.code ({ cls := "BitRopes$State", name := "begin", desc := "(LBitRopes$Rope;I)V" } : Jvm.MethodName) prog_21_method_3_code (3 : Nat) (Option.none : Option Jvm.ClassFile.FieldType)) ∈ lw_all := lw_g (lw_at lw_m2 96 rfl) rfl
theorem q446 : (Jvm.Cond.methodLink "BitRopes$State" (36 : Nat) ({ cls := "BitRopes$Rope", name := "clea\x72", desc := "()V" } : Jvm.MethodName)) ∈ lw_all := lw_g (lw_at lw_m2 97 rfl) rfl
theorem q853 : (Jvm.Cond.instanceMethod ({ cls := "BitRopes$State", name := "typed", desc := "()I" } : Jvm.MethodName)) ∈ lw_all := lw_g (lw_at lw_m4 24 rfl) rfl
theorem q854 : (Jvm.Cond.selects "BitRopes$State" ({ cls := "BitRopes$State", name := "typed", desc := "()I" } : Jvm.MethodName) ({ cls := "BitRopes$State", name := "typed", desc := "()I" } : Jvm.MethodName)) ∈ lw_all := lw_g (lw_at lw_m4 25 rfl) rfl
theorem q855 : (Jvm.Cond.code ({ cls := "BitRopes$State", name := "typed", desc := "()I" } : Jvm.MethodName) prog_21_method_7_code (1 : Nat) (Option.some Jvm.ClassFile.FieldType.int)) ∈ lw_all := lw_g (lw_at lw_m4 26 rfl) rfl
theorem q856 : (Jvm.Cond.methodLink "BitRopes$State" (49 : Nat) ({ cls := "BitRopes$Rope", name := "wide", desc := "()I" } : Jvm.MethodName)) ∈ lw_all := lw_g (lw_at lw_m4 27 rfl) rfl
theorem q858 : (Jvm.Cond.privateMethod ({ cls := "BitRopes$State", name := "types", desc := "(II)V" } : Jvm.MethodName)) ∈ lw_tbl := lw_at lw_m4 29 rfl
theorem q859 : (Jvm.Cond.instanceMethod ({ cls := "BitRopes$State", name := "types", desc := "(II)V" } : Jvm.MethodName)) ∈ lw_all := lw_g (lw_at lw_m4 30 rfl) rfl
theorem q860 : (Jvm.Cond.code ({ cls := "BitRopes$State", name := "types", desc := "(II)V" } : Jvm.MethodName) prog_21_method_12_code (8 : Nat) (Option.none : Option Jvm.ClassFile.FieldType)) ∈ lw_all := lw_g (lw_at lw_m4 31 rfl) rfl
theorem q861 : (Jvm.Cond.methodLink "BitRopes$State" (57 : Nat) ({ cls := "BitRopes$Rope", name := "before", desc := "(II)I" } : Jvm.MethodName)) ∈ lw_all := lw_g (lw_at lw_m4 32 rfl) rfl
theorem q874 : (Jvm.Cond.methodLink "BitRopes$State" (74 : Nat) ({ cls := "BitRopes$Rope", name := "insert", desc := "(II)V" } : Jvm.MethodName)) ∈ lw_all := lw_g (lw_at lw_m4 45 rfl) rfl
theorem q1082 : (Jvm.Cond.instanceMethod ({ cls := "BitRopes$State", name := "unpack", desc := "([LBitRopes$Packed;)V" } : Jvm.MethodName)) ∈ lw_all := lw_g (lw_at lw_m5 13 rfl) rfl
theorem q1083 : (Jvm.Cond.selects "BitRopes$State" ({ cls := "BitRopes$State", name := "unpack", desc := "([LBitRopes$Packed;)V" } : Jvm.MethodName) ({ cls := "BitRopes$State", name := "unpack", desc := "([LBitRopes$Packed;)V" } : Jvm.MethodName)) ∈ lw_all := lw_g (lw_at lw_m5 14 rfl) rfl
theorem q1084 : (Jvm.Cond.code ({ cls := "BitRopes$State", name := "unpack", desc := "([LBitRopes$Packed;)V" } : Jvm.MethodName) prog_21_method_5_code (3 : Nat) (Option.none : Option Jvm.ClassFile.FieldType)) ∈ lw_all := lw_g (lw_at lw_m5 15 rfl) rfl
theorem q1085 : (Jvm.Cond.methodLink "BitRopes$State" (45 : Nat) ({ cls := "BitRopes$Rope", name := "unpack", desc := "(LBitRopes$Packed;)V" } : Jvm.MethodName)) ∈ lw_all := lw_g (lw_at lw_m5 16 rfl) rfl
theorem q1099 : (Jvm.Cond.instanceMethod ({ cls := "BitRopes$State", name := "whyNot", desc := "(IIII)I" } : Jvm.MethodName)) ∈ lw_all := lw_g (lw_at lw_m5 30 rfl) rfl
theorem q1100 : (Jvm.Cond.selects "BitRopes$State" ({ cls := "BitRopes$State", name := "whyNot", desc := "(IIII)I" } : Jvm.MethodName) ({ cls := "BitRopes$State", name := "whyNot", desc := "(IIII)I" } : Jvm.MethodName)) ∈ lw_all := lw_g (lw_at lw_m5 31 rfl) rfl
theorem q1101 : (Jvm.Cond.code ({ cls := "BitRopes$State", name := "whyNot", desc := "(IIII)I" } : Jvm.MethodName) prog_21_method_14_code (5 : Nat) (Option.some Jvm.ClassFile.FieldType.int)) ∈ lw_all := lw_g (lw_at lw_m5 32 rfl) rfl
theorem q1102 : (Jvm.Cond.methodLink "BitRopes$State" (53 : Nat) ({ cls := "BitRopes$Rope", name := "get", desc := "(I)I" } : Jvm.MethodName)) ∈ lw_all := lw_g (lw_at lw_m5 33 rfl) rfl
theorem q1103 : (Jvm.Cond.methodLink "BitRopes$State" (61 : Nat) ({ cls := "BitRopes$State", name := "typed", desc := "()I" } : Jvm.MethodName)) ∈ lw_all := lw_g (lw_at lw_m5 34 rfl) rfl
theorem q1105 : (Jvm.Cond.instanceMethod ({ cls := "BitRopes$State", name := "pack", desc := "()[LBitRopes$Packed;" } : Jvm.MethodName)) ∈ lw_all := lw_g (lw_at lw_m5 36 rfl) rfl
theorem q1106 : (Jvm.Cond.selects "BitRopes$State" ({ cls := "BitRopes$State", name := "pack", desc := "()[LBitRopes$Packed;" } : Jvm.MethodName) ({ cls := "BitRopes$State", name := "pack", desc := "()[LBitRopes$Packed;" } : Jvm.MethodName)) ∈ lw_all := lw_g (lw_at lw_m5 37 rfl) rfl
theorem q1107 : (Jvm.Cond.code ({ cls := "BitRopes$State", name := "pack", desc := "()[LBitRopes$Packed;" } : Jvm.MethodName) prog_21_method_4_code (3 : Nat) (Option.some (Jvm.ClassFile.FieldType.array (Jvm.ClassFile.FieldType.object "BitRopes$Packed")))) ∈ lw_all := lw_g (lw_at lw_m5 38 rfl) rfl
theorem q1108 : (Jvm.Cond.classLink "BitRopes$State" (39 : Nat) "BitRopes$Packed") ∈ lw_all := lw_g (lw_at lw_m5 39 rfl) rfl
theorem q1109 : (Jvm.Cond.methodLink "BitRopes$State" (41 : Nat) ({ cls := "BitRopes$Rope", name := "pack", desc := "()LBitRopes$Packed;" } : Jvm.MethodName)) ∈ lw_all := lw_g (lw_at lw_m5 40 rfl) rfl
theorem q1121 : (Jvm.Cond.fieldLinkNest "BitRopes$State" (82 : Nat) "BitRopes$Packed" "bits" "[J" "BitRopes") ∈ lw_tbl := lw_at lw_m5 52 rfl
theorem q1136 : (Jvm.Cond.instanceMethod ({ cls := "BitRopes$State", name := "does", desc := "(IIII)V" } : Jvm.MethodName)) ∈ lw_all := lw_g (lw_at lw_m5 67 rfl) rfl
theorem q1137 : (Jvm.Cond.selects "BitRopes$State" ({ cls := "BitRopes$State", name := "does", desc := "(IIII)V" } : Jvm.MethodName) ({ cls := "BitRopes$State", name := "does", desc := "(IIII)V" } : Jvm.MethodName)) ∈ lw_all := lw_g (lw_at lw_m5 68 rfl) rfl
theorem q1138 : (Jvm.Cond.code ({ cls := "BitRopes$State", name := "does", desc := "(IIII)V" } : Jvm.MethodName) prog_21_method_17_code (6 : Nat) (Option.none : Option Jvm.ClassFile.FieldType)) ∈ lw_all := lw_g (lw_at lw_m5 69 rfl) rfl
theorem q1139 : (Jvm.Cond.methodLink "BitRopes$State" (86 : Nat) ({ cls := "BitRopes$Rope", name := "write", desc := "(II)V" } : Jvm.MethodName)) ∈ lw_all := lw_g (lw_at lw_m5 70 rfl) rfl
theorem q1153 : (Jvm.Cond.methodLink "BitRopes$State" (89 : Nat) ({ cls := "BitRopes$State", name := "cuts", desc := "(III)V" } : Jvm.MethodName)) ∈ lw_all := lw_g (lw_at lw_m5 84 rfl) rfl
theorem q1154 : (Jvm.Cond.privateMethod ({ cls := "BitRopes$State", name := "cuts", desc := "(III)V" } : Jvm.MethodName)) ∈ lw_tbl := lw_at lw_m5 85 rfl
theorem q1155 : (Jvm.Cond.instanceMethod ({ cls := "BitRopes$State", name := "cuts", desc := "(III)V" } : Jvm.MethodName)) ∈ lw_all := lw_g (lw_at lw_m5 86 rfl) rfl
theorem q1156 : (Jvm.Cond.code ({ cls := "BitRopes$State", name := "cuts", desc := "(III)V" } : Jvm.MethodName) prog_21_method_15_code (5 : Nat) (Option.none : Option Jvm.ClassFile.FieldType)) ∈ lw_all := lw_g (lw_at lw_m5 87 rfl) rfl
theorem q1157 : (Jvm.Cond.methodLink "BitRopes$State" (78 : Nat) ({ cls := "BitRopes$Rope", name := "remove", desc := "(I)V" } : Jvm.MethodName)) ∈ lw_all := lw_g (lw_at lw_m5 88 rfl) rfl
theorem q1167 : (Jvm.Cond.methodLink "BitRopes$State" (93 : Nat) ({ cls := "BitRopes$Rope", name := "flip", desc := "(II)V" } : Jvm.MethodName)) ∈ lw_all := lw_g (lw_at lw_m5 98 rfl) rfl
theorem q1181 : (Jvm.Cond.methodLink "BitRopes$State" (96 : Nat) ({ cls := "BitRopes$State", name := "moves", desc := "(III)V" } : Jvm.MethodName)) ∈ lw_all := lw_g (lw_at lw_m5 112 rfl) rfl
theorem q1182 : (Jvm.Cond.privateMethod ({ cls := "BitRopes$State", name := "moves", desc := "(III)V" } : Jvm.MethodName)) ∈ lw_tbl := lw_at lw_m5 113 rfl
theorem q1183 : (Jvm.Cond.instanceMethod ({ cls := "BitRopes$State", name := "moves", desc := "(III)V" } : Jvm.MethodName)) ∈ lw_all := lw_g (lw_at lw_m5 114 rfl) rfl
theorem q1184 : (Jvm.Cond.code ({ cls := "BitRopes$State", name := "moves", desc := "(III)V" } : Jvm.MethodName) prog_21_method_16_code (7 : Nat) (Option.none : Option Jvm.ClassFile.FieldType)) ∈ lw_all := lw_g (lw_at lw_m5 115 rfl) rfl
theorem q1185 : (Jvm.Cond.methodLink "BitRopes$State" (99 : Nat) ({ cls := "BitRopes$State", name := "types", desc := "(II)V" } : Jvm.MethodName)) ∈ lw_all := lw_g (lw_at lw_m5 116 rfl) rfl
theorem q1186 : (Jvm.Cond.methodLink "BitRopes$State" (102 : Nat) ({ cls := "BitRopes$State", name := "erases", desc := "(I)V" } : Jvm.MethodName)) ∈ lw_all := lw_g (lw_at lw_m5 117 rfl) rfl
theorem q1187 : (Jvm.Cond.privateMethod ({ cls := "BitRopes$State", name := "erases", desc := "(I)V" } : Jvm.MethodName)) ∈ lw_tbl := lw_at lw_m5 118 rfl
theorem q1188 : (Jvm.Cond.instanceMethod ({ cls := "BitRopes$State", name := "erases", desc := "(I)V" } : Jvm.MethodName)) ∈ lw_all := lw_g (lw_at lw_m5 119 rfl) rfl
theorem q1189 : (Jvm.Cond.code ({ cls := "BitRopes$State", name := "erases", desc := "(I)V" } : Jvm.MethodName) prog_21_method_13_code (6 : Nat) (Option.none : Option Jvm.ClassFile.FieldType)) ∈ lw_all := lw_g (lw_at lw_m5 120 rfl) rfl
theorem q1241 : (Jvm.Cond.instanceMethod ({ cls := "BitRopes$State", name := "letterAt", desc := "(I)I" } : Jvm.MethodName)) ∈ lw_all := lw_g (lw_at lw_m5 172 rfl) rfl
theorem q1242 : (Jvm.Cond.selects "BitRopes$State" ({ cls := "BitRopes$State", name := "letterAt", desc := "(I)I" } : Jvm.MethodName) ({ cls := "BitRopes$State", name := "letterAt", desc := "(I)I" } : Jvm.MethodName)) ∈ lw_all := lw_g (lw_at lw_m5 173 rfl) rfl
theorem q1243 : (Jvm.Cond.code ({ cls := "BitRopes$State", name := "letterAt", desc := "(I)I" } : Jvm.MethodName) prog_21_method_8_code (6 : Nat) (Option.some Jvm.ClassFile.FieldType.int)) ∈ lw_all := lw_g (lw_at lw_m5 174 rfl) rfl
theorem q1252 : (Jvm.Cond.instanceMethod ({ cls := "BitRopes$State", name := "ahead", desc := "(II)I" } : Jvm.MethodName)) ∈ lw_all := lw_g (lw_at lw_m5 183 rfl) rfl
theorem q1253 : (Jvm.Cond.selects "BitRopes$State" ({ cls := "BitRopes$State", name := "ahead", desc := "(II)I" } : Jvm.MethodName) ({ cls := "BitRopes$State", name := "ahead", desc := "(II)I" } : Jvm.MethodName)) ∈ lw_all := lw_g (lw_at lw_m5 184 rfl) rfl
theorem q1254 : (Jvm.Cond.code ({ cls := "BitRopes$State", name := "ahead", desc := "(II)I" } : Jvm.MethodName) prog_21_method_9_code (7 : Nat) (Option.some Jvm.ClassFile.FieldType.int)) ∈ lw_all := lw_g (lw_at lw_m5 185 rfl) rfl
theorem q1260 : (Jvm.Cond.instanceMethod ({ cls := "BitRopes$State", name := "placeOf", desc := "(II)I" } : Jvm.MethodName)) ∈ lw_all := lw_g (lw_at lw_m5 191 rfl) rfl
theorem q1261 : (Jvm.Cond.selects "BitRopes$State" ({ cls := "BitRopes$State", name := "placeOf", desc := "(II)I" } : Jvm.MethodName) ({ cls := "BitRopes$State", name := "placeOf", desc := "(II)I" } : Jvm.MethodName)) ∈ lw_all := lw_g (lw_at lw_m5 192 rfl) rfl
theorem q1262 : (Jvm.Cond.code ({ cls := "BitRopes$State", name := "placeOf", desc := "(II)I" } : Jvm.MethodName) prog_21_method_10_code (7 : Nat) (Option.some Jvm.ClassFile.FieldType.int)) ∈ lw_all := lw_g (lw_at lw_m5 193 rfl) rfl
theorem q1263 : (Jvm.Cond.methodLink "BitRopes$State" (64 : Nat) ({ cls := "BitRopes$State", name := "ahead", desc := "(II)I" } : Jvm.MethodName)) ∈ lw_all := lw_g (lw_at lw_m5 194 rfl) rfl
theorem q1264 : (Jvm.Cond.methodLink "BitRopes$State" (67 : Nat) ({ cls := "BitRopes$Rope", name := "ready", desc := "()LBitRopes$Rope;" } : Jvm.MethodName)) ∈ lw_all := lw_g (lw_at lw_m5 195 rfl) rfl
theorem q1265 : (Jvm.Cond.methodLink "BitRopes$State" (71 : Nat) ({ cls := "BitRopes$Rope", name := "where", desc := "(II)I" } : Jvm.MethodName)) ∈ lw_all := lw_g (lw_at lw_m5 196 rfl) rfl
theorem q1271 : (Jvm.Cond.instanceMethod ({ cls := "BitRopes$State", name := "leastOf", desc := "(III)I" } : Jvm.MethodName)) ∈ lw_all := lw_g (lw_at lw_m5 202 rfl) rfl
theorem q1272 : (Jvm.Cond.selects "BitRopes$State" ({ cls := "BitRopes$State", name := "leastOf", desc := "(III)I" } : Jvm.MethodName) ({ cls := "BitRopes$State", name := "leastOf", desc := "(III)I" } : Jvm.MethodName)) ∈ lw_all := lw_g (lw_at lw_m5 203 rfl) rfl
theorem q1273 : (Jvm.Cond.code ({ cls := "BitRopes$State", name := "leastOf", desc := "(III)I" } : Jvm.MethodName) prog_21_method_11_code (11 : Nat) (Option.some Jvm.ClassFile.FieldType.int)) ∈ lw_all := lw_g (lw_at lw_m5 204 rfl) rfl
theorem q1283 : (Jvm.Cond.instanceMethod ({ cls := "BitRopes$State", name := "drawDeeds", desc := "(II)I" } : Jvm.MethodName)) ∈ lw_all := lw_g (lw_at lw_m5 214 rfl) rfl
theorem q1284 : (Jvm.Cond.selects "BitRopes$State" ({ cls := "BitRopes$State", name := "drawDeeds", desc := "(II)I" } : Jvm.MethodName) ({ cls := "BitRopes$State", name := "drawDeeds", desc := "(II)I" } : Jvm.MethodName)) ∈ lw_all := lw_g (lw_at lw_m5 215 rfl) rfl
theorem q1285 : (Jvm.Cond.code ({ cls := "BitRopes$State", name := "drawDeeds", desc := "(II)I" } : Jvm.MethodName) prog_21_method_20_code (5 : Nat) (Option.some Jvm.ClassFile.FieldType.int)) ∈ lw_all := lw_g (lw_at lw_m5 216 rfl) rfl
theorem q1286 : (Jvm.Cond.methodLink "BitRopes$State" (120 : Nat) ({ cls := "BitRopes$State", name := "drawDeed", desc := "()Z" } : Jvm.MethodName)) ∈ lw_all := lw_g (lw_at lw_m5 217 rfl) rfl
theorem q1287 : (Jvm.Cond.privateMethod ({ cls := "BitRopes$State", name := "drawDeed", desc := "()Z" } : Jvm.MethodName)) ∈ lw_tbl := lw_at lw_m5 218 rfl
theorem q1288 : (Jvm.Cond.instanceMethod ({ cls := "BitRopes$State", name := "drawDeed", desc := "()Z" } : Jvm.MethodName)) ∈ lw_all := lw_g (lw_at lw_m5 219 rfl) rfl
theorem q1289 : (Jvm.Cond.code ({ cls := "BitRopes$State", name := "drawDeed", desc := "()Z" } : Jvm.MethodName) prog_21_method_19_code (6 : Nat) (Option.some Jvm.ClassFile.FieldType.boolean)) ∈ lw_all := lw_g (lw_at lw_m5 220 rfl) rfl
theorem q1290 : (Jvm.Cond.methodLink "BitRopes$State" (109 : Nat) ({ cls := "BitRopes$State", name := "draw", desc := "(I)I" } : Jvm.MethodName)) ∈ lw_all := lw_g (lw_at lw_m5 221 rfl) rfl
theorem q1291 : (Jvm.Cond.privateMethod ({ cls := "BitRopes$State", name := "draw", desc := "(I)I" } : Jvm.MethodName)) ∈ lw_tbl := lw_at lw_m5 222 rfl
theorem q1292 : (Jvm.Cond.instanceMethod ({ cls := "BitRopes$State", name := "draw", desc := "(I)I" } : Jvm.MethodName)) ∈ lw_all := lw_g (lw_at lw_m5 223 rfl) rfl
theorem q1293 : (Jvm.Cond.code ({ cls := "BitRopes$State", name := "draw", desc := "(I)I" } : Jvm.MethodName) prog_21_method_18_code (2 : Nat) (Option.some Jvm.ClassFile.FieldType.int)) ∈ lw_all := lw_g (lw_at lw_m5 224 rfl) rfl
theorem q1294 : (Jvm.Cond.constant "BitRopes$State" (108 : Nat) (1103515245 : Int32)) ∈ lw_all := lw_g (lw_at lw_m5 225 rfl) rfl
theorem q1295 : (Jvm.Cond.methodLink "BitRopes$State" (112 : Nat) ({ cls := "BitRopes$State", name := "whyNot", desc := "(IIII)I" } : Jvm.MethodName)) ∈ lw_all := lw_g (lw_at lw_m5 226 rfl) rfl
theorem q1296 : (Jvm.Cond.methodLink "BitRopes$State" (116 : Nat) ({ cls := "BitRopes$State", name := "does", desc := "(IIII)V" } : Jvm.MethodName)) ∈ lw_all := lw_g (lw_at lw_m5 227 rfl) rfl
theorem q1369 : (Jvm.Cond.instanceMethod ({ cls := "BitRopes$State", name := "bits", desc := "()I" } : Jvm.MethodName)) ∈ lw_all := lw_g (lw_at lw_m6 60 rfl) rfl
theorem q1370 : (Jvm.Cond.selects "BitRopes$State" ({ cls := "BitRopes$State", name := "bits", desc := "()I" } : Jvm.MethodName) ({ cls := "BitRopes$State", name := "bits", desc := "()I" } : Jvm.MethodName)) ∈ lw_all := lw_g (lw_at lw_m6 61 rfl) rfl
theorem q1371 : (Jvm.Cond.code ({ cls := "BitRopes$State", name := "bits", desc := "()I" } : Jvm.MethodName) prog_21_method_6_code (6 : Nat) (Option.some Jvm.ClassFile.FieldType.int)) ∈ lw_all := lw_g (lw_at lw_m6 62 rfl) rfl
theorem q2326 : (Jvm.Cond.castable "BitRopes$State" "java/lang/Object") ∈ lw_tbl := lw_at lw_m10 57 rfl
theorem in_X4 : ∀ w ∈ wsX40, w ∈ lw_all := lw_in wsX40 [329, 331, 333, 335] (by decide +kernel) (by decide +kernel)

/-! BitRopes$Rope -/
set_option maxRecDepth 100000
def RX5 : String := "BitRopes$Rope"
def TX5 : u_T := fun k => match k with
  | 0 => ("BitRopes$Rope", "row", "[LBitRopes$Leaf;", true)
  | 1 => ("BitRopes$Rope", "root", "LBitRopes$Node;", false)
  | 2 => ("BitRopes$Rope", "isBuilt", "Z", false)
  | 3 => ("BitRopes$Rope", "low", "I", false)
  | 4 => ("BitRopes$Rope", "mixed", "I", false)
  | 5 => ("BitRopes$Rope", "filled", "I", false)
  | 6 => ("BitRopes$Rope", "total", "I", false)
  | 7 => ("BitRopes$Rope", "lit", "I", false)
  | _ => ("BitRopes$Rope", "at", "I", false)
def tyX5 : Nat → FieldType := fun k => match k with
  | 0 => .array (.object "BitRopes$Leaf")
  | 1 => .object "BitRopes$Node"
  | 2 => .boolean
  | 3 => .int
  | 4 => .int
  | 5 => .int
  | 6 => .int
  | 7 => .int
  | _ => .int
abbrev wsX50 : List Cond := u_ws RX5 TX5 9
theorem nmX5 : ∀ a, a < 9 → ∀ b, b < 9 → a ≠ b → (TX5 a).2.1 ≠ (TX5 b).2.1 := by decide +kernel
theorem tyX5_ok : ∀ k, k < 9 → parseFieldDescriptor (TX5 k).2.2.1 = some (tyX5 k) := by decide +kernel
abbrev cX5_init : ByteArray := prog_19_method_1_code
def yX5_init : MethodName := ⟨RX5, "<init>", "()V"⟩
def dkwX5_init_0 : List UInt8 := [42, 183, 0, 3, 42, 17, 0, 152, 189, 0, 9, 181, 0, 11, 177]
abbrev dktX5_init_0 : List UInt8 := dkwX5_init_0 ++ []
theorem dksX5_init_0 : cX5_init.data.toList.drop 0 = dktX5_init_0 := by decide +kernel
theorem dX5_init_0 : decode cX5_init 0 = .ok (.aload_n 0, 1) := dk_42 (dk_at dksX5_init_0 0 rfl rfl)
theorem dX5_init_1 : decode cX5_init 1 = .ok (.invokespecial 3, 3) := dk_183 0 3 (dk_at dksX5_init_0 1 rfl rfl)
theorem dX5_init_4 : decode cX5_init 4 = .ok (.aload_n 0, 1) := dk_42 (dk_at dksX5_init_0 4 rfl rfl)
theorem dX5_init_5 : decode cX5_init 5 = .ok (.sipush 152, 3) := dk_17 0 152 (dk_at dksX5_init_0 5 rfl rfl)
theorem dX5_init_8 : decode cX5_init 8 = .ok (.anewarray 9, 3) := dk_189 0 9 (dk_at dksX5_init_0 8 rfl rfl)
theorem dX5_init_11 : decode cX5_init 11 = .ok (.putfield 11, 3) := dk_181 0 11 (dk_at dksX5_init_0 11 rfl rfl)
theorem dX5_init_14 : decode cX5_init 14 = .ok (.return_, 1) := dk_177 (dk_at dksX5_init_0 14 rfl rfl)
abbrev cX5_clear : ByteArray := prog_19_method_5_code
def yX5_clear : MethodName := ⟨RX5, "clea\x72", "()V"⟩
def dkwX5_clear_1 : List UInt8 := [181, 0, 21, 177]
abbrev dktX5_clear_1 : List UInt8 := dkwX5_clear_1 ++ []
def dkwX5_clear_0 : List UInt8 := [42, 1, 181, 0, 27, 42, 3, 181, 0, 31, 42, 3, 181, 0, 24, 42, 3, 181, 0, 17, 42, 3]
abbrev dktX5_clear_0 : List UInt8 := dkwX5_clear_0 ++ dktX5_clear_1
theorem dksX5_clear_0 : cX5_clear.data.toList.drop 0 = dktX5_clear_0 := by decide +kernel
theorem dksX5_clear_1 : cX5_clear.data.toList.drop 22 = dktX5_clear_1 := dk_seg dksX5_clear_0 22 rfl rfl
theorem dX5_clear_0 : decode cX5_clear 0 = .ok (.aload_n 0, 1) := dk_42 (dk_at dksX5_clear_0 0 rfl rfl)
theorem dX5_clear_1 : decode cX5_clear 1 = .ok (.aconst_null, 1) := dk_1 (dk_at dksX5_clear_0 1 rfl rfl)
theorem dX5_clear_2 : decode cX5_clear 2 = .ok (.putfield 27, 3) := dk_181 0 27 (dk_at dksX5_clear_0 2 rfl rfl)
theorem dX5_clear_5 : decode cX5_clear 5 = .ok (.aload_n 0, 1) := dk_42 (dk_at dksX5_clear_0 5 rfl rfl)
theorem dX5_clear_6 : decode cX5_clear 6 = .ok (.iconst 0, 1) := dk_3 (dk_at dksX5_clear_0 6 rfl rfl)
theorem dX5_clear_7 : decode cX5_clear 7 = .ok (.putfield 31, 3) := dk_181 0 31 (dk_at dksX5_clear_0 7 rfl rfl)
theorem dX5_clear_10 : decode cX5_clear 10 = .ok (.aload_n 0, 1) := dk_42 (dk_at dksX5_clear_0 10 rfl rfl)
theorem dX5_clear_11 : decode cX5_clear 11 = .ok (.iconst 0, 1) := dk_3 (dk_at dksX5_clear_0 11 rfl rfl)
theorem dX5_clear_12 : decode cX5_clear 12 = .ok (.putfield 24, 3) := dk_181 0 24 (dk_at dksX5_clear_0 12 rfl rfl)
theorem dX5_clear_15 : decode cX5_clear 15 = .ok (.aload_n 0, 1) := dk_42 (dk_at dksX5_clear_0 15 rfl rfl)
theorem dX5_clear_16 : decode cX5_clear 16 = .ok (.iconst 0, 1) := dk_3 (dk_at dksX5_clear_0 16 rfl rfl)
theorem dX5_clear_17 : decode cX5_clear 17 = .ok (.putfield 17, 3) := dk_181 0 17 (dk_at dksX5_clear_0 17 rfl rfl)
theorem dX5_clear_20 : decode cX5_clear 20 = .ok (.aload_n 0, 1) := dk_42 (dk_at dksX5_clear_0 20 rfl rfl)
theorem dX5_clear_21 : decode cX5_clear 21 = .ok (.iconst 0, 1) := dk_3 (dk_at dksX5_clear_0 21 rfl rfl)
theorem dX5_clear_22 : decode cX5_clear 22 = .ok (.putfield 21, 3) := dk_181 0 21 (dk_at dksX5_clear_1 0 rfl rfl)
theorem dX5_clear_25 : decode cX5_clear 25 = .ok (.return_, 1) := dk_177 (dk_at dksX5_clear_1 3 rfl rfl)
abbrev cX5_wide : ByteArray := prog_19_method_2_code
def yX5_wide : MethodName := ⟨RX5, "wide", "()I"⟩
theorem dX5_wide_0 : decode cX5_wide 0 = .ok (.aload_n 0, 1) := by decide +kernel
theorem dX5_wide_1 : decode cX5_wide 1 = .ok (.getfield 17, 3) := by decide +kernel
theorem dX5_wide_4 : decode cX5_wide 4 = .ok (.ireturn, 1) := by decide +kernel
abbrev cX5_insert : ByteArray := prog_19_method_23_code
def yX5_insert : MethodName := ⟨RX5, "insert", "(II)V"⟩
def dkwX5_insert_4 : List UInt8 := [50, 180, 0, 65, 5, 42, 180, 0, 135, 104, 164, 0, 8, 42, 29, 182, 0, 138, 177]
abbrev dktX5_insert_4 : List UInt8 := dkwX5_insert_4 ++ []
def dkwX5_insert_3 : List UInt8 := [180, 0, 62, 4, 96, 54, 4, 42, 180, 0, 11, 29, 50, 21, 4, 28, 182, 0, 132, 42, 180, 0, 11, 29]
abbrev dktX5_insert_3 : List UInt8 := dkwX5_insert_3 ++ dktX5_insert_4
def dkwX5_insert_2 : List UInt8 := [154, 0, 7, 3, 167, 0, 10, 42, 27, 4, 100, 182, 0, 68, 62, 27, 154, 0, 7, 3, 167, 0, 9, 42]
abbrev dktX5_insert_2 : List UInt8 := dkwX5_insert_2 ++ dktX5_insert_3
def dkwX5_insert_1 : List UInt8 := [42, 180, 0, 24, 154, 0, 19, 42, 3, 182, 0, 128, 3, 28, 182, 0, 132, 42, 4, 181, 0, 24, 177, 27]
abbrev dktX5_insert_1 : List UInt8 := dkwX5_insert_1 ++ dktX5_insert_2
def dkwX5_insert_0 : List UInt8 := [42, 182, 0, 125, 42, 89, 180, 0, 17, 4, 96, 181, 0, 17, 42, 89, 180, 0, 21, 28, 96, 181, 0, 21]
abbrev dktX5_insert_0 : List UInt8 := dkwX5_insert_0 ++ dktX5_insert_1
theorem dksX5_insert_0 : cX5_insert.data.toList.drop 0 = dktX5_insert_0 := by decide +kernel
theorem dksX5_insert_1 : cX5_insert.data.toList.drop 24 = dktX5_insert_1 := dk_seg dksX5_insert_0 24 rfl rfl
theorem dksX5_insert_2 : cX5_insert.data.toList.drop 48 = dktX5_insert_2 := dk_seg dksX5_insert_1 24 rfl rfl
theorem dksX5_insert_3 : cX5_insert.data.toList.drop 72 = dktX5_insert_3 := dk_seg dksX5_insert_2 24 rfl rfl
theorem dksX5_insert_4 : cX5_insert.data.toList.drop 96 = dktX5_insert_4 := dk_seg dksX5_insert_3 24 rfl rfl
theorem dX5_insert_0 : decode cX5_insert 0 = .ok (.aload_n 0, 1) := dk_42 (dk_at dksX5_insert_0 0 rfl rfl)
theorem dX5_insert_1 : decode cX5_insert 1 = .ok (.invokevirtual 125, 3) := dk_182 0 125 (dk_at dksX5_insert_0 1 rfl rfl)
theorem dX5_insert_4 : decode cX5_insert 4 = .ok (.aload_n 0, 1) := dk_42 (dk_at dksX5_insert_0 4 rfl rfl)
theorem dX5_insert_5 : decode cX5_insert 5 = .ok (.dup, 1) := dk_89 (dk_at dksX5_insert_0 5 rfl rfl)
theorem dX5_insert_6 : decode cX5_insert 6 = .ok (.getfield 17, 3) := dk_180 0 17 (dk_at dksX5_insert_0 6 rfl rfl)
theorem dX5_insert_9 : decode cX5_insert 9 = .ok (.iconst 1, 1) := dk_4 (dk_at dksX5_insert_0 9 rfl rfl)
theorem dX5_insert_10 : decode cX5_insert 10 = .ok (.iadd, 1) := dk_96 (dk_at dksX5_insert_0 10 rfl rfl)
theorem dX5_insert_11 : decode cX5_insert 11 = .ok (.putfield 17, 3) := dk_181 0 17 (dk_at dksX5_insert_0 11 rfl rfl)
theorem dX5_insert_14 : decode cX5_insert 14 = .ok (.aload_n 0, 1) := dk_42 (dk_at dksX5_insert_0 14 rfl rfl)
theorem dX5_insert_15 : decode cX5_insert 15 = .ok (.dup, 1) := dk_89 (dk_at dksX5_insert_0 15 rfl rfl)
theorem dX5_insert_16 : decode cX5_insert 16 = .ok (.getfield 21, 3) := dk_180 0 21 (dk_at dksX5_insert_0 16 rfl rfl)
theorem dX5_insert_19 : decode cX5_insert 19 = .ok (.iload_n 2, 1) := dk_28 (dk_at dksX5_insert_0 19 rfl rfl)
theorem dX5_insert_20 : decode cX5_insert 20 = .ok (.iadd, 1) := dk_96 (dk_at dksX5_insert_0 20 rfl rfl)
theorem dX5_insert_21 : decode cX5_insert 21 = .ok (.putfield 21, 3) := dk_181 0 21 (dk_at dksX5_insert_0 21 rfl rfl)
theorem dX5_insert_24 : decode cX5_insert 24 = .ok (.aload_n 0, 1) := dk_42 (dk_at dksX5_insert_1 0 rfl rfl)
theorem dX5_insert_25 : decode cX5_insert 25 = .ok (.getfield 24, 3) := dk_180 0 24 (dk_at dksX5_insert_1 1 rfl rfl)
theorem dX5_insert_28 : decode cX5_insert 28 = .ok (.ifCond .ne 19, 3) := dk_154 0 19 (dk_at dksX5_insert_1 4 rfl rfl)
theorem dX5_insert_31 : decode cX5_insert 31 = .ok (.aload_n 0, 1) := dk_42 (dk_at dksX5_insert_1 7 rfl rfl)
theorem dX5_insert_32 : decode cX5_insert 32 = .ok (.iconst 0, 1) := dk_3 (dk_at dksX5_insert_1 8 rfl rfl)
theorem dX5_insert_33 : decode cX5_insert 33 = .ok (.invokevirtual 128, 3) := dk_182 0 128 (dk_at dksX5_insert_1 9 rfl rfl)
theorem dX5_insert_36 : decode cX5_insert 36 = .ok (.iconst 0, 1) := dk_3 (dk_at dksX5_insert_1 12 rfl rfl)
theorem dX5_insert_37 : decode cX5_insert 37 = .ok (.iload_n 2, 1) := dk_28 (dk_at dksX5_insert_1 13 rfl rfl)
theorem dX5_insert_38 : decode cX5_insert 38 = .ok (.invokevirtual 132, 3) := dk_182 0 132 (dk_at dksX5_insert_1 14 rfl rfl)
theorem dX5_insert_41 : decode cX5_insert 41 = .ok (.aload_n 0, 1) := dk_42 (dk_at dksX5_insert_1 17 rfl rfl)
theorem dX5_insert_42 : decode cX5_insert 42 = .ok (.iconst 1, 1) := dk_4 (dk_at dksX5_insert_1 18 rfl rfl)
theorem dX5_insert_43 : decode cX5_insert 43 = .ok (.putfield 24, 3) := dk_181 0 24 (dk_at dksX5_insert_1 19 rfl rfl)
theorem dX5_insert_46 : decode cX5_insert 46 = .ok (.return_, 1) := dk_177 (dk_at dksX5_insert_1 22 rfl rfl)
theorem dX5_insert_47 : decode cX5_insert 47 = .ok (.iload_n 1, 1) := dk_27 (dk_at dksX5_insert_1 23 rfl rfl)
theorem dX5_insert_48 : decode cX5_insert 48 = .ok (.ifCond .ne 7, 3) := dk_154 0 7 (dk_at dksX5_insert_2 0 rfl rfl)
theorem dX5_insert_51 : decode cX5_insert 51 = .ok (.iconst 0, 1) := dk_3 (dk_at dksX5_insert_2 3 rfl rfl)
theorem dX5_insert_52 : decode cX5_insert 52 = .ok (.goto 10, 3) := dk_167 0 10 (dk_at dksX5_insert_2 4 rfl rfl)
theorem dX5_insert_55 : decode cX5_insert 55 = .ok (.aload_n 0, 1) := dk_42 (dk_at dksX5_insert_2 7 rfl rfl)
theorem dX5_insert_56 : decode cX5_insert 56 = .ok (.iload_n 1, 1) := dk_27 (dk_at dksX5_insert_2 8 rfl rfl)
theorem dX5_insert_57 : decode cX5_insert 57 = .ok (.iconst 1, 1) := dk_4 (dk_at dksX5_insert_2 9 rfl rfl)
theorem dX5_insert_58 : decode cX5_insert 58 = .ok (.isub, 1) := dk_100 (dk_at dksX5_insert_2 10 rfl rfl)
theorem dX5_insert_59 : decode cX5_insert 59 = .ok (.invokevirtual 68, 3) := dk_182 0 68 (dk_at dksX5_insert_2 11 rfl rfl)
theorem dX5_insert_62 : decode cX5_insert 62 = .ok (.istore_n 3, 1) := dk_62 (dk_at dksX5_insert_2 14 rfl rfl)
theorem dX5_insert_63 : decode cX5_insert 63 = .ok (.iload_n 1, 1) := dk_27 (dk_at dksX5_insert_2 15 rfl rfl)
theorem dX5_insert_64 : decode cX5_insert 64 = .ok (.ifCond .ne 7, 3) := dk_154 0 7 (dk_at dksX5_insert_2 16 rfl rfl)
theorem dX5_insert_67 : decode cX5_insert 67 = .ok (.iconst 0, 1) := dk_3 (dk_at dksX5_insert_2 19 rfl rfl)
theorem dX5_insert_68 : decode cX5_insert 68 = .ok (.goto 9, 3) := dk_167 0 9 (dk_at dksX5_insert_2 20 rfl rfl)
theorem dX5_insert_71 : decode cX5_insert 71 = .ok (.aload_n 0, 1) := dk_42 (dk_at dksX5_insert_2 23 rfl rfl)
theorem dX5_insert_72 : decode cX5_insert 72 = .ok (.getfield 62, 3) := dk_180 0 62 (dk_at dksX5_insert_3 0 rfl rfl)
theorem dX5_insert_75 : decode cX5_insert 75 = .ok (.iconst 1, 1) := dk_4 (dk_at dksX5_insert_3 3 rfl rfl)
theorem dX5_insert_76 : decode cX5_insert 76 = .ok (.iadd, 1) := dk_96 (dk_at dksX5_insert_3 4 rfl rfl)
theorem dX5_insert_77 : decode cX5_insert 77 = .ok (.istore 4, 2) := dk_54 4 (dk_at dksX5_insert_3 5 rfl rfl)
theorem dX5_insert_79 : decode cX5_insert 79 = .ok (.aload_n 0, 1) := dk_42 (dk_at dksX5_insert_3 7 rfl rfl)
theorem dX5_insert_80 : decode cX5_insert 80 = .ok (.getfield 11, 3) := dk_180 0 11 (dk_at dksX5_insert_3 8 rfl rfl)
theorem dX5_insert_83 : decode cX5_insert 83 = .ok (.iload_n 3, 1) := dk_29 (dk_at dksX5_insert_3 11 rfl rfl)
theorem dX5_insert_84 : decode cX5_insert 84 = .ok (.aaload, 1) := dk_50 (dk_at dksX5_insert_3 12 rfl rfl)
theorem dX5_insert_85 : decode cX5_insert 85 = .ok (.iload 4, 2) := dk_21 4 (dk_at dksX5_insert_3 13 rfl rfl)
theorem dX5_insert_87 : decode cX5_insert 87 = .ok (.iload_n 2, 1) := dk_28 (dk_at dksX5_insert_3 15 rfl rfl)
theorem dX5_insert_88 : decode cX5_insert 88 = .ok (.invokevirtual 132, 3) := dk_182 0 132 (dk_at dksX5_insert_3 16 rfl rfl)
theorem dX5_insert_91 : decode cX5_insert 91 = .ok (.aload_n 0, 1) := dk_42 (dk_at dksX5_insert_3 19 rfl rfl)
theorem dX5_insert_92 : decode cX5_insert 92 = .ok (.getfield 11, 3) := dk_180 0 11 (dk_at dksX5_insert_3 20 rfl rfl)
theorem dX5_insert_95 : decode cX5_insert 95 = .ok (.iload_n 3, 1) := dk_29 (dk_at dksX5_insert_3 23 rfl rfl)
theorem dX5_insert_96 : decode cX5_insert 96 = .ok (.aaload, 1) := dk_50 (dk_at dksX5_insert_4 0 rfl rfl)
theorem dX5_insert_97 : decode cX5_insert 97 = .ok (.getfield 65, 3) := dk_180 0 65 (dk_at dksX5_insert_4 1 rfl rfl)
theorem dX5_insert_100 : decode cX5_insert 100 = .ok (.iconst 2, 1) := dk_5 (dk_at dksX5_insert_4 4 rfl rfl)
theorem dX5_insert_101 : decode cX5_insert 101 = .ok (.aload_n 0, 1) := dk_42 (dk_at dksX5_insert_4 5 rfl rfl)
theorem dX5_insert_102 : decode cX5_insert 102 = .ok (.getfield 135, 3) := dk_180 0 135 (dk_at dksX5_insert_4 6 rfl rfl)
theorem dX5_insert_105 : decode cX5_insert 105 = .ok (.imul, 1) := dk_104 (dk_at dksX5_insert_4 9 rfl rfl)
theorem dX5_insert_106 : decode cX5_insert 106 = .ok (.if_icmp .le 8, 3) := dk_164 0 8 (dk_at dksX5_insert_4 10 rfl rfl)
theorem dX5_insert_109 : decode cX5_insert 109 = .ok (.aload_n 0, 1) := dk_42 (dk_at dksX5_insert_4 13 rfl rfl)
theorem dX5_insert_110 : decode cX5_insert 110 = .ok (.iload_n 3, 1) := dk_29 (dk_at dksX5_insert_4 14 rfl rfl)
theorem dX5_insert_111 : decode cX5_insert 111 = .ok (.invokevirtual 138, 3) := dk_182 0 138 (dk_at dksX5_insert_4 15 rfl rfl)
theorem dX5_insert_114 : decode cX5_insert 114 = .ok (.return_, 1) := dk_177 (dk_at dksX5_insert_4 18 rfl rfl)
abbrev cX5_loosen : ByteArray := prog_19_method_7_code
def yX5_loosen : MethodName := ⟨RX5, "loosen", "()V"⟩
def dkwX5_loosen_1 : List UInt8 := [181, 0, 31, 177]
abbrev dktX5_loosen_1 : List UInt8 := dkwX5_loosen_1 ++ []
def dkwX5_loosen_0 : List UInt8 := [42, 180, 0, 31, 154, 0, 4, 177, 42, 42, 180, 0, 27, 182, 0, 42, 42, 1, 181, 0, 27, 42, 3]
abbrev dktX5_loosen_0 : List UInt8 := dkwX5_loosen_0 ++ dktX5_loosen_1
theorem dksX5_loosen_0 : cX5_loosen.data.toList.drop 0 = dktX5_loosen_0 := by decide +kernel
theorem dksX5_loosen_1 : cX5_loosen.data.toList.drop 23 = dktX5_loosen_1 := dk_seg dksX5_loosen_0 23 rfl rfl
theorem dX5_loosen_0 : decode cX5_loosen 0 = .ok (.aload_n 0, 1) := dk_42 (dk_at dksX5_loosen_0 0 rfl rfl)
theorem dX5_loosen_1 : decode cX5_loosen 1 = .ok (.getfield 31, 3) := dk_180 0 31 (dk_at dksX5_loosen_0 1 rfl rfl)
theorem dX5_loosen_4 : decode cX5_loosen 4 = .ok (.ifCond .ne 4, 3) := dk_154 0 4 (dk_at dksX5_loosen_0 4 rfl rfl)
theorem dX5_loosen_7 : decode cX5_loosen 7 = .ok (.return_, 1) := dk_177 (dk_at dksX5_loosen_0 7 rfl rfl)
theorem dX5_loosen_8 : decode cX5_loosen 8 = .ok (.aload_n 0, 1) := dk_42 (dk_at dksX5_loosen_0 8 rfl rfl)
theorem dX5_loosen_9 : decode cX5_loosen 9 = .ok (.aload_n 0, 1) := dk_42 (dk_at dksX5_loosen_0 9 rfl rfl)
theorem dX5_loosen_10 : decode cX5_loosen 10 = .ok (.getfield 27, 3) := dk_180 0 27 (dk_at dksX5_loosen_0 10 rfl rfl)
theorem dX5_loosen_13 : decode cX5_loosen 13 = .ok (.invokevirtual 42, 3) := dk_182 0 42 (dk_at dksX5_loosen_0 13 rfl rfl)
theorem dX5_loosen_16 : decode cX5_loosen 16 = .ok (.aload_n 0, 1) := dk_42 (dk_at dksX5_loosen_0 16 rfl rfl)
theorem dX5_loosen_17 : decode cX5_loosen 17 = .ok (.aconst_null, 1) := dk_1 (dk_at dksX5_loosen_0 17 rfl rfl)
theorem dX5_loosen_18 : decode cX5_loosen 18 = .ok (.putfield 27, 3) := dk_181 0 27 (dk_at dksX5_loosen_0 18 rfl rfl)
theorem dX5_loosen_21 : decode cX5_loosen 21 = .ok (.aload_n 0, 1) := dk_42 (dk_at dksX5_loosen_0 21 rfl rfl)
theorem dX5_loosen_22 : decode cX5_loosen 22 = .ok (.iconst 0, 1) := dk_3 (dk_at dksX5_loosen_0 22 rfl rfl)
theorem dX5_loosen_23 : decode cX5_loosen 23 = .ok (.putfield 31, 3) := dk_181 0 31 (dk_at dksX5_loosen_1 0 rfl rfl)
theorem dX5_loosen_26 : decode cX5_loosen 26 = .ok (.return_, 1) := dk_177 (dk_at dksX5_loosen_1 3 rfl rfl)
abbrev cX5_settle : ByteArray := prog_19_method_8_code
def yX5_settle : MethodName := ⟨RX5, "settle", "(LBitRopes$Node;)V"⟩
def dkwX5_settle_1 : List UInt8 := [180, 0, 51, 3, 50, 182, 0, 42, 42, 44, 180, 0, 51, 4, 50, 182, 0, 42, 177]
abbrev dktX5_settle_1 : List UInt8 := dkwX5_settle_1 ++ []
def dkwX5_settle_0 : List UInt8 := [43, 193, 0, 46, 153, 0, 11, 43, 192, 0, 46, 77, 167, 0, 4, 177, 44, 182, 0, 48, 42, 44]
abbrev dktX5_settle_0 : List UInt8 := dkwX5_settle_0 ++ dktX5_settle_1
theorem dksX5_settle_0 : cX5_settle.data.toList.drop 0 = dktX5_settle_0 := by decide +kernel
theorem dksX5_settle_1 : cX5_settle.data.toList.drop 22 = dktX5_settle_1 := dk_seg dksX5_settle_0 22 rfl rfl
theorem dX5_settle_0 : decode cX5_settle 0 = .ok (.aload_n 1, 1) := dk_43 (dk_at dksX5_settle_0 0 rfl rfl)
theorem dX5_settle_1 : decode cX5_settle 1 = .ok (.instanceof 46, 3) := dk_193 0 46 (dk_at dksX5_settle_0 1 rfl rfl)
theorem dX5_settle_4 : decode cX5_settle 4 = .ok (.ifCond .eq 11, 3) := dk_153 0 11 (dk_at dksX5_settle_0 4 rfl rfl)
theorem dX5_settle_7 : decode cX5_settle 7 = .ok (.aload_n 1, 1) := dk_43 (dk_at dksX5_settle_0 7 rfl rfl)
theorem dX5_settle_8 : decode cX5_settle 8 = .ok (.checkcast 46, 3) := dk_192 0 46 (dk_at dksX5_settle_0 8 rfl rfl)
theorem dX5_settle_11 : decode cX5_settle 11 = .ok (.astore_n 2, 1) := dk_77 (dk_at dksX5_settle_0 11 rfl rfl)
theorem dX5_settle_12 : decode cX5_settle 12 = .ok (.goto 4, 3) := dk_167 0 4 (dk_at dksX5_settle_0 12 rfl rfl)
theorem dX5_settle_15 : decode cX5_settle 15 = .ok (.return_, 1) := dk_177 (dk_at dksX5_settle_0 15 rfl rfl)
theorem dX5_settle_16 : decode cX5_settle 16 = .ok (.aload_n 2, 1) := dk_44 (dk_at dksX5_settle_0 16 rfl rfl)
theorem dX5_settle_17 : decode cX5_settle 17 = .ok (.invokevirtual 48, 3) := dk_182 0 48 (dk_at dksX5_settle_0 17 rfl rfl)
theorem dX5_settle_20 : decode cX5_settle 20 = .ok (.aload_n 0, 1) := dk_42 (dk_at dksX5_settle_0 20 rfl rfl)
theorem dX5_settle_21 : decode cX5_settle 21 = .ok (.aload_n 2, 1) := dk_44 (dk_at dksX5_settle_0 21 rfl rfl)
theorem dX5_settle_22 : decode cX5_settle 22 = .ok (.getfield 51, 3) := dk_180 0 51 (dk_at dksX5_settle_1 0 rfl rfl)
theorem dX5_settle_25 : decode cX5_settle 25 = .ok (.iconst 0, 1) := dk_3 (dk_at dksX5_settle_1 3 rfl rfl)
theorem dX5_settle_26 : decode cX5_settle 26 = .ok (.aaload, 1) := dk_50 (dk_at dksX5_settle_1 4 rfl rfl)
theorem dX5_settle_27 : decode cX5_settle 27 = .ok (.invokevirtual 42, 3) := dk_182 0 42 (dk_at dksX5_settle_1 5 rfl rfl)
theorem dX5_settle_30 : decode cX5_settle 30 = .ok (.aload_n 0, 1) := dk_42 (dk_at dksX5_settle_1 8 rfl rfl)
theorem dX5_settle_31 : decode cX5_settle 31 = .ok (.aload_n 2, 1) := dk_44 (dk_at dksX5_settle_1 9 rfl rfl)
theorem dX5_settle_32 : decode cX5_settle 32 = .ok (.getfield 51, 3) := dk_180 0 51 (dk_at dksX5_settle_1 10 rfl rfl)
theorem dX5_settle_35 : decode cX5_settle 35 = .ok (.iconst 1, 1) := dk_4 (dk_at dksX5_settle_1 13 rfl rfl)
theorem dX5_settle_36 : decode cX5_settle 36 = .ok (.aaload, 1) := dk_50 (dk_at dksX5_settle_1 14 rfl rfl)
theorem dX5_settle_37 : decode cX5_settle 37 = .ok (.invokevirtual 42, 3) := dk_182 0 42 (dk_at dksX5_settle_1 15 rfl rfl)
theorem dX5_settle_40 : decode cX5_settle 40 = .ok (.return_, 1) := dk_177 (dk_at dksX5_settle_1 18 rfl rfl)
abbrev cX5_fresh : ByteArray := prog_19_method_22_code
def yX5_fresh : MethodName := ⟨RX5, "fresh", "(I)LBitRopes$Leaf;"⟩
def dkwX5_fresh_1 : List UInt8 := [180, 0, 11, 27, 50, 182, 0, 121, 176]
abbrev dktX5_fresh_1 : List UInt8 := dkwX5_fresh_1 ++ []
def dkwX5_fresh_0 : List UInt8 := [42, 180, 0, 11, 27, 50, 199, 0, 16, 42, 180, 0, 11, 27, 187, 0, 9, 89, 183, 0, 120, 83, 42]
abbrev dktX5_fresh_0 : List UInt8 := dkwX5_fresh_0 ++ dktX5_fresh_1
theorem dksX5_fresh_0 : cX5_fresh.data.toList.drop 0 = dktX5_fresh_0 := by decide +kernel
theorem dksX5_fresh_1 : cX5_fresh.data.toList.drop 23 = dktX5_fresh_1 := dk_seg dksX5_fresh_0 23 rfl rfl
theorem dX5_fresh_0 : decode cX5_fresh 0 = .ok (.aload_n 0, 1) := dk_42 (dk_at dksX5_fresh_0 0 rfl rfl)
theorem dX5_fresh_1 : decode cX5_fresh 1 = .ok (.getfield 11, 3) := dk_180 0 11 (dk_at dksX5_fresh_0 1 rfl rfl)
theorem dX5_fresh_4 : decode cX5_fresh 4 = .ok (.iload_n 1, 1) := dk_27 (dk_at dksX5_fresh_0 4 rfl rfl)
theorem dX5_fresh_5 : decode cX5_fresh 5 = .ok (.aaload, 1) := dk_50 (dk_at dksX5_fresh_0 5 rfl rfl)
theorem dX5_fresh_6 : decode cX5_fresh 6 = .ok (.ifnonnull 16, 3) := dk_199 0 16 (dk_at dksX5_fresh_0 6 rfl rfl)
theorem dX5_fresh_9 : decode cX5_fresh 9 = .ok (.aload_n 0, 1) := dk_42 (dk_at dksX5_fresh_0 9 rfl rfl)
theorem dX5_fresh_10 : decode cX5_fresh 10 = .ok (.getfield 11, 3) := dk_180 0 11 (dk_at dksX5_fresh_0 10 rfl rfl)
theorem dX5_fresh_13 : decode cX5_fresh 13 = .ok (.iload_n 1, 1) := dk_27 (dk_at dksX5_fresh_0 13 rfl rfl)
theorem dX5_fresh_14 : decode cX5_fresh 14 = .ok (.new 9, 3) := dk_187 0 9 (dk_at dksX5_fresh_0 14 rfl rfl)
theorem dX5_fresh_17 : decode cX5_fresh 17 = .ok (.dup, 1) := dk_89 (dk_at dksX5_fresh_0 17 rfl rfl)
theorem dX5_fresh_18 : decode cX5_fresh 18 = .ok (.invokespecial 120, 3) := dk_183 0 120 (dk_at dksX5_fresh_0 18 rfl rfl)
theorem dX5_fresh_21 : decode cX5_fresh 21 = .ok (.aastore, 1) := dk_83 (dk_at dksX5_fresh_0 21 rfl rfl)
theorem dX5_fresh_22 : decode cX5_fresh 22 = .ok (.aload_n 0, 1) := dk_42 (dk_at dksX5_fresh_0 22 rfl rfl)
theorem dX5_fresh_23 : decode cX5_fresh 23 = .ok (.getfield 11, 3) := dk_180 0 11 (dk_at dksX5_fresh_1 0 rfl rfl)
theorem dX5_fresh_26 : decode cX5_fresh 26 = .ok (.iload_n 1, 1) := dk_27 (dk_at dksX5_fresh_1 3 rfl rfl)
theorem dX5_fresh_27 : decode cX5_fresh 27 = .ok (.aaload, 1) := dk_50 (dk_at dksX5_fresh_1 4 rfl rfl)
theorem dX5_fresh_28 : decode cX5_fresh 28 = .ok (.invokevirtual 121, 3) := dk_182 0 121 (dk_at dksX5_fresh_1 5 rfl rfl)
theorem dX5_fresh_31 : decode cX5_fresh 31 = .ok (.areturn, 1) := dk_176 (dk_at dksX5_fresh_1 8 rfl rfl)
abbrev cX5_leafOf : ByteArray := prog_19_method_11_code
def yX5_leafOf : MethodName := ⟨RX5, "leafOf", "(I)I"⟩
def dkwX5_leafOf_2 : List UInt8 := [180, 0, 65, 100, 181, 0, 62, 132, 2, 1, 167, 255, 209, 28, 172]
abbrev dktX5_leafOf_2 : List UInt8 := dkwX5_leafOf_2 ++ []
def dkwX5_leafOf_1 : List UInt8 := [180, 0, 11, 28, 50, 180, 0, 65, 161, 0, 27, 42, 89, 180, 0, 62, 42, 180, 0, 11, 28, 50]
abbrev dktX5_leafOf_1 : List UInt8 := dkwX5_leafOf_1 ++ dktX5_leafOf_2
def dkwX5_leafOf_0 : List UInt8 := [3, 61, 42, 27, 181, 0, 62, 28, 42, 180, 0, 24, 4, 100, 162, 0, 43, 42, 180, 0, 62, 42]
abbrev dktX5_leafOf_0 : List UInt8 := dkwX5_leafOf_0 ++ dktX5_leafOf_1
theorem dksX5_leafOf_0 : cX5_leafOf.data.toList.drop 0 = dktX5_leafOf_0 := by decide +kernel
theorem dksX5_leafOf_1 : cX5_leafOf.data.toList.drop 22 = dktX5_leafOf_1 := dk_seg dksX5_leafOf_0 22 rfl rfl
theorem dksX5_leafOf_2 : cX5_leafOf.data.toList.drop 44 = dktX5_leafOf_2 := dk_seg dksX5_leafOf_1 22 rfl rfl
theorem dX5_leafOf_0 : decode cX5_leafOf 0 = .ok (.iconst 0, 1) := dk_3 (dk_at dksX5_leafOf_0 0 rfl rfl)
theorem dX5_leafOf_1 : decode cX5_leafOf 1 = .ok (.istore_n 2, 1) := dk_61 (dk_at dksX5_leafOf_0 1 rfl rfl)
theorem dX5_leafOf_2 : decode cX5_leafOf 2 = .ok (.aload_n 0, 1) := dk_42 (dk_at dksX5_leafOf_0 2 rfl rfl)
theorem dX5_leafOf_3 : decode cX5_leafOf 3 = .ok (.iload_n 1, 1) := dk_27 (dk_at dksX5_leafOf_0 3 rfl rfl)
theorem dX5_leafOf_4 : decode cX5_leafOf 4 = .ok (.putfield 62, 3) := dk_181 0 62 (dk_at dksX5_leafOf_0 4 rfl rfl)
theorem dX5_leafOf_7 : decode cX5_leafOf 7 = .ok (.iload_n 2, 1) := dk_28 (dk_at dksX5_leafOf_0 7 rfl rfl)
theorem dX5_leafOf_8 : decode cX5_leafOf 8 = .ok (.aload_n 0, 1) := dk_42 (dk_at dksX5_leafOf_0 8 rfl rfl)
theorem dX5_leafOf_9 : decode cX5_leafOf 9 = .ok (.getfield 24, 3) := dk_180 0 24 (dk_at dksX5_leafOf_0 9 rfl rfl)
theorem dX5_leafOf_12 : decode cX5_leafOf 12 = .ok (.iconst 1, 1) := dk_4 (dk_at dksX5_leafOf_0 12 rfl rfl)
theorem dX5_leafOf_13 : decode cX5_leafOf 13 = .ok (.isub, 1) := dk_100 (dk_at dksX5_leafOf_0 13 rfl rfl)
theorem dX5_leafOf_14 : decode cX5_leafOf 14 = .ok (.if_icmp .ge 43, 3) := dk_162 0 43 (dk_at dksX5_leafOf_0 14 rfl rfl)
theorem dX5_leafOf_17 : decode cX5_leafOf 17 = .ok (.aload_n 0, 1) := dk_42 (dk_at dksX5_leafOf_0 17 rfl rfl)
theorem dX5_leafOf_18 : decode cX5_leafOf 18 = .ok (.getfield 62, 3) := dk_180 0 62 (dk_at dksX5_leafOf_0 18 rfl rfl)
theorem dX5_leafOf_21 : decode cX5_leafOf 21 = .ok (.aload_n 0, 1) := dk_42 (dk_at dksX5_leafOf_0 21 rfl rfl)
theorem dX5_leafOf_22 : decode cX5_leafOf 22 = .ok (.getfield 11, 3) := dk_180 0 11 (dk_at dksX5_leafOf_1 0 rfl rfl)
theorem dX5_leafOf_25 : decode cX5_leafOf 25 = .ok (.iload_n 2, 1) := dk_28 (dk_at dksX5_leafOf_1 3 rfl rfl)
theorem dX5_leafOf_26 : decode cX5_leafOf 26 = .ok (.aaload, 1) := dk_50 (dk_at dksX5_leafOf_1 4 rfl rfl)
theorem dX5_leafOf_27 : decode cX5_leafOf 27 = .ok (.getfield 65, 3) := dk_180 0 65 (dk_at dksX5_leafOf_1 5 rfl rfl)
theorem dX5_leafOf_30 : decode cX5_leafOf 30 = .ok (.if_icmp .lt 27, 3) := dk_161 0 27 (dk_at dksX5_leafOf_1 8 rfl rfl)
theorem dX5_leafOf_33 : decode cX5_leafOf 33 = .ok (.aload_n 0, 1) := dk_42 (dk_at dksX5_leafOf_1 11 rfl rfl)
theorem dX5_leafOf_34 : decode cX5_leafOf 34 = .ok (.dup, 1) := dk_89 (dk_at dksX5_leafOf_1 12 rfl rfl)
theorem dX5_leafOf_35 : decode cX5_leafOf 35 = .ok (.getfield 62, 3) := dk_180 0 62 (dk_at dksX5_leafOf_1 13 rfl rfl)
theorem dX5_leafOf_38 : decode cX5_leafOf 38 = .ok (.aload_n 0, 1) := dk_42 (dk_at dksX5_leafOf_1 16 rfl rfl)
theorem dX5_leafOf_39 : decode cX5_leafOf 39 = .ok (.getfield 11, 3) := dk_180 0 11 (dk_at dksX5_leafOf_1 17 rfl rfl)
theorem dX5_leafOf_42 : decode cX5_leafOf 42 = .ok (.iload_n 2, 1) := dk_28 (dk_at dksX5_leafOf_1 20 rfl rfl)
theorem dX5_leafOf_43 : decode cX5_leafOf 43 = .ok (.aaload, 1) := dk_50 (dk_at dksX5_leafOf_1 21 rfl rfl)
theorem dX5_leafOf_44 : decode cX5_leafOf 44 = .ok (.getfield 65, 3) := dk_180 0 65 (dk_at dksX5_leafOf_2 0 rfl rfl)
theorem dX5_leafOf_47 : decode cX5_leafOf 47 = .ok (.isub, 1) := dk_100 (dk_at dksX5_leafOf_2 3 rfl rfl)
theorem dX5_leafOf_48 : decode cX5_leafOf 48 = .ok (.putfield 62, 3) := dk_181 0 62 (dk_at dksX5_leafOf_2 4 rfl rfl)
theorem dX5_leafOf_51 : decode cX5_leafOf 51 = .ok (.iinc 2 1, 3) := dk_132 2 1 (dk_at dksX5_leafOf_2 7 rfl rfl)
theorem dX5_leafOf_54 : decode cX5_leafOf 54 = .ok (.goto (-47), 3) := dk_167 255 209 (dk_at dksX5_leafOf_2 10 rfl rfl)
theorem dX5_leafOf_57 : decode cX5_leafOf 57 = .ok (.iload_n 2, 1) := dk_28 (dk_at dksX5_leafOf_2 13 rfl rfl)
theorem dX5_leafOf_58 : decode cX5_leafOf 58 = .ok (.ireturn, 1) := dk_172 (dk_at dksX5_leafOf_2 14 rfl rfl)
abbrev cX5_halve : ByteArray := prog_19_method_25_code
def yX5_halve : MethodName := ⟨RX5, "halve", "(I)V"⟩
def dkwX5_halve_3 : List UInt8 := [21, 4, 45, 180, 0, 65, 182, 0, 154, 45, 21, 4, 182, 0, 158, 177]
abbrev dktX5_halve_3 : List UInt8 := dkwX5_halve_3 ++ []
def dkwX5_halve_2 : List UInt8 := [4, 96, 181, 0, 24, 42, 180, 0, 11, 27, 50, 78, 45, 180, 0, 65, 4, 96, 5, 108, 54, 4, 44, 45]
abbrev dktX5_halve_2 : List UInt8 := dkwX5_halve_2 ++ dktX5_halve_3
def dkwX5_halve_1 : List UInt8 := [180, 0, 24, 27, 100, 4, 100, 184, 0, 148, 42, 180, 0, 11, 27, 4, 96, 44, 83, 42, 89, 180, 0, 24]
abbrev dktX5_halve_1 : List UInt8 := dkwX5_halve_1 ++ dktX5_halve_2
def dkwX5_halve_0 : List UInt8 := [42, 42, 180, 0, 24, 182, 0, 128, 77, 42, 180, 0, 11, 27, 4, 96, 42, 180, 0, 11, 27, 5, 96, 42]
abbrev dktX5_halve_0 : List UInt8 := dkwX5_halve_0 ++ dktX5_halve_1
theorem dksX5_halve_0 : cX5_halve.data.toList.drop 0 = dktX5_halve_0 := by decide +kernel
theorem dksX5_halve_1 : cX5_halve.data.toList.drop 24 = dktX5_halve_1 := dk_seg dksX5_halve_0 24 rfl rfl
theorem dksX5_halve_2 : cX5_halve.data.toList.drop 48 = dktX5_halve_2 := dk_seg dksX5_halve_1 24 rfl rfl
theorem dksX5_halve_3 : cX5_halve.data.toList.drop 72 = dktX5_halve_3 := dk_seg dksX5_halve_2 24 rfl rfl
theorem dX5_halve_0 : decode cX5_halve 0 = .ok (.aload_n 0, 1) := dk_42 (dk_at dksX5_halve_0 0 rfl rfl)
theorem dX5_halve_1 : decode cX5_halve 1 = .ok (.aload_n 0, 1) := dk_42 (dk_at dksX5_halve_0 1 rfl rfl)
theorem dX5_halve_2 : decode cX5_halve 2 = .ok (.getfield 24, 3) := dk_180 0 24 (dk_at dksX5_halve_0 2 rfl rfl)
theorem dX5_halve_5 : decode cX5_halve 5 = .ok (.invokevirtual 128, 3) := dk_182 0 128 (dk_at dksX5_halve_0 5 rfl rfl)
theorem dX5_halve_8 : decode cX5_halve 8 = .ok (.astore_n 2, 1) := dk_77 (dk_at dksX5_halve_0 8 rfl rfl)
theorem dX5_halve_9 : decode cX5_halve 9 = .ok (.aload_n 0, 1) := dk_42 (dk_at dksX5_halve_0 9 rfl rfl)
theorem dX5_halve_10 : decode cX5_halve 10 = .ok (.getfield 11, 3) := dk_180 0 11 (dk_at dksX5_halve_0 10 rfl rfl)
theorem dX5_halve_13 : decode cX5_halve 13 = .ok (.iload_n 1, 1) := dk_27 (dk_at dksX5_halve_0 13 rfl rfl)
theorem dX5_halve_14 : decode cX5_halve 14 = .ok (.iconst 1, 1) := dk_4 (dk_at dksX5_halve_0 14 rfl rfl)
theorem dX5_halve_15 : decode cX5_halve 15 = .ok (.iadd, 1) := dk_96 (dk_at dksX5_halve_0 15 rfl rfl)
theorem dX5_halve_16 : decode cX5_halve 16 = .ok (.aload_n 0, 1) := dk_42 (dk_at dksX5_halve_0 16 rfl rfl)
theorem dX5_halve_17 : decode cX5_halve 17 = .ok (.getfield 11, 3) := dk_180 0 11 (dk_at dksX5_halve_0 17 rfl rfl)
theorem dX5_halve_20 : decode cX5_halve 20 = .ok (.iload_n 1, 1) := dk_27 (dk_at dksX5_halve_0 20 rfl rfl)
theorem dX5_halve_21 : decode cX5_halve 21 = .ok (.iconst 2, 1) := dk_5 (dk_at dksX5_halve_0 21 rfl rfl)
theorem dX5_halve_22 : decode cX5_halve 22 = .ok (.iadd, 1) := dk_96 (dk_at dksX5_halve_0 22 rfl rfl)
theorem dX5_halve_23 : decode cX5_halve 23 = .ok (.aload_n 0, 1) := dk_42 (dk_at dksX5_halve_0 23 rfl rfl)
theorem dX5_halve_24 : decode cX5_halve 24 = .ok (.getfield 24, 3) := dk_180 0 24 (dk_at dksX5_halve_1 0 rfl rfl)
theorem dX5_halve_27 : decode cX5_halve 27 = .ok (.iload_n 1, 1) := dk_27 (dk_at dksX5_halve_1 3 rfl rfl)
theorem dX5_halve_28 : decode cX5_halve 28 = .ok (.isub, 1) := dk_100 (dk_at dksX5_halve_1 4 rfl rfl)
theorem dX5_halve_29 : decode cX5_halve 29 = .ok (.iconst 1, 1) := dk_4 (dk_at dksX5_halve_1 5 rfl rfl)
theorem dX5_halve_30 : decode cX5_halve 30 = .ok (.isub, 1) := dk_100 (dk_at dksX5_halve_1 6 rfl rfl)
theorem dX5_halve_31 : decode cX5_halve 31 = .ok (.invokestatic 148, 3) := dk_184 0 148 (dk_at dksX5_halve_1 7 rfl rfl)
theorem dX5_halve_34 : decode cX5_halve 34 = .ok (.aload_n 0, 1) := dk_42 (dk_at dksX5_halve_1 10 rfl rfl)
theorem dX5_halve_35 : decode cX5_halve 35 = .ok (.getfield 11, 3) := dk_180 0 11 (dk_at dksX5_halve_1 11 rfl rfl)
theorem dX5_halve_38 : decode cX5_halve 38 = .ok (.iload_n 1, 1) := dk_27 (dk_at dksX5_halve_1 14 rfl rfl)
theorem dX5_halve_39 : decode cX5_halve 39 = .ok (.iconst 1, 1) := dk_4 (dk_at dksX5_halve_1 15 rfl rfl)
theorem dX5_halve_40 : decode cX5_halve 40 = .ok (.iadd, 1) := dk_96 (dk_at dksX5_halve_1 16 rfl rfl)
theorem dX5_halve_41 : decode cX5_halve 41 = .ok (.aload_n 2, 1) := dk_44 (dk_at dksX5_halve_1 17 rfl rfl)
theorem dX5_halve_42 : decode cX5_halve 42 = .ok (.aastore, 1) := dk_83 (dk_at dksX5_halve_1 18 rfl rfl)
theorem dX5_halve_43 : decode cX5_halve 43 = .ok (.aload_n 0, 1) := dk_42 (dk_at dksX5_halve_1 19 rfl rfl)
theorem dX5_halve_44 : decode cX5_halve 44 = .ok (.dup, 1) := dk_89 (dk_at dksX5_halve_1 20 rfl rfl)
theorem dX5_halve_45 : decode cX5_halve 45 = .ok (.getfield 24, 3) := dk_180 0 24 (dk_at dksX5_halve_1 21 rfl rfl)
theorem dX5_halve_48 : decode cX5_halve 48 = .ok (.iconst 1, 1) := dk_4 (dk_at dksX5_halve_2 0 rfl rfl)
theorem dX5_halve_49 : decode cX5_halve 49 = .ok (.iadd, 1) := dk_96 (dk_at dksX5_halve_2 1 rfl rfl)
theorem dX5_halve_50 : decode cX5_halve 50 = .ok (.putfield 24, 3) := dk_181 0 24 (dk_at dksX5_halve_2 2 rfl rfl)
theorem dX5_halve_53 : decode cX5_halve 53 = .ok (.aload_n 0, 1) := dk_42 (dk_at dksX5_halve_2 5 rfl rfl)
theorem dX5_halve_54 : decode cX5_halve 54 = .ok (.getfield 11, 3) := dk_180 0 11 (dk_at dksX5_halve_2 6 rfl rfl)
theorem dX5_halve_57 : decode cX5_halve 57 = .ok (.iload_n 1, 1) := dk_27 (dk_at dksX5_halve_2 9 rfl rfl)
theorem dX5_halve_58 : decode cX5_halve 58 = .ok (.aaload, 1) := dk_50 (dk_at dksX5_halve_2 10 rfl rfl)
theorem dX5_halve_59 : decode cX5_halve 59 = .ok (.astore_n 3, 1) := dk_78 (dk_at dksX5_halve_2 11 rfl rfl)
theorem dX5_halve_60 : decode cX5_halve 60 = .ok (.aload_n 3, 1) := dk_45 (dk_at dksX5_halve_2 12 rfl rfl)
theorem dX5_halve_61 : decode cX5_halve 61 = .ok (.getfield 65, 3) := dk_180 0 65 (dk_at dksX5_halve_2 13 rfl rfl)
theorem dX5_halve_64 : decode cX5_halve 64 = .ok (.iconst 1, 1) := dk_4 (dk_at dksX5_halve_2 16 rfl rfl)
theorem dX5_halve_65 : decode cX5_halve 65 = .ok (.iadd, 1) := dk_96 (dk_at dksX5_halve_2 17 rfl rfl)
theorem dX5_halve_66 : decode cX5_halve 66 = .ok (.iconst 2, 1) := dk_5 (dk_at dksX5_halve_2 18 rfl rfl)
theorem dX5_halve_67 : decode cX5_halve 67 = .ok (.idiv, 1) := dk_108 (dk_at dksX5_halve_2 19 rfl rfl)
theorem dX5_halve_68 : decode cX5_halve 68 = .ok (.istore 4, 2) := dk_54 4 (dk_at dksX5_halve_2 20 rfl rfl)
theorem dX5_halve_70 : decode cX5_halve 70 = .ok (.aload_n 2, 1) := dk_44 (dk_at dksX5_halve_2 22 rfl rfl)
theorem dX5_halve_71 : decode cX5_halve 71 = .ok (.aload_n 3, 1) := dk_45 (dk_at dksX5_halve_2 23 rfl rfl)
theorem dX5_halve_72 : decode cX5_halve 72 = .ok (.iload 4, 2) := dk_21 4 (dk_at dksX5_halve_3 0 rfl rfl)
theorem dX5_halve_74 : decode cX5_halve 74 = .ok (.aload_n 3, 1) := dk_45 (dk_at dksX5_halve_3 2 rfl rfl)
theorem dX5_halve_75 : decode cX5_halve 75 = .ok (.getfield 65, 3) := dk_180 0 65 (dk_at dksX5_halve_3 3 rfl rfl)
theorem dX5_halve_78 : decode cX5_halve 78 = .ok (.invokevirtual 154, 3) := dk_182 0 154 (dk_at dksX5_halve_3 6 rfl rfl)
theorem dX5_halve_81 : decode cX5_halve 81 = .ok (.aload_n 3, 1) := dk_45 (dk_at dksX5_halve_3 9 rfl rfl)
theorem dX5_halve_82 : decode cX5_halve 82 = .ok (.iload 4, 2) := dk_21 4 (dk_at dksX5_halve_3 10 rfl rfl)
theorem dX5_halve_84 : decode cX5_halve 84 = .ok (.invokevirtual 158, 3) := dk_182 0 158 (dk_at dksX5_halve_3 12 rfl rfl)
theorem dX5_halve_87 : decode cX5_halve 87 = .ok (.return_, 1) := dk_177 (dk_at dksX5_halve_3 15 rfl rfl)
abbrev cX5_before : ByteArray := prog_19_method_15_code
def yX5_before : MethodName := ⟨RX5, "before", "(II)I"⟩
def dkwX5_before_0 : List UInt8 := [28, 4, 160, 0, 11, 42, 27, 182, 0, 83, 167, 0, 10, 27, 42, 27, 182, 0, 83, 100, 172]
abbrev dktX5_before_0 : List UInt8 := dkwX5_before_0 ++ []
theorem dksX5_before_0 : cX5_before.data.toList.drop 0 = dktX5_before_0 := by decide +kernel
theorem dX5_before_0 : decode cX5_before 0 = .ok (.iload_n 2, 1) := dk_28 (dk_at dksX5_before_0 0 rfl rfl)
theorem dX5_before_1 : decode cX5_before 1 = .ok (.iconst 1, 1) := dk_4 (dk_at dksX5_before_0 1 rfl rfl)
theorem dX5_before_2 : decode cX5_before 2 = .ok (.if_icmp .ne 11, 3) := dk_160 0 11 (dk_at dksX5_before_0 2 rfl rfl)
theorem dX5_before_5 : decode cX5_before 5 = .ok (.aload_n 0, 1) := dk_42 (dk_at dksX5_before_0 5 rfl rfl)
theorem dX5_before_6 : decode cX5_before 6 = .ok (.iload_n 1, 1) := dk_27 (dk_at dksX5_before_0 6 rfl rfl)
theorem dX5_before_7 : decode cX5_before 7 = .ok (.invokevirtual 83, 3) := dk_182 0 83 (dk_at dksX5_before_0 7 rfl rfl)
theorem dX5_before_10 : decode cX5_before 10 = .ok (.goto 10, 3) := dk_167 0 10 (dk_at dksX5_before_0 10 rfl rfl)
theorem dX5_before_13 : decode cX5_before 13 = .ok (.iload_n 1, 1) := dk_27 (dk_at dksX5_before_0 13 rfl rfl)
theorem dX5_before_14 : decode cX5_before 14 = .ok (.aload_n 0, 1) := dk_42 (dk_at dksX5_before_0 14 rfl rfl)
theorem dX5_before_15 : decode cX5_before 15 = .ok (.iload_n 1, 1) := dk_27 (dk_at dksX5_before_0 15 rfl rfl)
theorem dX5_before_16 : decode cX5_before 16 = .ok (.invokevirtual 83, 3) := dk_182 0 83 (dk_at dksX5_before_0 16 rfl rfl)
theorem dX5_before_19 : decode cX5_before 19 = .ok (.isub, 1) := dk_100 (dk_at dksX5_before_0 19 rfl rfl)
theorem dX5_before_20 : decode cX5_before 20 = .ok (.ireturn, 1) := dk_172 (dk_at dksX5_before_0 20 rfl rfl)
abbrev cX5_onesAhead : ByteArray := prog_19_method_14_code
def yX5_onesAhead : MethodName := ⟨RX5, "onesAhead", "(I)I"⟩
def dkwX5_onesAhead_6 : List UInt8 := [21, 5, 182, 0, 72, 96, 54, 4, 132, 5, 1, 167, 255, 233, 21, 4, 172]
abbrev dktX5_onesAhead_6 : List UInt8 := dkwX5_onesAhead_6 ++ []
def dkwX5_onesAhead_5 : List UInt8 := [167, 0, 4, 4, 50, 77, 167, 255, 167, 3, 54, 5, 21, 5, 29, 162, 0, 23, 21, 4, 44, 192, 0, 9]
abbrev dktX5_onesAhead_5 : List UInt8 := dkwX5_onesAhead_5 ++ dktX5_onesAhead_6
def dkwX5_onesAhead_4 : List UInt8 := [180, 0, 51, 3, 50, 180, 0, 82, 96, 54, 4, 25, 5, 180, 0, 51, 21, 6, 153, 0, 7, 3]
abbrev dktX5_onesAhead_4 : List UInt8 := dkwX5_onesAhead_4 ++ dktX5_onesAhead_5
def dkwX5_onesAhead_3 : List UInt8 := [21, 6, 154, 0, 31, 29, 25, 5, 180, 0, 51, 3, 50, 180, 0, 75, 100, 62, 21, 4, 25, 5]
abbrev dktX5_onesAhead_3 : List UInt8 := dkwX5_onesAhead_3 ++ dktX5_onesAhead_4
def dkwX5_onesAhead_2 : List UInt8 := [182, 0, 48, 29, 25, 5, 180, 0, 51, 3, 50, 180, 0, 75, 162, 0, 7, 4, 167, 0, 4, 3, 54, 6]
abbrev dktX5_onesAhead_2 : List UInt8 := dkwX5_onesAhead_2 ++ dktX5_onesAhead_3
def dkwX5_onesAhead_1 : List UInt8 := [180, 0, 27, 77, 27, 62, 3, 54, 4, 44, 193, 0, 46, 153, 0, 88, 44, 192, 0, 46, 58, 5, 25, 5]
abbrev dktX5_onesAhead_1 : List UInt8 := dkwX5_onesAhead_1 ++ dktX5_onesAhead_2
def dkwX5_onesAhead_0 : List UInt8 := [42, 180, 0, 17, 154, 0, 5, 3, 172, 42, 180, 0, 31, 154, 0, 9, 42, 27, 182, 0, 79, 172, 42]
abbrev dktX5_onesAhead_0 : List UInt8 := dkwX5_onesAhead_0 ++ dktX5_onesAhead_1
theorem dksX5_onesAhead_0 : cX5_onesAhead.data.toList.drop 0 = dktX5_onesAhead_0 := by decide +kernel
theorem dksX5_onesAhead_1 : cX5_onesAhead.data.toList.drop 23 = dktX5_onesAhead_1 := dk_seg dksX5_onesAhead_0 23 rfl rfl
theorem dksX5_onesAhead_2 : cX5_onesAhead.data.toList.drop 47 = dktX5_onesAhead_2 := dk_seg dksX5_onesAhead_1 24 rfl rfl
theorem dksX5_onesAhead_3 : cX5_onesAhead.data.toList.drop 71 = dktX5_onesAhead_3 := dk_seg dksX5_onesAhead_2 24 rfl rfl
theorem dksX5_onesAhead_4 : cX5_onesAhead.data.toList.drop 93 = dktX5_onesAhead_4 := dk_seg dksX5_onesAhead_3 22 rfl rfl
theorem dksX5_onesAhead_5 : cX5_onesAhead.data.toList.drop 115 = dktX5_onesAhead_5 := dk_seg dksX5_onesAhead_4 22 rfl rfl
theorem dksX5_onesAhead_6 : cX5_onesAhead.data.toList.drop 139 = dktX5_onesAhead_6 := dk_seg dksX5_onesAhead_5 24 rfl rfl
theorem dX5_onesAhead_0 : decode cX5_onesAhead 0 = .ok (.aload_n 0, 1) := dk_42 (dk_at dksX5_onesAhead_0 0 rfl rfl)
theorem dX5_onesAhead_1 : decode cX5_onesAhead 1 = .ok (.getfield 17, 3) := dk_180 0 17 (dk_at dksX5_onesAhead_0 1 rfl rfl)
theorem dX5_onesAhead_4 : decode cX5_onesAhead 4 = .ok (.ifCond .ne 5, 3) := dk_154 0 5 (dk_at dksX5_onesAhead_0 4 rfl rfl)
theorem dX5_onesAhead_7 : decode cX5_onesAhead 7 = .ok (.iconst 0, 1) := dk_3 (dk_at dksX5_onesAhead_0 7 rfl rfl)
theorem dX5_onesAhead_8 : decode cX5_onesAhead 8 = .ok (.ireturn, 1) := dk_172 (dk_at dksX5_onesAhead_0 8 rfl rfl)
theorem dX5_onesAhead_9 : decode cX5_onesAhead 9 = .ok (.aload_n 0, 1) := dk_42 (dk_at dksX5_onesAhead_0 9 rfl rfl)
theorem dX5_onesAhead_10 : decode cX5_onesAhead 10 = .ok (.getfield 31, 3) := dk_180 0 31 (dk_at dksX5_onesAhead_0 10 rfl rfl)
theorem dX5_onesAhead_13 : decode cX5_onesAhead 13 = .ok (.ifCond .ne 9, 3) := dk_154 0 9 (dk_at dksX5_onesAhead_0 13 rfl rfl)
theorem dX5_onesAhead_16 : decode cX5_onesAhead 16 = .ok (.aload_n 0, 1) := dk_42 (dk_at dksX5_onesAhead_0 16 rfl rfl)
theorem dX5_onesAhead_17 : decode cX5_onesAhead 17 = .ok (.iload_n 1, 1) := dk_27 (dk_at dksX5_onesAhead_0 17 rfl rfl)
theorem dX5_onesAhead_18 : decode cX5_onesAhead 18 = .ok (.invokevirtual 79, 3) := dk_182 0 79 (dk_at dksX5_onesAhead_0 18 rfl rfl)
theorem dX5_onesAhead_21 : decode cX5_onesAhead 21 = .ok (.ireturn, 1) := dk_172 (dk_at dksX5_onesAhead_0 21 rfl rfl)
theorem dX5_onesAhead_22 : decode cX5_onesAhead 22 = .ok (.aload_n 0, 1) := dk_42 (dk_at dksX5_onesAhead_0 22 rfl rfl)
theorem dX5_onesAhead_23 : decode cX5_onesAhead 23 = .ok (.getfield 27, 3) := dk_180 0 27 (dk_at dksX5_onesAhead_1 0 rfl rfl)
theorem dX5_onesAhead_26 : decode cX5_onesAhead 26 = .ok (.astore_n 2, 1) := dk_77 (dk_at dksX5_onesAhead_1 3 rfl rfl)
theorem dX5_onesAhead_27 : decode cX5_onesAhead 27 = .ok (.iload_n 1, 1) := dk_27 (dk_at dksX5_onesAhead_1 4 rfl rfl)
theorem dX5_onesAhead_28 : decode cX5_onesAhead 28 = .ok (.istore_n 3, 1) := dk_62 (dk_at dksX5_onesAhead_1 5 rfl rfl)
theorem dX5_onesAhead_29 : decode cX5_onesAhead 29 = .ok (.iconst 0, 1) := dk_3 (dk_at dksX5_onesAhead_1 6 rfl rfl)
theorem dX5_onesAhead_30 : decode cX5_onesAhead 30 = .ok (.istore 4, 2) := dk_54 4 (dk_at dksX5_onesAhead_1 7 rfl rfl)
theorem dX5_onesAhead_32 : decode cX5_onesAhead 32 = .ok (.aload_n 2, 1) := dk_44 (dk_at dksX5_onesAhead_1 9 rfl rfl)
theorem dX5_onesAhead_33 : decode cX5_onesAhead 33 = .ok (.instanceof 46, 3) := dk_193 0 46 (dk_at dksX5_onesAhead_1 10 rfl rfl)
theorem dX5_onesAhead_36 : decode cX5_onesAhead 36 = .ok (.ifCond .eq 88, 3) := dk_153 0 88 (dk_at dksX5_onesAhead_1 13 rfl rfl)
theorem dX5_onesAhead_39 : decode cX5_onesAhead 39 = .ok (.aload_n 2, 1) := dk_44 (dk_at dksX5_onesAhead_1 16 rfl rfl)
theorem dX5_onesAhead_40 : decode cX5_onesAhead 40 = .ok (.checkcast 46, 3) := dk_192 0 46 (dk_at dksX5_onesAhead_1 17 rfl rfl)
theorem dX5_onesAhead_43 : decode cX5_onesAhead 43 = .ok (.astore 5, 2) := dk_58 5 (dk_at dksX5_onesAhead_1 20 rfl rfl)
theorem dX5_onesAhead_45 : decode cX5_onesAhead 45 = .ok (.aload 5, 2) := dk_25 5 (dk_at dksX5_onesAhead_1 22 rfl rfl)
theorem dX5_onesAhead_47 : decode cX5_onesAhead 47 = .ok (.invokevirtual 48, 3) := dk_182 0 48 (dk_at dksX5_onesAhead_2 0 rfl rfl)
theorem dX5_onesAhead_50 : decode cX5_onesAhead 50 = .ok (.iload_n 3, 1) := dk_29 (dk_at dksX5_onesAhead_2 3 rfl rfl)
theorem dX5_onesAhead_51 : decode cX5_onesAhead 51 = .ok (.aload 5, 2) := dk_25 5 (dk_at dksX5_onesAhead_2 4 rfl rfl)
theorem dX5_onesAhead_53 : decode cX5_onesAhead 53 = .ok (.getfield 51, 3) := dk_180 0 51 (dk_at dksX5_onesAhead_2 6 rfl rfl)
theorem dX5_onesAhead_56 : decode cX5_onesAhead 56 = .ok (.iconst 0, 1) := dk_3 (dk_at dksX5_onesAhead_2 9 rfl rfl)
theorem dX5_onesAhead_57 : decode cX5_onesAhead 57 = .ok (.aaload, 1) := dk_50 (dk_at dksX5_onesAhead_2 10 rfl rfl)
theorem dX5_onesAhead_58 : decode cX5_onesAhead 58 = .ok (.getfield 75, 3) := dk_180 0 75 (dk_at dksX5_onesAhead_2 11 rfl rfl)
theorem dX5_onesAhead_61 : decode cX5_onesAhead 61 = .ok (.if_icmp .ge 7, 3) := dk_162 0 7 (dk_at dksX5_onesAhead_2 14 rfl rfl)
theorem dX5_onesAhead_64 : decode cX5_onesAhead 64 = .ok (.iconst 1, 1) := dk_4 (dk_at dksX5_onesAhead_2 17 rfl rfl)
theorem dX5_onesAhead_65 : decode cX5_onesAhead 65 = .ok (.goto 4, 3) := dk_167 0 4 (dk_at dksX5_onesAhead_2 18 rfl rfl)
theorem dX5_onesAhead_68 : decode cX5_onesAhead 68 = .ok (.iconst 0, 1) := dk_3 (dk_at dksX5_onesAhead_2 21 rfl rfl)
theorem dX5_onesAhead_69 : decode cX5_onesAhead 69 = .ok (.istore 6, 2) := dk_54 6 (dk_at dksX5_onesAhead_2 22 rfl rfl)
theorem dX5_onesAhead_71 : decode cX5_onesAhead 71 = .ok (.iload 6, 2) := dk_21 6 (dk_at dksX5_onesAhead_3 0 rfl rfl)
theorem dX5_onesAhead_73 : decode cX5_onesAhead 73 = .ok (.ifCond .ne 31, 3) := dk_154 0 31 (dk_at dksX5_onesAhead_3 2 rfl rfl)
theorem dX5_onesAhead_76 : decode cX5_onesAhead 76 = .ok (.iload_n 3, 1) := dk_29 (dk_at dksX5_onesAhead_3 5 rfl rfl)
theorem dX5_onesAhead_77 : decode cX5_onesAhead 77 = .ok (.aload 5, 2) := dk_25 5 (dk_at dksX5_onesAhead_3 6 rfl rfl)
theorem dX5_onesAhead_79 : decode cX5_onesAhead 79 = .ok (.getfield 51, 3) := dk_180 0 51 (dk_at dksX5_onesAhead_3 8 rfl rfl)
theorem dX5_onesAhead_82 : decode cX5_onesAhead 82 = .ok (.iconst 0, 1) := dk_3 (dk_at dksX5_onesAhead_3 11 rfl rfl)
theorem dX5_onesAhead_83 : decode cX5_onesAhead 83 = .ok (.aaload, 1) := dk_50 (dk_at dksX5_onesAhead_3 12 rfl rfl)
theorem dX5_onesAhead_84 : decode cX5_onesAhead 84 = .ok (.getfield 75, 3) := dk_180 0 75 (dk_at dksX5_onesAhead_3 13 rfl rfl)
theorem dX5_onesAhead_87 : decode cX5_onesAhead 87 = .ok (.isub, 1) := dk_100 (dk_at dksX5_onesAhead_3 16 rfl rfl)
theorem dX5_onesAhead_88 : decode cX5_onesAhead 88 = .ok (.istore_n 3, 1) := dk_62 (dk_at dksX5_onesAhead_3 17 rfl rfl)
theorem dX5_onesAhead_89 : decode cX5_onesAhead 89 = .ok (.iload 4, 2) := dk_21 4 (dk_at dksX5_onesAhead_3 18 rfl rfl)
theorem dX5_onesAhead_91 : decode cX5_onesAhead 91 = .ok (.aload 5, 2) := dk_25 5 (dk_at dksX5_onesAhead_3 20 rfl rfl)
theorem dX5_onesAhead_93 : decode cX5_onesAhead 93 = .ok (.getfield 51, 3) := dk_180 0 51 (dk_at dksX5_onesAhead_4 0 rfl rfl)
theorem dX5_onesAhead_96 : decode cX5_onesAhead 96 = .ok (.iconst 0, 1) := dk_3 (dk_at dksX5_onesAhead_4 3 rfl rfl)
theorem dX5_onesAhead_97 : decode cX5_onesAhead 97 = .ok (.aaload, 1) := dk_50 (dk_at dksX5_onesAhead_4 4 rfl rfl)
theorem dX5_onesAhead_98 : decode cX5_onesAhead 98 = .ok (.getfield 82, 3) := dk_180 0 82 (dk_at dksX5_onesAhead_4 5 rfl rfl)
theorem dX5_onesAhead_101 : decode cX5_onesAhead 101 = .ok (.iadd, 1) := dk_96 (dk_at dksX5_onesAhead_4 8 rfl rfl)
theorem dX5_onesAhead_102 : decode cX5_onesAhead 102 = .ok (.istore 4, 2) := dk_54 4 (dk_at dksX5_onesAhead_4 9 rfl rfl)
theorem dX5_onesAhead_104 : decode cX5_onesAhead 104 = .ok (.aload 5, 2) := dk_25 5 (dk_at dksX5_onesAhead_4 11 rfl rfl)
theorem dX5_onesAhead_106 : decode cX5_onesAhead 106 = .ok (.getfield 51, 3) := dk_180 0 51 (dk_at dksX5_onesAhead_4 13 rfl rfl)
theorem dX5_onesAhead_109 : decode cX5_onesAhead 109 = .ok (.iload 6, 2) := dk_21 6 (dk_at dksX5_onesAhead_4 16 rfl rfl)
theorem dX5_onesAhead_111 : decode cX5_onesAhead 111 = .ok (.ifCond .eq 7, 3) := dk_153 0 7 (dk_at dksX5_onesAhead_4 18 rfl rfl)
theorem dX5_onesAhead_114 : decode cX5_onesAhead 114 = .ok (.iconst 0, 1) := dk_3 (dk_at dksX5_onesAhead_4 21 rfl rfl)
theorem dX5_onesAhead_115 : decode cX5_onesAhead 115 = .ok (.goto 4, 3) := dk_167 0 4 (dk_at dksX5_onesAhead_5 0 rfl rfl)
theorem dX5_onesAhead_118 : decode cX5_onesAhead 118 = .ok (.iconst 1, 1) := dk_4 (dk_at dksX5_onesAhead_5 3 rfl rfl)
theorem dX5_onesAhead_119 : decode cX5_onesAhead 119 = .ok (.aaload, 1) := dk_50 (dk_at dksX5_onesAhead_5 4 rfl rfl)
theorem dX5_onesAhead_120 : decode cX5_onesAhead 120 = .ok (.astore_n 2, 1) := dk_77 (dk_at dksX5_onesAhead_5 5 rfl rfl)
theorem dX5_onesAhead_121 : decode cX5_onesAhead 121 = .ok (.goto (-89), 3) := dk_167 255 167 (dk_at dksX5_onesAhead_5 6 rfl rfl)
theorem dX5_onesAhead_124 : decode cX5_onesAhead 124 = .ok (.iconst 0, 1) := dk_3 (dk_at dksX5_onesAhead_5 9 rfl rfl)
theorem dX5_onesAhead_125 : decode cX5_onesAhead 125 = .ok (.istore 5, 2) := dk_54 5 (dk_at dksX5_onesAhead_5 10 rfl rfl)
theorem dX5_onesAhead_127 : decode cX5_onesAhead 127 = .ok (.iload 5, 2) := dk_21 5 (dk_at dksX5_onesAhead_5 12 rfl rfl)
theorem dX5_onesAhead_129 : decode cX5_onesAhead 129 = .ok (.iload_n 3, 1) := dk_29 (dk_at dksX5_onesAhead_5 14 rfl rfl)
theorem dX5_onesAhead_130 : decode cX5_onesAhead 130 = .ok (.if_icmp .ge 23, 3) := dk_162 0 23 (dk_at dksX5_onesAhead_5 15 rfl rfl)
theorem dX5_onesAhead_133 : decode cX5_onesAhead 133 = .ok (.iload 4, 2) := dk_21 4 (dk_at dksX5_onesAhead_5 18 rfl rfl)
theorem dX5_onesAhead_135 : decode cX5_onesAhead 135 = .ok (.aload_n 2, 1) := dk_44 (dk_at dksX5_onesAhead_5 20 rfl rfl)
theorem dX5_onesAhead_136 : decode cX5_onesAhead 136 = .ok (.checkcast 9, 3) := dk_192 0 9 (dk_at dksX5_onesAhead_5 21 rfl rfl)
theorem dX5_onesAhead_139 : decode cX5_onesAhead 139 = .ok (.iload 5, 2) := dk_21 5 (dk_at dksX5_onesAhead_6 0 rfl rfl)
theorem dX5_onesAhead_141 : decode cX5_onesAhead 141 = .ok (.invokevirtual 72, 3) := dk_182 0 72 (dk_at dksX5_onesAhead_6 2 rfl rfl)
theorem dX5_onesAhead_144 : decode cX5_onesAhead 144 = .ok (.iadd, 1) := dk_96 (dk_at dksX5_onesAhead_6 5 rfl rfl)
theorem dX5_onesAhead_145 : decode cX5_onesAhead 145 = .ok (.istore 4, 2) := dk_54 4 (dk_at dksX5_onesAhead_6 6 rfl rfl)
theorem dX5_onesAhead_147 : decode cX5_onesAhead 147 = .ok (.iinc 5 1, 3) := dk_132 5 1 (dk_at dksX5_onesAhead_6 8 rfl rfl)
theorem dX5_onesAhead_150 : decode cX5_onesAhead 150 = .ok (.goto (-23), 3) := dk_167 255 233 (dk_at dksX5_onesAhead_6 11 rfl rfl)
theorem dX5_onesAhead_153 : decode cX5_onesAhead 153 = .ok (.iload 4, 2) := dk_21 4 (dk_at dksX5_onesAhead_6 14 rfl rfl)
theorem dX5_onesAhead_155 : decode cX5_onesAhead 155 = .ok (.ireturn, 1) := dk_172 (dk_at dksX5_onesAhead_6 16 rfl rfl)
abbrev cX5_onesAlong : ByteArray := prog_19_method_13_code
def yX5_onesAlong : MethodName := ⟨RX5, "onesAlong", "(I)I"⟩
def dkwX5_onesAlong_2 : List UInt8 := [29, 42, 180, 0, 11, 28, 50, 21, 4, 182, 0, 72, 96, 62, 132, 4, 1, 167, 255, 230, 29, 172]
abbrev dktX5_onesAlong_2 : List UInt8 := dkwX5_onesAlong_2 ++ []
def dkwX5_onesAlong_1 : List UInt8 := [50, 180, 0, 76, 96, 62, 132, 4, 1, 167, 255, 234, 3, 54, 4, 21, 4, 42, 180, 0, 62, 162, 0, 23]
abbrev dktX5_onesAlong_1 : List UInt8 := dkwX5_onesAlong_1 ++ dktX5_onesAlong_2
def dkwX5_onesAlong_0 : List UInt8 := [42, 27, 182, 0, 68, 61, 3, 62, 3, 54, 4, 21, 4, 28, 162, 0, 22, 29, 42, 180, 0, 11, 21, 4]
abbrev dktX5_onesAlong_0 : List UInt8 := dkwX5_onesAlong_0 ++ dktX5_onesAlong_1
theorem dksX5_onesAlong_0 : cX5_onesAlong.data.toList.drop 0 = dktX5_onesAlong_0 := by decide +kernel
theorem dksX5_onesAlong_1 : cX5_onesAlong.data.toList.drop 24 = dktX5_onesAlong_1 := dk_seg dksX5_onesAlong_0 24 rfl rfl
theorem dksX5_onesAlong_2 : cX5_onesAlong.data.toList.drop 48 = dktX5_onesAlong_2 := dk_seg dksX5_onesAlong_1 24 rfl rfl
theorem dX5_onesAlong_0 : decode cX5_onesAlong 0 = .ok (.aload_n 0, 1) := dk_42 (dk_at dksX5_onesAlong_0 0 rfl rfl)
theorem dX5_onesAlong_1 : decode cX5_onesAlong 1 = .ok (.iload_n 1, 1) := dk_27 (dk_at dksX5_onesAlong_0 1 rfl rfl)
theorem dX5_onesAlong_2 : decode cX5_onesAlong 2 = .ok (.invokevirtual 68, 3) := dk_182 0 68 (dk_at dksX5_onesAlong_0 2 rfl rfl)
theorem dX5_onesAlong_5 : decode cX5_onesAlong 5 = .ok (.istore_n 2, 1) := dk_61 (dk_at dksX5_onesAlong_0 5 rfl rfl)
theorem dX5_onesAlong_6 : decode cX5_onesAlong 6 = .ok (.iconst 0, 1) := dk_3 (dk_at dksX5_onesAlong_0 6 rfl rfl)
theorem dX5_onesAlong_7 : decode cX5_onesAlong 7 = .ok (.istore_n 3, 1) := dk_62 (dk_at dksX5_onesAlong_0 7 rfl rfl)
theorem dX5_onesAlong_8 : decode cX5_onesAlong 8 = .ok (.iconst 0, 1) := dk_3 (dk_at dksX5_onesAlong_0 8 rfl rfl)
theorem dX5_onesAlong_9 : decode cX5_onesAlong 9 = .ok (.istore 4, 2) := dk_54 4 (dk_at dksX5_onesAlong_0 9 rfl rfl)
theorem dX5_onesAlong_11 : decode cX5_onesAlong 11 = .ok (.iload 4, 2) := dk_21 4 (dk_at dksX5_onesAlong_0 11 rfl rfl)
theorem dX5_onesAlong_13 : decode cX5_onesAlong 13 = .ok (.iload_n 2, 1) := dk_28 (dk_at dksX5_onesAlong_0 13 rfl rfl)
theorem dX5_onesAlong_14 : decode cX5_onesAlong 14 = .ok (.if_icmp .ge 22, 3) := dk_162 0 22 (dk_at dksX5_onesAlong_0 14 rfl rfl)
theorem dX5_onesAlong_17 : decode cX5_onesAlong 17 = .ok (.iload_n 3, 1) := dk_29 (dk_at dksX5_onesAlong_0 17 rfl rfl)
theorem dX5_onesAlong_18 : decode cX5_onesAlong 18 = .ok (.aload_n 0, 1) := dk_42 (dk_at dksX5_onesAlong_0 18 rfl rfl)
theorem dX5_onesAlong_19 : decode cX5_onesAlong 19 = .ok (.getfield 11, 3) := dk_180 0 11 (dk_at dksX5_onesAlong_0 19 rfl rfl)
theorem dX5_onesAlong_22 : decode cX5_onesAlong 22 = .ok (.iload 4, 2) := dk_21 4 (dk_at dksX5_onesAlong_0 22 rfl rfl)
theorem dX5_onesAlong_24 : decode cX5_onesAlong 24 = .ok (.aaload, 1) := dk_50 (dk_at dksX5_onesAlong_1 0 rfl rfl)
theorem dX5_onesAlong_25 : decode cX5_onesAlong 25 = .ok (.getfield 76, 3) := dk_180 0 76 (dk_at dksX5_onesAlong_1 1 rfl rfl)
theorem dX5_onesAlong_28 : decode cX5_onesAlong 28 = .ok (.iadd, 1) := dk_96 (dk_at dksX5_onesAlong_1 4 rfl rfl)
theorem dX5_onesAlong_29 : decode cX5_onesAlong 29 = .ok (.istore_n 3, 1) := dk_62 (dk_at dksX5_onesAlong_1 5 rfl rfl)
theorem dX5_onesAlong_30 : decode cX5_onesAlong 30 = .ok (.iinc 4 1, 3) := dk_132 4 1 (dk_at dksX5_onesAlong_1 6 rfl rfl)
theorem dX5_onesAlong_33 : decode cX5_onesAlong 33 = .ok (.goto (-22), 3) := dk_167 255 234 (dk_at dksX5_onesAlong_1 9 rfl rfl)
theorem dX5_onesAlong_36 : decode cX5_onesAlong 36 = .ok (.iconst 0, 1) := dk_3 (dk_at dksX5_onesAlong_1 12 rfl rfl)
theorem dX5_onesAlong_37 : decode cX5_onesAlong 37 = .ok (.istore 4, 2) := dk_54 4 (dk_at dksX5_onesAlong_1 13 rfl rfl)
theorem dX5_onesAlong_39 : decode cX5_onesAlong 39 = .ok (.iload 4, 2) := dk_21 4 (dk_at dksX5_onesAlong_1 15 rfl rfl)
theorem dX5_onesAlong_41 : decode cX5_onesAlong 41 = .ok (.aload_n 0, 1) := dk_42 (dk_at dksX5_onesAlong_1 17 rfl rfl)
theorem dX5_onesAlong_42 : decode cX5_onesAlong 42 = .ok (.getfield 62, 3) := dk_180 0 62 (dk_at dksX5_onesAlong_1 18 rfl rfl)
theorem dX5_onesAlong_45 : decode cX5_onesAlong 45 = .ok (.if_icmp .ge 23, 3) := dk_162 0 23 (dk_at dksX5_onesAlong_1 21 rfl rfl)
theorem dX5_onesAlong_48 : decode cX5_onesAlong 48 = .ok (.iload_n 3, 1) := dk_29 (dk_at dksX5_onesAlong_2 0 rfl rfl)
theorem dX5_onesAlong_49 : decode cX5_onesAlong 49 = .ok (.aload_n 0, 1) := dk_42 (dk_at dksX5_onesAlong_2 1 rfl rfl)
theorem dX5_onesAlong_50 : decode cX5_onesAlong 50 = .ok (.getfield 11, 3) := dk_180 0 11 (dk_at dksX5_onesAlong_2 2 rfl rfl)
theorem dX5_onesAlong_53 : decode cX5_onesAlong 53 = .ok (.iload_n 2, 1) := dk_28 (dk_at dksX5_onesAlong_2 5 rfl rfl)
theorem dX5_onesAlong_54 : decode cX5_onesAlong 54 = .ok (.aaload, 1) := dk_50 (dk_at dksX5_onesAlong_2 6 rfl rfl)
theorem dX5_onesAlong_55 : decode cX5_onesAlong 55 = .ok (.iload 4, 2) := dk_21 4 (dk_at dksX5_onesAlong_2 7 rfl rfl)
theorem dX5_onesAlong_57 : decode cX5_onesAlong 57 = .ok (.invokevirtual 72, 3) := dk_182 0 72 (dk_at dksX5_onesAlong_2 9 rfl rfl)
theorem dX5_onesAlong_60 : decode cX5_onesAlong 60 = .ok (.iadd, 1) := dk_96 (dk_at dksX5_onesAlong_2 12 rfl rfl)
theorem dX5_onesAlong_61 : decode cX5_onesAlong 61 = .ok (.istore_n 3, 1) := dk_62 (dk_at dksX5_onesAlong_2 13 rfl rfl)
theorem dX5_onesAlong_62 : decode cX5_onesAlong 62 = .ok (.iinc 4 1, 3) := dk_132 4 1 (dk_at dksX5_onesAlong_2 14 rfl rfl)
theorem dX5_onesAlong_65 : decode cX5_onesAlong 65 = .ok (.goto (-26), 3) := dk_167 255 230 (dk_at dksX5_onesAlong_2 17 rfl rfl)
theorem dX5_onesAlong_68 : decode cX5_onesAlong 68 = .ok (.iload_n 3, 1) := dk_29 (dk_at dksX5_onesAlong_2 20 rfl rfl)
theorem dX5_onesAlong_69 : decode cX5_onesAlong 69 = .ok (.ireturn, 1) := dk_172 (dk_at dksX5_onesAlong_2 21 rfl rfl)
abbrev cX5_ready : ByteArray := prog_19_method_6_code
def yX5_ready : MethodName := ⟨RX5, "ready", "()LBitRopes$Rope;"⟩
def dkwX5_ready_1 : List UInt8 := [167, 0, 12, 42, 3, 42, 180, 0, 24, 182, 0, 38, 181, 0, 27, 42, 4, 181, 0, 31, 42, 176]
abbrev dktX5_ready_1 : List UInt8 := dkwX5_ready_1 ++ []
def dkwX5_ready_0 : List UInt8 := [42, 180, 0, 31, 153, 0, 5, 42, 176, 42, 3, 181, 0, 35, 42, 42, 180, 0, 24, 154, 0, 7, 1]
abbrev dktX5_ready_0 : List UInt8 := dkwX5_ready_0 ++ dktX5_ready_1
theorem dksX5_ready_0 : cX5_ready.data.toList.drop 0 = dktX5_ready_0 := by decide +kernel
theorem dksX5_ready_1 : cX5_ready.data.toList.drop 23 = dktX5_ready_1 := dk_seg dksX5_ready_0 23 rfl rfl
theorem dX5_ready_0 : decode cX5_ready 0 = .ok (.aload_n 0, 1) := dk_42 (dk_at dksX5_ready_0 0 rfl rfl)
theorem dX5_ready_1 : decode cX5_ready 1 = .ok (.getfield 31, 3) := dk_180 0 31 (dk_at dksX5_ready_0 1 rfl rfl)
theorem dX5_ready_4 : decode cX5_ready 4 = .ok (.ifCond .eq 5, 3) := dk_153 0 5 (dk_at dksX5_ready_0 4 rfl rfl)
theorem dX5_ready_7 : decode cX5_ready 7 = .ok (.aload_n 0, 1) := dk_42 (dk_at dksX5_ready_0 7 rfl rfl)
theorem dX5_ready_8 : decode cX5_ready 8 = .ok (.areturn, 1) := dk_176 (dk_at dksX5_ready_0 8 rfl rfl)
theorem dX5_ready_9 : decode cX5_ready 9 = .ok (.aload_n 0, 1) := dk_42 (dk_at dksX5_ready_0 9 rfl rfl)
theorem dX5_ready_10 : decode cX5_ready 10 = .ok (.iconst 0, 1) := dk_3 (dk_at dksX5_ready_0 10 rfl rfl)
theorem dX5_ready_11 : decode cX5_ready 11 = .ok (.putfield 35, 3) := dk_181 0 35 (dk_at dksX5_ready_0 11 rfl rfl)
theorem dX5_ready_14 : decode cX5_ready 14 = .ok (.aload_n 0, 1) := dk_42 (dk_at dksX5_ready_0 14 rfl rfl)
theorem dX5_ready_15 : decode cX5_ready 15 = .ok (.aload_n 0, 1) := dk_42 (dk_at dksX5_ready_0 15 rfl rfl)
theorem dX5_ready_16 : decode cX5_ready 16 = .ok (.getfield 24, 3) := dk_180 0 24 (dk_at dksX5_ready_0 16 rfl rfl)
theorem dX5_ready_19 : decode cX5_ready 19 = .ok (.ifCond .ne 7, 3) := dk_154 0 7 (dk_at dksX5_ready_0 19 rfl rfl)
theorem dX5_ready_22 : decode cX5_ready 22 = .ok (.aconst_null, 1) := dk_1 (dk_at dksX5_ready_0 22 rfl rfl)
theorem dX5_ready_23 : decode cX5_ready 23 = .ok (.goto 12, 3) := dk_167 0 12 (dk_at dksX5_ready_1 0 rfl rfl)
theorem dX5_ready_26 : decode cX5_ready 26 = .ok (.aload_n 0, 1) := dk_42 (dk_at dksX5_ready_1 3 rfl rfl)
theorem dX5_ready_27 : decode cX5_ready 27 = .ok (.iconst 0, 1) := dk_3 (dk_at dksX5_ready_1 4 rfl rfl)
theorem dX5_ready_28 : decode cX5_ready 28 = .ok (.aload_n 0, 1) := dk_42 (dk_at dksX5_ready_1 5 rfl rfl)
theorem dX5_ready_29 : decode cX5_ready 29 = .ok (.getfield 24, 3) := dk_180 0 24 (dk_at dksX5_ready_1 6 rfl rfl)
theorem dX5_ready_32 : decode cX5_ready 32 = .ok (.invokevirtual 38, 3) := dk_182 0 38 (dk_at dksX5_ready_1 9 rfl rfl)
theorem dX5_ready_35 : decode cX5_ready 35 = .ok (.putfield 27, 3) := dk_181 0 27 (dk_at dksX5_ready_1 12 rfl rfl)
theorem dX5_ready_38 : decode cX5_ready 38 = .ok (.aload_n 0, 1) := dk_42 (dk_at dksX5_ready_1 15 rfl rfl)
theorem dX5_ready_39 : decode cX5_ready 39 = .ok (.iconst 1, 1) := dk_4 (dk_at dksX5_ready_1 16 rfl rfl)
theorem dX5_ready_40 : decode cX5_ready 40 = .ok (.putfield 31, 3) := dk_181 0 31 (dk_at dksX5_ready_1 17 rfl rfl)
theorem dX5_ready_43 : decode cX5_ready 43 = .ok (.aload_n 0, 1) := dk_42 (dk_at dksX5_ready_1 20 rfl rfl)
theorem dX5_ready_44 : decode cX5_ready 44 = .ok (.areturn, 1) := dk_176 (dk_at dksX5_ready_1 21 rfl rfl)
abbrev cX5_build : ByteArray := prog_19_method_10_code
def yX5_build : MethodName := ⟨RX5, "build", "(II)LBitRopes$Node;"⟩
def dkwX5_build_4 : List UInt8 := [3, 25, 4, 83, 25, 6, 4, 25, 5, 83, 187, 0, 46, 89, 25, 6, 183, 0, 59, 176]
abbrev dktX5_build_4 : List UInt8 := dkwX5_build_4 ++ []
def dkwX5_build_3 : List UInt8 := [83, 167, 0, 33, 58, 7, 42, 89, 180, 0, 35, 4, 96, 181, 0, 35, 5, 189, 0, 57, 58, 6, 25, 6]
abbrev dktX5_build_3 : List UInt8 := dkwX5_build_3 ++ dktX5_build_4
def dkwX5_build_2 : List UInt8 := [5, 189, 0, 9, 167, 0, 7, 5, 189, 0, 46, 58, 6, 25, 6, 3, 25, 4, 83, 25, 6, 4, 25, 5]
abbrev dktX5_build_2 : List UInt8 := dkwX5_build_2 ++ dktX5_build_3
def dkwX5_build_1 : List UInt8 := [42, 27, 29, 182, 0, 38, 58, 4, 42, 29, 28, 182, 0, 38, 58, 5, 25, 4, 193, 0, 9, 153, 0, 10]
abbrev dktX5_build_1 : List UInt8 := dkwX5_build_1 ++ dktX5_build_2
def dkwX5_build_0 : List UInt8 := [28, 27, 100, 4, 160, 0, 10, 42, 180, 0, 11, 27, 50, 176, 27, 28, 27, 100, 4, 96, 5, 108, 96, 62]
abbrev dktX5_build_0 : List UInt8 := dkwX5_build_0 ++ dktX5_build_1
theorem dksX5_build_0 : cX5_build.data.toList.drop 0 = dktX5_build_0 := by decide +kernel
theorem dksX5_build_1 : cX5_build.data.toList.drop 24 = dktX5_build_1 := dk_seg dksX5_build_0 24 rfl rfl
theorem dksX5_build_2 : cX5_build.data.toList.drop 48 = dktX5_build_2 := dk_seg dksX5_build_1 24 rfl rfl
theorem dksX5_build_3 : cX5_build.data.toList.drop 72 = dktX5_build_3 := dk_seg dksX5_build_2 24 rfl rfl
theorem dksX5_build_4 : cX5_build.data.toList.drop 96 = dktX5_build_4 := dk_seg dksX5_build_3 24 rfl rfl
theorem dX5_build_0 : decode cX5_build 0 = .ok (.iload_n 2, 1) := dk_28 (dk_at dksX5_build_0 0 rfl rfl)
theorem dX5_build_1 : decode cX5_build 1 = .ok (.iload_n 1, 1) := dk_27 (dk_at dksX5_build_0 1 rfl rfl)
theorem dX5_build_2 : decode cX5_build 2 = .ok (.isub, 1) := dk_100 (dk_at dksX5_build_0 2 rfl rfl)
theorem dX5_build_3 : decode cX5_build 3 = .ok (.iconst 1, 1) := dk_4 (dk_at dksX5_build_0 3 rfl rfl)
theorem dX5_build_4 : decode cX5_build 4 = .ok (.if_icmp .ne 10, 3) := dk_160 0 10 (dk_at dksX5_build_0 4 rfl rfl)
theorem dX5_build_7 : decode cX5_build 7 = .ok (.aload_n 0, 1) := dk_42 (dk_at dksX5_build_0 7 rfl rfl)
theorem dX5_build_8 : decode cX5_build 8 = .ok (.getfield 11, 3) := dk_180 0 11 (dk_at dksX5_build_0 8 rfl rfl)
theorem dX5_build_11 : decode cX5_build 11 = .ok (.iload_n 1, 1) := dk_27 (dk_at dksX5_build_0 11 rfl rfl)
theorem dX5_build_12 : decode cX5_build 12 = .ok (.aaload, 1) := dk_50 (dk_at dksX5_build_0 12 rfl rfl)
theorem dX5_build_13 : decode cX5_build 13 = .ok (.areturn, 1) := dk_176 (dk_at dksX5_build_0 13 rfl rfl)
theorem dX5_build_14 : decode cX5_build 14 = .ok (.iload_n 1, 1) := dk_27 (dk_at dksX5_build_0 14 rfl rfl)
theorem dX5_build_15 : decode cX5_build 15 = .ok (.iload_n 2, 1) := dk_28 (dk_at dksX5_build_0 15 rfl rfl)
theorem dX5_build_16 : decode cX5_build 16 = .ok (.iload_n 1, 1) := dk_27 (dk_at dksX5_build_0 16 rfl rfl)
theorem dX5_build_17 : decode cX5_build 17 = .ok (.isub, 1) := dk_100 (dk_at dksX5_build_0 17 rfl rfl)
theorem dX5_build_18 : decode cX5_build 18 = .ok (.iconst 1, 1) := dk_4 (dk_at dksX5_build_0 18 rfl rfl)
theorem dX5_build_19 : decode cX5_build 19 = .ok (.iadd, 1) := dk_96 (dk_at dksX5_build_0 19 rfl rfl)
theorem dX5_build_20 : decode cX5_build 20 = .ok (.iconst 2, 1) := dk_5 (dk_at dksX5_build_0 20 rfl rfl)
theorem dX5_build_21 : decode cX5_build 21 = .ok (.idiv, 1) := dk_108 (dk_at dksX5_build_0 21 rfl rfl)
theorem dX5_build_22 : decode cX5_build 22 = .ok (.iadd, 1) := dk_96 (dk_at dksX5_build_0 22 rfl rfl)
theorem dX5_build_23 : decode cX5_build 23 = .ok (.istore_n 3, 1) := dk_62 (dk_at dksX5_build_0 23 rfl rfl)
theorem dX5_build_24 : decode cX5_build 24 = .ok (.aload_n 0, 1) := dk_42 (dk_at dksX5_build_1 0 rfl rfl)
theorem dX5_build_25 : decode cX5_build 25 = .ok (.iload_n 1, 1) := dk_27 (dk_at dksX5_build_1 1 rfl rfl)
theorem dX5_build_26 : decode cX5_build 26 = .ok (.iload_n 3, 1) := dk_29 (dk_at dksX5_build_1 2 rfl rfl)
theorem dX5_build_27 : decode cX5_build 27 = .ok (.invokevirtual 38, 3) := dk_182 0 38 (dk_at dksX5_build_1 3 rfl rfl)
theorem dX5_build_30 : decode cX5_build 30 = .ok (.astore 4, 2) := dk_58 4 (dk_at dksX5_build_1 6 rfl rfl)
theorem dX5_build_32 : decode cX5_build 32 = .ok (.aload_n 0, 1) := dk_42 (dk_at dksX5_build_1 8 rfl rfl)
theorem dX5_build_33 : decode cX5_build 33 = .ok (.iload_n 3, 1) := dk_29 (dk_at dksX5_build_1 9 rfl rfl)
theorem dX5_build_34 : decode cX5_build 34 = .ok (.iload_n 2, 1) := dk_28 (dk_at dksX5_build_1 10 rfl rfl)
theorem dX5_build_35 : decode cX5_build 35 = .ok (.invokevirtual 38, 3) := dk_182 0 38 (dk_at dksX5_build_1 11 rfl rfl)
theorem dX5_build_38 : decode cX5_build 38 = .ok (.astore 5, 2) := dk_58 5 (dk_at dksX5_build_1 14 rfl rfl)
theorem dX5_build_40 : decode cX5_build 40 = .ok (.aload 4, 2) := dk_25 4 (dk_at dksX5_build_1 16 rfl rfl)
theorem dX5_build_42 : decode cX5_build 42 = .ok (.instanceof 9, 3) := dk_193 0 9 (dk_at dksX5_build_1 18 rfl rfl)
theorem dX5_build_45 : decode cX5_build 45 = .ok (.ifCond .eq 10, 3) := dk_153 0 10 (dk_at dksX5_build_1 21 rfl rfl)
theorem dX5_build_48 : decode cX5_build 48 = .ok (.iconst 2, 1) := dk_5 (dk_at dksX5_build_2 0 rfl rfl)
theorem dX5_build_49 : decode cX5_build 49 = .ok (.anewarray 9, 3) := dk_189 0 9 (dk_at dksX5_build_2 1 rfl rfl)
theorem dX5_build_52 : decode cX5_build 52 = .ok (.goto 7, 3) := dk_167 0 7 (dk_at dksX5_build_2 4 rfl rfl)
theorem dX5_build_55 : decode cX5_build 55 = .ok (.iconst 2, 1) := dk_5 (dk_at dksX5_build_2 7 rfl rfl)
theorem dX5_build_56 : decode cX5_build 56 = .ok (.anewarray 46, 3) := dk_189 0 46 (dk_at dksX5_build_2 8 rfl rfl)
theorem dX5_build_59 : decode cX5_build 59 = .ok (.astore 6, 2) := dk_58 6 (dk_at dksX5_build_2 11 rfl rfl)
theorem dX5_build_61 : decode cX5_build 61 = .ok (.aload 6, 2) := dk_25 6 (dk_at dksX5_build_2 13 rfl rfl)
theorem dX5_build_63 : decode cX5_build 63 = .ok (.iconst 0, 1) := dk_3 (dk_at dksX5_build_2 15 rfl rfl)
theorem dX5_build_64 : decode cX5_build 64 = .ok (.aload 4, 2) := dk_25 4 (dk_at dksX5_build_2 16 rfl rfl)
theorem dX5_build_66 : decode cX5_build 66 = .ok (.aastore, 1) := dk_83 (dk_at dksX5_build_2 18 rfl rfl)
theorem dX5_build_67 : decode cX5_build 67 = .ok (.aload 6, 2) := dk_25 6 (dk_at dksX5_build_2 19 rfl rfl)
theorem dX5_build_69 : decode cX5_build 69 = .ok (.iconst 1, 1) := dk_4 (dk_at dksX5_build_2 21 rfl rfl)
theorem dX5_build_70 : decode cX5_build 70 = .ok (.aload 5, 2) := dk_25 5 (dk_at dksX5_build_2 22 rfl rfl)
theorem dX5_build_72 : decode cX5_build 72 = .ok (.aastore, 1) := dk_83 (dk_at dksX5_build_3 0 rfl rfl)
theorem dX5_build_73 : decode cX5_build 73 = .ok (.goto 33, 3) := dk_167 0 33 (dk_at dksX5_build_3 1 rfl rfl)
theorem dX5_build_76 : decode cX5_build 76 = .ok (.astore 7, 2) := dk_58 7 (dk_at dksX5_build_3 4 rfl rfl)
theorem dX5_build_78 : decode cX5_build 78 = .ok (.aload_n 0, 1) := dk_42 (dk_at dksX5_build_3 6 rfl rfl)
theorem dX5_build_79 : decode cX5_build 79 = .ok (.dup, 1) := dk_89 (dk_at dksX5_build_3 7 rfl rfl)
theorem dX5_build_80 : decode cX5_build 80 = .ok (.getfield 35, 3) := dk_180 0 35 (dk_at dksX5_build_3 8 rfl rfl)
theorem dX5_build_83 : decode cX5_build 83 = .ok (.iconst 1, 1) := dk_4 (dk_at dksX5_build_3 11 rfl rfl)
theorem dX5_build_84 : decode cX5_build 84 = .ok (.iadd, 1) := dk_96 (dk_at dksX5_build_3 12 rfl rfl)
theorem dX5_build_85 : decode cX5_build 85 = .ok (.putfield 35, 3) := dk_181 0 35 (dk_at dksX5_build_3 13 rfl rfl)
theorem dX5_build_88 : decode cX5_build 88 = .ok (.iconst 2, 1) := dk_5 (dk_at dksX5_build_3 16 rfl rfl)
theorem dX5_build_89 : decode cX5_build 89 = .ok (.anewarray 57, 3) := dk_189 0 57 (dk_at dksX5_build_3 17 rfl rfl)
theorem dX5_build_92 : decode cX5_build 92 = .ok (.astore 6, 2) := dk_58 6 (dk_at dksX5_build_3 20 rfl rfl)
theorem dX5_build_94 : decode cX5_build 94 = .ok (.aload 6, 2) := dk_25 6 (dk_at dksX5_build_3 22 rfl rfl)
theorem dX5_build_96 : decode cX5_build 96 = .ok (.iconst 0, 1) := dk_3 (dk_at dksX5_build_4 0 rfl rfl)
theorem dX5_build_97 : decode cX5_build 97 = .ok (.aload 4, 2) := dk_25 4 (dk_at dksX5_build_4 1 rfl rfl)
theorem dX5_build_99 : decode cX5_build 99 = .ok (.aastore, 1) := dk_83 (dk_at dksX5_build_4 3 rfl rfl)
theorem dX5_build_100 : decode cX5_build 100 = .ok (.aload 6, 2) := dk_25 6 (dk_at dksX5_build_4 4 rfl rfl)
theorem dX5_build_102 : decode cX5_build 102 = .ok (.iconst 1, 1) := dk_4 (dk_at dksX5_build_4 6 rfl rfl)
theorem dX5_build_103 : decode cX5_build 103 = .ok (.aload 5, 2) := dk_25 5 (dk_at dksX5_build_4 7 rfl rfl)
theorem dX5_build_105 : decode cX5_build 105 = .ok (.aastore, 1) := dk_83 (dk_at dksX5_build_4 9 rfl rfl)
theorem dX5_build_106 : decode cX5_build 106 = .ok (.new 46, 3) := dk_187 0 46 (dk_at dksX5_build_4 10 rfl rfl)
theorem dX5_build_109 : decode cX5_build 109 = .ok (.dup, 1) := dk_89 (dk_at dksX5_build_4 13 rfl rfl)
theorem dX5_build_110 : decode cX5_build 110 = .ok (.aload 6, 2) := dk_25 6 (dk_at dksX5_build_4 14 rfl rfl)
theorem dX5_build_112 : decode cX5_build 112 = .ok (.invokespecial 59, 3) := dk_183 0 59 (dk_at dksX5_build_4 16 rfl rfl)
theorem dX5_build_115 : decode cX5_build 115 = .ok (.areturn, 1) := dk_176 (dk_at dksX5_build_4 19 rfl rfl)
abbrev cX5_get : ByteArray := prog_19_method_12_code
def yX5_get : MethodName := ⟨RX5, "get", "(I)I"⟩
def dkwX5_get_5 : List UInt8 := [182, 0, 72, 172]
abbrev dktX5_get_5 : List UInt8 := dkwX5_get_5 ++ []
def dkwX5_get_4 : List UInt8 := [180, 0, 51, 21, 5, 153, 0, 7, 3, 167, 0, 4, 4, 50, 77, 167, 255, 182, 44, 192, 0, 9, 29]
abbrev dktX5_get_4 : List UInt8 := dkwX5_get_4 ++ dktX5_get_5
def dkwX5_get_3 : List UInt8 := [54, 5, 21, 5, 154, 0, 16, 29, 25, 4, 180, 0, 51, 3, 50, 180, 0, 75, 100, 62, 25, 4]
abbrev dktX5_get_3 : List UInt8 := dkwX5_get_3 ++ dktX5_get_4
def dkwX5_get_2 : List UInt8 := [25, 4, 182, 0, 48, 29, 25, 4, 180, 0, 51, 3, 50, 180, 0, 75, 162, 0, 7, 4, 167, 0, 4, 3]
abbrev dktX5_get_2 : List UInt8 := dkwX5_get_2 ++ dktX5_get_3
def dkwX5_get_1 : List UInt8 := [182, 0, 72, 172, 42, 180, 0, 27, 77, 27, 62, 44, 193, 0, 46, 153, 0, 73, 44, 192, 0, 46, 58, 4]
abbrev dktX5_get_1 : List UInt8 := dkwX5_get_1 ++ dktX5_get_2
def dkwX5_get_0 : List UInt8 := [42, 180, 0, 31, 154, 0, 23, 42, 27, 182, 0, 68, 61, 42, 180, 0, 11, 28, 50, 42, 180, 0, 62]
abbrev dktX5_get_0 : List UInt8 := dkwX5_get_0 ++ dktX5_get_1
theorem dksX5_get_0 : cX5_get.data.toList.drop 0 = dktX5_get_0 := by decide +kernel
theorem dksX5_get_1 : cX5_get.data.toList.drop 23 = dktX5_get_1 := dk_seg dksX5_get_0 23 rfl rfl
theorem dksX5_get_2 : cX5_get.data.toList.drop 47 = dktX5_get_2 := dk_seg dksX5_get_1 24 rfl rfl
theorem dksX5_get_3 : cX5_get.data.toList.drop 71 = dktX5_get_3 := dk_seg dksX5_get_2 24 rfl rfl
theorem dksX5_get_4 : cX5_get.data.toList.drop 93 = dktX5_get_4 := dk_seg dksX5_get_3 22 rfl rfl
theorem dksX5_get_5 : cX5_get.data.toList.drop 116 = dktX5_get_5 := dk_seg dksX5_get_4 23 rfl rfl
theorem dX5_get_0 : decode cX5_get 0 = .ok (.aload_n 0, 1) := dk_42 (dk_at dksX5_get_0 0 rfl rfl)
theorem dX5_get_1 : decode cX5_get 1 = .ok (.getfield 31, 3) := dk_180 0 31 (dk_at dksX5_get_0 1 rfl rfl)
theorem dX5_get_4 : decode cX5_get 4 = .ok (.ifCond .ne 23, 3) := dk_154 0 23 (dk_at dksX5_get_0 4 rfl rfl)
theorem dX5_get_7 : decode cX5_get 7 = .ok (.aload_n 0, 1) := dk_42 (dk_at dksX5_get_0 7 rfl rfl)
theorem dX5_get_8 : decode cX5_get 8 = .ok (.iload_n 1, 1) := dk_27 (dk_at dksX5_get_0 8 rfl rfl)
theorem dX5_get_9 : decode cX5_get 9 = .ok (.invokevirtual 68, 3) := dk_182 0 68 (dk_at dksX5_get_0 9 rfl rfl)
theorem dX5_get_12 : decode cX5_get 12 = .ok (.istore_n 2, 1) := dk_61 (dk_at dksX5_get_0 12 rfl rfl)
theorem dX5_get_13 : decode cX5_get 13 = .ok (.aload_n 0, 1) := dk_42 (dk_at dksX5_get_0 13 rfl rfl)
theorem dX5_get_14 : decode cX5_get 14 = .ok (.getfield 11, 3) := dk_180 0 11 (dk_at dksX5_get_0 14 rfl rfl)
theorem dX5_get_17 : decode cX5_get 17 = .ok (.iload_n 2, 1) := dk_28 (dk_at dksX5_get_0 17 rfl rfl)
theorem dX5_get_18 : decode cX5_get 18 = .ok (.aaload, 1) := dk_50 (dk_at dksX5_get_0 18 rfl rfl)
theorem dX5_get_19 : decode cX5_get 19 = .ok (.aload_n 0, 1) := dk_42 (dk_at dksX5_get_0 19 rfl rfl)
theorem dX5_get_20 : decode cX5_get 20 = .ok (.getfield 62, 3) := dk_180 0 62 (dk_at dksX5_get_0 20 rfl rfl)
theorem dX5_get_23 : decode cX5_get 23 = .ok (.invokevirtual 72, 3) := dk_182 0 72 (dk_at dksX5_get_1 0 rfl rfl)
theorem dX5_get_26 : decode cX5_get 26 = .ok (.ireturn, 1) := dk_172 (dk_at dksX5_get_1 3 rfl rfl)
theorem dX5_get_27 : decode cX5_get 27 = .ok (.aload_n 0, 1) := dk_42 (dk_at dksX5_get_1 4 rfl rfl)
theorem dX5_get_28 : decode cX5_get 28 = .ok (.getfield 27, 3) := dk_180 0 27 (dk_at dksX5_get_1 5 rfl rfl)
theorem dX5_get_31 : decode cX5_get 31 = .ok (.astore_n 2, 1) := dk_77 (dk_at dksX5_get_1 8 rfl rfl)
theorem dX5_get_32 : decode cX5_get 32 = .ok (.iload_n 1, 1) := dk_27 (dk_at dksX5_get_1 9 rfl rfl)
theorem dX5_get_33 : decode cX5_get 33 = .ok (.istore_n 3, 1) := dk_62 (dk_at dksX5_get_1 10 rfl rfl)
theorem dX5_get_34 : decode cX5_get 34 = .ok (.aload_n 2, 1) := dk_44 (dk_at dksX5_get_1 11 rfl rfl)
theorem dX5_get_35 : decode cX5_get 35 = .ok (.instanceof 46, 3) := dk_193 0 46 (dk_at dksX5_get_1 12 rfl rfl)
theorem dX5_get_38 : decode cX5_get 38 = .ok (.ifCond .eq 73, 3) := dk_153 0 73 (dk_at dksX5_get_1 15 rfl rfl)
theorem dX5_get_41 : decode cX5_get 41 = .ok (.aload_n 2, 1) := dk_44 (dk_at dksX5_get_1 18 rfl rfl)
theorem dX5_get_42 : decode cX5_get 42 = .ok (.checkcast 46, 3) := dk_192 0 46 (dk_at dksX5_get_1 19 rfl rfl)
theorem dX5_get_45 : decode cX5_get 45 = .ok (.astore 4, 2) := dk_58 4 (dk_at dksX5_get_1 22 rfl rfl)
theorem dX5_get_47 : decode cX5_get 47 = .ok (.aload 4, 2) := dk_25 4 (dk_at dksX5_get_2 0 rfl rfl)
theorem dX5_get_49 : decode cX5_get 49 = .ok (.invokevirtual 48, 3) := dk_182 0 48 (dk_at dksX5_get_2 2 rfl rfl)
theorem dX5_get_52 : decode cX5_get 52 = .ok (.iload_n 3, 1) := dk_29 (dk_at dksX5_get_2 5 rfl rfl)
theorem dX5_get_53 : decode cX5_get 53 = .ok (.aload 4, 2) := dk_25 4 (dk_at dksX5_get_2 6 rfl rfl)
theorem dX5_get_55 : decode cX5_get 55 = .ok (.getfield 51, 3) := dk_180 0 51 (dk_at dksX5_get_2 8 rfl rfl)
theorem dX5_get_58 : decode cX5_get 58 = .ok (.iconst 0, 1) := dk_3 (dk_at dksX5_get_2 11 rfl rfl)
theorem dX5_get_59 : decode cX5_get 59 = .ok (.aaload, 1) := dk_50 (dk_at dksX5_get_2 12 rfl rfl)
theorem dX5_get_60 : decode cX5_get 60 = .ok (.getfield 75, 3) := dk_180 0 75 (dk_at dksX5_get_2 13 rfl rfl)
theorem dX5_get_63 : decode cX5_get 63 = .ok (.if_icmp .ge 7, 3) := dk_162 0 7 (dk_at dksX5_get_2 16 rfl rfl)
theorem dX5_get_66 : decode cX5_get 66 = .ok (.iconst 1, 1) := dk_4 (dk_at dksX5_get_2 19 rfl rfl)
theorem dX5_get_67 : decode cX5_get 67 = .ok (.goto 4, 3) := dk_167 0 4 (dk_at dksX5_get_2 20 rfl rfl)
theorem dX5_get_70 : decode cX5_get 70 = .ok (.iconst 0, 1) := dk_3 (dk_at dksX5_get_2 23 rfl rfl)
theorem dX5_get_71 : decode cX5_get 71 = .ok (.istore 5, 2) := dk_54 5 (dk_at dksX5_get_3 0 rfl rfl)
theorem dX5_get_73 : decode cX5_get 73 = .ok (.iload 5, 2) := dk_21 5 (dk_at dksX5_get_3 2 rfl rfl)
theorem dX5_get_75 : decode cX5_get 75 = .ok (.ifCond .ne 16, 3) := dk_154 0 16 (dk_at dksX5_get_3 4 rfl rfl)
theorem dX5_get_78 : decode cX5_get 78 = .ok (.iload_n 3, 1) := dk_29 (dk_at dksX5_get_3 7 rfl rfl)
theorem dX5_get_79 : decode cX5_get 79 = .ok (.aload 4, 2) := dk_25 4 (dk_at dksX5_get_3 8 rfl rfl)
theorem dX5_get_81 : decode cX5_get 81 = .ok (.getfield 51, 3) := dk_180 0 51 (dk_at dksX5_get_3 10 rfl rfl)
theorem dX5_get_84 : decode cX5_get 84 = .ok (.iconst 0, 1) := dk_3 (dk_at dksX5_get_3 13 rfl rfl)
theorem dX5_get_85 : decode cX5_get 85 = .ok (.aaload, 1) := dk_50 (dk_at dksX5_get_3 14 rfl rfl)
theorem dX5_get_86 : decode cX5_get 86 = .ok (.getfield 75, 3) := dk_180 0 75 (dk_at dksX5_get_3 15 rfl rfl)
theorem dX5_get_89 : decode cX5_get 89 = .ok (.isub, 1) := dk_100 (dk_at dksX5_get_3 18 rfl rfl)
theorem dX5_get_90 : decode cX5_get 90 = .ok (.istore_n 3, 1) := dk_62 (dk_at dksX5_get_3 19 rfl rfl)
theorem dX5_get_91 : decode cX5_get 91 = .ok (.aload 4, 2) := dk_25 4 (dk_at dksX5_get_3 20 rfl rfl)
theorem dX5_get_93 : decode cX5_get 93 = .ok (.getfield 51, 3) := dk_180 0 51 (dk_at dksX5_get_4 0 rfl rfl)
theorem dX5_get_96 : decode cX5_get 96 = .ok (.iload 5, 2) := dk_21 5 (dk_at dksX5_get_4 3 rfl rfl)
theorem dX5_get_98 : decode cX5_get 98 = .ok (.ifCond .eq 7, 3) := dk_153 0 7 (dk_at dksX5_get_4 5 rfl rfl)
theorem dX5_get_101 : decode cX5_get 101 = .ok (.iconst 0, 1) := dk_3 (dk_at dksX5_get_4 8 rfl rfl)
theorem dX5_get_102 : decode cX5_get 102 = .ok (.goto 4, 3) := dk_167 0 4 (dk_at dksX5_get_4 9 rfl rfl)
theorem dX5_get_105 : decode cX5_get 105 = .ok (.iconst 1, 1) := dk_4 (dk_at dksX5_get_4 12 rfl rfl)
theorem dX5_get_106 : decode cX5_get 106 = .ok (.aaload, 1) := dk_50 (dk_at dksX5_get_4 13 rfl rfl)
theorem dX5_get_107 : decode cX5_get 107 = .ok (.astore_n 2, 1) := dk_77 (dk_at dksX5_get_4 14 rfl rfl)
theorem dX5_get_108 : decode cX5_get 108 = .ok (.goto (-74), 3) := dk_167 255 182 (dk_at dksX5_get_4 15 rfl rfl)
theorem dX5_get_111 : decode cX5_get 111 = .ok (.aload_n 2, 1) := dk_44 (dk_at dksX5_get_4 18 rfl rfl)
theorem dX5_get_112 : decode cX5_get 112 = .ok (.checkcast 9, 3) := dk_192 0 9 (dk_at dksX5_get_4 19 rfl rfl)
theorem dX5_get_115 : decode cX5_get 115 = .ok (.iload_n 3, 1) := dk_29 (dk_at dksX5_get_4 22 rfl rfl)
theorem dX5_get_116 : decode cX5_get 116 = .ok (.invokevirtual 72, 3) := dk_182 0 72 (dk_at dksX5_get_5 0 rfl rfl)
theorem dX5_get_119 : decode cX5_get 119 = .ok (.ireturn, 1) := dk_172 (dk_at dksX5_get_5 3 rfl rfl)
abbrev cX5_many : ByteArray := prog_19_method_16_code
def yX5_many : MethodName := ⟨RX5, "many", "(I)I"⟩
def dkwX5_many_0 : List UInt8 := [27, 4, 160, 0, 10, 42, 182, 0, 86, 167, 0, 12, 42, 182, 0, 89, 42, 182, 0, 86, 100, 172]
abbrev dktX5_many_0 : List UInt8 := dkwX5_many_0 ++ []
theorem dksX5_many_0 : cX5_many.data.toList.drop 0 = dktX5_many_0 := by decide +kernel
theorem dX5_many_0 : decode cX5_many 0 = .ok (.iload_n 1, 1) := dk_27 (dk_at dksX5_many_0 0 rfl rfl)
theorem dX5_many_1 : decode cX5_many 1 = .ok (.iconst 1, 1) := dk_4 (dk_at dksX5_many_0 1 rfl rfl)
theorem dX5_many_2 : decode cX5_many 2 = .ok (.if_icmp .ne 10, 3) := dk_160 0 10 (dk_at dksX5_many_0 2 rfl rfl)
theorem dX5_many_5 : decode cX5_many 5 = .ok (.aload_n 0, 1) := dk_42 (dk_at dksX5_many_0 5 rfl rfl)
theorem dX5_many_6 : decode cX5_many 6 = .ok (.invokevirtual 86, 3) := dk_182 0 86 (dk_at dksX5_many_0 6 rfl rfl)
theorem dX5_many_9 : decode cX5_many 9 = .ok (.goto 12, 3) := dk_167 0 12 (dk_at dksX5_many_0 9 rfl rfl)
theorem dX5_many_12 : decode cX5_many 12 = .ok (.aload_n 0, 1) := dk_42 (dk_at dksX5_many_0 12 rfl rfl)
theorem dX5_many_13 : decode cX5_many 13 = .ok (.invokevirtual 89, 3) := dk_182 0 89 (dk_at dksX5_many_0 13 rfl rfl)
theorem dX5_many_16 : decode cX5_many 16 = .ok (.aload_n 0, 1) := dk_42 (dk_at dksX5_many_0 16 rfl rfl)
theorem dX5_many_17 : decode cX5_many 17 = .ok (.invokevirtual 86, 3) := dk_182 0 86 (dk_at dksX5_many_0 17 rfl rfl)
theorem dX5_many_20 : decode cX5_many 20 = .ok (.isub, 1) := dk_100 (dk_at dksX5_many_0 20 rfl rfl)
theorem dX5_many_21 : decode cX5_many 21 = .ok (.ireturn, 1) := dk_172 (dk_at dksX5_many_0 21 rfl rfl)
abbrev cX5_lit : ByteArray := prog_19_method_3_code
def yX5_lit : MethodName := ⟨RX5, "lit", "()I"⟩
theorem dX5_lit_0 : decode cX5_lit 0 = .ok (.aload_n 0, 1) := by decide +kernel
theorem dX5_lit_1 : decode cX5_lit 1 = .ok (.getfield 21, 3) := by decide +kernel
theorem dX5_lit_4 : decode cX5_lit 4 = .ok (.ireturn, 1) := by decide +kernel
abbrev cX5_where : ByteArray := prog_19_method_17_code
def yX5_where : MethodName := ⟨RX5, "where", "(II)I"⟩
def dkwX5_where_7 : List UInt8 := [160, 0, 6, 132, 4, 255, 132, 7, 1, 167, 255, 223, 21, 5, 21, 7, 96, 172]
abbrev dktX5_where_7 : List UInt8 := dkwX5_where_7 ++ []
def dkwX5_where_6 : List UInt8 := [21, 7, 182, 0, 72, 28, 160, 0, 8, 21, 4, 158, 0, 23, 25, 6, 21, 7, 182, 0, 72, 28]
abbrev dktX5_where_6 : List UInt8 := dkwX5_where_6 ++ dktX5_where_7
def dkwX5_where_5 : List UInt8 := [153, 0, 7, 3, 167, 0, 4, 4, 50, 78, 167, 255, 139, 45, 192, 0, 9, 58, 6, 3, 54, 7, 25, 6]
abbrev dktX5_where_5 : List UInt8 := dkwX5_where_5 ++ dktX5_where_6
def dkwX5_where_4 : List UInt8 := [54, 4, 21, 5, 25, 6, 180, 0, 51, 3, 50, 180, 0, 75, 96, 54, 5, 25, 6, 180, 0, 51, 21, 8]
abbrev dktX5_where_4 : List UInt8 := dkwX5_where_4 ++ dktX5_where_5
def dkwX5_where_3 : List UInt8 := [21, 4, 21, 7, 162, 0, 7, 4, 167, 0, 4, 3, 54, 8, 21, 8, 154, 0, 25, 21, 4, 21, 7, 100]
abbrev dktX5_where_3 : List UInt8 := dkwX5_where_3 ++ dktX5_where_4
def dkwX5_where_2 : List UInt8 := [25, 6, 180, 0, 51, 3, 50, 180, 0, 75, 25, 6, 180, 0, 51, 3, 50, 180, 0, 82, 100, 54, 7]
abbrev dktX5_where_2 : List UInt8 := dkwX5_where_2 ++ dktX5_where_3
def dkwX5_where_1 : List UInt8 := [25, 6, 182, 0, 48, 28, 4, 160, 0, 16, 25, 6, 180, 0, 51, 3, 50, 180, 0, 82, 167, 0, 24]
abbrev dktX5_where_1 : List UInt8 := dkwX5_where_1 ++ dktX5_where_2
def dkwX5_where_0 : List UInt8 := [42, 180, 0, 27, 78, 27, 54, 4, 3, 54, 5, 45, 193, 0, 46, 153, 0, 116, 45, 192, 0, 46, 58, 6]
abbrev dktX5_where_0 : List UInt8 := dkwX5_where_0 ++ dktX5_where_1
theorem dksX5_where_0 : cX5_where.data.toList.drop 0 = dktX5_where_0 := by decide +kernel
theorem dksX5_where_1 : cX5_where.data.toList.drop 24 = dktX5_where_1 := dk_seg dksX5_where_0 24 rfl rfl
theorem dksX5_where_2 : cX5_where.data.toList.drop 47 = dktX5_where_2 := dk_seg dksX5_where_1 23 rfl rfl
theorem dksX5_where_3 : cX5_where.data.toList.drop 70 = dktX5_where_3 := dk_seg dksX5_where_2 23 rfl rfl
theorem dksX5_where_4 : cX5_where.data.toList.drop 94 = dktX5_where_4 := dk_seg dksX5_where_3 24 rfl rfl
theorem dksX5_where_5 : cX5_where.data.toList.drop 118 = dktX5_where_5 := dk_seg dksX5_where_4 24 rfl rfl
theorem dksX5_where_6 : cX5_where.data.toList.drop 142 = dktX5_where_6 := dk_seg dksX5_where_5 24 rfl rfl
theorem dksX5_where_7 : cX5_where.data.toList.drop 164 = dktX5_where_7 := dk_seg dksX5_where_6 22 rfl rfl
theorem dX5_where_0 : decode cX5_where 0 = .ok (.aload_n 0, 1) := dk_42 (dk_at dksX5_where_0 0 rfl rfl)
theorem dX5_where_1 : decode cX5_where 1 = .ok (.getfield 27, 3) := dk_180 0 27 (dk_at dksX5_where_0 1 rfl rfl)
theorem dX5_where_4 : decode cX5_where 4 = .ok (.astore_n 3, 1) := dk_78 (dk_at dksX5_where_0 4 rfl rfl)
theorem dX5_where_5 : decode cX5_where 5 = .ok (.iload_n 1, 1) := dk_27 (dk_at dksX5_where_0 5 rfl rfl)
theorem dX5_where_6 : decode cX5_where 6 = .ok (.istore 4, 2) := dk_54 4 (dk_at dksX5_where_0 6 rfl rfl)
theorem dX5_where_8 : decode cX5_where 8 = .ok (.iconst 0, 1) := dk_3 (dk_at dksX5_where_0 8 rfl rfl)
theorem dX5_where_9 : decode cX5_where 9 = .ok (.istore 5, 2) := dk_54 5 (dk_at dksX5_where_0 9 rfl rfl)
theorem dX5_where_11 : decode cX5_where 11 = .ok (.aload_n 3, 1) := dk_45 (dk_at dksX5_where_0 11 rfl rfl)
theorem dX5_where_12 : decode cX5_where 12 = .ok (.instanceof 46, 3) := dk_193 0 46 (dk_at dksX5_where_0 12 rfl rfl)
theorem dX5_where_15 : decode cX5_where 15 = .ok (.ifCond .eq 116, 3) := dk_153 0 116 (dk_at dksX5_where_0 15 rfl rfl)
theorem dX5_where_18 : decode cX5_where 18 = .ok (.aload_n 3, 1) := dk_45 (dk_at dksX5_where_0 18 rfl rfl)
theorem dX5_where_19 : decode cX5_where 19 = .ok (.checkcast 46, 3) := dk_192 0 46 (dk_at dksX5_where_0 19 rfl rfl)
theorem dX5_where_22 : decode cX5_where 22 = .ok (.astore 6, 2) := dk_58 6 (dk_at dksX5_where_0 22 rfl rfl)
theorem dX5_where_24 : decode cX5_where 24 = .ok (.aload 6, 2) := dk_25 6 (dk_at dksX5_where_1 0 rfl rfl)
theorem dX5_where_26 : decode cX5_where 26 = .ok (.invokevirtual 48, 3) := dk_182 0 48 (dk_at dksX5_where_1 2 rfl rfl)
theorem dX5_where_29 : decode cX5_where 29 = .ok (.iload_n 2, 1) := dk_28 (dk_at dksX5_where_1 5 rfl rfl)
theorem dX5_where_30 : decode cX5_where 30 = .ok (.iconst 1, 1) := dk_4 (dk_at dksX5_where_1 6 rfl rfl)
theorem dX5_where_31 : decode cX5_where 31 = .ok (.if_icmp .ne 16, 3) := dk_160 0 16 (dk_at dksX5_where_1 7 rfl rfl)
theorem dX5_where_34 : decode cX5_where 34 = .ok (.aload 6, 2) := dk_25 6 (dk_at dksX5_where_1 10 rfl rfl)
theorem dX5_where_36 : decode cX5_where 36 = .ok (.getfield 51, 3) := dk_180 0 51 (dk_at dksX5_where_1 12 rfl rfl)
theorem dX5_where_39 : decode cX5_where 39 = .ok (.iconst 0, 1) := dk_3 (dk_at dksX5_where_1 15 rfl rfl)
theorem dX5_where_40 : decode cX5_where 40 = .ok (.aaload, 1) := dk_50 (dk_at dksX5_where_1 16 rfl rfl)
theorem dX5_where_41 : decode cX5_where 41 = .ok (.getfield 82, 3) := dk_180 0 82 (dk_at dksX5_where_1 17 rfl rfl)
theorem dX5_where_44 : decode cX5_where 44 = .ok (.goto 24, 3) := dk_167 0 24 (dk_at dksX5_where_1 20 rfl rfl)
theorem dX5_where_47 : decode cX5_where 47 = .ok (.aload 6, 2) := dk_25 6 (dk_at dksX5_where_2 0 rfl rfl)
theorem dX5_where_49 : decode cX5_where 49 = .ok (.getfield 51, 3) := dk_180 0 51 (dk_at dksX5_where_2 2 rfl rfl)
theorem dX5_where_52 : decode cX5_where 52 = .ok (.iconst 0, 1) := dk_3 (dk_at dksX5_where_2 5 rfl rfl)
theorem dX5_where_53 : decode cX5_where 53 = .ok (.aaload, 1) := dk_50 (dk_at dksX5_where_2 6 rfl rfl)
theorem dX5_where_54 : decode cX5_where 54 = .ok (.getfield 75, 3) := dk_180 0 75 (dk_at dksX5_where_2 7 rfl rfl)
theorem dX5_where_57 : decode cX5_where 57 = .ok (.aload 6, 2) := dk_25 6 (dk_at dksX5_where_2 10 rfl rfl)
theorem dX5_where_59 : decode cX5_where 59 = .ok (.getfield 51, 3) := dk_180 0 51 (dk_at dksX5_where_2 12 rfl rfl)
theorem dX5_where_62 : decode cX5_where 62 = .ok (.iconst 0, 1) := dk_3 (dk_at dksX5_where_2 15 rfl rfl)
theorem dX5_where_63 : decode cX5_where 63 = .ok (.aaload, 1) := dk_50 (dk_at dksX5_where_2 16 rfl rfl)
theorem dX5_where_64 : decode cX5_where 64 = .ok (.getfield 82, 3) := dk_180 0 82 (dk_at dksX5_where_2 17 rfl rfl)
theorem dX5_where_67 : decode cX5_where 67 = .ok (.isub, 1) := dk_100 (dk_at dksX5_where_2 20 rfl rfl)
theorem dX5_where_68 : decode cX5_where 68 = .ok (.istore 7, 2) := dk_54 7 (dk_at dksX5_where_2 21 rfl rfl)
theorem dX5_where_70 : decode cX5_where 70 = .ok (.iload 4, 2) := dk_21 4 (dk_at dksX5_where_3 0 rfl rfl)
theorem dX5_where_72 : decode cX5_where 72 = .ok (.iload 7, 2) := dk_21 7 (dk_at dksX5_where_3 2 rfl rfl)
theorem dX5_where_74 : decode cX5_where 74 = .ok (.if_icmp .ge 7, 3) := dk_162 0 7 (dk_at dksX5_where_3 4 rfl rfl)
theorem dX5_where_77 : decode cX5_where 77 = .ok (.iconst 1, 1) := dk_4 (dk_at dksX5_where_3 7 rfl rfl)
theorem dX5_where_78 : decode cX5_where 78 = .ok (.goto 4, 3) := dk_167 0 4 (dk_at dksX5_where_3 8 rfl rfl)
theorem dX5_where_81 : decode cX5_where 81 = .ok (.iconst 0, 1) := dk_3 (dk_at dksX5_where_3 11 rfl rfl)
theorem dX5_where_82 : decode cX5_where 82 = .ok (.istore 8, 2) := dk_54 8 (dk_at dksX5_where_3 12 rfl rfl)
theorem dX5_where_84 : decode cX5_where 84 = .ok (.iload 8, 2) := dk_21 8 (dk_at dksX5_where_3 14 rfl rfl)
theorem dX5_where_86 : decode cX5_where 86 = .ok (.ifCond .ne 25, 3) := dk_154 0 25 (dk_at dksX5_where_3 16 rfl rfl)
theorem dX5_where_89 : decode cX5_where 89 = .ok (.iload 4, 2) := dk_21 4 (dk_at dksX5_where_3 19 rfl rfl)
theorem dX5_where_91 : decode cX5_where 91 = .ok (.iload 7, 2) := dk_21 7 (dk_at dksX5_where_3 21 rfl rfl)
theorem dX5_where_93 : decode cX5_where 93 = .ok (.isub, 1) := dk_100 (dk_at dksX5_where_3 23 rfl rfl)
theorem dX5_where_94 : decode cX5_where 94 = .ok (.istore 4, 2) := dk_54 4 (dk_at dksX5_where_4 0 rfl rfl)
theorem dX5_where_96 : decode cX5_where 96 = .ok (.iload 5, 2) := dk_21 5 (dk_at dksX5_where_4 2 rfl rfl)
theorem dX5_where_98 : decode cX5_where 98 = .ok (.aload 6, 2) := dk_25 6 (dk_at dksX5_where_4 4 rfl rfl)
theorem dX5_where_100 : decode cX5_where 100 = .ok (.getfield 51, 3) := dk_180 0 51 (dk_at dksX5_where_4 6 rfl rfl)
theorem dX5_where_103 : decode cX5_where 103 = .ok (.iconst 0, 1) := dk_3 (dk_at dksX5_where_4 9 rfl rfl)
theorem dX5_where_104 : decode cX5_where 104 = .ok (.aaload, 1) := dk_50 (dk_at dksX5_where_4 10 rfl rfl)
theorem dX5_where_105 : decode cX5_where 105 = .ok (.getfield 75, 3) := dk_180 0 75 (dk_at dksX5_where_4 11 rfl rfl)
theorem dX5_where_108 : decode cX5_where 108 = .ok (.iadd, 1) := dk_96 (dk_at dksX5_where_4 14 rfl rfl)
theorem dX5_where_109 : decode cX5_where 109 = .ok (.istore 5, 2) := dk_54 5 (dk_at dksX5_where_4 15 rfl rfl)
theorem dX5_where_111 : decode cX5_where 111 = .ok (.aload 6, 2) := dk_25 6 (dk_at dksX5_where_4 17 rfl rfl)
theorem dX5_where_113 : decode cX5_where 113 = .ok (.getfield 51, 3) := dk_180 0 51 (dk_at dksX5_where_4 19 rfl rfl)
theorem dX5_where_116 : decode cX5_where 116 = .ok (.iload 8, 2) := dk_21 8 (dk_at dksX5_where_4 22 rfl rfl)
theorem dX5_where_118 : decode cX5_where 118 = .ok (.ifCond .eq 7, 3) := dk_153 0 7 (dk_at dksX5_where_5 0 rfl rfl)
theorem dX5_where_121 : decode cX5_where 121 = .ok (.iconst 0, 1) := dk_3 (dk_at dksX5_where_5 3 rfl rfl)
theorem dX5_where_122 : decode cX5_where 122 = .ok (.goto 4, 3) := dk_167 0 4 (dk_at dksX5_where_5 4 rfl rfl)
theorem dX5_where_125 : decode cX5_where 125 = .ok (.iconst 1, 1) := dk_4 (dk_at dksX5_where_5 7 rfl rfl)
theorem dX5_where_126 : decode cX5_where 126 = .ok (.aaload, 1) := dk_50 (dk_at dksX5_where_5 8 rfl rfl)
theorem dX5_where_127 : decode cX5_where 127 = .ok (.astore_n 3, 1) := dk_78 (dk_at dksX5_where_5 9 rfl rfl)
theorem dX5_where_128 : decode cX5_where 128 = .ok (.goto (-117), 3) := dk_167 255 139 (dk_at dksX5_where_5 10 rfl rfl)
theorem dX5_where_131 : decode cX5_where 131 = .ok (.aload_n 3, 1) := dk_45 (dk_at dksX5_where_5 13 rfl rfl)
theorem dX5_where_132 : decode cX5_where 132 = .ok (.checkcast 9, 3) := dk_192 0 9 (dk_at dksX5_where_5 14 rfl rfl)
theorem dX5_where_135 : decode cX5_where 135 = .ok (.astore 6, 2) := dk_58 6 (dk_at dksX5_where_5 17 rfl rfl)
theorem dX5_where_137 : decode cX5_where 137 = .ok (.iconst 0, 1) := dk_3 (dk_at dksX5_where_5 19 rfl rfl)
theorem dX5_where_138 : decode cX5_where 138 = .ok (.istore 7, 2) := dk_54 7 (dk_at dksX5_where_5 20 rfl rfl)
theorem dX5_where_140 : decode cX5_where 140 = .ok (.aload 6, 2) := dk_25 6 (dk_at dksX5_where_5 22 rfl rfl)
theorem dX5_where_142 : decode cX5_where 142 = .ok (.iload 7, 2) := dk_21 7 (dk_at dksX5_where_6 0 rfl rfl)
theorem dX5_where_144 : decode cX5_where 144 = .ok (.invokevirtual 72, 3) := dk_182 0 72 (dk_at dksX5_where_6 2 rfl rfl)
theorem dX5_where_147 : decode cX5_where 147 = .ok (.iload_n 2, 1) := dk_28 (dk_at dksX5_where_6 5 rfl rfl)
theorem dX5_where_148 : decode cX5_where 148 = .ok (.if_icmp .ne 8, 3) := dk_160 0 8 (dk_at dksX5_where_6 6 rfl rfl)
theorem dX5_where_151 : decode cX5_where 151 = .ok (.iload 4, 2) := dk_21 4 (dk_at dksX5_where_6 9 rfl rfl)
theorem dX5_where_153 : decode cX5_where 153 = .ok (.ifCond .le 23, 3) := dk_158 0 23 (dk_at dksX5_where_6 11 rfl rfl)
theorem dX5_where_156 : decode cX5_where 156 = .ok (.aload 6, 2) := dk_25 6 (dk_at dksX5_where_6 14 rfl rfl)
theorem dX5_where_158 : decode cX5_where 158 = .ok (.iload 7, 2) := dk_21 7 (dk_at dksX5_where_6 16 rfl rfl)
theorem dX5_where_160 : decode cX5_where 160 = .ok (.invokevirtual 72, 3) := dk_182 0 72 (dk_at dksX5_where_6 18 rfl rfl)
theorem dX5_where_163 : decode cX5_where 163 = .ok (.iload_n 2, 1) := dk_28 (dk_at dksX5_where_6 21 rfl rfl)
theorem dX5_where_164 : decode cX5_where 164 = .ok (.if_icmp .ne 6, 3) := dk_160 0 6 (dk_at dksX5_where_7 0 rfl rfl)
theorem dX5_where_167 : decode cX5_where 167 = .ok (.iinc 4 (-1), 3) := dk_132 4 255 (dk_at dksX5_where_7 3 rfl rfl)
theorem dX5_where_170 : decode cX5_where 170 = .ok (.iinc 7 1, 3) := dk_132 7 1 (dk_at dksX5_where_7 6 rfl rfl)
theorem dX5_where_173 : decode cX5_where 173 = .ok (.goto (-33), 3) := dk_167 255 223 (dk_at dksX5_where_7 9 rfl rfl)
theorem dX5_where_176 : decode cX5_where 176 = .ok (.iload 5, 2) := dk_21 5 (dk_at dksX5_where_7 12 rfl rfl)
theorem dX5_where_178 : decode cX5_where 178 = .ok (.iload 7, 2) := dk_21 7 (dk_at dksX5_where_7 14 rfl rfl)
theorem dX5_where_180 : decode cX5_where 180 = .ok (.iadd, 1) := dk_96 (dk_at dksX5_where_7 16 rfl rfl)
theorem dX5_where_181 : decode cX5_where 181 = .ok (.ireturn, 1) := dk_172 (dk_at dksX5_where_7 17 rfl rfl)
abbrev cX5_folds : ByteArray := prog_19_method_4_code
def yX5_folds : MethodName := ⟨RX5, "folds", "()I"⟩
theorem dX5_folds_0 : decode cX5_folds 0 = .ok (.aload_n 0, 1) := by decide +kernel
theorem dX5_folds_1 : decode cX5_folds 1 = .ok (.getfield 24, 3) := by decide +kernel
theorem dX5_folds_4 : decode cX5_folds 4 = .ok (.ireturn, 1) := by decide +kernel
abbrev cX5_all : ByteArray := prog_19_method_9_code
def yX5_all : MethodName := ⟨RX5, "all", "()[LBitRopes$Leaf;"⟩
def dkwX5_all_0 : List UInt8 := [42, 42, 180, 0, 27, 182, 0, 42, 42, 180, 0, 11, 176]
abbrev dktX5_all_0 : List UInt8 := dkwX5_all_0 ++ []
theorem dksX5_all_0 : cX5_all.data.toList.drop 0 = dktX5_all_0 := by decide +kernel
theorem dX5_all_0 : decode cX5_all 0 = .ok (.aload_n 0, 1) := dk_42 (dk_at dksX5_all_0 0 rfl rfl)
theorem dX5_all_1 : decode cX5_all 1 = .ok (.aload_n 0, 1) := dk_42 (dk_at dksX5_all_0 1 rfl rfl)
theorem dX5_all_2 : decode cX5_all 2 = .ok (.getfield 27, 3) := dk_180 0 27 (dk_at dksX5_all_0 2 rfl rfl)
theorem dX5_all_5 : decode cX5_all 5 = .ok (.invokevirtual 42, 3) := dk_182 0 42 (dk_at dksX5_all_0 5 rfl rfl)
theorem dX5_all_8 : decode cX5_all 8 = .ok (.aload_n 0, 1) := dk_42 (dk_at dksX5_all_0 8 rfl rfl)
theorem dX5_all_9 : decode cX5_all 9 = .ok (.getfield 11, 3) := dk_180 0 11 (dk_at dksX5_all_0 9 rfl rfl)
theorem dX5_all_12 : decode cX5_all 12 = .ok (.areturn, 1) := dk_176 (dk_at dksX5_all_0 12 rfl rfl)
abbrev cX5_height : ByteArray := prog_19_method_27_code
def yX5_height : MethodName := ⟨RX5, "height", "(LBitRopes$Node;)I"⟩
def dkwX5_height_1 : List UInt8 := [44, 180, 0, 51, 4, 50, 182, 0, 161, 184, 0, 117, 96, 167, 0, 4, 3, 172]
abbrev dktX5_height_1 : List UInt8 := dkwX5_height_1 ++ []
def dkwX5_height_0 : List UInt8 := [43, 193, 0, 46, 153, 0, 36, 43, 192, 0, 46, 77, 4, 42, 44, 180, 0, 51, 3, 50, 182, 0, 161, 42]
abbrev dktX5_height_0 : List UInt8 := dkwX5_height_0 ++ dktX5_height_1
theorem dksX5_height_0 : cX5_height.data.toList.drop 0 = dktX5_height_0 := by decide +kernel
theorem dksX5_height_1 : cX5_height.data.toList.drop 24 = dktX5_height_1 := dk_seg dksX5_height_0 24 rfl rfl
theorem dX5_height_0 : decode cX5_height 0 = .ok (.aload_n 1, 1) := dk_43 (dk_at dksX5_height_0 0 rfl rfl)
theorem dX5_height_1 : decode cX5_height 1 = .ok (.instanceof 46, 3) := dk_193 0 46 (dk_at dksX5_height_0 1 rfl rfl)
theorem dX5_height_4 : decode cX5_height 4 = .ok (.ifCond .eq 36, 3) := dk_153 0 36 (dk_at dksX5_height_0 4 rfl rfl)
theorem dX5_height_7 : decode cX5_height 7 = .ok (.aload_n 1, 1) := dk_43 (dk_at dksX5_height_0 7 rfl rfl)
theorem dX5_height_8 : decode cX5_height 8 = .ok (.checkcast 46, 3) := dk_192 0 46 (dk_at dksX5_height_0 8 rfl rfl)
theorem dX5_height_11 : decode cX5_height 11 = .ok (.astore_n 2, 1) := dk_77 (dk_at dksX5_height_0 11 rfl rfl)
theorem dX5_height_12 : decode cX5_height 12 = .ok (.iconst 1, 1) := dk_4 (dk_at dksX5_height_0 12 rfl rfl)
theorem dX5_height_13 : decode cX5_height 13 = .ok (.aload_n 0, 1) := dk_42 (dk_at dksX5_height_0 13 rfl rfl)
theorem dX5_height_14 : decode cX5_height 14 = .ok (.aload_n 2, 1) := dk_44 (dk_at dksX5_height_0 14 rfl rfl)
theorem dX5_height_15 : decode cX5_height 15 = .ok (.getfield 51, 3) := dk_180 0 51 (dk_at dksX5_height_0 15 rfl rfl)
theorem dX5_height_18 : decode cX5_height 18 = .ok (.iconst 0, 1) := dk_3 (dk_at dksX5_height_0 18 rfl rfl)
theorem dX5_height_19 : decode cX5_height 19 = .ok (.aaload, 1) := dk_50 (dk_at dksX5_height_0 19 rfl rfl)
theorem dX5_height_20 : decode cX5_height 20 = .ok (.invokevirtual 161, 3) := dk_182 0 161 (dk_at dksX5_height_0 20 rfl rfl)
theorem dX5_height_23 : decode cX5_height 23 = .ok (.aload_n 0, 1) := dk_42 (dk_at dksX5_height_0 23 rfl rfl)
theorem dX5_height_24 : decode cX5_height 24 = .ok (.aload_n 2, 1) := dk_44 (dk_at dksX5_height_1 0 rfl rfl)
theorem dX5_height_25 : decode cX5_height 25 = .ok (.getfield 51, 3) := dk_180 0 51 (dk_at dksX5_height_1 1 rfl rfl)
theorem dX5_height_28 : decode cX5_height 28 = .ok (.iconst 1, 1) := dk_4 (dk_at dksX5_height_1 4 rfl rfl)
theorem dX5_height_29 : decode cX5_height 29 = .ok (.aaload, 1) := dk_50 (dk_at dksX5_height_1 5 rfl rfl)
theorem dX5_height_30 : decode cX5_height 30 = .ok (.invokevirtual 161, 3) := dk_182 0 161 (dk_at dksX5_height_1 6 rfl rfl)
theorem dX5_height_33 : decode cX5_height 33 = .ok (.invokestatic 117, 3) := dk_184 0 117 (dk_at dksX5_height_1 9 rfl rfl)
theorem dX5_height_36 : decode cX5_height 36 = .ok (.iadd, 1) := dk_96 (dk_at dksX5_height_1 12 rfl rfl)
theorem dX5_height_37 : decode cX5_height 37 = .ok (.goto 4, 3) := dk_167 0 4 (dk_at dksX5_height_1 13 rfl rfl)
theorem dX5_height_40 : decode cX5_height 40 = .ok (.iconst 0, 1) := dk_3 (dk_at dksX5_height_1 16 rfl rfl)
theorem dX5_height_41 : decode cX5_height 41 = .ok (.ireturn, 1) := dk_172 (dk_at dksX5_height_1 17 rfl rfl)
abbrev cX5_cost : ByteArray := prog_19_method_28_code
def yX5_cost : MethodName := ⟨RX5, "cost", "()I"⟩
def dkwX5_cost_2 : List UInt8 := [100, 184, 0, 117, 104, 96, 172]
abbrev dktX5_cost_2 : List UInt8 := dkwX5_cost_2 ++ []
def dkwX5_cost_1 : List UInt8 := [96, 4, 100, 16, 32, 108, 7, 96, 96, 60, 132, 2, 1, 167, 255, 223, 27, 8, 3, 42, 182, 0, 165, 4]
abbrev dktX5_cost_1 : List UInt8 := dkwX5_cost_1 ++ dktX5_cost_2
def dkwX5_cost_0 : List UInt8 := [3, 60, 3, 61, 28, 42, 180, 0, 24, 162, 0, 31, 27, 42, 180, 0, 11, 28, 50, 180, 0, 65, 16, 32]
abbrev dktX5_cost_0 : List UInt8 := dkwX5_cost_0 ++ dktX5_cost_1
theorem dksX5_cost_0 : cX5_cost.data.toList.drop 0 = dktX5_cost_0 := by decide +kernel
theorem dksX5_cost_1 : cX5_cost.data.toList.drop 24 = dktX5_cost_1 := dk_seg dksX5_cost_0 24 rfl rfl
theorem dksX5_cost_2 : cX5_cost.data.toList.drop 48 = dktX5_cost_2 := dk_seg dksX5_cost_1 24 rfl rfl
theorem dX5_cost_0 : decode cX5_cost 0 = .ok (.iconst 0, 1) := dk_3 (dk_at dksX5_cost_0 0 rfl rfl)
theorem dX5_cost_1 : decode cX5_cost 1 = .ok (.istore_n 1, 1) := dk_60 (dk_at dksX5_cost_0 1 rfl rfl)
theorem dX5_cost_2 : decode cX5_cost 2 = .ok (.iconst 0, 1) := dk_3 (dk_at dksX5_cost_0 2 rfl rfl)
theorem dX5_cost_3 : decode cX5_cost 3 = .ok (.istore_n 2, 1) := dk_61 (dk_at dksX5_cost_0 3 rfl rfl)
theorem dX5_cost_4 : decode cX5_cost 4 = .ok (.iload_n 2, 1) := dk_28 (dk_at dksX5_cost_0 4 rfl rfl)
theorem dX5_cost_5 : decode cX5_cost 5 = .ok (.aload_n 0, 1) := dk_42 (dk_at dksX5_cost_0 5 rfl rfl)
theorem dX5_cost_6 : decode cX5_cost 6 = .ok (.getfield 24, 3) := dk_180 0 24 (dk_at dksX5_cost_0 6 rfl rfl)
theorem dX5_cost_9 : decode cX5_cost 9 = .ok (.if_icmp .ge 31, 3) := dk_162 0 31 (dk_at dksX5_cost_0 9 rfl rfl)
theorem dX5_cost_12 : decode cX5_cost 12 = .ok (.iload_n 1, 1) := dk_27 (dk_at dksX5_cost_0 12 rfl rfl)
theorem dX5_cost_13 : decode cX5_cost 13 = .ok (.aload_n 0, 1) := dk_42 (dk_at dksX5_cost_0 13 rfl rfl)
theorem dX5_cost_14 : decode cX5_cost 14 = .ok (.getfield 11, 3) := dk_180 0 11 (dk_at dksX5_cost_0 14 rfl rfl)
theorem dX5_cost_17 : decode cX5_cost 17 = .ok (.iload_n 2, 1) := dk_28 (dk_at dksX5_cost_0 17 rfl rfl)
theorem dX5_cost_18 : decode cX5_cost 18 = .ok (.aaload, 1) := dk_50 (dk_at dksX5_cost_0 18 rfl rfl)
theorem dX5_cost_19 : decode cX5_cost 19 = .ok (.getfield 65, 3) := dk_180 0 65 (dk_at dksX5_cost_0 19 rfl rfl)
theorem dX5_cost_22 : decode cX5_cost 22 = .ok (.bipush 32, 2) := dk_16 32 (dk_at dksX5_cost_0 22 rfl rfl)
theorem dX5_cost_24 : decode cX5_cost 24 = .ok (.iadd, 1) := dk_96 (dk_at dksX5_cost_1 0 rfl rfl)
theorem dX5_cost_25 : decode cX5_cost 25 = .ok (.iconst 1, 1) := dk_4 (dk_at dksX5_cost_1 1 rfl rfl)
theorem dX5_cost_26 : decode cX5_cost 26 = .ok (.isub, 1) := dk_100 (dk_at dksX5_cost_1 2 rfl rfl)
theorem dX5_cost_27 : decode cX5_cost 27 = .ok (.bipush 32, 2) := dk_16 32 (dk_at dksX5_cost_1 3 rfl rfl)
theorem dX5_cost_29 : decode cX5_cost 29 = .ok (.idiv, 1) := dk_108 (dk_at dksX5_cost_1 5 rfl rfl)
theorem dX5_cost_30 : decode cX5_cost 30 = .ok (.iconst 4, 1) := dk_7 (dk_at dksX5_cost_1 6 rfl rfl)
theorem dX5_cost_31 : decode cX5_cost 31 = .ok (.iadd, 1) := dk_96 (dk_at dksX5_cost_1 7 rfl rfl)
theorem dX5_cost_32 : decode cX5_cost 32 = .ok (.iadd, 1) := dk_96 (dk_at dksX5_cost_1 8 rfl rfl)
theorem dX5_cost_33 : decode cX5_cost 33 = .ok (.istore_n 1, 1) := dk_60 (dk_at dksX5_cost_1 9 rfl rfl)
theorem dX5_cost_34 : decode cX5_cost 34 = .ok (.iinc 2 1, 3) := dk_132 2 1 (dk_at dksX5_cost_1 10 rfl rfl)
theorem dX5_cost_37 : decode cX5_cost 37 = .ok (.goto (-33), 3) := dk_167 255 223 (dk_at dksX5_cost_1 13 rfl rfl)
theorem dX5_cost_40 : decode cX5_cost 40 = .ok (.iload_n 1, 1) := dk_27 (dk_at dksX5_cost_1 16 rfl rfl)
theorem dX5_cost_41 : decode cX5_cost 41 = .ok (.iconst 5, 1) := dk_8 (dk_at dksX5_cost_1 17 rfl rfl)
theorem dX5_cost_42 : decode cX5_cost 42 = .ok (.iconst 0, 1) := dk_3 (dk_at dksX5_cost_1 18 rfl rfl)
theorem dX5_cost_43 : decode cX5_cost 43 = .ok (.aload_n 0, 1) := dk_42 (dk_at dksX5_cost_1 19 rfl rfl)
theorem dX5_cost_44 : decode cX5_cost 44 = .ok (.invokevirtual 165, 3) := dk_182 0 165 (dk_at dksX5_cost_1 20 rfl rfl)
theorem dX5_cost_47 : decode cX5_cost 47 = .ok (.iconst 1, 1) := dk_4 (dk_at dksX5_cost_1 23 rfl rfl)
theorem dX5_cost_48 : decode cX5_cost 48 = .ok (.isub, 1) := dk_100 (dk_at dksX5_cost_2 0 rfl rfl)
theorem dX5_cost_49 : decode cX5_cost 49 = .ok (.invokestatic 117, 3) := dk_184 0 117 (dk_at dksX5_cost_2 1 rfl rfl)
theorem dX5_cost_52 : decode cX5_cost 52 = .ok (.imul, 1) := dk_104 (dk_at dksX5_cost_2 4 rfl rfl)
theorem dX5_cost_53 : decode cX5_cost 53 = .ok (.iadd, 1) := dk_96 (dk_at dksX5_cost_2 5 rfl rfl)
theorem dX5_cost_54 : decode cX5_cost 54 = .ok (.ireturn, 1) := dk_172 (dk_at dksX5_cost_2 6 rfl rfl)
abbrev cX5_unpack : ByteArray := prog_19_method_30_code
def yX5_unpack : MethodName := ⟨RX5, "unpack", "(LBitRopes$Packed;)V"⟩
def dkwX5_unpack_4 : List UInt8 := [167, 255, 166, 42, 43, 180, 0, 180, 190, 181, 0, 24, 177]
abbrev dktX5_unpack_4 : List UInt8 := dkwX5_unpack_4 ++ []
def dkwX5_unpack_3 : List UInt8 := [4, 96, 181, 0, 17, 167, 255, 203, 42, 89, 180, 0, 21, 45, 180, 0, 76, 96, 181, 0, 21, 132, 2, 1]
abbrev dktX5_unpack_3 : List UInt8 := dkwX5_unpack_3 ++ dktX5_unpack_4
def dkwX5_unpack_2 : List UInt8 := [108, 47, 42, 180, 0, 17, 16, 64, 112, 123, 10, 127, 136, 182, 0, 132, 132, 4, 1, 42, 89, 180, 0, 17]
abbrev dktX5_unpack_2 : List UInt8 := dkwX5_unpack_2 ++ dktX5_unpack_3
def dkwX5_unpack_1 : List UInt8 := [21, 4, 43, 180, 0, 180, 28, 46, 162, 0, 48, 45, 21, 4, 43, 180, 0, 184, 42, 180, 0, 17, 16, 64]
abbrev dktX5_unpack_1 : List UInt8 := dkwX5_unpack_1 ++ dktX5_unpack_2
def dkwX5_unpack_0 : List UInt8 := [42, 182, 0, 177, 3, 61, 28, 43, 180, 0, 180, 190, 162, 0, 87, 42, 28, 182, 0, 128, 78, 3, 54, 4]
abbrev dktX5_unpack_0 : List UInt8 := dkwX5_unpack_0 ++ dktX5_unpack_1
theorem dksX5_unpack_0 : cX5_unpack.data.toList.drop 0 = dktX5_unpack_0 := by decide +kernel
theorem dksX5_unpack_1 : cX5_unpack.data.toList.drop 24 = dktX5_unpack_1 := dk_seg dksX5_unpack_0 24 rfl rfl
theorem dksX5_unpack_2 : cX5_unpack.data.toList.drop 48 = dktX5_unpack_2 := dk_seg dksX5_unpack_1 24 rfl rfl
theorem dksX5_unpack_3 : cX5_unpack.data.toList.drop 72 = dktX5_unpack_3 := dk_seg dksX5_unpack_2 24 rfl rfl
theorem dksX5_unpack_4 : cX5_unpack.data.toList.drop 96 = dktX5_unpack_4 := dk_seg dksX5_unpack_3 24 rfl rfl
theorem dX5_unpack_0 : decode cX5_unpack 0 = .ok (.aload_n 0, 1) := dk_42 (dk_at dksX5_unpack_0 0 rfl rfl)
theorem dX5_unpack_1 : decode cX5_unpack 1 = .ok (.invokevirtual 177, 3) := dk_182 0 177 (dk_at dksX5_unpack_0 1 rfl rfl)
theorem dX5_unpack_4 : decode cX5_unpack 4 = .ok (.iconst 0, 1) := dk_3 (dk_at dksX5_unpack_0 4 rfl rfl)
theorem dX5_unpack_5 : decode cX5_unpack 5 = .ok (.istore_n 2, 1) := dk_61 (dk_at dksX5_unpack_0 5 rfl rfl)
theorem dX5_unpack_6 : decode cX5_unpack 6 = .ok (.iload_n 2, 1) := dk_28 (dk_at dksX5_unpack_0 6 rfl rfl)
theorem dX5_unpack_7 : decode cX5_unpack 7 = .ok (.aload_n 1, 1) := dk_43 (dk_at dksX5_unpack_0 7 rfl rfl)
theorem dX5_unpack_8 : decode cX5_unpack 8 = .ok (.getfield 180, 3) := dk_180 0 180 (dk_at dksX5_unpack_0 8 rfl rfl)
theorem dX5_unpack_11 : decode cX5_unpack 11 = .ok (.arraylength, 1) := dk_190 (dk_at dksX5_unpack_0 11 rfl rfl)
theorem dX5_unpack_12 : decode cX5_unpack 12 = .ok (.if_icmp .ge 87, 3) := dk_162 0 87 (dk_at dksX5_unpack_0 12 rfl rfl)
theorem dX5_unpack_15 : decode cX5_unpack 15 = .ok (.aload_n 0, 1) := dk_42 (dk_at dksX5_unpack_0 15 rfl rfl)
theorem dX5_unpack_16 : decode cX5_unpack 16 = .ok (.iload_n 2, 1) := dk_28 (dk_at dksX5_unpack_0 16 rfl rfl)
theorem dX5_unpack_17 : decode cX5_unpack 17 = .ok (.invokevirtual 128, 3) := dk_182 0 128 (dk_at dksX5_unpack_0 17 rfl rfl)
theorem dX5_unpack_20 : decode cX5_unpack 20 = .ok (.astore_n 3, 1) := dk_78 (dk_at dksX5_unpack_0 20 rfl rfl)
theorem dX5_unpack_21 : decode cX5_unpack 21 = .ok (.iconst 0, 1) := dk_3 (dk_at dksX5_unpack_0 21 rfl rfl)
theorem dX5_unpack_22 : decode cX5_unpack 22 = .ok (.istore 4, 2) := dk_54 4 (dk_at dksX5_unpack_0 22 rfl rfl)
theorem dX5_unpack_24 : decode cX5_unpack 24 = .ok (.iload 4, 2) := dk_21 4 (dk_at dksX5_unpack_1 0 rfl rfl)
theorem dX5_unpack_26 : decode cX5_unpack 26 = .ok (.aload_n 1, 1) := dk_43 (dk_at dksX5_unpack_1 2 rfl rfl)
theorem dX5_unpack_27 : decode cX5_unpack 27 = .ok (.getfield 180, 3) := dk_180 0 180 (dk_at dksX5_unpack_1 3 rfl rfl)
theorem dX5_unpack_30 : decode cX5_unpack 30 = .ok (.iload_n 2, 1) := dk_28 (dk_at dksX5_unpack_1 6 rfl rfl)
theorem dX5_unpack_31 : decode cX5_unpack 31 = .ok (.iaload, 1) := dk_46 (dk_at dksX5_unpack_1 7 rfl rfl)
theorem dX5_unpack_32 : decode cX5_unpack 32 = .ok (.if_icmp .ge 48, 3) := dk_162 0 48 (dk_at dksX5_unpack_1 8 rfl rfl)
theorem dX5_unpack_35 : decode cX5_unpack 35 = .ok (.aload_n 3, 1) := dk_45 (dk_at dksX5_unpack_1 11 rfl rfl)
theorem dX5_unpack_36 : decode cX5_unpack 36 = .ok (.iload 4, 2) := dk_21 4 (dk_at dksX5_unpack_1 12 rfl rfl)
theorem dX5_unpack_38 : decode cX5_unpack 38 = .ok (.aload_n 1, 1) := dk_43 (dk_at dksX5_unpack_1 14 rfl rfl)
theorem dX5_unpack_39 : decode cX5_unpack 39 = .ok (.getfield 184, 3) := dk_180 0 184 (dk_at dksX5_unpack_1 15 rfl rfl)
theorem dX5_unpack_42 : decode cX5_unpack 42 = .ok (.aload_n 0, 1) := dk_42 (dk_at dksX5_unpack_1 18 rfl rfl)
theorem dX5_unpack_43 : decode cX5_unpack 43 = .ok (.getfield 17, 3) := dk_180 0 17 (dk_at dksX5_unpack_1 19 rfl rfl)
theorem dX5_unpack_46 : decode cX5_unpack 46 = .ok (.bipush 64, 2) := dk_16 64 (dk_at dksX5_unpack_1 22 rfl rfl)
theorem dX5_unpack_48 : decode cX5_unpack 48 = .ok (.idiv, 1) := dk_108 (dk_at dksX5_unpack_2 0 rfl rfl)
theorem dX5_unpack_49 : decode cX5_unpack 49 = .ok (.laload, 1) := dk_47 (dk_at dksX5_unpack_2 1 rfl rfl)
theorem dX5_unpack_50 : decode cX5_unpack 50 = .ok (.aload_n 0, 1) := dk_42 (dk_at dksX5_unpack_2 2 rfl rfl)
theorem dX5_unpack_51 : decode cX5_unpack 51 = .ok (.getfield 17, 3) := dk_180 0 17 (dk_at dksX5_unpack_2 3 rfl rfl)
theorem dX5_unpack_54 : decode cX5_unpack 54 = .ok (.bipush 64, 2) := dk_16 64 (dk_at dksX5_unpack_2 6 rfl rfl)
theorem dX5_unpack_56 : decode cX5_unpack 56 = .ok (.irem, 1) := dk_112 (dk_at dksX5_unpack_2 8 rfl rfl)
theorem dX5_unpack_57 : decode cX5_unpack 57 = .ok (.lshr, 1) := dk_123 (dk_at dksX5_unpack_2 9 rfl rfl)
theorem dX5_unpack_58 : decode cX5_unpack 58 = .ok (.lconst 1, 1) := dk_10 (dk_at dksX5_unpack_2 10 rfl rfl)
theorem dX5_unpack_59 : decode cX5_unpack 59 = .ok (.land, 1) := dk_127 (dk_at dksX5_unpack_2 11 rfl rfl)
theorem dX5_unpack_60 : decode cX5_unpack 60 = .ok (.l2i, 1) := dk_136 (dk_at dksX5_unpack_2 12 rfl rfl)
theorem dX5_unpack_61 : decode cX5_unpack 61 = .ok (.invokevirtual 132, 3) := dk_182 0 132 (dk_at dksX5_unpack_2 13 rfl rfl)
theorem dX5_unpack_64 : decode cX5_unpack 64 = .ok (.iinc 4 1, 3) := dk_132 4 1 (dk_at dksX5_unpack_2 16 rfl rfl)
theorem dX5_unpack_67 : decode cX5_unpack 67 = .ok (.aload_n 0, 1) := dk_42 (dk_at dksX5_unpack_2 19 rfl rfl)
theorem dX5_unpack_68 : decode cX5_unpack 68 = .ok (.dup, 1) := dk_89 (dk_at dksX5_unpack_2 20 rfl rfl)
theorem dX5_unpack_69 : decode cX5_unpack 69 = .ok (.getfield 17, 3) := dk_180 0 17 (dk_at dksX5_unpack_2 21 rfl rfl)
theorem dX5_unpack_72 : decode cX5_unpack 72 = .ok (.iconst 1, 1) := dk_4 (dk_at dksX5_unpack_3 0 rfl rfl)
theorem dX5_unpack_73 : decode cX5_unpack 73 = .ok (.iadd, 1) := dk_96 (dk_at dksX5_unpack_3 1 rfl rfl)
theorem dX5_unpack_74 : decode cX5_unpack 74 = .ok (.putfield 17, 3) := dk_181 0 17 (dk_at dksX5_unpack_3 2 rfl rfl)
theorem dX5_unpack_77 : decode cX5_unpack 77 = .ok (.goto (-53), 3) := dk_167 255 203 (dk_at dksX5_unpack_3 5 rfl rfl)
theorem dX5_unpack_80 : decode cX5_unpack 80 = .ok (.aload_n 0, 1) := dk_42 (dk_at dksX5_unpack_3 8 rfl rfl)
theorem dX5_unpack_81 : decode cX5_unpack 81 = .ok (.dup, 1) := dk_89 (dk_at dksX5_unpack_3 9 rfl rfl)
theorem dX5_unpack_82 : decode cX5_unpack 82 = .ok (.getfield 21, 3) := dk_180 0 21 (dk_at dksX5_unpack_3 10 rfl rfl)
theorem dX5_unpack_85 : decode cX5_unpack 85 = .ok (.aload_n 3, 1) := dk_45 (dk_at dksX5_unpack_3 13 rfl rfl)
theorem dX5_unpack_86 : decode cX5_unpack 86 = .ok (.getfield 76, 3) := dk_180 0 76 (dk_at dksX5_unpack_3 14 rfl rfl)
theorem dX5_unpack_89 : decode cX5_unpack 89 = .ok (.iadd, 1) := dk_96 (dk_at dksX5_unpack_3 17 rfl rfl)
theorem dX5_unpack_90 : decode cX5_unpack 90 = .ok (.putfield 21, 3) := dk_181 0 21 (dk_at dksX5_unpack_3 18 rfl rfl)
theorem dX5_unpack_93 : decode cX5_unpack 93 = .ok (.iinc 2 1, 3) := dk_132 2 1 (dk_at dksX5_unpack_3 21 rfl rfl)
theorem dX5_unpack_96 : decode cX5_unpack 96 = .ok (.goto (-90), 3) := dk_167 255 166 (dk_at dksX5_unpack_4 0 rfl rfl)
theorem dX5_unpack_99 : decode cX5_unpack 99 = .ok (.aload_n 0, 1) := dk_42 (dk_at dksX5_unpack_4 3 rfl rfl)
theorem dX5_unpack_100 : decode cX5_unpack 100 = .ok (.aload_n 1, 1) := dk_43 (dk_at dksX5_unpack_4 4 rfl rfl)
theorem dX5_unpack_101 : decode cX5_unpack 101 = .ok (.getfield 180, 3) := dk_180 0 180 (dk_at dksX5_unpack_4 5 rfl rfl)
theorem dX5_unpack_104 : decode cX5_unpack 104 = .ok (.arraylength, 1) := dk_190 (dk_at dksX5_unpack_4 8 rfl rfl)
theorem dX5_unpack_105 : decode cX5_unpack 105 = .ok (.putfield 24, 3) := dk_181 0 24 (dk_at dksX5_unpack_4 9 rfl rfl)
theorem dX5_unpack_108 : decode cX5_unpack 108 = .ok (.return_, 1) := dk_177 (dk_at dksX5_unpack_4 12 rfl rfl)
abbrev cX5_pack : ByteArray := prog_19_method_29_code
def yX5_pack : MethodName := ⟨RX5, "pack", "()LBitRopes$Packed;"⟩
def dkwX5_pack_5 : List UInt8 := [176]
abbrev dktX5_pack_5 : List UInt8 := dkwX5_pack_5 ++ []
def dkwX5_pack_4 : List UInt8 := [132, 6, 1, 132, 3, 1, 167, 255, 212, 132, 5, 1, 167, 255, 182, 187, 0, 172, 89, 43, 44, 183, 0, 174]
abbrev dktX5_pack_4 : List UInt8 := dkwX5_pack_4 ++ dktX5_pack_5
def dkwX5_pack_3 : List UInt8 := [21, 6, 182, 0, 72, 4, 160, 0, 18, 43, 29, 16, 64, 108, 92, 47, 10, 29, 16, 64, 112, 121, 129, 80]
abbrev dktX5_pack_3 : List UInt8 := dkwX5_pack_3 ++ dktX5_pack_4
def dkwX5_pack_2 : List UInt8 := [21, 5, 50, 180, 0, 65, 79, 3, 54, 6, 21, 6, 44, 21, 5, 46, 162, 0, 41, 25, 4, 21, 5, 50]
abbrev dktX5_pack_2 : List UInt8 := dkwX5_pack_2 ++ dktX5_pack_3
def dkwX5_pack_1 : List UInt8 := [42, 182, 0, 168, 58, 4, 3, 54, 5, 21, 5, 42, 180, 0, 24, 162, 0, 71, 44, 21, 5, 25, 4]
abbrev dktX5_pack_1 : List UInt8 := dkwX5_pack_1 ++ dktX5_pack_2
def dkwX5_pack_0 : List UInt8 := [42, 182, 0, 89, 16, 64, 96, 4, 100, 16, 64, 108, 188, 11, 76, 42, 182, 0, 165, 188, 10, 77, 3, 62]
abbrev dktX5_pack_0 : List UInt8 := dkwX5_pack_0 ++ dktX5_pack_1
theorem dksX5_pack_0 : cX5_pack.data.toList.drop 0 = dktX5_pack_0 := by decide +kernel
theorem dksX5_pack_1 : cX5_pack.data.toList.drop 24 = dktX5_pack_1 := dk_seg dksX5_pack_0 24 rfl rfl
theorem dksX5_pack_2 : cX5_pack.data.toList.drop 47 = dktX5_pack_2 := dk_seg dksX5_pack_1 23 rfl rfl
theorem dksX5_pack_3 : cX5_pack.data.toList.drop 71 = dktX5_pack_3 := dk_seg dksX5_pack_2 24 rfl rfl
theorem dksX5_pack_4 : cX5_pack.data.toList.drop 95 = dktX5_pack_4 := dk_seg dksX5_pack_3 24 rfl rfl
theorem dksX5_pack_5 : cX5_pack.data.toList.drop 119 = dktX5_pack_5 := dk_seg dksX5_pack_4 24 rfl rfl
theorem dX5_pack_0 : decode cX5_pack 0 = .ok (.aload_n 0, 1) := dk_42 (dk_at dksX5_pack_0 0 rfl rfl)
theorem dX5_pack_1 : decode cX5_pack 1 = .ok (.invokevirtual 89, 3) := dk_182 0 89 (dk_at dksX5_pack_0 1 rfl rfl)
theorem dX5_pack_4 : decode cX5_pack 4 = .ok (.bipush 64, 2) := dk_16 64 (dk_at dksX5_pack_0 4 rfl rfl)
theorem dX5_pack_6 : decode cX5_pack 6 = .ok (.iadd, 1) := dk_96 (dk_at dksX5_pack_0 6 rfl rfl)
theorem dX5_pack_7 : decode cX5_pack 7 = .ok (.iconst 1, 1) := dk_4 (dk_at dksX5_pack_0 7 rfl rfl)
theorem dX5_pack_8 : decode cX5_pack 8 = .ok (.isub, 1) := dk_100 (dk_at dksX5_pack_0 8 rfl rfl)
theorem dX5_pack_9 : decode cX5_pack 9 = .ok (.bipush 64, 2) := dk_16 64 (dk_at dksX5_pack_0 9 rfl rfl)
theorem dX5_pack_11 : decode cX5_pack 11 = .ok (.idiv, 1) := dk_108 (dk_at dksX5_pack_0 11 rfl rfl)
theorem dX5_pack_12 : decode cX5_pack 12 = .ok (.newarray .long, 2) := dk_188_11 (dk_at dksX5_pack_0 12 rfl rfl)
theorem dX5_pack_14 : decode cX5_pack 14 = .ok (.astore_n 1, 1) := dk_76 (dk_at dksX5_pack_0 14 rfl rfl)
theorem dX5_pack_15 : decode cX5_pack 15 = .ok (.aload_n 0, 1) := dk_42 (dk_at dksX5_pack_0 15 rfl rfl)
theorem dX5_pack_16 : decode cX5_pack 16 = .ok (.invokevirtual 165, 3) := dk_182 0 165 (dk_at dksX5_pack_0 16 rfl rfl)
theorem dX5_pack_19 : decode cX5_pack 19 = .ok (.newarray .int, 2) := dk_188_10 (dk_at dksX5_pack_0 19 rfl rfl)
theorem dX5_pack_21 : decode cX5_pack 21 = .ok (.astore_n 2, 1) := dk_77 (dk_at dksX5_pack_0 21 rfl rfl)
theorem dX5_pack_22 : decode cX5_pack 22 = .ok (.iconst 0, 1) := dk_3 (dk_at dksX5_pack_0 22 rfl rfl)
theorem dX5_pack_23 : decode cX5_pack 23 = .ok (.istore_n 3, 1) := dk_62 (dk_at dksX5_pack_0 23 rfl rfl)
theorem dX5_pack_24 : decode cX5_pack 24 = .ok (.aload_n 0, 1) := dk_42 (dk_at dksX5_pack_1 0 rfl rfl)
theorem dX5_pack_25 : decode cX5_pack 25 = .ok (.invokevirtual 168, 3) := dk_182 0 168 (dk_at dksX5_pack_1 1 rfl rfl)
theorem dX5_pack_28 : decode cX5_pack 28 = .ok (.astore 4, 2) := dk_58 4 (dk_at dksX5_pack_1 4 rfl rfl)
theorem dX5_pack_30 : decode cX5_pack 30 = .ok (.iconst 0, 1) := dk_3 (dk_at dksX5_pack_1 6 rfl rfl)
theorem dX5_pack_31 : decode cX5_pack 31 = .ok (.istore 5, 2) := dk_54 5 (dk_at dksX5_pack_1 7 rfl rfl)
theorem dX5_pack_33 : decode cX5_pack 33 = .ok (.iload 5, 2) := dk_21 5 (dk_at dksX5_pack_1 9 rfl rfl)
theorem dX5_pack_35 : decode cX5_pack 35 = .ok (.aload_n 0, 1) := dk_42 (dk_at dksX5_pack_1 11 rfl rfl)
theorem dX5_pack_36 : decode cX5_pack 36 = .ok (.getfield 24, 3) := dk_180 0 24 (dk_at dksX5_pack_1 12 rfl rfl)
theorem dX5_pack_39 : decode cX5_pack 39 = .ok (.if_icmp .ge 71, 3) := dk_162 0 71 (dk_at dksX5_pack_1 15 rfl rfl)
theorem dX5_pack_42 : decode cX5_pack 42 = .ok (.aload_n 2, 1) := dk_44 (dk_at dksX5_pack_1 18 rfl rfl)
theorem dX5_pack_43 : decode cX5_pack 43 = .ok (.iload 5, 2) := dk_21 5 (dk_at dksX5_pack_1 19 rfl rfl)
theorem dX5_pack_45 : decode cX5_pack 45 = .ok (.aload 4, 2) := dk_25 4 (dk_at dksX5_pack_1 21 rfl rfl)
theorem dX5_pack_47 : decode cX5_pack 47 = .ok (.iload 5, 2) := dk_21 5 (dk_at dksX5_pack_2 0 rfl rfl)
theorem dX5_pack_49 : decode cX5_pack 49 = .ok (.aaload, 1) := dk_50 (dk_at dksX5_pack_2 2 rfl rfl)
theorem dX5_pack_50 : decode cX5_pack 50 = .ok (.getfield 65, 3) := dk_180 0 65 (dk_at dksX5_pack_2 3 rfl rfl)
theorem dX5_pack_53 : decode cX5_pack 53 = .ok (.iastore, 1) := dk_79 (dk_at dksX5_pack_2 6 rfl rfl)
theorem dX5_pack_54 : decode cX5_pack 54 = .ok (.iconst 0, 1) := dk_3 (dk_at dksX5_pack_2 7 rfl rfl)
theorem dX5_pack_55 : decode cX5_pack 55 = .ok (.istore 6, 2) := dk_54 6 (dk_at dksX5_pack_2 8 rfl rfl)
theorem dX5_pack_57 : decode cX5_pack 57 = .ok (.iload 6, 2) := dk_21 6 (dk_at dksX5_pack_2 10 rfl rfl)
theorem dX5_pack_59 : decode cX5_pack 59 = .ok (.aload_n 2, 1) := dk_44 (dk_at dksX5_pack_2 12 rfl rfl)
theorem dX5_pack_60 : decode cX5_pack 60 = .ok (.iload 5, 2) := dk_21 5 (dk_at dksX5_pack_2 13 rfl rfl)
theorem dX5_pack_62 : decode cX5_pack 62 = .ok (.iaload, 1) := dk_46 (dk_at dksX5_pack_2 15 rfl rfl)
theorem dX5_pack_63 : decode cX5_pack 63 = .ok (.if_icmp .ge 41, 3) := dk_162 0 41 (dk_at dksX5_pack_2 16 rfl rfl)
theorem dX5_pack_66 : decode cX5_pack 66 = .ok (.aload 4, 2) := dk_25 4 (dk_at dksX5_pack_2 19 rfl rfl)
theorem dX5_pack_68 : decode cX5_pack 68 = .ok (.iload 5, 2) := dk_21 5 (dk_at dksX5_pack_2 21 rfl rfl)
theorem dX5_pack_70 : decode cX5_pack 70 = .ok (.aaload, 1) := dk_50 (dk_at dksX5_pack_2 23 rfl rfl)
theorem dX5_pack_71 : decode cX5_pack 71 = .ok (.iload 6, 2) := dk_21 6 (dk_at dksX5_pack_3 0 rfl rfl)
theorem dX5_pack_73 : decode cX5_pack 73 = .ok (.invokevirtual 72, 3) := dk_182 0 72 (dk_at dksX5_pack_3 2 rfl rfl)
theorem dX5_pack_76 : decode cX5_pack 76 = .ok (.iconst 1, 1) := dk_4 (dk_at dksX5_pack_3 5 rfl rfl)
theorem dX5_pack_77 : decode cX5_pack 77 = .ok (.if_icmp .ne 18, 3) := dk_160 0 18 (dk_at dksX5_pack_3 6 rfl rfl)
theorem dX5_pack_80 : decode cX5_pack 80 = .ok (.aload_n 1, 1) := dk_43 (dk_at dksX5_pack_3 9 rfl rfl)
theorem dX5_pack_81 : decode cX5_pack 81 = .ok (.iload_n 3, 1) := dk_29 (dk_at dksX5_pack_3 10 rfl rfl)
theorem dX5_pack_82 : decode cX5_pack 82 = .ok (.bipush 64, 2) := dk_16 64 (dk_at dksX5_pack_3 11 rfl rfl)
theorem dX5_pack_84 : decode cX5_pack 84 = .ok (.idiv, 1) := dk_108 (dk_at dksX5_pack_3 13 rfl rfl)
theorem dX5_pack_85 : decode cX5_pack 85 = .ok (.dup2, 1) := dk_92 (dk_at dksX5_pack_3 14 rfl rfl)
theorem dX5_pack_86 : decode cX5_pack 86 = .ok (.laload, 1) := dk_47 (dk_at dksX5_pack_3 15 rfl rfl)
theorem dX5_pack_87 : decode cX5_pack 87 = .ok (.lconst 1, 1) := dk_10 (dk_at dksX5_pack_3 16 rfl rfl)
theorem dX5_pack_88 : decode cX5_pack 88 = .ok (.iload_n 3, 1) := dk_29 (dk_at dksX5_pack_3 17 rfl rfl)
theorem dX5_pack_89 : decode cX5_pack 89 = .ok (.bipush 64, 2) := dk_16 64 (dk_at dksX5_pack_3 18 rfl rfl)
theorem dX5_pack_91 : decode cX5_pack 91 = .ok (.irem, 1) := dk_112 (dk_at dksX5_pack_3 20 rfl rfl)
theorem dX5_pack_92 : decode cX5_pack 92 = .ok (.lshl, 1) := dk_121 (dk_at dksX5_pack_3 21 rfl rfl)
theorem dX5_pack_93 : decode cX5_pack 93 = .ok (.lor, 1) := dk_129 (dk_at dksX5_pack_3 22 rfl rfl)
theorem dX5_pack_94 : decode cX5_pack 94 = .ok (.lastore, 1) := dk_80 (dk_at dksX5_pack_3 23 rfl rfl)
theorem dX5_pack_95 : decode cX5_pack 95 = .ok (.iinc 6 1, 3) := dk_132 6 1 (dk_at dksX5_pack_4 0 rfl rfl)
theorem dX5_pack_98 : decode cX5_pack 98 = .ok (.iinc 3 1, 3) := dk_132 3 1 (dk_at dksX5_pack_4 3 rfl rfl)
theorem dX5_pack_101 : decode cX5_pack 101 = .ok (.goto (-44), 3) := dk_167 255 212 (dk_at dksX5_pack_4 6 rfl rfl)
theorem dX5_pack_104 : decode cX5_pack 104 = .ok (.iinc 5 1, 3) := dk_132 5 1 (dk_at dksX5_pack_4 9 rfl rfl)
theorem dX5_pack_107 : decode cX5_pack 107 = .ok (.goto (-74), 3) := dk_167 255 182 (dk_at dksX5_pack_4 12 rfl rfl)
theorem dX5_pack_110 : decode cX5_pack 110 = .ok (.new 172, 3) := dk_187 0 172 (dk_at dksX5_pack_4 15 rfl rfl)
theorem dX5_pack_113 : decode cX5_pack 113 = .ok (.dup, 1) := dk_89 (dk_at dksX5_pack_4 18 rfl rfl)
theorem dX5_pack_114 : decode cX5_pack 114 = .ok (.aload_n 1, 1) := dk_43 (dk_at dksX5_pack_4 19 rfl rfl)
theorem dX5_pack_115 : decode cX5_pack 115 = .ok (.aload_n 2, 1) := dk_44 (dk_at dksX5_pack_4 20 rfl rfl)
theorem dX5_pack_116 : decode cX5_pack 116 = .ok (.invokespecial 174, 3) := dk_183 0 174 (dk_at dksX5_pack_4 21 rfl rfl)
theorem dX5_pack_119 : decode cX5_pack 119 = .ok (.areturn, 1) := dk_176 (dk_at dksX5_pack_5 0 rfl rfl)
abbrev cX5_write : ByteArray := prog_19_method_19_code
def yX5_write : MethodName := ⟨RX5, "write", "(II)V"⟩
def dkwX5_write_2 : List UInt8 := [42, 180, 0, 62, 28, 182, 0, 92, 177]
abbrev dktX5_write_2 : List UInt8 := dkwX5_write_2 ++ []
def dkwX5_write_1 : List UInt8 := [42, 180, 0, 27, 27, 28, 182, 0, 96, 167, 0, 23, 42, 27, 182, 0, 68, 62, 42, 180, 0, 11, 29, 50]
abbrev dktX5_write_1 : List UInt8 := dkwX5_write_1 ++ dktX5_write_2
def dkwX5_write_0 : List UInt8 := [42, 89, 180, 0, 21, 28, 42, 27, 182, 0, 102, 100, 96, 181, 0, 21, 42, 180, 0, 31, 153, 0, 16, 42]
abbrev dktX5_write_0 : List UInt8 := dkwX5_write_0 ++ dktX5_write_1
theorem dksX5_write_0 : cX5_write.data.toList.drop 0 = dktX5_write_0 := by decide +kernel
theorem dksX5_write_1 : cX5_write.data.toList.drop 24 = dktX5_write_1 := dk_seg dksX5_write_0 24 rfl rfl
theorem dksX5_write_2 : cX5_write.data.toList.drop 48 = dktX5_write_2 := dk_seg dksX5_write_1 24 rfl rfl
theorem dX5_write_0 : decode cX5_write 0 = .ok (.aload_n 0, 1) := dk_42 (dk_at dksX5_write_0 0 rfl rfl)
theorem dX5_write_1 : decode cX5_write 1 = .ok (.dup, 1) := dk_89 (dk_at dksX5_write_0 1 rfl rfl)
theorem dX5_write_2 : decode cX5_write 2 = .ok (.getfield 21, 3) := dk_180 0 21 (dk_at dksX5_write_0 2 rfl rfl)
theorem dX5_write_5 : decode cX5_write 5 = .ok (.iload_n 2, 1) := dk_28 (dk_at dksX5_write_0 5 rfl rfl)
theorem dX5_write_6 : decode cX5_write 6 = .ok (.aload_n 0, 1) := dk_42 (dk_at dksX5_write_0 6 rfl rfl)
theorem dX5_write_7 : decode cX5_write 7 = .ok (.iload_n 1, 1) := dk_27 (dk_at dksX5_write_0 7 rfl rfl)
theorem dX5_write_8 : decode cX5_write 8 = .ok (.invokevirtual 102, 3) := dk_182 0 102 (dk_at dksX5_write_0 8 rfl rfl)
theorem dX5_write_11 : decode cX5_write 11 = .ok (.isub, 1) := dk_100 (dk_at dksX5_write_0 11 rfl rfl)
theorem dX5_write_12 : decode cX5_write 12 = .ok (.iadd, 1) := dk_96 (dk_at dksX5_write_0 12 rfl rfl)
theorem dX5_write_13 : decode cX5_write 13 = .ok (.putfield 21, 3) := dk_181 0 21 (dk_at dksX5_write_0 13 rfl rfl)
theorem dX5_write_16 : decode cX5_write 16 = .ok (.aload_n 0, 1) := dk_42 (dk_at dksX5_write_0 16 rfl rfl)
theorem dX5_write_17 : decode cX5_write 17 = .ok (.getfield 31, 3) := dk_180 0 31 (dk_at dksX5_write_0 17 rfl rfl)
theorem dX5_write_20 : decode cX5_write 20 = .ok (.ifCond .eq 16, 3) := dk_153 0 16 (dk_at dksX5_write_0 20 rfl rfl)
theorem dX5_write_23 : decode cX5_write 23 = .ok (.aload_n 0, 1) := dk_42 (dk_at dksX5_write_0 23 rfl rfl)
theorem dX5_write_24 : decode cX5_write 24 = .ok (.aload_n 0, 1) := dk_42 (dk_at dksX5_write_1 0 rfl rfl)
theorem dX5_write_25 : decode cX5_write 25 = .ok (.getfield 27, 3) := dk_180 0 27 (dk_at dksX5_write_1 1 rfl rfl)
theorem dX5_write_28 : decode cX5_write 28 = .ok (.iload_n 1, 1) := dk_27 (dk_at dksX5_write_1 4 rfl rfl)
theorem dX5_write_29 : decode cX5_write 29 = .ok (.iload_n 2, 1) := dk_28 (dk_at dksX5_write_1 5 rfl rfl)
theorem dX5_write_30 : decode cX5_write 30 = .ok (.invokevirtual 96, 3) := dk_182 0 96 (dk_at dksX5_write_1 6 rfl rfl)
theorem dX5_write_33 : decode cX5_write 33 = .ok (.goto 23, 3) := dk_167 0 23 (dk_at dksX5_write_1 9 rfl rfl)
theorem dX5_write_36 : decode cX5_write 36 = .ok (.aload_n 0, 1) := dk_42 (dk_at dksX5_write_1 12 rfl rfl)
theorem dX5_write_37 : decode cX5_write 37 = .ok (.iload_n 1, 1) := dk_27 (dk_at dksX5_write_1 13 rfl rfl)
theorem dX5_write_38 : decode cX5_write 38 = .ok (.invokevirtual 68, 3) := dk_182 0 68 (dk_at dksX5_write_1 14 rfl rfl)
theorem dX5_write_41 : decode cX5_write 41 = .ok (.istore_n 3, 1) := dk_62 (dk_at dksX5_write_1 17 rfl rfl)
theorem dX5_write_42 : decode cX5_write 42 = .ok (.aload_n 0, 1) := dk_42 (dk_at dksX5_write_1 18 rfl rfl)
theorem dX5_write_43 : decode cX5_write 43 = .ok (.getfield 11, 3) := dk_180 0 11 (dk_at dksX5_write_1 19 rfl rfl)
theorem dX5_write_46 : decode cX5_write 46 = .ok (.iload_n 3, 1) := dk_29 (dk_at dksX5_write_1 22 rfl rfl)
theorem dX5_write_47 : decode cX5_write 47 = .ok (.aaload, 1) := dk_50 (dk_at dksX5_write_1 23 rfl rfl)
theorem dX5_write_48 : decode cX5_write 48 = .ok (.aload_n 0, 1) := dk_42 (dk_at dksX5_write_2 0 rfl rfl)
theorem dX5_write_49 : decode cX5_write 49 = .ok (.getfield 62, 3) := dk_180 0 62 (dk_at dksX5_write_2 1 rfl rfl)
theorem dX5_write_52 : decode cX5_write 52 = .ok (.iload_n 2, 1) := dk_28 (dk_at dksX5_write_2 4 rfl rfl)
theorem dX5_write_53 : decode cX5_write 53 = .ok (.invokevirtual 92, 3) := dk_182 0 92 (dk_at dksX5_write_2 5 rfl rfl)
theorem dX5_write_56 : decode cX5_write 56 = .ok (.return_, 1) := dk_177 (dk_at dksX5_write_2 8 rfl rfl)
abbrev cX5_write_2 : ByteArray := prog_19_method_18_code
def yX5_write_2 : MethodName := ⟨RX5, "write", "(LBitRopes$Node;II)V"⟩
def dkwX5_write_2_3 : List UInt8 := [180, 0, 51, 3, 50, 180, 0, 75, 100, 29, 182, 0, 96, 25, 4, 182, 0, 99, 177]
abbrev dktX5_write_2_3 : List UInt8 := dkwX5_write_2_3 ++ []
def dkwX5_write_2_2 : List UInt8 := [180, 0, 51, 3, 50, 28, 29, 182, 0, 96, 167, 0, 27, 42, 25, 4, 180, 0, 51, 4, 50, 28, 25, 4]
abbrev dktX5_write_2_2 : List UInt8 := dkwX5_write_2_2 ++ dktX5_write_2_3
def dkwX5_write_2_1 : List UInt8 := [25, 4, 182, 0, 48, 28, 25, 4, 180, 0, 51, 3, 50, 180, 0, 75, 162, 0, 19, 42, 25, 4]
abbrev dktX5_write_2_1 : List UInt8 := dkwX5_write_2_1 ++ dktX5_write_2_2
def dkwX5_write_2_0 : List UInt8 := [43, 193, 0, 9, 153, 0, 13, 43, 192, 0, 9, 28, 29, 182, 0, 92, 177, 43, 192, 0, 46, 58, 4]
abbrev dktX5_write_2_0 : List UInt8 := dkwX5_write_2_0 ++ dktX5_write_2_1
theorem dksX5_write_2_0 : cX5_write_2.data.toList.drop 0 = dktX5_write_2_0 := by decide +kernel
theorem dksX5_write_2_1 : cX5_write_2.data.toList.drop 23 = dktX5_write_2_1 := dk_seg dksX5_write_2_0 23 rfl rfl
theorem dksX5_write_2_2 : cX5_write_2.data.toList.drop 45 = dktX5_write_2_2 := dk_seg dksX5_write_2_1 22 rfl rfl
theorem dksX5_write_2_3 : cX5_write_2.data.toList.drop 69 = dktX5_write_2_3 := dk_seg dksX5_write_2_2 24 rfl rfl
theorem dX5_write_2_0 : decode cX5_write_2 0 = .ok (.aload_n 1, 1) := dk_43 (dk_at dksX5_write_2_0 0 rfl rfl)
theorem dX5_write_2_1 : decode cX5_write_2 1 = .ok (.instanceof 9, 3) := dk_193 0 9 (dk_at dksX5_write_2_0 1 rfl rfl)
theorem dX5_write_2_4 : decode cX5_write_2 4 = .ok (.ifCond .eq 13, 3) := dk_153 0 13 (dk_at dksX5_write_2_0 4 rfl rfl)
theorem dX5_write_2_7 : decode cX5_write_2 7 = .ok (.aload_n 1, 1) := dk_43 (dk_at dksX5_write_2_0 7 rfl rfl)
theorem dX5_write_2_8 : decode cX5_write_2 8 = .ok (.checkcast 9, 3) := dk_192 0 9 (dk_at dksX5_write_2_0 8 rfl rfl)
theorem dX5_write_2_11 : decode cX5_write_2 11 = .ok (.iload_n 2, 1) := dk_28 (dk_at dksX5_write_2_0 11 rfl rfl)
theorem dX5_write_2_12 : decode cX5_write_2 12 = .ok (.iload_n 3, 1) := dk_29 (dk_at dksX5_write_2_0 12 rfl rfl)
theorem dX5_write_2_13 : decode cX5_write_2 13 = .ok (.invokevirtual 92, 3) := dk_182 0 92 (dk_at dksX5_write_2_0 13 rfl rfl)
theorem dX5_write_2_16 : decode cX5_write_2 16 = .ok (.return_, 1) := dk_177 (dk_at dksX5_write_2_0 16 rfl rfl)
theorem dX5_write_2_17 : decode cX5_write_2 17 = .ok (.aload_n 1, 1) := dk_43 (dk_at dksX5_write_2_0 17 rfl rfl)
theorem dX5_write_2_18 : decode cX5_write_2 18 = .ok (.checkcast 46, 3) := dk_192 0 46 (dk_at dksX5_write_2_0 18 rfl rfl)
theorem dX5_write_2_21 : decode cX5_write_2 21 = .ok (.astore 4, 2) := dk_58 4 (dk_at dksX5_write_2_0 21 rfl rfl)
theorem dX5_write_2_23 : decode cX5_write_2 23 = .ok (.aload 4, 2) := dk_25 4 (dk_at dksX5_write_2_1 0 rfl rfl)
theorem dX5_write_2_25 : decode cX5_write_2 25 = .ok (.invokevirtual 48, 3) := dk_182 0 48 (dk_at dksX5_write_2_1 2 rfl rfl)
theorem dX5_write_2_28 : decode cX5_write_2 28 = .ok (.iload_n 2, 1) := dk_28 (dk_at dksX5_write_2_1 5 rfl rfl)
theorem dX5_write_2_29 : decode cX5_write_2 29 = .ok (.aload 4, 2) := dk_25 4 (dk_at dksX5_write_2_1 6 rfl rfl)
theorem dX5_write_2_31 : decode cX5_write_2 31 = .ok (.getfield 51, 3) := dk_180 0 51 (dk_at dksX5_write_2_1 8 rfl rfl)
theorem dX5_write_2_34 : decode cX5_write_2 34 = .ok (.iconst 0, 1) := dk_3 (dk_at dksX5_write_2_1 11 rfl rfl)
theorem dX5_write_2_35 : decode cX5_write_2 35 = .ok (.aaload, 1) := dk_50 (dk_at dksX5_write_2_1 12 rfl rfl)
theorem dX5_write_2_36 : decode cX5_write_2 36 = .ok (.getfield 75, 3) := dk_180 0 75 (dk_at dksX5_write_2_1 13 rfl rfl)
theorem dX5_write_2_39 : decode cX5_write_2 39 = .ok (.if_icmp .ge 19, 3) := dk_162 0 19 (dk_at dksX5_write_2_1 16 rfl rfl)
theorem dX5_write_2_42 : decode cX5_write_2 42 = .ok (.aload_n 0, 1) := dk_42 (dk_at dksX5_write_2_1 19 rfl rfl)
theorem dX5_write_2_43 : decode cX5_write_2 43 = .ok (.aload 4, 2) := dk_25 4 (dk_at dksX5_write_2_1 20 rfl rfl)
theorem dX5_write_2_45 : decode cX5_write_2 45 = .ok (.getfield 51, 3) := dk_180 0 51 (dk_at dksX5_write_2_2 0 rfl rfl)
theorem dX5_write_2_48 : decode cX5_write_2 48 = .ok (.iconst 0, 1) := dk_3 (dk_at dksX5_write_2_2 3 rfl rfl)
theorem dX5_write_2_49 : decode cX5_write_2 49 = .ok (.aaload, 1) := dk_50 (dk_at dksX5_write_2_2 4 rfl rfl)
theorem dX5_write_2_50 : decode cX5_write_2 50 = .ok (.iload_n 2, 1) := dk_28 (dk_at dksX5_write_2_2 5 rfl rfl)
theorem dX5_write_2_51 : decode cX5_write_2 51 = .ok (.iload_n 3, 1) := dk_29 (dk_at dksX5_write_2_2 6 rfl rfl)
theorem dX5_write_2_52 : decode cX5_write_2 52 = .ok (.invokevirtual 96, 3) := dk_182 0 96 (dk_at dksX5_write_2_2 7 rfl rfl)
theorem dX5_write_2_55 : decode cX5_write_2 55 = .ok (.goto 27, 3) := dk_167 0 27 (dk_at dksX5_write_2_2 10 rfl rfl)
theorem dX5_write_2_58 : decode cX5_write_2 58 = .ok (.aload_n 0, 1) := dk_42 (dk_at dksX5_write_2_2 13 rfl rfl)
theorem dX5_write_2_59 : decode cX5_write_2 59 = .ok (.aload 4, 2) := dk_25 4 (dk_at dksX5_write_2_2 14 rfl rfl)
theorem dX5_write_2_61 : decode cX5_write_2 61 = .ok (.getfield 51, 3) := dk_180 0 51 (dk_at dksX5_write_2_2 16 rfl rfl)
theorem dX5_write_2_64 : decode cX5_write_2 64 = .ok (.iconst 1, 1) := dk_4 (dk_at dksX5_write_2_2 19 rfl rfl)
theorem dX5_write_2_65 : decode cX5_write_2 65 = .ok (.aaload, 1) := dk_50 (dk_at dksX5_write_2_2 20 rfl rfl)
theorem dX5_write_2_66 : decode cX5_write_2 66 = .ok (.iload_n 2, 1) := dk_28 (dk_at dksX5_write_2_2 21 rfl rfl)
theorem dX5_write_2_67 : decode cX5_write_2 67 = .ok (.aload 4, 2) := dk_25 4 (dk_at dksX5_write_2_2 22 rfl rfl)
theorem dX5_write_2_69 : decode cX5_write_2 69 = .ok (.getfield 51, 3) := dk_180 0 51 (dk_at dksX5_write_2_3 0 rfl rfl)
theorem dX5_write_2_72 : decode cX5_write_2 72 = .ok (.iconst 0, 1) := dk_3 (dk_at dksX5_write_2_3 3 rfl rfl)
theorem dX5_write_2_73 : decode cX5_write_2 73 = .ok (.aaload, 1) := dk_50 (dk_at dksX5_write_2_3 4 rfl rfl)
theorem dX5_write_2_74 : decode cX5_write_2 74 = .ok (.getfield 75, 3) := dk_180 0 75 (dk_at dksX5_write_2_3 5 rfl rfl)
theorem dX5_write_2_77 : decode cX5_write_2 77 = .ok (.isub, 1) := dk_100 (dk_at dksX5_write_2_3 8 rfl rfl)
theorem dX5_write_2_78 : decode cX5_write_2 78 = .ok (.iload_n 3, 1) := dk_29 (dk_at dksX5_write_2_3 9 rfl rfl)
theorem dX5_write_2_79 : decode cX5_write_2 79 = .ok (.invokevirtual 96, 3) := dk_182 0 96 (dk_at dksX5_write_2_3 10 rfl rfl)
theorem dX5_write_2_82 : decode cX5_write_2 82 = .ok (.aload 4, 2) := dk_25 4 (dk_at dksX5_write_2_3 13 rfl rfl)
theorem dX5_write_2_84 : decode cX5_write_2 84 = .ok (.invokevirtual 99, 3) := dk_182 0 99 (dk_at dksX5_write_2_3 15 rfl rfl)
theorem dX5_write_2_87 : decode cX5_write_2 87 = .ok (.return_, 1) := dk_177 (dk_at dksX5_write_2_3 18 rfl rfl)
abbrev cX5_remove : ByteArray := prog_19_method_24_code
def yX5_remove : MethodName := ⟨RX5, "remove", "(I)V"⟩
def dkwX5_remove_4 : List UInt8 := [182, 0, 145, 167, 0, 20, 42, 180, 0, 11, 3, 50, 180, 0, 65, 154, 0, 8, 42, 3, 181, 0, 24, 177]
abbrev dktX5_remove_4 : List UInt8 := dkwX5_remove_4 ++ []
def dkwX5_remove_3 : List UInt8 := [161, 0, 4, 177, 42, 180, 0, 24, 4, 164, 0, 20, 42, 28, 42, 180, 0, 24, 5, 100, 184, 0, 109]
abbrev dktX5_remove_3 : List UInt8 := dkwX5_remove_3 ++ dktX5_remove_4
def dkwX5_remove_2 : List UInt8 := [28, 50, 42, 180, 0, 62, 182, 0, 142, 42, 180, 0, 11, 28, 50, 180, 0, 65, 42, 180, 0, 135]
abbrev dktX5_remove_2 : List UInt8 := dkwX5_remove_2 ++ dktX5_remove_3
def dkwX5_remove_1 : List UInt8 := [180, 0, 62, 182, 0, 72, 100, 181, 0, 21, 42, 89, 180, 0, 17, 4, 100, 181, 0, 17, 42, 180, 0, 11]
abbrev dktX5_remove_1 : List UInt8 := dkwX5_remove_1 ++ dktX5_remove_2
def dkwX5_remove_0 : List UInt8 := [42, 182, 0, 125, 42, 27, 182, 0, 68, 61, 42, 89, 180, 0, 21, 42, 180, 0, 11, 28, 50, 42]
abbrev dktX5_remove_0 : List UInt8 := dkwX5_remove_0 ++ dktX5_remove_1
theorem dksX5_remove_0 : cX5_remove.data.toList.drop 0 = dktX5_remove_0 := by decide +kernel
theorem dksX5_remove_1 : cX5_remove.data.toList.drop 22 = dktX5_remove_1 := dk_seg dksX5_remove_0 22 rfl rfl
theorem dksX5_remove_2 : cX5_remove.data.toList.drop 46 = dktX5_remove_2 := dk_seg dksX5_remove_1 24 rfl rfl
theorem dksX5_remove_3 : cX5_remove.data.toList.drop 68 = dktX5_remove_3 := dk_seg dksX5_remove_2 22 rfl rfl
theorem dksX5_remove_4 : cX5_remove.data.toList.drop 91 = dktX5_remove_4 := dk_seg dksX5_remove_3 23 rfl rfl
theorem dX5_remove_0 : decode cX5_remove 0 = .ok (.aload_n 0, 1) := dk_42 (dk_at dksX5_remove_0 0 rfl rfl)
theorem dX5_remove_1 : decode cX5_remove 1 = .ok (.invokevirtual 125, 3) := dk_182 0 125 (dk_at dksX5_remove_0 1 rfl rfl)
theorem dX5_remove_4 : decode cX5_remove 4 = .ok (.aload_n 0, 1) := dk_42 (dk_at dksX5_remove_0 4 rfl rfl)
theorem dX5_remove_5 : decode cX5_remove 5 = .ok (.iload_n 1, 1) := dk_27 (dk_at dksX5_remove_0 5 rfl rfl)
theorem dX5_remove_6 : decode cX5_remove 6 = .ok (.invokevirtual 68, 3) := dk_182 0 68 (dk_at dksX5_remove_0 6 rfl rfl)
theorem dX5_remove_9 : decode cX5_remove 9 = .ok (.istore_n 2, 1) := dk_61 (dk_at dksX5_remove_0 9 rfl rfl)
theorem dX5_remove_10 : decode cX5_remove 10 = .ok (.aload_n 0, 1) := dk_42 (dk_at dksX5_remove_0 10 rfl rfl)
theorem dX5_remove_11 : decode cX5_remove 11 = .ok (.dup, 1) := dk_89 (dk_at dksX5_remove_0 11 rfl rfl)
theorem dX5_remove_12 : decode cX5_remove 12 = .ok (.getfield 21, 3) := dk_180 0 21 (dk_at dksX5_remove_0 12 rfl rfl)
theorem dX5_remove_15 : decode cX5_remove 15 = .ok (.aload_n 0, 1) := dk_42 (dk_at dksX5_remove_0 15 rfl rfl)
theorem dX5_remove_16 : decode cX5_remove 16 = .ok (.getfield 11, 3) := dk_180 0 11 (dk_at dksX5_remove_0 16 rfl rfl)
theorem dX5_remove_19 : decode cX5_remove 19 = .ok (.iload_n 2, 1) := dk_28 (dk_at dksX5_remove_0 19 rfl rfl)
theorem dX5_remove_20 : decode cX5_remove 20 = .ok (.aaload, 1) := dk_50 (dk_at dksX5_remove_0 20 rfl rfl)
theorem dX5_remove_21 : decode cX5_remove 21 = .ok (.aload_n 0, 1) := dk_42 (dk_at dksX5_remove_0 21 rfl rfl)
theorem dX5_remove_22 : decode cX5_remove 22 = .ok (.getfield 62, 3) := dk_180 0 62 (dk_at dksX5_remove_1 0 rfl rfl)
theorem dX5_remove_25 : decode cX5_remove 25 = .ok (.invokevirtual 72, 3) := dk_182 0 72 (dk_at dksX5_remove_1 3 rfl rfl)
theorem dX5_remove_28 : decode cX5_remove 28 = .ok (.isub, 1) := dk_100 (dk_at dksX5_remove_1 6 rfl rfl)
theorem dX5_remove_29 : decode cX5_remove 29 = .ok (.putfield 21, 3) := dk_181 0 21 (dk_at dksX5_remove_1 7 rfl rfl)
theorem dX5_remove_32 : decode cX5_remove 32 = .ok (.aload_n 0, 1) := dk_42 (dk_at dksX5_remove_1 10 rfl rfl)
theorem dX5_remove_33 : decode cX5_remove 33 = .ok (.dup, 1) := dk_89 (dk_at dksX5_remove_1 11 rfl rfl)
theorem dX5_remove_34 : decode cX5_remove 34 = .ok (.getfield 17, 3) := dk_180 0 17 (dk_at dksX5_remove_1 12 rfl rfl)
theorem dX5_remove_37 : decode cX5_remove 37 = .ok (.iconst 1, 1) := dk_4 (dk_at dksX5_remove_1 15 rfl rfl)
theorem dX5_remove_38 : decode cX5_remove 38 = .ok (.isub, 1) := dk_100 (dk_at dksX5_remove_1 16 rfl rfl)
theorem dX5_remove_39 : decode cX5_remove 39 = .ok (.putfield 17, 3) := dk_181 0 17 (dk_at dksX5_remove_1 17 rfl rfl)
theorem dX5_remove_42 : decode cX5_remove 42 = .ok (.aload_n 0, 1) := dk_42 (dk_at dksX5_remove_1 20 rfl rfl)
theorem dX5_remove_43 : decode cX5_remove 43 = .ok (.getfield 11, 3) := dk_180 0 11 (dk_at dksX5_remove_1 21 rfl rfl)
theorem dX5_remove_46 : decode cX5_remove 46 = .ok (.iload_n 2, 1) := dk_28 (dk_at dksX5_remove_2 0 rfl rfl)
theorem dX5_remove_47 : decode cX5_remove 47 = .ok (.aaload, 1) := dk_50 (dk_at dksX5_remove_2 1 rfl rfl)
theorem dX5_remove_48 : decode cX5_remove 48 = .ok (.aload_n 0, 1) := dk_42 (dk_at dksX5_remove_2 2 rfl rfl)
theorem dX5_remove_49 : decode cX5_remove 49 = .ok (.getfield 62, 3) := dk_180 0 62 (dk_at dksX5_remove_2 3 rfl rfl)
theorem dX5_remove_52 : decode cX5_remove 52 = .ok (.invokevirtual 142, 3) := dk_182 0 142 (dk_at dksX5_remove_2 6 rfl rfl)
theorem dX5_remove_55 : decode cX5_remove 55 = .ok (.aload_n 0, 1) := dk_42 (dk_at dksX5_remove_2 9 rfl rfl)
theorem dX5_remove_56 : decode cX5_remove 56 = .ok (.getfield 11, 3) := dk_180 0 11 (dk_at dksX5_remove_2 10 rfl rfl)
theorem dX5_remove_59 : decode cX5_remove 59 = .ok (.iload_n 2, 1) := dk_28 (dk_at dksX5_remove_2 13 rfl rfl)
theorem dX5_remove_60 : decode cX5_remove 60 = .ok (.aaload, 1) := dk_50 (dk_at dksX5_remove_2 14 rfl rfl)
theorem dX5_remove_61 : decode cX5_remove 61 = .ok (.getfield 65, 3) := dk_180 0 65 (dk_at dksX5_remove_2 15 rfl rfl)
theorem dX5_remove_64 : decode cX5_remove 64 = .ok (.aload_n 0, 1) := dk_42 (dk_at dksX5_remove_2 18 rfl rfl)
theorem dX5_remove_65 : decode cX5_remove 65 = .ok (.getfield 135, 3) := dk_180 0 135 (dk_at dksX5_remove_2 19 rfl rfl)
theorem dX5_remove_68 : decode cX5_remove 68 = .ok (.if_icmp .lt 4, 3) := dk_161 0 4 (dk_at dksX5_remove_3 0 rfl rfl)
theorem dX5_remove_71 : decode cX5_remove 71 = .ok (.return_, 1) := dk_177 (dk_at dksX5_remove_3 3 rfl rfl)
theorem dX5_remove_72 : decode cX5_remove 72 = .ok (.aload_n 0, 1) := dk_42 (dk_at dksX5_remove_3 4 rfl rfl)
theorem dX5_remove_73 : decode cX5_remove 73 = .ok (.getfield 24, 3) := dk_180 0 24 (dk_at dksX5_remove_3 5 rfl rfl)
theorem dX5_remove_76 : decode cX5_remove 76 = .ok (.iconst 1, 1) := dk_4 (dk_at dksX5_remove_3 8 rfl rfl)
theorem dX5_remove_77 : decode cX5_remove 77 = .ok (.if_icmp .le 20, 3) := dk_164 0 20 (dk_at dksX5_remove_3 9 rfl rfl)
theorem dX5_remove_80 : decode cX5_remove 80 = .ok (.aload_n 0, 1) := dk_42 (dk_at dksX5_remove_3 12 rfl rfl)
theorem dX5_remove_81 : decode cX5_remove 81 = .ok (.iload_n 2, 1) := dk_28 (dk_at dksX5_remove_3 13 rfl rfl)
theorem dX5_remove_82 : decode cX5_remove 82 = .ok (.aload_n 0, 1) := dk_42 (dk_at dksX5_remove_3 14 rfl rfl)
theorem dX5_remove_83 : decode cX5_remove 83 = .ok (.getfield 24, 3) := dk_180 0 24 (dk_at dksX5_remove_3 15 rfl rfl)
theorem dX5_remove_86 : decode cX5_remove 86 = .ok (.iconst 2, 1) := dk_5 (dk_at dksX5_remove_3 18 rfl rfl)
theorem dX5_remove_87 : decode cX5_remove 87 = .ok (.isub, 1) := dk_100 (dk_at dksX5_remove_3 19 rfl rfl)
theorem dX5_remove_88 : decode cX5_remove 88 = .ok (.invokestatic 109, 3) := dk_184 0 109 (dk_at dksX5_remove_3 20 rfl rfl)
theorem dX5_remove_91 : decode cX5_remove 91 = .ok (.invokevirtual 145, 3) := dk_182 0 145 (dk_at dksX5_remove_4 0 rfl rfl)
theorem dX5_remove_94 : decode cX5_remove 94 = .ok (.goto 20, 3) := dk_167 0 20 (dk_at dksX5_remove_4 3 rfl rfl)
theorem dX5_remove_97 : decode cX5_remove 97 = .ok (.aload_n 0, 1) := dk_42 (dk_at dksX5_remove_4 6 rfl rfl)
theorem dX5_remove_98 : decode cX5_remove 98 = .ok (.getfield 11, 3) := dk_180 0 11 (dk_at dksX5_remove_4 7 rfl rfl)
theorem dX5_remove_101 : decode cX5_remove 101 = .ok (.iconst 0, 1) := dk_3 (dk_at dksX5_remove_4 10 rfl rfl)
theorem dX5_remove_102 : decode cX5_remove 102 = .ok (.aaload, 1) := dk_50 (dk_at dksX5_remove_4 11 rfl rfl)
theorem dX5_remove_103 : decode cX5_remove 103 = .ok (.getfield 65, 3) := dk_180 0 65 (dk_at dksX5_remove_4 12 rfl rfl)
theorem dX5_remove_106 : decode cX5_remove 106 = .ok (.ifCond .ne 8, 3) := dk_154 0 8 (dk_at dksX5_remove_4 15 rfl rfl)
theorem dX5_remove_109 : decode cX5_remove 109 = .ok (.aload_n 0, 1) := dk_42 (dk_at dksX5_remove_4 18 rfl rfl)
theorem dX5_remove_110 : decode cX5_remove 110 = .ok (.iconst 0, 1) := dk_3 (dk_at dksX5_remove_4 19 rfl rfl)
theorem dX5_remove_111 : decode cX5_remove 111 = .ok (.putfield 24, 3) := dk_181 0 24 (dk_at dksX5_remove_4 20 rfl rfl)
theorem dX5_remove_114 : decode cX5_remove 114 = .ok (.return_, 1) := dk_177 (dk_at dksX5_remove_4 23 rfl rfl)
abbrev cX5_merge : ByteArray := prog_19_method_26_code
def yX5_merge : MethodName := ⟨RX5, "merge", "(I)V"⟩
def dkwX5_merge_7 : List UInt8 := [180, 0, 24, 45, 83, 177]
abbrev dktX5_merge_7 : List UInt8 := dkwX5_merge_7 ++ []
def dkwX5_merge_6 : List UInt8 := [27, 100, 5, 100, 184, 0, 148, 42, 89, 180, 0, 24, 4, 100, 181, 0, 24, 42, 180, 0, 11, 42]
abbrev dktX5_merge_6 : List UInt8 := dkwX5_merge_6 ++ dktX5_merge_7
def dkwX5_merge_5 : List UInt8 := [180, 0, 65, 182, 0, 154, 42, 180, 0, 11, 27, 5, 96, 42, 180, 0, 11, 27, 4, 96, 42, 180, 0, 24]
abbrev dktX5_merge_5 : List UInt8 := dkwX5_merge_5 ++ dktX5_merge_6
def dkwX5_merge_4 : List UInt8 := [182, 0, 72, 182, 0, 132, 44, 44, 180, 0, 65, 4, 100, 182, 0, 142, 167, 255, 222, 177, 44, 45, 3, 45]
abbrev dktX5_merge_4 : List UInt8 := dkwX5_merge_4 ++ dktX5_merge_5
def dkwX5_merge_3 : List UInt8 := [182, 0, 142, 167, 255, 229, 44, 180, 0, 65, 21, 5, 164, 0, 31, 45, 3, 44, 44, 180, 0, 65, 4, 100]
abbrev dktX5_merge_3 : List UInt8 := dkwX5_merge_3 ++ dktX5_merge_4
def dkwX5_merge_2 : List UInt8 := [180, 0, 65, 21, 5, 162, 0, 24, 44, 44, 180, 0, 65, 45, 3, 182, 0, 72, 182, 0, 132, 45, 3]
abbrev dktX5_merge_2 : List UInt8 := dkwX5_merge_2 ++ dktX5_merge_3
def dkwX5_merge_1 : List UInt8 := [96, 54, 4, 21, 4, 5, 42, 180, 0, 135, 104, 164, 0, 79, 21, 4, 4, 96, 5, 108, 54, 5, 44]
abbrev dktX5_merge_1 : List UInt8 := dkwX5_merge_1 ++ dktX5_merge_2
def dkwX5_merge_0 : List UInt8 := [42, 180, 0, 11, 27, 50, 77, 42, 180, 0, 11, 27, 4, 96, 50, 78, 44, 180, 0, 65, 45, 180, 0, 65]
abbrev dktX5_merge_0 : List UInt8 := dkwX5_merge_0 ++ dktX5_merge_1
theorem dksX5_merge_0 : cX5_merge.data.toList.drop 0 = dktX5_merge_0 := by decide +kernel
theorem dksX5_merge_1 : cX5_merge.data.toList.drop 24 = dktX5_merge_1 := dk_seg dksX5_merge_0 24 rfl rfl
theorem dksX5_merge_2 : cX5_merge.data.toList.drop 47 = dktX5_merge_2 := dk_seg dksX5_merge_1 23 rfl rfl
theorem dksX5_merge_3 : cX5_merge.data.toList.drop 70 = dktX5_merge_3 := dk_seg dksX5_merge_2 23 rfl rfl
theorem dksX5_merge_4 : cX5_merge.data.toList.drop 94 = dktX5_merge_4 := dk_seg dksX5_merge_3 24 rfl rfl
theorem dksX5_merge_5 : cX5_merge.data.toList.drop 118 = dktX5_merge_5 := dk_seg dksX5_merge_4 24 rfl rfl
theorem dksX5_merge_6 : cX5_merge.data.toList.drop 142 = dktX5_merge_6 := dk_seg dksX5_merge_5 24 rfl rfl
theorem dksX5_merge_7 : cX5_merge.data.toList.drop 164 = dktX5_merge_7 := dk_seg dksX5_merge_6 22 rfl rfl
theorem dX5_merge_0 : decode cX5_merge 0 = .ok (.aload_n 0, 1) := dk_42 (dk_at dksX5_merge_0 0 rfl rfl)
theorem dX5_merge_1 : decode cX5_merge 1 = .ok (.getfield 11, 3) := dk_180 0 11 (dk_at dksX5_merge_0 1 rfl rfl)
theorem dX5_merge_4 : decode cX5_merge 4 = .ok (.iload_n 1, 1) := dk_27 (dk_at dksX5_merge_0 4 rfl rfl)
theorem dX5_merge_5 : decode cX5_merge 5 = .ok (.aaload, 1) := dk_50 (dk_at dksX5_merge_0 5 rfl rfl)
theorem dX5_merge_6 : decode cX5_merge 6 = .ok (.astore_n 2, 1) := dk_77 (dk_at dksX5_merge_0 6 rfl rfl)
theorem dX5_merge_7 : decode cX5_merge 7 = .ok (.aload_n 0, 1) := dk_42 (dk_at dksX5_merge_0 7 rfl rfl)
theorem dX5_merge_8 : decode cX5_merge 8 = .ok (.getfield 11, 3) := dk_180 0 11 (dk_at dksX5_merge_0 8 rfl rfl)
theorem dX5_merge_11 : decode cX5_merge 11 = .ok (.iload_n 1, 1) := dk_27 (dk_at dksX5_merge_0 11 rfl rfl)
theorem dX5_merge_12 : decode cX5_merge 12 = .ok (.iconst 1, 1) := dk_4 (dk_at dksX5_merge_0 12 rfl rfl)
theorem dX5_merge_13 : decode cX5_merge 13 = .ok (.iadd, 1) := dk_96 (dk_at dksX5_merge_0 13 rfl rfl)
theorem dX5_merge_14 : decode cX5_merge 14 = .ok (.aaload, 1) := dk_50 (dk_at dksX5_merge_0 14 rfl rfl)
theorem dX5_merge_15 : decode cX5_merge 15 = .ok (.astore_n 3, 1) := dk_78 (dk_at dksX5_merge_0 15 rfl rfl)
theorem dX5_merge_16 : decode cX5_merge 16 = .ok (.aload_n 2, 1) := dk_44 (dk_at dksX5_merge_0 16 rfl rfl)
theorem dX5_merge_17 : decode cX5_merge 17 = .ok (.getfield 65, 3) := dk_180 0 65 (dk_at dksX5_merge_0 17 rfl rfl)
theorem dX5_merge_20 : decode cX5_merge 20 = .ok (.aload_n 3, 1) := dk_45 (dk_at dksX5_merge_0 20 rfl rfl)
theorem dX5_merge_21 : decode cX5_merge 21 = .ok (.getfield 65, 3) := dk_180 0 65 (dk_at dksX5_merge_0 21 rfl rfl)
theorem dX5_merge_24 : decode cX5_merge 24 = .ok (.iadd, 1) := dk_96 (dk_at dksX5_merge_1 0 rfl rfl)
theorem dX5_merge_25 : decode cX5_merge 25 = .ok (.istore 4, 2) := dk_54 4 (dk_at dksX5_merge_1 1 rfl rfl)
theorem dX5_merge_27 : decode cX5_merge 27 = .ok (.iload 4, 2) := dk_21 4 (dk_at dksX5_merge_1 3 rfl rfl)
theorem dX5_merge_29 : decode cX5_merge 29 = .ok (.iconst 2, 1) := dk_5 (dk_at dksX5_merge_1 5 rfl rfl)
theorem dX5_merge_30 : decode cX5_merge 30 = .ok (.aload_n 0, 1) := dk_42 (dk_at dksX5_merge_1 6 rfl rfl)
theorem dX5_merge_31 : decode cX5_merge 31 = .ok (.getfield 135, 3) := dk_180 0 135 (dk_at dksX5_merge_1 7 rfl rfl)
theorem dX5_merge_34 : decode cX5_merge 34 = .ok (.imul, 1) := dk_104 (dk_at dksX5_merge_1 10 rfl rfl)
theorem dX5_merge_35 : decode cX5_merge 35 = .ok (.if_icmp .le 79, 3) := dk_164 0 79 (dk_at dksX5_merge_1 11 rfl rfl)
theorem dX5_merge_38 : decode cX5_merge 38 = .ok (.iload 4, 2) := dk_21 4 (dk_at dksX5_merge_1 14 rfl rfl)
theorem dX5_merge_40 : decode cX5_merge 40 = .ok (.iconst 1, 1) := dk_4 (dk_at dksX5_merge_1 16 rfl rfl)
theorem dX5_merge_41 : decode cX5_merge 41 = .ok (.iadd, 1) := dk_96 (dk_at dksX5_merge_1 17 rfl rfl)
theorem dX5_merge_42 : decode cX5_merge 42 = .ok (.iconst 2, 1) := dk_5 (dk_at dksX5_merge_1 18 rfl rfl)
theorem dX5_merge_43 : decode cX5_merge 43 = .ok (.idiv, 1) := dk_108 (dk_at dksX5_merge_1 19 rfl rfl)
theorem dX5_merge_44 : decode cX5_merge 44 = .ok (.istore 5, 2) := dk_54 5 (dk_at dksX5_merge_1 20 rfl rfl)
theorem dX5_merge_46 : decode cX5_merge 46 = .ok (.aload_n 2, 1) := dk_44 (dk_at dksX5_merge_1 22 rfl rfl)
theorem dX5_merge_47 : decode cX5_merge 47 = .ok (.getfield 65, 3) := dk_180 0 65 (dk_at dksX5_merge_2 0 rfl rfl)
theorem dX5_merge_50 : decode cX5_merge 50 = .ok (.iload 5, 2) := dk_21 5 (dk_at dksX5_merge_2 3 rfl rfl)
theorem dX5_merge_52 : decode cX5_merge 52 = .ok (.if_icmp .ge 24, 3) := dk_162 0 24 (dk_at dksX5_merge_2 5 rfl rfl)
theorem dX5_merge_55 : decode cX5_merge 55 = .ok (.aload_n 2, 1) := dk_44 (dk_at dksX5_merge_2 8 rfl rfl)
theorem dX5_merge_56 : decode cX5_merge 56 = .ok (.aload_n 2, 1) := dk_44 (dk_at dksX5_merge_2 9 rfl rfl)
theorem dX5_merge_57 : decode cX5_merge 57 = .ok (.getfield 65, 3) := dk_180 0 65 (dk_at dksX5_merge_2 10 rfl rfl)
theorem dX5_merge_60 : decode cX5_merge 60 = .ok (.aload_n 3, 1) := dk_45 (dk_at dksX5_merge_2 13 rfl rfl)
theorem dX5_merge_61 : decode cX5_merge 61 = .ok (.iconst 0, 1) := dk_3 (dk_at dksX5_merge_2 14 rfl rfl)
theorem dX5_merge_62 : decode cX5_merge 62 = .ok (.invokevirtual 72, 3) := dk_182 0 72 (dk_at dksX5_merge_2 15 rfl rfl)
theorem dX5_merge_65 : decode cX5_merge 65 = .ok (.invokevirtual 132, 3) := dk_182 0 132 (dk_at dksX5_merge_2 18 rfl rfl)
theorem dX5_merge_68 : decode cX5_merge 68 = .ok (.aload_n 3, 1) := dk_45 (dk_at dksX5_merge_2 21 rfl rfl)
theorem dX5_merge_69 : decode cX5_merge 69 = .ok (.iconst 0, 1) := dk_3 (dk_at dksX5_merge_2 22 rfl rfl)
theorem dX5_merge_70 : decode cX5_merge 70 = .ok (.invokevirtual 142, 3) := dk_182 0 142 (dk_at dksX5_merge_3 0 rfl rfl)
theorem dX5_merge_73 : decode cX5_merge 73 = .ok (.goto (-27), 3) := dk_167 255 229 (dk_at dksX5_merge_3 3 rfl rfl)
theorem dX5_merge_76 : decode cX5_merge 76 = .ok (.aload_n 2, 1) := dk_44 (dk_at dksX5_merge_3 6 rfl rfl)
theorem dX5_merge_77 : decode cX5_merge 77 = .ok (.getfield 65, 3) := dk_180 0 65 (dk_at dksX5_merge_3 7 rfl rfl)
theorem dX5_merge_80 : decode cX5_merge 80 = .ok (.iload 5, 2) := dk_21 5 (dk_at dksX5_merge_3 10 rfl rfl)
theorem dX5_merge_82 : decode cX5_merge 82 = .ok (.if_icmp .le 31, 3) := dk_164 0 31 (dk_at dksX5_merge_3 12 rfl rfl)
theorem dX5_merge_85 : decode cX5_merge 85 = .ok (.aload_n 3, 1) := dk_45 (dk_at dksX5_merge_3 15 rfl rfl)
theorem dX5_merge_86 : decode cX5_merge 86 = .ok (.iconst 0, 1) := dk_3 (dk_at dksX5_merge_3 16 rfl rfl)
theorem dX5_merge_87 : decode cX5_merge 87 = .ok (.aload_n 2, 1) := dk_44 (dk_at dksX5_merge_3 17 rfl rfl)
theorem dX5_merge_88 : decode cX5_merge 88 = .ok (.aload_n 2, 1) := dk_44 (dk_at dksX5_merge_3 18 rfl rfl)
theorem dX5_merge_89 : decode cX5_merge 89 = .ok (.getfield 65, 3) := dk_180 0 65 (dk_at dksX5_merge_3 19 rfl rfl)
theorem dX5_merge_92 : decode cX5_merge 92 = .ok (.iconst 1, 1) := dk_4 (dk_at dksX5_merge_3 22 rfl rfl)
theorem dX5_merge_93 : decode cX5_merge 93 = .ok (.isub, 1) := dk_100 (dk_at dksX5_merge_3 23 rfl rfl)
theorem dX5_merge_94 : decode cX5_merge 94 = .ok (.invokevirtual 72, 3) := dk_182 0 72 (dk_at dksX5_merge_4 0 rfl rfl)
theorem dX5_merge_97 : decode cX5_merge 97 = .ok (.invokevirtual 132, 3) := dk_182 0 132 (dk_at dksX5_merge_4 3 rfl rfl)
theorem dX5_merge_100 : decode cX5_merge 100 = .ok (.aload_n 2, 1) := dk_44 (dk_at dksX5_merge_4 6 rfl rfl)
theorem dX5_merge_101 : decode cX5_merge 101 = .ok (.aload_n 2, 1) := dk_44 (dk_at dksX5_merge_4 7 rfl rfl)
theorem dX5_merge_102 : decode cX5_merge 102 = .ok (.getfield 65, 3) := dk_180 0 65 (dk_at dksX5_merge_4 8 rfl rfl)
theorem dX5_merge_105 : decode cX5_merge 105 = .ok (.iconst 1, 1) := dk_4 (dk_at dksX5_merge_4 11 rfl rfl)
theorem dX5_merge_106 : decode cX5_merge 106 = .ok (.isub, 1) := dk_100 (dk_at dksX5_merge_4 12 rfl rfl)
theorem dX5_merge_107 : decode cX5_merge 107 = .ok (.invokevirtual 142, 3) := dk_182 0 142 (dk_at dksX5_merge_4 13 rfl rfl)
theorem dX5_merge_110 : decode cX5_merge 110 = .ok (.goto (-34), 3) := dk_167 255 222 (dk_at dksX5_merge_4 16 rfl rfl)
theorem dX5_merge_113 : decode cX5_merge 113 = .ok (.return_, 1) := dk_177 (dk_at dksX5_merge_4 19 rfl rfl)
theorem dX5_merge_114 : decode cX5_merge 114 = .ok (.aload_n 2, 1) := dk_44 (dk_at dksX5_merge_4 20 rfl rfl)
theorem dX5_merge_115 : decode cX5_merge 115 = .ok (.aload_n 3, 1) := dk_45 (dk_at dksX5_merge_4 21 rfl rfl)
theorem dX5_merge_116 : decode cX5_merge 116 = .ok (.iconst 0, 1) := dk_3 (dk_at dksX5_merge_4 22 rfl rfl)
theorem dX5_merge_117 : decode cX5_merge 117 = .ok (.aload_n 3, 1) := dk_45 (dk_at dksX5_merge_4 23 rfl rfl)
theorem dX5_merge_118 : decode cX5_merge 118 = .ok (.getfield 65, 3) := dk_180 0 65 (dk_at dksX5_merge_5 0 rfl rfl)
theorem dX5_merge_121 : decode cX5_merge 121 = .ok (.invokevirtual 154, 3) := dk_182 0 154 (dk_at dksX5_merge_5 3 rfl rfl)
theorem dX5_merge_124 : decode cX5_merge 124 = .ok (.aload_n 0, 1) := dk_42 (dk_at dksX5_merge_5 6 rfl rfl)
theorem dX5_merge_125 : decode cX5_merge 125 = .ok (.getfield 11, 3) := dk_180 0 11 (dk_at dksX5_merge_5 7 rfl rfl)
theorem dX5_merge_128 : decode cX5_merge 128 = .ok (.iload_n 1, 1) := dk_27 (dk_at dksX5_merge_5 10 rfl rfl)
theorem dX5_merge_129 : decode cX5_merge 129 = .ok (.iconst 2, 1) := dk_5 (dk_at dksX5_merge_5 11 rfl rfl)
theorem dX5_merge_130 : decode cX5_merge 130 = .ok (.iadd, 1) := dk_96 (dk_at dksX5_merge_5 12 rfl rfl)
theorem dX5_merge_131 : decode cX5_merge 131 = .ok (.aload_n 0, 1) := dk_42 (dk_at dksX5_merge_5 13 rfl rfl)
theorem dX5_merge_132 : decode cX5_merge 132 = .ok (.getfield 11, 3) := dk_180 0 11 (dk_at dksX5_merge_5 14 rfl rfl)
theorem dX5_merge_135 : decode cX5_merge 135 = .ok (.iload_n 1, 1) := dk_27 (dk_at dksX5_merge_5 17 rfl rfl)
theorem dX5_merge_136 : decode cX5_merge 136 = .ok (.iconst 1, 1) := dk_4 (dk_at dksX5_merge_5 18 rfl rfl)
theorem dX5_merge_137 : decode cX5_merge 137 = .ok (.iadd, 1) := dk_96 (dk_at dksX5_merge_5 19 rfl rfl)
theorem dX5_merge_138 : decode cX5_merge 138 = .ok (.aload_n 0, 1) := dk_42 (dk_at dksX5_merge_5 20 rfl rfl)
theorem dX5_merge_139 : decode cX5_merge 139 = .ok (.getfield 24, 3) := dk_180 0 24 (dk_at dksX5_merge_5 21 rfl rfl)
theorem dX5_merge_142 : decode cX5_merge 142 = .ok (.iload_n 1, 1) := dk_27 (dk_at dksX5_merge_6 0 rfl rfl)
theorem dX5_merge_143 : decode cX5_merge 143 = .ok (.isub, 1) := dk_100 (dk_at dksX5_merge_6 1 rfl rfl)
theorem dX5_merge_144 : decode cX5_merge 144 = .ok (.iconst 2, 1) := dk_5 (dk_at dksX5_merge_6 2 rfl rfl)
theorem dX5_merge_145 : decode cX5_merge 145 = .ok (.isub, 1) := dk_100 (dk_at dksX5_merge_6 3 rfl rfl)
theorem dX5_merge_146 : decode cX5_merge 146 = .ok (.invokestatic 148, 3) := dk_184 0 148 (dk_at dksX5_merge_6 4 rfl rfl)
theorem dX5_merge_149 : decode cX5_merge 149 = .ok (.aload_n 0, 1) := dk_42 (dk_at dksX5_merge_6 7 rfl rfl)
theorem dX5_merge_150 : decode cX5_merge 150 = .ok (.dup, 1) := dk_89 (dk_at dksX5_merge_6 8 rfl rfl)
theorem dX5_merge_151 : decode cX5_merge 151 = .ok (.getfield 24, 3) := dk_180 0 24 (dk_at dksX5_merge_6 9 rfl rfl)
theorem dX5_merge_154 : decode cX5_merge 154 = .ok (.iconst 1, 1) := dk_4 (dk_at dksX5_merge_6 12 rfl rfl)
theorem dX5_merge_155 : decode cX5_merge 155 = .ok (.isub, 1) := dk_100 (dk_at dksX5_merge_6 13 rfl rfl)
theorem dX5_merge_156 : decode cX5_merge 156 = .ok (.putfield 24, 3) := dk_181 0 24 (dk_at dksX5_merge_6 14 rfl rfl)
theorem dX5_merge_159 : decode cX5_merge 159 = .ok (.aload_n 0, 1) := dk_42 (dk_at dksX5_merge_6 17 rfl rfl)
theorem dX5_merge_160 : decode cX5_merge 160 = .ok (.getfield 11, 3) := dk_180 0 11 (dk_at dksX5_merge_6 18 rfl rfl)
theorem dX5_merge_163 : decode cX5_merge 163 = .ok (.aload_n 0, 1) := dk_42 (dk_at dksX5_merge_6 21 rfl rfl)
theorem dX5_merge_164 : decode cX5_merge 164 = .ok (.getfield 24, 3) := dk_180 0 24 (dk_at dksX5_merge_7 0 rfl rfl)
theorem dX5_merge_167 : decode cX5_merge 167 = .ok (.aload_n 3, 1) := dk_45 (dk_at dksX5_merge_7 3 rfl rfl)
theorem dX5_merge_168 : decode cX5_merge 168 = .ok (.aastore, 1) := dk_83 (dk_at dksX5_merge_7 4 rfl rfl)
theorem dX5_merge_169 : decode cX5_merge 169 = .ok (.return_, 1) := dk_177 (dk_at dksX5_merge_7 5 rfl rfl)
abbrev cX5_flip : ByteArray := prog_19_method_21_code
def yX5_flip : MethodName := ⟨RX5, "flip", "(II)V"⟩
def dkwX5_flip_4 : List UInt8 := [184, 0, 109, 182, 0, 115, 21, 4, 21, 6, 96, 54, 4, 132, 5, 1, 167, 255, 197, 177]
abbrev dktX5_flip_4 : List UInt8 := dkwX5_flip_4 ++ []
def dkwX5_flip_3 : List UInt8 := [54, 6, 42, 42, 180, 0, 11, 21, 5, 50, 27, 21, 4, 100, 3, 184, 0, 117, 28, 21, 4, 100, 21, 6]
abbrev dktX5_flip_3 : List UInt8 := dkwX5_flip_3 ++ dktX5_flip_4
def dkwX5_flip_2 : List UInt8 := [54, 4, 3, 54, 5, 21, 5, 42, 180, 0, 24, 162, 0, 56, 42, 180, 0, 11, 21, 5, 50, 180, 0, 65]
abbrev dktX5_flip_2 : List UInt8 := dkwX5_flip_2 ++ dktX5_flip_3
def dkwX5_flip_1 : List UInt8 := [96, 181, 0, 21, 42, 180, 0, 31, 153, 0, 14, 42, 42, 180, 0, 27, 27, 28, 182, 0, 115, 177, 3]
abbrev dktX5_flip_1 : List UInt8 := dkwX5_flip_1 ++ dktX5_flip_2
def dkwX5_flip_0 : List UInt8 := [42, 28, 182, 0, 83, 42, 27, 182, 0, 83, 100, 62, 42, 89, 180, 0, 21, 28, 27, 100, 5, 29, 104, 100]
abbrev dktX5_flip_0 : List UInt8 := dkwX5_flip_0 ++ dktX5_flip_1
theorem dksX5_flip_0 : cX5_flip.data.toList.drop 0 = dktX5_flip_0 := by decide +kernel
theorem dksX5_flip_1 : cX5_flip.data.toList.drop 24 = dktX5_flip_1 := dk_seg dksX5_flip_0 24 rfl rfl
theorem dksX5_flip_2 : cX5_flip.data.toList.drop 47 = dktX5_flip_2 := dk_seg dksX5_flip_1 23 rfl rfl
theorem dksX5_flip_3 : cX5_flip.data.toList.drop 71 = dktX5_flip_3 := dk_seg dksX5_flip_2 24 rfl rfl
theorem dksX5_flip_4 : cX5_flip.data.toList.drop 95 = dktX5_flip_4 := dk_seg dksX5_flip_3 24 rfl rfl
theorem dX5_flip_0 : decode cX5_flip 0 = .ok (.aload_n 0, 1) := dk_42 (dk_at dksX5_flip_0 0 rfl rfl)
theorem dX5_flip_1 : decode cX5_flip 1 = .ok (.iload_n 2, 1) := dk_28 (dk_at dksX5_flip_0 1 rfl rfl)
theorem dX5_flip_2 : decode cX5_flip 2 = .ok (.invokevirtual 83, 3) := dk_182 0 83 (dk_at dksX5_flip_0 2 rfl rfl)
theorem dX5_flip_5 : decode cX5_flip 5 = .ok (.aload_n 0, 1) := dk_42 (dk_at dksX5_flip_0 5 rfl rfl)
theorem dX5_flip_6 : decode cX5_flip 6 = .ok (.iload_n 1, 1) := dk_27 (dk_at dksX5_flip_0 6 rfl rfl)
theorem dX5_flip_7 : decode cX5_flip 7 = .ok (.invokevirtual 83, 3) := dk_182 0 83 (dk_at dksX5_flip_0 7 rfl rfl)
theorem dX5_flip_10 : decode cX5_flip 10 = .ok (.isub, 1) := dk_100 (dk_at dksX5_flip_0 10 rfl rfl)
theorem dX5_flip_11 : decode cX5_flip 11 = .ok (.istore_n 3, 1) := dk_62 (dk_at dksX5_flip_0 11 rfl rfl)
theorem dX5_flip_12 : decode cX5_flip 12 = .ok (.aload_n 0, 1) := dk_42 (dk_at dksX5_flip_0 12 rfl rfl)
theorem dX5_flip_13 : decode cX5_flip 13 = .ok (.dup, 1) := dk_89 (dk_at dksX5_flip_0 13 rfl rfl)
theorem dX5_flip_14 : decode cX5_flip 14 = .ok (.getfield 21, 3) := dk_180 0 21 (dk_at dksX5_flip_0 14 rfl rfl)
theorem dX5_flip_17 : decode cX5_flip 17 = .ok (.iload_n 2, 1) := dk_28 (dk_at dksX5_flip_0 17 rfl rfl)
theorem dX5_flip_18 : decode cX5_flip 18 = .ok (.iload_n 1, 1) := dk_27 (dk_at dksX5_flip_0 18 rfl rfl)
theorem dX5_flip_19 : decode cX5_flip 19 = .ok (.isub, 1) := dk_100 (dk_at dksX5_flip_0 19 rfl rfl)
theorem dX5_flip_20 : decode cX5_flip 20 = .ok (.iconst 2, 1) := dk_5 (dk_at dksX5_flip_0 20 rfl rfl)
theorem dX5_flip_21 : decode cX5_flip 21 = .ok (.iload_n 3, 1) := dk_29 (dk_at dksX5_flip_0 21 rfl rfl)
theorem dX5_flip_22 : decode cX5_flip 22 = .ok (.imul, 1) := dk_104 (dk_at dksX5_flip_0 22 rfl rfl)
theorem dX5_flip_23 : decode cX5_flip 23 = .ok (.isub, 1) := dk_100 (dk_at dksX5_flip_0 23 rfl rfl)
theorem dX5_flip_24 : decode cX5_flip 24 = .ok (.iadd, 1) := dk_96 (dk_at dksX5_flip_1 0 rfl rfl)
theorem dX5_flip_25 : decode cX5_flip 25 = .ok (.putfield 21, 3) := dk_181 0 21 (dk_at dksX5_flip_1 1 rfl rfl)
theorem dX5_flip_28 : decode cX5_flip 28 = .ok (.aload_n 0, 1) := dk_42 (dk_at dksX5_flip_1 4 rfl rfl)
theorem dX5_flip_29 : decode cX5_flip 29 = .ok (.getfield 31, 3) := dk_180 0 31 (dk_at dksX5_flip_1 5 rfl rfl)
theorem dX5_flip_32 : decode cX5_flip 32 = .ok (.ifCond .eq 14, 3) := dk_153 0 14 (dk_at dksX5_flip_1 8 rfl rfl)
theorem dX5_flip_35 : decode cX5_flip 35 = .ok (.aload_n 0, 1) := dk_42 (dk_at dksX5_flip_1 11 rfl rfl)
theorem dX5_flip_36 : decode cX5_flip 36 = .ok (.aload_n 0, 1) := dk_42 (dk_at dksX5_flip_1 12 rfl rfl)
theorem dX5_flip_37 : decode cX5_flip 37 = .ok (.getfield 27, 3) := dk_180 0 27 (dk_at dksX5_flip_1 13 rfl rfl)
theorem dX5_flip_40 : decode cX5_flip 40 = .ok (.iload_n 1, 1) := dk_27 (dk_at dksX5_flip_1 16 rfl rfl)
theorem dX5_flip_41 : decode cX5_flip 41 = .ok (.iload_n 2, 1) := dk_28 (dk_at dksX5_flip_1 17 rfl rfl)
theorem dX5_flip_42 : decode cX5_flip 42 = .ok (.invokevirtual 115, 3) := dk_182 0 115 (dk_at dksX5_flip_1 18 rfl rfl)
theorem dX5_flip_45 : decode cX5_flip 45 = .ok (.return_, 1) := dk_177 (dk_at dksX5_flip_1 21 rfl rfl)
theorem dX5_flip_46 : decode cX5_flip 46 = .ok (.iconst 0, 1) := dk_3 (dk_at dksX5_flip_1 22 rfl rfl)
theorem dX5_flip_47 : decode cX5_flip 47 = .ok (.istore 4, 2) := dk_54 4 (dk_at dksX5_flip_2 0 rfl rfl)
theorem dX5_flip_49 : decode cX5_flip 49 = .ok (.iconst 0, 1) := dk_3 (dk_at dksX5_flip_2 2 rfl rfl)
theorem dX5_flip_50 : decode cX5_flip 50 = .ok (.istore 5, 2) := dk_54 5 (dk_at dksX5_flip_2 3 rfl rfl)
theorem dX5_flip_52 : decode cX5_flip 52 = .ok (.iload 5, 2) := dk_21 5 (dk_at dksX5_flip_2 5 rfl rfl)
theorem dX5_flip_54 : decode cX5_flip 54 = .ok (.aload_n 0, 1) := dk_42 (dk_at dksX5_flip_2 7 rfl rfl)
theorem dX5_flip_55 : decode cX5_flip 55 = .ok (.getfield 24, 3) := dk_180 0 24 (dk_at dksX5_flip_2 8 rfl rfl)
theorem dX5_flip_58 : decode cX5_flip 58 = .ok (.if_icmp .ge 56, 3) := dk_162 0 56 (dk_at dksX5_flip_2 11 rfl rfl)
theorem dX5_flip_61 : decode cX5_flip 61 = .ok (.aload_n 0, 1) := dk_42 (dk_at dksX5_flip_2 14 rfl rfl)
theorem dX5_flip_62 : decode cX5_flip 62 = .ok (.getfield 11, 3) := dk_180 0 11 (dk_at dksX5_flip_2 15 rfl rfl)
theorem dX5_flip_65 : decode cX5_flip 65 = .ok (.iload 5, 2) := dk_21 5 (dk_at dksX5_flip_2 18 rfl rfl)
theorem dX5_flip_67 : decode cX5_flip 67 = .ok (.aaload, 1) := dk_50 (dk_at dksX5_flip_2 20 rfl rfl)
theorem dX5_flip_68 : decode cX5_flip 68 = .ok (.getfield 65, 3) := dk_180 0 65 (dk_at dksX5_flip_2 21 rfl rfl)
theorem dX5_flip_71 : decode cX5_flip 71 = .ok (.istore 6, 2) := dk_54 6 (dk_at dksX5_flip_3 0 rfl rfl)
theorem dX5_flip_73 : decode cX5_flip 73 = .ok (.aload_n 0, 1) := dk_42 (dk_at dksX5_flip_3 2 rfl rfl)
theorem dX5_flip_74 : decode cX5_flip 74 = .ok (.aload_n 0, 1) := dk_42 (dk_at dksX5_flip_3 3 rfl rfl)
theorem dX5_flip_75 : decode cX5_flip 75 = .ok (.getfield 11, 3) := dk_180 0 11 (dk_at dksX5_flip_3 4 rfl rfl)
theorem dX5_flip_78 : decode cX5_flip 78 = .ok (.iload 5, 2) := dk_21 5 (dk_at dksX5_flip_3 7 rfl rfl)
theorem dX5_flip_80 : decode cX5_flip 80 = .ok (.aaload, 1) := dk_50 (dk_at dksX5_flip_3 9 rfl rfl)
theorem dX5_flip_81 : decode cX5_flip 81 = .ok (.iload_n 1, 1) := dk_27 (dk_at dksX5_flip_3 10 rfl rfl)
theorem dX5_flip_82 : decode cX5_flip 82 = .ok (.iload 4, 2) := dk_21 4 (dk_at dksX5_flip_3 11 rfl rfl)
theorem dX5_flip_84 : decode cX5_flip 84 = .ok (.isub, 1) := dk_100 (dk_at dksX5_flip_3 13 rfl rfl)
theorem dX5_flip_85 : decode cX5_flip 85 = .ok (.iconst 0, 1) := dk_3 (dk_at dksX5_flip_3 14 rfl rfl)
theorem dX5_flip_86 : decode cX5_flip 86 = .ok (.invokestatic 117, 3) := dk_184 0 117 (dk_at dksX5_flip_3 15 rfl rfl)
theorem dX5_flip_89 : decode cX5_flip 89 = .ok (.iload_n 2, 1) := dk_28 (dk_at dksX5_flip_3 18 rfl rfl)
theorem dX5_flip_90 : decode cX5_flip 90 = .ok (.iload 4, 2) := dk_21 4 (dk_at dksX5_flip_3 19 rfl rfl)
theorem dX5_flip_92 : decode cX5_flip 92 = .ok (.isub, 1) := dk_100 (dk_at dksX5_flip_3 21 rfl rfl)
theorem dX5_flip_93 : decode cX5_flip 93 = .ok (.iload 6, 2) := dk_21 6 (dk_at dksX5_flip_3 22 rfl rfl)
theorem dX5_flip_95 : decode cX5_flip 95 = .ok (.invokestatic 109, 3) := dk_184 0 109 (dk_at dksX5_flip_4 0 rfl rfl)
theorem dX5_flip_98 : decode cX5_flip 98 = .ok (.invokevirtual 115, 3) := dk_182 0 115 (dk_at dksX5_flip_4 3 rfl rfl)
theorem dX5_flip_101 : decode cX5_flip 101 = .ok (.iload 4, 2) := dk_21 4 (dk_at dksX5_flip_4 6 rfl rfl)
theorem dX5_flip_103 : decode cX5_flip 103 = .ok (.iload 6, 2) := dk_21 6 (dk_at dksX5_flip_4 8 rfl rfl)
theorem dX5_flip_105 : decode cX5_flip 105 = .ok (.iadd, 1) := dk_96 (dk_at dksX5_flip_4 10 rfl rfl)
theorem dX5_flip_106 : decode cX5_flip 106 = .ok (.istore 4, 2) := dk_54 4 (dk_at dksX5_flip_4 11 rfl rfl)
theorem dX5_flip_108 : decode cX5_flip 108 = .ok (.iinc 5 1, 3) := dk_132 5 1 (dk_at dksX5_flip_4 13 rfl rfl)
theorem dX5_flip_111 : decode cX5_flip 111 = .ok (.goto (-59), 3) := dk_167 255 197 (dk_at dksX5_flip_4 16 rfl rfl)
theorem dX5_flip_114 : decode cX5_flip 114 = .ok (.return_, 1) := dk_177 (dk_at dksX5_flip_4 19 rfl rfl)
abbrev cX5_flip_2 : ByteArray := prog_19_method_20_code
def yX5_flip_2 : MethodName := ⟨RX5, "flip", "(LBitRopes$Node;II)V"⟩
def dkwX5_flip_2_4 : List UInt8 := [21, 5, 100, 3, 184, 0, 117, 29, 21, 5, 100, 3, 184, 0, 117, 182, 0, 115, 25, 4, 182, 0, 99, 177]
abbrev dktX5_flip_2_4 : List UInt8 := dkwX5_flip_2_4 ++ []
def dkwX5_flip_2_3 : List UInt8 := [21, 5, 184, 0, 109, 29, 21, 5, 184, 0, 109, 182, 0, 115, 42, 25, 4, 180, 0, 51, 4, 50, 28]
abbrev dktX5_flip_2_3 : List UInt8 := dkwX5_flip_2_3 ++ dktX5_flip_2_4
def dkwX5_flip_2_2 : List UInt8 := [182, 0, 48, 25, 4, 180, 0, 51, 3, 50, 180, 0, 75, 54, 5, 42, 25, 4, 180, 0, 51, 3, 50, 28]
abbrev dktX5_flip_2_2 : List UInt8 := dkwX5_flip_2_2 ++ dktX5_flip_2_3
def dkwX5_flip_2_1 : List UInt8 := [193, 0, 9, 153, 0, 13, 43, 192, 0, 9, 28, 29, 182, 0, 106, 177, 43, 192, 0, 46, 58, 4, 25, 4]
abbrev dktX5_flip_2_1 : List UInt8 := dkwX5_flip_2_1 ++ dktX5_flip_2_2
def dkwX5_flip_2_0 : List UInt8 := [28, 29, 161, 0, 4, 177, 28, 154, 0, 16, 29, 43, 180, 0, 75, 160, 0, 8, 43, 182, 0, 103, 177, 43]
abbrev dktX5_flip_2_0 : List UInt8 := dkwX5_flip_2_0 ++ dktX5_flip_2_1
theorem dksX5_flip_2_0 : cX5_flip_2.data.toList.drop 0 = dktX5_flip_2_0 := by decide +kernel
theorem dksX5_flip_2_1 : cX5_flip_2.data.toList.drop 24 = dktX5_flip_2_1 := dk_seg dksX5_flip_2_0 24 rfl rfl
theorem dksX5_flip_2_2 : cX5_flip_2.data.toList.drop 48 = dktX5_flip_2_2 := dk_seg dksX5_flip_2_1 24 rfl rfl
theorem dksX5_flip_2_3 : cX5_flip_2.data.toList.drop 72 = dktX5_flip_2_3 := dk_seg dksX5_flip_2_2 24 rfl rfl
theorem dksX5_flip_2_4 : cX5_flip_2.data.toList.drop 95 = dktX5_flip_2_4 := dk_seg dksX5_flip_2_3 23 rfl rfl
theorem dX5_flip_2_0 : decode cX5_flip_2 0 = .ok (.iload_n 2, 1) := dk_28 (dk_at dksX5_flip_2_0 0 rfl rfl)
theorem dX5_flip_2_1 : decode cX5_flip_2 1 = .ok (.iload_n 3, 1) := dk_29 (dk_at dksX5_flip_2_0 1 rfl rfl)
theorem dX5_flip_2_2 : decode cX5_flip_2 2 = .ok (.if_icmp .lt 4, 3) := dk_161 0 4 (dk_at dksX5_flip_2_0 2 rfl rfl)
theorem dX5_flip_2_5 : decode cX5_flip_2 5 = .ok (.return_, 1) := dk_177 (dk_at dksX5_flip_2_0 5 rfl rfl)
theorem dX5_flip_2_6 : decode cX5_flip_2 6 = .ok (.iload_n 2, 1) := dk_28 (dk_at dksX5_flip_2_0 6 rfl rfl)
theorem dX5_flip_2_7 : decode cX5_flip_2 7 = .ok (.ifCond .ne 16, 3) := dk_154 0 16 (dk_at dksX5_flip_2_0 7 rfl rfl)
theorem dX5_flip_2_10 : decode cX5_flip_2 10 = .ok (.iload_n 3, 1) := dk_29 (dk_at dksX5_flip_2_0 10 rfl rfl)
theorem dX5_flip_2_11 : decode cX5_flip_2 11 = .ok (.aload_n 1, 1) := dk_43 (dk_at dksX5_flip_2_0 11 rfl rfl)
theorem dX5_flip_2_12 : decode cX5_flip_2 12 = .ok (.getfield 75, 3) := dk_180 0 75 (dk_at dksX5_flip_2_0 12 rfl rfl)
theorem dX5_flip_2_15 : decode cX5_flip_2 15 = .ok (.if_icmp .ne 8, 3) := dk_160 0 8 (dk_at dksX5_flip_2_0 15 rfl rfl)
theorem dX5_flip_2_18 : decode cX5_flip_2 18 = .ok (.aload_n 1, 1) := dk_43 (dk_at dksX5_flip_2_0 18 rfl rfl)
theorem dX5_flip_2_19 : decode cX5_flip_2 19 = .ok (.invokevirtual 103, 3) := dk_182 0 103 (dk_at dksX5_flip_2_0 19 rfl rfl)
theorem dX5_flip_2_22 : decode cX5_flip_2 22 = .ok (.return_, 1) := dk_177 (dk_at dksX5_flip_2_0 22 rfl rfl)
theorem dX5_flip_2_23 : decode cX5_flip_2 23 = .ok (.aload_n 1, 1) := dk_43 (dk_at dksX5_flip_2_0 23 rfl rfl)
theorem dX5_flip_2_24 : decode cX5_flip_2 24 = .ok (.instanceof 9, 3) := dk_193 0 9 (dk_at dksX5_flip_2_1 0 rfl rfl)
theorem dX5_flip_2_27 : decode cX5_flip_2 27 = .ok (.ifCond .eq 13, 3) := dk_153 0 13 (dk_at dksX5_flip_2_1 3 rfl rfl)
theorem dX5_flip_2_30 : decode cX5_flip_2 30 = .ok (.aload_n 1, 1) := dk_43 (dk_at dksX5_flip_2_1 6 rfl rfl)
theorem dX5_flip_2_31 : decode cX5_flip_2 31 = .ok (.checkcast 9, 3) := dk_192 0 9 (dk_at dksX5_flip_2_1 7 rfl rfl)
theorem dX5_flip_2_34 : decode cX5_flip_2 34 = .ok (.iload_n 2, 1) := dk_28 (dk_at dksX5_flip_2_1 10 rfl rfl)
theorem dX5_flip_2_35 : decode cX5_flip_2 35 = .ok (.iload_n 3, 1) := dk_29 (dk_at dksX5_flip_2_1 11 rfl rfl)
theorem dX5_flip_2_36 : decode cX5_flip_2 36 = .ok (.invokevirtual 106, 3) := dk_182 0 106 (dk_at dksX5_flip_2_1 12 rfl rfl)
theorem dX5_flip_2_39 : decode cX5_flip_2 39 = .ok (.return_, 1) := dk_177 (dk_at dksX5_flip_2_1 15 rfl rfl)
theorem dX5_flip_2_40 : decode cX5_flip_2 40 = .ok (.aload_n 1, 1) := dk_43 (dk_at dksX5_flip_2_1 16 rfl rfl)
theorem dX5_flip_2_41 : decode cX5_flip_2 41 = .ok (.checkcast 46, 3) := dk_192 0 46 (dk_at dksX5_flip_2_1 17 rfl rfl)
theorem dX5_flip_2_44 : decode cX5_flip_2 44 = .ok (.astore 4, 2) := dk_58 4 (dk_at dksX5_flip_2_1 20 rfl rfl)
theorem dX5_flip_2_46 : decode cX5_flip_2 46 = .ok (.aload 4, 2) := dk_25 4 (dk_at dksX5_flip_2_1 22 rfl rfl)
theorem dX5_flip_2_48 : decode cX5_flip_2 48 = .ok (.invokevirtual 48, 3) := dk_182 0 48 (dk_at dksX5_flip_2_2 0 rfl rfl)
theorem dX5_flip_2_51 : decode cX5_flip_2 51 = .ok (.aload 4, 2) := dk_25 4 (dk_at dksX5_flip_2_2 3 rfl rfl)
theorem dX5_flip_2_53 : decode cX5_flip_2 53 = .ok (.getfield 51, 3) := dk_180 0 51 (dk_at dksX5_flip_2_2 5 rfl rfl)
theorem dX5_flip_2_56 : decode cX5_flip_2 56 = .ok (.iconst 0, 1) := dk_3 (dk_at dksX5_flip_2_2 8 rfl rfl)
theorem dX5_flip_2_57 : decode cX5_flip_2 57 = .ok (.aaload, 1) := dk_50 (dk_at dksX5_flip_2_2 9 rfl rfl)
theorem dX5_flip_2_58 : decode cX5_flip_2 58 = .ok (.getfield 75, 3) := dk_180 0 75 (dk_at dksX5_flip_2_2 10 rfl rfl)
theorem dX5_flip_2_61 : decode cX5_flip_2 61 = .ok (.istore 5, 2) := dk_54 5 (dk_at dksX5_flip_2_2 13 rfl rfl)
theorem dX5_flip_2_63 : decode cX5_flip_2 63 = .ok (.aload_n 0, 1) := dk_42 (dk_at dksX5_flip_2_2 15 rfl rfl)
theorem dX5_flip_2_64 : decode cX5_flip_2 64 = .ok (.aload 4, 2) := dk_25 4 (dk_at dksX5_flip_2_2 16 rfl rfl)
theorem dX5_flip_2_66 : decode cX5_flip_2 66 = .ok (.getfield 51, 3) := dk_180 0 51 (dk_at dksX5_flip_2_2 18 rfl rfl)
theorem dX5_flip_2_69 : decode cX5_flip_2 69 = .ok (.iconst 0, 1) := dk_3 (dk_at dksX5_flip_2_2 21 rfl rfl)
theorem dX5_flip_2_70 : decode cX5_flip_2 70 = .ok (.aaload, 1) := dk_50 (dk_at dksX5_flip_2_2 22 rfl rfl)
theorem dX5_flip_2_71 : decode cX5_flip_2 71 = .ok (.iload_n 2, 1) := dk_28 (dk_at dksX5_flip_2_2 23 rfl rfl)
theorem dX5_flip_2_72 : decode cX5_flip_2 72 = .ok (.iload 5, 2) := dk_21 5 (dk_at dksX5_flip_2_3 0 rfl rfl)
theorem dX5_flip_2_74 : decode cX5_flip_2 74 = .ok (.invokestatic 109, 3) := dk_184 0 109 (dk_at dksX5_flip_2_3 2 rfl rfl)
theorem dX5_flip_2_77 : decode cX5_flip_2 77 = .ok (.iload_n 3, 1) := dk_29 (dk_at dksX5_flip_2_3 5 rfl rfl)
theorem dX5_flip_2_78 : decode cX5_flip_2 78 = .ok (.iload 5, 2) := dk_21 5 (dk_at dksX5_flip_2_3 6 rfl rfl)
theorem dX5_flip_2_80 : decode cX5_flip_2 80 = .ok (.invokestatic 109, 3) := dk_184 0 109 (dk_at dksX5_flip_2_3 8 rfl rfl)
theorem dX5_flip_2_83 : decode cX5_flip_2 83 = .ok (.invokevirtual 115, 3) := dk_182 0 115 (dk_at dksX5_flip_2_3 11 rfl rfl)
theorem dX5_flip_2_86 : decode cX5_flip_2 86 = .ok (.aload_n 0, 1) := dk_42 (dk_at dksX5_flip_2_3 14 rfl rfl)
theorem dX5_flip_2_87 : decode cX5_flip_2 87 = .ok (.aload 4, 2) := dk_25 4 (dk_at dksX5_flip_2_3 15 rfl rfl)
theorem dX5_flip_2_89 : decode cX5_flip_2 89 = .ok (.getfield 51, 3) := dk_180 0 51 (dk_at dksX5_flip_2_3 17 rfl rfl)
theorem dX5_flip_2_92 : decode cX5_flip_2 92 = .ok (.iconst 1, 1) := dk_4 (dk_at dksX5_flip_2_3 20 rfl rfl)
theorem dX5_flip_2_93 : decode cX5_flip_2 93 = .ok (.aaload, 1) := dk_50 (dk_at dksX5_flip_2_3 21 rfl rfl)
theorem dX5_flip_2_94 : decode cX5_flip_2 94 = .ok (.iload_n 2, 1) := dk_28 (dk_at dksX5_flip_2_3 22 rfl rfl)
theorem dX5_flip_2_95 : decode cX5_flip_2 95 = .ok (.iload 5, 2) := dk_21 5 (dk_at dksX5_flip_2_4 0 rfl rfl)
theorem dX5_flip_2_97 : decode cX5_flip_2 97 = .ok (.isub, 1) := dk_100 (dk_at dksX5_flip_2_4 2 rfl rfl)
theorem dX5_flip_2_98 : decode cX5_flip_2 98 = .ok (.iconst 0, 1) := dk_3 (dk_at dksX5_flip_2_4 3 rfl rfl)
theorem dX5_flip_2_99 : decode cX5_flip_2 99 = .ok (.invokestatic 117, 3) := dk_184 0 117 (dk_at dksX5_flip_2_4 4 rfl rfl)
theorem dX5_flip_2_102 : decode cX5_flip_2 102 = .ok (.iload_n 3, 1) := dk_29 (dk_at dksX5_flip_2_4 7 rfl rfl)
theorem dX5_flip_2_103 : decode cX5_flip_2 103 = .ok (.iload 5, 2) := dk_21 5 (dk_at dksX5_flip_2_4 8 rfl rfl)
theorem dX5_flip_2_105 : decode cX5_flip_2 105 = .ok (.isub, 1) := dk_100 (dk_at dksX5_flip_2_4 10 rfl rfl)
theorem dX5_flip_2_106 : decode cX5_flip_2 106 = .ok (.iconst 0, 1) := dk_3 (dk_at dksX5_flip_2_4 11 rfl rfl)
theorem dX5_flip_2_107 : decode cX5_flip_2 107 = .ok (.invokestatic 117, 3) := dk_184 0 117 (dk_at dksX5_flip_2_4 12 rfl rfl)
theorem dX5_flip_2_110 : decode cX5_flip_2 110 = .ok (.invokevirtual 115, 3) := dk_182 0 115 (dk_at dksX5_flip_2_4 15 rfl rfl)
theorem dX5_flip_2_113 : decode cX5_flip_2 113 = .ok (.aload 4, 2) := dk_25 4 (dk_at dksX5_flip_2_4 18 rfl rfl)
theorem dX5_flip_2_115 : decode cX5_flip_2 115 = .ok (.invokevirtual 99, 3) := dk_182 0 99 (dk_at dksX5_flip_2_4 20 rfl rfl)
theorem dX5_flip_2_118 : decode cX5_flip_2 118 = .ok (.return_, 1) := dk_177 (dk_at dksX5_flip_2_4 23 rfl rfl)
theorem q116 : (Jvm.Cond.initialized "BitRopes$Rope") ∈ lw_all := lw_g (lw_at lw_m1 7 rfl) rfl
theorem q283 : (Jvm.Cond.instantiable "BitRopes$Rope" (9 : Nat)) ∈ lw_all := lw_g (lw_at lw_m1 174 rfl) rfl
theorem q285 : (Jvm.Cond.instanceMethod ({ cls := "BitRopes$Rope", name := "<init>", desc := "()V" } : Jvm.MethodName)) ∈ lw_all := lw_g (lw_at lw_m1 176 rfl) rfl
theorem q286 : (Jvm.Cond.code ({ cls := "BitRopes$Rope", name := "<init>", desc := "()V" } : Jvm.MethodName) prog_19_method_1_code (1 : Nat) (Option.none : Option Jvm.ClassFile.FieldType)) ∈ lw_all := lw_g (lw_at lw_m1 177 rfl) rfl
theorem q287 : (Jvm.Cond.methodLink "BitRopes$Rope" (3 : Nat) ({ cls := "java/lang/Object", name := "<init>", desc := "()V" } : Jvm.MethodName)) ∈ lw_all := lw_g (lw_at lw_m1 178 rfl) rfl
theorem q288 : (Jvm.Cond.classLink "BitRopes$Rope" (9 : Nat) "BitRopes$Leaf") ∈ lw_all := lw_g (lw_at lw_m1 179 rfl) rfl
theorem q290 : (Jvm.Cond.fieldLink "BitRopes$Rope" (11 : Nat) "BitRopes$Rope" "row" "[LBitRopes$Leaf;") ∈ lw_all := lw_g (lw_at lw_m1 181 rfl) rfl
theorem q291 : (Jvm.Cond.fieldLink "BitRopes$Rope" (27 : Nat) "BitRopes$Rope" "root" "LBitRopes$Node;") ∈ lw_all := lw_g (lw_at lw_m1 182 rfl) rfl
theorem q293 : (Jvm.Cond.fieldLink "BitRopes$Rope" (31 : Nat) "BitRopes$Rope" "isBuilt" "Z") ∈ lw_all := lw_g (lw_at lw_m1 184 rfl) rfl
theorem q295 : (Jvm.Cond.fieldLink "BitRopes$Rope" (135 : Nat) "BitRopes$Rope" "low" "I") ∈ lw_all := lw_g (lw_at lw_m1 186 rfl) rfl
theorem q296 : (Jvm.Cond.fieldLink "BitRopes$Rope" (35 : Nat) "BitRopes$Rope" "mixed" "I") ∈ lw_all := lw_g (lw_at lw_m1 187 rfl) rfl
theorem q298 : (Jvm.Cond.fieldLink "BitRopes$Rope" (24 : Nat) "BitRopes$Rope" "filled" "I") ∈ lw_all := lw_g (lw_at lw_m1 189 rfl) rfl
theorem q299 : (Jvm.Cond.fieldLink "BitRopes$Rope" (17 : Nat) "BitRopes$Rope" "total" "I") ∈ lw_all := lw_g (lw_at lw_m1 190 rfl) rfl
theorem q300 : (Jvm.Cond.fieldLink "BitRopes$Rope" (21 : Nat) "BitRopes$Rope" "lit" "I") ∈ lw_all := lw_g (lw_at lw_m1 191 rfl) rfl
theorem q301 : (Jvm.Cond.fieldLink "BitRopes$Rope" (62 : Nat) "BitRopes$Rope" "at" "I") ∈ lw_all := lw_g (lw_at lw_m1 192 rfl) rfl
theorem q302 : (Jvm.Cond.laysFinal "BitRopes$Rope" "BitRopes$Rope" "row" "[LBitRopes$Leaf;") ∈ lw_all := lw_g (lw_at lw_m1 193 rfl) rfl
theorem q303 : (Jvm.Cond.soleField "BitRopes$Rope" "row") ∈ lw_all := lw_g (lw_at lw_m1 194 rfl) rfl
theorem q304 : (Jvm.Cond.lays "BitRopes$Rope" "BitRopes$Rope" "root" "LBitRopes$Node;") ∈ lw_all := lw_g (lw_at lw_m1 195 rfl) rfl
theorem q305 : (Jvm.Cond.soleField "BitRopes$Rope" "root") ∈ lw_all := lw_g (lw_at lw_m1 196 rfl) rfl
theorem q306 : (Jvm.Cond.lays "BitRopes$Rope" "BitRopes$Rope" "isBuilt" "Z") ∈ lw_all := lw_g (lw_at lw_m1 197 rfl) rfl
theorem q307 : (Jvm.Cond.soleField "BitRopes$Rope" "isBuilt") ∈ lw_all := lw_g (lw_at lw_m1 198 rfl) rfl
theorem q308 : (Jvm.Cond.lays "BitRopes$Rope" "BitRopes$Rope" "low" "I") ∈ lw_all := lw_g (lw_at lw_m1 199 rfl) rfl
theorem q309 : (Jvm.Cond.soleField "BitRopes$Rope" "low") ∈ lw_all := lw_g (lw_at lw_m1 200 rfl) rfl
theorem q310 : (Jvm.Cond.lays "BitRopes$Rope" "BitRopes$Rope" "mixed" "I") ∈ lw_all := lw_g (lw_at lw_m1 201 rfl) rfl
theorem q311 : (Jvm.Cond.soleField "BitRopes$Rope" "mixed") ∈ lw_all := lw_g (lw_at lw_m1 202 rfl) rfl
theorem q312 : (Jvm.Cond.lays "BitRopes$Rope" "BitRopes$Rope" "filled" "I") ∈ lw_all := lw_g (lw_at lw_m1 203 rfl) rfl
theorem q313 : (Jvm.Cond.soleField "BitRopes$Rope" "filled") ∈ lw_all := lw_g (lw_at lw_m1 204 rfl) rfl
theorem q314 : (Jvm.Cond.lays "BitRopes$Rope" "BitRopes$Rope" "total" "I") ∈ lw_all := lw_g (lw_at lw_m1 205 rfl) rfl
theorem q315 : (Jvm.Cond.soleField "BitRopes$Rope" "total") ∈ lw_all := lw_g (lw_at lw_m1 206 rfl) rfl
theorem q316 : (Jvm.Cond.lays "BitRopes$Rope" "BitRopes$Rope" "lit" "I") ∈ lw_all := lw_g (lw_at lw_m1 207 rfl) rfl
theorem q317 : (Jvm.Cond.soleField "BitRopes$Rope" "lit") ∈ lw_all := lw_g (lw_at lw_m1 208 rfl) rfl
theorem q318 : (Jvm.Cond.lays "BitRopes$Rope" "BitRopes$Rope" "at" "I") ∈ lw_all := lw_g (lw_at lw_m1 209 rfl) rfl
theorem q319 : (Jvm.Cond.soleField "BitRopes$Rope" "at") ∈ lw_all := lw_g (lw_at lw_m1 210 rfl) rfl
theorem q320 : (Jvm.Cond.superclass "BitRopes$Rope" "java/lang/Object") ∈ lw_all := lw_g (lw_at lw_m1 211 rfl) rfl
theorem q447 : (Jvm.Cond.instanceMethod ({ cls := "BitRopes$Rope", name := "clea\x72", desc := "()V" } : Jvm.MethodName)) ∈ lw_all := lw_g (lw_at lw_m2 98 rfl) rfl
theorem q448 : (Jvm.Cond.selects "BitRopes$Rope" ({ cls := "BitRopes$Rope", name := "clea\x72", desc := "()V" } : Jvm.MethodName) ({ cls := "BitRopes$Rope", name := "clea\x72", desc := "()V" } : Jvm.MethodName)) ∈ lw_all := lw_g (lw_at lw_m2 99 rfl) rfl
theorem q449 : (Jvm.Cond.code ({ cls := "BitRopes$Rope", name := "clea\x72", desc := "()V" } : Jvm.MethodName) prog_19_method_5_code (1 : Nat) (Option.none : Option Jvm.ClassFile.FieldType)) ∈ lw_all := lw_g (lw_at lw_m2 100 rfl) rfl
theorem q736 : (Jvm.Cond.instanceMethod ({ cls := "BitRopes$Rope", name := "wide", desc := "()I" } : Jvm.MethodName)) ∈ lw_all := lw_g (lw_at lw_m3 147 rfl) rfl
theorem q737 : (Jvm.Cond.selects "BitRopes$Rope" ({ cls := "BitRopes$Rope", name := "wide", desc := "()I" } : Jvm.MethodName) ({ cls := "BitRopes$Rope", name := "wide", desc := "()I" } : Jvm.MethodName)) ∈ lw_all := lw_g (lw_at lw_m3 148 rfl) rfl
theorem q738 : (Jvm.Cond.code ({ cls := "BitRopes$Rope", name := "wide", desc := "()I" } : Jvm.MethodName) prog_19_method_2_code (1 : Nat) (Option.some Jvm.ClassFile.FieldType.int)) ∈ lw_all := lw_g (lw_at lw_m3 149 rfl) rfl
theorem q740 : (Jvm.Cond.instanceMethod ({ cls := "BitRopes$Rope", name := "insert", desc := "(II)V" } : Jvm.MethodName)) ∈ lw_all := lw_g (lw_at lw_m3 151 rfl) rfl
theorem q741 : (Jvm.Cond.selects "BitRopes$Rope" ({ cls := "BitRopes$Rope", name := "insert", desc := "(II)V" } : Jvm.MethodName) ({ cls := "BitRopes$Rope", name := "insert", desc := "(II)V" } : Jvm.MethodName)) ∈ lw_all := lw_g (lw_at lw_m3 152 rfl) rfl
theorem q742 : (Jvm.Cond.code ({ cls := "BitRopes$Rope", name := "insert", desc := "(II)V" } : Jvm.MethodName) prog_19_method_23_code (5 : Nat) (Option.none : Option Jvm.ClassFile.FieldType)) ∈ lw_all := lw_g (lw_at lw_m3 153 rfl) rfl
theorem q743 : (Jvm.Cond.methodLink "BitRopes$Rope" (125 : Nat) ({ cls := "BitRopes$Rope", name := "loosen", desc := "()V" } : Jvm.MethodName)) ∈ lw_all := lw_g (lw_at lw_m3 154 rfl) rfl
theorem q744 : (Jvm.Cond.privateMethod ({ cls := "BitRopes$Rope", name := "loosen", desc := "()V" } : Jvm.MethodName)) ∈ lw_tbl := lw_at lw_m3 155 rfl
theorem q745 : (Jvm.Cond.instanceMethod ({ cls := "BitRopes$Rope", name := "loosen", desc := "()V" } : Jvm.MethodName)) ∈ lw_all := lw_g (lw_at lw_m3 156 rfl) rfl
theorem q746 : (Jvm.Cond.code ({ cls := "BitRopes$Rope", name := "loosen", desc := "()V" } : Jvm.MethodName) prog_19_method_7_code (1 : Nat) (Option.none : Option Jvm.ClassFile.FieldType)) ∈ lw_all := lw_g (lw_at lw_m3 157 rfl) rfl
theorem q747 : (Jvm.Cond.methodLink "BitRopes$Rope" (42 : Nat) ({ cls := "BitRopes$Rope", name := "settle", desc := "(LBitRopes$Node;)V" } : Jvm.MethodName)) ∈ lw_all := lw_g (lw_at lw_m3 158 rfl) rfl
theorem q748 : (Jvm.Cond.privateMethod ({ cls := "BitRopes$Rope", name := "settle", desc := "(LBitRopes$Node;)V" } : Jvm.MethodName)) ∈ lw_tbl := lw_at lw_m3 159 rfl
theorem q749 : (Jvm.Cond.instanceMethod ({ cls := "BitRopes$Rope", name := "settle", desc := "(LBitRopes$Node;)V" } : Jvm.MethodName)) ∈ lw_all := lw_g (lw_at lw_m3 160 rfl) rfl
theorem q750 : (Jvm.Cond.code ({ cls := "BitRopes$Rope", name := "settle", desc := "(LBitRopes$Node;)V" } : Jvm.MethodName) prog_19_method_8_code (3 : Nat) (Option.none : Option Jvm.ClassFile.FieldType)) ∈ lw_all := lw_g (lw_at lw_m3 161 rfl) rfl
theorem q751 : (Jvm.Cond.classLink "BitRopes$Rope" (46 : Nat) "BitRopes$Inne\x72") ∈ lw_all := lw_g (lw_at lw_m3 162 rfl) rfl
theorem q752 : (Jvm.Cond.methodLink "BitRopes$Rope" (48 : Nat) ({ cls := "BitRopes$Inne\x72", name := "push", desc := "()V" } : Jvm.MethodName)) ∈ lw_all := lw_g (lw_at lw_m3 163 rfl) rfl
theorem q765 : (Jvm.Cond.methodLink "BitRopes$Rope" (128 : Nat) ({ cls := "BitRopes$Rope", name := "fresh", desc := "(I)LBitRopes$Leaf;" } : Jvm.MethodName)) ∈ lw_all := lw_g (lw_at lw_m3 176 rfl) rfl
theorem q766 : (Jvm.Cond.privateMethod ({ cls := "BitRopes$Rope", name := "fresh", desc := "(I)LBitRopes$Leaf;" } : Jvm.MethodName)) ∈ lw_tbl := lw_at lw_m3 177 rfl
theorem q767 : (Jvm.Cond.instanceMethod ({ cls := "BitRopes$Rope", name := "fresh", desc := "(I)LBitRopes$Leaf;" } : Jvm.MethodName)) ∈ lw_all := lw_g (lw_at lw_m3 178 rfl) rfl
theorem q768 : (Jvm.Cond.code ({ cls := "BitRopes$Rope", name := "fresh", desc := "(I)LBitRopes$Leaf;" } : Jvm.MethodName) prog_19_method_22_code (2 : Nat) (Option.some (Jvm.ClassFile.FieldType.object "BitRopes$Leaf"))) ∈ lw_all := lw_g (lw_at lw_m3 179 rfl) rfl
theorem q770 : (Jvm.Cond.methodLink "BitRopes$Rope" (120 : Nat) ({ cls := "BitRopes$Leaf", name := "<init>", desc := "()V" } : Jvm.MethodName)) ∈ lw_all := lw_g (lw_at lw_m3 181 rfl) rfl
theorem q784 : (Jvm.Cond.fieldLink "BitRopes$Rope" (65 : Nat) "BitRopes$Leaf" "size" "I") ∈ lw_all := lw_g (lw_at lw_m3 195 rfl) rfl
theorem q785 : (Jvm.Cond.fieldLink "BitRopes$Rope" (75 : Nat) "BitRopes$Node" "size" "I") ∈ lw_all := lw_g (lw_at lw_m3 196 rfl) rfl
theorem q792 : (Jvm.Cond.fieldLink "BitRopes$Rope" (76 : Nat) "BitRopes$Leaf" "ones" "I") ∈ lw_all := lw_g (lw_at lw_m3 203 rfl) rfl
theorem q793 : (Jvm.Cond.fieldLink "BitRopes$Rope" (82 : Nat) "BitRopes$Node" "ones" "I") ∈ lw_all := lw_g (lw_at lw_m3 204 rfl) rfl
theorem q811 : (Jvm.Cond.methodLink "BitRopes$Rope" (121 : Nat) ({ cls := "BitRopes$Leaf", name := "cleared", desc := "()LBitRopes$Leaf;" } : Jvm.MethodName)) ∈ lw_all := lw_g (lw_at lw_m3 222 rfl) rfl
theorem q815 : (Jvm.Cond.methodLink "BitRopes$Rope" (132 : Nat) ({ cls := "BitRopes$Leaf", name := "insert", desc := "(II)V" } : Jvm.MethodName)) ∈ lw_all := lw_g (lw_at lw_m3 226 rfl) rfl
theorem q828 : (Jvm.Cond.methodLink "BitRopes$Rope" (68 : Nat) ({ cls := "BitRopes$Rope", name := "leafOf", desc := "(I)I" } : Jvm.MethodName)) ∈ lw_all := lw_g (lw_at lw_m3 239 rfl) rfl
theorem q829 : (Jvm.Cond.privateMethod ({ cls := "BitRopes$Rope", name := "leafOf", desc := "(I)I" } : Jvm.MethodName)) ∈ lw_tbl := lw_at lw_m4 0 rfl
theorem q830 : (Jvm.Cond.instanceMethod ({ cls := "BitRopes$Rope", name := "leafOf", desc := "(I)I" } : Jvm.MethodName)) ∈ lw_all := lw_g (lw_at lw_m4 1 rfl) rfl
theorem q831 : (Jvm.Cond.code ({ cls := "BitRopes$Rope", name := "leafOf", desc := "(I)I" } : Jvm.MethodName) prog_19_method_11_code (3 : Nat) (Option.some Jvm.ClassFile.FieldType.int)) ∈ lw_all := lw_g (lw_at lw_m4 2 rfl) rfl
theorem q832 : (Jvm.Cond.methodLink "BitRopes$Rope" (138 : Nat) ({ cls := "BitRopes$Rope", name := "halve", desc := "(I)V" } : Jvm.MethodName)) ∈ lw_all := lw_g (lw_at lw_m4 3 rfl) rfl
theorem q833 : (Jvm.Cond.privateMethod ({ cls := "BitRopes$Rope", name := "halve", desc := "(I)V" } : Jvm.MethodName)) ∈ lw_tbl := lw_at lw_m4 4 rfl
theorem q834 : (Jvm.Cond.instanceMethod ({ cls := "BitRopes$Rope", name := "halve", desc := "(I)V" } : Jvm.MethodName)) ∈ lw_all := lw_g (lw_at lw_m4 5 rfl) rfl
theorem q835 : (Jvm.Cond.code ({ cls := "BitRopes$Rope", name := "halve", desc := "(I)V" } : Jvm.MethodName) prog_19_method_25_code (5 : Nat) (Option.none : Option Jvm.ClassFile.FieldType)) ∈ lw_all := lw_g (lw_at lw_m4 6 rfl) rfl
theorem q836 : (Jvm.Cond.methodLink "BitRopes$Rope" (148 : Nat) ({ cls := "java/lang/System", name := "arraycopy", desc := "(Ljava/lang/Object;ILjava/lang/Object;II)V" } : Jvm.MethodName)) ∈ lw_all := lw_g (lw_at lw_m4 7 rfl) rfl
theorem q839 : (Jvm.Cond.methodLink "BitRopes$Rope" (154 : Nat) ({ cls := "BitRopes$Leaf", name := "add", desc := "(LBitRopes$Leaf;II)V" } : Jvm.MethodName)) ∈ lw_all := lw_g (lw_at lw_m4 10 rfl) rfl
theorem q844 : (Jvm.Cond.methodLink "BitRopes$Rope" (158 : Nat) ({ cls := "BitRopes$Leaf", name := "shorten", desc := "(I)V" } : Jvm.MethodName)) ∈ lw_all := lw_g (lw_at lw_m4 15 rfl) rfl
theorem q862 : (Jvm.Cond.instanceMethod ({ cls := "BitRopes$Rope", name := "before", desc := "(II)I" } : Jvm.MethodName)) ∈ lw_all := lw_g (lw_at lw_m4 33 rfl) rfl
theorem q863 : (Jvm.Cond.selects "BitRopes$Rope" ({ cls := "BitRopes$Rope", name := "before", desc := "(II)I" } : Jvm.MethodName) ({ cls := "BitRopes$Rope", name := "before", desc := "(II)I" } : Jvm.MethodName)) ∈ lw_all := lw_g (lw_at lw_m4 34 rfl) rfl
theorem q864 : (Jvm.Cond.code ({ cls := "BitRopes$Rope", name := "before", desc := "(II)I" } : Jvm.MethodName) prog_19_method_15_code (3 : Nat) (Option.some Jvm.ClassFile.FieldType.int)) ∈ lw_all := lw_g (lw_at lw_m4 35 rfl) rfl
theorem q865 : (Jvm.Cond.methodLink "BitRopes$Rope" (83 : Nat) ({ cls := "BitRopes$Rope", name := "onesAhead", desc := "(I)I" } : Jvm.MethodName)) ∈ lw_all := lw_g (lw_at lw_m4 36 rfl) rfl
theorem q866 : (Jvm.Cond.instanceMethod ({ cls := "BitRopes$Rope", name := "onesAhead", desc := "(I)I" } : Jvm.MethodName)) ∈ lw_all := lw_g (lw_at lw_m4 37 rfl) rfl
theorem q867 : (Jvm.Cond.selects "BitRopes$Rope" ({ cls := "BitRopes$Rope", name := "onesAhead", desc := "(I)I" } : Jvm.MethodName) ({ cls := "BitRopes$Rope", name := "onesAhead", desc := "(I)I" } : Jvm.MethodName)) ∈ lw_all := lw_g (lw_at lw_m4 38 rfl) rfl
theorem q868 : (Jvm.Cond.code ({ cls := "BitRopes$Rope", name := "onesAhead", desc := "(I)I" } : Jvm.MethodName) prog_19_method_14_code (7 : Nat) (Option.some Jvm.ClassFile.FieldType.int)) ∈ lw_all := lw_g (lw_at lw_m4 39 rfl) rfl
theorem q869 : (Jvm.Cond.methodLink "BitRopes$Rope" (79 : Nat) ({ cls := "BitRopes$Rope", name := "onesAlong", desc := "(I)I" } : Jvm.MethodName)) ∈ lw_all := lw_g (lw_at lw_m4 40 rfl) rfl
theorem q870 : (Jvm.Cond.privateMethod ({ cls := "BitRopes$Rope", name := "onesAlong", desc := "(I)I" } : Jvm.MethodName)) ∈ lw_tbl := lw_at lw_m4 41 rfl
theorem q871 : (Jvm.Cond.instanceMethod ({ cls := "BitRopes$Rope", name := "onesAlong", desc := "(I)I" } : Jvm.MethodName)) ∈ lw_all := lw_g (lw_at lw_m4 42 rfl) rfl
theorem q872 : (Jvm.Cond.code ({ cls := "BitRopes$Rope", name := "onesAlong", desc := "(I)I" } : Jvm.MethodName) prog_19_method_13_code (5 : Nat) (Option.some Jvm.ClassFile.FieldType.int)) ∈ lw_all := lw_g (lw_at lw_m4 43 rfl) rfl
theorem q873 : (Jvm.Cond.methodLink "BitRopes$Rope" (72 : Nat) ({ cls := "BitRopes$Leaf", name := "get", desc := "(I)I" } : Jvm.MethodName)) ∈ lw_all := lw_g (lw_at lw_m4 44 rfl) rfl
theorem q911 : (Jvm.Cond.instanceMethod ({ cls := "BitRopes$Rope", name := "ready", desc := "()LBitRopes$Rope;" } : Jvm.MethodName)) ∈ lw_all := lw_g (lw_at lw_m4 82 rfl) rfl
theorem q912 : (Jvm.Cond.selects "BitRopes$Rope" ({ cls := "BitRopes$Rope", name := "ready", desc := "()LBitRopes$Rope;" } : Jvm.MethodName) ({ cls := "BitRopes$Rope", name := "ready", desc := "()LBitRopes$Rope;" } : Jvm.MethodName)) ∈ lw_all := lw_g (lw_at lw_m4 83 rfl) rfl
theorem q913 : (Jvm.Cond.code ({ cls := "BitRopes$Rope", name := "ready", desc := "()LBitRopes$Rope;" } : Jvm.MethodName) prog_19_method_6_code (1 : Nat) (Option.some (Jvm.ClassFile.FieldType.object "BitRopes$Rope"))) ∈ lw_all := lw_g (lw_at lw_m4 84 rfl) rfl
theorem q914 : (Jvm.Cond.methodLink "BitRopes$Rope" (38 : Nat) ({ cls := "BitRopes$Rope", name := "build", desc := "(II)LBitRopes$Node;" } : Jvm.MethodName)) ∈ lw_all := lw_g (lw_at lw_m4 85 rfl) rfl
theorem q915 : (Jvm.Cond.privateMethod ({ cls := "BitRopes$Rope", name := "build", desc := "(II)LBitRopes$Node;" } : Jvm.MethodName)) ∈ lw_tbl := lw_at lw_m4 86 rfl
theorem q916 : (Jvm.Cond.instanceMethod ({ cls := "BitRopes$Rope", name := "build", desc := "(II)LBitRopes$Node;" } : Jvm.MethodName)) ∈ lw_all := lw_g (lw_at lw_m4 87 rfl) rfl
theorem q917 : (Jvm.Cond.codeWith ({ cls := "BitRopes$Rope", name := "build", desc := "(II)LBitRopes$Node;" } : Jvm.MethodName) prog_19_method_10_code (8 : Nat) (Option.some (Jvm.ClassFile.FieldType.object "BitRopes$Node")) [((67 : Nat), (73 : Nat), (76 : Nat), (55 : Nat))]) ∈ lw_all := lw_g (lw_at lw_m4 88 rfl) rfl
theorem q918 : (Jvm.Cond.classLink "BitRopes$Rope" (55 : Nat) "java/lang/ArrayStoreException") ∈ lw_all := lw_g (lw_at lw_m4 89 rfl) rfl
theorem q948 : (Jvm.Cond.classLink "BitRopes$Rope" (57 : Nat) "BitRopes$Node") ∈ lw_all := lw_g (lw_at lw_m4 119 rfl) rfl
theorem q951 : (Jvm.Cond.methodLink "BitRopes$Rope" (59 : Nat) ({ cls := "BitRopes$Inne\x72", name := "<init>", desc := "([LBitRopes$Node;)V" } : Jvm.MethodName)) ∈ lw_all := lw_g (lw_at lw_m4 122 rfl) rfl
theorem q960 : (Jvm.Cond.fieldLinkNest "BitRopes$Rope" (51 : Nat) "BitRopes$Inne\x72" "kid" "[LBitRopes$Node;" "BitRopes") ∈ lw_tbl := lw_at lw_m4 131 rfl
theorem q971 : (Jvm.Cond.instanceMethod ({ cls := "BitRopes$Rope", name := "get", desc := "(I)I" } : Jvm.MethodName)) ∈ lw_all := lw_g (lw_at lw_m4 142 rfl) rfl
theorem q972 : (Jvm.Cond.selects "BitRopes$Rope" ({ cls := "BitRopes$Rope", name := "get", desc := "(I)I" } : Jvm.MethodName) ({ cls := "BitRopes$Rope", name := "get", desc := "(I)I" } : Jvm.MethodName)) ∈ lw_all := lw_g (lw_at lw_m4 143 rfl) rfl
theorem q973 : (Jvm.Cond.code ({ cls := "BitRopes$Rope", name := "get", desc := "(I)I" } : Jvm.MethodName) prog_19_method_12_code (6 : Nat) (Option.some Jvm.ClassFile.FieldType.int)) ∈ lw_all := lw_g (lw_at lw_m4 144 rfl) rfl
theorem q984 : (Jvm.Cond.instanceMethod ({ cls := "BitRopes$Rope", name := "many", desc := "(I)I" } : Jvm.MethodName)) ∈ lw_all := lw_g (lw_at lw_m4 155 rfl) rfl
theorem q985 : (Jvm.Cond.selects "BitRopes$Rope" ({ cls := "BitRopes$Rope", name := "many", desc := "(I)I" } : Jvm.MethodName) ({ cls := "BitRopes$Rope", name := "many", desc := "(I)I" } : Jvm.MethodName)) ∈ lw_all := lw_g (lw_at lw_m4 156 rfl) rfl
theorem q986 : (Jvm.Cond.code ({ cls := "BitRopes$Rope", name := "many", desc := "(I)I" } : Jvm.MethodName) prog_19_method_16_code (2 : Nat) (Option.some Jvm.ClassFile.FieldType.int)) ∈ lw_all := lw_g (lw_at lw_m4 157 rfl) rfl
theorem q987 : (Jvm.Cond.methodLink "BitRopes$Rope" (86 : Nat) ({ cls := "BitRopes$Rope", name := "lit", desc := "()I" } : Jvm.MethodName)) ∈ lw_all := lw_g (lw_at lw_m4 158 rfl) rfl
theorem q988 : (Jvm.Cond.instanceMethod ({ cls := "BitRopes$Rope", name := "lit", desc := "()I" } : Jvm.MethodName)) ∈ lw_all := lw_g (lw_at lw_m4 159 rfl) rfl
theorem q989 : (Jvm.Cond.selects "BitRopes$Rope" ({ cls := "BitRopes$Rope", name := "lit", desc := "()I" } : Jvm.MethodName) ({ cls := "BitRopes$Rope", name := "lit", desc := "()I" } : Jvm.MethodName)) ∈ lw_all := lw_g (lw_at lw_m4 160 rfl) rfl
theorem q990 : (Jvm.Cond.code ({ cls := "BitRopes$Rope", name := "lit", desc := "()I" } : Jvm.MethodName) prog_19_method_3_code (1 : Nat) (Option.some Jvm.ClassFile.FieldType.int)) ∈ lw_all := lw_g (lw_at lw_m4 161 rfl) rfl
theorem q991 : (Jvm.Cond.methodLink "BitRopes$Rope" (89 : Nat) ({ cls := "BitRopes$Rope", name := "wide", desc := "()I" } : Jvm.MethodName)) ∈ lw_all := lw_g (lw_at lw_m4 162 rfl) rfl
theorem q993 : (Jvm.Cond.instanceMethod ({ cls := "BitRopes$Rope", name := "where", desc := "(II)I" } : Jvm.MethodName)) ∈ lw_all := lw_g (lw_at lw_m4 164 rfl) rfl
theorem q994 : (Jvm.Cond.selects "BitRopes$Rope" ({ cls := "BitRopes$Rope", name := "where", desc := "(II)I" } : Jvm.MethodName) ({ cls := "BitRopes$Rope", name := "where", desc := "(II)I" } : Jvm.MethodName)) ∈ lw_all := lw_g (lw_at lw_m4 165 rfl) rfl
theorem q995 : (Jvm.Cond.code ({ cls := "BitRopes$Rope", name := "where", desc := "(II)I" } : Jvm.MethodName) prog_19_method_17_code (9 : Nat) (Option.some Jvm.ClassFile.FieldType.int)) ∈ lw_all := lw_g (lw_at lw_m4 166 rfl) rfl
theorem q1020 : (Jvm.Cond.instanceMethod ({ cls := "BitRopes$Rope", name := "folds", desc := "()I" } : Jvm.MethodName)) ∈ lw_all := lw_g (lw_at lw_m4 191 rfl) rfl
theorem q1021 : (Jvm.Cond.selects "BitRopes$Rope" ({ cls := "BitRopes$Rope", name := "folds", desc := "()I" } : Jvm.MethodName) ({ cls := "BitRopes$Rope", name := "folds", desc := "()I" } : Jvm.MethodName)) ∈ lw_all := lw_g (lw_at lw_m4 192 rfl) rfl
theorem q1022 : (Jvm.Cond.code ({ cls := "BitRopes$Rope", name := "folds", desc := "()I" } : Jvm.MethodName) prog_19_method_4_code (1 : Nat) (Option.some Jvm.ClassFile.FieldType.int)) ∈ lw_all := lw_g (lw_at lw_m4 193 rfl) rfl
theorem q1028 : (Jvm.Cond.instanceMethod ({ cls := "BitRopes$Rope", name := "all", desc := "()[LBitRopes$Leaf;" } : Jvm.MethodName)) ∈ lw_all := lw_g (lw_at lw_m4 199 rfl) rfl
theorem q1029 : (Jvm.Cond.selects "BitRopes$Rope" ({ cls := "BitRopes$Rope", name := "all", desc := "()[LBitRopes$Leaf;" } : Jvm.MethodName) ({ cls := "BitRopes$Rope", name := "all", desc := "()[LBitRopes$Leaf;" } : Jvm.MethodName)) ∈ lw_all := lw_g (lw_at lw_m4 200 rfl) rfl
theorem q1030 : (Jvm.Cond.code ({ cls := "BitRopes$Rope", name := "all", desc := "()[LBitRopes$Leaf;" } : Jvm.MethodName) prog_19_method_9_code (1 : Nat) (Option.some (Jvm.ClassFile.FieldType.array (Jvm.ClassFile.FieldType.object "BitRopes$Leaf")))) ∈ lw_all := lw_g (lw_at lw_m4 201 rfl) rfl
theorem q1036 : (Jvm.Cond.instanceMethod ({ cls := "BitRopes$Rope", name := "height", desc := "(LBitRopes$Node;)I" } : Jvm.MethodName)) ∈ lw_all := lw_g (lw_at lw_m4 207 rfl) rfl
theorem q1037 : (Jvm.Cond.selects "BitRopes$Rope" ({ cls := "BitRopes$Rope", name := "height", desc := "(LBitRopes$Node;)I" } : Jvm.MethodName) ({ cls := "BitRopes$Rope", name := "height", desc := "(LBitRopes$Node;)I" } : Jvm.MethodName)) ∈ lw_all := lw_g (lw_at lw_m4 208 rfl) rfl
theorem q1038 : (Jvm.Cond.code ({ cls := "BitRopes$Rope", name := "height", desc := "(LBitRopes$Node;)I" } : Jvm.MethodName) prog_19_method_27_code (3 : Nat) (Option.some Jvm.ClassFile.FieldType.int)) ∈ lw_all := lw_g (lw_at lw_m4 209 rfl) rfl
theorem q1039 : (Jvm.Cond.methodLink "BitRopes$Rope" (161 : Nat) ({ cls := "BitRopes$Rope", name := "height", desc := "(LBitRopes$Node;)I" } : Jvm.MethodName)) ∈ lw_all := lw_g (lw_at lw_m4 210 rfl) rfl
theorem q1040 : (Jvm.Cond.methodLink "BitRopes$Rope" (117 : Nat) ({ cls := "java/lang/Math", name := "max", desc := "(II)I" } : Jvm.MethodName)) ∈ lw_all := lw_g (lw_at lw_m4 211 rfl) rfl
theorem q1042 : (Jvm.Cond.instanceMethod ({ cls := "BitRopes$Rope", name := "cost", desc := "()I" } : Jvm.MethodName)) ∈ lw_all := lw_g (lw_at lw_m4 213 rfl) rfl
theorem q1043 : (Jvm.Cond.selects "BitRopes$Rope" ({ cls := "BitRopes$Rope", name := "cost", desc := "()I" } : Jvm.MethodName) ({ cls := "BitRopes$Rope", name := "cost", desc := "()I" } : Jvm.MethodName)) ∈ lw_all := lw_g (lw_at lw_m4 214 rfl) rfl
theorem q1044 : (Jvm.Cond.code ({ cls := "BitRopes$Rope", name := "cost", desc := "()I" } : Jvm.MethodName) prog_19_method_28_code (3 : Nat) (Option.some Jvm.ClassFile.FieldType.int)) ∈ lw_all := lw_g (lw_at lw_m4 215 rfl) rfl
theorem q1045 : (Jvm.Cond.methodLink "BitRopes$Rope" (165 : Nat) ({ cls := "BitRopes$Rope", name := "folds", desc := "()I" } : Jvm.MethodName)) ∈ lw_all := lw_g (lw_at lw_m4 216 rfl) rfl
theorem q1086 : (Jvm.Cond.instanceMethod ({ cls := "BitRopes$Rope", name := "unpack", desc := "(LBitRopes$Packed;)V" } : Jvm.MethodName)) ∈ lw_all := lw_g (lw_at lw_m5 17 rfl) rfl
theorem q1087 : (Jvm.Cond.selects "BitRopes$Rope" ({ cls := "BitRopes$Rope", name := "unpack", desc := "(LBitRopes$Packed;)V" } : Jvm.MethodName) ({ cls := "BitRopes$Rope", name := "unpack", desc := "(LBitRopes$Packed;)V" } : Jvm.MethodName)) ∈ lw_all := lw_g (lw_at lw_m5 18 rfl) rfl
theorem q1088 : (Jvm.Cond.code ({ cls := "BitRopes$Rope", name := "unpack", desc := "(LBitRopes$Packed;)V" } : Jvm.MethodName) prog_19_method_30_code (5 : Nat) (Option.none : Option Jvm.ClassFile.FieldType)) ∈ lw_all := lw_g (lw_at lw_m5 19 rfl) rfl
theorem q1089 : (Jvm.Cond.methodLink "BitRopes$Rope" (177 : Nat) ({ cls := "BitRopes$Rope", name := "clea\x72", desc := "()V" } : Jvm.MethodName)) ∈ lw_all := lw_g (lw_at lw_m5 20 rfl) rfl
theorem q1110 : (Jvm.Cond.instanceMethod ({ cls := "BitRopes$Rope", name := "pack", desc := "()LBitRopes$Packed;" } : Jvm.MethodName)) ∈ lw_all := lw_g (lw_at lw_m5 41 rfl) rfl
theorem q1111 : (Jvm.Cond.selects "BitRopes$Rope" ({ cls := "BitRopes$Rope", name := "pack", desc := "()LBitRopes$Packed;" } : Jvm.MethodName) ({ cls := "BitRopes$Rope", name := "pack", desc := "()LBitRopes$Packed;" } : Jvm.MethodName)) ∈ lw_all := lw_g (lw_at lw_m5 42 rfl) rfl
theorem q1112 : (Jvm.Cond.code ({ cls := "BitRopes$Rope", name := "pack", desc := "()LBitRopes$Packed;" } : Jvm.MethodName) prog_19_method_29_code (7 : Nat) (Option.some (Jvm.ClassFile.FieldType.object "BitRopes$Packed"))) ∈ lw_all := lw_g (lw_at lw_m5 43 rfl) rfl
theorem q1113 : (Jvm.Cond.methodLink "BitRopes$Rope" (168 : Nat) ({ cls := "BitRopes$Rope", name := "all", desc := "()[LBitRopes$Leaf;" } : Jvm.MethodName)) ∈ lw_all := lw_g (lw_at lw_m5 44 rfl) rfl
theorem q1114 : (Jvm.Cond.classLink "BitRopes$Rope" (172 : Nat) "BitRopes$Packed") ∈ lw_all := lw_g (lw_at lw_m5 45 rfl) rfl
theorem q1116 : (Jvm.Cond.methodLink "BitRopes$Rope" (174 : Nat) ({ cls := "BitRopes$Packed", name := "<init>", desc := "([J[I)V" } : Jvm.MethodName)) ∈ lw_all := lw_g (lw_at lw_m5 47 rfl) rfl
theorem q1122 : (Jvm.Cond.fieldLinkNest "BitRopes$Rope" (184 : Nat) "BitRopes$Packed" "bits" "[J" "BitRopes") ∈ lw_tbl := lw_at lw_m5 53 rfl
theorem q1124 : (Jvm.Cond.fieldLinkNest "BitRopes$Rope" (180 : Nat) "BitRopes$Packed" "sizes" "[I" "BitRopes") ∈ lw_tbl := lw_at lw_m5 55 rfl
theorem q1140 : (Jvm.Cond.instanceMethod ({ cls := "BitRopes$Rope", name := "write", desc := "(II)V" } : Jvm.MethodName)) ∈ lw_all := lw_g (lw_at lw_m5 71 rfl) rfl
theorem q1141 : (Jvm.Cond.selects "BitRopes$Rope" ({ cls := "BitRopes$Rope", name := "write", desc := "(II)V" } : Jvm.MethodName) ({ cls := "BitRopes$Rope", name := "write", desc := "(II)V" } : Jvm.MethodName)) ∈ lw_all := lw_g (lw_at lw_m5 72 rfl) rfl
theorem q1142 : (Jvm.Cond.code ({ cls := "BitRopes$Rope", name := "write", desc := "(II)V" } : Jvm.MethodName) prog_19_method_19_code (4 : Nat) (Option.none : Option Jvm.ClassFile.FieldType)) ∈ lw_all := lw_g (lw_at lw_m5 73 rfl) rfl
theorem q1143 : (Jvm.Cond.methodLink "BitRopes$Rope" (102 : Nat) ({ cls := "BitRopes$Rope", name := "get", desc := "(I)I" } : Jvm.MethodName)) ∈ lw_all := lw_g (lw_at lw_m5 74 rfl) rfl
theorem q1144 : (Jvm.Cond.methodLink "BitRopes$Rope" (96 : Nat) ({ cls := "BitRopes$Rope", name := "write", desc := "(LBitRopes$Node;II)V" } : Jvm.MethodName)) ∈ lw_all := lw_g (lw_at lw_m5 75 rfl) rfl
theorem q1145 : (Jvm.Cond.privateMethod ({ cls := "BitRopes$Rope", name := "write", desc := "(LBitRopes$Node;II)V" } : Jvm.MethodName)) ∈ lw_tbl := lw_at lw_m5 76 rfl
theorem q1146 : (Jvm.Cond.instanceMethod ({ cls := "BitRopes$Rope", name := "write", desc := "(LBitRopes$Node;II)V" } : Jvm.MethodName)) ∈ lw_all := lw_g (lw_at lw_m5 77 rfl) rfl
theorem q1147 : (Jvm.Cond.code ({ cls := "BitRopes$Rope", name := "write", desc := "(LBitRopes$Node;II)V" } : Jvm.MethodName) prog_19_method_18_code (5 : Nat) (Option.none : Option Jvm.ClassFile.FieldType)) ∈ lw_all := lw_g (lw_at lw_m5 78 rfl) rfl
theorem q1148 : (Jvm.Cond.methodLink "BitRopes$Rope" (92 : Nat) ({ cls := "BitRopes$Leaf", name := "write", desc := "(II)V" } : Jvm.MethodName)) ∈ lw_all := lw_g (lw_at lw_m5 79 rfl) rfl
theorem q1152 : (Jvm.Cond.methodLink "BitRopes$Rope" (99 : Nat) ({ cls := "BitRopes$Inne\x72", name := "recount", desc := "()V" } : Jvm.MethodName)) ∈ lw_all := lw_g (lw_at lw_m5 83 rfl) rfl
theorem q1158 : (Jvm.Cond.instanceMethod ({ cls := "BitRopes$Rope", name := "remove", desc := "(I)V" } : Jvm.MethodName)) ∈ lw_all := lw_g (lw_at lw_m5 89 rfl) rfl
theorem q1159 : (Jvm.Cond.selects "BitRopes$Rope" ({ cls := "BitRopes$Rope", name := "remove", desc := "(I)V" } : Jvm.MethodName) ({ cls := "BitRopes$Rope", name := "remove", desc := "(I)V" } : Jvm.MethodName)) ∈ lw_all := lw_g (lw_at lw_m5 90 rfl) rfl
theorem q1160 : (Jvm.Cond.code ({ cls := "BitRopes$Rope", name := "remove", desc := "(I)V" } : Jvm.MethodName) prog_19_method_24_code (3 : Nat) (Option.none : Option Jvm.ClassFile.FieldType)) ∈ lw_all := lw_g (lw_at lw_m5 91 rfl) rfl
theorem q1161 : (Jvm.Cond.methodLink "BitRopes$Rope" (142 : Nat) ({ cls := "BitRopes$Leaf", name := "remove", desc := "(I)V" } : Jvm.MethodName)) ∈ lw_all := lw_g (lw_at lw_m5 92 rfl) rfl
theorem q1162 : (Jvm.Cond.methodLink "BitRopes$Rope" (109 : Nat) ({ cls := "java/lang/Math", name := "min", desc := "(II)I" } : Jvm.MethodName)) ∈ lw_all := lw_g (lw_at lw_m5 93 rfl) rfl
theorem q1163 : (Jvm.Cond.methodLink "BitRopes$Rope" (145 : Nat) ({ cls := "BitRopes$Rope", name := "merge", desc := "(I)V" } : Jvm.MethodName)) ∈ lw_all := lw_g (lw_at lw_m5 94 rfl) rfl
theorem q1164 : (Jvm.Cond.privateMethod ({ cls := "BitRopes$Rope", name := "merge", desc := "(I)V" } : Jvm.MethodName)) ∈ lw_tbl := lw_at lw_m5 95 rfl
theorem q1165 : (Jvm.Cond.instanceMethod ({ cls := "BitRopes$Rope", name := "merge", desc := "(I)V" } : Jvm.MethodName)) ∈ lw_all := lw_g (lw_at lw_m5 96 rfl) rfl
theorem q1166 : (Jvm.Cond.code ({ cls := "BitRopes$Rope", name := "merge", desc := "(I)V" } : Jvm.MethodName) prog_19_method_26_code (6 : Nat) (Option.none : Option Jvm.ClassFile.FieldType)) ∈ lw_all := lw_g (lw_at lw_m5 97 rfl) rfl
theorem q1168 : (Jvm.Cond.instanceMethod ({ cls := "BitRopes$Rope", name := "flip", desc := "(II)V" } : Jvm.MethodName)) ∈ lw_all := lw_g (lw_at lw_m5 99 rfl) rfl
theorem q1169 : (Jvm.Cond.selects "BitRopes$Rope" ({ cls := "BitRopes$Rope", name := "flip", desc := "(II)V" } : Jvm.MethodName) ({ cls := "BitRopes$Rope", name := "flip", desc := "(II)V" } : Jvm.MethodName)) ∈ lw_all := lw_g (lw_at lw_m5 100 rfl) rfl
theorem q1170 : (Jvm.Cond.code ({ cls := "BitRopes$Rope", name := "flip", desc := "(II)V" } : Jvm.MethodName) prog_19_method_21_code (7 : Nat) (Option.none : Option Jvm.ClassFile.FieldType)) ∈ lw_all := lw_g (lw_at lw_m5 101 rfl) rfl
theorem q1171 : (Jvm.Cond.methodLink "BitRopes$Rope" (115 : Nat) ({ cls := "BitRopes$Rope", name := "flip", desc := "(LBitRopes$Node;II)V" } : Jvm.MethodName)) ∈ lw_all := lw_g (lw_at lw_m5 102 rfl) rfl
theorem q1172 : (Jvm.Cond.privateMethod ({ cls := "BitRopes$Rope", name := "flip", desc := "(LBitRopes$Node;II)V" } : Jvm.MethodName)) ∈ lw_tbl := lw_at lw_m5 103 rfl
theorem q1173 : (Jvm.Cond.instanceMethod ({ cls := "BitRopes$Rope", name := "flip", desc := "(LBitRopes$Node;II)V" } : Jvm.MethodName)) ∈ lw_all := lw_g (lw_at lw_m5 104 rfl) rfl
theorem q1174 : (Jvm.Cond.code ({ cls := "BitRopes$Rope", name := "flip", desc := "(LBitRopes$Node;II)V" } : Jvm.MethodName) prog_19_method_20_code (6 : Nat) (Option.none : Option Jvm.ClassFile.FieldType)) ∈ lw_all := lw_g (lw_at lw_m5 105 rfl) rfl
theorem q1175 : (Jvm.Cond.methodLink "BitRopes$Rope" (103 : Nat) ({ cls := "BitRopes$Node", name := "turnAll", desc := "()V" } : Jvm.MethodName)) ∈ lw_all := lw_g (lw_at lw_m5 106 rfl) rfl
theorem q1176 : (Jvm.Cond.methodLink "BitRopes$Rope" (106 : Nat) ({ cls := "BitRopes$Leaf", name := "flip", desc := "(II)V" } : Jvm.MethodName)) ∈ lw_all := lw_g (lw_at lw_m5 107 rfl) rfl
theorem q2327 : (Jvm.Cond.castable "BitRopes$Rope" "java/lang/Object") ∈ lw_tbl := lw_at lw_m10 58 rfl
theorem in_X5 : ∀ w ∈ wsX50, w ∈ lw_all := lw_in wsX50 [302, 304, 306, 308, 310, 312, 314, 316, 318] (by decide +kernel) (by decide +kernel)

/-! BitRopes$Leaf -/
set_option maxRecDepth 100000
def RX12 : String := "BitRopes$Leaf"
def TX12 : u_T := fun k => match k with
  | 0 => ("BitRopes$Node", "size", "I", false)
  | 1 => ("BitRopes$Node", "ones", "I", false)
  | 2 => ("BitRopes$Node", "leaves", "I", false)
  | 3 => ("BitRopes$Leaf", "raw", "[J", true)
  | _ => ("BitRopes$Leaf", "isTurned", "Z", false)
def tyX12 : Nat → FieldType := fun k => match k with
  | 0 => .int
  | 1 => .int
  | 2 => .int
  | 3 => .array .long
  | _ => .boolean
abbrev wsX120 : List Cond := u_ws RX12 TX12 5
theorem nmX12 : ∀ a, a < 5 → ∀ b, b < 5 → a ≠ b → (TX12 a).2.1 ≠ (TX12 b).2.1 := by decide +kernel
theorem tyX12_ok : ∀ k, k < 5 → parseFieldDescriptor (TX12 k).2.2.1 = some (tyX12 k) := by decide +kernel
abbrev cX12_turnAll : ByteArray := prog_11_method_10_code
def yX12_turnAll : MethodName := ⟨RX12, "turnAll", "()V"⟩
def dkwX12_turnAll_1 : List UInt8 := [180, 0, 22, 100, 181, 0, 22, 177]
abbrev dktX12_turnAll_1 : List UInt8 := dkwX12_turnAll_1 ++ []
def dkwX12_turnAll_0 : List UInt8 := [42, 42, 180, 0, 25, 154, 0, 7, 4, 167, 0, 4, 3, 181, 0, 25, 42, 42, 180, 0, 19, 42]
abbrev dktX12_turnAll_0 : List UInt8 := dkwX12_turnAll_0 ++ dktX12_turnAll_1
theorem dksX12_turnAll_0 : cX12_turnAll.data.toList.drop 0 = dktX12_turnAll_0 := by decide +kernel
theorem dksX12_turnAll_1 : cX12_turnAll.data.toList.drop 22 = dktX12_turnAll_1 := dk_seg dksX12_turnAll_0 22 rfl rfl
theorem dX12_turnAll_0 : decode cX12_turnAll 0 = .ok (.aload_n 0, 1) := dk_42 (dk_at dksX12_turnAll_0 0 rfl rfl)
theorem dX12_turnAll_1 : decode cX12_turnAll 1 = .ok (.aload_n 0, 1) := dk_42 (dk_at dksX12_turnAll_0 1 rfl rfl)
theorem dX12_turnAll_2 : decode cX12_turnAll 2 = .ok (.getfield 25, 3) := dk_180 0 25 (dk_at dksX12_turnAll_0 2 rfl rfl)
theorem dX12_turnAll_5 : decode cX12_turnAll 5 = .ok (.ifCond .ne 7, 3) := dk_154 0 7 (dk_at dksX12_turnAll_0 5 rfl rfl)
theorem dX12_turnAll_8 : decode cX12_turnAll 8 = .ok (.iconst 1, 1) := dk_4 (dk_at dksX12_turnAll_0 8 rfl rfl)
theorem dX12_turnAll_9 : decode cX12_turnAll 9 = .ok (.goto 4, 3) := dk_167 0 4 (dk_at dksX12_turnAll_0 9 rfl rfl)
theorem dX12_turnAll_12 : decode cX12_turnAll 12 = .ok (.iconst 0, 1) := dk_3 (dk_at dksX12_turnAll_0 12 rfl rfl)
theorem dX12_turnAll_13 : decode cX12_turnAll 13 = .ok (.putfield 25, 3) := dk_181 0 25 (dk_at dksX12_turnAll_0 13 rfl rfl)
theorem dX12_turnAll_16 : decode cX12_turnAll 16 = .ok (.aload_n 0, 1) := dk_42 (dk_at dksX12_turnAll_0 16 rfl rfl)
theorem dX12_turnAll_17 : decode cX12_turnAll 17 = .ok (.aload_n 0, 1) := dk_42 (dk_at dksX12_turnAll_0 17 rfl rfl)
theorem dX12_turnAll_18 : decode cX12_turnAll 18 = .ok (.getfield 19, 3) := dk_180 0 19 (dk_at dksX12_turnAll_0 18 rfl rfl)
theorem dX12_turnAll_21 : decode cX12_turnAll 21 = .ok (.aload_n 0, 1) := dk_42 (dk_at dksX12_turnAll_0 21 rfl rfl)
theorem dX12_turnAll_22 : decode cX12_turnAll 22 = .ok (.getfield 22, 3) := dk_180 0 22 (dk_at dksX12_turnAll_1 0 rfl rfl)
theorem dX12_turnAll_25 : decode cX12_turnAll 25 = .ok (.isub, 1) := dk_100 (dk_at dksX12_turnAll_1 3 rfl rfl)
theorem dX12_turnAll_26 : decode cX12_turnAll 26 = .ok (.putfield 22, 3) := dk_181 0 22 (dk_at dksX12_turnAll_1 4 rfl rfl)
theorem dX12_turnAll_29 : decode cX12_turnAll 29 = .ok (.return_, 1) := dk_177 (dk_at dksX12_turnAll_1 7 rfl rfl)
abbrev cX12_init : ByteArray := prog_11_method_1_code
def yX12_init : MethodName := ⟨RX12, "<init>", "()V"⟩
def dkwX12_init_0 : List UInt8 := [42, 183, 0, 3, 42, 5, 188, 11, 181, 0, 9, 42, 4, 181, 0, 15, 177]
abbrev dktX12_init_0 : List UInt8 := dkwX12_init_0 ++ []
theorem dksX12_init_0 : cX12_init.data.toList.drop 0 = dktX12_init_0 := by decide +kernel
theorem dX12_init_0 : decode cX12_init 0 = .ok (.aload_n 0, 1) := dk_42 (dk_at dksX12_init_0 0 rfl rfl)
theorem dX12_init_1 : decode cX12_init 1 = .ok (.invokespecial 3, 3) := dk_183 0 3 (dk_at dksX12_init_0 1 rfl rfl)
theorem dX12_init_4 : decode cX12_init 4 = .ok (.aload_n 0, 1) := dk_42 (dk_at dksX12_init_0 4 rfl rfl)
theorem dX12_init_5 : decode cX12_init 5 = .ok (.iconst 2, 1) := dk_5 (dk_at dksX12_init_0 5 rfl rfl)
theorem dX12_init_6 : decode cX12_init 6 = .ok (.newarray .long, 2) := dk_188_11 (dk_at dksX12_init_0 6 rfl rfl)
theorem dX12_init_8 : decode cX12_init 8 = .ok (.putfield 9, 3) := dk_181 0 9 (dk_at dksX12_init_0 8 rfl rfl)
theorem dX12_init_11 : decode cX12_init 11 = .ok (.aload_n 0, 1) := dk_42 (dk_at dksX12_init_0 11 rfl rfl)
theorem dX12_init_12 : decode cX12_init 12 = .ok (.iconst 1, 1) := dk_4 (dk_at dksX12_init_0 12 rfl rfl)
theorem dX12_init_13 : decode cX12_init 13 = .ok (.putfield 15, 3) := dk_181 0 15 (dk_at dksX12_init_0 13 rfl rfl)
theorem dX12_init_16 : decode cX12_init 16 = .ok (.return_, 1) := dk_177 (dk_at dksX12_init_0 16 rfl rfl)
abbrev cX12_cleared : ByteArray := prog_11_method_2_code
def yX12_cleared : MethodName := ⟨RX12, "cleared", "()LBitRopes$Leaf;"⟩
def dkwX12_cleared_0 : List UInt8 := [42, 3, 181, 0, 19, 42, 3, 181, 0, 22, 42, 3, 181, 0, 25, 42, 176]
abbrev dktX12_cleared_0 : List UInt8 := dkwX12_cleared_0 ++ []
theorem dksX12_cleared_0 : cX12_cleared.data.toList.drop 0 = dktX12_cleared_0 := by decide +kernel
theorem dX12_cleared_0 : decode cX12_cleared 0 = .ok (.aload_n 0, 1) := dk_42 (dk_at dksX12_cleared_0 0 rfl rfl)
theorem dX12_cleared_1 : decode cX12_cleared 1 = .ok (.iconst 0, 1) := dk_3 (dk_at dksX12_cleared_0 1 rfl rfl)
theorem dX12_cleared_2 : decode cX12_cleared 2 = .ok (.putfield 19, 3) := dk_181 0 19 (dk_at dksX12_cleared_0 2 rfl rfl)
theorem dX12_cleared_5 : decode cX12_cleared 5 = .ok (.aload_n 0, 1) := dk_42 (dk_at dksX12_cleared_0 5 rfl rfl)
theorem dX12_cleared_6 : decode cX12_cleared 6 = .ok (.iconst 0, 1) := dk_3 (dk_at dksX12_cleared_0 6 rfl rfl)
theorem dX12_cleared_7 : decode cX12_cleared 7 = .ok (.putfield 22, 3) := dk_181 0 22 (dk_at dksX12_cleared_0 7 rfl rfl)
theorem dX12_cleared_10 : decode cX12_cleared 10 = .ok (.aload_n 0, 1) := dk_42 (dk_at dksX12_cleared_0 10 rfl rfl)
theorem dX12_cleared_11 : decode cX12_cleared 11 = .ok (.iconst 0, 1) := dk_3 (dk_at dksX12_cleared_0 11 rfl rfl)
theorem dX12_cleared_12 : decode cX12_cleared 12 = .ok (.putfield 25, 3) := dk_181 0 25 (dk_at dksX12_cleared_0 12 rfl rfl)
theorem dX12_cleared_15 : decode cX12_cleared 15 = .ok (.aload_n 0, 1) := dk_42 (dk_at dksX12_cleared_0 15 rfl rfl)
theorem dX12_cleared_16 : decode cX12_cleared 16 = .ok (.areturn, 1) := dk_176 (dk_at dksX12_cleared_0 16 rfl rfl)
abbrev cX12_insert : ByteArray := prog_11_method_7_code
def yX12_insert : MethodName := ⟨RX12, "insert", "(II)V"⟩
def dkwX12_insert_2 : List UInt8 := [180, 0, 22, 28, 96, 181, 0, 22, 177]
abbrev dktX12_insert_2 : List UInt8 := dkwX12_insert_2 ++ []
def dkwX12_insert_1 : List UInt8 := [132, 3, 255, 167, 255, 236, 42, 27, 28, 182, 0, 39, 42, 89, 180, 0, 19, 4, 96, 181, 0, 19, 42, 89]
abbrev dktX12_insert_1 : List UInt8 := dkwX12_insert_1 ++ dktX12_insert_2
def dkwX12_insert_0 : List UInt8 := [42, 180, 0, 19, 62, 29, 27, 164, 0, 21, 42, 29, 42, 29, 4, 100, 182, 0, 35, 182, 0, 39]
abbrev dktX12_insert_0 : List UInt8 := dkwX12_insert_0 ++ dktX12_insert_1
theorem dksX12_insert_0 : cX12_insert.data.toList.drop 0 = dktX12_insert_0 := by decide +kernel
theorem dksX12_insert_1 : cX12_insert.data.toList.drop 22 = dktX12_insert_1 := dk_seg dksX12_insert_0 22 rfl rfl
theorem dksX12_insert_2 : cX12_insert.data.toList.drop 46 = dktX12_insert_2 := dk_seg dksX12_insert_1 24 rfl rfl
theorem dX12_insert_0 : decode cX12_insert 0 = .ok (.aload_n 0, 1) := dk_42 (dk_at dksX12_insert_0 0 rfl rfl)
theorem dX12_insert_1 : decode cX12_insert 1 = .ok (.getfield 19, 3) := dk_180 0 19 (dk_at dksX12_insert_0 1 rfl rfl)
theorem dX12_insert_4 : decode cX12_insert 4 = .ok (.istore_n 3, 1) := dk_62 (dk_at dksX12_insert_0 4 rfl rfl)
theorem dX12_insert_5 : decode cX12_insert 5 = .ok (.iload_n 3, 1) := dk_29 (dk_at dksX12_insert_0 5 rfl rfl)
theorem dX12_insert_6 : decode cX12_insert 6 = .ok (.iload_n 1, 1) := dk_27 (dk_at dksX12_insert_0 6 rfl rfl)
theorem dX12_insert_7 : decode cX12_insert 7 = .ok (.if_icmp .le 21, 3) := dk_164 0 21 (dk_at dksX12_insert_0 7 rfl rfl)
theorem dX12_insert_10 : decode cX12_insert 10 = .ok (.aload_n 0, 1) := dk_42 (dk_at dksX12_insert_0 10 rfl rfl)
theorem dX12_insert_11 : decode cX12_insert 11 = .ok (.iload_n 3, 1) := dk_29 (dk_at dksX12_insert_0 11 rfl rfl)
theorem dX12_insert_12 : decode cX12_insert 12 = .ok (.aload_n 0, 1) := dk_42 (dk_at dksX12_insert_0 12 rfl rfl)
theorem dX12_insert_13 : decode cX12_insert 13 = .ok (.iload_n 3, 1) := dk_29 (dk_at dksX12_insert_0 13 rfl rfl)
theorem dX12_insert_14 : decode cX12_insert 14 = .ok (.iconst 1, 1) := dk_4 (dk_at dksX12_insert_0 14 rfl rfl)
theorem dX12_insert_15 : decode cX12_insert 15 = .ok (.isub, 1) := dk_100 (dk_at dksX12_insert_0 15 rfl rfl)
theorem dX12_insert_16 : decode cX12_insert 16 = .ok (.invokevirtual 35, 3) := dk_182 0 35 (dk_at dksX12_insert_0 16 rfl rfl)
theorem dX12_insert_19 : decode cX12_insert 19 = .ok (.invokevirtual 39, 3) := dk_182 0 39 (dk_at dksX12_insert_0 19 rfl rfl)
theorem dX12_insert_22 : decode cX12_insert 22 = .ok (.iinc 3 (-1), 3) := dk_132 3 255 (dk_at dksX12_insert_1 0 rfl rfl)
theorem dX12_insert_25 : decode cX12_insert 25 = .ok (.goto (-20), 3) := dk_167 255 236 (dk_at dksX12_insert_1 3 rfl rfl)
theorem dX12_insert_28 : decode cX12_insert 28 = .ok (.aload_n 0, 1) := dk_42 (dk_at dksX12_insert_1 6 rfl rfl)
theorem dX12_insert_29 : decode cX12_insert 29 = .ok (.iload_n 1, 1) := dk_27 (dk_at dksX12_insert_1 7 rfl rfl)
theorem dX12_insert_30 : decode cX12_insert 30 = .ok (.iload_n 2, 1) := dk_28 (dk_at dksX12_insert_1 8 rfl rfl)
theorem dX12_insert_31 : decode cX12_insert 31 = .ok (.invokevirtual 39, 3) := dk_182 0 39 (dk_at dksX12_insert_1 9 rfl rfl)
theorem dX12_insert_34 : decode cX12_insert 34 = .ok (.aload_n 0, 1) := dk_42 (dk_at dksX12_insert_1 12 rfl rfl)
theorem dX12_insert_35 : decode cX12_insert 35 = .ok (.dup, 1) := dk_89 (dk_at dksX12_insert_1 13 rfl rfl)
theorem dX12_insert_36 : decode cX12_insert 36 = .ok (.getfield 19, 3) := dk_180 0 19 (dk_at dksX12_insert_1 14 rfl rfl)
theorem dX12_insert_39 : decode cX12_insert 39 = .ok (.iconst 1, 1) := dk_4 (dk_at dksX12_insert_1 17 rfl rfl)
theorem dX12_insert_40 : decode cX12_insert 40 = .ok (.iadd, 1) := dk_96 (dk_at dksX12_insert_1 18 rfl rfl)
theorem dX12_insert_41 : decode cX12_insert 41 = .ok (.putfield 19, 3) := dk_181 0 19 (dk_at dksX12_insert_1 19 rfl rfl)
theorem dX12_insert_44 : decode cX12_insert 44 = .ok (.aload_n 0, 1) := dk_42 (dk_at dksX12_insert_1 22 rfl rfl)
theorem dX12_insert_45 : decode cX12_insert 45 = .ok (.dup, 1) := dk_89 (dk_at dksX12_insert_1 23 rfl rfl)
theorem dX12_insert_46 : decode cX12_insert 46 = .ok (.getfield 22, 3) := dk_180 0 22 (dk_at dksX12_insert_2 0 rfl rfl)
theorem dX12_insert_49 : decode cX12_insert 49 = .ok (.iload_n 2, 1) := dk_28 (dk_at dksX12_insert_2 3 rfl rfl)
theorem dX12_insert_50 : decode cX12_insert 50 = .ok (.iadd, 1) := dk_96 (dk_at dksX12_insert_2 4 rfl rfl)
theorem dX12_insert_51 : decode cX12_insert 51 = .ok (.putfield 22, 3) := dk_181 0 22 (dk_at dksX12_insert_2 5 rfl rfl)
theorem dX12_insert_54 : decode cX12_insert 54 = .ok (.return_, 1) := dk_177 (dk_at dksX12_insert_2 8 rfl rfl)
abbrev cX12_get : ByteArray := prog_11_method_4_code
def yX12_get : MethodName := ⟨RX12, "get", "(I)I"⟩
def dkwX12_get_1 : List UInt8 := [4, 167, 0, 4, 3, 130, 172]
abbrev dktX12_get_1 : List UInt8 := dkwX12_get_1 ++ []
def dkwX12_get_0 : List UInt8 := [42, 180, 0, 9, 27, 16, 64, 108, 47, 27, 16, 64, 112, 123, 10, 127, 136, 42, 180, 0, 25, 153, 0, 7]
abbrev dktX12_get_0 : List UInt8 := dkwX12_get_0 ++ dktX12_get_1
theorem dksX12_get_0 : cX12_get.data.toList.drop 0 = dktX12_get_0 := by decide +kernel
theorem dksX12_get_1 : cX12_get.data.toList.drop 24 = dktX12_get_1 := dk_seg dksX12_get_0 24 rfl rfl
theorem dX12_get_0 : decode cX12_get 0 = .ok (.aload_n 0, 1) := dk_42 (dk_at dksX12_get_0 0 rfl rfl)
theorem dX12_get_1 : decode cX12_get 1 = .ok (.getfield 9, 3) := dk_180 0 9 (dk_at dksX12_get_0 1 rfl rfl)
theorem dX12_get_4 : decode cX12_get 4 = .ok (.iload_n 1, 1) := dk_27 (dk_at dksX12_get_0 4 rfl rfl)
theorem dX12_get_5 : decode cX12_get 5 = .ok (.bipush 64, 2) := dk_16 64 (dk_at dksX12_get_0 5 rfl rfl)
theorem dX12_get_7 : decode cX12_get 7 = .ok (.idiv, 1) := dk_108 (dk_at dksX12_get_0 7 rfl rfl)
theorem dX12_get_8 : decode cX12_get 8 = .ok (.laload, 1) := dk_47 (dk_at dksX12_get_0 8 rfl rfl)
theorem dX12_get_9 : decode cX12_get 9 = .ok (.iload_n 1, 1) := dk_27 (dk_at dksX12_get_0 9 rfl rfl)
theorem dX12_get_10 : decode cX12_get 10 = .ok (.bipush 64, 2) := dk_16 64 (dk_at dksX12_get_0 10 rfl rfl)
theorem dX12_get_12 : decode cX12_get 12 = .ok (.irem, 1) := dk_112 (dk_at dksX12_get_0 12 rfl rfl)
theorem dX12_get_13 : decode cX12_get 13 = .ok (.lshr, 1) := dk_123 (dk_at dksX12_get_0 13 rfl rfl)
theorem dX12_get_14 : decode cX12_get 14 = .ok (.lconst 1, 1) := dk_10 (dk_at dksX12_get_0 14 rfl rfl)
theorem dX12_get_15 : decode cX12_get 15 = .ok (.land, 1) := dk_127 (dk_at dksX12_get_0 15 rfl rfl)
theorem dX12_get_16 : decode cX12_get 16 = .ok (.l2i, 1) := dk_136 (dk_at dksX12_get_0 16 rfl rfl)
theorem dX12_get_17 : decode cX12_get 17 = .ok (.aload_n 0, 1) := dk_42 (dk_at dksX12_get_0 17 rfl rfl)
theorem dX12_get_18 : decode cX12_get 18 = .ok (.getfield 25, 3) := dk_180 0 25 (dk_at dksX12_get_0 18 rfl rfl)
theorem dX12_get_21 : decode cX12_get 21 = .ok (.ifCond .eq 7, 3) := dk_153 0 7 (dk_at dksX12_get_0 21 rfl rfl)
theorem dX12_get_24 : decode cX12_get 24 = .ok (.iconst 1, 1) := dk_4 (dk_at dksX12_get_1 0 rfl rfl)
theorem dX12_get_25 : decode cX12_get 25 = .ok (.goto 4, 3) := dk_167 0 4 (dk_at dksX12_get_1 1 rfl rfl)
theorem dX12_get_28 : decode cX12_get 28 = .ok (.iconst 0, 1) := dk_3 (dk_at dksX12_get_1 4 rfl rfl)
theorem dX12_get_29 : decode cX12_get 29 = .ok (.ixor, 1) := dk_130 (dk_at dksX12_get_1 5 rfl rfl)
theorem dX12_get_30 : decode cX12_get 30 = .ok (.ireturn, 1) := dk_172 (dk_at dksX12_get_1 6 rfl rfl)
abbrev cX12_store : ByteArray := prog_11_method_5_code
def yX12_store : MethodName := ⟨RX12, "store", "(II)V"⟩
def dkwX12_store_2 : List UInt8 := [47, 33, 20, 0, 33, 131, 127, 80, 177]
abbrev dktX12_store_2 : List UInt8 := dkwX12_store_2 ++ []
def dkwX12_store_1 : List UInt8 := [180, 0, 9, 27, 16, 64, 108, 92, 47, 33, 129, 80, 167, 0, 20, 42, 180, 0, 9, 27, 16, 64, 108, 92]
abbrev dktX12_store_1 : List UInt8 := dkwX12_store_1 ++ dktX12_store_2
def dkwX12_store_0 : List UInt8 := [10, 27, 16, 64, 112, 121, 66, 28, 42, 180, 0, 25, 153, 0, 7, 4, 167, 0, 4, 3, 159, 0, 19, 42]
abbrev dktX12_store_0 : List UInt8 := dkwX12_store_0 ++ dktX12_store_1
theorem dksX12_store_0 : cX12_store.data.toList.drop 0 = dktX12_store_0 := by decide +kernel
theorem dksX12_store_1 : cX12_store.data.toList.drop 24 = dktX12_store_1 := dk_seg dksX12_store_0 24 rfl rfl
theorem dksX12_store_2 : cX12_store.data.toList.drop 48 = dktX12_store_2 := dk_seg dksX12_store_1 24 rfl rfl
theorem dX12_store_0 : decode cX12_store 0 = .ok (.lconst 1, 1) := dk_10 (dk_at dksX12_store_0 0 rfl rfl)
theorem dX12_store_1 : decode cX12_store 1 = .ok (.iload_n 1, 1) := dk_27 (dk_at dksX12_store_0 1 rfl rfl)
theorem dX12_store_2 : decode cX12_store 2 = .ok (.bipush 64, 2) := dk_16 64 (dk_at dksX12_store_0 2 rfl rfl)
theorem dX12_store_4 : decode cX12_store 4 = .ok (.irem, 1) := dk_112 (dk_at dksX12_store_0 4 rfl rfl)
theorem dX12_store_5 : decode cX12_store 5 = .ok (.lshl, 1) := dk_121 (dk_at dksX12_store_0 5 rfl rfl)
theorem dX12_store_6 : decode cX12_store 6 = .ok (.lstore_n 3, 1) := dk_66 (dk_at dksX12_store_0 6 rfl rfl)
theorem dX12_store_7 : decode cX12_store 7 = .ok (.iload_n 2, 1) := dk_28 (dk_at dksX12_store_0 7 rfl rfl)
theorem dX12_store_8 : decode cX12_store 8 = .ok (.aload_n 0, 1) := dk_42 (dk_at dksX12_store_0 8 rfl rfl)
theorem dX12_store_9 : decode cX12_store 9 = .ok (.getfield 25, 3) := dk_180 0 25 (dk_at dksX12_store_0 9 rfl rfl)
theorem dX12_store_12 : decode cX12_store 12 = .ok (.ifCond .eq 7, 3) := dk_153 0 7 (dk_at dksX12_store_0 12 rfl rfl)
theorem dX12_store_15 : decode cX12_store 15 = .ok (.iconst 1, 1) := dk_4 (dk_at dksX12_store_0 15 rfl rfl)
theorem dX12_store_16 : decode cX12_store 16 = .ok (.goto 4, 3) := dk_167 0 4 (dk_at dksX12_store_0 16 rfl rfl)
theorem dX12_store_19 : decode cX12_store 19 = .ok (.iconst 0, 1) := dk_3 (dk_at dksX12_store_0 19 rfl rfl)
theorem dX12_store_20 : decode cX12_store 20 = .ok (.if_icmp .eq 19, 3) := dk_159 0 19 (dk_at dksX12_store_0 20 rfl rfl)
theorem dX12_store_23 : decode cX12_store 23 = .ok (.aload_n 0, 1) := dk_42 (dk_at dksX12_store_0 23 rfl rfl)
theorem dX12_store_24 : decode cX12_store 24 = .ok (.getfield 9, 3) := dk_180 0 9 (dk_at dksX12_store_1 0 rfl rfl)
theorem dX12_store_27 : decode cX12_store 27 = .ok (.iload_n 1, 1) := dk_27 (dk_at dksX12_store_1 3 rfl rfl)
theorem dX12_store_28 : decode cX12_store 28 = .ok (.bipush 64, 2) := dk_16 64 (dk_at dksX12_store_1 4 rfl rfl)
theorem dX12_store_30 : decode cX12_store 30 = .ok (.idiv, 1) := dk_108 (dk_at dksX12_store_1 6 rfl rfl)
theorem dX12_store_31 : decode cX12_store 31 = .ok (.dup2, 1) := dk_92 (dk_at dksX12_store_1 7 rfl rfl)
theorem dX12_store_32 : decode cX12_store 32 = .ok (.laload, 1) := dk_47 (dk_at dksX12_store_1 8 rfl rfl)
theorem dX12_store_33 : decode cX12_store 33 = .ok (.lload_n 3, 1) := dk_33 (dk_at dksX12_store_1 9 rfl rfl)
theorem dX12_store_34 : decode cX12_store 34 = .ok (.lor, 1) := dk_129 (dk_at dksX12_store_1 10 rfl rfl)
theorem dX12_store_35 : decode cX12_store 35 = .ok (.lastore, 1) := dk_80 (dk_at dksX12_store_1 11 rfl rfl)
theorem dX12_store_36 : decode cX12_store 36 = .ok (.goto 20, 3) := dk_167 0 20 (dk_at dksX12_store_1 12 rfl rfl)
theorem dX12_store_39 : decode cX12_store 39 = .ok (.aload_n 0, 1) := dk_42 (dk_at dksX12_store_1 15 rfl rfl)
theorem dX12_store_40 : decode cX12_store 40 = .ok (.getfield 9, 3) := dk_180 0 9 (dk_at dksX12_store_1 16 rfl rfl)
theorem dX12_store_43 : decode cX12_store 43 = .ok (.iload_n 1, 1) := dk_27 (dk_at dksX12_store_1 19 rfl rfl)
theorem dX12_store_44 : decode cX12_store 44 = .ok (.bipush 64, 2) := dk_16 64 (dk_at dksX12_store_1 20 rfl rfl)
theorem dX12_store_46 : decode cX12_store 46 = .ok (.idiv, 1) := dk_108 (dk_at dksX12_store_1 22 rfl rfl)
theorem dX12_store_47 : decode cX12_store 47 = .ok (.dup2, 1) := dk_92 (dk_at dksX12_store_1 23 rfl rfl)
theorem dX12_store_48 : decode cX12_store 48 = .ok (.laload, 1) := dk_47 (dk_at dksX12_store_2 0 rfl rfl)
theorem dX12_store_49 : decode cX12_store 49 = .ok (.lload_n 3, 1) := dk_33 (dk_at dksX12_store_2 1 rfl rfl)
theorem dX12_store_50 : decode cX12_store 50 = .ok (.ldc2_w 33, 3) := dk_20 0 33 (dk_at dksX12_store_2 2 rfl rfl)
theorem dX12_store_53 : decode cX12_store 53 = .ok (.lxor, 1) := dk_131 (dk_at dksX12_store_2 5 rfl rfl)
theorem dX12_store_54 : decode cX12_store 54 = .ok (.land, 1) := dk_127 (dk_at dksX12_store_2 6 rfl rfl)
theorem dX12_store_55 : decode cX12_store 55 = .ok (.lastore, 1) := dk_80 (dk_at dksX12_store_2 7 rfl rfl)
theorem dX12_store_56 : decode cX12_store 56 = .ok (.return_, 1) := dk_177 (dk_at dksX12_store_2 8 rfl rfl)
abbrev cX12_add : ByteArray := prog_11_method_9_code
def yX12_add : MethodName := ⟨RX12, "add", "(LBitRopes$Leaf;II)V"⟩
def dkwX12_add_1 : List UInt8 := [132, 4, 1, 167, 255, 233, 177]
abbrev dktX12_add_1 : List UInt8 := dkwX12_add_1 ++ []
def dkwX12_add_0 : List UInt8 := [28, 54, 4, 21, 4, 29, 162, 0, 23, 42, 42, 180, 0, 19, 43, 21, 4, 182, 0, 35, 182, 0, 43]
abbrev dktX12_add_0 : List UInt8 := dkwX12_add_0 ++ dktX12_add_1
theorem dksX12_add_0 : cX12_add.data.toList.drop 0 = dktX12_add_0 := by decide +kernel
theorem dksX12_add_1 : cX12_add.data.toList.drop 23 = dktX12_add_1 := dk_seg dksX12_add_0 23 rfl rfl
theorem dX12_add_0 : decode cX12_add 0 = .ok (.iload_n 2, 1) := dk_28 (dk_at dksX12_add_0 0 rfl rfl)
theorem dX12_add_1 : decode cX12_add 1 = .ok (.istore 4, 2) := dk_54 4 (dk_at dksX12_add_0 1 rfl rfl)
theorem dX12_add_3 : decode cX12_add 3 = .ok (.iload 4, 2) := dk_21 4 (dk_at dksX12_add_0 3 rfl rfl)
theorem dX12_add_5 : decode cX12_add 5 = .ok (.iload_n 3, 1) := dk_29 (dk_at dksX12_add_0 5 rfl rfl)
theorem dX12_add_6 : decode cX12_add 6 = .ok (.if_icmp .ge 23, 3) := dk_162 0 23 (dk_at dksX12_add_0 6 rfl rfl)
theorem dX12_add_9 : decode cX12_add 9 = .ok (.aload_n 0, 1) := dk_42 (dk_at dksX12_add_0 9 rfl rfl)
theorem dX12_add_10 : decode cX12_add 10 = .ok (.aload_n 0, 1) := dk_42 (dk_at dksX12_add_0 10 rfl rfl)
theorem dX12_add_11 : decode cX12_add 11 = .ok (.getfield 19, 3) := dk_180 0 19 (dk_at dksX12_add_0 11 rfl rfl)
theorem dX12_add_14 : decode cX12_add 14 = .ok (.aload_n 1, 1) := dk_43 (dk_at dksX12_add_0 14 rfl rfl)
theorem dX12_add_15 : decode cX12_add 15 = .ok (.iload 4, 2) := dk_21 4 (dk_at dksX12_add_0 15 rfl rfl)
theorem dX12_add_17 : decode cX12_add 17 = .ok (.invokevirtual 35, 3) := dk_182 0 35 (dk_at dksX12_add_0 17 rfl rfl)
theorem dX12_add_20 : decode cX12_add 20 = .ok (.invokevirtual 43, 3) := dk_182 0 43 (dk_at dksX12_add_0 20 rfl rfl)
theorem dX12_add_23 : decode cX12_add 23 = .ok (.iinc 4 1, 3) := dk_132 4 1 (dk_at dksX12_add_1 0 rfl rfl)
theorem dX12_add_26 : decode cX12_add 26 = .ok (.goto (-23), 3) := dk_167 255 233 (dk_at dksX12_add_1 3 rfl rfl)
theorem dX12_add_29 : decode cX12_add 29 = .ok (.return_, 1) := dk_177 (dk_at dksX12_add_1 6 rfl rfl)
abbrev cX12_shorten : ByteArray := prog_11_method_3_code
def yX12_shorten : MethodName := ⟨RX12, "shorten", "(I)V"⟩
def dkwX12_shorten_0 : List UInt8 := [42, 180, 0, 19, 27, 164, 0, 16, 42, 42, 180, 0, 19, 4, 100, 182, 0, 29, 167, 255, 238, 177]
abbrev dktX12_shorten_0 : List UInt8 := dkwX12_shorten_0 ++ []
theorem dksX12_shorten_0 : cX12_shorten.data.toList.drop 0 = dktX12_shorten_0 := by decide +kernel
theorem dX12_shorten_0 : decode cX12_shorten 0 = .ok (.aload_n 0, 1) := dk_42 (dk_at dksX12_shorten_0 0 rfl rfl)
theorem dX12_shorten_1 : decode cX12_shorten 1 = .ok (.getfield 19, 3) := dk_180 0 19 (dk_at dksX12_shorten_0 1 rfl rfl)
theorem dX12_shorten_4 : decode cX12_shorten 4 = .ok (.iload_n 1, 1) := dk_27 (dk_at dksX12_shorten_0 4 rfl rfl)
theorem dX12_shorten_5 : decode cX12_shorten 5 = .ok (.if_icmp .le 16, 3) := dk_164 0 16 (dk_at dksX12_shorten_0 5 rfl rfl)
theorem dX12_shorten_8 : decode cX12_shorten 8 = .ok (.aload_n 0, 1) := dk_42 (dk_at dksX12_shorten_0 8 rfl rfl)
theorem dX12_shorten_9 : decode cX12_shorten 9 = .ok (.aload_n 0, 1) := dk_42 (dk_at dksX12_shorten_0 9 rfl rfl)
theorem dX12_shorten_10 : decode cX12_shorten 10 = .ok (.getfield 19, 3) := dk_180 0 19 (dk_at dksX12_shorten_0 10 rfl rfl)
theorem dX12_shorten_13 : decode cX12_shorten 13 = .ok (.iconst 1, 1) := dk_4 (dk_at dksX12_shorten_0 13 rfl rfl)
theorem dX12_shorten_14 : decode cX12_shorten 14 = .ok (.isub, 1) := dk_100 (dk_at dksX12_shorten_0 14 rfl rfl)
theorem dX12_shorten_15 : decode cX12_shorten 15 = .ok (.invokevirtual 29, 3) := dk_182 0 29 (dk_at dksX12_shorten_0 15 rfl rfl)
theorem dX12_shorten_18 : decode cX12_shorten 18 = .ok (.goto (-18), 3) := dk_167 255 238 (dk_at dksX12_shorten_0 18 rfl rfl)
theorem dX12_shorten_21 : decode cX12_shorten 21 = .ok (.return_, 1) := dk_177 (dk_at dksX12_shorten_0 21 rfl rfl)
abbrev cX12_remove : ByteArray := prog_11_method_8_code
def yX12_remove : MethodName := ⟨RX12, "remove", "(I)V"⟩
def dkwX12_remove_2 : List UInt8 := [180, 0, 19, 4, 100, 181, 0, 19, 177]
abbrev dktX12_remove_2 : List UInt8 := dkwX12_remove_2 ++ []
def dkwX12_remove_1 : List UInt8 := [162, 0, 21, 42, 28, 42, 28, 4, 96, 182, 0, 35, 182, 0, 39, 132, 2, 1, 167, 255, 231, 42, 89]
abbrev dktX12_remove_1 : List UInt8 := dkwX12_remove_1 ++ dktX12_remove_2
def dkwX12_remove_0 : List UInt8 := [42, 89, 180, 0, 22, 42, 27, 182, 0, 35, 100, 181, 0, 22, 27, 61, 28, 42, 180, 0, 19, 4, 100]
abbrev dktX12_remove_0 : List UInt8 := dkwX12_remove_0 ++ dktX12_remove_1
theorem dksX12_remove_0 : cX12_remove.data.toList.drop 0 = dktX12_remove_0 := by decide +kernel
theorem dksX12_remove_1 : cX12_remove.data.toList.drop 23 = dktX12_remove_1 := dk_seg dksX12_remove_0 23 rfl rfl
theorem dksX12_remove_2 : cX12_remove.data.toList.drop 46 = dktX12_remove_2 := dk_seg dksX12_remove_1 23 rfl rfl
theorem dX12_remove_0 : decode cX12_remove 0 = .ok (.aload_n 0, 1) := dk_42 (dk_at dksX12_remove_0 0 rfl rfl)
theorem dX12_remove_1 : decode cX12_remove 1 = .ok (.dup, 1) := dk_89 (dk_at dksX12_remove_0 1 rfl rfl)
theorem dX12_remove_2 : decode cX12_remove 2 = .ok (.getfield 22, 3) := dk_180 0 22 (dk_at dksX12_remove_0 2 rfl rfl)
theorem dX12_remove_5 : decode cX12_remove 5 = .ok (.aload_n 0, 1) := dk_42 (dk_at dksX12_remove_0 5 rfl rfl)
theorem dX12_remove_6 : decode cX12_remove 6 = .ok (.iload_n 1, 1) := dk_27 (dk_at dksX12_remove_0 6 rfl rfl)
theorem dX12_remove_7 : decode cX12_remove 7 = .ok (.invokevirtual 35, 3) := dk_182 0 35 (dk_at dksX12_remove_0 7 rfl rfl)
theorem dX12_remove_10 : decode cX12_remove 10 = .ok (.isub, 1) := dk_100 (dk_at dksX12_remove_0 10 rfl rfl)
theorem dX12_remove_11 : decode cX12_remove 11 = .ok (.putfield 22, 3) := dk_181 0 22 (dk_at dksX12_remove_0 11 rfl rfl)
theorem dX12_remove_14 : decode cX12_remove 14 = .ok (.iload_n 1, 1) := dk_27 (dk_at dksX12_remove_0 14 rfl rfl)
theorem dX12_remove_15 : decode cX12_remove 15 = .ok (.istore_n 2, 1) := dk_61 (dk_at dksX12_remove_0 15 rfl rfl)
theorem dX12_remove_16 : decode cX12_remove 16 = .ok (.iload_n 2, 1) := dk_28 (dk_at dksX12_remove_0 16 rfl rfl)
theorem dX12_remove_17 : decode cX12_remove 17 = .ok (.aload_n 0, 1) := dk_42 (dk_at dksX12_remove_0 17 rfl rfl)
theorem dX12_remove_18 : decode cX12_remove 18 = .ok (.getfield 19, 3) := dk_180 0 19 (dk_at dksX12_remove_0 18 rfl rfl)
theorem dX12_remove_21 : decode cX12_remove 21 = .ok (.iconst 1, 1) := dk_4 (dk_at dksX12_remove_0 21 rfl rfl)
theorem dX12_remove_22 : decode cX12_remove 22 = .ok (.isub, 1) := dk_100 (dk_at dksX12_remove_0 22 rfl rfl)
theorem dX12_remove_23 : decode cX12_remove 23 = .ok (.if_icmp .ge 21, 3) := dk_162 0 21 (dk_at dksX12_remove_1 0 rfl rfl)
theorem dX12_remove_26 : decode cX12_remove 26 = .ok (.aload_n 0, 1) := dk_42 (dk_at dksX12_remove_1 3 rfl rfl)
theorem dX12_remove_27 : decode cX12_remove 27 = .ok (.iload_n 2, 1) := dk_28 (dk_at dksX12_remove_1 4 rfl rfl)
theorem dX12_remove_28 : decode cX12_remove 28 = .ok (.aload_n 0, 1) := dk_42 (dk_at dksX12_remove_1 5 rfl rfl)
theorem dX12_remove_29 : decode cX12_remove 29 = .ok (.iload_n 2, 1) := dk_28 (dk_at dksX12_remove_1 6 rfl rfl)
theorem dX12_remove_30 : decode cX12_remove 30 = .ok (.iconst 1, 1) := dk_4 (dk_at dksX12_remove_1 7 rfl rfl)
theorem dX12_remove_31 : decode cX12_remove 31 = .ok (.iadd, 1) := dk_96 (dk_at dksX12_remove_1 8 rfl rfl)
theorem dX12_remove_32 : decode cX12_remove 32 = .ok (.invokevirtual 35, 3) := dk_182 0 35 (dk_at dksX12_remove_1 9 rfl rfl)
theorem dX12_remove_35 : decode cX12_remove 35 = .ok (.invokevirtual 39, 3) := dk_182 0 39 (dk_at dksX12_remove_1 12 rfl rfl)
theorem dX12_remove_38 : decode cX12_remove 38 = .ok (.iinc 2 1, 3) := dk_132 2 1 (dk_at dksX12_remove_1 15 rfl rfl)
theorem dX12_remove_41 : decode cX12_remove 41 = .ok (.goto (-25), 3) := dk_167 255 231 (dk_at dksX12_remove_1 18 rfl rfl)
theorem dX12_remove_44 : decode cX12_remove 44 = .ok (.aload_n 0, 1) := dk_42 (dk_at dksX12_remove_1 21 rfl rfl)
theorem dX12_remove_45 : decode cX12_remove 45 = .ok (.dup, 1) := dk_89 (dk_at dksX12_remove_1 22 rfl rfl)
theorem dX12_remove_46 : decode cX12_remove 46 = .ok (.getfield 19, 3) := dk_180 0 19 (dk_at dksX12_remove_2 0 rfl rfl)
theorem dX12_remove_49 : decode cX12_remove 49 = .ok (.iconst 1, 1) := dk_4 (dk_at dksX12_remove_2 3 rfl rfl)
theorem dX12_remove_50 : decode cX12_remove 50 = .ok (.isub, 1) := dk_100 (dk_at dksX12_remove_2 4 rfl rfl)
theorem dX12_remove_51 : decode cX12_remove 51 = .ok (.putfield 19, 3) := dk_181 0 19 (dk_at dksX12_remove_2 5 rfl rfl)
theorem dX12_remove_54 : decode cX12_remove 54 = .ok (.return_, 1) := dk_177 (dk_at dksX12_remove_2 8 rfl rfl)
abbrev cX12_write : ByteArray := prog_11_method_6_code
def yX12_write : MethodName := ⟨RX12, "write", "(II)V"⟩
def dkwX12_write_0 : List UInt8 := [42, 89, 180, 0, 22, 28, 42, 27, 182, 0, 35, 100, 96, 181, 0, 22, 42, 27, 28, 182, 0, 39, 177]
abbrev dktX12_write_0 : List UInt8 := dkwX12_write_0 ++ []
theorem dksX12_write_0 : cX12_write.data.toList.drop 0 = dktX12_write_0 := by decide +kernel
theorem dX12_write_0 : decode cX12_write 0 = .ok (.aload_n 0, 1) := dk_42 (dk_at dksX12_write_0 0 rfl rfl)
theorem dX12_write_1 : decode cX12_write 1 = .ok (.dup, 1) := dk_89 (dk_at dksX12_write_0 1 rfl rfl)
theorem dX12_write_2 : decode cX12_write 2 = .ok (.getfield 22, 3) := dk_180 0 22 (dk_at dksX12_write_0 2 rfl rfl)
theorem dX12_write_5 : decode cX12_write 5 = .ok (.iload_n 2, 1) := dk_28 (dk_at dksX12_write_0 5 rfl rfl)
theorem dX12_write_6 : decode cX12_write 6 = .ok (.aload_n 0, 1) := dk_42 (dk_at dksX12_write_0 6 rfl rfl)
theorem dX12_write_7 : decode cX12_write 7 = .ok (.iload_n 1, 1) := dk_27 (dk_at dksX12_write_0 7 rfl rfl)
theorem dX12_write_8 : decode cX12_write 8 = .ok (.invokevirtual 35, 3) := dk_182 0 35 (dk_at dksX12_write_0 8 rfl rfl)
theorem dX12_write_11 : decode cX12_write 11 = .ok (.isub, 1) := dk_100 (dk_at dksX12_write_0 11 rfl rfl)
theorem dX12_write_12 : decode cX12_write 12 = .ok (.iadd, 1) := dk_96 (dk_at dksX12_write_0 12 rfl rfl)
theorem dX12_write_13 : decode cX12_write 13 = .ok (.putfield 22, 3) := dk_181 0 22 (dk_at dksX12_write_0 13 rfl rfl)
theorem dX12_write_16 : decode cX12_write 16 = .ok (.aload_n 0, 1) := dk_42 (dk_at dksX12_write_0 16 rfl rfl)
theorem dX12_write_17 : decode cX12_write 17 = .ok (.iload_n 1, 1) := dk_27 (dk_at dksX12_write_0 17 rfl rfl)
theorem dX12_write_18 : decode cX12_write 18 = .ok (.iload_n 2, 1) := dk_28 (dk_at dksX12_write_0 18 rfl rfl)
theorem dX12_write_19 : decode cX12_write 19 = .ok (.invokevirtual 39, 3) := dk_182 0 39 (dk_at dksX12_write_0 19 rfl rfl)
theorem dX12_write_22 : decode cX12_write 22 = .ok (.return_, 1) := dk_177 (dk_at dksX12_write_0 22 rfl rfl)
abbrev cX12_flip : ByteArray := prog_11_method_11_code
def yX12_flip : MethodName := ⟨RX12, "flip", "(II)V"⟩
def dkwX12_flip_1 : List UInt8 := [167, 255, 236, 177]
abbrev dktX12_flip_1 : List UInt8 := dkwX12_flip_1 ++ []
def dkwX12_flip_0 : List UInt8 := [27, 62, 29, 28, 162, 0, 21, 42, 29, 4, 42, 29, 182, 0, 35, 100, 182, 0, 46, 132, 3, 1]
abbrev dktX12_flip_0 : List UInt8 := dkwX12_flip_0 ++ dktX12_flip_1
theorem dksX12_flip_0 : cX12_flip.data.toList.drop 0 = dktX12_flip_0 := by decide +kernel
theorem dksX12_flip_1 : cX12_flip.data.toList.drop 22 = dktX12_flip_1 := dk_seg dksX12_flip_0 22 rfl rfl
theorem dX12_flip_0 : decode cX12_flip 0 = .ok (.iload_n 1, 1) := dk_27 (dk_at dksX12_flip_0 0 rfl rfl)
theorem dX12_flip_1 : decode cX12_flip 1 = .ok (.istore_n 3, 1) := dk_62 (dk_at dksX12_flip_0 1 rfl rfl)
theorem dX12_flip_2 : decode cX12_flip 2 = .ok (.iload_n 3, 1) := dk_29 (dk_at dksX12_flip_0 2 rfl rfl)
theorem dX12_flip_3 : decode cX12_flip 3 = .ok (.iload_n 2, 1) := dk_28 (dk_at dksX12_flip_0 3 rfl rfl)
theorem dX12_flip_4 : decode cX12_flip 4 = .ok (.if_icmp .ge 21, 3) := dk_162 0 21 (dk_at dksX12_flip_0 4 rfl rfl)
theorem dX12_flip_7 : decode cX12_flip 7 = .ok (.aload_n 0, 1) := dk_42 (dk_at dksX12_flip_0 7 rfl rfl)
theorem dX12_flip_8 : decode cX12_flip 8 = .ok (.iload_n 3, 1) := dk_29 (dk_at dksX12_flip_0 8 rfl rfl)
theorem dX12_flip_9 : decode cX12_flip 9 = .ok (.iconst 1, 1) := dk_4 (dk_at dksX12_flip_0 9 rfl rfl)
theorem dX12_flip_10 : decode cX12_flip 10 = .ok (.aload_n 0, 1) := dk_42 (dk_at dksX12_flip_0 10 rfl rfl)
theorem dX12_flip_11 : decode cX12_flip 11 = .ok (.iload_n 3, 1) := dk_29 (dk_at dksX12_flip_0 11 rfl rfl)
theorem dX12_flip_12 : decode cX12_flip 12 = .ok (.invokevirtual 35, 3) := dk_182 0 35 (dk_at dksX12_flip_0 12 rfl rfl)
theorem dX12_flip_15 : decode cX12_flip 15 = .ok (.isub, 1) := dk_100 (dk_at dksX12_flip_0 15 rfl rfl)
theorem dX12_flip_16 : decode cX12_flip 16 = .ok (.invokevirtual 46, 3) := dk_182 0 46 (dk_at dksX12_flip_0 16 rfl rfl)
theorem dX12_flip_19 : decode cX12_flip 19 = .ok (.iinc 3 1, 3) := dk_132 3 1 (dk_at dksX12_flip_0 19 rfl rfl)
theorem dX12_flip_22 : decode cX12_flip 22 = .ok (.goto (-20), 3) := dk_167 255 236 (dk_at dksX12_flip_1 0 rfl rfl)
theorem dX12_flip_25 : decode cX12_flip 25 = .ok (.return_, 1) := dk_177 (dk_at dksX12_flip_1 3 rfl rfl)
theorem q127 : (Jvm.Cond.initialized "BitRopes$Leaf") ∈ lw_all := lw_g (lw_at lw_m1 18 rfl) rfl
theorem q762 : (Jvm.Cond.selects "BitRopes$Leaf" ({ cls := "BitRopes$Node", name := "turnAll", desc := "()V" } : Jvm.MethodName) ({ cls := "BitRopes$Leaf", name := "turnAll", desc := "()V" } : Jvm.MethodName)) ∈ lw_all := lw_g (lw_at lw_m3 173 rfl) rfl
theorem q763 : (Jvm.Cond.instanceMethod ({ cls := "BitRopes$Leaf", name := "turnAll", desc := "()V" } : Jvm.MethodName)) ∈ lw_all := lw_g (lw_at lw_m3 174 rfl) rfl
theorem q764 : (Jvm.Cond.code ({ cls := "BitRopes$Leaf", name := "turnAll", desc := "()V" } : Jvm.MethodName) prog_11_method_10_code (1 : Nat) (Option.none : Option Jvm.ClassFile.FieldType)) ∈ lw_all := lw_g (lw_at lw_m3 175 rfl) rfl
theorem q769 : (Jvm.Cond.instantiable "BitRopes$Leaf" (5 : Nat)) ∈ lw_all := lw_g (lw_at lw_m3 180 rfl) rfl
theorem q771 : (Jvm.Cond.instanceMethod ({ cls := "BitRopes$Leaf", name := "<init>", desc := "()V" } : Jvm.MethodName)) ∈ lw_all := lw_g (lw_at lw_m3 182 rfl) rfl
theorem q772 : (Jvm.Cond.code ({ cls := "BitRopes$Leaf", name := "<init>", desc := "()V" } : Jvm.MethodName) prog_11_method_1_code (1 : Nat) (Option.none : Option Jvm.ClassFile.FieldType)) ∈ lw_all := lw_g (lw_at lw_m3 183 rfl) rfl
theorem q773 : (Jvm.Cond.methodLinkNest "BitRopes$Leaf" (3 : Nat) ({ cls := "BitRopes$Node", name := "<init>", desc := "()V" } : Jvm.MethodName) "BitRopes") ∈ lw_tbl := lw_at lw_m3 184 rfl
theorem q777 : (Jvm.Cond.fieldLink "BitRopes$Leaf" (9 : Nat) "BitRopes$Leaf" "raw" "[J") ∈ lw_all := lw_g (lw_at lw_m3 188 rfl) rfl
theorem q778 : (Jvm.Cond.fieldLink "BitRopes$Leaf" (25 : Nat) "BitRopes$Leaf" "isTurned" "Z") ∈ lw_all := lw_g (lw_at lw_m3 189 rfl) rfl
theorem q779 : (Jvm.Cond.fieldLink "BitRopes$Leaf" (19 : Nat) "BitRopes$Leaf" "size" "I") ∈ lw_all := lw_g (lw_at lw_m3 190 rfl) rfl
theorem q780 : (Jvm.Cond.sameField "BitRopes$Leaf" "BitRopes$Node" "size" "I") ∈ lw_all := lw_g (lw_at lw_m3 191 rfl) rfl
theorem q787 : (Jvm.Cond.fieldLink "BitRopes$Leaf" (22 : Nat) "BitRopes$Leaf" "ones" "I") ∈ lw_all := lw_g (lw_at lw_m3 198 rfl) rfl
theorem q788 : (Jvm.Cond.sameField "BitRopes$Leaf" "BitRopes$Node" "ones" "I") ∈ lw_all := lw_g (lw_at lw_m3 199 rfl) rfl
theorem q795 : (Jvm.Cond.fieldLink "BitRopes$Leaf" (15 : Nat) "BitRopes$Leaf" "leaves" "I") ∈ lw_all := lw_g (lw_at lw_m3 206 rfl) rfl
theorem q796 : (Jvm.Cond.sameField "BitRopes$Leaf" "BitRopes$Node" "leaves" "I") ∈ lw_all := lw_g (lw_at lw_m3 207 rfl) rfl
theorem q800 : (Jvm.Cond.laysFinal "BitRopes$Leaf" "BitRopes$Leaf" "raw" "[J") ∈ lw_all := lw_g (lw_at lw_m3 211 rfl) rfl
theorem q801 : (Jvm.Cond.soleField "BitRopes$Leaf" "raw") ∈ lw_all := lw_g (lw_at lw_m3 212 rfl) rfl
theorem q802 : (Jvm.Cond.lays "BitRopes$Leaf" "BitRopes$Leaf" "isTurned" "Z") ∈ lw_all := lw_g (lw_at lw_m3 213 rfl) rfl
theorem q803 : (Jvm.Cond.soleField "BitRopes$Leaf" "isTurned") ∈ lw_all := lw_g (lw_at lw_m3 214 rfl) rfl
theorem q804 : (Jvm.Cond.lays "BitRopes$Leaf" "BitRopes$Node" "size" "I") ∈ lw_all := lw_g (lw_at lw_m3 215 rfl) rfl
theorem q806 : (Jvm.Cond.lays "BitRopes$Leaf" "BitRopes$Node" "ones" "I") ∈ lw_all := lw_g (lw_at lw_m3 217 rfl) rfl
theorem q808 : (Jvm.Cond.lays "BitRopes$Leaf" "BitRopes$Node" "leaves" "I") ∈ lw_all := lw_g (lw_at lw_m3 219 rfl) rfl
theorem q810 : (Jvm.Cond.superclass "BitRopes$Leaf" "BitRopes$Node") ∈ lw_all := lw_g (lw_at lw_m3 221 rfl) rfl
theorem q812 : (Jvm.Cond.instanceMethod ({ cls := "BitRopes$Leaf", name := "cleared", desc := "()LBitRopes$Leaf;" } : Jvm.MethodName)) ∈ lw_all := lw_g (lw_at lw_m3 223 rfl) rfl
theorem q813 : (Jvm.Cond.selects "BitRopes$Leaf" ({ cls := "BitRopes$Leaf", name := "cleared", desc := "()LBitRopes$Leaf;" } : Jvm.MethodName) ({ cls := "BitRopes$Leaf", name := "cleared", desc := "()LBitRopes$Leaf;" } : Jvm.MethodName)) ∈ lw_all := lw_g (lw_at lw_m3 224 rfl) rfl
theorem q814 : (Jvm.Cond.code ({ cls := "BitRopes$Leaf", name := "cleared", desc := "()LBitRopes$Leaf;" } : Jvm.MethodName) prog_11_method_2_code (1 : Nat) (Option.some (Jvm.ClassFile.FieldType.object "BitRopes$Leaf"))) ∈ lw_all := lw_g (lw_at lw_m3 225 rfl) rfl
theorem q816 : (Jvm.Cond.instanceMethod ({ cls := "BitRopes$Leaf", name := "insert", desc := "(II)V" } : Jvm.MethodName)) ∈ lw_all := lw_g (lw_at lw_m3 227 rfl) rfl
theorem q817 : (Jvm.Cond.selects "BitRopes$Leaf" ({ cls := "BitRopes$Leaf", name := "insert", desc := "(II)V" } : Jvm.MethodName) ({ cls := "BitRopes$Leaf", name := "insert", desc := "(II)V" } : Jvm.MethodName)) ∈ lw_all := lw_g (lw_at lw_m3 228 rfl) rfl
theorem q818 : (Jvm.Cond.code ({ cls := "BitRopes$Leaf", name := "insert", desc := "(II)V" } : Jvm.MethodName) prog_11_method_7_code (4 : Nat) (Option.none : Option Jvm.ClassFile.FieldType)) ∈ lw_all := lw_g (lw_at lw_m3 229 rfl) rfl
theorem q819 : (Jvm.Cond.methodLink "BitRopes$Leaf" (35 : Nat) ({ cls := "BitRopes$Leaf", name := "get", desc := "(I)I" } : Jvm.MethodName)) ∈ lw_all := lw_g (lw_at lw_m3 230 rfl) rfl
theorem q820 : (Jvm.Cond.instanceMethod ({ cls := "BitRopes$Leaf", name := "get", desc := "(I)I" } : Jvm.MethodName)) ∈ lw_all := lw_g (lw_at lw_m3 231 rfl) rfl
theorem q821 : (Jvm.Cond.selects "BitRopes$Leaf" ({ cls := "BitRopes$Leaf", name := "get", desc := "(I)I" } : Jvm.MethodName) ({ cls := "BitRopes$Leaf", name := "get", desc := "(I)I" } : Jvm.MethodName)) ∈ lw_all := lw_g (lw_at lw_m3 232 rfl) rfl
theorem q822 : (Jvm.Cond.code ({ cls := "BitRopes$Leaf", name := "get", desc := "(I)I" } : Jvm.MethodName) prog_11_method_4_code (2 : Nat) (Option.some Jvm.ClassFile.FieldType.int)) ∈ lw_all := lw_g (lw_at lw_m3 233 rfl) rfl
theorem q823 : (Jvm.Cond.methodLink "BitRopes$Leaf" (39 : Nat) ({ cls := "BitRopes$Leaf", name := "store", desc := "(II)V" } : Jvm.MethodName)) ∈ lw_all := lw_g (lw_at lw_m3 234 rfl) rfl
theorem q824 : (Jvm.Cond.privateMethod ({ cls := "BitRopes$Leaf", name := "store", desc := "(II)V" } : Jvm.MethodName)) ∈ lw_tbl := lw_at lw_m3 235 rfl
theorem q825 : (Jvm.Cond.instanceMethod ({ cls := "BitRopes$Leaf", name := "store", desc := "(II)V" } : Jvm.MethodName)) ∈ lw_all := lw_g (lw_at lw_m3 236 rfl) rfl
theorem q826 : (Jvm.Cond.code ({ cls := "BitRopes$Leaf", name := "store", desc := "(II)V" } : Jvm.MethodName) prog_11_method_5_code (5 : Nat) (Option.none : Option Jvm.ClassFile.FieldType)) ∈ lw_all := lw_g (lw_at lw_m3 237 rfl) rfl
theorem q827 : (Jvm.Cond.constantLong "BitRopes$Leaf" (33 : Nat) (-1 : Int64)) ∈ lw_all := lw_g (lw_at lw_m3 238 rfl) rfl
theorem q840 : (Jvm.Cond.instanceMethod ({ cls := "BitRopes$Leaf", name := "add", desc := "(LBitRopes$Leaf;II)V" } : Jvm.MethodName)) ∈ lw_all := lw_g (lw_at lw_m4 11 rfl) rfl
theorem q841 : (Jvm.Cond.selects "BitRopes$Leaf" ({ cls := "BitRopes$Leaf", name := "add", desc := "(LBitRopes$Leaf;II)V" } : Jvm.MethodName) ({ cls := "BitRopes$Leaf", name := "add", desc := "(LBitRopes$Leaf;II)V" } : Jvm.MethodName)) ∈ lw_all := lw_g (lw_at lw_m4 12 rfl) rfl
theorem q842 : (Jvm.Cond.code ({ cls := "BitRopes$Leaf", name := "add", desc := "(LBitRopes$Leaf;II)V" } : Jvm.MethodName) prog_11_method_9_code (5 : Nat) (Option.none : Option Jvm.ClassFile.FieldType)) ∈ lw_all := lw_g (lw_at lw_m4 13 rfl) rfl
theorem q843 : (Jvm.Cond.methodLink "BitRopes$Leaf" (43 : Nat) ({ cls := "BitRopes$Leaf", name := "insert", desc := "(II)V" } : Jvm.MethodName)) ∈ lw_all := lw_g (lw_at lw_m4 14 rfl) rfl
theorem q845 : (Jvm.Cond.instanceMethod ({ cls := "BitRopes$Leaf", name := "shorten", desc := "(I)V" } : Jvm.MethodName)) ∈ lw_all := lw_g (lw_at lw_m4 16 rfl) rfl
theorem q846 : (Jvm.Cond.selects "BitRopes$Leaf" ({ cls := "BitRopes$Leaf", name := "shorten", desc := "(I)V" } : Jvm.MethodName) ({ cls := "BitRopes$Leaf", name := "shorten", desc := "(I)V" } : Jvm.MethodName)) ∈ lw_all := lw_g (lw_at lw_m4 17 rfl) rfl
theorem q847 : (Jvm.Cond.code ({ cls := "BitRopes$Leaf", name := "shorten", desc := "(I)V" } : Jvm.MethodName) prog_11_method_3_code (2 : Nat) (Option.none : Option Jvm.ClassFile.FieldType)) ∈ lw_all := lw_g (lw_at lw_m4 18 rfl) rfl
theorem q848 : (Jvm.Cond.methodLink "BitRopes$Leaf" (29 : Nat) ({ cls := "BitRopes$Leaf", name := "remove", desc := "(I)V" } : Jvm.MethodName)) ∈ lw_all := lw_g (lw_at lw_m4 19 rfl) rfl
theorem q849 : (Jvm.Cond.instanceMethod ({ cls := "BitRopes$Leaf", name := "remove", desc := "(I)V" } : Jvm.MethodName)) ∈ lw_all := lw_g (lw_at lw_m4 20 rfl) rfl
theorem q850 : (Jvm.Cond.selects "BitRopes$Leaf" ({ cls := "BitRopes$Leaf", name := "remove", desc := "(I)V" } : Jvm.MethodName) ({ cls := "BitRopes$Leaf", name := "remove", desc := "(I)V" } : Jvm.MethodName)) ∈ lw_all := lw_g (lw_at lw_m4 21 rfl) rfl
theorem q851 : (Jvm.Cond.code ({ cls := "BitRopes$Leaf", name := "remove", desc := "(I)V" } : Jvm.MethodName) prog_11_method_8_code (3 : Nat) (Option.none : Option Jvm.ClassFile.FieldType)) ∈ lw_all := lw_g (lw_at lw_m4 22 rfl) rfl
theorem q1149 : (Jvm.Cond.instanceMethod ({ cls := "BitRopes$Leaf", name := "write", desc := "(II)V" } : Jvm.MethodName)) ∈ lw_all := lw_g (lw_at lw_m5 80 rfl) rfl
theorem q1150 : (Jvm.Cond.selects "BitRopes$Leaf" ({ cls := "BitRopes$Leaf", name := "write", desc := "(II)V" } : Jvm.MethodName) ({ cls := "BitRopes$Leaf", name := "write", desc := "(II)V" } : Jvm.MethodName)) ∈ lw_all := lw_g (lw_at lw_m5 81 rfl) rfl
theorem q1151 : (Jvm.Cond.code ({ cls := "BitRopes$Leaf", name := "write", desc := "(II)V" } : Jvm.MethodName) prog_11_method_6_code (3 : Nat) (Option.none : Option Jvm.ClassFile.FieldType)) ∈ lw_all := lw_g (lw_at lw_m5 82 rfl) rfl
theorem q1177 : (Jvm.Cond.instanceMethod ({ cls := "BitRopes$Leaf", name := "flip", desc := "(II)V" } : Jvm.MethodName)) ∈ lw_all := lw_g (lw_at lw_m5 108 rfl) rfl
theorem q1178 : (Jvm.Cond.selects "BitRopes$Leaf" ({ cls := "BitRopes$Leaf", name := "flip", desc := "(II)V" } : Jvm.MethodName) ({ cls := "BitRopes$Leaf", name := "flip", desc := "(II)V" } : Jvm.MethodName)) ∈ lw_all := lw_g (lw_at lw_m5 109 rfl) rfl
theorem q1179 : (Jvm.Cond.code ({ cls := "BitRopes$Leaf", name := "flip", desc := "(II)V" } : Jvm.MethodName) prog_11_method_11_code (4 : Nat) (Option.none : Option Jvm.ClassFile.FieldType)) ∈ lw_all := lw_g (lw_at lw_m5 110 rfl) rfl
theorem q1180 : (Jvm.Cond.methodLink "BitRopes$Leaf" (46 : Nat) ({ cls := "BitRopes$Leaf", name := "write", desc := "(II)V" } : Jvm.MethodName)) ∈ lw_all := lw_g (lw_at lw_m5 111 rfl) rfl
theorem q2332 : (Jvm.Cond.castable "BitRopes$Leaf" "java/lang/Object") ∈ lw_tbl := lw_at lw_m10 63 rfl
theorem q2346 : (Jvm.Cond.castable "BitRopes$Leaf" "BitRopes$Node") ∈ lw_tbl := lw_at lw_m10 77 rfl
theorem in_X12 : ∀ w ∈ wsX120, w ∈ lw_all := lw_in wsX120 [804, 806, 808, 800, 802] (by decide +kernel) (by decide +kernel)

/-! BitRopes$Inner -/
set_option maxRecDepth 100000
def RX13 : String := "BitRopes$Inne\x72"
def TX13 : u_T := fun k => match k with
  | 0 => ("BitRopes$Node", "size", "I", false)
  | 1 => ("BitRopes$Node", "ones", "I", false)
  | 2 => ("BitRopes$Node", "leaves", "I", false)
  | 3 => ("BitRopes$Inne\x72", "kid", "[LBitRopes$Node;", true)
  | _ => ("BitRopes$Inne\x72", "waits", "Z", false)
def tyX13 : Nat → FieldType := fun k => match k with
  | 0 => .int
  | 1 => .int
  | 2 => .int
  | 3 => .array (.object "BitRopes$Node")
  | _ => .boolean
abbrev wsX130 : List Cond := u_ws RX13 TX13 5
theorem nmX13 : ∀ a, a < 5 → ∀ b, b < 5 → a ≠ b → (TX13 a).2.1 ≠ (TX13 b).2.1 := by decide +kernel
theorem tyX13_ok : ∀ k, k < 5 → parseFieldDescriptor (TX13 k).2.2.1 = some (tyX13 k) := by decide +kernel
abbrev cX13_push : ByteArray := prog_9_method_3_code
def yX13_push : MethodName := ⟨RX13, "push", "()V"⟩
def dkwX13_push_1 : List UInt8 := [180, 0, 7, 4, 50, 182, 0, 33, 177]
abbrev dktX13_push_1 : List UInt8 := dkwX13_push_1 ++ []
def dkwX13_push_0 : List UInt8 := [42, 180, 0, 29, 154, 0, 4, 177, 42, 3, 181, 0, 29, 42, 180, 0, 7, 3, 50, 182, 0, 33, 42]
abbrev dktX13_push_0 : List UInt8 := dkwX13_push_0 ++ dktX13_push_1
theorem dksX13_push_0 : cX13_push.data.toList.drop 0 = dktX13_push_0 := by decide +kernel
theorem dksX13_push_1 : cX13_push.data.toList.drop 23 = dktX13_push_1 := dk_seg dksX13_push_0 23 rfl rfl
theorem dX13_push_0 : decode cX13_push 0 = .ok (.aload_n 0, 1) := dk_42 (dk_at dksX13_push_0 0 rfl rfl)
theorem dX13_push_1 : decode cX13_push 1 = .ok (.getfield 29, 3) := dk_180 0 29 (dk_at dksX13_push_0 1 rfl rfl)
theorem dX13_push_4 : decode cX13_push 4 = .ok (.ifCond .ne 4, 3) := dk_154 0 4 (dk_at dksX13_push_0 4 rfl rfl)
theorem dX13_push_7 : decode cX13_push 7 = .ok (.return_, 1) := dk_177 (dk_at dksX13_push_0 7 rfl rfl)
theorem dX13_push_8 : decode cX13_push 8 = .ok (.aload_n 0, 1) := dk_42 (dk_at dksX13_push_0 8 rfl rfl)
theorem dX13_push_9 : decode cX13_push 9 = .ok (.iconst 0, 1) := dk_3 (dk_at dksX13_push_0 9 rfl rfl)
theorem dX13_push_10 : decode cX13_push 10 = .ok (.putfield 29, 3) := dk_181 0 29 (dk_at dksX13_push_0 10 rfl rfl)
theorem dX13_push_13 : decode cX13_push 13 = .ok (.aload_n 0, 1) := dk_42 (dk_at dksX13_push_0 13 rfl rfl)
theorem dX13_push_14 : decode cX13_push 14 = .ok (.getfield 7, 3) := dk_180 0 7 (dk_at dksX13_push_0 14 rfl rfl)
theorem dX13_push_17 : decode cX13_push 17 = .ok (.iconst 0, 1) := dk_3 (dk_at dksX13_push_0 17 rfl rfl)
theorem dX13_push_18 : decode cX13_push 18 = .ok (.aaload, 1) := dk_50 (dk_at dksX13_push_0 18 rfl rfl)
theorem dX13_push_19 : decode cX13_push 19 = .ok (.invokevirtual 33, 3) := dk_182 0 33 (dk_at dksX13_push_0 19 rfl rfl)
theorem dX13_push_22 : decode cX13_push 22 = .ok (.aload_n 0, 1) := dk_42 (dk_at dksX13_push_0 22 rfl rfl)
theorem dX13_push_23 : decode cX13_push 23 = .ok (.getfield 7, 3) := dk_180 0 7 (dk_at dksX13_push_1 0 rfl rfl)
theorem dX13_push_26 : decode cX13_push 26 = .ok (.iconst 1, 1) := dk_4 (dk_at dksX13_push_1 3 rfl rfl)
theorem dX13_push_27 : decode cX13_push 27 = .ok (.aaload, 1) := dk_50 (dk_at dksX13_push_1 4 rfl rfl)
theorem dX13_push_28 : decode cX13_push 28 = .ok (.invokevirtual 33, 3) := dk_182 0 33 (dk_at dksX13_push_1 5 rfl rfl)
theorem dX13_push_31 : decode cX13_push 31 = .ok (.return_, 1) := dk_177 (dk_at dksX13_push_1 8 rfl rfl)
abbrev cX13_turnAll : ByteArray := prog_9_method_4_code
def yX13_turnAll : MethodName := ⟨RX13, "turnAll", "()V"⟩
def dkwX13_turnAll_1 : List UInt8 := [180, 0, 24, 100, 181, 0, 24, 177]
abbrev dktX13_turnAll_1 : List UInt8 := dkwX13_turnAll_1 ++ []
def dkwX13_turnAll_0 : List UInt8 := [42, 42, 180, 0, 29, 154, 0, 7, 4, 167, 0, 4, 3, 181, 0, 29, 42, 42, 180, 0, 20, 42]
abbrev dktX13_turnAll_0 : List UInt8 := dkwX13_turnAll_0 ++ dktX13_turnAll_1
theorem dksX13_turnAll_0 : cX13_turnAll.data.toList.drop 0 = dktX13_turnAll_0 := by decide +kernel
theorem dksX13_turnAll_1 : cX13_turnAll.data.toList.drop 22 = dktX13_turnAll_1 := dk_seg dksX13_turnAll_0 22 rfl rfl
theorem dX13_turnAll_0 : decode cX13_turnAll 0 = .ok (.aload_n 0, 1) := dk_42 (dk_at dksX13_turnAll_0 0 rfl rfl)
theorem dX13_turnAll_1 : decode cX13_turnAll 1 = .ok (.aload_n 0, 1) := dk_42 (dk_at dksX13_turnAll_0 1 rfl rfl)
theorem dX13_turnAll_2 : decode cX13_turnAll 2 = .ok (.getfield 29, 3) := dk_180 0 29 (dk_at dksX13_turnAll_0 2 rfl rfl)
theorem dX13_turnAll_5 : decode cX13_turnAll 5 = .ok (.ifCond .ne 7, 3) := dk_154 0 7 (dk_at dksX13_turnAll_0 5 rfl rfl)
theorem dX13_turnAll_8 : decode cX13_turnAll 8 = .ok (.iconst 1, 1) := dk_4 (dk_at dksX13_turnAll_0 8 rfl rfl)
theorem dX13_turnAll_9 : decode cX13_turnAll 9 = .ok (.goto 4, 3) := dk_167 0 4 (dk_at dksX13_turnAll_0 9 rfl rfl)
theorem dX13_turnAll_12 : decode cX13_turnAll 12 = .ok (.iconst 0, 1) := dk_3 (dk_at dksX13_turnAll_0 12 rfl rfl)
theorem dX13_turnAll_13 : decode cX13_turnAll 13 = .ok (.putfield 29, 3) := dk_181 0 29 (dk_at dksX13_turnAll_0 13 rfl rfl)
theorem dX13_turnAll_16 : decode cX13_turnAll 16 = .ok (.aload_n 0, 1) := dk_42 (dk_at dksX13_turnAll_0 16 rfl rfl)
theorem dX13_turnAll_17 : decode cX13_turnAll 17 = .ok (.aload_n 0, 1) := dk_42 (dk_at dksX13_turnAll_0 17 rfl rfl)
theorem dX13_turnAll_18 : decode cX13_turnAll 18 = .ok (.getfield 20, 3) := dk_180 0 20 (dk_at dksX13_turnAll_0 18 rfl rfl)
theorem dX13_turnAll_21 : decode cX13_turnAll 21 = .ok (.aload_n 0, 1) := dk_42 (dk_at dksX13_turnAll_0 21 rfl rfl)
theorem dX13_turnAll_22 : decode cX13_turnAll 22 = .ok (.getfield 24, 3) := dk_180 0 24 (dk_at dksX13_turnAll_1 0 rfl rfl)
theorem dX13_turnAll_25 : decode cX13_turnAll 25 = .ok (.isub, 1) := dk_100 (dk_at dksX13_turnAll_1 3 rfl rfl)
theorem dX13_turnAll_26 : decode cX13_turnAll 26 = .ok (.putfield 24, 3) := dk_181 0 24 (dk_at dksX13_turnAll_1 4 rfl rfl)
theorem dX13_turnAll_29 : decode cX13_turnAll 29 = .ok (.return_, 1) := dk_177 (dk_at dksX13_turnAll_1 7 rfl rfl)
abbrev cX13_init : ByteArray := prog_9_method_1_code
def yX13_init : MethodName := ⟨RX13, "<init>", "([LBitRopes$Node;)V"⟩
def dkwX13_init_0 : List UInt8 := [42, 183, 0, 1, 42, 43, 181, 0, 7, 42, 182, 0, 13, 177]
abbrev dktX13_init_0 : List UInt8 := dkwX13_init_0 ++ []
theorem dksX13_init_0 : cX13_init.data.toList.drop 0 = dktX13_init_0 := by decide +kernel
theorem dX13_init_0 : decode cX13_init 0 = .ok (.aload_n 0, 1) := dk_42 (dk_at dksX13_init_0 0 rfl rfl)
theorem dX13_init_1 : decode cX13_init 1 = .ok (.invokespecial 1, 3) := dk_183 0 1 (dk_at dksX13_init_0 1 rfl rfl)
theorem dX13_init_4 : decode cX13_init 4 = .ok (.aload_n 0, 1) := dk_42 (dk_at dksX13_init_0 4 rfl rfl)
theorem dX13_init_5 : decode cX13_init 5 = .ok (.aload_n 1, 1) := dk_43 (dk_at dksX13_init_0 5 rfl rfl)
theorem dX13_init_6 : decode cX13_init 6 = .ok (.putfield 7, 3) := dk_181 0 7 (dk_at dksX13_init_0 6 rfl rfl)
theorem dX13_init_9 : decode cX13_init 9 = .ok (.aload_n 0, 1) := dk_42 (dk_at dksX13_init_0 9 rfl rfl)
theorem dX13_init_10 : decode cX13_init 10 = .ok (.invokevirtual 13, 3) := dk_182 0 13 (dk_at dksX13_init_0 10 rfl rfl)
theorem dX13_init_13 : decode cX13_init 13 = .ok (.return_, 1) := dk_177 (dk_at dksX13_init_0 13 rfl rfl)
abbrev cX13_recount : ByteArray := prog_9_method_2_code
def yX13_recount : MethodName := ⟨RX13, "recount", "()V"⟩
def dkwX13_recount_2 : List UInt8 := [180, 0, 7, 3, 50, 180, 0, 25, 42, 180, 0, 7, 4, 50, 180, 0, 25, 96, 181, 0, 28, 177]
abbrev dktX13_recount_2 : List UInt8 := dkwX13_recount_2 ++ []
def dkwX13_recount_1 : List UInt8 := [42, 180, 0, 7, 3, 50, 180, 0, 21, 42, 180, 0, 7, 4, 50, 180, 0, 21, 96, 181, 0, 24, 42, 42]
abbrev dktX13_recount_1 : List UInt8 := dkwX13_recount_1 ++ dktX13_recount_2
def dkwX13_recount_0 : List UInt8 := [42, 42, 180, 0, 7, 3, 50, 180, 0, 16, 42, 180, 0, 7, 4, 50, 180, 0, 16, 96, 181, 0, 20, 42]
abbrev dktX13_recount_0 : List UInt8 := dkwX13_recount_0 ++ dktX13_recount_1
theorem dksX13_recount_0 : cX13_recount.data.toList.drop 0 = dktX13_recount_0 := by decide +kernel
theorem dksX13_recount_1 : cX13_recount.data.toList.drop 24 = dktX13_recount_1 := dk_seg dksX13_recount_0 24 rfl rfl
theorem dksX13_recount_2 : cX13_recount.data.toList.drop 48 = dktX13_recount_2 := dk_seg dksX13_recount_1 24 rfl rfl
theorem dX13_recount_0 : decode cX13_recount 0 = .ok (.aload_n 0, 1) := dk_42 (dk_at dksX13_recount_0 0 rfl rfl)
theorem dX13_recount_1 : decode cX13_recount 1 = .ok (.aload_n 0, 1) := dk_42 (dk_at dksX13_recount_0 1 rfl rfl)
theorem dX13_recount_2 : decode cX13_recount 2 = .ok (.getfield 7, 3) := dk_180 0 7 (dk_at dksX13_recount_0 2 rfl rfl)
theorem dX13_recount_5 : decode cX13_recount 5 = .ok (.iconst 0, 1) := dk_3 (dk_at dksX13_recount_0 5 rfl rfl)
theorem dX13_recount_6 : decode cX13_recount 6 = .ok (.aaload, 1) := dk_50 (dk_at dksX13_recount_0 6 rfl rfl)
theorem dX13_recount_7 : decode cX13_recount 7 = .ok (.getfield 16, 3) := dk_180 0 16 (dk_at dksX13_recount_0 7 rfl rfl)
theorem dX13_recount_10 : decode cX13_recount 10 = .ok (.aload_n 0, 1) := dk_42 (dk_at dksX13_recount_0 10 rfl rfl)
theorem dX13_recount_11 : decode cX13_recount 11 = .ok (.getfield 7, 3) := dk_180 0 7 (dk_at dksX13_recount_0 11 rfl rfl)
theorem dX13_recount_14 : decode cX13_recount 14 = .ok (.iconst 1, 1) := dk_4 (dk_at dksX13_recount_0 14 rfl rfl)
theorem dX13_recount_15 : decode cX13_recount 15 = .ok (.aaload, 1) := dk_50 (dk_at dksX13_recount_0 15 rfl rfl)
theorem dX13_recount_16 : decode cX13_recount 16 = .ok (.getfield 16, 3) := dk_180 0 16 (dk_at dksX13_recount_0 16 rfl rfl)
theorem dX13_recount_19 : decode cX13_recount 19 = .ok (.iadd, 1) := dk_96 (dk_at dksX13_recount_0 19 rfl rfl)
theorem dX13_recount_20 : decode cX13_recount 20 = .ok (.putfield 20, 3) := dk_181 0 20 (dk_at dksX13_recount_0 20 rfl rfl)
theorem dX13_recount_23 : decode cX13_recount 23 = .ok (.aload_n 0, 1) := dk_42 (dk_at dksX13_recount_0 23 rfl rfl)
theorem dX13_recount_24 : decode cX13_recount 24 = .ok (.aload_n 0, 1) := dk_42 (dk_at dksX13_recount_1 0 rfl rfl)
theorem dX13_recount_25 : decode cX13_recount 25 = .ok (.getfield 7, 3) := dk_180 0 7 (dk_at dksX13_recount_1 1 rfl rfl)
theorem dX13_recount_28 : decode cX13_recount 28 = .ok (.iconst 0, 1) := dk_3 (dk_at dksX13_recount_1 4 rfl rfl)
theorem dX13_recount_29 : decode cX13_recount 29 = .ok (.aaload, 1) := dk_50 (dk_at dksX13_recount_1 5 rfl rfl)
theorem dX13_recount_30 : decode cX13_recount 30 = .ok (.getfield 21, 3) := dk_180 0 21 (dk_at dksX13_recount_1 6 rfl rfl)
theorem dX13_recount_33 : decode cX13_recount 33 = .ok (.aload_n 0, 1) := dk_42 (dk_at dksX13_recount_1 9 rfl rfl)
theorem dX13_recount_34 : decode cX13_recount 34 = .ok (.getfield 7, 3) := dk_180 0 7 (dk_at dksX13_recount_1 10 rfl rfl)
theorem dX13_recount_37 : decode cX13_recount 37 = .ok (.iconst 1, 1) := dk_4 (dk_at dksX13_recount_1 13 rfl rfl)
theorem dX13_recount_38 : decode cX13_recount 38 = .ok (.aaload, 1) := dk_50 (dk_at dksX13_recount_1 14 rfl rfl)
theorem dX13_recount_39 : decode cX13_recount 39 = .ok (.getfield 21, 3) := dk_180 0 21 (dk_at dksX13_recount_1 15 rfl rfl)
theorem dX13_recount_42 : decode cX13_recount 42 = .ok (.iadd, 1) := dk_96 (dk_at dksX13_recount_1 18 rfl rfl)
theorem dX13_recount_43 : decode cX13_recount 43 = .ok (.putfield 24, 3) := dk_181 0 24 (dk_at dksX13_recount_1 19 rfl rfl)
theorem dX13_recount_46 : decode cX13_recount 46 = .ok (.aload_n 0, 1) := dk_42 (dk_at dksX13_recount_1 22 rfl rfl)
theorem dX13_recount_47 : decode cX13_recount 47 = .ok (.aload_n 0, 1) := dk_42 (dk_at dksX13_recount_1 23 rfl rfl)
theorem dX13_recount_48 : decode cX13_recount 48 = .ok (.getfield 7, 3) := dk_180 0 7 (dk_at dksX13_recount_2 0 rfl rfl)
theorem dX13_recount_51 : decode cX13_recount 51 = .ok (.iconst 0, 1) := dk_3 (dk_at dksX13_recount_2 3 rfl rfl)
theorem dX13_recount_52 : decode cX13_recount 52 = .ok (.aaload, 1) := dk_50 (dk_at dksX13_recount_2 4 rfl rfl)
theorem dX13_recount_53 : decode cX13_recount 53 = .ok (.getfield 25, 3) := dk_180 0 25 (dk_at dksX13_recount_2 5 rfl rfl)
theorem dX13_recount_56 : decode cX13_recount 56 = .ok (.aload_n 0, 1) := dk_42 (dk_at dksX13_recount_2 8 rfl rfl)
theorem dX13_recount_57 : decode cX13_recount 57 = .ok (.getfield 7, 3) := dk_180 0 7 (dk_at dksX13_recount_2 9 rfl rfl)
theorem dX13_recount_60 : decode cX13_recount 60 = .ok (.iconst 1, 1) := dk_4 (dk_at dksX13_recount_2 12 rfl rfl)
theorem dX13_recount_61 : decode cX13_recount 61 = .ok (.aaload, 1) := dk_50 (dk_at dksX13_recount_2 13 rfl rfl)
theorem dX13_recount_62 : decode cX13_recount 62 = .ok (.getfield 25, 3) := dk_180 0 25 (dk_at dksX13_recount_2 14 rfl rfl)
theorem dX13_recount_65 : decode cX13_recount 65 = .ok (.iadd, 1) := dk_96 (dk_at dksX13_recount_2 17 rfl rfl)
theorem dX13_recount_66 : decode cX13_recount 66 = .ok (.putfield 28, 3) := dk_181 0 28 (dk_at dksX13_recount_2 18 rfl rfl)
theorem dX13_recount_69 : decode cX13_recount 69 = .ok (.return_, 1) := dk_177 (dk_at dksX13_recount_2 21 rfl rfl)
theorem q131 : (Jvm.Cond.initialized "BitRopes$Inne\x72") ∈ lw_all := lw_g (lw_at lw_m1 22 rfl) rfl
theorem q753 : (Jvm.Cond.instanceMethod ({ cls := "BitRopes$Inne\x72", name := "push", desc := "()V" } : Jvm.MethodName)) ∈ lw_all := lw_g (lw_at lw_m3 164 rfl) rfl
theorem q754 : (Jvm.Cond.selects "BitRopes$Inne\x72" ({ cls := "BitRopes$Inne\x72", name := "push", desc := "()V" } : Jvm.MethodName) ({ cls := "BitRopes$Inne\x72", name := "push", desc := "()V" } : Jvm.MethodName)) ∈ lw_all := lw_g (lw_at lw_m3 165 rfl) rfl
theorem q755 : (Jvm.Cond.code ({ cls := "BitRopes$Inne\x72", name := "push", desc := "()V" } : Jvm.MethodName) prog_9_method_3_code (1 : Nat) (Option.none : Option Jvm.ClassFile.FieldType)) ∈ lw_all := lw_g (lw_at lw_m3 166 rfl) rfl
theorem q756 : (Jvm.Cond.methodLink "BitRopes$Inne\x72" (33 : Nat) ({ cls := "BitRopes$Node", name := "turnAll", desc := "()V" } : Jvm.MethodName)) ∈ lw_all := lw_g (lw_at lw_m3 167 rfl) rfl
theorem q759 : (Jvm.Cond.selects "BitRopes$Inne\x72" ({ cls := "BitRopes$Node", name := "turnAll", desc := "()V" } : Jvm.MethodName) ({ cls := "BitRopes$Inne\x72", name := "turnAll", desc := "()V" } : Jvm.MethodName)) ∈ lw_all := lw_g (lw_at lw_m3 170 rfl) rfl
theorem q760 : (Jvm.Cond.instanceMethod ({ cls := "BitRopes$Inne\x72", name := "turnAll", desc := "()V" } : Jvm.MethodName)) ∈ lw_all := lw_g (lw_at lw_m3 171 rfl) rfl
theorem q761 : (Jvm.Cond.code ({ cls := "BitRopes$Inne\x72", name := "turnAll", desc := "()V" } : Jvm.MethodName) prog_9_method_4_code (1 : Nat) (Option.none : Option Jvm.ClassFile.FieldType)) ∈ lw_all := lw_g (lw_at lw_m3 172 rfl) rfl
theorem q781 : (Jvm.Cond.fieldLink "BitRopes$Inne\x72" (16 : Nat) "BitRopes$Node" "size" "I") ∈ lw_all := lw_g (lw_at lw_m3 192 rfl) rfl
theorem q782 : (Jvm.Cond.fieldLink "BitRopes$Inne\x72" (20 : Nat) "BitRopes$Inne\x72" "size" "I") ∈ lw_all := lw_g (lw_at lw_m3 193 rfl) rfl
theorem q783 : (Jvm.Cond.sameField "BitRopes$Inne\x72" "BitRopes$Node" "size" "I") ∈ lw_all := lw_g (lw_at lw_m3 194 rfl) rfl
theorem q789 : (Jvm.Cond.fieldLink "BitRopes$Inne\x72" (21 : Nat) "BitRopes$Node" "ones" "I") ∈ lw_all := lw_g (lw_at lw_m3 200 rfl) rfl
theorem q790 : (Jvm.Cond.fieldLink "BitRopes$Inne\x72" (24 : Nat) "BitRopes$Inne\x72" "ones" "I") ∈ lw_all := lw_g (lw_at lw_m3 201 rfl) rfl
theorem q791 : (Jvm.Cond.sameField "BitRopes$Inne\x72" "BitRopes$Node" "ones" "I") ∈ lw_all := lw_g (lw_at lw_m3 202 rfl) rfl
theorem q797 : (Jvm.Cond.fieldLink "BitRopes$Inne\x72" (25 : Nat) "BitRopes$Node" "leaves" "I") ∈ lw_all := lw_g (lw_at lw_m3 208 rfl) rfl
theorem q798 : (Jvm.Cond.fieldLink "BitRopes$Inne\x72" (28 : Nat) "BitRopes$Inne\x72" "leaves" "I") ∈ lw_all := lw_g (lw_at lw_m3 209 rfl) rfl
theorem q799 : (Jvm.Cond.sameField "BitRopes$Inne\x72" "BitRopes$Node" "leaves" "I") ∈ lw_all := lw_g (lw_at lw_m3 210 rfl) rfl
theorem q950 : (Jvm.Cond.instantiable "BitRopes$Inne\x72" (5 : Nat)) ∈ lw_all := lw_g (lw_at lw_m4 121 rfl) rfl
theorem q952 : (Jvm.Cond.instanceMethod ({ cls := "BitRopes$Inne\x72", name := "<init>", desc := "([LBitRopes$Node;)V" } : Jvm.MethodName)) ∈ lw_all := lw_g (lw_at lw_m4 123 rfl) rfl
theorem q953 : (Jvm.Cond.code ({ cls := "BitRopes$Inne\x72", name := "<init>", desc := "([LBitRopes$Node;)V" } : Jvm.MethodName) prog_9_method_1_code (2 : Nat) (Option.none : Option Jvm.ClassFile.FieldType)) ∈ lw_all := lw_g (lw_at lw_m4 124 rfl) rfl
theorem q954 : (Jvm.Cond.methodLinkNest "BitRopes$Inne\x72" (1 : Nat) ({ cls := "BitRopes$Node", name := "<init>", desc := "()V" } : Jvm.MethodName) "BitRopes") ∈ lw_tbl := lw_at lw_m4 125 rfl
theorem q955 : (Jvm.Cond.methodLink "BitRopes$Inne\x72" (13 : Nat) ({ cls := "BitRopes$Inne\x72", name := "recount", desc := "()V" } : Jvm.MethodName)) ∈ lw_all := lw_g (lw_at lw_m4 126 rfl) rfl
theorem q956 : (Jvm.Cond.instanceMethod ({ cls := "BitRopes$Inne\x72", name := "recount", desc := "()V" } : Jvm.MethodName)) ∈ lw_all := lw_g (lw_at lw_m4 127 rfl) rfl
theorem q957 : (Jvm.Cond.selects "BitRopes$Inne\x72" ({ cls := "BitRopes$Inne\x72", name := "recount", desc := "()V" } : Jvm.MethodName) ({ cls := "BitRopes$Inne\x72", name := "recount", desc := "()V" } : Jvm.MethodName)) ∈ lw_all := lw_g (lw_at lw_m4 128 rfl) rfl
theorem q958 : (Jvm.Cond.code ({ cls := "BitRopes$Inne\x72", name := "recount", desc := "()V" } : Jvm.MethodName) prog_9_method_2_code (1 : Nat) (Option.none : Option Jvm.ClassFile.FieldType)) ∈ lw_all := lw_g (lw_at lw_m4 129 rfl) rfl
theorem q959 : (Jvm.Cond.fieldLink "BitRopes$Inne\x72" (7 : Nat) "BitRopes$Inne\x72" "kid" "[LBitRopes$Node;") ∈ lw_all := lw_g (lw_at lw_m4 130 rfl) rfl
theorem q961 : (Jvm.Cond.fieldLink "BitRopes$Inne\x72" (29 : Nat) "BitRopes$Inne\x72" "waits" "Z") ∈ lw_all := lw_g (lw_at lw_m4 132 rfl) rfl
theorem q962 : (Jvm.Cond.laysFinal "BitRopes$Inne\x72" "BitRopes$Inne\x72" "kid" "[LBitRopes$Node;") ∈ lw_all := lw_g (lw_at lw_m4 133 rfl) rfl
theorem q963 : (Jvm.Cond.soleField "BitRopes$Inne\x72" "kid") ∈ lw_all := lw_g (lw_at lw_m4 134 rfl) rfl
theorem q964 : (Jvm.Cond.lays "BitRopes$Inne\x72" "BitRopes$Inne\x72" "waits" "Z") ∈ lw_all := lw_g (lw_at lw_m4 135 rfl) rfl
theorem q965 : (Jvm.Cond.soleField "BitRopes$Inne\x72" "waits") ∈ lw_all := lw_g (lw_at lw_m4 136 rfl) rfl
theorem q966 : (Jvm.Cond.lays "BitRopes$Inne\x72" "BitRopes$Node" "size" "I") ∈ lw_all := lw_g (lw_at lw_m4 137 rfl) rfl
theorem q967 : (Jvm.Cond.lays "BitRopes$Inne\x72" "BitRopes$Node" "ones" "I") ∈ lw_all := lw_g (lw_at lw_m4 138 rfl) rfl
theorem q968 : (Jvm.Cond.lays "BitRopes$Inne\x72" "BitRopes$Node" "leaves" "I") ∈ lw_all := lw_g (lw_at lw_m4 139 rfl) rfl
theorem q969 : (Jvm.Cond.superclass "BitRopes$Inne\x72" "BitRopes$Node") ∈ lw_all := lw_g (lw_at lw_m4 140 rfl) rfl
theorem q2334 : (Jvm.Cond.castable "BitRopes$Inne\x72" "java/lang/Object") ∈ lw_tbl := lw_at lw_m10 65 rfl
theorem q2347 : (Jvm.Cond.castable "BitRopes$Inne\x72" "BitRopes$Node") ∈ lw_tbl := lw_at lw_m10 78 rfl
theorem in_X13 : ∀ w ∈ wsX130, w ∈ lw_all := lw_in wsX130 [966, 967, 968, 962, 964] (by decide +kernel) (by decide +kernel)

/-! BitRopes$Packed -/
set_option maxRecDepth 100000
def RX14 : String := "BitRopes$Packed"
def TX14 : u_T := fun k => match k with
  | 0 => ("BitRopes$Packed", "bits", "[J", true)
  | _ => ("BitRopes$Packed", "sizes", "[I", true)
def tyX14 : Nat → FieldType := fun k => match k with
  | 0 => .array .long
  | _ => .array .int
abbrev wsX140 : List Cond := u_ws RX14 TX14 2
theorem nmX14 : ∀ a, a < 2 → ∀ b, b < 2 → a ≠ b → (TX14 a).2.1 ≠ (TX14 b).2.1 := by decide +kernel
theorem tyX14_ok : ∀ k, k < 2 → parseFieldDescriptor (TX14 k).2.2.1 = some (tyX14 k) := by decide +kernel
abbrev cX14_init : ByteArray := prog_15_method_1_code
def yX14_init : MethodName := ⟨RX14, "<init>", "([J[I)V"⟩
def dkwX14_init_0 : List UInt8 := [42, 183, 0, 1, 42, 43, 181, 0, 7, 42, 44, 181, 0, 13, 177]
abbrev dktX14_init_0 : List UInt8 := dkwX14_init_0 ++ []
theorem dksX14_init_0 : cX14_init.data.toList.drop 0 = dktX14_init_0 := by decide +kernel
theorem dX14_init_0 : decode cX14_init 0 = .ok (.aload_n 0, 1) := dk_42 (dk_at dksX14_init_0 0 rfl rfl)
theorem dX14_init_1 : decode cX14_init 1 = .ok (.invokespecial 1, 3) := dk_183 0 1 (dk_at dksX14_init_0 1 rfl rfl)
theorem dX14_init_4 : decode cX14_init 4 = .ok (.aload_n 0, 1) := dk_42 (dk_at dksX14_init_0 4 rfl rfl)
theorem dX14_init_5 : decode cX14_init 5 = .ok (.aload_n 1, 1) := dk_43 (dk_at dksX14_init_0 5 rfl rfl)
theorem dX14_init_6 : decode cX14_init 6 = .ok (.putfield 7, 3) := dk_181 0 7 (dk_at dksX14_init_0 6 rfl rfl)
theorem dX14_init_9 : decode cX14_init 9 = .ok (.aload_n 0, 1) := dk_42 (dk_at dksX14_init_0 9 rfl rfl)
theorem dX14_init_10 : decode cX14_init 10 = .ok (.aload_n 2, 1) := dk_44 (dk_at dksX14_init_0 10 rfl rfl)
theorem dX14_init_11 : decode cX14_init 11 = .ok (.putfield 13, 3) := dk_181 0 13 (dk_at dksX14_init_0 11 rfl rfl)
theorem dX14_init_14 : decode cX14_init 14 = .ok (.return_, 1) := dk_177 (dk_at dksX14_init_0 14 rfl rfl)
abbrev cX14_copy : ByteArray := prog_15_method_2_code
def yX14_copy : MethodName := ⟨RX14, "copy", "()LBitRopes$Packed;"⟩
def dkwX14_copy_1 : List UInt8 := [183, 0, 24, 176]
abbrev dktX14_copy_1 : List UInt8 := dkwX14_copy_1 ++ []
def dkwX14_copy_0 : List UInt8 := [187, 0, 8, 89, 42, 180, 0, 7, 182, 0, 17, 192, 0, 18, 42, 180, 0, 13, 182, 0, 22, 192, 0, 23]
abbrev dktX14_copy_0 : List UInt8 := dkwX14_copy_0 ++ dktX14_copy_1
theorem dksX14_copy_0 : cX14_copy.data.toList.drop 0 = dktX14_copy_0 := by decide +kernel
theorem dksX14_copy_1 : cX14_copy.data.toList.drop 24 = dktX14_copy_1 := dk_seg dksX14_copy_0 24 rfl rfl
theorem dX14_copy_0 : decode cX14_copy 0 = .ok (.new 8, 3) := dk_187 0 8 (dk_at dksX14_copy_0 0 rfl rfl)
theorem dX14_copy_3 : decode cX14_copy 3 = .ok (.dup, 1) := dk_89 (dk_at dksX14_copy_0 3 rfl rfl)
theorem dX14_copy_4 : decode cX14_copy 4 = .ok (.aload_n 0, 1) := dk_42 (dk_at dksX14_copy_0 4 rfl rfl)
theorem dX14_copy_5 : decode cX14_copy 5 = .ok (.getfield 7, 3) := dk_180 0 7 (dk_at dksX14_copy_0 5 rfl rfl)
theorem dX14_copy_8 : decode cX14_copy 8 = .ok (.invokevirtual 17, 3) := dk_182 0 17 (dk_at dksX14_copy_0 8 rfl rfl)
theorem dX14_copy_11 : decode cX14_copy 11 = .ok (.checkcast 18, 3) := dk_192 0 18 (dk_at dksX14_copy_0 11 rfl rfl)
theorem dX14_copy_14 : decode cX14_copy 14 = .ok (.aload_n 0, 1) := dk_42 (dk_at dksX14_copy_0 14 rfl rfl)
theorem dX14_copy_15 : decode cX14_copy 15 = .ok (.getfield 13, 3) := dk_180 0 13 (dk_at dksX14_copy_0 15 rfl rfl)
theorem dX14_copy_18 : decode cX14_copy 18 = .ok (.invokevirtual 22, 3) := dk_182 0 22 (dk_at dksX14_copy_0 18 rfl rfl)
theorem dX14_copy_21 : decode cX14_copy 21 = .ok (.checkcast 23, 3) := dk_192 0 23 (dk_at dksX14_copy_0 21 rfl rfl)
theorem dX14_copy_24 : decode cX14_copy 24 = .ok (.invokespecial 24, 3) := dk_183 0 24 (dk_at dksX14_copy_1 0 rfl rfl)
theorem dX14_copy_27 : decode cX14_copy 27 = .ok (.areturn, 1) := dk_176 (dk_at dksX14_copy_1 3 rfl rfl)
theorem q137 : (Jvm.Cond.initialized "BitRopes$Packed") ∈ lw_all := lw_g (lw_at lw_m1 28 rfl) rfl
theorem q1115 : (Jvm.Cond.instantiable "BitRopes$Packed" (2 : Nat)) ∈ lw_all := lw_g (lw_at lw_m5 46 rfl) rfl
theorem q1117 : (Jvm.Cond.instanceMethod ({ cls := "BitRopes$Packed", name := "<init>", desc := "([J[I)V" } : Jvm.MethodName)) ∈ lw_all := lw_g (lw_at lw_m5 48 rfl) rfl
theorem q1118 : (Jvm.Cond.code ({ cls := "BitRopes$Packed", name := "<init>", desc := "([J[I)V" } : Jvm.MethodName) prog_15_method_1_code (3 : Nat) (Option.none : Option Jvm.ClassFile.FieldType)) ∈ lw_all := lw_g (lw_at lw_m5 49 rfl) rfl
theorem q1119 : (Jvm.Cond.methodLink "BitRopes$Packed" (1 : Nat) ({ cls := "java/lang/Object", name := "<init>", desc := "()V" } : Jvm.MethodName)) ∈ lw_all := lw_g (lw_at lw_m5 50 rfl) rfl
theorem q1120 : (Jvm.Cond.fieldLink "BitRopes$Packed" (7 : Nat) "BitRopes$Packed" "bits" "[J") ∈ lw_all := lw_g (lw_at lw_m5 51 rfl) rfl
theorem q1123 : (Jvm.Cond.fieldLink "BitRopes$Packed" (13 : Nat) "BitRopes$Packed" "sizes" "[I") ∈ lw_all := lw_g (lw_at lw_m5 54 rfl) rfl
theorem q1125 : (Jvm.Cond.laysFinal "BitRopes$Packed" "BitRopes$Packed" "bits" "[J") ∈ lw_all := lw_g (lw_at lw_m5 56 rfl) rfl
theorem q1126 : (Jvm.Cond.soleField "BitRopes$Packed" "bits") ∈ lw_all := lw_g (lw_at lw_m5 57 rfl) rfl
theorem q1127 : (Jvm.Cond.laysFinal "BitRopes$Packed" "BitRopes$Packed" "sizes" "[I") ∈ lw_all := lw_g (lw_at lw_m5 58 rfl) rfl
theorem q1128 : (Jvm.Cond.soleField "BitRopes$Packed" "sizes") ∈ lw_all := lw_g (lw_at lw_m5 59 rfl) rfl
theorem q1129 : (Jvm.Cond.superclass "BitRopes$Packed" "java/lang/Object") ∈ lw_all := lw_g (lw_at lw_m5 60 rfl) rfl
theorem q1568 : (Jvm.Cond.instanceMethod ({ cls := "BitRopes$Packed", name := "copy", desc := "()LBitRopes$Packed;" } : Jvm.MethodName)) ∈ lw_all := lw_g (lw_at lw_m7 19 rfl) rfl
theorem q1569 : (Jvm.Cond.selects "BitRopes$Packed" ({ cls := "BitRopes$Packed", name := "copy", desc := "()LBitRopes$Packed;" } : Jvm.MethodName) ({ cls := "BitRopes$Packed", name := "copy", desc := "()LBitRopes$Packed;" } : Jvm.MethodName)) ∈ lw_all := lw_g (lw_at lw_m7 20 rfl) rfl
theorem q1570 : (Jvm.Cond.code ({ cls := "BitRopes$Packed", name := "copy", desc := "()LBitRopes$Packed;" } : Jvm.MethodName) prog_15_method_2_code (1 : Nat) (Option.some (Jvm.ClassFile.FieldType.object "BitRopes$Packed"))) ∈ lw_all := lw_g (lw_at lw_m7 21 rfl) rfl
theorem q1571 : (Jvm.Cond.classLink "BitRopes$Packed" (8 : Nat) "BitRopes$Packed") ∈ lw_all := lw_g (lw_at lw_m7 22 rfl) rfl
theorem q1572 : (Jvm.Cond.methodLink "BitRopes$Packed" (17 : Nat) ({ cls := "[J", name := "clone", desc := "()Ljava/lang/Object;" } : Jvm.MethodName)) ∈ lw_all := lw_g (lw_at lw_m7 23 rfl) rfl
theorem q1578 : (Jvm.Cond.classLink "BitRopes$Packed" (18 : Nat) "[J") ∈ lw_all := lw_g (lw_at lw_m7 29 rfl) rfl
theorem q1579 : (Jvm.Cond.methodLink "BitRopes$Packed" (22 : Nat) ({ cls := "[I", name := "clone", desc := "()Ljava/lang/Object;" } : Jvm.MethodName)) ∈ lw_all := lw_g (lw_at lw_m7 30 rfl) rfl
theorem q1583 : (Jvm.Cond.classLink "BitRopes$Packed" (23 : Nat) "[I") ∈ lw_all := lw_g (lw_at lw_m7 34 rfl) rfl
theorem q1584 : (Jvm.Cond.methodLink "BitRopes$Packed" (24 : Nat) ({ cls := "BitRopes$Packed", name := "<init>", desc := "([J[I)V" } : Jvm.MethodName)) ∈ lw_all := lw_g (lw_at lw_m7 35 rfl) rfl
theorem q2336 : (Jvm.Cond.castable "BitRopes$Packed" "java/lang/Object") ∈ lw_tbl := lw_at lw_m10 67 rfl
theorem in_X14 : ∀ w ∈ wsX140, w ∈ lw_all := lw_in wsX140 [1125, 1127] (by decide +kernel) (by decide +kernel)
