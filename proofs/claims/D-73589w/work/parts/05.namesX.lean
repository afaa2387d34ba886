/-! BitRopes$Fault -/
set_option maxRecDepth 100000
def RX2 : String := "BitRopes$Fault"
def TX2 : u_T := fun k => match k with
  | 0 => ("java/lang/Throwable", "cause", "Ljava/lang/Throwable;", false)
  | 1 => ("java/lang/Throwable", "stackTrace", "[Ljava/lang/StackTraceElement;", false)
  | 2 => ("java/lang/Throwable", "suppressedExceptions", "Ljava/util/List;", false)
  | 3 => ("java/lang/Throwable", "detailMessage", "Ljava/lang/String;", false)
  | 4 => ("java/lang/Throwable", "backtrace", "Ljava/lang/Object;", false)
  | 5 => ("java/lang/Throwable", "depth", "I", false)
  | 6 => ("BitRopes$Fault", "kind", "I", false)
  | _ => ("BitRopes$Fault", "place", "I", false)
def tyX2 : Nat → FieldType := fun k => match k with
  | 0 => .object "java/lang/Throwable"
  | 1 => .array (.object "java/lang/StackTraceElement")
  | 2 => .object "java/util/List"
  | 3 => .object "java/lang/String"
  | 4 => .object "java/lang/Object"
  | 5 => .int
  | 6 => .int
  | _ => .int
abbrev wsX20 : List Cond := u_ws RX2 TX2 8
theorem nmX2 : ∀ a, a < 8 → ∀ b, b < 8 → a ≠ b → (TX2 a).2.1 ≠ (TX2 b).2.1 := by decide +kernel
theorem tyX2_ok : ∀ k, k < 8 → parseFieldDescriptor (TX2 k).2.2.1 = some (tyX2 k) := by decide +kernel
abbrev cX2_init : ByteArray := prog_8_method_1_code
def yX2_init : MethodName := ⟨RX2, "<init>", "()V"⟩
def dkwX2_init_0 : List UInt8 := [42, 1, 1, 3, 3, 183, 0, 1, 177]
abbrev dktX2_init_0 : List UInt8 := dkwX2_init_0 ++ []
theorem dksX2_init_0 : cX2_init.data.toList.drop 0 = dktX2_init_0 := by decide +kernel
theorem dX2_init_0 : decode cX2_init 0 = .ok (.aload_n 0, 1) := dk_42 (dk_at dksX2_init_0 0 rfl rfl)
theorem dX2_init_1 : decode cX2_init 1 = .ok (.aconst_null, 1) := dk_1 (dk_at dksX2_init_0 1 rfl rfl)
theorem dX2_init_2 : decode cX2_init 2 = .ok (.aconst_null, 1) := dk_1 (dk_at dksX2_init_0 2 rfl rfl)
theorem dX2_init_3 : decode cX2_init 3 = .ok (.iconst 0, 1) := dk_3 (dk_at dksX2_init_0 3 rfl rfl)
theorem dX2_init_4 : decode cX2_init 4 = .ok (.iconst 0, 1) := dk_3 (dk_at dksX2_init_0 4 rfl rfl)
theorem dX2_init_5 : decode cX2_init 5 = .ok (.invokespecial 1, 3) := dk_183 0 1 (dk_at dksX2_init_0 5 rfl rfl)
theorem dX2_init_8 : decode cX2_init 8 = .ok (.return_, 1) := dk_177 (dk_at dksX2_init_0 8 rfl rfl)
theorem q113 : (Jvm.Cond.initialized "BitRopes$Fault") ∈ lw_all := lw_g (lw_at lw_m1 4 rfl) rfl
theorem q154 : (Jvm.Cond.instantiable "BitRopes$Fault" (8 : Nat)) ∈ lw_all := lw_g (lw_at lw_m1 45 rfl) rfl
theorem q155 : (Jvm.Cond.castable "BitRopes$Fault" "BitRopes$Fault") ∈ lw_tbl := lw_at lw_m1 46 rfl
theorem q160 : (Jvm.Cond.selects "BitRopes$Fault" ({ cls := "java/lang/Throwable", name := "fillInStackTrace", desc := "(I)Ljava/lang/Throwable;" } : Jvm.MethodName) ({ cls := "java/lang/Throwable", name := "fillInStackTrace", desc := "(I)Ljava/lang/Throwable;" } : Jvm.MethodName)) ∈ lw_all := lw_g (lw_at lw_m1 51 rfl) rfl
theorem q161 : (Jvm.Cond.selects "BitRopes$Fault" ({ cls := "java/lang/Throwable", name := "fillInStackTrace", desc := "()Ljava/lang/Throwable;" } : Jvm.MethodName) ({ cls := "java/lang/Throwable", name := "fillInStackTrace", desc := "()Ljava/lang/Throwable;" } : Jvm.MethodName)) ∈ lw_all := lw_g (lw_at lw_m1 52 rfl) rfl
theorem q162 : (Jvm.Cond.lays "BitRopes$Fault" "java/lang/Throwable" "cause" "Ljava/lang/Throwable;") ∈ lw_all := lw_g (lw_at lw_m1 53 rfl) rfl
theorem q164 : (Jvm.Cond.lays "BitRopes$Fault" "java/lang/Throwable" "stackTrace" "[Ljava/lang/StackTraceElement;") ∈ lw_all := lw_g (lw_at lw_m1 55 rfl) rfl
theorem q166 : (Jvm.Cond.lays "BitRopes$Fault" "java/lang/Throwable" "suppressedExceptions" "Ljava/util/List;") ∈ lw_all := lw_g (lw_at lw_m1 57 rfl) rfl
theorem q168 : (Jvm.Cond.lays "BitRopes$Fault" "java/lang/Throwable" "detailMessage" "Ljava/lang/String;") ∈ lw_all := lw_g (lw_at lw_m1 59 rfl) rfl
theorem q170 : (Jvm.Cond.lays "BitRopes$Fault" "java/lang/Throwable" "backtrace" "Ljava/lang/Object;") ∈ lw_all := lw_g (lw_at lw_m1 61 rfl) rfl
theorem q193 : (Jvm.Cond.instanceMethod ({ cls := "BitRopes$Fault", name := "<init>", desc := "()V" } : Jvm.MethodName)) ∈ lw_all := lw_g (lw_at lw_m1 84 rfl) rfl
theorem q194 : (Jvm.Cond.code ({ cls := "BitRopes$Fault", name := "<init>", desc := "()V" } : Jvm.MethodName) prog_8_method_1_code (1 : Nat) (Option.none : Option Jvm.ClassFile.FieldType)) ∈ lw_all := lw_g (lw_at lw_m1 85 rfl) rfl
theorem q195 : (Jvm.Cond.methodLink "BitRopes$Fault" (1 : Nat) ({ cls := "java/lang/Exception", name := "<init>", desc := "(Ljava/lang/String;Ljava/lang/Throwable;ZZ)V" } : Jvm.MethodName)) ∈ lw_all := lw_g (lw_at lw_m1 86 rfl) rfl
theorem q210 : (Jvm.Cond.lays "BitRopes$Fault" "BitRopes$Fault" "kind" "I") ∈ lw_all := lw_g (lw_at lw_m1 101 rfl) rfl
theorem q211 : (Jvm.Cond.soleField "BitRopes$Fault" "kind") ∈ lw_all := lw_g (lw_at lw_m1 102 rfl) rfl
theorem q212 : (Jvm.Cond.lays "BitRopes$Fault" "BitRopes$Fault" "place" "I") ∈ lw_all := lw_g (lw_at lw_m1 103 rfl) rfl
theorem q213 : (Jvm.Cond.soleField "BitRopes$Fault" "place") ∈ lw_all := lw_g (lw_at lw_m1 104 rfl) rfl
theorem q218 : (Jvm.Cond.lays "BitRopes$Fault" "java/lang/Throwable" "depth" "I") ∈ lw_all := lw_g (lw_at lw_m1 109 rfl) rfl
theorem q221 : (Jvm.Cond.superclass "BitRopes$Fault" "java/lang/Exception") ∈ lw_all := lw_g (lw_at lw_m1 112 rfl) rfl
theorem q2324 : (Jvm.Cond.castable "BitRopes$Fault" "java/lang/Object") ∈ lw_tbl := lw_at lw_m10 55 rfl
theorem in_X2 : ∀ w ∈ wsX20, w ∈ lw_all := lw_in wsX20 [162, 164, 166, 168, 170, 218, 210, 212] (by decide +kernel) (by decide +kernel)

/-! BitRopes$Room -/
set_option maxRecDepth 100000
def RX3 : String := "BitRopes$Room"
def TX3 : u_T := fun k => match k with
  | 0 => ("BitRopes$Room", "names", "[J", true)
  | 1 => ("BitRopes$Room", "rows", "I", false)
  | _ => ("BitRopes$Room", "low", "I", false)
def tyX3 : Nat → FieldType := fun k => match k with
  | 0 => .array .long
  | 1 => .int
  | _ => .int
abbrev wsX30 : List Cond := u_ws RX3 TX3 3
theorem nmX3 : ∀ a, a < 3 → ∀ b, b < 3 → a ≠ b → (TX3 a).2.1 ≠ (TX3 b).2.1 := by decide +kernel
theorem tyX3_ok : ∀ k, k < 3 → parseFieldDescriptor (TX3 k).2.2.1 = some (tyX3 k) := by decide +kernel
abbrev cX3_init : ByteArray := prog_17_method_1_code
def yX3_init : MethodName := ⟨RX3, "<init>", "()V"⟩
def dkwX3_init_0 : List UInt8 := [42, 183, 0, 3, 42, 7, 188, 11, 181, 0, 9, 42, 16, 8, 181, 0, 15, 177]
abbrev dktX3_init_0 : List UInt8 := dkwX3_init_0 ++ []
theorem dksX3_init_0 : cX3_init.data.toList.drop 0 = dktX3_init_0 := by decide +kernel
theorem dX3_init_0 : decode cX3_init 0 = .ok (.aload_n 0, 1) := dk_42 (dk_at dksX3_init_0 0 rfl rfl)
theorem dX3_init_1 : decode cX3_init 1 = .ok (.invokespecial 3, 3) := dk_183 0 3 (dk_at dksX3_init_0 1 rfl rfl)
theorem dX3_init_4 : decode cX3_init 4 = .ok (.aload_n 0, 1) := dk_42 (dk_at dksX3_init_0 4 rfl rfl)
theorem dX3_init_5 : decode cX3_init 5 = .ok (.iconst 4, 1) := dk_7 (dk_at dksX3_init_0 5 rfl rfl)
theorem dX3_init_6 : decode cX3_init 6 = .ok (.newarray .long, 2) := dk_188_11 (dk_at dksX3_init_0 6 rfl rfl)
theorem dX3_init_8 : decode cX3_init 8 = .ok (.putfield 9, 3) := dk_181 0 9 (dk_at dksX3_init_0 8 rfl rfl)
theorem dX3_init_11 : decode cX3_init 11 = .ok (.aload_n 0, 1) := dk_42 (dk_at dksX3_init_0 11 rfl rfl)
theorem dX3_init_12 : decode cX3_init 12 = .ok (.bipush 8, 2) := dk_16 8 (dk_at dksX3_init_0 12 rfl rfl)
theorem dX3_init_14 : decode cX3_init 14 = .ok (.putfield 15, 3) := dk_181 0 15 (dk_at dksX3_init_0 14 rfl rfl)
theorem dX3_init_17 : decode cX3_init 17 = .ok (.return_, 1) := dk_177 (dk_at dksX3_init_0 17 rfl rfl)
theorem q114 : (Jvm.Cond.initialized "BitRopes$Room") ∈ lw_all := lw_g (lw_at lw_m1 5 rfl) rfl
theorem q249 : (Jvm.Cond.instantiable "BitRopes$Room" (3 : Nat)) ∈ lw_all := lw_g (lw_at lw_m1 140 rfl) rfl
theorem q251 : (Jvm.Cond.instanceMethod ({ cls := "BitRopes$Room", name := "<init>", desc := "()V" } : Jvm.MethodName)) ∈ lw_all := lw_g (lw_at lw_m1 142 rfl) rfl
theorem q252 : (Jvm.Cond.code ({ cls := "BitRopes$Room", name := "<init>", desc := "()V" } : Jvm.MethodName) prog_17_method_1_code (1 : Nat) (Option.none : Option Jvm.ClassFile.FieldType)) ∈ lw_all := lw_g (lw_at lw_m1 143 rfl) rfl
theorem q253 : (Jvm.Cond.methodLink "BitRopes$Room" (3 : Nat) ({ cls := "java/lang/Object", name := "<init>", desc := "()V" } : Jvm.MethodName)) ∈ lw_all := lw_g (lw_at lw_m1 144 rfl) rfl
theorem q254 : (Jvm.Cond.fieldLink "BitRopes$Room" (9 : Nat) "BitRopes$Room" "names" "[J") ∈ lw_all := lw_g (lw_at lw_m1 145 rfl) rfl
theorem q263 : (Jvm.Cond.fieldLink "BitRopes$Room" (15 : Nat) "BitRopes$Room" "low" "I") ∈ lw_all := lw_g (lw_at lw_m1 154 rfl) rfl
theorem q267 : (Jvm.Cond.laysFinal "BitRopes$Room" "BitRopes$Room" "names" "[J") ∈ lw_all := lw_g (lw_at lw_m1 158 rfl) rfl
theorem q268 : (Jvm.Cond.soleField "BitRopes$Room" "names") ∈ lw_all := lw_g (lw_at lw_m1 159 rfl) rfl
theorem q269 : (Jvm.Cond.lays "BitRopes$Room" "BitRopes$Room" "rows" "I") ∈ lw_all := lw_g (lw_at lw_m1 160 rfl) rfl
theorem q270 : (Jvm.Cond.soleField "BitRopes$Room" "rows") ∈ lw_all := lw_g (lw_at lw_m1 161 rfl) rfl
theorem q271 : (Jvm.Cond.lays "BitRopes$Room" "BitRopes$Room" "low" "I") ∈ lw_all := lw_g (lw_at lw_m1 162 rfl) rfl
theorem q272 : (Jvm.Cond.soleField "BitRopes$Room" "low") ∈ lw_all := lw_g (lw_at lw_m1 163 rfl) rfl
theorem q273 : (Jvm.Cond.superclass "BitRopes$Room" "java/lang/Object") ∈ lw_all := lw_g (lw_at lw_m1 164 rfl) rfl
theorem q2325 : (Jvm.Cond.castable "BitRopes$Room" "java/lang/Object") ∈ lw_tbl := lw_at lw_m10 56 rfl
theorem in_X3 : ∀ w ∈ wsX30, w ∈ lw_all := lw_in wsX30 [267, 269, 271] (by decide +kernel) (by decide +kernel)

/-! BitRopes$Reader -/
set_option maxRecDepth 100000
def RX6 : String := "BitRopes$Reade\x72"
abbrev cX6_init : ByteArray := prog_16_method_1_code
def yX6_init : MethodName := ⟨RX6, "<init>", "(LBitRopes;I)V"⟩
def dkwX6_init_0 : List UInt8 := [42, 43, 181, 0, 3, 42, 183, 0, 9, 42, 28, 181, 0, 15, 177]
abbrev dktX6_init_0 : List UInt8 := dkwX6_init_0 ++ []
theorem dksX6_init_0 : cX6_init.data.toList.drop 0 = dktX6_init_0 := by decide +kernel
theorem dX6_init_0 : decode cX6_init 0 = .ok (.aload_n 0, 1) := dk_42 (dk_at dksX6_init_0 0 rfl rfl)
theorem dX6_init_1 : decode cX6_init 1 = .ok (.aload_n 1, 1) := dk_43 (dk_at dksX6_init_0 1 rfl rfl)
theorem dX6_init_2 : decode cX6_init 2 = .ok (.putfield 3, 3) := dk_181 0 3 (dk_at dksX6_init_0 2 rfl rfl)
theorem dX6_init_5 : decode cX6_init 5 = .ok (.aload_n 0, 1) := dk_42 (dk_at dksX6_init_0 5 rfl rfl)
theorem dX6_init_6 : decode cX6_init 6 = .ok (.invokespecial 9, 3) := dk_183 0 9 (dk_at dksX6_init_0 6 rfl rfl)
theorem dX6_init_9 : decode cX6_init 9 = .ok (.aload_n 0, 1) := dk_42 (dk_at dksX6_init_0 9 rfl rfl)
theorem dX6_init_10 : decode cX6_init 10 = .ok (.iload_n 2, 1) := dk_28 (dk_at dksX6_init_0 10 rfl rfl)
theorem dX6_init_11 : decode cX6_init 11 = .ok (.putfield 15, 3) := dk_181 0 15 (dk_at dksX6_init_0 11 rfl rfl)
theorem dX6_init_14 : decode cX6_init 14 = .ok (.return_, 1) := dk_177 (dk_at dksX6_init_0 14 rfl rfl)
abbrev cX6_begin : ByteArray := prog_16_method_2_code
def yX6_begin : MethodName := ⟨RX6, "begin", "()V"⟩
def dkwX6_begin_0 : List UInt8 := [42, 3, 181, 0, 19, 42, 182, 0, 22, 177]
abbrev dktX6_begin_0 : List UInt8 := dkwX6_begin_0 ++ []
theorem dksX6_begin_0 : cX6_begin.data.toList.drop 0 = dktX6_begin_0 := by decide +kernel
theorem dX6_begin_0 : decode cX6_begin 0 = .ok (.aload_n 0, 1) := dk_42 (dk_at dksX6_begin_0 0 rfl rfl)
theorem dX6_begin_1 : decode cX6_begin 1 = .ok (.iconst 0, 1) := dk_3 (dk_at dksX6_begin_0 1 rfl rfl)
theorem dX6_begin_2 : decode cX6_begin 2 = .ok (.putfield 19, 3) := dk_181 0 19 (dk_at dksX6_begin_0 2 rfl rfl)
theorem dX6_begin_5 : decode cX6_begin 5 = .ok (.aload_n 0, 1) := dk_42 (dk_at dksX6_begin_0 5 rfl rfl)
theorem dX6_begin_6 : decode cX6_begin 6 = .ok (.invokevirtual 22, 3) := dk_182 0 22 (dk_at dksX6_begin_0 6 rfl rfl)
theorem dX6_begin_9 : decode cX6_begin 9 = .ok (.return_, 1) := dk_177 (dk_at dksX6_begin_0 9 rfl rfl)
abbrev cX6_next : ByteArray := prog_16_method_6_code
def yX6_next : MethodName := ⟨RX6, "next", "()V"⟩
def dkwX6_next_7 : List UInt8 := [42, 27, 181, 0, 57, 42, 89, 180, 0, 19, 4, 96, 181, 0, 19, 177]
abbrev dktX6_next_7 : List UInt8 := dkwX6_next_7 ++ []
def dkwX6_next_6 : List UInt8 := [16, 41, 159, 0, 14, 27, 16, 60, 16, 62, 184, 0, 32, 153, 0, 7, 6, 167, 0, 4, 7, 181, 0, 43]
abbrev dktX6_next_6 : List UInt8 := dkwX6_next_6 ++ dktX6_next_7
def dkwX6_next_5 : List UInt8 := [182, 0, 46, 182, 0, 53, 167, 0, 56, 42, 27, 16, 59, 159, 0, 26, 27, 16, 40, 159, 0, 20, 27]
abbrev dktX6_next_5 : List UInt8 := dkwX6_next_5 ++ dktX6_next_6
def dkwX6_next_4 : List UInt8 := [167, 0, 84, 42, 27, 182, 0, 46, 154, 0, 11, 42, 27, 182, 0, 50, 153, 0, 15, 42, 42, 27]
abbrev dktX6_next_4 : List UInt8 := dkwX6_next_4 ++ dktX6_next_5
def dkwX6_next_3 : List UInt8 := [181, 0, 40, 42, 7, 181, 0, 43, 177, 42, 182, 0, 36, 60, 27, 156, 0, 11, 42, 3, 181, 0, 43]
abbrev dktX6_next_3 : List UInt8 := dkwX6_next_3 ++ dktX6_next_4
def dkwX6_next_2 : List UInt8 := [180, 0, 15, 164, 0, 28, 42, 180, 0, 19, 42, 180, 0, 15, 161, 0, 17, 42, 42, 180, 0, 15]
abbrev dktX6_next_2 : List UInt8 := dkwX6_next_2 ++ dktX6_next_3
def dkwX6_next_1 : List UInt8 := [96, 181, 0, 19, 167, 255, 228, 42, 42, 180, 0, 19, 181, 0, 40, 42, 180, 0, 3, 180, 0, 25, 42]
abbrev dktX6_next_1 : List UInt8 := dkwX6_next_1 ++ dktX6_next_2
def dkwX6_next_0 : List UInt8 := [42, 182, 0, 36, 16, 32, 159, 0, 12, 42, 182, 0, 36, 16, 10, 160, 0, 16, 42, 89, 180, 0, 19, 4]
abbrev dktX6_next_0 : List UInt8 := dkwX6_next_0 ++ dktX6_next_1
theorem dksX6_next_0 : cX6_next.data.toList.drop 0 = dktX6_next_0 := by decide +kernel
theorem dksX6_next_1 : cX6_next.data.toList.drop 24 = dktX6_next_1 := dk_seg dksX6_next_0 24 rfl rfl
theorem dksX6_next_2 : cX6_next.data.toList.drop 47 = dktX6_next_2 := dk_seg dksX6_next_1 23 rfl rfl
theorem dksX6_next_3 : cX6_next.data.toList.drop 69 = dktX6_next_3 := dk_seg dksX6_next_2 22 rfl rfl
theorem dksX6_next_4 : cX6_next.data.toList.drop 92 = dktX6_next_4 := dk_seg dksX6_next_3 23 rfl rfl
theorem dksX6_next_5 : cX6_next.data.toList.drop 114 = dktX6_next_5 := dk_seg dksX6_next_4 22 rfl rfl
theorem dksX6_next_6 : cX6_next.data.toList.drop 137 = dktX6_next_6 := dk_seg dksX6_next_5 23 rfl rfl
theorem dksX6_next_7 : cX6_next.data.toList.drop 161 = dktX6_next_7 := dk_seg dksX6_next_6 24 rfl rfl
theorem dX6_next_0 : decode cX6_next 0 = .ok (.aload_n 0, 1) := dk_42 (dk_at dksX6_next_0 0 rfl rfl)
theorem dX6_next_1 : decode cX6_next 1 = .ok (.invokevirtual 36, 3) := dk_182 0 36 (dk_at dksX6_next_0 1 rfl rfl)
theorem dX6_next_4 : decode cX6_next 4 = .ok (.bipush 32, 2) := dk_16 32 (dk_at dksX6_next_0 4 rfl rfl)
theorem dX6_next_6 : decode cX6_next 6 = .ok (.if_icmp .eq 12, 3) := dk_159 0 12 (dk_at dksX6_next_0 6 rfl rfl)
theorem dX6_next_9 : decode cX6_next 9 = .ok (.aload_n 0, 1) := dk_42 (dk_at dksX6_next_0 9 rfl rfl)
theorem dX6_next_10 : decode cX6_next 10 = .ok (.invokevirtual 36, 3) := dk_182 0 36 (dk_at dksX6_next_0 10 rfl rfl)
theorem dX6_next_13 : decode cX6_next 13 = .ok (.bipush 10, 2) := dk_16 10 (dk_at dksX6_next_0 13 rfl rfl)
theorem dX6_next_15 : decode cX6_next 15 = .ok (.if_icmp .ne 16, 3) := dk_160 0 16 (dk_at dksX6_next_0 15 rfl rfl)
theorem dX6_next_18 : decode cX6_next 18 = .ok (.aload_n 0, 1) := dk_42 (dk_at dksX6_next_0 18 rfl rfl)
theorem dX6_next_19 : decode cX6_next 19 = .ok (.dup, 1) := dk_89 (dk_at dksX6_next_0 19 rfl rfl)
theorem dX6_next_20 : decode cX6_next 20 = .ok (.getfield 19, 3) := dk_180 0 19 (dk_at dksX6_next_0 20 rfl rfl)
theorem dX6_next_23 : decode cX6_next 23 = .ok (.iconst 1, 1) := dk_4 (dk_at dksX6_next_0 23 rfl rfl)
theorem dX6_next_24 : decode cX6_next 24 = .ok (.iadd, 1) := dk_96 (dk_at dksX6_next_1 0 rfl rfl)
theorem dX6_next_25 : decode cX6_next 25 = .ok (.putfield 19, 3) := dk_181 0 19 (dk_at dksX6_next_1 1 rfl rfl)
theorem dX6_next_28 : decode cX6_next 28 = .ok (.goto (-28), 3) := dk_167 255 228 (dk_at dksX6_next_1 4 rfl rfl)
theorem dX6_next_31 : decode cX6_next 31 = .ok (.aload_n 0, 1) := dk_42 (dk_at dksX6_next_1 7 rfl rfl)
theorem dX6_next_32 : decode cX6_next 32 = .ok (.aload_n 0, 1) := dk_42 (dk_at dksX6_next_1 8 rfl rfl)
theorem dX6_next_33 : decode cX6_next 33 = .ok (.getfield 19, 3) := dk_180 0 19 (dk_at dksX6_next_1 9 rfl rfl)
theorem dX6_next_36 : decode cX6_next 36 = .ok (.putfield 40, 3) := dk_181 0 40 (dk_at dksX6_next_1 12 rfl rfl)
theorem dX6_next_39 : decode cX6_next 39 = .ok (.aload_n 0, 1) := dk_42 (dk_at dksX6_next_1 15 rfl rfl)
theorem dX6_next_40 : decode cX6_next 40 = .ok (.getfield 3, 3) := dk_180 0 3 (dk_at dksX6_next_1 16 rfl rfl)
theorem dX6_next_43 : decode cX6_next 43 = .ok (.getfield 25, 3) := dk_180 0 25 (dk_at dksX6_next_1 19 rfl rfl)
theorem dX6_next_46 : decode cX6_next 46 = .ok (.aload_n 0, 1) := dk_42 (dk_at dksX6_next_1 22 rfl rfl)
theorem dX6_next_47 : decode cX6_next 47 = .ok (.getfield 15, 3) := dk_180 0 15 (dk_at dksX6_next_2 0 rfl rfl)
theorem dX6_next_50 : decode cX6_next 50 = .ok (.if_icmp .le 28, 3) := dk_164 0 28 (dk_at dksX6_next_2 3 rfl rfl)
theorem dX6_next_53 : decode cX6_next 53 = .ok (.aload_n 0, 1) := dk_42 (dk_at dksX6_next_2 6 rfl rfl)
theorem dX6_next_54 : decode cX6_next 54 = .ok (.getfield 19, 3) := dk_180 0 19 (dk_at dksX6_next_2 7 rfl rfl)
theorem dX6_next_57 : decode cX6_next 57 = .ok (.aload_n 0, 1) := dk_42 (dk_at dksX6_next_2 10 rfl rfl)
theorem dX6_next_58 : decode cX6_next 58 = .ok (.getfield 15, 3) := dk_180 0 15 (dk_at dksX6_next_2 11 rfl rfl)
theorem dX6_next_61 : decode cX6_next 61 = .ok (.if_icmp .lt 17, 3) := dk_161 0 17 (dk_at dksX6_next_2 14 rfl rfl)
theorem dX6_next_64 : decode cX6_next 64 = .ok (.aload_n 0, 1) := dk_42 (dk_at dksX6_next_2 17 rfl rfl)
theorem dX6_next_65 : decode cX6_next 65 = .ok (.aload_n 0, 1) := dk_42 (dk_at dksX6_next_2 18 rfl rfl)
theorem dX6_next_66 : decode cX6_next 66 = .ok (.getfield 15, 3) := dk_180 0 15 (dk_at dksX6_next_2 19 rfl rfl)
theorem dX6_next_69 : decode cX6_next 69 = .ok (.putfield 40, 3) := dk_181 0 40 (dk_at dksX6_next_3 0 rfl rfl)
theorem dX6_next_72 : decode cX6_next 72 = .ok (.aload_n 0, 1) := dk_42 (dk_at dksX6_next_3 3 rfl rfl)
theorem dX6_next_73 : decode cX6_next 73 = .ok (.iconst 4, 1) := dk_7 (dk_at dksX6_next_3 4 rfl rfl)
theorem dX6_next_74 : decode cX6_next 74 = .ok (.putfield 43, 3) := dk_181 0 43 (dk_at dksX6_next_3 5 rfl rfl)
theorem dX6_next_77 : decode cX6_next 77 = .ok (.return_, 1) := dk_177 (dk_at dksX6_next_3 8 rfl rfl)
theorem dX6_next_78 : decode cX6_next 78 = .ok (.aload_n 0, 1) := dk_42 (dk_at dksX6_next_3 9 rfl rfl)
theorem dX6_next_79 : decode cX6_next 79 = .ok (.invokevirtual 36, 3) := dk_182 0 36 (dk_at dksX6_next_3 10 rfl rfl)
theorem dX6_next_82 : decode cX6_next 82 = .ok (.istore_n 1, 1) := dk_60 (dk_at dksX6_next_3 13 rfl rfl)
theorem dX6_next_83 : decode cX6_next 83 = .ok (.iload_n 1, 1) := dk_27 (dk_at dksX6_next_3 14 rfl rfl)
theorem dX6_next_84 : decode cX6_next 84 = .ok (.ifCond .ge 11, 3) := dk_156 0 11 (dk_at dksX6_next_3 15 rfl rfl)
theorem dX6_next_87 : decode cX6_next 87 = .ok (.aload_n 0, 1) := dk_42 (dk_at dksX6_next_3 18 rfl rfl)
theorem dX6_next_88 : decode cX6_next 88 = .ok (.iconst 0, 1) := dk_3 (dk_at dksX6_next_3 19 rfl rfl)
theorem dX6_next_89 : decode cX6_next 89 = .ok (.putfield 43, 3) := dk_181 0 43 (dk_at dksX6_next_3 20 rfl rfl)
theorem dX6_next_92 : decode cX6_next 92 = .ok (.goto 84, 3) := dk_167 0 84 (dk_at dksX6_next_4 0 rfl rfl)
theorem dX6_next_95 : decode cX6_next 95 = .ok (.aload_n 0, 1) := dk_42 (dk_at dksX6_next_4 3 rfl rfl)
theorem dX6_next_96 : decode cX6_next 96 = .ok (.iload_n 1, 1) := dk_27 (dk_at dksX6_next_4 4 rfl rfl)
theorem dX6_next_97 : decode cX6_next 97 = .ok (.invokevirtual 46, 3) := dk_182 0 46 (dk_at dksX6_next_4 5 rfl rfl)
theorem dX6_next_100 : decode cX6_next 100 = .ok (.ifCond .ne 11, 3) := dk_154 0 11 (dk_at dksX6_next_4 8 rfl rfl)
theorem dX6_next_103 : decode cX6_next 103 = .ok (.aload_n 0, 1) := dk_42 (dk_at dksX6_next_4 11 rfl rfl)
theorem dX6_next_104 : decode cX6_next 104 = .ok (.iload_n 1, 1) := dk_27 (dk_at dksX6_next_4 12 rfl rfl)
theorem dX6_next_105 : decode cX6_next 105 = .ok (.invokevirtual 50, 3) := dk_182 0 50 (dk_at dksX6_next_4 13 rfl rfl)
theorem dX6_next_108 : decode cX6_next 108 = .ok (.ifCond .eq 15, 3) := dk_153 0 15 (dk_at dksX6_next_4 16 rfl rfl)
theorem dX6_next_111 : decode cX6_next 111 = .ok (.aload_n 0, 1) := dk_42 (dk_at dksX6_next_4 19 rfl rfl)
theorem dX6_next_112 : decode cX6_next 112 = .ok (.aload_n 0, 1) := dk_42 (dk_at dksX6_next_4 20 rfl rfl)
theorem dX6_next_113 : decode cX6_next 113 = .ok (.iload_n 1, 1) := dk_27 (dk_at dksX6_next_4 21 rfl rfl)
theorem dX6_next_114 : decode cX6_next 114 = .ok (.invokevirtual 46, 3) := dk_182 0 46 (dk_at dksX6_next_5 0 rfl rfl)
theorem dX6_next_117 : decode cX6_next 117 = .ok (.invokevirtual 53, 3) := dk_182 0 53 (dk_at dksX6_next_5 3 rfl rfl)
theorem dX6_next_120 : decode cX6_next 120 = .ok (.goto 56, 3) := dk_167 0 56 (dk_at dksX6_next_5 6 rfl rfl)
theorem dX6_next_123 : decode cX6_next 123 = .ok (.aload_n 0, 1) := dk_42 (dk_at dksX6_next_5 9 rfl rfl)
theorem dX6_next_124 : decode cX6_next 124 = .ok (.iload_n 1, 1) := dk_27 (dk_at dksX6_next_5 10 rfl rfl)
theorem dX6_next_125 : decode cX6_next 125 = .ok (.bipush 59, 2) := dk_16 59 (dk_at dksX6_next_5 11 rfl rfl)
theorem dX6_next_127 : decode cX6_next 127 = .ok (.if_icmp .eq 26, 3) := dk_159 0 26 (dk_at dksX6_next_5 13 rfl rfl)
theorem dX6_next_130 : decode cX6_next 130 = .ok (.iload_n 1, 1) := dk_27 (dk_at dksX6_next_5 16 rfl rfl)
theorem dX6_next_131 : decode cX6_next 131 = .ok (.bipush 40, 2) := dk_16 40 (dk_at dksX6_next_5 17 rfl rfl)
theorem dX6_next_133 : decode cX6_next 133 = .ok (.if_icmp .eq 20, 3) := dk_159 0 20 (dk_at dksX6_next_5 19 rfl rfl)
theorem dX6_next_136 : decode cX6_next 136 = .ok (.iload_n 1, 1) := dk_27 (dk_at dksX6_next_5 22 rfl rfl)
theorem dX6_next_137 : decode cX6_next 137 = .ok (.bipush 41, 2) := dk_16 41 (dk_at dksX6_next_6 0 rfl rfl)
theorem dX6_next_139 : decode cX6_next 139 = .ok (.if_icmp .eq 14, 3) := dk_159 0 14 (dk_at dksX6_next_6 2 rfl rfl)
theorem dX6_next_142 : decode cX6_next 142 = .ok (.iload_n 1, 1) := dk_27 (dk_at dksX6_next_6 5 rfl rfl)
theorem dX6_next_143 : decode cX6_next 143 = .ok (.bipush 60, 2) := dk_16 60 (dk_at dksX6_next_6 6 rfl rfl)
theorem dX6_next_145 : decode cX6_next 145 = .ok (.bipush 62, 2) := dk_16 62 (dk_at dksX6_next_6 8 rfl rfl)
theorem dX6_next_147 : decode cX6_next 147 = .ok (.invokestatic 32, 3) := dk_184 0 32 (dk_at dksX6_next_6 10 rfl rfl)
theorem dX6_next_150 : decode cX6_next 150 = .ok (.ifCond .eq 7, 3) := dk_153 0 7 (dk_at dksX6_next_6 13 rfl rfl)
theorem dX6_next_153 : decode cX6_next 153 = .ok (.iconst 3, 1) := dk_6 (dk_at dksX6_next_6 16 rfl rfl)
theorem dX6_next_154 : decode cX6_next 154 = .ok (.goto 4, 3) := dk_167 0 4 (dk_at dksX6_next_6 17 rfl rfl)
theorem dX6_next_157 : decode cX6_next 157 = .ok (.iconst 4, 1) := dk_7 (dk_at dksX6_next_6 20 rfl rfl)
theorem dX6_next_158 : decode cX6_next 158 = .ok (.putfield 43, 3) := dk_181 0 43 (dk_at dksX6_next_6 21 rfl rfl)
theorem dX6_next_161 : decode cX6_next 161 = .ok (.aload_n 0, 1) := dk_42 (dk_at dksX6_next_7 0 rfl rfl)
theorem dX6_next_162 : decode cX6_next 162 = .ok (.iload_n 1, 1) := dk_27 (dk_at dksX6_next_7 1 rfl rfl)
theorem dX6_next_163 : decode cX6_next 163 = .ok (.putfield 57, 3) := dk_181 0 57 (dk_at dksX6_next_7 2 rfl rfl)
theorem dX6_next_166 : decode cX6_next 166 = .ok (.aload_n 0, 1) := dk_42 (dk_at dksX6_next_7 5 rfl rfl)
theorem dX6_next_167 : decode cX6_next 167 = .ok (.dup, 1) := dk_89 (dk_at dksX6_next_7 6 rfl rfl)
theorem dX6_next_168 : decode cX6_next 168 = .ok (.getfield 19, 3) := dk_180 0 19 (dk_at dksX6_next_7 7 rfl rfl)
theorem dX6_next_171 : decode cX6_next 171 = .ok (.iconst 1, 1) := dk_4 (dk_at dksX6_next_7 10 rfl rfl)
theorem dX6_next_172 : decode cX6_next 172 = .ok (.iadd, 1) := dk_96 (dk_at dksX6_next_7 11 rfl rfl)
theorem dX6_next_173 : decode cX6_next 173 = .ok (.putfield 19, 3) := dk_181 0 19 (dk_at dksX6_next_7 12 rfl rfl)
theorem dX6_next_176 : decode cX6_next 176 = .ok (.return_, 1) := dk_177 (dk_at dksX6_next_7 15 rfl rfl)
abbrev cX6_peek : ByteArray := prog_16_method_3_code
def yX6_peek : MethodName := ⟨RX6, "peek", "()I"⟩
def dkwX6_peek_1 : List UInt8 := [180, 0, 19, 51, 17, 0, 255, 126, 167, 0, 4, 2, 172]
abbrev dktX6_peek_1 : List UInt8 := dkwX6_peek_1 ++ []
def dkwX6_peek_0 : List UInt8 := [42, 180, 0, 19, 42, 180, 0, 3, 180, 0, 25, 162, 0, 22, 42, 180, 0, 3, 180, 0, 28, 42]
abbrev dktX6_peek_0 : List UInt8 := dkwX6_peek_0 ++ dktX6_peek_1
theorem dksX6_peek_0 : cX6_peek.data.toList.drop 0 = dktX6_peek_0 := by decide +kernel
theorem dksX6_peek_1 : cX6_peek.data.toList.drop 22 = dktX6_peek_1 := dk_seg dksX6_peek_0 22 rfl rfl
theorem dX6_peek_0 : decode cX6_peek 0 = .ok (.aload_n 0, 1) := dk_42 (dk_at dksX6_peek_0 0 rfl rfl)
theorem dX6_peek_1 : decode cX6_peek 1 = .ok (.getfield 19, 3) := dk_180 0 19 (dk_at dksX6_peek_0 1 rfl rfl)
theorem dX6_peek_4 : decode cX6_peek 4 = .ok (.aload_n 0, 1) := dk_42 (dk_at dksX6_peek_0 4 rfl rfl)
theorem dX6_peek_5 : decode cX6_peek 5 = .ok (.getfield 3, 3) := dk_180 0 3 (dk_at dksX6_peek_0 5 rfl rfl)
theorem dX6_peek_8 : decode cX6_peek 8 = .ok (.getfield 25, 3) := dk_180 0 25 (dk_at dksX6_peek_0 8 rfl rfl)
theorem dX6_peek_11 : decode cX6_peek 11 = .ok (.if_icmp .ge 22, 3) := dk_162 0 22 (dk_at dksX6_peek_0 11 rfl rfl)
theorem dX6_peek_14 : decode cX6_peek 14 = .ok (.aload_n 0, 1) := dk_42 (dk_at dksX6_peek_0 14 rfl rfl)
theorem dX6_peek_15 : decode cX6_peek 15 = .ok (.getfield 3, 3) := dk_180 0 3 (dk_at dksX6_peek_0 15 rfl rfl)
theorem dX6_peek_18 : decode cX6_peek 18 = .ok (.getfield 28, 3) := dk_180 0 28 (dk_at dksX6_peek_0 18 rfl rfl)
theorem dX6_peek_21 : decode cX6_peek 21 = .ok (.aload_n 0, 1) := dk_42 (dk_at dksX6_peek_0 21 rfl rfl)
theorem dX6_peek_22 : decode cX6_peek 22 = .ok (.getfield 19, 3) := dk_180 0 19 (dk_at dksX6_peek_1 0 rfl rfl)
theorem dX6_peek_25 : decode cX6_peek 25 = .ok (.baload, 1) := dk_51 (dk_at dksX6_peek_1 3 rfl rfl)
theorem dX6_peek_26 : decode cX6_peek 26 = .ok (.sipush 255, 3) := dk_17 0 255 (dk_at dksX6_peek_1 4 rfl rfl)
theorem dX6_peek_29 : decode cX6_peek 29 = .ok (.iand, 1) := dk_126 (dk_at dksX6_peek_1 7 rfl rfl)
theorem dX6_peek_30 : decode cX6_peek 30 = .ok (.goto 4, 3) := dk_167 0 4 (dk_at dksX6_peek_1 8 rfl rfl)
theorem dX6_peek_33 : decode cX6_peek 33 = .ok (.iconst (-1), 1) := dk_2 (dk_at dksX6_peek_1 11 rfl rfl)
theorem dX6_peek_34 : decode cX6_peek 34 = .ok (.ireturn, 1) := dk_172 (dk_at dksX6_peek_1 12 rfl rfl)
abbrev cX6_isLetter : ByteArray := prog_16_method_4_code
def yX6_isLetter : MethodName := ⟨RX6, "isLette\x72", "(I)Z"⟩
def dkwX6_isLetter_0 : List UInt8 := [27, 16, 97, 16, 122, 184, 0, 32, 172]
abbrev dktX6_isLetter_0 : List UInt8 := dkwX6_isLetter_0 ++ []
theorem dksX6_isLetter_0 : cX6_isLetter.data.toList.drop 0 = dktX6_isLetter_0 := by decide +kernel
theorem dX6_isLetter_0 : decode cX6_isLetter 0 = .ok (.iload_n 1, 1) := dk_27 (dk_at dksX6_isLetter_0 0 rfl rfl)
theorem dX6_isLetter_1 : decode cX6_isLetter 1 = .ok (.bipush 97, 2) := dk_16 97 (dk_at dksX6_isLetter_0 1 rfl rfl)
theorem dX6_isLetter_3 : decode cX6_isLetter 3 = .ok (.bipush 122, 2) := dk_16 122 (dk_at dksX6_isLetter_0 3 rfl rfl)
theorem dX6_isLetter_5 : decode cX6_isLetter 5 = .ok (.invokestatic 32, 3) := dk_184 0 32 (dk_at dksX6_isLetter_0 5 rfl rfl)
theorem dX6_isLetter_8 : decode cX6_isLetter 8 = .ok (.ireturn, 1) := dk_172 (dk_at dksX6_isLetter_0 8 rfl rfl)
abbrev cX6_isDigit : ByteArray := prog_16_method_5_code
def yX6_isDigit : MethodName := ⟨RX6, "isDigit", "(I)Z"⟩
def dkwX6_isDigit_0 : List UInt8 := [27, 16, 48, 16, 57, 184, 0, 32, 172]
abbrev dktX6_isDigit_0 : List UInt8 := dkwX6_isDigit_0 ++ []
theorem dksX6_isDigit_0 : cX6_isDigit.data.toList.drop 0 = dktX6_isDigit_0 := by decide +kernel
theorem dX6_isDigit_0 : decode cX6_isDigit 0 = .ok (.iload_n 1, 1) := dk_27 (dk_at dksX6_isDigit_0 0 rfl rfl)
theorem dX6_isDigit_1 : decode cX6_isDigit 1 = .ok (.bipush 48, 2) := dk_16 48 (dk_at dksX6_isDigit_0 1 rfl rfl)
theorem dX6_isDigit_3 : decode cX6_isDigit 3 = .ok (.bipush 57, 2) := dk_16 57 (dk_at dksX6_isDigit_0 3 rfl rfl)
theorem dX6_isDigit_5 : decode cX6_isDigit 5 = .ok (.invokestatic 32, 3) := dk_184 0 32 (dk_at dksX6_isDigit_0 5 rfl rfl)
theorem dX6_isDigit_8 : decode cX6_isDigit 8 = .ok (.ireturn, 1) := dk_172 (dk_at dksX6_isDigit_0 8 rfl rfl)
abbrev cX6_reads : ByteArray := prog_16_method_7_code
def yX6_reads : MethodName := ⟨RX6, "reads", "(Z)V"⟩
def dkwX6_reads_7 : List UInt8 := [164, 0, 7, 7, 167, 0, 12, 27, 153, 0, 7, 4, 167, 0, 4, 5, 181, 0, 43, 177]
abbrev dktX6_reads_7 : List UInt8 := dkwX6_reads_7 ++ []
def dkwX6_reads_6 : List UInt8 := [181, 0, 64, 42, 28, 153, 0, 20, 42, 180, 0, 64, 27, 153, 0, 8, 16, 7, 167, 0, 4, 6]
abbrev dktX6_reads_6 : List UInt8 := dkwX6_reads_6 ++ dktX6_reads_7
def dkwX6_reads_5 : List UInt8 := [42, 89, 180, 0, 19, 4, 96, 181, 0, 19, 167, 255, 139, 42, 42, 180, 0, 19, 42, 180, 0, 40, 100]
abbrev dktX6_reads_5 : List UInt8 := dkwX6_reads_5 ++ dktX6_reads_6
def dkwX6_reads_4 : List UInt8 := [100, 6, 162, 0, 22, 42, 16, 10, 42, 180, 0, 57, 104, 42, 182, 0, 36, 96, 16, 48, 100, 181, 0, 57]
abbrev dktX6_reads_4 : List UInt8 := dkwX6_reads_4 ++ dktX6_reads_5
def dkwX6_reads_3 : List UInt8 := [42, 180, 0, 60, 16, 8, 121, 42, 182, 0, 36, 133, 129, 181, 0, 60, 42, 180, 0, 19, 42, 180, 0, 40]
abbrev dktX6_reads_3 : List UInt8 := dkwX6_reads_3 ++ dktX6_reads_4
def dkwX6_reads_2 : List UInt8 := [160, 0, 7, 4, 167, 0, 4, 3, 61, 42, 180, 0, 19, 42, 180, 0, 40, 100, 16, 7, 162, 0, 20, 42]
abbrev dktX6_reads_2 : List UInt8 := dkwX6_reads_2 ++ dktX6_reads_3
def dkwX6_reads_1 : List UInt8 := [42, 182, 0, 36, 182, 0, 50, 153, 0, 101, 28, 153, 0, 19, 42, 42, 182, 0, 36, 182, 0, 46, 27]
abbrev dktX6_reads_1 : List UInt8 := dkwX6_reads_1 ++ dktX6_reads_2
def dkwX6_reads_0 : List UInt8 := [4, 61, 42, 3, 181, 0, 57, 42, 9, 181, 0, 60, 42, 42, 182, 0, 36, 182, 0, 46, 154, 0, 14, 42]
abbrev dktX6_reads_0 : List UInt8 := dkwX6_reads_0 ++ dktX6_reads_1
theorem dksX6_reads_0 : cX6_reads.data.toList.drop 0 = dktX6_reads_0 := by decide +kernel
theorem dksX6_reads_1 : cX6_reads.data.toList.drop 24 = dktX6_reads_1 := dk_seg dksX6_reads_0 24 rfl rfl
theorem dksX6_reads_2 : cX6_reads.data.toList.drop 47 = dktX6_reads_2 := dk_seg dksX6_reads_1 23 rfl rfl
theorem dksX6_reads_3 : cX6_reads.data.toList.drop 71 = dktX6_reads_3 := dk_seg dksX6_reads_2 24 rfl rfl
theorem dksX6_reads_4 : cX6_reads.data.toList.drop 95 = dktX6_reads_4 := dk_seg dksX6_reads_3 24 rfl rfl
theorem dksX6_reads_5 : cX6_reads.data.toList.drop 119 = dktX6_reads_5 := dk_seg dksX6_reads_4 24 rfl rfl
theorem dksX6_reads_6 : cX6_reads.data.toList.drop 142 = dktX6_reads_6 := dk_seg dksX6_reads_5 23 rfl rfl
theorem dksX6_reads_7 : cX6_reads.data.toList.drop 164 = dktX6_reads_7 := dk_seg dksX6_reads_6 22 rfl rfl
theorem dX6_reads_0 : decode cX6_reads 0 = .ok (.iconst 1, 1) := dk_4 (dk_at dksX6_reads_0 0 rfl rfl)
theorem dX6_reads_1 : decode cX6_reads 1 = .ok (.istore_n 2, 1) := dk_61 (dk_at dksX6_reads_0 1 rfl rfl)
theorem dX6_reads_2 : decode cX6_reads 2 = .ok (.aload_n 0, 1) := dk_42 (dk_at dksX6_reads_0 2 rfl rfl)
theorem dX6_reads_3 : decode cX6_reads 3 = .ok (.iconst 0, 1) := dk_3 (dk_at dksX6_reads_0 3 rfl rfl)
theorem dX6_reads_4 : decode cX6_reads 4 = .ok (.putfield 57, 3) := dk_181 0 57 (dk_at dksX6_reads_0 4 rfl rfl)
theorem dX6_reads_7 : decode cX6_reads 7 = .ok (.aload_n 0, 1) := dk_42 (dk_at dksX6_reads_0 7 rfl rfl)
theorem dX6_reads_8 : decode cX6_reads 8 = .ok (.lconst 0, 1) := dk_9 (dk_at dksX6_reads_0 8 rfl rfl)
theorem dX6_reads_9 : decode cX6_reads 9 = .ok (.putfield 60, 3) := dk_181 0 60 (dk_at dksX6_reads_0 9 rfl rfl)
theorem dX6_reads_12 : decode cX6_reads 12 = .ok (.aload_n 0, 1) := dk_42 (dk_at dksX6_reads_0 12 rfl rfl)
theorem dX6_reads_13 : decode cX6_reads 13 = .ok (.aload_n 0, 1) := dk_42 (dk_at dksX6_reads_0 13 rfl rfl)
theorem dX6_reads_14 : decode cX6_reads 14 = .ok (.invokevirtual 36, 3) := dk_182 0 36 (dk_at dksX6_reads_0 14 rfl rfl)
theorem dX6_reads_17 : decode cX6_reads 17 = .ok (.invokevirtual 46, 3) := dk_182 0 46 (dk_at dksX6_reads_0 17 rfl rfl)
theorem dX6_reads_20 : decode cX6_reads 20 = .ok (.ifCond .ne 14, 3) := dk_154 0 14 (dk_at dksX6_reads_0 20 rfl rfl)
theorem dX6_reads_23 : decode cX6_reads 23 = .ok (.aload_n 0, 1) := dk_42 (dk_at dksX6_reads_0 23 rfl rfl)
theorem dX6_reads_24 : decode cX6_reads 24 = .ok (.aload_n 0, 1) := dk_42 (dk_at dksX6_reads_1 0 rfl rfl)
theorem dX6_reads_25 : decode cX6_reads 25 = .ok (.invokevirtual 36, 3) := dk_182 0 36 (dk_at dksX6_reads_1 1 rfl rfl)
theorem dX6_reads_28 : decode cX6_reads 28 = .ok (.invokevirtual 50, 3) := dk_182 0 50 (dk_at dksX6_reads_1 4 rfl rfl)
theorem dX6_reads_31 : decode cX6_reads 31 = .ok (.ifCond .eq 101, 3) := dk_153 0 101 (dk_at dksX6_reads_1 7 rfl rfl)
theorem dX6_reads_34 : decode cX6_reads 34 = .ok (.iload_n 2, 1) := dk_28 (dk_at dksX6_reads_1 10 rfl rfl)
theorem dX6_reads_35 : decode cX6_reads 35 = .ok (.ifCond .eq 19, 3) := dk_153 0 19 (dk_at dksX6_reads_1 11 rfl rfl)
theorem dX6_reads_38 : decode cX6_reads 38 = .ok (.aload_n 0, 1) := dk_42 (dk_at dksX6_reads_1 14 rfl rfl)
theorem dX6_reads_39 : decode cX6_reads 39 = .ok (.aload_n 0, 1) := dk_42 (dk_at dksX6_reads_1 15 rfl rfl)
theorem dX6_reads_40 : decode cX6_reads 40 = .ok (.invokevirtual 36, 3) := dk_182 0 36 (dk_at dksX6_reads_1 16 rfl rfl)
theorem dX6_reads_43 : decode cX6_reads 43 = .ok (.invokevirtual 46, 3) := dk_182 0 46 (dk_at dksX6_reads_1 19 rfl rfl)
theorem dX6_reads_46 : decode cX6_reads 46 = .ok (.iload_n 1, 1) := dk_27 (dk_at dksX6_reads_1 22 rfl rfl)
theorem dX6_reads_47 : decode cX6_reads 47 = .ok (.if_icmp .ne 7, 3) := dk_160 0 7 (dk_at dksX6_reads_2 0 rfl rfl)
theorem dX6_reads_50 : decode cX6_reads 50 = .ok (.iconst 1, 1) := dk_4 (dk_at dksX6_reads_2 3 rfl rfl)
theorem dX6_reads_51 : decode cX6_reads 51 = .ok (.goto 4, 3) := dk_167 0 4 (dk_at dksX6_reads_2 4 rfl rfl)
theorem dX6_reads_54 : decode cX6_reads 54 = .ok (.iconst 0, 1) := dk_3 (dk_at dksX6_reads_2 7 rfl rfl)
theorem dX6_reads_55 : decode cX6_reads 55 = .ok (.istore_n 2, 1) := dk_61 (dk_at dksX6_reads_2 8 rfl rfl)
theorem dX6_reads_56 : decode cX6_reads 56 = .ok (.aload_n 0, 1) := dk_42 (dk_at dksX6_reads_2 9 rfl rfl)
theorem dX6_reads_57 : decode cX6_reads 57 = .ok (.getfield 19, 3) := dk_180 0 19 (dk_at dksX6_reads_2 10 rfl rfl)
theorem dX6_reads_60 : decode cX6_reads 60 = .ok (.aload_n 0, 1) := dk_42 (dk_at dksX6_reads_2 13 rfl rfl)
theorem dX6_reads_61 : decode cX6_reads 61 = .ok (.getfield 40, 3) := dk_180 0 40 (dk_at dksX6_reads_2 14 rfl rfl)
theorem dX6_reads_64 : decode cX6_reads 64 = .ok (.isub, 1) := dk_100 (dk_at dksX6_reads_2 17 rfl rfl)
theorem dX6_reads_65 : decode cX6_reads 65 = .ok (.bipush 7, 2) := dk_16 7 (dk_at dksX6_reads_2 18 rfl rfl)
theorem dX6_reads_67 : decode cX6_reads 67 = .ok (.if_icmp .ge 20, 3) := dk_162 0 20 (dk_at dksX6_reads_2 20 rfl rfl)
theorem dX6_reads_70 : decode cX6_reads 70 = .ok (.aload_n 0, 1) := dk_42 (dk_at dksX6_reads_2 23 rfl rfl)
theorem dX6_reads_71 : decode cX6_reads 71 = .ok (.aload_n 0, 1) := dk_42 (dk_at dksX6_reads_3 0 rfl rfl)
theorem dX6_reads_72 : decode cX6_reads 72 = .ok (.getfield 60, 3) := dk_180 0 60 (dk_at dksX6_reads_3 1 rfl rfl)
theorem dX6_reads_75 : decode cX6_reads 75 = .ok (.bipush 8, 2) := dk_16 8 (dk_at dksX6_reads_3 4 rfl rfl)
theorem dX6_reads_77 : decode cX6_reads 77 = .ok (.lshl, 1) := dk_121 (dk_at dksX6_reads_3 6 rfl rfl)
theorem dX6_reads_78 : decode cX6_reads 78 = .ok (.aload_n 0, 1) := dk_42 (dk_at dksX6_reads_3 7 rfl rfl)
theorem dX6_reads_79 : decode cX6_reads 79 = .ok (.invokevirtual 36, 3) := dk_182 0 36 (dk_at dksX6_reads_3 8 rfl rfl)
theorem dX6_reads_82 : decode cX6_reads 82 = .ok (.i2l, 1) := dk_133 (dk_at dksX6_reads_3 11 rfl rfl)
theorem dX6_reads_83 : decode cX6_reads 83 = .ok (.lor, 1) := dk_129 (dk_at dksX6_reads_3 12 rfl rfl)
theorem dX6_reads_84 : decode cX6_reads 84 = .ok (.putfield 60, 3) := dk_181 0 60 (dk_at dksX6_reads_3 13 rfl rfl)
theorem dX6_reads_87 : decode cX6_reads 87 = .ok (.aload_n 0, 1) := dk_42 (dk_at dksX6_reads_3 16 rfl rfl)
theorem dX6_reads_88 : decode cX6_reads 88 = .ok (.getfield 19, 3) := dk_180 0 19 (dk_at dksX6_reads_3 17 rfl rfl)
theorem dX6_reads_91 : decode cX6_reads 91 = .ok (.aload_n 0, 1) := dk_42 (dk_at dksX6_reads_3 20 rfl rfl)
theorem dX6_reads_92 : decode cX6_reads 92 = .ok (.getfield 40, 3) := dk_180 0 40 (dk_at dksX6_reads_3 21 rfl rfl)
theorem dX6_reads_95 : decode cX6_reads 95 = .ok (.isub, 1) := dk_100 (dk_at dksX6_reads_4 0 rfl rfl)
theorem dX6_reads_96 : decode cX6_reads 96 = .ok (.iconst 3, 1) := dk_6 (dk_at dksX6_reads_4 1 rfl rfl)
theorem dX6_reads_97 : decode cX6_reads 97 = .ok (.if_icmp .ge 22, 3) := dk_162 0 22 (dk_at dksX6_reads_4 2 rfl rfl)
theorem dX6_reads_100 : decode cX6_reads 100 = .ok (.aload_n 0, 1) := dk_42 (dk_at dksX6_reads_4 5 rfl rfl)
theorem dX6_reads_101 : decode cX6_reads 101 = .ok (.bipush 10, 2) := dk_16 10 (dk_at dksX6_reads_4 6 rfl rfl)
theorem dX6_reads_103 : decode cX6_reads 103 = .ok (.aload_n 0, 1) := dk_42 (dk_at dksX6_reads_4 8 rfl rfl)
theorem dX6_reads_104 : decode cX6_reads 104 = .ok (.getfield 57, 3) := dk_180 0 57 (dk_at dksX6_reads_4 9 rfl rfl)
theorem dX6_reads_107 : decode cX6_reads 107 = .ok (.imul, 1) := dk_104 (dk_at dksX6_reads_4 12 rfl rfl)
theorem dX6_reads_108 : decode cX6_reads 108 = .ok (.aload_n 0, 1) := dk_42 (dk_at dksX6_reads_4 13 rfl rfl)
theorem dX6_reads_109 : decode cX6_reads 109 = .ok (.invokevirtual 36, 3) := dk_182 0 36 (dk_at dksX6_reads_4 14 rfl rfl)
theorem dX6_reads_112 : decode cX6_reads 112 = .ok (.iadd, 1) := dk_96 (dk_at dksX6_reads_4 17 rfl rfl)
theorem dX6_reads_113 : decode cX6_reads 113 = .ok (.bipush 48, 2) := dk_16 48 (dk_at dksX6_reads_4 18 rfl rfl)
theorem dX6_reads_115 : decode cX6_reads 115 = .ok (.isub, 1) := dk_100 (dk_at dksX6_reads_4 20 rfl rfl)
theorem dX6_reads_116 : decode cX6_reads 116 = .ok (.putfield 57, 3) := dk_181 0 57 (dk_at dksX6_reads_4 21 rfl rfl)
theorem dX6_reads_119 : decode cX6_reads 119 = .ok (.aload_n 0, 1) := dk_42 (dk_at dksX6_reads_5 0 rfl rfl)
theorem dX6_reads_120 : decode cX6_reads 120 = .ok (.dup, 1) := dk_89 (dk_at dksX6_reads_5 1 rfl rfl)
theorem dX6_reads_121 : decode cX6_reads 121 = .ok (.getfield 19, 3) := dk_180 0 19 (dk_at dksX6_reads_5 2 rfl rfl)
theorem dX6_reads_124 : decode cX6_reads 124 = .ok (.iconst 1, 1) := dk_4 (dk_at dksX6_reads_5 5 rfl rfl)
theorem dX6_reads_125 : decode cX6_reads 125 = .ok (.iadd, 1) := dk_96 (dk_at dksX6_reads_5 6 rfl rfl)
theorem dX6_reads_126 : decode cX6_reads 126 = .ok (.putfield 19, 3) := dk_181 0 19 (dk_at dksX6_reads_5 7 rfl rfl)
theorem dX6_reads_129 : decode cX6_reads 129 = .ok (.goto (-117), 3) := dk_167 255 139 (dk_at dksX6_reads_5 10 rfl rfl)
theorem dX6_reads_132 : decode cX6_reads 132 = .ok (.aload_n 0, 1) := dk_42 (dk_at dksX6_reads_5 13 rfl rfl)
theorem dX6_reads_133 : decode cX6_reads 133 = .ok (.aload_n 0, 1) := dk_42 (dk_at dksX6_reads_5 14 rfl rfl)
theorem dX6_reads_134 : decode cX6_reads 134 = .ok (.getfield 19, 3) := dk_180 0 19 (dk_at dksX6_reads_5 15 rfl rfl)
theorem dX6_reads_137 : decode cX6_reads 137 = .ok (.aload_n 0, 1) := dk_42 (dk_at dksX6_reads_5 18 rfl rfl)
theorem dX6_reads_138 : decode cX6_reads 138 = .ok (.getfield 40, 3) := dk_180 0 40 (dk_at dksX6_reads_5 19 rfl rfl)
theorem dX6_reads_141 : decode cX6_reads 141 = .ok (.isub, 1) := dk_100 (dk_at dksX6_reads_5 22 rfl rfl)
theorem dX6_reads_142 : decode cX6_reads 142 = .ok (.putfield 64, 3) := dk_181 0 64 (dk_at dksX6_reads_6 0 rfl rfl)
theorem dX6_reads_145 : decode cX6_reads 145 = .ok (.aload_n 0, 1) := dk_42 (dk_at dksX6_reads_6 3 rfl rfl)
theorem dX6_reads_146 : decode cX6_reads 146 = .ok (.iload_n 2, 1) := dk_28 (dk_at dksX6_reads_6 4 rfl rfl)
theorem dX6_reads_147 : decode cX6_reads 147 = .ok (.ifCond .eq 20, 3) := dk_153 0 20 (dk_at dksX6_reads_6 5 rfl rfl)
theorem dX6_reads_150 : decode cX6_reads 150 = .ok (.aload_n 0, 1) := dk_42 (dk_at dksX6_reads_6 8 rfl rfl)
theorem dX6_reads_151 : decode cX6_reads 151 = .ok (.getfield 64, 3) := dk_180 0 64 (dk_at dksX6_reads_6 9 rfl rfl)
theorem dX6_reads_154 : decode cX6_reads 154 = .ok (.iload_n 1, 1) := dk_27 (dk_at dksX6_reads_6 12 rfl rfl)
theorem dX6_reads_155 : decode cX6_reads 155 = .ok (.ifCond .eq 8, 3) := dk_153 0 8 (dk_at dksX6_reads_6 13 rfl rfl)
theorem dX6_reads_158 : decode cX6_reads 158 = .ok (.bipush 7, 2) := dk_16 7 (dk_at dksX6_reads_6 16 rfl rfl)
theorem dX6_reads_160 : decode cX6_reads 160 = .ok (.goto 4, 3) := dk_167 0 4 (dk_at dksX6_reads_6 18 rfl rfl)
theorem dX6_reads_163 : decode cX6_reads 163 = .ok (.iconst 3, 1) := dk_6 (dk_at dksX6_reads_6 21 rfl rfl)
theorem dX6_reads_164 : decode cX6_reads 164 = .ok (.if_icmp .le 7, 3) := dk_164 0 7 (dk_at dksX6_reads_7 0 rfl rfl)
theorem dX6_reads_167 : decode cX6_reads 167 = .ok (.iconst 4, 1) := dk_7 (dk_at dksX6_reads_7 3 rfl rfl)
theorem dX6_reads_168 : decode cX6_reads 168 = .ok (.goto 12, 3) := dk_167 0 12 (dk_at dksX6_reads_7 4 rfl rfl)
theorem dX6_reads_171 : decode cX6_reads 171 = .ok (.iload_n 1, 1) := dk_27 (dk_at dksX6_reads_7 7 rfl rfl)
theorem dX6_reads_172 : decode cX6_reads 172 = .ok (.ifCond .eq 7, 3) := dk_153 0 7 (dk_at dksX6_reads_7 8 rfl rfl)
theorem dX6_reads_175 : decode cX6_reads 175 = .ok (.iconst 1, 1) := dk_4 (dk_at dksX6_reads_7 11 rfl rfl)
theorem dX6_reads_176 : decode cX6_reads 176 = .ok (.goto 4, 3) := dk_167 0 4 (dk_at dksX6_reads_7 12 rfl rfl)
theorem dX6_reads_179 : decode cX6_reads 179 = .ok (.iconst 2, 1) := dk_5 (dk_at dksX6_reads_7 15 rfl rfl)
theorem dX6_reads_180 : decode cX6_reads 180 = .ok (.putfield 43, 3) := dk_181 0 43 (dk_at dksX6_reads_7 16 rfl rfl)
theorem dX6_reads_183 : decode cX6_reads 183 = .ok (.return_, 1) := dk_177 (dk_at dksX6_reads_7 19 rfl rfl)
abbrev cX6_find : ByteArray := prog_16_method_10_code
def yX6_find : MethodName := ⟨RX6, "find", "([Ljava/lang/String;)I"⟩
def dkwX6_find_1 : List UInt8 := [167, 255, 235, 2, 172]
abbrev dktX6_find_1 : List UInt8 := dkwX6_find_1 ++ []
def dkwX6_find_0 : List UInt8 := [3, 61, 28, 43, 190, 162, 0, 21, 42, 43, 28, 50, 182, 0, 76, 153, 0, 5, 28, 172, 132, 2, 1]
abbrev dktX6_find_0 : List UInt8 := dkwX6_find_0 ++ dktX6_find_1
theorem dksX6_find_0 : cX6_find.data.toList.drop 0 = dktX6_find_0 := by decide +kernel
theorem dksX6_find_1 : cX6_find.data.toList.drop 23 = dktX6_find_1 := dk_seg dksX6_find_0 23 rfl rfl
theorem dX6_find_0 : decode cX6_find 0 = .ok (.iconst 0, 1) := dk_3 (dk_at dksX6_find_0 0 rfl rfl)
theorem dX6_find_1 : decode cX6_find 1 = .ok (.istore_n 2, 1) := dk_61 (dk_at dksX6_find_0 1 rfl rfl)
theorem dX6_find_2 : decode cX6_find 2 = .ok (.iload_n 2, 1) := dk_28 (dk_at dksX6_find_0 2 rfl rfl)
theorem dX6_find_3 : decode cX6_find 3 = .ok (.aload_n 1, 1) := dk_43 (dk_at dksX6_find_0 3 rfl rfl)
theorem dX6_find_4 : decode cX6_find 4 = .ok (.arraylength, 1) := dk_190 (dk_at dksX6_find_0 4 rfl rfl)
theorem dX6_find_5 : decode cX6_find 5 = .ok (.if_icmp .ge 21, 3) := dk_162 0 21 (dk_at dksX6_find_0 5 rfl rfl)
theorem dX6_find_8 : decode cX6_find 8 = .ok (.aload_n 0, 1) := dk_42 (dk_at dksX6_find_0 8 rfl rfl)
theorem dX6_find_9 : decode cX6_find 9 = .ok (.aload_n 1, 1) := dk_43 (dk_at dksX6_find_0 9 rfl rfl)
theorem dX6_find_10 : decode cX6_find 10 = .ok (.iload_n 2, 1) := dk_28 (dk_at dksX6_find_0 10 rfl rfl)
theorem dX6_find_11 : decode cX6_find 11 = .ok (.aaload, 1) := dk_50 (dk_at dksX6_find_0 11 rfl rfl)
theorem dX6_find_12 : decode cX6_find 12 = .ok (.invokevirtual 76, 3) := dk_182 0 76 (dk_at dksX6_find_0 12 rfl rfl)
theorem dX6_find_15 : decode cX6_find 15 = .ok (.ifCond .eq 5, 3) := dk_153 0 5 (dk_at dksX6_find_0 15 rfl rfl)
theorem dX6_find_18 : decode cX6_find 18 = .ok (.iload_n 2, 1) := dk_28 (dk_at dksX6_find_0 18 rfl rfl)
theorem dX6_find_19 : decode cX6_find 19 = .ok (.ireturn, 1) := dk_172 (dk_at dksX6_find_0 19 rfl rfl)
theorem dX6_find_20 : decode cX6_find 20 = .ok (.iinc 2 1, 3) := dk_132 2 1 (dk_at dksX6_find_0 20 rfl rfl)
theorem dX6_find_23 : decode cX6_find 23 = .ok (.goto (-21), 3) := dk_167 255 235 (dk_at dksX6_find_1 0 rfl rfl)
theorem dX6_find_26 : decode cX6_find 26 = .ok (.iconst (-1), 1) := dk_2 (dk_at dksX6_find_1 3 rfl rfl)
theorem dX6_find_27 : decode cX6_find 27 = .ok (.ireturn, 1) := dk_172 (dk_at dksX6_find_1 4 rfl rfl)
abbrev cX6_is : ByteArray := prog_16_method_8_code
def yX6_is : MethodName := ⟨RX6, "is", "(Ljava/lang/String;)Z"⟩
def dkwX6_is_2 : List UInt8 := [182, 0, 72, 159, 0, 5, 3, 172, 132, 2, 1, 167, 255, 221, 4, 172]
abbrev dktX6_is_2 : List UInt8 := dkwX6_is_2 ++ []
def dkwX6_is_1 : List UInt8 := [42, 180, 0, 64, 162, 0, 33, 42, 180, 0, 3, 180, 0, 28, 42, 180, 0, 40, 28, 96, 51, 43, 28]
abbrev dktX6_is_1 : List UInt8 := dkwX6_is_1 ++ dktX6_is_2
def dkwX6_is_0 : List UInt8 := [42, 180, 0, 43, 4, 160, 0, 14, 42, 180, 0, 64, 43, 182, 0, 67, 159, 0, 5, 3, 172, 3, 61, 28]
abbrev dktX6_is_0 : List UInt8 := dkwX6_is_0 ++ dktX6_is_1
theorem dksX6_is_0 : cX6_is.data.toList.drop 0 = dktX6_is_0 := by decide +kernel
theorem dksX6_is_1 : cX6_is.data.toList.drop 24 = dktX6_is_1 := dk_seg dksX6_is_0 24 rfl rfl
theorem dksX6_is_2 : cX6_is.data.toList.drop 47 = dktX6_is_2 := dk_seg dksX6_is_1 23 rfl rfl
theorem dX6_is_0 : decode cX6_is 0 = .ok (.aload_n 0, 1) := dk_42 (dk_at dksX6_is_0 0 rfl rfl)
theorem dX6_is_1 : decode cX6_is 1 = .ok (.getfield 43, 3) := dk_180 0 43 (dk_at dksX6_is_0 1 rfl rfl)
theorem dX6_is_4 : decode cX6_is 4 = .ok (.iconst 1, 1) := dk_4 (dk_at dksX6_is_0 4 rfl rfl)
theorem dX6_is_5 : decode cX6_is 5 = .ok (.if_icmp .ne 14, 3) := dk_160 0 14 (dk_at dksX6_is_0 5 rfl rfl)
theorem dX6_is_8 : decode cX6_is 8 = .ok (.aload_n 0, 1) := dk_42 (dk_at dksX6_is_0 8 rfl rfl)
theorem dX6_is_9 : decode cX6_is 9 = .ok (.getfield 64, 3) := dk_180 0 64 (dk_at dksX6_is_0 9 rfl rfl)
theorem dX6_is_12 : decode cX6_is 12 = .ok (.aload_n 1, 1) := dk_43 (dk_at dksX6_is_0 12 rfl rfl)
theorem dX6_is_13 : decode cX6_is 13 = .ok (.invokevirtual 67, 3) := dk_182 0 67 (dk_at dksX6_is_0 13 rfl rfl)
theorem dX6_is_16 : decode cX6_is 16 = .ok (.if_icmp .eq 5, 3) := dk_159 0 5 (dk_at dksX6_is_0 16 rfl rfl)
theorem dX6_is_19 : decode cX6_is 19 = .ok (.iconst 0, 1) := dk_3 (dk_at dksX6_is_0 19 rfl rfl)
theorem dX6_is_20 : decode cX6_is 20 = .ok (.ireturn, 1) := dk_172 (dk_at dksX6_is_0 20 rfl rfl)
theorem dX6_is_21 : decode cX6_is 21 = .ok (.iconst 0, 1) := dk_3 (dk_at dksX6_is_0 21 rfl rfl)
theorem dX6_is_22 : decode cX6_is 22 = .ok (.istore_n 2, 1) := dk_61 (dk_at dksX6_is_0 22 rfl rfl)
theorem dX6_is_23 : decode cX6_is 23 = .ok (.iload_n 2, 1) := dk_28 (dk_at dksX6_is_0 23 rfl rfl)
theorem dX6_is_24 : decode cX6_is 24 = .ok (.aload_n 0, 1) := dk_42 (dk_at dksX6_is_1 0 rfl rfl)
theorem dX6_is_25 : decode cX6_is 25 = .ok (.getfield 64, 3) := dk_180 0 64 (dk_at dksX6_is_1 1 rfl rfl)
theorem dX6_is_28 : decode cX6_is 28 = .ok (.if_icmp .ge 33, 3) := dk_162 0 33 (dk_at dksX6_is_1 4 rfl rfl)
theorem dX6_is_31 : decode cX6_is 31 = .ok (.aload_n 0, 1) := dk_42 (dk_at dksX6_is_1 7 rfl rfl)
theorem dX6_is_32 : decode cX6_is 32 = .ok (.getfield 3, 3) := dk_180 0 3 (dk_at dksX6_is_1 8 rfl rfl)
theorem dX6_is_35 : decode cX6_is 35 = .ok (.getfield 28, 3) := dk_180 0 28 (dk_at dksX6_is_1 11 rfl rfl)
theorem dX6_is_38 : decode cX6_is 38 = .ok (.aload_n 0, 1) := dk_42 (dk_at dksX6_is_1 14 rfl rfl)
theorem dX6_is_39 : decode cX6_is 39 = .ok (.getfield 40, 3) := dk_180 0 40 (dk_at dksX6_is_1 15 rfl rfl)
theorem dX6_is_42 : decode cX6_is 42 = .ok (.iload_n 2, 1) := dk_28 (dk_at dksX6_is_1 18 rfl rfl)
theorem dX6_is_43 : decode cX6_is 43 = .ok (.iadd, 1) := dk_96 (dk_at dksX6_is_1 19 rfl rfl)
theorem dX6_is_44 : decode cX6_is 44 = .ok (.baload, 1) := dk_51 (dk_at dksX6_is_1 20 rfl rfl)
theorem dX6_is_45 : decode cX6_is 45 = .ok (.aload_n 1, 1) := dk_43 (dk_at dksX6_is_1 21 rfl rfl)
theorem dX6_is_46 : decode cX6_is 46 = .ok (.iload_n 2, 1) := dk_28 (dk_at dksX6_is_1 22 rfl rfl)
theorem dX6_is_47 : decode cX6_is 47 = .ok (.invokevirtual 72, 3) := dk_182 0 72 (dk_at dksX6_is_2 0 rfl rfl)
theorem dX6_is_50 : decode cX6_is 50 = .ok (.if_icmp .eq 5, 3) := dk_159 0 5 (dk_at dksX6_is_2 3 rfl rfl)
theorem dX6_is_53 : decode cX6_is 53 = .ok (.iconst 0, 1) := dk_3 (dk_at dksX6_is_2 6 rfl rfl)
theorem dX6_is_54 : decode cX6_is 54 = .ok (.ireturn, 1) := dk_172 (dk_at dksX6_is_2 7 rfl rfl)
theorem dX6_is_55 : decode cX6_is 55 = .ok (.iinc 2 1, 3) := dk_132 2 1 (dk_at dksX6_is_2 8 rfl rfl)
theorem dX6_is_58 : decode cX6_is 58 = .ok (.goto (-35), 3) := dk_167 255 221 (dk_at dksX6_is_2 11 rfl rfl)
theorem dX6_is_61 : decode cX6_is 61 = .ok (.iconst 1, 1) := dk_4 (dk_at dksX6_is_2 14 rfl rfl)
theorem dX6_is_62 : decode cX6_is 62 = .ok (.ireturn, 1) := dk_172 (dk_at dksX6_is_2 15 rfl rfl)
abbrev cX6_must : ByteArray := prog_16_method_13_code
def yX6_must : MethodName := ⟨RX6, "must", "(ZI)V"⟩
def dkwX6_must_0 : List UInt8 := [27, 154, 0, 9, 42, 28, 182, 0, 103, 191, 177]
abbrev dktX6_must_0 : List UInt8 := dkwX6_must_0 ++ []
theorem dksX6_must_0 : cX6_must.data.toList.drop 0 = dktX6_must_0 := by decide +kernel
theorem dX6_must_0 : decode cX6_must 0 = .ok (.iload_n 1, 1) := dk_27 (dk_at dksX6_must_0 0 rfl rfl)
theorem dX6_must_1 : decode cX6_must 1 = .ok (.ifCond .ne 9, 3) := dk_154 0 9 (dk_at dksX6_must_0 1 rfl rfl)
theorem dX6_must_4 : decode cX6_must 4 = .ok (.aload_n 0, 1) := dk_42 (dk_at dksX6_must_0 4 rfl rfl)
theorem dX6_must_5 : decode cX6_must 5 = .ok (.iload_n 2, 1) := dk_28 (dk_at dksX6_must_0 5 rfl rfl)
theorem dX6_must_6 : decode cX6_must 6 = .ok (.invokevirtual 103, 3) := dk_182 0 103 (dk_at dksX6_must_0 6 rfl rfl)
theorem dX6_must_9 : decode cX6_must 9 = .ok (.athrow, 1) := dk_191 (dk_at dksX6_must_0 9 rfl rfl)
theorem dX6_must_10 : decode cX6_must 10 = .ok (.return_, 1) := dk_177 (dk_at dksX6_must_0 10 rfl rfl)
abbrev cX6_wrong : ByteArray := prog_16_method_12_code
def yX6_wrong : MethodName := ⟨RX6, "wrong", "(I)LBitRopes$Fault;"⟩
def dkwX6_wrong_1 : List UInt8 := [181, 0, 100, 42, 180, 0, 3, 180, 0, 91, 176]
abbrev dktX6_wrong_1 : List UInt8 := dkwX6_wrong_1 ++ []
def dkwX6_wrong_0 : List UInt8 := [42, 180, 0, 3, 180, 0, 91, 27, 181, 0, 95, 42, 180, 0, 3, 180, 0, 91, 42, 180, 0, 40]
abbrev dktX6_wrong_0 : List UInt8 := dkwX6_wrong_0 ++ dktX6_wrong_1
theorem dksX6_wrong_0 : cX6_wrong.data.toList.drop 0 = dktX6_wrong_0 := by decide +kernel
theorem dksX6_wrong_1 : cX6_wrong.data.toList.drop 22 = dktX6_wrong_1 := dk_seg dksX6_wrong_0 22 rfl rfl
theorem dX6_wrong_0 : decode cX6_wrong 0 = .ok (.aload_n 0, 1) := dk_42 (dk_at dksX6_wrong_0 0 rfl rfl)
theorem dX6_wrong_1 : decode cX6_wrong 1 = .ok (.getfield 3, 3) := dk_180 0 3 (dk_at dksX6_wrong_0 1 rfl rfl)
theorem dX6_wrong_4 : decode cX6_wrong 4 = .ok (.getfield 91, 3) := dk_180 0 91 (dk_at dksX6_wrong_0 4 rfl rfl)
theorem dX6_wrong_7 : decode cX6_wrong 7 = .ok (.iload_n 1, 1) := dk_27 (dk_at dksX6_wrong_0 7 rfl rfl)
theorem dX6_wrong_8 : decode cX6_wrong 8 = .ok (.putfield 95, 3) := dk_181 0 95 (dk_at dksX6_wrong_0 8 rfl rfl)
theorem dX6_wrong_11 : decode cX6_wrong 11 = .ok (.aload_n 0, 1) := dk_42 (dk_at dksX6_wrong_0 11 rfl rfl)
theorem dX6_wrong_12 : decode cX6_wrong 12 = .ok (.getfield 3, 3) := dk_180 0 3 (dk_at dksX6_wrong_0 12 rfl rfl)
theorem dX6_wrong_15 : decode cX6_wrong 15 = .ok (.getfield 91, 3) := dk_180 0 91 (dk_at dksX6_wrong_0 15 rfl rfl)
theorem dX6_wrong_18 : decode cX6_wrong 18 = .ok (.aload_n 0, 1) := dk_42 (dk_at dksX6_wrong_0 18 rfl rfl)
theorem dX6_wrong_19 : decode cX6_wrong 19 = .ok (.getfield 40, 3) := dk_180 0 40 (dk_at dksX6_wrong_0 19 rfl rfl)
theorem dX6_wrong_22 : decode cX6_wrong 22 = .ok (.putfield 100, 3) := dk_181 0 100 (dk_at dksX6_wrong_1 0 rfl rfl)
theorem dX6_wrong_25 : decode cX6_wrong 25 = .ok (.aload_n 0, 1) := dk_42 (dk_at dksX6_wrong_1 3 rfl rfl)
theorem dX6_wrong_26 : decode cX6_wrong 26 = .ok (.getfield 3, 3) := dk_180 0 3 (dk_at dksX6_wrong_1 4 rfl rfl)
theorem dX6_wrong_29 : decode cX6_wrong 29 = .ok (.getfield 91, 3) := dk_180 0 91 (dk_at dksX6_wrong_1 7 rfl rfl)
theorem dX6_wrong_32 : decode cX6_wrong 32 = .ok (.areturn, 1) := dk_176 (dk_at dksX6_wrong_1 10 rfl rfl)
abbrev cX6_number : ByteArray := prog_16_method_15_code
def yX6_number : MethodName := ⟨RX6, "numbe\x72", "(II)I"⟩
def dkwX6_number_1 : List UInt8 := [28, 184, 0, 32, 5, 182, 0, 109, 42, 180, 0, 57, 62, 42, 182, 0, 22, 29, 172]
abbrev dktX6_number_1 : List UInt8 := dkwX6_number_1 ++ []
def dkwX6_number_0 : List UInt8 := [42, 42, 180, 0, 43, 5, 160, 0, 7, 4, 167, 0, 4, 3, 4, 182, 0, 109, 42, 42, 180, 0, 57, 27]
abbrev dktX6_number_0 : List UInt8 := dkwX6_number_0 ++ dktX6_number_1
theorem dksX6_number_0 : cX6_number.data.toList.drop 0 = dktX6_number_0 := by decide +kernel
theorem dksX6_number_1 : cX6_number.data.toList.drop 24 = dktX6_number_1 := dk_seg dksX6_number_0 24 rfl rfl
theorem dX6_number_0 : decode cX6_number 0 = .ok (.aload_n 0, 1) := dk_42 (dk_at dksX6_number_0 0 rfl rfl)
theorem dX6_number_1 : decode cX6_number 1 = .ok (.aload_n 0, 1) := dk_42 (dk_at dksX6_number_0 1 rfl rfl)
theorem dX6_number_2 : decode cX6_number 2 = .ok (.getfield 43, 3) := dk_180 0 43 (dk_at dksX6_number_0 2 rfl rfl)
theorem dX6_number_5 : decode cX6_number 5 = .ok (.iconst 2, 1) := dk_5 (dk_at dksX6_number_0 5 rfl rfl)
theorem dX6_number_6 : decode cX6_number 6 = .ok (.if_icmp .ne 7, 3) := dk_160 0 7 (dk_at dksX6_number_0 6 rfl rfl)
theorem dX6_number_9 : decode cX6_number 9 = .ok (.iconst 1, 1) := dk_4 (dk_at dksX6_number_0 9 rfl rfl)
theorem dX6_number_10 : decode cX6_number 10 = .ok (.goto 4, 3) := dk_167 0 4 (dk_at dksX6_number_0 10 rfl rfl)
theorem dX6_number_13 : decode cX6_number 13 = .ok (.iconst 0, 1) := dk_3 (dk_at dksX6_number_0 13 rfl rfl)
theorem dX6_number_14 : decode cX6_number 14 = .ok (.iconst 1, 1) := dk_4 (dk_at dksX6_number_0 14 rfl rfl)
theorem dX6_number_15 : decode cX6_number 15 = .ok (.invokevirtual 109, 3) := dk_182 0 109 (dk_at dksX6_number_0 15 rfl rfl)
theorem dX6_number_18 : decode cX6_number 18 = .ok (.aload_n 0, 1) := dk_42 (dk_at dksX6_number_0 18 rfl rfl)
theorem dX6_number_19 : decode cX6_number 19 = .ok (.aload_n 0, 1) := dk_42 (dk_at dksX6_number_0 19 rfl rfl)
theorem dX6_number_20 : decode cX6_number 20 = .ok (.getfield 57, 3) := dk_180 0 57 (dk_at dksX6_number_0 20 rfl rfl)
theorem dX6_number_23 : decode cX6_number 23 = .ok (.iload_n 1, 1) := dk_27 (dk_at dksX6_number_0 23 rfl rfl)
theorem dX6_number_24 : decode cX6_number 24 = .ok (.iload_n 2, 1) := dk_28 (dk_at dksX6_number_1 0 rfl rfl)
theorem dX6_number_25 : decode cX6_number 25 = .ok (.invokestatic 32, 3) := dk_184 0 32 (dk_at dksX6_number_1 1 rfl rfl)
theorem dX6_number_28 : decode cX6_number 28 = .ok (.iconst 2, 1) := dk_5 (dk_at dksX6_number_1 4 rfl rfl)
theorem dX6_number_29 : decode cX6_number 29 = .ok (.invokevirtual 109, 3) := dk_182 0 109 (dk_at dksX6_number_1 5 rfl rfl)
theorem dX6_number_32 : decode cX6_number 32 = .ok (.aload_n 0, 1) := dk_42 (dk_at dksX6_number_1 8 rfl rfl)
theorem dX6_number_33 : decode cX6_number 33 = .ok (.getfield 57, 3) := dk_180 0 57 (dk_at dksX6_number_1 9 rfl rfl)
theorem dX6_number_36 : decode cX6_number 36 = .ok (.istore_n 3, 1) := dk_62 (dk_at dksX6_number_1 12 rfl rfl)
theorem dX6_number_37 : decode cX6_number 37 = .ok (.aload_n 0, 1) := dk_42 (dk_at dksX6_number_1 13 rfl rfl)
theorem dX6_number_38 : decode cX6_number 38 = .ok (.invokevirtual 22, 3) := dk_182 0 22 (dk_at dksX6_number_1 14 rfl rfl)
theorem dX6_number_41 : decode cX6_number 41 = .ok (.iload_n 3, 1) := dk_29 (dk_at dksX6_number_1 17 rfl rfl)
theorem dX6_number_42 : decode cX6_number 42 = .ok (.ireturn, 1) := dk_172 (dk_at dksX6_number_1 18 rfl rfl)
abbrev cX6_isName : ByteArray := prog_16_method_11_code
def yX6_isName : MethodName := ⟨RX6, "isName", "()Z"⟩
def dkwX6_isName_1 : List UInt8 := [42, 180, 0, 3, 180, 0, 88, 182, 0, 84, 2, 160, 0, 7, 4, 167, 0, 4, 3, 172]
abbrev dktX6_isName_1 : List UInt8 := dkwX6_isName_1 ++ []
def dkwX6_isName_0 : List UInt8 := [42, 180, 0, 43, 4, 160, 0, 37, 42, 42, 180, 0, 3, 180, 0, 80, 182, 0, 84, 2, 160, 0, 22, 42]
abbrev dktX6_isName_0 : List UInt8 := dkwX6_isName_0 ++ dktX6_isName_1
theorem dksX6_isName_0 : cX6_isName.data.toList.drop 0 = dktX6_isName_0 := by decide +kernel
theorem dksX6_isName_1 : cX6_isName.data.toList.drop 24 = dktX6_isName_1 := dk_seg dksX6_isName_0 24 rfl rfl
theorem dX6_isName_0 : decode cX6_isName 0 = .ok (.aload_n 0, 1) := dk_42 (dk_at dksX6_isName_0 0 rfl rfl)
theorem dX6_isName_1 : decode cX6_isName 1 = .ok (.getfield 43, 3) := dk_180 0 43 (dk_at dksX6_isName_0 1 rfl rfl)
theorem dX6_isName_4 : decode cX6_isName 4 = .ok (.iconst 1, 1) := dk_4 (dk_at dksX6_isName_0 4 rfl rfl)
theorem dX6_isName_5 : decode cX6_isName 5 = .ok (.if_icmp .ne 37, 3) := dk_160 0 37 (dk_at dksX6_isName_0 5 rfl rfl)
theorem dX6_isName_8 : decode cX6_isName 8 = .ok (.aload_n 0, 1) := dk_42 (dk_at dksX6_isName_0 8 rfl rfl)
theorem dX6_isName_9 : decode cX6_isName 9 = .ok (.aload_n 0, 1) := dk_42 (dk_at dksX6_isName_0 9 rfl rfl)
theorem dX6_isName_10 : decode cX6_isName 10 = .ok (.getfield 3, 3) := dk_180 0 3 (dk_at dksX6_isName_0 10 rfl rfl)
theorem dX6_isName_13 : decode cX6_isName 13 = .ok (.getfield 80, 3) := dk_180 0 80 (dk_at dksX6_isName_0 13 rfl rfl)
theorem dX6_isName_16 : decode cX6_isName 16 = .ok (.invokevirtual 84, 3) := dk_182 0 84 (dk_at dksX6_isName_0 16 rfl rfl)
theorem dX6_isName_19 : decode cX6_isName 19 = .ok (.iconst (-1), 1) := dk_2 (dk_at dksX6_isName_0 19 rfl rfl)
theorem dX6_isName_20 : decode cX6_isName 20 = .ok (.if_icmp .ne 22, 3) := dk_160 0 22 (dk_at dksX6_isName_0 20 rfl rfl)
theorem dX6_isName_23 : decode cX6_isName 23 = .ok (.aload_n 0, 1) := dk_42 (dk_at dksX6_isName_0 23 rfl rfl)
theorem dX6_isName_24 : decode cX6_isName 24 = .ok (.aload_n 0, 1) := dk_42 (dk_at dksX6_isName_1 0 rfl rfl)
theorem dX6_isName_25 : decode cX6_isName 25 = .ok (.getfield 3, 3) := dk_180 0 3 (dk_at dksX6_isName_1 1 rfl rfl)
theorem dX6_isName_28 : decode cX6_isName 28 = .ok (.getfield 88, 3) := dk_180 0 88 (dk_at dksX6_isName_1 4 rfl rfl)
theorem dX6_isName_31 : decode cX6_isName 31 = .ok (.invokevirtual 84, 3) := dk_182 0 84 (dk_at dksX6_isName_1 7 rfl rfl)
theorem dX6_isName_34 : decode cX6_isName 34 = .ok (.iconst (-1), 1) := dk_2 (dk_at dksX6_isName_1 10 rfl rfl)
theorem dX6_isName_35 : decode cX6_isName 35 = .ok (.if_icmp .ne 7, 3) := dk_160 0 7 (dk_at dksX6_isName_1 11 rfl rfl)
theorem dX6_isName_38 : decode cX6_isName 38 = .ok (.iconst 1, 1) := dk_4 (dk_at dksX6_isName_1 14 rfl rfl)
theorem dX6_isName_39 : decode cX6_isName 39 = .ok (.goto 4, 3) := dk_167 0 4 (dk_at dksX6_isName_1 15 rfl rfl)
theorem dX6_isName_42 : decode cX6_isName 42 = .ok (.iconst 0, 1) := dk_3 (dk_at dksX6_isName_1 18 rfl rfl)
theorem dX6_isName_43 : decode cX6_isName 43 = .ok (.ireturn, 1) := dk_172 (dk_at dksX6_isName_1 19 rfl rfl)
abbrev cX6_of : ByteArray := prog_16_method_16_code
def yX6_of : MethodName := ⟨RX6, "of", "([JI)I"⟩
def dkwX6_of_1 : List UInt8 := [167, 255, 235, 2, 172]
abbrev dktX6_of_1 : List UInt8 := dkwX6_of_1 ++ []
def dkwX6_of_0 : List UInt8 := [3, 62, 29, 28, 162, 0, 22, 43, 29, 47, 42, 180, 0, 60, 148, 154, 0, 5, 29, 172, 132, 3, 1]
abbrev dktX6_of_0 : List UInt8 := dkwX6_of_0 ++ dktX6_of_1
theorem dksX6_of_0 : cX6_of.data.toList.drop 0 = dktX6_of_0 := by decide +kernel
theorem dksX6_of_1 : cX6_of.data.toList.drop 23 = dktX6_of_1 := dk_seg dksX6_of_0 23 rfl rfl
theorem dX6_of_0 : decode cX6_of 0 = .ok (.iconst 0, 1) := dk_3 (dk_at dksX6_of_0 0 rfl rfl)
theorem dX6_of_1 : decode cX6_of 1 = .ok (.istore_n 3, 1) := dk_62 (dk_at dksX6_of_0 1 rfl rfl)
theorem dX6_of_2 : decode cX6_of 2 = .ok (.iload_n 3, 1) := dk_29 (dk_at dksX6_of_0 2 rfl rfl)
theorem dX6_of_3 : decode cX6_of 3 = .ok (.iload_n 2, 1) := dk_28 (dk_at dksX6_of_0 3 rfl rfl)
theorem dX6_of_4 : decode cX6_of 4 = .ok (.if_icmp .ge 22, 3) := dk_162 0 22 (dk_at dksX6_of_0 4 rfl rfl)
theorem dX6_of_7 : decode cX6_of 7 = .ok (.aload_n 1, 1) := dk_43 (dk_at dksX6_of_0 7 rfl rfl)
theorem dX6_of_8 : decode cX6_of 8 = .ok (.iload_n 3, 1) := dk_29 (dk_at dksX6_of_0 8 rfl rfl)
theorem dX6_of_9 : decode cX6_of 9 = .ok (.laload, 1) := dk_47 (dk_at dksX6_of_0 9 rfl rfl)
theorem dX6_of_10 : decode cX6_of 10 = .ok (.aload_n 0, 1) := dk_42 (dk_at dksX6_of_0 10 rfl rfl)
theorem dX6_of_11 : decode cX6_of 11 = .ok (.getfield 60, 3) := dk_180 0 60 (dk_at dksX6_of_0 11 rfl rfl)
theorem dX6_of_14 : decode cX6_of 14 = .ok (.lcmp, 1) := dk_148 (dk_at dksX6_of_0 14 rfl rfl)
theorem dX6_of_15 : decode cX6_of 15 = .ok (.ifCond .ne 5, 3) := dk_154 0 5 (dk_at dksX6_of_0 15 rfl rfl)
theorem dX6_of_18 : decode cX6_of 18 = .ok (.iload_n 3, 1) := dk_29 (dk_at dksX6_of_0 18 rfl rfl)
theorem dX6_of_19 : decode cX6_of 19 = .ok (.ireturn, 1) := dk_172 (dk_at dksX6_of_0 19 rfl rfl)
theorem dX6_of_20 : decode cX6_of 20 = .ok (.iinc 3 1, 3) := dk_132 3 1 (dk_at dksX6_of_0 20 rfl rfl)
theorem dX6_of_23 : decode cX6_of 23 = .ok (.goto (-21), 3) := dk_167 255 235 (dk_at dksX6_of_1 0 rfl rfl)
theorem dX6_of_26 : decode cX6_of 26 = .ok (.iconst (-1), 1) := dk_2 (dk_at dksX6_of_1 3 rfl rfl)
theorem dX6_of_27 : decode cX6_of 27 = .ok (.ireturn, 1) := dk_172 (dk_at dksX6_of_1 4 rfl rfl)
abbrev cX6_sign : ByteArray := prog_16_method_14_code
def yX6_sign : MethodName := ⟨RX6, "sign", "(I)V"⟩
def dkwX6_sign_0 : List UInt8 := [42, 42, 27, 182, 0, 107, 4, 182, 0, 109, 42, 182, 0, 22, 177]
abbrev dktX6_sign_0 : List UInt8 := dkwX6_sign_0 ++ []
theorem dksX6_sign_0 : cX6_sign.data.toList.drop 0 = dktX6_sign_0 := by decide +kernel
theorem dX6_sign_0 : decode cX6_sign 0 = .ok (.aload_n 0, 1) := dk_42 (dk_at dksX6_sign_0 0 rfl rfl)
theorem dX6_sign_1 : decode cX6_sign 1 = .ok (.aload_n 0, 1) := dk_42 (dk_at dksX6_sign_0 1 rfl rfl)
theorem dX6_sign_2 : decode cX6_sign 2 = .ok (.iload_n 1, 1) := dk_27 (dk_at dksX6_sign_0 2 rfl rfl)
theorem dX6_sign_3 : decode cX6_sign 3 = .ok (.invokevirtual 107, 3) := dk_182 0 107 (dk_at dksX6_sign_0 3 rfl rfl)
theorem dX6_sign_6 : decode cX6_sign 6 = .ok (.iconst 1, 1) := dk_4 (dk_at dksX6_sign_0 6 rfl rfl)
theorem dX6_sign_7 : decode cX6_sign 7 = .ok (.invokevirtual 109, 3) := dk_182 0 109 (dk_at dksX6_sign_0 7 rfl rfl)
theorem dX6_sign_10 : decode cX6_sign 10 = .ok (.aload_n 0, 1) := dk_42 (dk_at dksX6_sign_0 10 rfl rfl)
theorem dX6_sign_11 : decode cX6_sign 11 = .ok (.invokevirtual 22, 3) := dk_182 0 22 (dk_at dksX6_sign_0 11 rfl rfl)
theorem dX6_sign_14 : decode cX6_sign 14 = .ok (.return_, 1) := dk_177 (dk_at dksX6_sign_0 14 rfl rfl)
abbrev cX6_is_2 : ByteArray := prog_16_method_9_code
def yX6_is_2 : MethodName := ⟨RX6, "is", "(I)Z"⟩
def dkwX6_is_2_0 : List UInt8 := [42, 180, 0, 43, 6, 160, 0, 15, 42, 180, 0, 57, 27, 160, 0, 7, 4, 167, 0, 4, 3, 172]
abbrev dktX6_is_2_0 : List UInt8 := dkwX6_is_2_0 ++ []
theorem dksX6_is_2_0 : cX6_is_2.data.toList.drop 0 = dktX6_is_2_0 := by decide +kernel
theorem dX6_is_2_0 : decode cX6_is_2 0 = .ok (.aload_n 0, 1) := dk_42 (dk_at dksX6_is_2_0 0 rfl rfl)
theorem dX6_is_2_1 : decode cX6_is_2 1 = .ok (.getfield 43, 3) := dk_180 0 43 (dk_at dksX6_is_2_0 1 rfl rfl)
theorem dX6_is_2_4 : decode cX6_is_2 4 = .ok (.iconst 3, 1) := dk_6 (dk_at dksX6_is_2_0 4 rfl rfl)
theorem dX6_is_2_5 : decode cX6_is_2 5 = .ok (.if_icmp .ne 15, 3) := dk_160 0 15 (dk_at dksX6_is_2_0 5 rfl rfl)
theorem dX6_is_2_8 : decode cX6_is_2 8 = .ok (.aload_n 0, 1) := dk_42 (dk_at dksX6_is_2_0 8 rfl rfl)
theorem dX6_is_2_9 : decode cX6_is_2 9 = .ok (.getfield 57, 3) := dk_180 0 57 (dk_at dksX6_is_2_0 9 rfl rfl)
theorem dX6_is_2_12 : decode cX6_is_2 12 = .ok (.iload_n 1, 1) := dk_27 (dk_at dksX6_is_2_0 12 rfl rfl)
theorem dX6_is_2_13 : decode cX6_is_2 13 = .ok (.if_icmp .ne 7, 3) := dk_160 0 7 (dk_at dksX6_is_2_0 13 rfl rfl)
theorem dX6_is_2_16 : decode cX6_is_2 16 = .ok (.iconst 1, 1) := dk_4 (dk_at dksX6_is_2_0 16 rfl rfl)
theorem dX6_is_2_17 : decode cX6_is_2 17 = .ok (.goto 4, 3) := dk_167 0 4 (dk_at dksX6_is_2_0 17 rfl rfl)
theorem dX6_is_2_20 : decode cX6_is_2 20 = .ok (.iconst 0, 1) := dk_3 (dk_at dksX6_is_2_0 20 rfl rfl)
theorem dX6_is_2_21 : decode cX6_is_2 21 = .ok (.ireturn, 1) := dk_172 (dk_at dksX6_is_2_0 21 rfl rfl)
abbrev cX6_known : ByteArray := prog_16_method_18_code
def yX6_known : MethodName := ⟨RX6, "known", "([JI)I"⟩
def dkwX6_known_0 : List UInt8 := [42, 43, 28, 182, 0, 121, 62, 42, 182, 0, 22, 29, 172]
abbrev dktX6_known_0 : List UInt8 := dkwX6_known_0 ++ []
theorem dksX6_known_0 : cX6_known.data.toList.drop 0 = dktX6_known_0 := by decide +kernel
theorem dX6_known_0 : decode cX6_known 0 = .ok (.aload_n 0, 1) := dk_42 (dk_at dksX6_known_0 0 rfl rfl)
theorem dX6_known_1 : decode cX6_known 1 = .ok (.aload_n 1, 1) := dk_43 (dk_at dksX6_known_0 1 rfl rfl)
theorem dX6_known_2 : decode cX6_known 2 = .ok (.iload_n 2, 1) := dk_28 (dk_at dksX6_known_0 2 rfl rfl)
theorem dX6_known_3 : decode cX6_known 3 = .ok (.invokevirtual 121, 3) := dk_182 0 121 (dk_at dksX6_known_0 3 rfl rfl)
theorem dX6_known_6 : decode cX6_known 6 = .ok (.istore_n 3, 1) := dk_62 (dk_at dksX6_known_0 6 rfl rfl)
theorem dX6_known_7 : decode cX6_known 7 = .ok (.aload_n 0, 1) := dk_42 (dk_at dksX6_known_0 7 rfl rfl)
theorem dX6_known_8 : decode cX6_known 8 = .ok (.invokevirtual 22, 3) := dk_182 0 22 (dk_at dksX6_known_0 8 rfl rfl)
theorem dX6_known_11 : decode cX6_known 11 = .ok (.iload_n 3, 1) := dk_29 (dk_at dksX6_known_0 11 rfl rfl)
theorem dX6_known_12 : decode cX6_known 12 = .ok (.ireturn, 1) := dk_172 (dk_at dksX6_known_0 12 rfl rfl)
abbrev cX6_look : ByteArray := prog_16_method_17_code
def yX6_look : MethodName := ⟨RX6, "look", "([JI)I"⟩
def dkwX6_look_1 : List UInt8 := [167, 0, 4, 3, 6, 182, 0, 109, 29, 172]
abbrev dktX6_look_1 : List UInt8 := dkwX6_look_1 ++ []
def dkwX6_look_0 : List UInt8 := [42, 42, 182, 0, 113, 4, 182, 0, 109, 42, 43, 28, 182, 0, 117, 62, 42, 29, 2, 159, 0, 7, 4]
abbrev dktX6_look_0 : List UInt8 := dkwX6_look_0 ++ dktX6_look_1
theorem dksX6_look_0 : cX6_look.data.toList.drop 0 = dktX6_look_0 := by decide +kernel
theorem dksX6_look_1 : cX6_look.data.toList.drop 23 = dktX6_look_1 := dk_seg dksX6_look_0 23 rfl rfl
theorem dX6_look_0 : decode cX6_look 0 = .ok (.aload_n 0, 1) := dk_42 (dk_at dksX6_look_0 0 rfl rfl)
theorem dX6_look_1 : decode cX6_look 1 = .ok (.aload_n 0, 1) := dk_42 (dk_at dksX6_look_0 1 rfl rfl)
theorem dX6_look_2 : decode cX6_look 2 = .ok (.invokevirtual 113, 3) := dk_182 0 113 (dk_at dksX6_look_0 2 rfl rfl)
theorem dX6_look_5 : decode cX6_look 5 = .ok (.iconst 1, 1) := dk_4 (dk_at dksX6_look_0 5 rfl rfl)
theorem dX6_look_6 : decode cX6_look 6 = .ok (.invokevirtual 109, 3) := dk_182 0 109 (dk_at dksX6_look_0 6 rfl rfl)
theorem dX6_look_9 : decode cX6_look 9 = .ok (.aload_n 0, 1) := dk_42 (dk_at dksX6_look_0 9 rfl rfl)
theorem dX6_look_10 : decode cX6_look 10 = .ok (.aload_n 1, 1) := dk_43 (dk_at dksX6_look_0 10 rfl rfl)
theorem dX6_look_11 : decode cX6_look 11 = .ok (.iload_n 2, 1) := dk_28 (dk_at dksX6_look_0 11 rfl rfl)
theorem dX6_look_12 : decode cX6_look 12 = .ok (.invokevirtual 117, 3) := dk_182 0 117 (dk_at dksX6_look_0 12 rfl rfl)
theorem dX6_look_15 : decode cX6_look 15 = .ok (.istore_n 3, 1) := dk_62 (dk_at dksX6_look_0 15 rfl rfl)
theorem dX6_look_16 : decode cX6_look 16 = .ok (.aload_n 0, 1) := dk_42 (dk_at dksX6_look_0 16 rfl rfl)
theorem dX6_look_17 : decode cX6_look 17 = .ok (.iload_n 3, 1) := dk_29 (dk_at dksX6_look_0 17 rfl rfl)
theorem dX6_look_18 : decode cX6_look 18 = .ok (.iconst (-1), 1) := dk_2 (dk_at dksX6_look_0 18 rfl rfl)
theorem dX6_look_19 : decode cX6_look 19 = .ok (.if_icmp .eq 7, 3) := dk_159 0 7 (dk_at dksX6_look_0 19 rfl rfl)
theorem dX6_look_22 : decode cX6_look 22 = .ok (.iconst 1, 1) := dk_4 (dk_at dksX6_look_0 22 rfl rfl)
theorem dX6_look_23 : decode cX6_look 23 = .ok (.goto 4, 3) := dk_167 0 4 (dk_at dksX6_look_1 0 rfl rfl)
theorem dX6_look_26 : decode cX6_look 26 = .ok (.iconst 0, 1) := dk_3 (dk_at dksX6_look_1 3 rfl rfl)
theorem dX6_look_27 : decode cX6_look 27 = .ok (.iconst 3, 1) := dk_6 (dk_at dksX6_look_1 4 rfl rfl)
theorem dX6_look_28 : decode cX6_look 28 = .ok (.invokevirtual 109, 3) := dk_182 0 109 (dk_at dksX6_look_1 5 rfl rfl)
theorem dX6_look_31 : decode cX6_look 31 = .ok (.iload_n 3, 1) := dk_29 (dk_at dksX6_look_1 8 rfl rfl)
theorem dX6_look_32 : decode cX6_look 32 = .ok (.ireturn, 1) := dk_172 (dk_at dksX6_look_1 9 rfl rfl)
theorem q117 : (Jvm.Cond.initialized "BitRopes$Reade\x72") ∈ lw_all := lw_g (lw_at lw_m1 8 rfl) rfl
theorem q202 : (Jvm.Cond.fieldLink "BitRopes$Reade\x72" (95 : Nat) "BitRopes$Fault" "kind" "I") ∈ lw_all := lw_g (lw_at lw_m1 93 rfl) rfl
theorem q204 : (Jvm.Cond.fieldLink "BitRopes$Reade\x72" (100 : Nat) "BitRopes$Fault" "place" "I") ∈ lw_all := lw_g (lw_at lw_m1 95 rfl) rfl
theorem q344 : (Jvm.Cond.instanceMethod ({ cls := "BitRopes$Reade\x72", name := "<init>", desc := "(LBitRopes;I)V" } : Jvm.MethodName)) ∈ lw_all := lw_g (lw_at lw_m1 235 rfl) rfl
theorem q345 : (Jvm.Cond.code ({ cls := "BitRopes$Reade\x72", name := "<init>", desc := "(LBitRopes;I)V" } : Jvm.MethodName) prog_16_method_1_code (3 : Nat) (Option.none : Option Jvm.ClassFile.FieldType)) ∈ lw_all := lw_g (lw_at lw_m1 236 rfl) rfl
theorem q346 : (Jvm.Cond.methodLink "BitRopes$Reade\x72" (9 : Nat) ({ cls := "java/lang/Object", name := "<init>", desc := "()V" } : Jvm.MethodName)) ∈ lw_all := lw_g (lw_at lw_m1 237 rfl) rfl
theorem q351 : (Jvm.Cond.fieldLink "BitRopes$Reade\x72" (15 : Nat) "BitRopes$Reade\x72" "most" "I") ∈ lw_all := lw_g (lw_at lw_m2 2 rfl) rfl
theorem q352 : (Jvm.Cond.fieldLink "BitRopes$Reade\x72" (19 : Nat) "BitRopes$Reade\x72" "p" "I") ∈ lw_all := lw_g (lw_at lw_m2 3 rfl) rfl
theorem q355 : (Jvm.Cond.fieldLink "BitRopes$Reade\x72" (40 : Nat) "BitRopes$Reade\x72" "at" "I") ∈ lw_all := lw_g (lw_at lw_m2 6 rfl) rfl
theorem q362 : (Jvm.Cond.fieldLink "BitRopes$Reade\x72" (43 : Nat) "BitRopes$Reade\x72" "token" "I") ∈ lw_all := lw_g (lw_at lw_m2 13 rfl) rfl
theorem q365 : (Jvm.Cond.fieldLink "BitRopes$Reade\x72" (57 : Nat) "BitRopes$Reade\x72" "value" "I") ∈ lw_all := lw_g (lw_at lw_m2 16 rfl) rfl
theorem q368 : (Jvm.Cond.fieldLink "BitRopes$Reade\x72" (64 : Nat) "BitRopes$Reade\x72" "many" "I") ∈ lw_all := lw_g (lw_at lw_m2 19 rfl) rfl
theorem q371 : (Jvm.Cond.fieldLink "BitRopes$Reade\x72" (60 : Nat) "BitRopes$Reade\x72" "name" "J") ∈ lw_all := lw_g (lw_at lw_m2 22 rfl) rfl
theorem q372 : (Jvm.Cond.fieldLink "BitRopes$Reade\x72" (3 : Nat) "BitRopes$Reade\x72" "this$0" "LBitRopes;") ∈ lw_all := lw_g (lw_at lw_m2 23 rfl) rfl
theorem q382 : (Jvm.Cond.soleField "BitRopes$Reade\x72" "most") ∈ lw_all := lw_g (lw_at lw_m2 33 rfl) rfl
theorem q384 : (Jvm.Cond.soleField "BitRopes$Reade\x72" "p") ∈ lw_all := lw_g (lw_at lw_m2 35 rfl) rfl
theorem q386 : (Jvm.Cond.soleField "BitRopes$Reade\x72" "at") ∈ lw_all := lw_g (lw_at lw_m2 37 rfl) rfl
theorem q388 : (Jvm.Cond.soleField "BitRopes$Reade\x72" "token") ∈ lw_all := lw_g (lw_at lw_m2 39 rfl) rfl
theorem q390 : (Jvm.Cond.soleField "BitRopes$Reade\x72" "value") ∈ lw_all := lw_g (lw_at lw_m2 41 rfl) rfl
theorem q392 : (Jvm.Cond.soleField "BitRopes$Reade\x72" "many") ∈ lw_all := lw_g (lw_at lw_m2 43 rfl) rfl
theorem q394 : (Jvm.Cond.soleField "BitRopes$Reade\x72" "name") ∈ lw_all := lw_g (lw_at lw_m2 45 rfl) rfl
theorem q396 : (Jvm.Cond.soleField "BitRopes$Reade\x72" "this$0") ∈ lw_all := lw_g (lw_at lw_m2 47 rfl) rfl
theorem q495 : (Jvm.Cond.fieldLinkNest "BitRopes$Reade\x72" (28 : Nat) "BitRopes" "tape" "[B" "BitRopes") ∈ lw_tbl := lw_at lw_m2 146 rfl
theorem q498 : (Jvm.Cond.fieldLinkNest "BitRopes$Reade\x72" (25 : Nat) "BitRopes" "held" "I" "BitRopes") ∈ lw_tbl := lw_at lw_m2 149 rfl
theorem q501 : (Jvm.Cond.fieldLinkNest "BitRopes$Reade\x72" (91 : Nat) "BitRopes" "broken" "LBitRopes$Fault;" "BitRopes") ∈ lw_tbl := lw_at lw_m2 152 rfl
theorem q504 : (Jvm.Cond.fieldLinkNest "BitRopes$Reade\x72" (80 : Nat) "BitRopes" "lines" "[Ljava/lang/String;" "BitRopes") ∈ lw_tbl := lw_at lw_m2 155 rfl
theorem q506 : (Jvm.Cond.fieldLinkNest "BitRopes$Reade\x72" (88 : Nat) "BitRopes" "words" "[Ljava/lang/String;" "BitRopes") ∈ lw_tbl := lw_at lw_m2 157 rfl
theorem q593 : (Jvm.Cond.declares ({ cls := "BitRopes$Reade\x72", name := "begin", desc := "()V" } : Jvm.MethodName)) ∈ lw_tbl := lw_at lw_m3 4 rfl
theorem q595 : (Jvm.Cond.instanceMethod ({ cls := "BitRopes$Reade\x72", name := "begin", desc := "()V" } : Jvm.MethodName)) ∈ lw_all := lw_g (lw_at lw_m3 6 rfl) rfl
theorem q596 : (Jvm.Cond.code ({ cls := "BitRopes$Reade\x72", name := "begin", desc := "()V" } : Jvm.MethodName) prog_16_method_2_code (1 : Nat) (Option.none : Option Jvm.ClassFile.FieldType)) ∈ lw_all := lw_g (lw_at lw_m3 7 rfl) rfl
theorem q597 : (Jvm.Cond.methodLink "BitRopes$Reade\x72" (22 : Nat) ({ cls := "BitRopes$Reade\x72", name := "next", desc := "()V" } : Jvm.MethodName)) ∈ lw_all := lw_g (lw_at lw_m3 8 rfl) rfl
theorem q598 : (Jvm.Cond.instanceMethod ({ cls := "BitRopes$Reade\x72", name := "next", desc := "()V" } : Jvm.MethodName)) ∈ lw_all := lw_g (lw_at lw_m3 9 rfl) rfl
theorem q599 : (Jvm.Cond.sameMethod "BitRopes$Reade\x72" "BitRopes$Reade\x72" "next" "()V") ∈ lw_all := lw_g (lw_at lw_m3 10 rfl) rfl
theorem q603 : (Jvm.Cond.code ({ cls := "BitRopes$Reade\x72", name := "next", desc := "()V" } : Jvm.MethodName) prog_16_method_6_code (2 : Nat) (Option.none : Option Jvm.ClassFile.FieldType)) ∈ lw_all := lw_g (lw_at lw_m3 14 rfl) rfl
theorem q604 : (Jvm.Cond.methodLink "BitRopes$Reade\x72" (36 : Nat) ({ cls := "BitRopes$Reade\x72", name := "peek", desc := "()I" } : Jvm.MethodName)) ∈ lw_all := lw_g (lw_at lw_m3 15 rfl) rfl
theorem q605 : (Jvm.Cond.privateMethod ({ cls := "BitRopes$Reade\x72", name := "peek", desc := "()I" } : Jvm.MethodName)) ∈ lw_tbl := lw_at lw_m3 16 rfl
theorem q606 : (Jvm.Cond.instanceMethod ({ cls := "BitRopes$Reade\x72", name := "peek", desc := "()I" } : Jvm.MethodName)) ∈ lw_all := lw_g (lw_at lw_m3 17 rfl) rfl
theorem q607 : (Jvm.Cond.code ({ cls := "BitRopes$Reade\x72", name := "peek", desc := "()I" } : Jvm.MethodName) prog_16_method_3_code (1 : Nat) (Option.some Jvm.ClassFile.FieldType.int)) ∈ lw_all := lw_g (lw_at lw_m3 18 rfl) rfl
theorem q608 : (Jvm.Cond.methodLink "BitRopes$Reade\x72" (46 : Nat) ({ cls := "BitRopes$Reade\x72", name := "isLette\x72", desc := "(I)Z" } : Jvm.MethodName)) ∈ lw_all := lw_g (lw_at lw_m3 19 rfl) rfl
theorem q609 : (Jvm.Cond.privateMethod ({ cls := "BitRopes$Reade\x72", name := "isLette\x72", desc := "(I)Z" } : Jvm.MethodName)) ∈ lw_tbl := lw_at lw_m3 20 rfl
theorem q610 : (Jvm.Cond.instanceMethod ({ cls := "BitRopes$Reade\x72", name := "isLette\x72", desc := "(I)Z" } : Jvm.MethodName)) ∈ lw_all := lw_g (lw_at lw_m3 21 rfl) rfl
theorem q611 : (Jvm.Cond.code ({ cls := "BitRopes$Reade\x72", name := "isLette\x72", desc := "(I)Z" } : Jvm.MethodName) prog_16_method_4_code (2 : Nat) (Option.some Jvm.ClassFile.FieldType.boolean)) ∈ lw_all := lw_g (lw_at lw_m3 22 rfl) rfl
theorem q612 : (Jvm.Cond.methodLinkNest "BitRopes$Reade\x72" (32 : Nat) ({ cls := "BitRopes", name := "isIn", desc := "(III)Z" } : Jvm.MethodName) "BitRopes") ∈ lw_tbl := lw_at lw_m3 23 rfl
theorem q615 : (Jvm.Cond.methodLink "BitRopes$Reade\x72" (50 : Nat) ({ cls := "BitRopes$Reade\x72", name := "isDigit", desc := "(I)Z" } : Jvm.MethodName)) ∈ lw_all := lw_g (lw_at lw_m3 26 rfl) rfl
theorem q616 : (Jvm.Cond.privateMethod ({ cls := "BitRopes$Reade\x72", name := "isDigit", desc := "(I)Z" } : Jvm.MethodName)) ∈ lw_tbl := lw_at lw_m3 27 rfl
theorem q617 : (Jvm.Cond.instanceMethod ({ cls := "BitRopes$Reade\x72", name := "isDigit", desc := "(I)Z" } : Jvm.MethodName)) ∈ lw_all := lw_g (lw_at lw_m3 28 rfl) rfl
theorem q618 : (Jvm.Cond.code ({ cls := "BitRopes$Reade\x72", name := "isDigit", desc := "(I)Z" } : Jvm.MethodName) prog_16_method_5_code (2 : Nat) (Option.some Jvm.ClassFile.FieldType.boolean)) ∈ lw_all := lw_g (lw_at lw_m3 29 rfl) rfl
theorem q619 : (Jvm.Cond.methodLink "BitRopes$Reade\x72" (53 : Nat) ({ cls := "BitRopes$Reade\x72", name := "reads", desc := "(Z)V" } : Jvm.MethodName)) ∈ lw_all := lw_g (lw_at lw_m3 30 rfl) rfl
theorem q620 : (Jvm.Cond.privateMethod ({ cls := "BitRopes$Reade\x72", name := "reads", desc := "(Z)V" } : Jvm.MethodName)) ∈ lw_tbl := lw_at lw_m3 31 rfl
theorem q621 : (Jvm.Cond.instanceMethod ({ cls := "BitRopes$Reade\x72", name := "reads", desc := "(Z)V" } : Jvm.MethodName)) ∈ lw_all := lw_g (lw_at lw_m3 32 rfl) rfl
theorem q622 : (Jvm.Cond.code ({ cls := "BitRopes$Reade\x72", name := "reads", desc := "(Z)V" } : Jvm.MethodName) prog_16_method_7_code (3 : Nat) (Option.none : Option Jvm.ClassFile.FieldType)) ∈ lw_all := lw_g (lw_at lw_m3 33 rfl) rfl
theorem q625 : (Jvm.Cond.declares ({ cls := "BitRopes$Reade\x72", name := "find", desc := "([Ljava/lang/String;)I" } : Jvm.MethodName)) ∈ lw_tbl := lw_at lw_m3 36 rfl
theorem q627 : (Jvm.Cond.instanceMethod ({ cls := "BitRopes$Reade\x72", name := "find", desc := "([Ljava/lang/String;)I" } : Jvm.MethodName)) ∈ lw_all := lw_g (lw_at lw_m3 38 rfl) rfl
theorem q628 : (Jvm.Cond.code ({ cls := "BitRopes$Reade\x72", name := "find", desc := "([Ljava/lang/String;)I" } : Jvm.MethodName) prog_16_method_10_code (3 : Nat) (Option.some Jvm.ClassFile.FieldType.int)) ∈ lw_all := lw_g (lw_at lw_m3 39 rfl) rfl
theorem q629 : (Jvm.Cond.methodLink "BitRopes$Reade\x72" (76 : Nat) ({ cls := "BitRopes$Reade\x72", name := "is", desc := "(Ljava/lang/String;)Z" } : Jvm.MethodName)) ∈ lw_all := lw_g (lw_at lw_m3 40 rfl) rfl
theorem q630 : (Jvm.Cond.instanceMethod ({ cls := "BitRopes$Reade\x72", name := "is", desc := "(Ljava/lang/String;)Z" } : Jvm.MethodName)) ∈ lw_all := lw_g (lw_at lw_m3 41 rfl) rfl
theorem q631 : (Jvm.Cond.sameMethod "BitRopes$Reade\x72" "BitRopes$Reade\x72" "is" "(Ljava/lang/String;)Z") ∈ lw_all := lw_g (lw_at lw_m3 42 rfl) rfl
theorem q635 : (Jvm.Cond.code ({ cls := "BitRopes$Reade\x72", name := "is", desc := "(Ljava/lang/String;)Z" } : Jvm.MethodName) prog_16_method_8_code (3 : Nat) (Option.some Jvm.ClassFile.FieldType.boolean)) ∈ lw_all := lw_g (lw_at lw_m3 46 rfl) rfl
theorem q636 : (Jvm.Cond.methodLink "BitRopes$Reade\x72" (67 : Nat) ({ cls := "java/lang/String", name := "length", desc := "()I" } : Jvm.MethodName)) ∈ lw_all := lw_g (lw_at lw_m3 47 rfl) rfl
theorem q646 : (Jvm.Cond.methodLink "BitRopes$Reade\x72" (72 : Nat) ({ cls := "java/lang/String", name := "charAt", desc := "(I)C" } : Jvm.MethodName)) ∈ lw_all := lw_g (lw_at lw_m3 57 rfl) rfl
theorem q686 : (Jvm.Cond.declares ({ cls := "BitRopes$Reade\x72", name := "must", desc := "(ZI)V" } : Jvm.MethodName)) ∈ lw_tbl := lw_at lw_m3 97 rfl
theorem q688 : (Jvm.Cond.instanceMethod ({ cls := "BitRopes$Reade\x72", name := "must", desc := "(ZI)V" } : Jvm.MethodName)) ∈ lw_all := lw_g (lw_at lw_m3 99 rfl) rfl
theorem q689 : (Jvm.Cond.code ({ cls := "BitRopes$Reade\x72", name := "must", desc := "(ZI)V" } : Jvm.MethodName) prog_16_method_13_code (3 : Nat) (Option.none : Option Jvm.ClassFile.FieldType)) ∈ lw_all := lw_g (lw_at lw_m3 100 rfl) rfl
theorem q690 : (Jvm.Cond.methodLink "BitRopes$Reade\x72" (103 : Nat) ({ cls := "BitRopes$Reade\x72", name := "wrong", desc := "(I)LBitRopes$Fault;" } : Jvm.MethodName)) ∈ lw_all := lw_g (lw_at lw_m3 101 rfl) rfl
theorem q691 : (Jvm.Cond.instanceMethod ({ cls := "BitRopes$Reade\x72", name := "wrong", desc := "(I)LBitRopes$Fault;" } : Jvm.MethodName)) ∈ lw_all := lw_g (lw_at lw_m3 102 rfl) rfl
theorem q692 : (Jvm.Cond.sameMethod "BitRopes$Reade\x72" "BitRopes$Reade\x72" "wrong" "(I)LBitRopes$Fault;") ∈ lw_all := lw_g (lw_at lw_m3 103 rfl) rfl
theorem q696 : (Jvm.Cond.code ({ cls := "BitRopes$Reade\x72", name := "wrong", desc := "(I)LBitRopes$Fault;" } : Jvm.MethodName) prog_16_method_12_code (2 : Nat) (Option.some (Jvm.ClassFile.FieldType.object "BitRopes$Fault"))) ∈ lw_all := lw_g (lw_at lw_m3 107 rfl) rfl
theorem q699 : (Jvm.Cond.declares ({ cls := "BitRopes$Reade\x72", name := "next", desc := "()V" } : Jvm.MethodName)) ∈ lw_tbl := lw_at lw_m3 110 rfl
theorem q707 : (Jvm.Cond.declares ({ cls := "BitRopes$Reade\x72", name := "numbe\x72", desc := "(II)I" } : Jvm.MethodName)) ∈ lw_tbl := lw_at lw_m3 118 rfl
theorem q709 : (Jvm.Cond.instanceMethod ({ cls := "BitRopes$Reade\x72", name := "numbe\x72", desc := "(II)I" } : Jvm.MethodName)) ∈ lw_all := lw_g (lw_at lw_m3 120 rfl) rfl
theorem q710 : (Jvm.Cond.code ({ cls := "BitRopes$Reade\x72", name := "numbe\x72", desc := "(II)I" } : Jvm.MethodName) prog_16_method_15_code (4 : Nat) (Option.some Jvm.ClassFile.FieldType.int)) ∈ lw_all := lw_g (lw_at lw_m3 121 rfl) rfl
theorem q711 : (Jvm.Cond.methodLink "BitRopes$Reade\x72" (109 : Nat) ({ cls := "BitRopes$Reade\x72", name := "must", desc := "(ZI)V" } : Jvm.MethodName)) ∈ lw_all := lw_g (lw_at lw_m3 122 rfl) rfl
theorem q719 : (Jvm.Cond.declares ({ cls := "BitRopes$Reade\x72", name := "isName", desc := "()Z" } : Jvm.MethodName)) ∈ lw_tbl := lw_at lw_m3 130 rfl
theorem q721 : (Jvm.Cond.instanceMethod ({ cls := "BitRopes$Reade\x72", name := "isName", desc := "()Z" } : Jvm.MethodName)) ∈ lw_all := lw_g (lw_at lw_m3 132 rfl) rfl
theorem q722 : (Jvm.Cond.code ({ cls := "BitRopes$Reade\x72", name := "isName", desc := "()Z" } : Jvm.MethodName) prog_16_method_11_code (1 : Nat) (Option.some Jvm.ClassFile.FieldType.boolean)) ∈ lw_all := lw_g (lw_at lw_m3 133 rfl) rfl
theorem q723 : (Jvm.Cond.methodLink "BitRopes$Reade\x72" (84 : Nat) ({ cls := "BitRopes$Reade\x72", name := "find", desc := "([Ljava/lang/String;)I" } : Jvm.MethodName)) ∈ lw_all := lw_g (lw_at lw_m3 134 rfl) rfl
theorem q726 : (Jvm.Cond.declares ({ cls := "BitRopes$Reade\x72", name := "of", desc := "([JI)I" } : Jvm.MethodName)) ∈ lw_tbl := lw_at lw_m3 137 rfl
theorem q728 : (Jvm.Cond.instanceMethod ({ cls := "BitRopes$Reade\x72", name := "of", desc := "([JI)I" } : Jvm.MethodName)) ∈ lw_all := lw_g (lw_at lw_m3 139 rfl) rfl
theorem q729 : (Jvm.Cond.code ({ cls := "BitRopes$Reade\x72", name := "of", desc := "([JI)I" } : Jvm.MethodName) prog_16_method_16_code (4 : Nat) (Option.some Jvm.ClassFile.FieldType.int)) ∈ lw_all := lw_g (lw_at lw_m3 140 rfl) rfl
theorem q877 : (Jvm.Cond.declares ({ cls := "BitRopes$Reade\x72", name := "sign", desc := "(I)V" } : Jvm.MethodName)) ∈ lw_tbl := lw_at lw_m4 48 rfl
theorem q879 : (Jvm.Cond.instanceMethod ({ cls := "BitRopes$Reade\x72", name := "sign", desc := "(I)V" } : Jvm.MethodName)) ∈ lw_all := lw_g (lw_at lw_m4 50 rfl) rfl
theorem q880 : (Jvm.Cond.code ({ cls := "BitRopes$Reade\x72", name := "sign", desc := "(I)V" } : Jvm.MethodName) prog_16_method_14_code (2 : Nat) (Option.none : Option Jvm.ClassFile.FieldType)) ∈ lw_all := lw_g (lw_at lw_m4 51 rfl) rfl
theorem q881 : (Jvm.Cond.methodLink "BitRopes$Reade\x72" (107 : Nat) ({ cls := "BitRopes$Reade\x72", name := "is", desc := "(I)Z" } : Jvm.MethodName)) ∈ lw_all := lw_g (lw_at lw_m4 52 rfl) rfl
theorem q882 : (Jvm.Cond.instanceMethod ({ cls := "BitRopes$Reade\x72", name := "is", desc := "(I)Z" } : Jvm.MethodName)) ∈ lw_all := lw_g (lw_at lw_m4 53 rfl) rfl
theorem q883 : (Jvm.Cond.sameMethod "BitRopes$Reade\x72" "BitRopes$Reade\x72" "is" "(I)Z") ∈ lw_all := lw_g (lw_at lw_m4 54 rfl) rfl
theorem q887 : (Jvm.Cond.code ({ cls := "BitRopes$Reade\x72", name := "is", desc := "(I)Z" } : Jvm.MethodName) prog_16_method_9_code (2 : Nat) (Option.some Jvm.ClassFile.FieldType.boolean)) ∈ lw_all := lw_g (lw_at lw_m4 58 rfl) rfl
theorem q1323 : (Jvm.Cond.declares ({ cls := "BitRopes$Reade\x72", name := "known", desc := "([JI)I" } : Jvm.MethodName)) ∈ lw_tbl := lw_at lw_m6 14 rfl
theorem q1325 : (Jvm.Cond.instanceMethod ({ cls := "BitRopes$Reade\x72", name := "known", desc := "([JI)I" } : Jvm.MethodName)) ∈ lw_all := lw_g (lw_at lw_m6 16 rfl) rfl
theorem q1326 : (Jvm.Cond.code ({ cls := "BitRopes$Reade\x72", name := "known", desc := "([JI)I" } : Jvm.MethodName) prog_16_method_18_code (4 : Nat) (Option.some Jvm.ClassFile.FieldType.int)) ∈ lw_all := lw_g (lw_at lw_m6 17 rfl) rfl
theorem q1327 : (Jvm.Cond.methodLink "BitRopes$Reade\x72" (121 : Nat) ({ cls := "BitRopes$Reade\x72", name := "look", desc := "([JI)I" } : Jvm.MethodName)) ∈ lw_all := lw_g (lw_at lw_m6 18 rfl) rfl
theorem q1328 : (Jvm.Cond.instanceMethod ({ cls := "BitRopes$Reade\x72", name := "look", desc := "([JI)I" } : Jvm.MethodName)) ∈ lw_all := lw_g (lw_at lw_m6 19 rfl) rfl
theorem q1329 : (Jvm.Cond.sameMethod "BitRopes$Reade\x72" "BitRopes$Reade\x72" "look" "([JI)I") ∈ lw_all := lw_g (lw_at lw_m6 20 rfl) rfl
theorem q1333 : (Jvm.Cond.code ({ cls := "BitRopes$Reade\x72", name := "look", desc := "([JI)I" } : Jvm.MethodName) prog_16_method_17_code (4 : Nat) (Option.some Jvm.ClassFile.FieldType.int)) ∈ lw_all := lw_g (lw_at lw_m6 24 rfl) rfl
theorem q1334 : (Jvm.Cond.methodLink "BitRopes$Reade\x72" (113 : Nat) ({ cls := "BitRopes$Reade\x72", name := "isName", desc := "()Z" } : Jvm.MethodName)) ∈ lw_all := lw_g (lw_at lw_m6 25 rfl) rfl
theorem q1335 : (Jvm.Cond.methodLink "BitRopes$Reade\x72" (117 : Nat) ({ cls := "BitRopes$Reade\x72", name := "of", desc := "([JI)I" } : Jvm.MethodName)) ∈ lw_all := lw_g (lw_at lw_m6 26 rfl) rfl
theorem q1341 : (Jvm.Cond.declares ({ cls := "BitRopes$Reade\x72", name := "look", desc := "([JI)I" } : Jvm.MethodName)) ∈ lw_tbl := lw_at lw_m6 32 rfl
theorem q1402 : (Jvm.Cond.declares ({ cls := "BitRopes$Reade\x72", name := "is", desc := "(Ljava/lang/String;)Z" } : Jvm.MethodName)) ∈ lw_tbl := lw_at lw_m6 93 rfl
theorem q1406 : (Jvm.Cond.declares ({ cls := "BitRopes$Reade\x72", name := "is", desc := "(I)Z" } : Jvm.MethodName)) ∈ lw_tbl := lw_at lw_m6 97 rfl
theorem q2302 : (Jvm.Cond.sameMethod "BitRopes$Reade\x72" "BitRopes$Reade\x72" "peek" "()I") ∈ lw_all := lw_g (lw_at lw_m10 33 rfl) rfl
theorem q2303 : (Jvm.Cond.sameMethod "BitRopes$Reade\x72" "BitRopes$Reade\x72" "isLette\x72" "(I)Z") ∈ lw_all := lw_g (lw_at lw_m10 34 rfl) rfl
theorem q2304 : (Jvm.Cond.sameMethod "BitRopes$Reade\x72" "BitRopes$Reade\x72" "isDigit" "(I)Z") ∈ lw_all := lw_g (lw_at lw_m10 35 rfl) rfl
theorem q2305 : (Jvm.Cond.sameMethod "BitRopes$Reade\x72" "BitRopes$Reade\x72" "reads" "(Z)V") ∈ lw_all := lw_g (lw_at lw_m10 36 rfl) rfl
theorem q2306 : (Jvm.Cond.sameMethod "BitRopes$Reade\x72" "BitRopes$Reade\x72" "must" "(ZI)V") ∈ lw_all := lw_g (lw_at lw_m10 37 rfl) rfl
theorem q2310 : (Jvm.Cond.sameMethod "BitRopes$Reade\x72" "BitRopes$Reade\x72" "find" "([Ljava/lang/String;)I") ∈ lw_all := lw_g (lw_at lw_m10 41 rfl) rfl
theorem q2314 : (Jvm.Cond.sameMethod "BitRopes$Reade\x72" "BitRopes$Reade\x72" "isName" "()Z") ∈ lw_all := lw_g (lw_at lw_m10 45 rfl) rfl
theorem q2318 : (Jvm.Cond.sameMethod "BitRopes$Reade\x72" "BitRopes$Reade\x72" "of" "([JI)I") ∈ lw_all := lw_g (lw_at lw_m10 49 rfl) rfl

/-! BitRopes$RoomReader -/
set_option maxRecDepth 100000
def RX7 : String := "BitRopes$RoomReade\x72"
def TX7 : u_T := fun k => match k with
  | 0 => ("BitRopes$Reade\x72", "most", "I", true)
  | 1 => ("BitRopes$Reade\x72", "p", "I", false)
  | 2 => ("BitRopes$Reade\x72", "at", "I", false)
  | 3 => ("BitRopes$Reade\x72", "token", "I", false)
  | 4 => ("BitRopes$Reade\x72", "value", "I", false)
  | 5 => ("BitRopes$Reade\x72", "many", "I", false)
  | 6 => ("BitRopes$Reade\x72", "name", "J", false)
  | 7 => ("BitRopes$Reade\x72", "this$0", "LBitRopes;", true)
  | 8 => ("BitRopes$RoomReade\x72", "c", "LBitRopes$Room;", false)
  | 9 => ("BitRopes$RoomReade\x72", "z", "LBitRopes$State;", false)
  | 10 => ("BitRopes$RoomReade\x72", "hasLetters", "Z", false)
  | _ => ("BitRopes$RoomReade\x72", "this$0", "LBitRopes;", true)
def tyX7 : Nat → FieldType := fun k => match k with
  | 0 => .int
  | 1 => .int
  | 2 => .int
  | 3 => .int
  | 4 => .int
  | 5 => .int
  | 6 => .long
  | 7 => .object "BitRopes"
  | 8 => .object "BitRopes$Room"
  | 9 => .object "BitRopes$State"
  | 10 => .boolean
  | _ => .object "BitRopes"
abbrev wsX70 : List Cond := u_ws RX7 TX7 12
-- two fields of one name: no nmX7
theorem tyX7_ok : ∀ k, k < 12 → parseFieldDescriptor (TX7 k).2.2.1 = some (tyX7 k) := by decide +kernel
abbrev cX7_init : ByteArray := prog_18_method_1_code
def yX7_init : MethodName := ⟨RX7, "<init>", "(LBitRopes;)V"⟩
def dkwX7_init_0 : List UInt8 := [42, 43, 181, 0, 3, 42, 43, 17, 3, 132, 183, 0, 9, 177]
abbrev dktX7_init_0 : List UInt8 := dkwX7_init_0 ++ []
theorem dksX7_init_0 : cX7_init.data.toList.drop 0 = dktX7_init_0 := by decide +kernel
theorem dX7_init_0 : decode cX7_init 0 = .ok (.aload_n 0, 1) := dk_42 (dk_at dksX7_init_0 0 rfl rfl)
theorem dX7_init_1 : decode cX7_init 1 = .ok (.aload_n 1, 1) := dk_43 (dk_at dksX7_init_0 1 rfl rfl)
theorem dX7_init_2 : decode cX7_init 2 = .ok (.putfield 3, 3) := dk_181 0 3 (dk_at dksX7_init_0 2 rfl rfl)
theorem dX7_init_5 : decode cX7_init 5 = .ok (.aload_n 0, 1) := dk_42 (dk_at dksX7_init_0 5 rfl rfl)
theorem dX7_init_6 : decode cX7_init 6 = .ok (.aload_n 1, 1) := dk_43 (dk_at dksX7_init_0 6 rfl rfl)
theorem dX7_init_7 : decode cX7_init 7 = .ok (.sipush 900, 3) := dk_17 3 132 (dk_at dksX7_init_0 7 rfl rfl)
theorem dX7_init_10 : decode cX7_init 10 = .ok (.invokespecial 9, 3) := dk_183 0 9 (dk_at dksX7_init_0 10 rfl rfl)
theorem dX7_init_13 : decode cX7_init 13 = .ok (.return_, 1) := dk_177 (dk_at dksX7_init_0 13 rfl rfl)
abbrev cX7_read : ByteArray := prog_18_method_2_code
def yX7_read : MethodName := ⟨RX7, "read", "(LBitRopes$Room;LBitRopes$State;)I"⟩
def dkwX7_read_6 : List UInt8 := [16, 59, 182, 0, 59, 132, 3, 1, 167, 255, 132, 29, 172]
abbrev dktX7_read_6 : List UInt8 := dkwX7_read_6 ++ []
def dkwX7_read_5 : List UInt8 := [162, 0, 7, 4, 167, 0, 4, 3, 7, 182, 0, 43, 42, 182, 0, 52, 42, 21, 4, 182, 0, 55, 42]
abbrev dktX7_read_5 : List UInt8 := dkwX7_read_5 ++ dktX7_read_6
def dkwX7_read_4 : List UInt8 := [167, 0, 4, 3, 6, 182, 0, 43, 42, 21, 4, 4, 160, 0, 14, 42, 180, 0, 15, 180, 0, 47, 7]
abbrev dktX7_read_4 : List UInt8 := dkwX7_read_4 ++ dktX7_read_5
def dkwX7_read_3 : List UInt8 := [167, 0, 4, 3, 6, 182, 0, 43, 42, 21, 4, 5, 160, 0, 10, 42, 180, 0, 23, 154, 0, 7, 4]
abbrev dktX7_read_3 : List UInt8 := dkwX7_read_3 ++ dktX7_read_4
def dkwX7_read_2 : List UInt8 := [159, 0, 7, 4, 167, 0, 4, 3, 4, 182, 0, 43, 42, 21, 4, 154, 0, 7, 29, 154, 0, 7, 4]
abbrev dktX7_read_2 : List UInt8 := dkwX7_read_2 ++ dktX7_read_3
def dkwX7_read_1 : List UInt8 := [180, 0, 31, 153, 0, 123, 42, 42, 180, 0, 3, 180, 0, 35, 182, 0, 39, 54, 4, 42, 21, 4, 2]
abbrev dktX7_read_1 : List UInt8 := dkwX7_read_1 ++ dktX7_read_2
def dkwX7_read_0 : List UInt8 := [42, 43, 181, 0, 15, 42, 44, 181, 0, 19, 42, 3, 181, 0, 23, 3, 62, 42, 182, 0, 27, 42]
abbrev dktX7_read_0 : List UInt8 := dkwX7_read_0 ++ dktX7_read_1
theorem dksX7_read_0 : cX7_read.data.toList.drop 0 = dktX7_read_0 := by decide +kernel
theorem dksX7_read_1 : cX7_read.data.toList.drop 22 = dktX7_read_1 := dk_seg dksX7_read_0 22 rfl rfl
theorem dksX7_read_2 : cX7_read.data.toList.drop 45 = dktX7_read_2 := dk_seg dksX7_read_1 23 rfl rfl
theorem dksX7_read_3 : cX7_read.data.toList.drop 68 = dktX7_read_3 := dk_seg dksX7_read_2 23 rfl rfl
theorem dksX7_read_4 : cX7_read.data.toList.drop 91 = dktX7_read_4 := dk_seg dksX7_read_3 23 rfl rfl
theorem dksX7_read_5 : cX7_read.data.toList.drop 114 = dktX7_read_5 := dk_seg dksX7_read_4 23 rfl rfl
theorem dksX7_read_6 : cX7_read.data.toList.drop 137 = dktX7_read_6 := dk_seg dksX7_read_5 23 rfl rfl
theorem dX7_read_0 : decode cX7_read 0 = .ok (.aload_n 0, 1) := dk_42 (dk_at dksX7_read_0 0 rfl rfl)
theorem dX7_read_1 : decode cX7_read 1 = .ok (.aload_n 1, 1) := dk_43 (dk_at dksX7_read_0 1 rfl rfl)
theorem dX7_read_2 : decode cX7_read 2 = .ok (.putfield 15, 3) := dk_181 0 15 (dk_at dksX7_read_0 2 rfl rfl)
theorem dX7_read_5 : decode cX7_read 5 = .ok (.aload_n 0, 1) := dk_42 (dk_at dksX7_read_0 5 rfl rfl)
theorem dX7_read_6 : decode cX7_read 6 = .ok (.aload_n 2, 1) := dk_44 (dk_at dksX7_read_0 6 rfl rfl)
theorem dX7_read_7 : decode cX7_read 7 = .ok (.putfield 19, 3) := dk_181 0 19 (dk_at dksX7_read_0 7 rfl rfl)
theorem dX7_read_10 : decode cX7_read 10 = .ok (.aload_n 0, 1) := dk_42 (dk_at dksX7_read_0 10 rfl rfl)
theorem dX7_read_11 : decode cX7_read 11 = .ok (.iconst 0, 1) := dk_3 (dk_at dksX7_read_0 11 rfl rfl)
theorem dX7_read_12 : decode cX7_read 12 = .ok (.putfield 23, 3) := dk_181 0 23 (dk_at dksX7_read_0 12 rfl rfl)
theorem dX7_read_15 : decode cX7_read 15 = .ok (.iconst 0, 1) := dk_3 (dk_at dksX7_read_0 15 rfl rfl)
theorem dX7_read_16 : decode cX7_read 16 = .ok (.istore_n 3, 1) := dk_62 (dk_at dksX7_read_0 16 rfl rfl)
theorem dX7_read_17 : decode cX7_read 17 = .ok (.aload_n 0, 1) := dk_42 (dk_at dksX7_read_0 17 rfl rfl)
theorem dX7_read_18 : decode cX7_read 18 = .ok (.invokevirtual 27, 3) := dk_182 0 27 (dk_at dksX7_read_0 18 rfl rfl)
theorem dX7_read_21 : decode cX7_read 21 = .ok (.aload_n 0, 1) := dk_42 (dk_at dksX7_read_0 21 rfl rfl)
theorem dX7_read_22 : decode cX7_read 22 = .ok (.getfield 31, 3) := dk_180 0 31 (dk_at dksX7_read_1 0 rfl rfl)
theorem dX7_read_25 : decode cX7_read 25 = .ok (.ifCond .eq 123, 3) := dk_153 0 123 (dk_at dksX7_read_1 3 rfl rfl)
theorem dX7_read_28 : decode cX7_read 28 = .ok (.aload_n 0, 1) := dk_42 (dk_at dksX7_read_1 6 rfl rfl)
theorem dX7_read_29 : decode cX7_read 29 = .ok (.aload_n 0, 1) := dk_42 (dk_at dksX7_read_1 7 rfl rfl)
theorem dX7_read_30 : decode cX7_read 30 = .ok (.getfield 3, 3) := dk_180 0 3 (dk_at dksX7_read_1 8 rfl rfl)
theorem dX7_read_33 : decode cX7_read 33 = .ok (.getfield 35, 3) := dk_180 0 35 (dk_at dksX7_read_1 11 rfl rfl)
theorem dX7_read_36 : decode cX7_read 36 = .ok (.invokevirtual 39, 3) := dk_182 0 39 (dk_at dksX7_read_1 14 rfl rfl)
theorem dX7_read_39 : decode cX7_read 39 = .ok (.istore 4, 2) := dk_54 4 (dk_at dksX7_read_1 17 rfl rfl)
theorem dX7_read_41 : decode cX7_read 41 = .ok (.aload_n 0, 1) := dk_42 (dk_at dksX7_read_1 19 rfl rfl)
theorem dX7_read_42 : decode cX7_read 42 = .ok (.iload 4, 2) := dk_21 4 (dk_at dksX7_read_1 20 rfl rfl)
theorem dX7_read_44 : decode cX7_read 44 = .ok (.iconst (-1), 1) := dk_2 (dk_at dksX7_read_1 22 rfl rfl)
theorem dX7_read_45 : decode cX7_read 45 = .ok (.if_icmp .eq 7, 3) := dk_159 0 7 (dk_at dksX7_read_2 0 rfl rfl)
theorem dX7_read_48 : decode cX7_read 48 = .ok (.iconst 1, 1) := dk_4 (dk_at dksX7_read_2 3 rfl rfl)
theorem dX7_read_49 : decode cX7_read 49 = .ok (.goto 4, 3) := dk_167 0 4 (dk_at dksX7_read_2 4 rfl rfl)
theorem dX7_read_52 : decode cX7_read 52 = .ok (.iconst 0, 1) := dk_3 (dk_at dksX7_read_2 7 rfl rfl)
theorem dX7_read_53 : decode cX7_read 53 = .ok (.iconst 1, 1) := dk_4 (dk_at dksX7_read_2 8 rfl rfl)
theorem dX7_read_54 : decode cX7_read 54 = .ok (.invokevirtual 43, 3) := dk_182 0 43 (dk_at dksX7_read_2 9 rfl rfl)
theorem dX7_read_57 : decode cX7_read 57 = .ok (.aload_n 0, 1) := dk_42 (dk_at dksX7_read_2 12 rfl rfl)
theorem dX7_read_58 : decode cX7_read 58 = .ok (.iload 4, 2) := dk_21 4 (dk_at dksX7_read_2 13 rfl rfl)
theorem dX7_read_60 : decode cX7_read 60 = .ok (.ifCond .ne 7, 3) := dk_154 0 7 (dk_at dksX7_read_2 15 rfl rfl)
theorem dX7_read_63 : decode cX7_read 63 = .ok (.iload_n 3, 1) := dk_29 (dk_at dksX7_read_2 18 rfl rfl)
theorem dX7_read_64 : decode cX7_read 64 = .ok (.ifCond .ne 7, 3) := dk_154 0 7 (dk_at dksX7_read_2 19 rfl rfl)
theorem dX7_read_67 : decode cX7_read 67 = .ok (.iconst 1, 1) := dk_4 (dk_at dksX7_read_2 22 rfl rfl)
theorem dX7_read_68 : decode cX7_read 68 = .ok (.goto 4, 3) := dk_167 0 4 (dk_at dksX7_read_3 0 rfl rfl)
theorem dX7_read_71 : decode cX7_read 71 = .ok (.iconst 0, 1) := dk_3 (dk_at dksX7_read_3 3 rfl rfl)
theorem dX7_read_72 : decode cX7_read 72 = .ok (.iconst 3, 1) := dk_6 (dk_at dksX7_read_3 4 rfl rfl)
theorem dX7_read_73 : decode cX7_read 73 = .ok (.invokevirtual 43, 3) := dk_182 0 43 (dk_at dksX7_read_3 5 rfl rfl)
theorem dX7_read_76 : decode cX7_read 76 = .ok (.aload_n 0, 1) := dk_42 (dk_at dksX7_read_3 8 rfl rfl)
theorem dX7_read_77 : decode cX7_read 77 = .ok (.iload 4, 2) := dk_21 4 (dk_at dksX7_read_3 9 rfl rfl)
theorem dX7_read_79 : decode cX7_read 79 = .ok (.iconst 2, 1) := dk_5 (dk_at dksX7_read_3 11 rfl rfl)
theorem dX7_read_80 : decode cX7_read 80 = .ok (.if_icmp .ne 10, 3) := dk_160 0 10 (dk_at dksX7_read_3 12 rfl rfl)
theorem dX7_read_83 : decode cX7_read 83 = .ok (.aload_n 0, 1) := dk_42 (dk_at dksX7_read_3 15 rfl rfl)
theorem dX7_read_84 : decode cX7_read 84 = .ok (.getfield 23, 3) := dk_180 0 23 (dk_at dksX7_read_3 16 rfl rfl)
theorem dX7_read_87 : decode cX7_read 87 = .ok (.ifCond .ne 7, 3) := dk_154 0 7 (dk_at dksX7_read_3 19 rfl rfl)
theorem dX7_read_90 : decode cX7_read 90 = .ok (.iconst 1, 1) := dk_4 (dk_at dksX7_read_3 22 rfl rfl)
theorem dX7_read_91 : decode cX7_read 91 = .ok (.goto 4, 3) := dk_167 0 4 (dk_at dksX7_read_4 0 rfl rfl)
theorem dX7_read_94 : decode cX7_read 94 = .ok (.iconst 0, 1) := dk_3 (dk_at dksX7_read_4 3 rfl rfl)
theorem dX7_read_95 : decode cX7_read 95 = .ok (.iconst 3, 1) := dk_6 (dk_at dksX7_read_4 4 rfl rfl)
theorem dX7_read_96 : decode cX7_read 96 = .ok (.invokevirtual 43, 3) := dk_182 0 43 (dk_at dksX7_read_4 5 rfl rfl)
theorem dX7_read_99 : decode cX7_read 99 = .ok (.aload_n 0, 1) := dk_42 (dk_at dksX7_read_4 8 rfl rfl)
theorem dX7_read_100 : decode cX7_read 100 = .ok (.iload 4, 2) := dk_21 4 (dk_at dksX7_read_4 9 rfl rfl)
theorem dX7_read_102 : decode cX7_read 102 = .ok (.iconst 1, 1) := dk_4 (dk_at dksX7_read_4 11 rfl rfl)
theorem dX7_read_103 : decode cX7_read 103 = .ok (.if_icmp .ne 14, 3) := dk_160 0 14 (dk_at dksX7_read_4 12 rfl rfl)
theorem dX7_read_106 : decode cX7_read 106 = .ok (.aload_n 0, 1) := dk_42 (dk_at dksX7_read_4 15 rfl rfl)
theorem dX7_read_107 : decode cX7_read 107 = .ok (.getfield 15, 3) := dk_180 0 15 (dk_at dksX7_read_4 16 rfl rfl)
theorem dX7_read_110 : decode cX7_read 110 = .ok (.getfield 47, 3) := dk_180 0 47 (dk_at dksX7_read_4 19 rfl rfl)
theorem dX7_read_113 : decode cX7_read 113 = .ok (.iconst 4, 1) := dk_7 (dk_at dksX7_read_4 22 rfl rfl)
theorem dX7_read_114 : decode cX7_read 114 = .ok (.if_icmp .ge 7, 3) := dk_162 0 7 (dk_at dksX7_read_5 0 rfl rfl)
theorem dX7_read_117 : decode cX7_read 117 = .ok (.iconst 1, 1) := dk_4 (dk_at dksX7_read_5 3 rfl rfl)
theorem dX7_read_118 : decode cX7_read 118 = .ok (.goto 4, 3) := dk_167 0 4 (dk_at dksX7_read_5 4 rfl rfl)
theorem dX7_read_121 : decode cX7_read 121 = .ok (.iconst 0, 1) := dk_3 (dk_at dksX7_read_5 7 rfl rfl)
theorem dX7_read_122 : decode cX7_read 122 = .ok (.iconst 4, 1) := dk_7 (dk_at dksX7_read_5 8 rfl rfl)
theorem dX7_read_123 : decode cX7_read 123 = .ok (.invokevirtual 43, 3) := dk_182 0 43 (dk_at dksX7_read_5 9 rfl rfl)
theorem dX7_read_126 : decode cX7_read 126 = .ok (.aload_n 0, 1) := dk_42 (dk_at dksX7_read_5 12 rfl rfl)
theorem dX7_read_127 : decode cX7_read 127 = .ok (.invokevirtual 52, 3) := dk_182 0 52 (dk_at dksX7_read_5 13 rfl rfl)
theorem dX7_read_130 : decode cX7_read 130 = .ok (.aload_n 0, 1) := dk_42 (dk_at dksX7_read_5 16 rfl rfl)
theorem dX7_read_131 : decode cX7_read 131 = .ok (.iload 4, 2) := dk_21 4 (dk_at dksX7_read_5 17 rfl rfl)
theorem dX7_read_133 : decode cX7_read 133 = .ok (.invokevirtual 55, 3) := dk_182 0 55 (dk_at dksX7_read_5 19 rfl rfl)
theorem dX7_read_136 : decode cX7_read 136 = .ok (.aload_n 0, 1) := dk_42 (dk_at dksX7_read_5 22 rfl rfl)
theorem dX7_read_137 : decode cX7_read 137 = .ok (.bipush 59, 2) := dk_16 59 (dk_at dksX7_read_6 0 rfl rfl)
theorem dX7_read_139 : decode cX7_read 139 = .ok (.invokevirtual 59, 3) := dk_182 0 59 (dk_at dksX7_read_6 2 rfl rfl)
theorem dX7_read_142 : decode cX7_read 142 = .ok (.iinc 3 1, 3) := dk_132 3 1 (dk_at dksX7_read_6 5 rfl rfl)
theorem dX7_read_145 : decode cX7_read 145 = .ok (.goto (-124), 3) := dk_167 255 132 (dk_at dksX7_read_6 8 rfl rfl)
theorem dX7_read_148 : decode cX7_read 148 = .ok (.iload_n 3, 1) := dk_29 (dk_at dksX7_read_6 11 rfl rfl)
theorem dX7_read_149 : decode cX7_read 149 = .ok (.ireturn, 1) := dk_172 (dk_at dksX7_read_6 12 rfl rfl)
abbrev cX7_readLine : ByteArray := prog_18_method_3_code
def yX7_readLine : MethodName := ⟨RX7, "readLine", "(I)V"⟩
def dkwX7_readLine_8 : List UInt8 := [182, 0, 52, 167, 255, 154, 177]
abbrev dktX7_readLine_8 : List UInt8 := dkwX7_readLine_8 ++ []
def dkwX7_readLine_7 : List UInt8 := [180, 0, 88, 42, 180, 0, 92, 28, 96, 51, 16, 97, 100, 182, 0, 95, 132, 2, 1, 167, 255, 214, 42]
abbrev dktX7_readLine_7 : List UInt8 := dkwX7_readLine_7 ++ dktX7_readLine_8
def dkwX7_readLine_6 : List UInt8 := [61, 28, 42, 180, 0, 85, 162, 0, 40, 42, 180, 0, 19, 42, 180, 0, 19, 182, 0, 81, 42, 180, 0, 3]
abbrev dktX7_readLine_6 : List UInt8 := dkwX7_readLine_6 ++ dktX7_readLine_7
def dkwX7_readLine_5 : List UInt8 := [182, 0, 81, 42, 180, 0, 85, 96, 17, 0, 200, 163, 0, 7, 4, 167, 0, 4, 3, 7, 182, 0, 43, 3]
abbrev dktX7_readLine_5 : List UInt8 := dkwX7_readLine_5 ++ dktX7_readLine_6
def dkwX7_readLine_4 : List UInt8 := [160, 0, 100, 42, 42, 16, 97, 16, 104, 16, 97, 182, 0, 77, 5, 182, 0, 43, 42, 42, 180, 0, 19]
abbrev dktX7_readLine_4 : List UInt8 := dkwX7_readLine_4 ++ dktX7_readLine_5
def dkwX7_readLine_3 : List UInt8 := [182, 0, 69, 167, 0, 120, 42, 182, 0, 74, 167, 0, 113, 42, 4, 181, 0, 23, 42, 180, 0, 31, 4]
abbrev dktX7_readLine_3 : List UInt8 := dkwX7_readLine_3 ++ dktX7_readLine_4
def dkwX7_readLine_2 : List UInt8 := [42, 180, 0, 15, 42, 7, 16, 32, 182, 0, 62, 181, 0, 66, 42, 180, 0, 19, 42, 180, 0, 15]
abbrev dktX7_readLine_2 : List UInt8 := dkwX7_readLine_2 ++ dktX7_readLine_3
def dkwX7_readLine_1 : List UInt8 := [171, 0, 0, 0, 0, 0, 62, 0, 0, 0, 2, 0, 0, 0, 0, 0, 0, 0, 27, 0, 0, 0, 1, 0, 0, 0, 55]
abbrev dktX7_readLine_1 : List UInt8 := dkwX7_readLine_1 ++ dktX7_readLine_2
def dkwX7_readLine_0 : List UInt8 := [27]
abbrev dktX7_readLine_0 : List UInt8 := dkwX7_readLine_0 ++ dktX7_readLine_1
theorem dksX7_readLine_0 : cX7_readLine.data.toList.drop 0 = dktX7_readLine_0 := by decide +kernel
theorem dksX7_readLine_1 : cX7_readLine.data.toList.drop 1 = dktX7_readLine_1 := dk_seg dksX7_readLine_0 1 rfl rfl
theorem dksX7_readLine_2 : cX7_readLine.data.toList.drop 28 = dktX7_readLine_2 := dk_seg dksX7_readLine_1 27 rfl rfl
theorem dksX7_readLine_3 : cX7_readLine.data.toList.drop 50 = dktX7_readLine_3 := dk_seg dksX7_readLine_2 22 rfl rfl
theorem dksX7_readLine_4 : cX7_readLine.data.toList.drop 73 = dktX7_readLine_4 := dk_seg dksX7_readLine_3 23 rfl rfl
theorem dksX7_readLine_5 : cX7_readLine.data.toList.drop 96 = dktX7_readLine_5 := dk_seg dksX7_readLine_4 23 rfl rfl
theorem dksX7_readLine_6 : cX7_readLine.data.toList.drop 120 = dktX7_readLine_6 := dk_seg dksX7_readLine_5 24 rfl rfl
theorem dksX7_readLine_7 : cX7_readLine.data.toList.drop 144 = dktX7_readLine_7 := dk_seg dksX7_readLine_6 24 rfl rfl
theorem dksX7_readLine_8 : cX7_readLine.data.toList.drop 167 = dktX7_readLine_8 := dk_seg dksX7_readLine_7 23 rfl rfl
theorem dX7_readLine_0 : decode cX7_readLine 0 = .ok (.iload_n 1, 1) := dk_27 (dk_at dksX7_readLine_0 0 rfl rfl)
theorem dX7_readLine_1 : decode cX7_readLine 1 = .ok (.lookupswitch 62 #[(0, 27), (1, 55)], 27) := by decide +kernel
theorem dX7_readLine_28 : decode cX7_readLine 28 = .ok (.aload_n 0, 1) := dk_42 (dk_at dksX7_readLine_2 0 rfl rfl)
theorem dX7_readLine_29 : decode cX7_readLine 29 = .ok (.getfield 15, 3) := dk_180 0 15 (dk_at dksX7_readLine_2 1 rfl rfl)
theorem dX7_readLine_32 : decode cX7_readLine 32 = .ok (.aload_n 0, 1) := dk_42 (dk_at dksX7_readLine_2 4 rfl rfl)
theorem dX7_readLine_33 : decode cX7_readLine 33 = .ok (.iconst 4, 1) := dk_7 (dk_at dksX7_readLine_2 5 rfl rfl)
theorem dX7_readLine_34 : decode cX7_readLine 34 = .ok (.bipush 32, 2) := dk_16 32 (dk_at dksX7_readLine_2 6 rfl rfl)
theorem dX7_readLine_36 : decode cX7_readLine 36 = .ok (.invokevirtual 62, 3) := dk_182 0 62 (dk_at dksX7_readLine_2 8 rfl rfl)
theorem dX7_readLine_39 : decode cX7_readLine 39 = .ok (.putfield 66, 3) := dk_181 0 66 (dk_at dksX7_readLine_2 11 rfl rfl)
theorem dX7_readLine_42 : decode cX7_readLine 42 = .ok (.aload_n 0, 1) := dk_42 (dk_at dksX7_readLine_2 14 rfl rfl)
theorem dX7_readLine_43 : decode cX7_readLine 43 = .ok (.getfield 19, 3) := dk_180 0 19 (dk_at dksX7_readLine_2 15 rfl rfl)
theorem dX7_readLine_46 : decode cX7_readLine 46 = .ok (.aload_n 0, 1) := dk_42 (dk_at dksX7_readLine_2 18 rfl rfl)
theorem dX7_readLine_47 : decode cX7_readLine 47 = .ok (.getfield 15, 3) := dk_180 0 15 (dk_at dksX7_readLine_2 19 rfl rfl)
theorem dX7_readLine_50 : decode cX7_readLine 50 = .ok (.invokevirtual 69, 3) := dk_182 0 69 (dk_at dksX7_readLine_3 0 rfl rfl)
theorem dX7_readLine_53 : decode cX7_readLine 53 = .ok (.goto 120, 3) := dk_167 0 120 (dk_at dksX7_readLine_3 3 rfl rfl)
theorem dX7_readLine_56 : decode cX7_readLine 56 = .ok (.aload_n 0, 1) := dk_42 (dk_at dksX7_readLine_3 6 rfl rfl)
theorem dX7_readLine_57 : decode cX7_readLine 57 = .ok (.invokevirtual 74, 3) := dk_182 0 74 (dk_at dksX7_readLine_3 7 rfl rfl)
theorem dX7_readLine_60 : decode cX7_readLine 60 = .ok (.goto 113, 3) := dk_167 0 113 (dk_at dksX7_readLine_3 10 rfl rfl)
theorem dX7_readLine_63 : decode cX7_readLine 63 = .ok (.aload_n 0, 1) := dk_42 (dk_at dksX7_readLine_3 13 rfl rfl)
theorem dX7_readLine_64 : decode cX7_readLine 64 = .ok (.iconst 1, 1) := dk_4 (dk_at dksX7_readLine_3 14 rfl rfl)
theorem dX7_readLine_65 : decode cX7_readLine 65 = .ok (.putfield 23, 3) := dk_181 0 23 (dk_at dksX7_readLine_3 15 rfl rfl)
theorem dX7_readLine_68 : decode cX7_readLine 68 = .ok (.aload_n 0, 1) := dk_42 (dk_at dksX7_readLine_3 18 rfl rfl)
theorem dX7_readLine_69 : decode cX7_readLine 69 = .ok (.getfield 31, 3) := dk_180 0 31 (dk_at dksX7_readLine_3 19 rfl rfl)
theorem dX7_readLine_72 : decode cX7_readLine 72 = .ok (.iconst 1, 1) := dk_4 (dk_at dksX7_readLine_3 22 rfl rfl)
theorem dX7_readLine_73 : decode cX7_readLine 73 = .ok (.if_icmp .ne 100, 3) := dk_160 0 100 (dk_at dksX7_readLine_4 0 rfl rfl)
theorem dX7_readLine_76 : decode cX7_readLine 76 = .ok (.aload_n 0, 1) := dk_42 (dk_at dksX7_readLine_4 3 rfl rfl)
theorem dX7_readLine_77 : decode cX7_readLine 77 = .ok (.aload_n 0, 1) := dk_42 (dk_at dksX7_readLine_4 4 rfl rfl)
theorem dX7_readLine_78 : decode cX7_readLine 78 = .ok (.bipush 97, 2) := dk_16 97 (dk_at dksX7_readLine_4 5 rfl rfl)
theorem dX7_readLine_80 : decode cX7_readLine 80 = .ok (.bipush 104, 2) := dk_16 104 (dk_at dksX7_readLine_4 7 rfl rfl)
theorem dX7_readLine_82 : decode cX7_readLine 82 = .ok (.bipush 97, 2) := dk_16 97 (dk_at dksX7_readLine_4 9 rfl rfl)
theorem dX7_readLine_84 : decode cX7_readLine 84 = .ok (.invokevirtual 77, 3) := dk_182 0 77 (dk_at dksX7_readLine_4 11 rfl rfl)
theorem dX7_readLine_87 : decode cX7_readLine 87 = .ok (.iconst 2, 1) := dk_5 (dk_at dksX7_readLine_4 14 rfl rfl)
theorem dX7_readLine_88 : decode cX7_readLine 88 = .ok (.invokevirtual 43, 3) := dk_182 0 43 (dk_at dksX7_readLine_4 15 rfl rfl)
theorem dX7_readLine_91 : decode cX7_readLine 91 = .ok (.aload_n 0, 1) := dk_42 (dk_at dksX7_readLine_4 18 rfl rfl)
theorem dX7_readLine_92 : decode cX7_readLine 92 = .ok (.aload_n 0, 1) := dk_42 (dk_at dksX7_readLine_4 19 rfl rfl)
theorem dX7_readLine_93 : decode cX7_readLine 93 = .ok (.getfield 19, 3) := dk_180 0 19 (dk_at dksX7_readLine_4 20 rfl rfl)
theorem dX7_readLine_96 : decode cX7_readLine 96 = .ok (.invokevirtual 81, 3) := dk_182 0 81 (dk_at dksX7_readLine_5 0 rfl rfl)
theorem dX7_readLine_99 : decode cX7_readLine 99 = .ok (.aload_n 0, 1) := dk_42 (dk_at dksX7_readLine_5 3 rfl rfl)
theorem dX7_readLine_100 : decode cX7_readLine 100 = .ok (.getfield 85, 3) := dk_180 0 85 (dk_at dksX7_readLine_5 4 rfl rfl)
theorem dX7_readLine_103 : decode cX7_readLine 103 = .ok (.iadd, 1) := dk_96 (dk_at dksX7_readLine_5 7 rfl rfl)
theorem dX7_readLine_104 : decode cX7_readLine 104 = .ok (.sipush 200, 3) := dk_17 0 200 (dk_at dksX7_readLine_5 8 rfl rfl)
theorem dX7_readLine_107 : decode cX7_readLine 107 = .ok (.if_icmp .gt 7, 3) := dk_163 0 7 (dk_at dksX7_readLine_5 11 rfl rfl)
theorem dX7_readLine_110 : decode cX7_readLine 110 = .ok (.iconst 1, 1) := dk_4 (dk_at dksX7_readLine_5 14 rfl rfl)
theorem dX7_readLine_111 : decode cX7_readLine 111 = .ok (.goto 4, 3) := dk_167 0 4 (dk_at dksX7_readLine_5 15 rfl rfl)
theorem dX7_readLine_114 : decode cX7_readLine 114 = .ok (.iconst 0, 1) := dk_3 (dk_at dksX7_readLine_5 18 rfl rfl)
theorem dX7_readLine_115 : decode cX7_readLine 115 = .ok (.iconst 4, 1) := dk_7 (dk_at dksX7_readLine_5 19 rfl rfl)
theorem dX7_readLine_116 : decode cX7_readLine 116 = .ok (.invokevirtual 43, 3) := dk_182 0 43 (dk_at dksX7_readLine_5 20 rfl rfl)
theorem dX7_readLine_119 : decode cX7_readLine 119 = .ok (.iconst 0, 1) := dk_3 (dk_at dksX7_readLine_5 23 rfl rfl)
theorem dX7_readLine_120 : decode cX7_readLine 120 = .ok (.istore_n 2, 1) := dk_61 (dk_at dksX7_readLine_6 0 rfl rfl)
theorem dX7_readLine_121 : decode cX7_readLine 121 = .ok (.iload_n 2, 1) := dk_28 (dk_at dksX7_readLine_6 1 rfl rfl)
theorem dX7_readLine_122 : decode cX7_readLine 122 = .ok (.aload_n 0, 1) := dk_42 (dk_at dksX7_readLine_6 2 rfl rfl)
theorem dX7_readLine_123 : decode cX7_readLine 123 = .ok (.getfield 85, 3) := dk_180 0 85 (dk_at dksX7_readLine_6 3 rfl rfl)
theorem dX7_readLine_126 : decode cX7_readLine 126 = .ok (.if_icmp .ge 40, 3) := dk_162 0 40 (dk_at dksX7_readLine_6 6 rfl rfl)
theorem dX7_readLine_129 : decode cX7_readLine 129 = .ok (.aload_n 0, 1) := dk_42 (dk_at dksX7_readLine_6 9 rfl rfl)
theorem dX7_readLine_130 : decode cX7_readLine 130 = .ok (.getfield 19, 3) := dk_180 0 19 (dk_at dksX7_readLine_6 10 rfl rfl)
theorem dX7_readLine_133 : decode cX7_readLine 133 = .ok (.aload_n 0, 1) := dk_42 (dk_at dksX7_readLine_6 13 rfl rfl)
theorem dX7_readLine_134 : decode cX7_readLine 134 = .ok (.getfield 19, 3) := dk_180 0 19 (dk_at dksX7_readLine_6 14 rfl rfl)
theorem dX7_readLine_137 : decode cX7_readLine 137 = .ok (.invokevirtual 81, 3) := dk_182 0 81 (dk_at dksX7_readLine_6 17 rfl rfl)
theorem dX7_readLine_140 : decode cX7_readLine 140 = .ok (.aload_n 0, 1) := dk_42 (dk_at dksX7_readLine_6 20 rfl rfl)
theorem dX7_readLine_141 : decode cX7_readLine 141 = .ok (.getfield 3, 3) := dk_180 0 3 (dk_at dksX7_readLine_6 21 rfl rfl)
theorem dX7_readLine_144 : decode cX7_readLine 144 = .ok (.getfield 88, 3) := dk_180 0 88 (dk_at dksX7_readLine_7 0 rfl rfl)
theorem dX7_readLine_147 : decode cX7_readLine 147 = .ok (.aload_n 0, 1) := dk_42 (dk_at dksX7_readLine_7 3 rfl rfl)
theorem dX7_readLine_148 : decode cX7_readLine 148 = .ok (.getfield 92, 3) := dk_180 0 92 (dk_at dksX7_readLine_7 4 rfl rfl)
theorem dX7_readLine_151 : decode cX7_readLine 151 = .ok (.iload_n 2, 1) := dk_28 (dk_at dksX7_readLine_7 7 rfl rfl)
theorem dX7_readLine_152 : decode cX7_readLine 152 = .ok (.iadd, 1) := dk_96 (dk_at dksX7_readLine_7 8 rfl rfl)
theorem dX7_readLine_153 : decode cX7_readLine 153 = .ok (.baload, 1) := dk_51 (dk_at dksX7_readLine_7 9 rfl rfl)
theorem dX7_readLine_154 : decode cX7_readLine 154 = .ok (.bipush 97, 2) := dk_16 97 (dk_at dksX7_readLine_7 10 rfl rfl)
theorem dX7_readLine_156 : decode cX7_readLine 156 = .ok (.isub, 1) := dk_100 (dk_at dksX7_readLine_7 12 rfl rfl)
theorem dX7_readLine_157 : decode cX7_readLine 157 = .ok (.invokevirtual 95, 3) := dk_182 0 95 (dk_at dksX7_readLine_7 13 rfl rfl)
theorem dX7_readLine_160 : decode cX7_readLine 160 = .ok (.iinc 2 1, 3) := dk_132 2 1 (dk_at dksX7_readLine_7 16 rfl rfl)
theorem dX7_readLine_163 : decode cX7_readLine 163 = .ok (.goto (-42), 3) := dk_167 255 214 (dk_at dksX7_readLine_7 19 rfl rfl)
theorem dX7_readLine_166 : decode cX7_readLine 166 = .ok (.aload_n 0, 1) := dk_42 (dk_at dksX7_readLine_7 22 rfl rfl)
theorem dX7_readLine_167 : decode cX7_readLine 167 = .ok (.invokevirtual 52, 3) := dk_182 0 52 (dk_at dksX7_readLine_8 0 rfl rfl)
theorem dX7_readLine_170 : decode cX7_readLine 170 = .ok (.goto (-102), 3) := dk_167 255 154 (dk_at dksX7_readLine_8 3 rfl rfl)
theorem dX7_readLine_173 : decode cX7_readLine 173 = .ok (.return_, 1) := dk_177 (dk_at dksX7_readLine_8 6 rfl rfl)
abbrev cX7_readRow : ByteArray := prog_18_method_5_code
def yX7_readRow : MethodName := ⟨RX7, "readRow", "()V"⟩
def dkwX7_readRow_8 : List UInt8 := [167, 255, 197, 42, 182, 0, 52, 167, 255, 132, 42, 180, 0, 15, 89, 180, 0, 47, 4, 96, 181, 0, 47, 177]
abbrev dktX7_readRow_8 : List UInt8 := dkwX7_readRow_8 ++ []
def dkwX7_readRow_7 : List UInt8 := [42, 180, 0, 92, 28, 96, 51, 16, 105, 160, 0, 7, 4, 167, 0, 4, 3, 182, 0, 127, 132, 2, 1]
abbrev dktX7_readRow_7 : List UInt8 := dkwX7_readRow_7 ++ dktX7_readRow_8
def dkwX7_readRow_6 : List UInt8 := [180, 0, 118, 27, 50, 42, 180, 0, 19, 180, 0, 118, 27, 50, 182, 0, 122, 42, 180, 0, 3, 180, 0, 88]
abbrev dktX7_readRow_6 : List UInt8 := dkwX7_readRow_6 ++ dktX7_readRow_7
def dkwX7_readRow_5 : List UInt8 := [167, 0, 4, 3, 7, 182, 0, 43, 3, 61, 28, 42, 180, 0, 85, 162, 0, 57, 42, 180, 0, 19]
abbrev dktX7_readRow_5 : List UInt8 := dkwX7_readRow_5 ++ dktX7_readRow_6
def dkwX7_readRow_4 : List UInt8 := [180, 0, 19, 180, 0, 118, 27, 50, 182, 0, 122, 42, 180, 0, 85, 96, 17, 2, 88, 163, 0, 7, 4]
abbrev dktX7_readRow_4 : List UInt8 := dkwX7_readRow_4 ++ dktX7_readRow_5
def dkwX7_readRow_3 : List UInt8 := [180, 0, 31, 4, 160, 0, 122, 42, 42, 16, 105, 16, 105, 16, 111, 182, 0, 77, 5, 182, 0, 43, 42, 42]
abbrev dktX7_readRow_3 : List UInt8 := dkwX7_readRow_3 ++ dktX7_readRow_4
def dkwX7_readRow_2 : List UInt8 := [180, 0, 47, 60, 42, 180, 0, 15, 180, 0, 106, 27, 42, 180, 0, 114, 80, 42, 182, 0, 52, 42]
abbrev dktX7_readRow_2 : List UInt8 := dkwX7_readRow_2 ++ dktX7_readRow_3
def dkwX7_readRow_1 : List UInt8 := [180, 0, 47, 182, 0, 110, 2, 160, 0, 7, 4, 167, 0, 4, 3, 6, 182, 0, 43, 42, 180, 0, 15]
abbrev dktX7_readRow_1 : List UInt8 := dkwX7_readRow_1 ++ dktX7_readRow_2
def dkwX7_readRow_0 : List UInt8 := [42, 42, 182, 0, 102, 4, 182, 0, 43, 42, 42, 42, 180, 0, 15, 180, 0, 106, 42, 180, 0, 15]
abbrev dktX7_readRow_0 : List UInt8 := dkwX7_readRow_0 ++ dktX7_readRow_1
theorem dksX7_readRow_0 : cX7_readRow.data.toList.drop 0 = dktX7_readRow_0 := by decide +kernel
theorem dksX7_readRow_1 : cX7_readRow.data.toList.drop 22 = dktX7_readRow_1 := dk_seg dksX7_readRow_0 22 rfl rfl
theorem dksX7_readRow_2 : cX7_readRow.data.toList.drop 45 = dktX7_readRow_2 := dk_seg dksX7_readRow_1 23 rfl rfl
theorem dksX7_readRow_3 : cX7_readRow.data.toList.drop 67 = dktX7_readRow_3 := dk_seg dksX7_readRow_2 22 rfl rfl
theorem dksX7_readRow_4 : cX7_readRow.data.toList.drop 91 = dktX7_readRow_4 := dk_seg dksX7_readRow_3 24 rfl rfl
theorem dksX7_readRow_5 : cX7_readRow.data.toList.drop 114 = dktX7_readRow_5 := dk_seg dksX7_readRow_4 23 rfl rfl
theorem dksX7_readRow_6 : cX7_readRow.data.toList.drop 136 = dktX7_readRow_6 := dk_seg dksX7_readRow_5 22 rfl rfl
theorem dksX7_readRow_7 : cX7_readRow.data.toList.drop 160 = dktX7_readRow_7 := dk_seg dksX7_readRow_6 24 rfl rfl
theorem dksX7_readRow_8 : cX7_readRow.data.toList.drop 183 = dktX7_readRow_8 := dk_seg dksX7_readRow_7 23 rfl rfl
theorem dX7_readRow_0 : decode cX7_readRow 0 = .ok (.aload_n 0, 1) := dk_42 (dk_at dksX7_readRow_0 0 rfl rfl)
theorem dX7_readRow_1 : decode cX7_readRow 1 = .ok (.aload_n 0, 1) := dk_42 (dk_at dksX7_readRow_0 1 rfl rfl)
theorem dX7_readRow_2 : decode cX7_readRow 2 = .ok (.invokevirtual 102, 3) := dk_182 0 102 (dk_at dksX7_readRow_0 2 rfl rfl)
theorem dX7_readRow_5 : decode cX7_readRow 5 = .ok (.iconst 1, 1) := dk_4 (dk_at dksX7_readRow_0 5 rfl rfl)
theorem dX7_readRow_6 : decode cX7_readRow 6 = .ok (.invokevirtual 43, 3) := dk_182 0 43 (dk_at dksX7_readRow_0 6 rfl rfl)
theorem dX7_readRow_9 : decode cX7_readRow 9 = .ok (.aload_n 0, 1) := dk_42 (dk_at dksX7_readRow_0 9 rfl rfl)
theorem dX7_readRow_10 : decode cX7_readRow 10 = .ok (.aload_n 0, 1) := dk_42 (dk_at dksX7_readRow_0 10 rfl rfl)
theorem dX7_readRow_11 : decode cX7_readRow 11 = .ok (.aload_n 0, 1) := dk_42 (dk_at dksX7_readRow_0 11 rfl rfl)
theorem dX7_readRow_12 : decode cX7_readRow 12 = .ok (.getfield 15, 3) := dk_180 0 15 (dk_at dksX7_readRow_0 12 rfl rfl)
theorem dX7_readRow_15 : decode cX7_readRow 15 = .ok (.getfield 106, 3) := dk_180 0 106 (dk_at dksX7_readRow_0 15 rfl rfl)
theorem dX7_readRow_18 : decode cX7_readRow 18 = .ok (.aload_n 0, 1) := dk_42 (dk_at dksX7_readRow_0 18 rfl rfl)
theorem dX7_readRow_19 : decode cX7_readRow 19 = .ok (.getfield 15, 3) := dk_180 0 15 (dk_at dksX7_readRow_0 19 rfl rfl)
theorem dX7_readRow_22 : decode cX7_readRow 22 = .ok (.getfield 47, 3) := dk_180 0 47 (dk_at dksX7_readRow_1 0 rfl rfl)
theorem dX7_readRow_25 : decode cX7_readRow 25 = .ok (.invokevirtual 110, 3) := dk_182 0 110 (dk_at dksX7_readRow_1 3 rfl rfl)
theorem dX7_readRow_28 : decode cX7_readRow 28 = .ok (.iconst (-1), 1) := dk_2 (dk_at dksX7_readRow_1 6 rfl rfl)
theorem dX7_readRow_29 : decode cX7_readRow 29 = .ok (.if_icmp .ne 7, 3) := dk_160 0 7 (dk_at dksX7_readRow_1 7 rfl rfl)
theorem dX7_readRow_32 : decode cX7_readRow 32 = .ok (.iconst 1, 1) := dk_4 (dk_at dksX7_readRow_1 10 rfl rfl)
theorem dX7_readRow_33 : decode cX7_readRow 33 = .ok (.goto 4, 3) := dk_167 0 4 (dk_at dksX7_readRow_1 11 rfl rfl)
theorem dX7_readRow_36 : decode cX7_readRow 36 = .ok (.iconst 0, 1) := dk_3 (dk_at dksX7_readRow_1 14 rfl rfl)
theorem dX7_readRow_37 : decode cX7_readRow 37 = .ok (.iconst 3, 1) := dk_6 (dk_at dksX7_readRow_1 15 rfl rfl)
theorem dX7_readRow_38 : decode cX7_readRow 38 = .ok (.invokevirtual 43, 3) := dk_182 0 43 (dk_at dksX7_readRow_1 16 rfl rfl)
theorem dX7_readRow_41 : decode cX7_readRow 41 = .ok (.aload_n 0, 1) := dk_42 (dk_at dksX7_readRow_1 19 rfl rfl)
theorem dX7_readRow_42 : decode cX7_readRow 42 = .ok (.getfield 15, 3) := dk_180 0 15 (dk_at dksX7_readRow_1 20 rfl rfl)
theorem dX7_readRow_45 : decode cX7_readRow 45 = .ok (.getfield 47, 3) := dk_180 0 47 (dk_at dksX7_readRow_2 0 rfl rfl)
theorem dX7_readRow_48 : decode cX7_readRow 48 = .ok (.istore_n 1, 1) := dk_60 (dk_at dksX7_readRow_2 3 rfl rfl)
theorem dX7_readRow_49 : decode cX7_readRow 49 = .ok (.aload_n 0, 1) := dk_42 (dk_at dksX7_readRow_2 4 rfl rfl)
theorem dX7_readRow_50 : decode cX7_readRow 50 = .ok (.getfield 15, 3) := dk_180 0 15 (dk_at dksX7_readRow_2 5 rfl rfl)
theorem dX7_readRow_53 : decode cX7_readRow 53 = .ok (.getfield 106, 3) := dk_180 0 106 (dk_at dksX7_readRow_2 8 rfl rfl)
theorem dX7_readRow_56 : decode cX7_readRow 56 = .ok (.iload_n 1, 1) := dk_27 (dk_at dksX7_readRow_2 11 rfl rfl)
theorem dX7_readRow_57 : decode cX7_readRow 57 = .ok (.aload_n 0, 1) := dk_42 (dk_at dksX7_readRow_2 12 rfl rfl)
theorem dX7_readRow_58 : decode cX7_readRow 58 = .ok (.getfield 114, 3) := dk_180 0 114 (dk_at dksX7_readRow_2 13 rfl rfl)
theorem dX7_readRow_61 : decode cX7_readRow 61 = .ok (.lastore, 1) := dk_80 (dk_at dksX7_readRow_2 16 rfl rfl)
theorem dX7_readRow_62 : decode cX7_readRow 62 = .ok (.aload_n 0, 1) := dk_42 (dk_at dksX7_readRow_2 17 rfl rfl)
theorem dX7_readRow_63 : decode cX7_readRow 63 = .ok (.invokevirtual 52, 3) := dk_182 0 52 (dk_at dksX7_readRow_2 18 rfl rfl)
theorem dX7_readRow_66 : decode cX7_readRow 66 = .ok (.aload_n 0, 1) := dk_42 (dk_at dksX7_readRow_2 21 rfl rfl)
theorem dX7_readRow_67 : decode cX7_readRow 67 = .ok (.getfield 31, 3) := dk_180 0 31 (dk_at dksX7_readRow_3 0 rfl rfl)
theorem dX7_readRow_70 : decode cX7_readRow 70 = .ok (.iconst 1, 1) := dk_4 (dk_at dksX7_readRow_3 3 rfl rfl)
theorem dX7_readRow_71 : decode cX7_readRow 71 = .ok (.if_icmp .ne 122, 3) := dk_160 0 122 (dk_at dksX7_readRow_3 4 rfl rfl)
theorem dX7_readRow_74 : decode cX7_readRow 74 = .ok (.aload_n 0, 1) := dk_42 (dk_at dksX7_readRow_3 7 rfl rfl)
theorem dX7_readRow_75 : decode cX7_readRow 75 = .ok (.aload_n 0, 1) := dk_42 (dk_at dksX7_readRow_3 8 rfl rfl)
theorem dX7_readRow_76 : decode cX7_readRow 76 = .ok (.bipush 105, 2) := dk_16 105 (dk_at dksX7_readRow_3 9 rfl rfl)
theorem dX7_readRow_78 : decode cX7_readRow 78 = .ok (.bipush 105, 2) := dk_16 105 (dk_at dksX7_readRow_3 11 rfl rfl)
theorem dX7_readRow_80 : decode cX7_readRow 80 = .ok (.bipush 111, 2) := dk_16 111 (dk_at dksX7_readRow_3 13 rfl rfl)
theorem dX7_readRow_82 : decode cX7_readRow 82 = .ok (.invokevirtual 77, 3) := dk_182 0 77 (dk_at dksX7_readRow_3 15 rfl rfl)
theorem dX7_readRow_85 : decode cX7_readRow 85 = .ok (.iconst 2, 1) := dk_5 (dk_at dksX7_readRow_3 18 rfl rfl)
theorem dX7_readRow_86 : decode cX7_readRow 86 = .ok (.invokevirtual 43, 3) := dk_182 0 43 (dk_at dksX7_readRow_3 19 rfl rfl)
theorem dX7_readRow_89 : decode cX7_readRow 89 = .ok (.aload_n 0, 1) := dk_42 (dk_at dksX7_readRow_3 22 rfl rfl)
theorem dX7_readRow_90 : decode cX7_readRow 90 = .ok (.aload_n 0, 1) := dk_42 (dk_at dksX7_readRow_3 23 rfl rfl)
theorem dX7_readRow_91 : decode cX7_readRow 91 = .ok (.getfield 19, 3) := dk_180 0 19 (dk_at dksX7_readRow_4 0 rfl rfl)
theorem dX7_readRow_94 : decode cX7_readRow 94 = .ok (.getfield 118, 3) := dk_180 0 118 (dk_at dksX7_readRow_4 3 rfl rfl)
theorem dX7_readRow_97 : decode cX7_readRow 97 = .ok (.iload_n 1, 1) := dk_27 (dk_at dksX7_readRow_4 6 rfl rfl)
theorem dX7_readRow_98 : decode cX7_readRow 98 = .ok (.aaload, 1) := dk_50 (dk_at dksX7_readRow_4 7 rfl rfl)
theorem dX7_readRow_99 : decode cX7_readRow 99 = .ok (.invokevirtual 122, 3) := dk_182 0 122 (dk_at dksX7_readRow_4 8 rfl rfl)
theorem dX7_readRow_102 : decode cX7_readRow 102 = .ok (.aload_n 0, 1) := dk_42 (dk_at dksX7_readRow_4 11 rfl rfl)
theorem dX7_readRow_103 : decode cX7_readRow 103 = .ok (.getfield 85, 3) := dk_180 0 85 (dk_at dksX7_readRow_4 12 rfl rfl)
theorem dX7_readRow_106 : decode cX7_readRow 106 = .ok (.iadd, 1) := dk_96 (dk_at dksX7_readRow_4 15 rfl rfl)
theorem dX7_readRow_107 : decode cX7_readRow 107 = .ok (.sipush 600, 3) := dk_17 2 88 (dk_at dksX7_readRow_4 16 rfl rfl)
theorem dX7_readRow_110 : decode cX7_readRow 110 = .ok (.if_icmp .gt 7, 3) := dk_163 0 7 (dk_at dksX7_readRow_4 19 rfl rfl)
theorem dX7_readRow_113 : decode cX7_readRow 113 = .ok (.iconst 1, 1) := dk_4 (dk_at dksX7_readRow_4 22 rfl rfl)
theorem dX7_readRow_114 : decode cX7_readRow 114 = .ok (.goto 4, 3) := dk_167 0 4 (dk_at dksX7_readRow_5 0 rfl rfl)
theorem dX7_readRow_117 : decode cX7_readRow 117 = .ok (.iconst 0, 1) := dk_3 (dk_at dksX7_readRow_5 3 rfl rfl)
theorem dX7_readRow_118 : decode cX7_readRow 118 = .ok (.iconst 4, 1) := dk_7 (dk_at dksX7_readRow_5 4 rfl rfl)
theorem dX7_readRow_119 : decode cX7_readRow 119 = .ok (.invokevirtual 43, 3) := dk_182 0 43 (dk_at dksX7_readRow_5 5 rfl rfl)
theorem dX7_readRow_122 : decode cX7_readRow 122 = .ok (.iconst 0, 1) := dk_3 (dk_at dksX7_readRow_5 8 rfl rfl)
theorem dX7_readRow_123 : decode cX7_readRow 123 = .ok (.istore_n 2, 1) := dk_61 (dk_at dksX7_readRow_5 9 rfl rfl)
theorem dX7_readRow_124 : decode cX7_readRow 124 = .ok (.iload_n 2, 1) := dk_28 (dk_at dksX7_readRow_5 10 rfl rfl)
theorem dX7_readRow_125 : decode cX7_readRow 125 = .ok (.aload_n 0, 1) := dk_42 (dk_at dksX7_readRow_5 11 rfl rfl)
theorem dX7_readRow_126 : decode cX7_readRow 126 = .ok (.getfield 85, 3) := dk_180 0 85 (dk_at dksX7_readRow_5 12 rfl rfl)
theorem dX7_readRow_129 : decode cX7_readRow 129 = .ok (.if_icmp .ge 57, 3) := dk_162 0 57 (dk_at dksX7_readRow_5 15 rfl rfl)
theorem dX7_readRow_132 : decode cX7_readRow 132 = .ok (.aload_n 0, 1) := dk_42 (dk_at dksX7_readRow_5 18 rfl rfl)
theorem dX7_readRow_133 : decode cX7_readRow 133 = .ok (.getfield 19, 3) := dk_180 0 19 (dk_at dksX7_readRow_5 19 rfl rfl)
theorem dX7_readRow_136 : decode cX7_readRow 136 = .ok (.getfield 118, 3) := dk_180 0 118 (dk_at dksX7_readRow_6 0 rfl rfl)
theorem dX7_readRow_139 : decode cX7_readRow 139 = .ok (.iload_n 1, 1) := dk_27 (dk_at dksX7_readRow_6 3 rfl rfl)
theorem dX7_readRow_140 : decode cX7_readRow 140 = .ok (.aaload, 1) := dk_50 (dk_at dksX7_readRow_6 4 rfl rfl)
theorem dX7_readRow_141 : decode cX7_readRow 141 = .ok (.aload_n 0, 1) := dk_42 (dk_at dksX7_readRow_6 5 rfl rfl)
theorem dX7_readRow_142 : decode cX7_readRow 142 = .ok (.getfield 19, 3) := dk_180 0 19 (dk_at dksX7_readRow_6 6 rfl rfl)
theorem dX7_readRow_145 : decode cX7_readRow 145 = .ok (.getfield 118, 3) := dk_180 0 118 (dk_at dksX7_readRow_6 9 rfl rfl)
theorem dX7_readRow_148 : decode cX7_readRow 148 = .ok (.iload_n 1, 1) := dk_27 (dk_at dksX7_readRow_6 12 rfl rfl)
theorem dX7_readRow_149 : decode cX7_readRow 149 = .ok (.aaload, 1) := dk_50 (dk_at dksX7_readRow_6 13 rfl rfl)
theorem dX7_readRow_150 : decode cX7_readRow 150 = .ok (.invokevirtual 122, 3) := dk_182 0 122 (dk_at dksX7_readRow_6 14 rfl rfl)
theorem dX7_readRow_153 : decode cX7_readRow 153 = .ok (.aload_n 0, 1) := dk_42 (dk_at dksX7_readRow_6 17 rfl rfl)
theorem dX7_readRow_154 : decode cX7_readRow 154 = .ok (.getfield 3, 3) := dk_180 0 3 (dk_at dksX7_readRow_6 18 rfl rfl)
theorem dX7_readRow_157 : decode cX7_readRow 157 = .ok (.getfield 88, 3) := dk_180 0 88 (dk_at dksX7_readRow_6 21 rfl rfl)
theorem dX7_readRow_160 : decode cX7_readRow 160 = .ok (.aload_n 0, 1) := dk_42 (dk_at dksX7_readRow_7 0 rfl rfl)
theorem dX7_readRow_161 : decode cX7_readRow 161 = .ok (.getfield 92, 3) := dk_180 0 92 (dk_at dksX7_readRow_7 1 rfl rfl)
theorem dX7_readRow_164 : decode cX7_readRow 164 = .ok (.iload_n 2, 1) := dk_28 (dk_at dksX7_readRow_7 4 rfl rfl)
theorem dX7_readRow_165 : decode cX7_readRow 165 = .ok (.iadd, 1) := dk_96 (dk_at dksX7_readRow_7 5 rfl rfl)
theorem dX7_readRow_166 : decode cX7_readRow 166 = .ok (.baload, 1) := dk_51 (dk_at dksX7_readRow_7 6 rfl rfl)
theorem dX7_readRow_167 : decode cX7_readRow 167 = .ok (.bipush 105, 2) := dk_16 105 (dk_at dksX7_readRow_7 7 rfl rfl)
theorem dX7_readRow_169 : decode cX7_readRow 169 = .ok (.if_icmp .ne 7, 3) := dk_160 0 7 (dk_at dksX7_readRow_7 9 rfl rfl)
theorem dX7_readRow_172 : decode cX7_readRow 172 = .ok (.iconst 1, 1) := dk_4 (dk_at dksX7_readRow_7 12 rfl rfl)
theorem dX7_readRow_173 : decode cX7_readRow 173 = .ok (.goto 4, 3) := dk_167 0 4 (dk_at dksX7_readRow_7 13 rfl rfl)
theorem dX7_readRow_176 : decode cX7_readRow 176 = .ok (.iconst 0, 1) := dk_3 (dk_at dksX7_readRow_7 16 rfl rfl)
theorem dX7_readRow_177 : decode cX7_readRow 177 = .ok (.invokevirtual 127, 3) := dk_182 0 127 (dk_at dksX7_readRow_7 17 rfl rfl)
theorem dX7_readRow_180 : decode cX7_readRow 180 = .ok (.iinc 2 1, 3) := dk_132 2 1 (dk_at dksX7_readRow_7 20 rfl rfl)
theorem dX7_readRow_183 : decode cX7_readRow 183 = .ok (.goto (-59), 3) := dk_167 255 197 (dk_at dksX7_readRow_8 0 rfl rfl)
theorem dX7_readRow_186 : decode cX7_readRow 186 = .ok (.aload_n 0, 1) := dk_42 (dk_at dksX7_readRow_8 3 rfl rfl)
theorem dX7_readRow_187 : decode cX7_readRow 187 = .ok (.invokevirtual 52, 3) := dk_182 0 52 (dk_at dksX7_readRow_8 4 rfl rfl)
theorem dX7_readRow_190 : decode cX7_readRow 190 = .ok (.goto (-124), 3) := dk_167 255 132 (dk_at dksX7_readRow_8 7 rfl rfl)
theorem dX7_readRow_193 : decode cX7_readRow 193 = .ok (.aload_n 0, 1) := dk_42 (dk_at dksX7_readRow_8 10 rfl rfl)
theorem dX7_readRow_194 : decode cX7_readRow 194 = .ok (.getfield 15, 3) := dk_180 0 15 (dk_at dksX7_readRow_8 11 rfl rfl)
theorem dX7_readRow_197 : decode cX7_readRow 197 = .ok (.dup, 1) := dk_89 (dk_at dksX7_readRow_8 14 rfl rfl)
theorem dX7_readRow_198 : decode cX7_readRow 198 = .ok (.getfield 47, 3) := dk_180 0 47 (dk_at dksX7_readRow_8 15 rfl rfl)
theorem dX7_readRow_201 : decode cX7_readRow 201 = .ok (.iconst 1, 1) := dk_4 (dk_at dksX7_readRow_8 18 rfl rfl)
theorem dX7_readRow_202 : decode cX7_readRow 202 = .ok (.iadd, 1) := dk_96 (dk_at dksX7_readRow_8 19 rfl rfl)
theorem dX7_readRow_203 : decode cX7_readRow 203 = .ok (.putfield 47, 3) := dk_181 0 47 (dk_at dksX7_readRow_8 20 rfl rfl)
theorem dX7_readRow_206 : decode cX7_readRow 206 = .ok (.return_, 1) := dk_177 (dk_at dksX7_readRow_8 23 rfl rfl)
abbrev cX7_isOf : ByteArray := prog_18_method_4_code
def yX7_isOf : MethodName := ⟨RX7, "isOf", "(III)Z"⟩
def dkwX7_isOf_2 : List UInt8 := [21, 4, 96, 51, 29, 159, 0, 5, 3, 172, 132, 4, 1, 167, 255, 200, 4, 172]
abbrev dktX7_isOf_2 : List UInt8 := dkwX7_isOf_2 ++ []
def dkwX7_isOf_1 : List UInt8 := [21, 4, 96, 51, 27, 28, 184, 0, 99, 154, 0, 24, 42, 180, 0, 3, 180, 0, 88, 42, 180, 0, 92]
abbrev dktX7_isOf_1 : List UInt8 := dkwX7_isOf_1 ++ dktX7_isOf_2
def dkwX7_isOf_0 : List UInt8 := [3, 54, 4, 21, 4, 42, 180, 0, 85, 162, 0, 53, 42, 180, 0, 3, 180, 0, 88, 42, 180, 0, 92]
abbrev dktX7_isOf_0 : List UInt8 := dkwX7_isOf_0 ++ dktX7_isOf_1
theorem dksX7_isOf_0 : cX7_isOf.data.toList.drop 0 = dktX7_isOf_0 := by decide +kernel
theorem dksX7_isOf_1 : cX7_isOf.data.toList.drop 23 = dktX7_isOf_1 := dk_seg dksX7_isOf_0 23 rfl rfl
theorem dksX7_isOf_2 : cX7_isOf.data.toList.drop 46 = dktX7_isOf_2 := dk_seg dksX7_isOf_1 23 rfl rfl
theorem dX7_isOf_0 : decode cX7_isOf 0 = .ok (.iconst 0, 1) := dk_3 (dk_at dksX7_isOf_0 0 rfl rfl)
theorem dX7_isOf_1 : decode cX7_isOf 1 = .ok (.istore 4, 2) := dk_54 4 (dk_at dksX7_isOf_0 1 rfl rfl)
theorem dX7_isOf_3 : decode cX7_isOf 3 = .ok (.iload 4, 2) := dk_21 4 (dk_at dksX7_isOf_0 3 rfl rfl)
theorem dX7_isOf_5 : decode cX7_isOf 5 = .ok (.aload_n 0, 1) := dk_42 (dk_at dksX7_isOf_0 5 rfl rfl)
theorem dX7_isOf_6 : decode cX7_isOf 6 = .ok (.getfield 85, 3) := dk_180 0 85 (dk_at dksX7_isOf_0 6 rfl rfl)
theorem dX7_isOf_9 : decode cX7_isOf 9 = .ok (.if_icmp .ge 53, 3) := dk_162 0 53 (dk_at dksX7_isOf_0 9 rfl rfl)
theorem dX7_isOf_12 : decode cX7_isOf 12 = .ok (.aload_n 0, 1) := dk_42 (dk_at dksX7_isOf_0 12 rfl rfl)
theorem dX7_isOf_13 : decode cX7_isOf 13 = .ok (.getfield 3, 3) := dk_180 0 3 (dk_at dksX7_isOf_0 13 rfl rfl)
theorem dX7_isOf_16 : decode cX7_isOf 16 = .ok (.getfield 88, 3) := dk_180 0 88 (dk_at dksX7_isOf_0 16 rfl rfl)
theorem dX7_isOf_19 : decode cX7_isOf 19 = .ok (.aload_n 0, 1) := dk_42 (dk_at dksX7_isOf_0 19 rfl rfl)
theorem dX7_isOf_20 : decode cX7_isOf 20 = .ok (.getfield 92, 3) := dk_180 0 92 (dk_at dksX7_isOf_0 20 rfl rfl)
theorem dX7_isOf_23 : decode cX7_isOf 23 = .ok (.iload 4, 2) := dk_21 4 (dk_at dksX7_isOf_1 0 rfl rfl)
theorem dX7_isOf_25 : decode cX7_isOf 25 = .ok (.iadd, 1) := dk_96 (dk_at dksX7_isOf_1 2 rfl rfl)
theorem dX7_isOf_26 : decode cX7_isOf 26 = .ok (.baload, 1) := dk_51 (dk_at dksX7_isOf_1 3 rfl rfl)
theorem dX7_isOf_27 : decode cX7_isOf 27 = .ok (.iload_n 1, 1) := dk_27 (dk_at dksX7_isOf_1 4 rfl rfl)
theorem dX7_isOf_28 : decode cX7_isOf 28 = .ok (.iload_n 2, 1) := dk_28 (dk_at dksX7_isOf_1 5 rfl rfl)
theorem dX7_isOf_29 : decode cX7_isOf 29 = .ok (.invokestatic 99, 3) := dk_184 0 99 (dk_at dksX7_isOf_1 6 rfl rfl)
theorem dX7_isOf_32 : decode cX7_isOf 32 = .ok (.ifCond .ne 24, 3) := dk_154 0 24 (dk_at dksX7_isOf_1 9 rfl rfl)
theorem dX7_isOf_35 : decode cX7_isOf 35 = .ok (.aload_n 0, 1) := dk_42 (dk_at dksX7_isOf_1 12 rfl rfl)
theorem dX7_isOf_36 : decode cX7_isOf 36 = .ok (.getfield 3, 3) := dk_180 0 3 (dk_at dksX7_isOf_1 13 rfl rfl)
theorem dX7_isOf_39 : decode cX7_isOf 39 = .ok (.getfield 88, 3) := dk_180 0 88 (dk_at dksX7_isOf_1 16 rfl rfl)
theorem dX7_isOf_42 : decode cX7_isOf 42 = .ok (.aload_n 0, 1) := dk_42 (dk_at dksX7_isOf_1 19 rfl rfl)
theorem dX7_isOf_43 : decode cX7_isOf 43 = .ok (.getfield 92, 3) := dk_180 0 92 (dk_at dksX7_isOf_1 20 rfl rfl)
theorem dX7_isOf_46 : decode cX7_isOf 46 = .ok (.iload 4, 2) := dk_21 4 (dk_at dksX7_isOf_2 0 rfl rfl)
theorem dX7_isOf_48 : decode cX7_isOf 48 = .ok (.iadd, 1) := dk_96 (dk_at dksX7_isOf_2 2 rfl rfl)
theorem dX7_isOf_49 : decode cX7_isOf 49 = .ok (.baload, 1) := dk_51 (dk_at dksX7_isOf_2 3 rfl rfl)
theorem dX7_isOf_50 : decode cX7_isOf 50 = .ok (.iload_n 3, 1) := dk_29 (dk_at dksX7_isOf_2 4 rfl rfl)
theorem dX7_isOf_51 : decode cX7_isOf 51 = .ok (.if_icmp .eq 5, 3) := dk_159 0 5 (dk_at dksX7_isOf_2 5 rfl rfl)
theorem dX7_isOf_54 : decode cX7_isOf 54 = .ok (.iconst 0, 1) := dk_3 (dk_at dksX7_isOf_2 8 rfl rfl)
theorem dX7_isOf_55 : decode cX7_isOf 55 = .ok (.ireturn, 1) := dk_172 (dk_at dksX7_isOf_2 9 rfl rfl)
theorem dX7_isOf_56 : decode cX7_isOf 56 = .ok (.iinc 4 1, 3) := dk_132 4 1 (dk_at dksX7_isOf_2 10 rfl rfl)
theorem dX7_isOf_59 : decode cX7_isOf 59 = .ok (.goto (-56), 3) := dk_167 255 200 (dk_at dksX7_isOf_2 13 rfl rfl)
theorem dX7_isOf_62 : decode cX7_isOf 62 = .ok (.iconst 1, 1) := dk_4 (dk_at dksX7_isOf_2 16 rfl rfl)
theorem dX7_isOf_63 : decode cX7_isOf 63 = .ok (.ireturn, 1) := dk_172 (dk_at dksX7_isOf_2 17 rfl rfl)
theorem q118 : (Jvm.Cond.initialized "BitRopes$RoomReade\x72") ∈ lw_all := lw_g (lw_at lw_m1 9 rfl) rfl
theorem q256 : (Jvm.Cond.fieldLinkNest "BitRopes$RoomReade\x72" (106 : Nat) "BitRopes$Room" "names" "[J" "BitRopes") ∈ lw_tbl := lw_at lw_m1 147 rfl
theorem q259 : (Jvm.Cond.fieldLinkNest "BitRopes$RoomReade\x72" (47 : Nat) "BitRopes$Room" "rows" "I" "BitRopes") ∈ lw_tbl := lw_at lw_m1 150 rfl
theorem q265 : (Jvm.Cond.fieldLinkNest "BitRopes$RoomReade\x72" (66 : Nat) "BitRopes$Room" "low" "I" "BitRopes") ∈ lw_tbl := lw_at lw_m1 156 rfl
theorem q322 : (Jvm.Cond.fieldLinkNest "BitRopes$RoomReade\x72" (118 : Nat) "BitRopes$State" "rope" "[LBitRopes$Rope;" "BitRopes") ∈ lw_tbl := lw_at lw_m1 213 rfl
theorem q339 : (Jvm.Cond.instantiable "BitRopes$RoomReade\x72" (12 : Nat)) ∈ lw_all := lw_g (lw_at lw_m1 230 rfl) rfl
theorem q341 : (Jvm.Cond.instanceMethod ({ cls := "BitRopes$RoomReade\x72", name := "<init>", desc := "(LBitRopes;)V" } : Jvm.MethodName)) ∈ lw_all := lw_g (lw_at lw_m1 232 rfl) rfl
theorem q342 : (Jvm.Cond.code ({ cls := "BitRopes$RoomReade\x72", name := "<init>", desc := "(LBitRopes;)V" } : Jvm.MethodName) prog_18_method_1_code (2 : Nat) (Option.none : Option Jvm.ClassFile.FieldType)) ∈ lw_all := lw_g (lw_at lw_m1 233 rfl) rfl
theorem q343 : (Jvm.Cond.methodLink "BitRopes$RoomReade\x72" (9 : Nat) ({ cls := "BitRopes$Reade\x72", name := "<init>", desc := "(LBitRopes;I)V" } : Jvm.MethodName)) ∈ lw_all := lw_g (lw_at lw_m1 234 rfl) rfl
theorem q347 : (Jvm.Cond.fieldLink "BitRopes$RoomReade\x72" (15 : Nat) "BitRopes$RoomReade\x72" "c" "LBitRopes$Room;") ∈ lw_all := lw_g (lw_at lw_m1 238 rfl) rfl
theorem q348 : (Jvm.Cond.fieldLink "BitRopes$RoomReade\x72" (19 : Nat) "BitRopes$RoomReade\x72" "z" "LBitRopes$State;") ∈ lw_all := lw_g (lw_at lw_m1 239 rfl) rfl
theorem q349 : (Jvm.Cond.fieldLink "BitRopes$RoomReade\x72" (23 : Nat) "BitRopes$RoomReade\x72" "hasLetters" "Z") ∈ lw_all := lw_g (lw_at lw_m2 0 rfl) rfl
theorem q350 : (Jvm.Cond.fieldLink "BitRopes$RoomReade\x72" (3 : Nat) "BitRopes$RoomReade\x72" "this$0" "LBitRopes;") ∈ lw_all := lw_g (lw_at lw_m2 1 rfl) rfl
theorem q353 : (Jvm.Cond.fieldLink "BitRopes$RoomReade\x72" (92 : Nat) "BitRopes$RoomReade\x72" "at" "I") ∈ lw_all := lw_g (lw_at lw_m2 4 rfl) rfl
theorem q354 : (Jvm.Cond.sameField "BitRopes$RoomReade\x72" "BitRopes$Reade\x72" "at" "I") ∈ lw_all := lw_g (lw_at lw_m2 5 rfl) rfl
theorem q360 : (Jvm.Cond.fieldLink "BitRopes$RoomReade\x72" (31 : Nat) "BitRopes$RoomReade\x72" "token" "I") ∈ lw_all := lw_g (lw_at lw_m2 11 rfl) rfl
theorem q361 : (Jvm.Cond.sameField "BitRopes$RoomReade\x72" "BitRopes$Reade\x72" "token" "I") ∈ lw_all := lw_g (lw_at lw_m2 12 rfl) rfl
theorem q366 : (Jvm.Cond.fieldLink "BitRopes$RoomReade\x72" (85 : Nat) "BitRopes$RoomReade\x72" "many" "I") ∈ lw_all := lw_g (lw_at lw_m2 17 rfl) rfl
theorem q367 : (Jvm.Cond.sameField "BitRopes$RoomReade\x72" "BitRopes$Reade\x72" "many" "I") ∈ lw_all := lw_g (lw_at lw_m2 18 rfl) rfl
theorem q369 : (Jvm.Cond.fieldLink "BitRopes$RoomReade\x72" (114 : Nat) "BitRopes$RoomReade\x72" "name" "J") ∈ lw_all := lw_g (lw_at lw_m2 20 rfl) rfl
theorem q370 : (Jvm.Cond.sameField "BitRopes$RoomReade\x72" "BitRopes$Reade\x72" "name" "J") ∈ lw_all := lw_g (lw_at lw_m2 21 rfl) rfl
theorem q373 : (Jvm.Cond.lays "BitRopes$RoomReade\x72" "BitRopes$RoomReade\x72" "c" "LBitRopes$Room;") ∈ lw_all := lw_g (lw_at lw_m2 24 rfl) rfl
theorem q374 : (Jvm.Cond.soleField "BitRopes$RoomReade\x72" "c") ∈ lw_all := lw_g (lw_at lw_m2 25 rfl) rfl
theorem q375 : (Jvm.Cond.lays "BitRopes$RoomReade\x72" "BitRopes$RoomReade\x72" "z" "LBitRopes$State;") ∈ lw_all := lw_g (lw_at lw_m2 26 rfl) rfl
theorem q376 : (Jvm.Cond.soleField "BitRopes$RoomReade\x72" "z") ∈ lw_all := lw_g (lw_at lw_m2 27 rfl) rfl
theorem q377 : (Jvm.Cond.lays "BitRopes$RoomReade\x72" "BitRopes$RoomReade\x72" "hasLetters" "Z") ∈ lw_all := lw_g (lw_at lw_m2 28 rfl) rfl
theorem q378 : (Jvm.Cond.soleField "BitRopes$RoomReade\x72" "hasLetters") ∈ lw_all := lw_g (lw_at lw_m2 29 rfl) rfl
theorem q379 : (Jvm.Cond.laysFinal "BitRopes$RoomReade\x72" "BitRopes$RoomReade\x72" "this$0" "LBitRopes;") ∈ lw_all := lw_g (lw_at lw_m2 30 rfl) rfl
theorem q380 : (Jvm.Cond.soleField "BitRopes$RoomReade\x72" "this$0") ∈ lw_all := lw_g (lw_at lw_m2 31 rfl) rfl
theorem q381 : (Jvm.Cond.laysFinal "BitRopes$RoomReade\x72" "BitRopes$Reade\x72" "most" "I") ∈ lw_all := lw_g (lw_at lw_m2 32 rfl) rfl
theorem q383 : (Jvm.Cond.lays "BitRopes$RoomReade\x72" "BitRopes$Reade\x72" "p" "I") ∈ lw_all := lw_g (lw_at lw_m2 34 rfl) rfl
theorem q385 : (Jvm.Cond.lays "BitRopes$RoomReade\x72" "BitRopes$Reade\x72" "at" "I") ∈ lw_all := lw_g (lw_at lw_m2 36 rfl) rfl
theorem q387 : (Jvm.Cond.lays "BitRopes$RoomReade\x72" "BitRopes$Reade\x72" "token" "I") ∈ lw_all := lw_g (lw_at lw_m2 38 rfl) rfl
theorem q389 : (Jvm.Cond.lays "BitRopes$RoomReade\x72" "BitRopes$Reade\x72" "value" "I") ∈ lw_all := lw_g (lw_at lw_m2 40 rfl) rfl
theorem q391 : (Jvm.Cond.lays "BitRopes$RoomReade\x72" "BitRopes$Reade\x72" "many" "I") ∈ lw_all := lw_g (lw_at lw_m2 42 rfl) rfl
theorem q393 : (Jvm.Cond.lays "BitRopes$RoomReade\x72" "BitRopes$Reade\x72" "name" "J") ∈ lw_all := lw_g (lw_at lw_m2 44 rfl) rfl
theorem q395 : (Jvm.Cond.laysFinal "BitRopes$RoomReade\x72" "BitRopes$Reade\x72" "this$0" "LBitRopes;") ∈ lw_all := lw_g (lw_at lw_m2 46 rfl) rfl
theorem q397 : (Jvm.Cond.superclass "BitRopes$RoomReade\x72" "BitRopes$Reade\x72") ∈ lw_all := lw_g (lw_at lw_m2 48 rfl) rfl
theorem q496 : (Jvm.Cond.fieldLinkNest "BitRopes$RoomReade\x72" (88 : Nat) "BitRopes" "tape" "[B" "BitRopes") ∈ lw_tbl := lw_at lw_m2 147 rfl
theorem q503 : (Jvm.Cond.fieldLinkNest "BitRopes$RoomReade\x72" (35 : Nat) "BitRopes" "lines" "[Ljava/lang/String;" "BitRopes") ∈ lw_tbl := lw_at lw_m2 154 rfl
theorem q588 : (Jvm.Cond.instanceMethod ({ cls := "BitRopes$RoomReade\x72", name := "read", desc := "(LBitRopes$Room;LBitRopes$State;)I" } : Jvm.MethodName)) ∈ lw_all := lw_g (lw_at lw_m2 239 rfl) rfl
theorem q589 : (Jvm.Cond.selects "BitRopes$RoomReade\x72" ({ cls := "BitRopes$RoomReade\x72", name := "read", desc := "(LBitRopes$Room;LBitRopes$State;)I" } : Jvm.MethodName) ({ cls := "BitRopes$RoomReade\x72", name := "read", desc := "(LBitRopes$Room;LBitRopes$State;)I" } : Jvm.MethodName)) ∈ lw_all := lw_g (lw_at lw_m3 0 rfl) rfl
theorem q590 : (Jvm.Cond.code ({ cls := "BitRopes$RoomReade\x72", name := "read", desc := "(LBitRopes$Room;LBitRopes$State;)I" } : Jvm.MethodName) prog_18_method_2_code (5 : Nat) (Option.some Jvm.ClassFile.FieldType.int)) ∈ lw_all := lw_g (lw_at lw_m3 1 rfl) rfl
theorem q591 : (Jvm.Cond.methodLink "BitRopes$RoomReade\x72" (27 : Nat) ({ cls := "BitRopes$RoomReade\x72", name := "begin", desc := "()V" } : Jvm.MethodName)) ∈ lw_all := lw_g (lw_at lw_m3 2 rfl) rfl
theorem q592 : (Jvm.Cond.sameMethod "BitRopes$RoomReade\x72" "BitRopes$Reade\x72" "begin" "()V") ∈ lw_all := lw_g (lw_at lw_m3 3 rfl) rfl
theorem q594 : (Jvm.Cond.selects "BitRopes$RoomReade\x72" ({ cls := "BitRopes$RoomReade\x72", name := "begin", desc := "()V" } : Jvm.MethodName) ({ cls := "BitRopes$Reade\x72", name := "begin", desc := "()V" } : Jvm.MethodName)) ∈ lw_all := lw_g (lw_at lw_m3 5 rfl) rfl
theorem q601 : (Jvm.Cond.selects "BitRopes$RoomReade\x72" ({ cls := "BitRopes$Reade\x72", name := "next", desc := "()V" } : Jvm.MethodName) ({ cls := "BitRopes$Reade\x72", name := "next", desc := "()V" } : Jvm.MethodName)) ∈ lw_all := lw_g (lw_at lw_m3 12 rfl) rfl
theorem q623 : (Jvm.Cond.methodLink "BitRopes$RoomReade\x72" (39 : Nat) ({ cls := "BitRopes$RoomReade\x72", name := "find", desc := "([Ljava/lang/String;)I" } : Jvm.MethodName)) ∈ lw_all := lw_g (lw_at lw_m3 34 rfl) rfl
theorem q624 : (Jvm.Cond.sameMethod "BitRopes$RoomReade\x72" "BitRopes$Reade\x72" "find" "([Ljava/lang/String;)I") ∈ lw_all := lw_g (lw_at lw_m3 35 rfl) rfl
theorem q626 : (Jvm.Cond.selects "BitRopes$RoomReade\x72" ({ cls := "BitRopes$RoomReade\x72", name := "find", desc := "([Ljava/lang/String;)I" } : Jvm.MethodName) ({ cls := "BitRopes$Reade\x72", name := "find", desc := "([Ljava/lang/String;)I" } : Jvm.MethodName)) ∈ lw_all := lw_g (lw_at lw_m3 37 rfl) rfl
theorem q633 : (Jvm.Cond.selects "BitRopes$RoomReade\x72" ({ cls := "BitRopes$Reade\x72", name := "is", desc := "(Ljava/lang/String;)Z" } : Jvm.MethodName) ({ cls := "BitRopes$Reade\x72", name := "is", desc := "(Ljava/lang/String;)Z" } : Jvm.MethodName)) ∈ lw_all := lw_g (lw_at lw_m3 44 rfl) rfl
theorem q684 : (Jvm.Cond.methodLink "BitRopes$RoomReade\x72" (43 : Nat) ({ cls := "BitRopes$RoomReade\x72", name := "must", desc := "(ZI)V" } : Jvm.MethodName)) ∈ lw_all := lw_g (lw_at lw_m3 95 rfl) rfl
theorem q685 : (Jvm.Cond.sameMethod "BitRopes$RoomReade\x72" "BitRopes$Reade\x72" "must" "(ZI)V") ∈ lw_all := lw_g (lw_at lw_m3 96 rfl) rfl
theorem q687 : (Jvm.Cond.selects "BitRopes$RoomReade\x72" ({ cls := "BitRopes$RoomReade\x72", name := "must", desc := "(ZI)V" } : Jvm.MethodName) ({ cls := "BitRopes$Reade\x72", name := "must", desc := "(ZI)V" } : Jvm.MethodName)) ∈ lw_all := lw_g (lw_at lw_m3 98 rfl) rfl
theorem q694 : (Jvm.Cond.selects "BitRopes$RoomReade\x72" ({ cls := "BitRopes$Reade\x72", name := "wrong", desc := "(I)LBitRopes$Fault;" } : Jvm.MethodName) ({ cls := "BitRopes$Reade\x72", name := "wrong", desc := "(I)LBitRopes$Fault;" } : Jvm.MethodName)) ∈ lw_all := lw_g (lw_at lw_m3 105 rfl) rfl
theorem q697 : (Jvm.Cond.methodLink "BitRopes$RoomReade\x72" (52 : Nat) ({ cls := "BitRopes$RoomReade\x72", name := "next", desc := "()V" } : Jvm.MethodName)) ∈ lw_all := lw_g (lw_at lw_m3 108 rfl) rfl
theorem q698 : (Jvm.Cond.sameMethod "BitRopes$RoomReade\x72" "BitRopes$Reade\x72" "next" "()V") ∈ lw_all := lw_g (lw_at lw_m3 109 rfl) rfl
theorem q700 : (Jvm.Cond.selects "BitRopes$RoomReade\x72" ({ cls := "BitRopes$RoomReade\x72", name := "next", desc := "()V" } : Jvm.MethodName) ({ cls := "BitRopes$Reade\x72", name := "next", desc := "()V" } : Jvm.MethodName)) ∈ lw_all := lw_g (lw_at lw_m3 111 rfl) rfl
theorem q701 : (Jvm.Cond.methodLink "BitRopes$RoomReade\x72" (55 : Nat) ({ cls := "BitRopes$RoomReade\x72", name := "readLine", desc := "(I)V" } : Jvm.MethodName)) ∈ lw_all := lw_g (lw_at lw_m3 112 rfl) rfl
theorem q702 : (Jvm.Cond.privateMethod ({ cls := "BitRopes$RoomReade\x72", name := "readLine", desc := "(I)V" } : Jvm.MethodName)) ∈ lw_tbl := lw_at lw_m3 113 rfl
theorem q703 : (Jvm.Cond.instanceMethod ({ cls := "BitRopes$RoomReade\x72", name := "readLine", desc := "(I)V" } : Jvm.MethodName)) ∈ lw_all := lw_g (lw_at lw_m3 114 rfl) rfl
theorem q704 : (Jvm.Cond.code ({ cls := "BitRopes$RoomReade\x72", name := "readLine", desc := "(I)V" } : Jvm.MethodName) prog_18_method_3_code (3 : Nat) (Option.none : Option Jvm.ClassFile.FieldType)) ∈ lw_all := lw_g (lw_at lw_m3 115 rfl) rfl
theorem q705 : (Jvm.Cond.methodLink "BitRopes$RoomReade\x72" (62 : Nat) ({ cls := "BitRopes$RoomReade\x72", name := "numbe\x72", desc := "(II)I" } : Jvm.MethodName)) ∈ lw_all := lw_g (lw_at lw_m3 116 rfl) rfl
theorem q706 : (Jvm.Cond.sameMethod "BitRopes$RoomReade\x72" "BitRopes$Reade\x72" "numbe\x72" "(II)I") ∈ lw_all := lw_g (lw_at lw_m3 117 rfl) rfl
theorem q708 : (Jvm.Cond.selects "BitRopes$RoomReade\x72" ({ cls := "BitRopes$RoomReade\x72", name := "numbe\x72", desc := "(II)I" } : Jvm.MethodName) ({ cls := "BitRopes$Reade\x72", name := "numbe\x72", desc := "(II)I" } : Jvm.MethodName)) ∈ lw_all := lw_g (lw_at lw_m3 119 rfl) rfl
theorem q712 : (Jvm.Cond.methodLink "BitRopes$RoomReade\x72" (69 : Nat) ({ cls := "BitRopes$State", name := "begin", desc := "(LBitRopes$Room;)V" } : Jvm.MethodName)) ∈ lw_all := lw_g (lw_at lw_m3 123 rfl) rfl
theorem q713 : (Jvm.Cond.methodLink "BitRopes$RoomReade\x72" (74 : Nat) ({ cls := "BitRopes$RoomReade\x72", name := "readRow", desc := "()V" } : Jvm.MethodName)) ∈ lw_all := lw_g (lw_at lw_m3 124 rfl) rfl
theorem q714 : (Jvm.Cond.privateMethod ({ cls := "BitRopes$RoomReade\x72", name := "readRow", desc := "()V" } : Jvm.MethodName)) ∈ lw_tbl := lw_at lw_m3 125 rfl
theorem q715 : (Jvm.Cond.instanceMethod ({ cls := "BitRopes$RoomReade\x72", name := "readRow", desc := "()V" } : Jvm.MethodName)) ∈ lw_all := lw_g (lw_at lw_m3 126 rfl) rfl
theorem q716 : (Jvm.Cond.code ({ cls := "BitRopes$RoomReade\x72", name := "readRow", desc := "()V" } : Jvm.MethodName) prog_18_method_5_code (3 : Nat) (Option.none : Option Jvm.ClassFile.FieldType)) ∈ lw_all := lw_g (lw_at lw_m3 127 rfl) rfl
theorem q717 : (Jvm.Cond.methodLink "BitRopes$RoomReade\x72" (102 : Nat) ({ cls := "BitRopes$RoomReade\x72", name := "isName", desc := "()Z" } : Jvm.MethodName)) ∈ lw_all := lw_g (lw_at lw_m3 128 rfl) rfl
theorem q718 : (Jvm.Cond.sameMethod "BitRopes$RoomReade\x72" "BitRopes$Reade\x72" "isName" "()Z") ∈ lw_all := lw_g (lw_at lw_m3 129 rfl) rfl
theorem q720 : (Jvm.Cond.selects "BitRopes$RoomReade\x72" ({ cls := "BitRopes$RoomReade\x72", name := "isName", desc := "()Z" } : Jvm.MethodName) ({ cls := "BitRopes$Reade\x72", name := "isName", desc := "()Z" } : Jvm.MethodName)) ∈ lw_all := lw_g (lw_at lw_m3 131 rfl) rfl
theorem q724 : (Jvm.Cond.methodLink "BitRopes$RoomReade\x72" (110 : Nat) ({ cls := "BitRopes$RoomReade\x72", name := "of", desc := "([JI)I" } : Jvm.MethodName)) ∈ lw_all := lw_g (lw_at lw_m3 135 rfl) rfl
theorem q725 : (Jvm.Cond.sameMethod "BitRopes$RoomReade\x72" "BitRopes$Reade\x72" "of" "([JI)I") ∈ lw_all := lw_g (lw_at lw_m3 136 rfl) rfl
theorem q727 : (Jvm.Cond.selects "BitRopes$RoomReade\x72" ({ cls := "BitRopes$RoomReade\x72", name := "of", desc := "([JI)I" } : Jvm.MethodName) ({ cls := "BitRopes$Reade\x72", name := "of", desc := "([JI)I" } : Jvm.MethodName)) ∈ lw_all := lw_g (lw_at lw_m3 138 rfl) rfl
theorem q730 : (Jvm.Cond.methodLink "BitRopes$RoomReade\x72" (77 : Nat) ({ cls := "BitRopes$RoomReade\x72", name := "isOf", desc := "(III)Z" } : Jvm.MethodName)) ∈ lw_all := lw_g (lw_at lw_m3 141 rfl) rfl
theorem q731 : (Jvm.Cond.privateMethod ({ cls := "BitRopes$RoomReade\x72", name := "isOf", desc := "(III)Z" } : Jvm.MethodName)) ∈ lw_tbl := lw_at lw_m3 142 rfl
theorem q732 : (Jvm.Cond.instanceMethod ({ cls := "BitRopes$RoomReade\x72", name := "isOf", desc := "(III)Z" } : Jvm.MethodName)) ∈ lw_all := lw_g (lw_at lw_m3 143 rfl) rfl
theorem q733 : (Jvm.Cond.code ({ cls := "BitRopes$RoomReade\x72", name := "isOf", desc := "(III)Z" } : Jvm.MethodName) prog_18_method_4_code (5 : Nat) (Option.some Jvm.ClassFile.FieldType.boolean)) ∈ lw_all := lw_g (lw_at lw_m3 144 rfl) rfl
theorem q734 : (Jvm.Cond.methodLinkNest "BitRopes$RoomReade\x72" (99 : Nat) ({ cls := "BitRopes", name := "isIn", desc := "(III)Z" } : Jvm.MethodName) "BitRopes") ∈ lw_tbl := lw_at lw_m3 145 rfl
theorem q735 : (Jvm.Cond.methodLink "BitRopes$RoomReade\x72" (122 : Nat) ({ cls := "BitRopes$Rope", name := "wide", desc := "()I" } : Jvm.MethodName)) ∈ lw_all := lw_g (lw_at lw_m3 146 rfl) rfl
theorem q739 : (Jvm.Cond.methodLink "BitRopes$RoomReade\x72" (127 : Nat) ({ cls := "BitRopes$Rope", name := "insert", desc := "(II)V" } : Jvm.MethodName)) ∈ lw_all := lw_g (lw_at lw_m3 150 rfl) rfl
theorem q852 : (Jvm.Cond.methodLink "BitRopes$RoomReade\x72" (81 : Nat) ({ cls := "BitRopes$State", name := "typed", desc := "()I" } : Jvm.MethodName)) ∈ lw_all := lw_g (lw_at lw_m4 23 rfl) rfl
theorem q857 : (Jvm.Cond.methodLinkNest "BitRopes$RoomReade\x72" (95 : Nat) ({ cls := "BitRopes$State", name := "types", desc := "(II)V" } : Jvm.MethodName) "BitRopes") ∈ lw_tbl := lw_at lw_m4 28 rfl
theorem q875 : (Jvm.Cond.methodLink "BitRopes$RoomReade\x72" (59 : Nat) ({ cls := "BitRopes$RoomReade\x72", name := "sign", desc := "(I)V" } : Jvm.MethodName)) ∈ lw_all := lw_g (lw_at lw_m4 46 rfl) rfl
theorem q876 : (Jvm.Cond.sameMethod "BitRopes$RoomReade\x72" "BitRopes$Reade\x72" "sign" "(I)V") ∈ lw_all := lw_g (lw_at lw_m4 47 rfl) rfl
theorem q878 : (Jvm.Cond.selects "BitRopes$RoomReade\x72" ({ cls := "BitRopes$RoomReade\x72", name := "sign", desc := "(I)V" } : Jvm.MethodName) ({ cls := "BitRopes$Reade\x72", name := "sign", desc := "(I)V" } : Jvm.MethodName)) ∈ lw_all := lw_g (lw_at lw_m4 49 rfl) rfl
theorem q885 : (Jvm.Cond.selects "BitRopes$RoomReade\x72" ({ cls := "BitRopes$Reade\x72", name := "is", desc := "(I)Z" } : Jvm.MethodName) ({ cls := "BitRopes$Reade\x72", name := "is", desc := "(I)Z" } : Jvm.MethodName)) ∈ lw_all := lw_g (lw_at lw_m4 56 rfl) rfl
theorem q1331 : (Jvm.Cond.selects "BitRopes$RoomReade\x72" ({ cls := "BitRopes$Reade\x72", name := "look", desc := "([JI)I" } : Jvm.MethodName) ({ cls := "BitRopes$Reade\x72", name := "look", desc := "([JI)I" } : Jvm.MethodName)) ∈ lw_all := lw_g (lw_at lw_m6 22 rfl) rfl
theorem q2308 : (Jvm.Cond.selects "BitRopes$RoomReade\x72" ({ cls := "BitRopes$Reade\x72", name := "must", desc := "(ZI)V" } : Jvm.MethodName) ({ cls := "BitRopes$Reade\x72", name := "must", desc := "(ZI)V" } : Jvm.MethodName)) ∈ lw_all := lw_g (lw_at lw_m10 39 rfl) rfl
theorem q2312 : (Jvm.Cond.selects "BitRopes$RoomReade\x72" ({ cls := "BitRopes$Reade\x72", name := "find", desc := "([Ljava/lang/String;)I" } : Jvm.MethodName) ({ cls := "BitRopes$Reade\x72", name := "find", desc := "([Ljava/lang/String;)I" } : Jvm.MethodName)) ∈ lw_all := lw_g (lw_at lw_m10 43 rfl) rfl
theorem q2316 : (Jvm.Cond.selects "BitRopes$RoomReade\x72" ({ cls := "BitRopes$Reade\x72", name := "isName", desc := "()Z" } : Jvm.MethodName) ({ cls := "BitRopes$Reade\x72", name := "isName", desc := "()Z" } : Jvm.MethodName)) ∈ lw_all := lw_g (lw_at lw_m10 47 rfl) rfl
theorem q2320 : (Jvm.Cond.selects "BitRopes$RoomReade\x72" ({ cls := "BitRopes$Reade\x72", name := "of", desc := "([JI)I" } : Jvm.MethodName) ({ cls := "BitRopes$Reade\x72", name := "of", desc := "([JI)I" } : Jvm.MethodName)) ∈ lw_all := lw_g (lw_at lw_m10 51 rfl) rfl
theorem q2328 : (Jvm.Cond.castable "BitRopes$RoomReade\x72" "java/lang/Object") ∈ lw_tbl := lw_at lw_m10 59 rfl
theorem in_X7 : ∀ w ∈ wsX70, w ∈ lw_all := lw_in wsX70 [381, 383, 385, 387, 389, 391, 393, 395, 373, 375, 377, 379] (by decide +kernel) (by decide +kernel)

/-! BitRopes$BookReader -/
set_option maxRecDepth 100000
def RX8 : String := "BitRopes$BookReade\x72"
def TX8 : u_T := fun k => match k with
  | 0 => ("BitRopes$Reade\x72", "most", "I", true)
  | 1 => ("BitRopes$Reade\x72", "p", "I", false)
  | 2 => ("BitRopes$Reade\x72", "at", "I", false)
  | 3 => ("BitRopes$Reade\x72", "token", "I", false)
  | 4 => ("BitRopes$Reade\x72", "value", "I", false)
  | 5 => ("BitRopes$Reade\x72", "many", "I", false)
  | 6 => ("BitRopes$Reade\x72", "name", "J", false)
  | 7 => ("BitRopes$Reade\x72", "this$0", "LBitRopes;", true)
  | 8 => ("BitRopes$BookReade\x72", "heads", "[Ljava/lang/String;", true)
  | 9 => ("BitRopes$BookReade\x72", "row", "[LBitRopes$Deed;", true)
  | 10 => ("BitRopes$BookReade\x72", "n", "I", false)
  | _ => ("BitRopes$BookReade\x72", "this$0", "LBitRopes;", true)
def tyX8 : Nat → FieldType := fun k => match k with
  | 0 => .int
  | 1 => .int
  | 2 => .int
  | 3 => .int
  | 4 => .int
  | 5 => .int
  | 6 => .long
  | 7 => .object "BitRopes"
  | 8 => .array (.object "java/lang/String")
  | 9 => .array (.object "BitRopes$Deed")
  | 10 => .int
  | _ => .object "BitRopes"
abbrev wsX80 : List Cond := u_ws RX8 TX8 12
-- two fields of one name: no nmX8
theorem tyX8_ok : ∀ k, k < 12 → parseFieldDescriptor (TX8 k).2.2.1 = some (tyX8 k) := by decide +kernel
abbrev cX8_init : ByteArray := prog_3_method_1_code
def yX8_init : MethodName := ⟨RX8, "<init>", "(LBitRopes;)V"⟩
def dkwX8_init_3 : List UInt8 := [181, 0, 39, 177]
abbrev dktX8_init_3 : List UInt8 := dkwX8_init_3 ++ []
def dkwX8_init_2 : List UInt8 := [83, 89, 16, 6, 18, 29, 83, 89, 16, 7, 18, 31, 83, 181, 0, 33, 42, 16, 40, 189, 0, 37]
abbrev dktX8_init_2 : List UInt8 := dkwX8_init_2 ++ dktX8_init_3
def dkwX8_init_1 : List UInt8 := [89, 4, 18, 19, 83, 89, 5, 18, 21, 83, 89, 6, 18, 23, 83, 89, 7, 18, 25, 83, 89, 8, 18, 27]
abbrev dktX8_init_1 : List UInt8 := dkwX8_init_1 ++ dktX8_init_2
def dkwX8_init_0 : List UInt8 := [42, 43, 181, 0, 3, 42, 43, 17, 1, 144, 183, 0, 9, 42, 16, 8, 189, 0, 15, 89, 3, 18, 17, 83]
abbrev dktX8_init_0 : List UInt8 := dkwX8_init_0 ++ dktX8_init_1
theorem dksX8_init_0 : cX8_init.data.toList.drop 0 = dktX8_init_0 := by decide +kernel
theorem dksX8_init_1 : cX8_init.data.toList.drop 24 = dktX8_init_1 := dk_seg dksX8_init_0 24 rfl rfl
theorem dksX8_init_2 : cX8_init.data.toList.drop 48 = dktX8_init_2 := dk_seg dksX8_init_1 24 rfl rfl
theorem dksX8_init_3 : cX8_init.data.toList.drop 70 = dktX8_init_3 := dk_seg dksX8_init_2 22 rfl rfl
theorem dX8_init_0 : decode cX8_init 0 = .ok (.aload_n 0, 1) := dk_42 (dk_at dksX8_init_0 0 rfl rfl)
theorem dX8_init_1 : decode cX8_init 1 = .ok (.aload_n 1, 1) := dk_43 (dk_at dksX8_init_0 1 rfl rfl)
theorem dX8_init_2 : decode cX8_init 2 = .ok (.putfield 3, 3) := dk_181 0 3 (dk_at dksX8_init_0 2 rfl rfl)
theorem dX8_init_5 : decode cX8_init 5 = .ok (.aload_n 0, 1) := dk_42 (dk_at dksX8_init_0 5 rfl rfl)
theorem dX8_init_6 : decode cX8_init 6 = .ok (.aload_n 1, 1) := dk_43 (dk_at dksX8_init_0 6 rfl rfl)
theorem dX8_init_7 : decode cX8_init 7 = .ok (.sipush 400, 3) := dk_17 1 144 (dk_at dksX8_init_0 7 rfl rfl)
theorem dX8_init_10 : decode cX8_init 10 = .ok (.invokespecial 9, 3) := dk_183 0 9 (dk_at dksX8_init_0 10 rfl rfl)
theorem dX8_init_13 : decode cX8_init 13 = .ok (.aload_n 0, 1) := dk_42 (dk_at dksX8_init_0 13 rfl rfl)
theorem dX8_init_14 : decode cX8_init 14 = .ok (.bipush 8, 2) := dk_16 8 (dk_at dksX8_init_0 14 rfl rfl)
theorem dX8_init_16 : decode cX8_init 16 = .ok (.anewarray 15, 3) := dk_189 0 15 (dk_at dksX8_init_0 16 rfl rfl)
theorem dX8_init_19 : decode cX8_init 19 = .ok (.dup, 1) := dk_89 (dk_at dksX8_init_0 19 rfl rfl)
theorem dX8_init_20 : decode cX8_init 20 = .ok (.iconst 0, 1) := dk_3 (dk_at dksX8_init_0 20 rfl rfl)
theorem dX8_init_21 : decode cX8_init 21 = .ok (.ldc 17, 2) := dk_18 17 (dk_at dksX8_init_0 21 rfl rfl)
theorem dX8_init_23 : decode cX8_init 23 = .ok (.aastore, 1) := dk_83 (dk_at dksX8_init_0 23 rfl rfl)
theorem dX8_init_24 : decode cX8_init 24 = .ok (.dup, 1) := dk_89 (dk_at dksX8_init_1 0 rfl rfl)
theorem dX8_init_25 : decode cX8_init 25 = .ok (.iconst 1, 1) := dk_4 (dk_at dksX8_init_1 1 rfl rfl)
theorem dX8_init_26 : decode cX8_init 26 = .ok (.ldc 19, 2) := dk_18 19 (dk_at dksX8_init_1 2 rfl rfl)
theorem dX8_init_28 : decode cX8_init 28 = .ok (.aastore, 1) := dk_83 (dk_at dksX8_init_1 4 rfl rfl)
theorem dX8_init_29 : decode cX8_init 29 = .ok (.dup, 1) := dk_89 (dk_at dksX8_init_1 5 rfl rfl)
theorem dX8_init_30 : decode cX8_init 30 = .ok (.iconst 2, 1) := dk_5 (dk_at dksX8_init_1 6 rfl rfl)
theorem dX8_init_31 : decode cX8_init 31 = .ok (.ldc 21, 2) := dk_18 21 (dk_at dksX8_init_1 7 rfl rfl)
theorem dX8_init_33 : decode cX8_init 33 = .ok (.aastore, 1) := dk_83 (dk_at dksX8_init_1 9 rfl rfl)
theorem dX8_init_34 : decode cX8_init 34 = .ok (.dup, 1) := dk_89 (dk_at dksX8_init_1 10 rfl rfl)
theorem dX8_init_35 : decode cX8_init 35 = .ok (.iconst 3, 1) := dk_6 (dk_at dksX8_init_1 11 rfl rfl)
theorem dX8_init_36 : decode cX8_init 36 = .ok (.ldc 23, 2) := dk_18 23 (dk_at dksX8_init_1 12 rfl rfl)
theorem dX8_init_38 : decode cX8_init 38 = .ok (.aastore, 1) := dk_83 (dk_at dksX8_init_1 14 rfl rfl)
theorem dX8_init_39 : decode cX8_init 39 = .ok (.dup, 1) := dk_89 (dk_at dksX8_init_1 15 rfl rfl)
theorem dX8_init_40 : decode cX8_init 40 = .ok (.iconst 4, 1) := dk_7 (dk_at dksX8_init_1 16 rfl rfl)
theorem dX8_init_41 : decode cX8_init 41 = .ok (.ldc 25, 2) := dk_18 25 (dk_at dksX8_init_1 17 rfl rfl)
theorem dX8_init_43 : decode cX8_init 43 = .ok (.aastore, 1) := dk_83 (dk_at dksX8_init_1 19 rfl rfl)
theorem dX8_init_44 : decode cX8_init 44 = .ok (.dup, 1) := dk_89 (dk_at dksX8_init_1 20 rfl rfl)
theorem dX8_init_45 : decode cX8_init 45 = .ok (.iconst 5, 1) := dk_8 (dk_at dksX8_init_1 21 rfl rfl)
theorem dX8_init_46 : decode cX8_init 46 = .ok (.ldc 27, 2) := dk_18 27 (dk_at dksX8_init_1 22 rfl rfl)
theorem dX8_init_48 : decode cX8_init 48 = .ok (.aastore, 1) := dk_83 (dk_at dksX8_init_2 0 rfl rfl)
theorem dX8_init_49 : decode cX8_init 49 = .ok (.dup, 1) := dk_89 (dk_at dksX8_init_2 1 rfl rfl)
theorem dX8_init_50 : decode cX8_init 50 = .ok (.bipush 6, 2) := dk_16 6 (dk_at dksX8_init_2 2 rfl rfl)
theorem dX8_init_52 : decode cX8_init 52 = .ok (.ldc 29, 2) := dk_18 29 (dk_at dksX8_init_2 4 rfl rfl)
theorem dX8_init_54 : decode cX8_init 54 = .ok (.aastore, 1) := dk_83 (dk_at dksX8_init_2 6 rfl rfl)
theorem dX8_init_55 : decode cX8_init 55 = .ok (.dup, 1) := dk_89 (dk_at dksX8_init_2 7 rfl rfl)
theorem dX8_init_56 : decode cX8_init 56 = .ok (.bipush 7, 2) := dk_16 7 (dk_at dksX8_init_2 8 rfl rfl)
theorem dX8_init_58 : decode cX8_init 58 = .ok (.ldc 31, 2) := dk_18 31 (dk_at dksX8_init_2 10 rfl rfl)
theorem dX8_init_60 : decode cX8_init 60 = .ok (.aastore, 1) := dk_83 (dk_at dksX8_init_2 12 rfl rfl)
theorem dX8_init_61 : decode cX8_init 61 = .ok (.putfield 33, 3) := dk_181 0 33 (dk_at dksX8_init_2 13 rfl rfl)
theorem dX8_init_64 : decode cX8_init 64 = .ok (.aload_n 0, 1) := dk_42 (dk_at dksX8_init_2 16 rfl rfl)
theorem dX8_init_65 : decode cX8_init 65 = .ok (.bipush 40, 2) := dk_16 40 (dk_at dksX8_init_2 17 rfl rfl)
theorem dX8_init_67 : decode cX8_init 67 = .ok (.anewarray 37, 3) := dk_189 0 37 (dk_at dksX8_init_2 19 rfl rfl)
theorem dX8_init_70 : decode cX8_init 70 = .ok (.putfield 39, 3) := dk_181 0 39 (dk_at dksX8_init_3 0 rfl rfl)
theorem dX8_init_73 : decode cX8_init 73 = .ok (.return_, 1) := dk_177 (dk_at dksX8_init_3 3 rfl rfl)
abbrev cX8_read : ByteArray := prog_3_method_2_code
def yX8_read : MethodName := ⟨RX8, "read", "()V"⟩
def dkwX8_read_2 : List UInt8 := [167, 255, 218, 177]
abbrev dktX8_read_2 : List UInt8 := dkwX8_read_2 ++ []
def dkwX8_read_1 : List UInt8 := [182, 0, 58, 42, 180, 0, 39, 42, 180, 0, 43, 43, 83, 42, 89, 180, 0, 43, 4, 96, 181, 0, 43]
abbrev dktX8_read_1 : List UInt8 := dkwX8_read_1 ++ dktX8_read_2
def dkwX8_read_0 : List UInt8 := [42, 3, 181, 0, 43, 42, 182, 0, 47, 42, 180, 0, 51, 153, 0, 37, 42, 182, 0, 54, 76, 42, 16, 59]
abbrev dktX8_read_0 : List UInt8 := dkwX8_read_0 ++ dktX8_read_1
theorem dksX8_read_0 : cX8_read.data.toList.drop 0 = dktX8_read_0 := by decide +kernel
theorem dksX8_read_1 : cX8_read.data.toList.drop 24 = dktX8_read_1 := dk_seg dksX8_read_0 24 rfl rfl
theorem dksX8_read_2 : cX8_read.data.toList.drop 47 = dktX8_read_2 := dk_seg dksX8_read_1 23 rfl rfl
theorem dX8_read_0 : decode cX8_read 0 = .ok (.aload_n 0, 1) := dk_42 (dk_at dksX8_read_0 0 rfl rfl)
theorem dX8_read_1 : decode cX8_read 1 = .ok (.iconst 0, 1) := dk_3 (dk_at dksX8_read_0 1 rfl rfl)
theorem dX8_read_2 : decode cX8_read 2 = .ok (.putfield 43, 3) := dk_181 0 43 (dk_at dksX8_read_0 2 rfl rfl)
theorem dX8_read_5 : decode cX8_read 5 = .ok (.aload_n 0, 1) := dk_42 (dk_at dksX8_read_0 5 rfl rfl)
theorem dX8_read_6 : decode cX8_read 6 = .ok (.invokevirtual 47, 3) := dk_182 0 47 (dk_at dksX8_read_0 6 rfl rfl)
theorem dX8_read_9 : decode cX8_read 9 = .ok (.aload_n 0, 1) := dk_42 (dk_at dksX8_read_0 9 rfl rfl)
theorem dX8_read_10 : decode cX8_read 10 = .ok (.getfield 51, 3) := dk_180 0 51 (dk_at dksX8_read_0 10 rfl rfl)
theorem dX8_read_13 : decode cX8_read 13 = .ok (.ifCond .eq 37, 3) := dk_153 0 37 (dk_at dksX8_read_0 13 rfl rfl)
theorem dX8_read_16 : decode cX8_read 16 = .ok (.aload_n 0, 1) := dk_42 (dk_at dksX8_read_0 16 rfl rfl)
theorem dX8_read_17 : decode cX8_read 17 = .ok (.invokevirtual 54, 3) := dk_182 0 54 (dk_at dksX8_read_0 17 rfl rfl)
theorem dX8_read_20 : decode cX8_read 20 = .ok (.astore_n 1, 1) := dk_76 (dk_at dksX8_read_0 20 rfl rfl)
theorem dX8_read_21 : decode cX8_read 21 = .ok (.aload_n 0, 1) := dk_42 (dk_at dksX8_read_0 21 rfl rfl)
theorem dX8_read_22 : decode cX8_read 22 = .ok (.bipush 59, 2) := dk_16 59 (dk_at dksX8_read_0 22 rfl rfl)
theorem dX8_read_24 : decode cX8_read 24 = .ok (.invokevirtual 58, 3) := dk_182 0 58 (dk_at dksX8_read_1 0 rfl rfl)
theorem dX8_read_27 : decode cX8_read 27 = .ok (.aload_n 0, 1) := dk_42 (dk_at dksX8_read_1 3 rfl rfl)
theorem dX8_read_28 : decode cX8_read 28 = .ok (.getfield 39, 3) := dk_180 0 39 (dk_at dksX8_read_1 4 rfl rfl)
theorem dX8_read_31 : decode cX8_read 31 = .ok (.aload_n 0, 1) := dk_42 (dk_at dksX8_read_1 7 rfl rfl)
theorem dX8_read_32 : decode cX8_read 32 = .ok (.getfield 43, 3) := dk_180 0 43 (dk_at dksX8_read_1 8 rfl rfl)
theorem dX8_read_35 : decode cX8_read 35 = .ok (.aload_n 1, 1) := dk_43 (dk_at dksX8_read_1 11 rfl rfl)
theorem dX8_read_36 : decode cX8_read 36 = .ok (.aastore, 1) := dk_83 (dk_at dksX8_read_1 12 rfl rfl)
theorem dX8_read_37 : decode cX8_read 37 = .ok (.aload_n 0, 1) := dk_42 (dk_at dksX8_read_1 13 rfl rfl)
theorem dX8_read_38 : decode cX8_read 38 = .ok (.dup, 1) := dk_89 (dk_at dksX8_read_1 14 rfl rfl)
theorem dX8_read_39 : decode cX8_read 39 = .ok (.getfield 43, 3) := dk_180 0 43 (dk_at dksX8_read_1 15 rfl rfl)
theorem dX8_read_42 : decode cX8_read 42 = .ok (.iconst 1, 1) := dk_4 (dk_at dksX8_read_1 18 rfl rfl)
theorem dX8_read_43 : decode cX8_read 43 = .ok (.iadd, 1) := dk_96 (dk_at dksX8_read_1 19 rfl rfl)
theorem dX8_read_44 : decode cX8_read 44 = .ok (.putfield 43, 3) := dk_181 0 43 (dk_at dksX8_read_1 20 rfl rfl)
theorem dX8_read_47 : decode cX8_read 47 = .ok (.goto (-38), 3) := dk_167 255 218 (dk_at dksX8_read_2 0 rfl rfl)
theorem dX8_read_50 : decode cX8_read 50 = .ok (.return_, 1) := dk_177 (dk_at dksX8_read_2 3 rfl rfl)
abbrev cX8_readLine : ByteArray := prog_3_method_3_code
def yX8_readLine : MethodName := ⟨RX8, "readLine", "()LBitRopes$Deed;"⟩
def dkwX8_readLine_10 : List UInt8 := [183, 0, 97, 176]
abbrev dktX8_readLine_10 : List UInt8 := dkwX8_readLine_10 ++ []
def dkwX8_readLine_9 : List UInt8 := [167, 0, 6, 17, 2, 88, 54, 5, 187, 0, 37, 89, 27, 28, 29, 42, 21, 4, 21, 5, 182, 0, 90]
abbrev dktX8_readLine_9 : List UInt8 := dkwX8_readLine_9 ++ dktX8_readLine_10
def dkwX8_readLine_8 : List UInt8 := [167, 0, 4, 3, 54, 4, 27, 5, 162, 0, 7, 4, 167, 0, 17, 27, 16, 6, 160, 0, 8, 16, 7]
abbrev dktX8_readLine_8 : List UInt8 := dkwX8_readLine_8 ++ dktX8_readLine_9
def dkwX8_readLine_7 : List UInt8 := [21, 4, 183, 0, 97, 176, 27, 5, 159, 0, 14, 27, 6, 159, 0, 9, 27, 16, 7, 160, 0, 7, 4]
abbrev dktX8_readLine_7 : List UInt8 := dkwX8_readLine_7 ++ dktX8_readLine_8
def dkwX8_readLine_6 : List UInt8 := [159, 0, 7, 4, 167, 0, 4, 3, 6, 182, 0, 66, 42, 182, 0, 70, 187, 0, 37, 89, 27, 28, 29]
abbrev dktX8_readLine_6 : List UInt8 := dkwX8_readLine_6 ++ dktX8_readLine_7
def dkwX8_readLine_5 : List UInt8 := [180, 0, 77, 42, 180, 0, 3, 180, 0, 73, 180, 0, 83, 182, 0, 94, 54, 4, 42, 21, 4, 28]
abbrev dktX8_readLine_5 : List UInt8 := dkwX8_readLine_5 ++ dktX8_readLine_6
def dkwX8_readLine_4 : List UInt8 := [182, 0, 90, 62, 27, 7, 159, 0, 8, 27, 8, 160, 0, 62, 42, 42, 180, 0, 3, 180, 0, 73]
abbrev dktX8_readLine_4 : List UInt8 := dkwX8_readLine_4 ++ dktX8_readLine_5
def dkwX8_readLine_3 : List UInt8 := [180, 0, 73, 180, 0, 83, 182, 0, 86, 61, 27, 7, 160, 0, 7, 3, 167, 0, 11, 42, 3, 17, 3, 231]
abbrev dktX8_readLine_3 : List UInt8 := dkwX8_readLine_3 ++ dktX8_readLine_4
def dkwX8_readLine_2 : List UInt8 := [8, 164, 0, 7, 3, 167, 0, 27, 42, 42, 180, 0, 3, 180, 0, 73, 180, 0, 77, 42, 180, 0, 3]
abbrev dktX8_readLine_2 : List UInt8 := dkwX8_readLine_2 ++ dktX8_readLine_3
def dkwX8_readLine_1 : List UInt8 := [42, 42, 180, 0, 43, 16, 40, 162, 0, 7, 4, 167, 0, 4, 3, 7, 182, 0, 66, 42, 182, 0, 70, 27]
abbrev dktX8_readLine_1 : List UInt8 := dkwX8_readLine_1 ++ dktX8_readLine_2
def dkwX8_readLine_0 : List UInt8 := [42, 42, 180, 0, 33, 182, 0, 62, 60, 42, 27, 2, 159, 0, 7, 4, 167, 0, 4, 3, 4, 182, 0, 66]
abbrev dktX8_readLine_0 : List UInt8 := dkwX8_readLine_0 ++ dktX8_readLine_1
theorem dksX8_readLine_0 : cX8_readLine.data.toList.drop 0 = dktX8_readLine_0 := by decide +kernel
theorem dksX8_readLine_1 : cX8_readLine.data.toList.drop 24 = dktX8_readLine_1 := dk_seg dksX8_readLine_0 24 rfl rfl
theorem dksX8_readLine_2 : cX8_readLine.data.toList.drop 48 = dktX8_readLine_2 := dk_seg dksX8_readLine_1 24 rfl rfl
theorem dksX8_readLine_3 : cX8_readLine.data.toList.drop 71 = dktX8_readLine_3 := dk_seg dksX8_readLine_2 23 rfl rfl
theorem dksX8_readLine_4 : cX8_readLine.data.toList.drop 95 = dktX8_readLine_4 := dk_seg dksX8_readLine_3 24 rfl rfl
theorem dksX8_readLine_5 : cX8_readLine.data.toList.drop 117 = dktX8_readLine_5 := dk_seg dksX8_readLine_4 22 rfl rfl
theorem dksX8_readLine_6 : cX8_readLine.data.toList.drop 139 = dktX8_readLine_6 := dk_seg dksX8_readLine_5 22 rfl rfl
theorem dksX8_readLine_7 : cX8_readLine.data.toList.drop 162 = dktX8_readLine_7 := dk_seg dksX8_readLine_6 23 rfl rfl
theorem dksX8_readLine_8 : cX8_readLine.data.toList.drop 185 = dktX8_readLine_8 := dk_seg dksX8_readLine_7 23 rfl rfl
theorem dksX8_readLine_9 : cX8_readLine.data.toList.drop 208 = dktX8_readLine_9 := dk_seg dksX8_readLine_8 23 rfl rfl
theorem dksX8_readLine_10 : cX8_readLine.data.toList.drop 231 = dktX8_readLine_10 := dk_seg dksX8_readLine_9 23 rfl rfl
theorem dX8_readLine_0 : decode cX8_readLine 0 = .ok (.aload_n 0, 1) := dk_42 (dk_at dksX8_readLine_0 0 rfl rfl)
theorem dX8_readLine_1 : decode cX8_readLine 1 = .ok (.aload_n 0, 1) := dk_42 (dk_at dksX8_readLine_0 1 rfl rfl)
theorem dX8_readLine_2 : decode cX8_readLine 2 = .ok (.getfield 33, 3) := dk_180 0 33 (dk_at dksX8_readLine_0 2 rfl rfl)
theorem dX8_readLine_5 : decode cX8_readLine 5 = .ok (.invokevirtual 62, 3) := dk_182 0 62 (dk_at dksX8_readLine_0 5 rfl rfl)
theorem dX8_readLine_8 : decode cX8_readLine 8 = .ok (.istore_n 1, 1) := dk_60 (dk_at dksX8_readLine_0 8 rfl rfl)
theorem dX8_readLine_9 : decode cX8_readLine 9 = .ok (.aload_n 0, 1) := dk_42 (dk_at dksX8_readLine_0 9 rfl rfl)
theorem dX8_readLine_10 : decode cX8_readLine 10 = .ok (.iload_n 1, 1) := dk_27 (dk_at dksX8_readLine_0 10 rfl rfl)
theorem dX8_readLine_11 : decode cX8_readLine 11 = .ok (.iconst (-1), 1) := dk_2 (dk_at dksX8_readLine_0 11 rfl rfl)
theorem dX8_readLine_12 : decode cX8_readLine 12 = .ok (.if_icmp .eq 7, 3) := dk_159 0 7 (dk_at dksX8_readLine_0 12 rfl rfl)
theorem dX8_readLine_15 : decode cX8_readLine 15 = .ok (.iconst 1, 1) := dk_4 (dk_at dksX8_readLine_0 15 rfl rfl)
theorem dX8_readLine_16 : decode cX8_readLine 16 = .ok (.goto 4, 3) := dk_167 0 4 (dk_at dksX8_readLine_0 16 rfl rfl)
theorem dX8_readLine_19 : decode cX8_readLine 19 = .ok (.iconst 0, 1) := dk_3 (dk_at dksX8_readLine_0 19 rfl rfl)
theorem dX8_readLine_20 : decode cX8_readLine 20 = .ok (.iconst 1, 1) := dk_4 (dk_at dksX8_readLine_0 20 rfl rfl)
theorem dX8_readLine_21 : decode cX8_readLine 21 = .ok (.invokevirtual 66, 3) := dk_182 0 66 (dk_at dksX8_readLine_0 21 rfl rfl)
theorem dX8_readLine_24 : decode cX8_readLine 24 = .ok (.aload_n 0, 1) := dk_42 (dk_at dksX8_readLine_1 0 rfl rfl)
theorem dX8_readLine_25 : decode cX8_readLine 25 = .ok (.aload_n 0, 1) := dk_42 (dk_at dksX8_readLine_1 1 rfl rfl)
theorem dX8_readLine_26 : decode cX8_readLine 26 = .ok (.getfield 43, 3) := dk_180 0 43 (dk_at dksX8_readLine_1 2 rfl rfl)
theorem dX8_readLine_29 : decode cX8_readLine 29 = .ok (.bipush 40, 2) := dk_16 40 (dk_at dksX8_readLine_1 5 rfl rfl)
theorem dX8_readLine_31 : decode cX8_readLine 31 = .ok (.if_icmp .ge 7, 3) := dk_162 0 7 (dk_at dksX8_readLine_1 7 rfl rfl)
theorem dX8_readLine_34 : decode cX8_readLine 34 = .ok (.iconst 1, 1) := dk_4 (dk_at dksX8_readLine_1 10 rfl rfl)
theorem dX8_readLine_35 : decode cX8_readLine 35 = .ok (.goto 4, 3) := dk_167 0 4 (dk_at dksX8_readLine_1 11 rfl rfl)
theorem dX8_readLine_38 : decode cX8_readLine 38 = .ok (.iconst 0, 1) := dk_3 (dk_at dksX8_readLine_1 14 rfl rfl)
theorem dX8_readLine_39 : decode cX8_readLine 39 = .ok (.iconst 4, 1) := dk_7 (dk_at dksX8_readLine_1 15 rfl rfl)
theorem dX8_readLine_40 : decode cX8_readLine 40 = .ok (.invokevirtual 66, 3) := dk_182 0 66 (dk_at dksX8_readLine_1 16 rfl rfl)
theorem dX8_readLine_43 : decode cX8_readLine 43 = .ok (.aload_n 0, 1) := dk_42 (dk_at dksX8_readLine_1 19 rfl rfl)
theorem dX8_readLine_44 : decode cX8_readLine 44 = .ok (.invokevirtual 70, 3) := dk_182 0 70 (dk_at dksX8_readLine_1 20 rfl rfl)
theorem dX8_readLine_47 : decode cX8_readLine 47 = .ok (.iload_n 1, 1) := dk_27 (dk_at dksX8_readLine_1 23 rfl rfl)
theorem dX8_readLine_48 : decode cX8_readLine 48 = .ok (.iconst 5, 1) := dk_8 (dk_at dksX8_readLine_2 0 rfl rfl)
theorem dX8_readLine_49 : decode cX8_readLine 49 = .ok (.if_icmp .le 7, 3) := dk_164 0 7 (dk_at dksX8_readLine_2 1 rfl rfl)
theorem dX8_readLine_52 : decode cX8_readLine 52 = .ok (.iconst 0, 1) := dk_3 (dk_at dksX8_readLine_2 4 rfl rfl)
theorem dX8_readLine_53 : decode cX8_readLine 53 = .ok (.goto 27, 3) := dk_167 0 27 (dk_at dksX8_readLine_2 5 rfl rfl)
theorem dX8_readLine_56 : decode cX8_readLine 56 = .ok (.aload_n 0, 1) := dk_42 (dk_at dksX8_readLine_2 8 rfl rfl)
theorem dX8_readLine_57 : decode cX8_readLine 57 = .ok (.aload_n 0, 1) := dk_42 (dk_at dksX8_readLine_2 9 rfl rfl)
theorem dX8_readLine_58 : decode cX8_readLine 58 = .ok (.getfield 3, 3) := dk_180 0 3 (dk_at dksX8_readLine_2 10 rfl rfl)
theorem dX8_readLine_61 : decode cX8_readLine 61 = .ok (.getfield 73, 3) := dk_180 0 73 (dk_at dksX8_readLine_2 13 rfl rfl)
theorem dX8_readLine_64 : decode cX8_readLine 64 = .ok (.getfield 77, 3) := dk_180 0 77 (dk_at dksX8_readLine_2 16 rfl rfl)
theorem dX8_readLine_67 : decode cX8_readLine 67 = .ok (.aload_n 0, 1) := dk_42 (dk_at dksX8_readLine_2 19 rfl rfl)
theorem dX8_readLine_68 : decode cX8_readLine 68 = .ok (.getfield 3, 3) := dk_180 0 3 (dk_at dksX8_readLine_2 20 rfl rfl)
theorem dX8_readLine_71 : decode cX8_readLine 71 = .ok (.getfield 73, 3) := dk_180 0 73 (dk_at dksX8_readLine_3 0 rfl rfl)
theorem dX8_readLine_74 : decode cX8_readLine 74 = .ok (.getfield 83, 3) := dk_180 0 83 (dk_at dksX8_readLine_3 3 rfl rfl)
theorem dX8_readLine_77 : decode cX8_readLine 77 = .ok (.invokevirtual 86, 3) := dk_182 0 86 (dk_at dksX8_readLine_3 6 rfl rfl)
theorem dX8_readLine_80 : decode cX8_readLine 80 = .ok (.istore_n 2, 1) := dk_61 (dk_at dksX8_readLine_3 9 rfl rfl)
theorem dX8_readLine_81 : decode cX8_readLine 81 = .ok (.iload_n 1, 1) := dk_27 (dk_at dksX8_readLine_3 10 rfl rfl)
theorem dX8_readLine_82 : decode cX8_readLine 82 = .ok (.iconst 4, 1) := dk_7 (dk_at dksX8_readLine_3 11 rfl rfl)
theorem dX8_readLine_83 : decode cX8_readLine 83 = .ok (.if_icmp .ne 7, 3) := dk_160 0 7 (dk_at dksX8_readLine_3 12 rfl rfl)
theorem dX8_readLine_86 : decode cX8_readLine 86 = .ok (.iconst 0, 1) := dk_3 (dk_at dksX8_readLine_3 15 rfl rfl)
theorem dX8_readLine_87 : decode cX8_readLine 87 = .ok (.goto 11, 3) := dk_167 0 11 (dk_at dksX8_readLine_3 16 rfl rfl)
theorem dX8_readLine_90 : decode cX8_readLine 90 = .ok (.aload_n 0, 1) := dk_42 (dk_at dksX8_readLine_3 19 rfl rfl)
theorem dX8_readLine_91 : decode cX8_readLine 91 = .ok (.iconst 0, 1) := dk_3 (dk_at dksX8_readLine_3 20 rfl rfl)
theorem dX8_readLine_92 : decode cX8_readLine 92 = .ok (.sipush 999, 3) := dk_17 3 231 (dk_at dksX8_readLine_3 21 rfl rfl)
theorem dX8_readLine_95 : decode cX8_readLine 95 = .ok (.invokevirtual 90, 3) := dk_182 0 90 (dk_at dksX8_readLine_4 0 rfl rfl)
theorem dX8_readLine_98 : decode cX8_readLine 98 = .ok (.istore_n 3, 1) := dk_62 (dk_at dksX8_readLine_4 3 rfl rfl)
theorem dX8_readLine_99 : decode cX8_readLine 99 = .ok (.iload_n 1, 1) := dk_27 (dk_at dksX8_readLine_4 4 rfl rfl)
theorem dX8_readLine_100 : decode cX8_readLine 100 = .ok (.iconst 4, 1) := dk_7 (dk_at dksX8_readLine_4 5 rfl rfl)
theorem dX8_readLine_101 : decode cX8_readLine 101 = .ok (.if_icmp .eq 8, 3) := dk_159 0 8 (dk_at dksX8_readLine_4 6 rfl rfl)
theorem dX8_readLine_104 : decode cX8_readLine 104 = .ok (.iload_n 1, 1) := dk_27 (dk_at dksX8_readLine_4 9 rfl rfl)
theorem dX8_readLine_105 : decode cX8_readLine 105 = .ok (.iconst 5, 1) := dk_8 (dk_at dksX8_readLine_4 10 rfl rfl)
theorem dX8_readLine_106 : decode cX8_readLine 106 = .ok (.if_icmp .ne 62, 3) := dk_160 0 62 (dk_at dksX8_readLine_4 11 rfl rfl)
theorem dX8_readLine_109 : decode cX8_readLine 109 = .ok (.aload_n 0, 1) := dk_42 (dk_at dksX8_readLine_4 14 rfl rfl)
theorem dX8_readLine_110 : decode cX8_readLine 110 = .ok (.aload_n 0, 1) := dk_42 (dk_at dksX8_readLine_4 15 rfl rfl)
theorem dX8_readLine_111 : decode cX8_readLine 111 = .ok (.getfield 3, 3) := dk_180 0 3 (dk_at dksX8_readLine_4 16 rfl rfl)
theorem dX8_readLine_114 : decode cX8_readLine 114 = .ok (.getfield 73, 3) := dk_180 0 73 (dk_at dksX8_readLine_4 19 rfl rfl)
theorem dX8_readLine_117 : decode cX8_readLine 117 = .ok (.getfield 77, 3) := dk_180 0 77 (dk_at dksX8_readLine_5 0 rfl rfl)
theorem dX8_readLine_120 : decode cX8_readLine 120 = .ok (.aload_n 0, 1) := dk_42 (dk_at dksX8_readLine_5 3 rfl rfl)
theorem dX8_readLine_121 : decode cX8_readLine 121 = .ok (.getfield 3, 3) := dk_180 0 3 (dk_at dksX8_readLine_5 4 rfl rfl)
theorem dX8_readLine_124 : decode cX8_readLine 124 = .ok (.getfield 73, 3) := dk_180 0 73 (dk_at dksX8_readLine_5 7 rfl rfl)
theorem dX8_readLine_127 : decode cX8_readLine 127 = .ok (.getfield 83, 3) := dk_180 0 83 (dk_at dksX8_readLine_5 10 rfl rfl)
theorem dX8_readLine_130 : decode cX8_readLine 130 = .ok (.invokevirtual 94, 3) := dk_182 0 94 (dk_at dksX8_readLine_5 13 rfl rfl)
theorem dX8_readLine_133 : decode cX8_readLine 133 = .ok (.istore 4, 2) := dk_54 4 (dk_at dksX8_readLine_5 16 rfl rfl)
theorem dX8_readLine_135 : decode cX8_readLine 135 = .ok (.aload_n 0, 1) := dk_42 (dk_at dksX8_readLine_5 18 rfl rfl)
theorem dX8_readLine_136 : decode cX8_readLine 136 = .ok (.iload 4, 2) := dk_21 4 (dk_at dksX8_readLine_5 19 rfl rfl)
theorem dX8_readLine_138 : decode cX8_readLine 138 = .ok (.iload_n 2, 1) := dk_28 (dk_at dksX8_readLine_5 21 rfl rfl)
theorem dX8_readLine_139 : decode cX8_readLine 139 = .ok (.if_icmp .eq 7, 3) := dk_159 0 7 (dk_at dksX8_readLine_6 0 rfl rfl)
theorem dX8_readLine_142 : decode cX8_readLine 142 = .ok (.iconst 1, 1) := dk_4 (dk_at dksX8_readLine_6 3 rfl rfl)
theorem dX8_readLine_143 : decode cX8_readLine 143 = .ok (.goto 4, 3) := dk_167 0 4 (dk_at dksX8_readLine_6 4 rfl rfl)
theorem dX8_readLine_146 : decode cX8_readLine 146 = .ok (.iconst 0, 1) := dk_3 (dk_at dksX8_readLine_6 7 rfl rfl)
theorem dX8_readLine_147 : decode cX8_readLine 147 = .ok (.iconst 3, 1) := dk_6 (dk_at dksX8_readLine_6 8 rfl rfl)
theorem dX8_readLine_148 : decode cX8_readLine 148 = .ok (.invokevirtual 66, 3) := dk_182 0 66 (dk_at dksX8_readLine_6 9 rfl rfl)
theorem dX8_readLine_151 : decode cX8_readLine 151 = .ok (.aload_n 0, 1) := dk_42 (dk_at dksX8_readLine_6 12 rfl rfl)
theorem dX8_readLine_152 : decode cX8_readLine 152 = .ok (.invokevirtual 70, 3) := dk_182 0 70 (dk_at dksX8_readLine_6 13 rfl rfl)
theorem dX8_readLine_155 : decode cX8_readLine 155 = .ok (.new 37, 3) := dk_187 0 37 (dk_at dksX8_readLine_6 16 rfl rfl)
theorem dX8_readLine_158 : decode cX8_readLine 158 = .ok (.dup, 1) := dk_89 (dk_at dksX8_readLine_6 19 rfl rfl)
theorem dX8_readLine_159 : decode cX8_readLine 159 = .ok (.iload_n 1, 1) := dk_27 (dk_at dksX8_readLine_6 20 rfl rfl)
theorem dX8_readLine_160 : decode cX8_readLine 160 = .ok (.iload_n 2, 1) := dk_28 (dk_at dksX8_readLine_6 21 rfl rfl)
theorem dX8_readLine_161 : decode cX8_readLine 161 = .ok (.iload_n 3, 1) := dk_29 (dk_at dksX8_readLine_6 22 rfl rfl)
theorem dX8_readLine_162 : decode cX8_readLine 162 = .ok (.iload 4, 2) := dk_21 4 (dk_at dksX8_readLine_7 0 rfl rfl)
theorem dX8_readLine_164 : decode cX8_readLine 164 = .ok (.invokespecial 97, 3) := dk_183 0 97 (dk_at dksX8_readLine_7 2 rfl rfl)
theorem dX8_readLine_167 : decode cX8_readLine 167 = .ok (.areturn, 1) := dk_176 (dk_at dksX8_readLine_7 5 rfl rfl)
theorem dX8_readLine_168 : decode cX8_readLine 168 = .ok (.iload_n 1, 1) := dk_27 (dk_at dksX8_readLine_7 6 rfl rfl)
theorem dX8_readLine_169 : decode cX8_readLine 169 = .ok (.iconst 2, 1) := dk_5 (dk_at dksX8_readLine_7 7 rfl rfl)
theorem dX8_readLine_170 : decode cX8_readLine 170 = .ok (.if_icmp .eq 14, 3) := dk_159 0 14 (dk_at dksX8_readLine_7 8 rfl rfl)
theorem dX8_readLine_173 : decode cX8_readLine 173 = .ok (.iload_n 1, 1) := dk_27 (dk_at dksX8_readLine_7 11 rfl rfl)
theorem dX8_readLine_174 : decode cX8_readLine 174 = .ok (.iconst 3, 1) := dk_6 (dk_at dksX8_readLine_7 12 rfl rfl)
theorem dX8_readLine_175 : decode cX8_readLine 175 = .ok (.if_icmp .eq 9, 3) := dk_159 0 9 (dk_at dksX8_readLine_7 13 rfl rfl)
theorem dX8_readLine_178 : decode cX8_readLine 178 = .ok (.iload_n 1, 1) := dk_27 (dk_at dksX8_readLine_7 16 rfl rfl)
theorem dX8_readLine_179 : decode cX8_readLine 179 = .ok (.bipush 7, 2) := dk_16 7 (dk_at dksX8_readLine_7 17 rfl rfl)
theorem dX8_readLine_181 : decode cX8_readLine 181 = .ok (.if_icmp .ne 7, 3) := dk_160 0 7 (dk_at dksX8_readLine_7 19 rfl rfl)
theorem dX8_readLine_184 : decode cX8_readLine 184 = .ok (.iconst 1, 1) := dk_4 (dk_at dksX8_readLine_7 22 rfl rfl)
theorem dX8_readLine_185 : decode cX8_readLine 185 = .ok (.goto 4, 3) := dk_167 0 4 (dk_at dksX8_readLine_8 0 rfl rfl)
theorem dX8_readLine_188 : decode cX8_readLine 188 = .ok (.iconst 0, 1) := dk_3 (dk_at dksX8_readLine_8 3 rfl rfl)
theorem dX8_readLine_189 : decode cX8_readLine 189 = .ok (.istore 4, 2) := dk_54 4 (dk_at dksX8_readLine_8 4 rfl rfl)
theorem dX8_readLine_191 : decode cX8_readLine 191 = .ok (.iload_n 1, 1) := dk_27 (dk_at dksX8_readLine_8 6 rfl rfl)
theorem dX8_readLine_192 : decode cX8_readLine 192 = .ok (.iconst 2, 1) := dk_5 (dk_at dksX8_readLine_8 7 rfl rfl)
theorem dX8_readLine_193 : decode cX8_readLine 193 = .ok (.if_icmp .ge 7, 3) := dk_162 0 7 (dk_at dksX8_readLine_8 8 rfl rfl)
theorem dX8_readLine_196 : decode cX8_readLine 196 = .ok (.iconst 1, 1) := dk_4 (dk_at dksX8_readLine_8 11 rfl rfl)
theorem dX8_readLine_197 : decode cX8_readLine 197 = .ok (.goto 17, 3) := dk_167 0 17 (dk_at dksX8_readLine_8 12 rfl rfl)
theorem dX8_readLine_200 : decode cX8_readLine 200 = .ok (.iload_n 1, 1) := dk_27 (dk_at dksX8_readLine_8 15 rfl rfl)
theorem dX8_readLine_201 : decode cX8_readLine 201 = .ok (.bipush 6, 2) := dk_16 6 (dk_at dksX8_readLine_8 16 rfl rfl)
theorem dX8_readLine_203 : decode cX8_readLine 203 = .ok (.if_icmp .ne 8, 3) := dk_160 0 8 (dk_at dksX8_readLine_8 18 rfl rfl)
theorem dX8_readLine_206 : decode cX8_readLine 206 = .ok (.bipush 7, 2) := dk_16 7 (dk_at dksX8_readLine_8 21 rfl rfl)
theorem dX8_readLine_208 : decode cX8_readLine 208 = .ok (.goto 6, 3) := dk_167 0 6 (dk_at dksX8_readLine_9 0 rfl rfl)
theorem dX8_readLine_211 : decode cX8_readLine 211 = .ok (.sipush 600, 3) := dk_17 2 88 (dk_at dksX8_readLine_9 3 rfl rfl)
theorem dX8_readLine_214 : decode cX8_readLine 214 = .ok (.istore 5, 2) := dk_54 5 (dk_at dksX8_readLine_9 6 rfl rfl)
theorem dX8_readLine_216 : decode cX8_readLine 216 = .ok (.new 37, 3) := dk_187 0 37 (dk_at dksX8_readLine_9 8 rfl rfl)
theorem dX8_readLine_219 : decode cX8_readLine 219 = .ok (.dup, 1) := dk_89 (dk_at dksX8_readLine_9 11 rfl rfl)
theorem dX8_readLine_220 : decode cX8_readLine 220 = .ok (.iload_n 1, 1) := dk_27 (dk_at dksX8_readLine_9 12 rfl rfl)
theorem dX8_readLine_221 : decode cX8_readLine 221 = .ok (.iload_n 2, 1) := dk_28 (dk_at dksX8_readLine_9 13 rfl rfl)
theorem dX8_readLine_222 : decode cX8_readLine 222 = .ok (.iload_n 3, 1) := dk_29 (dk_at dksX8_readLine_9 14 rfl rfl)
theorem dX8_readLine_223 : decode cX8_readLine 223 = .ok (.aload_n 0, 1) := dk_42 (dk_at dksX8_readLine_9 15 rfl rfl)
theorem dX8_readLine_224 : decode cX8_readLine 224 = .ok (.iload 4, 2) := dk_21 4 (dk_at dksX8_readLine_9 16 rfl rfl)
theorem dX8_readLine_226 : decode cX8_readLine 226 = .ok (.iload 5, 2) := dk_21 5 (dk_at dksX8_readLine_9 18 rfl rfl)
theorem dX8_readLine_228 : decode cX8_readLine 228 = .ok (.invokevirtual 90, 3) := dk_182 0 90 (dk_at dksX8_readLine_9 20 rfl rfl)
theorem dX8_readLine_231 : decode cX8_readLine 231 = .ok (.invokespecial 97, 3) := dk_183 0 97 (dk_at dksX8_readLine_10 0 rfl rfl)
theorem dX8_readLine_234 : decode cX8_readLine 234 = .ok (.areturn, 1) := dk_176 (dk_at dksX8_readLine_10 3 rfl rfl)
theorem q119 : (Jvm.Cond.initialized "BitRopes$BookReade\x72") ∈ lw_all := lw_g (lw_at lw_m1 10 rfl) rfl
theorem q255 : (Jvm.Cond.fieldLinkNest "BitRopes$BookReade\x72" (77 : Nat) "BitRopes$Room" "names" "[J" "BitRopes") ∈ lw_tbl := lw_at lw_m1 146 rfl
theorem q260 : (Jvm.Cond.fieldLinkNest "BitRopes$BookReade\x72" (83 : Nat) "BitRopes$Room" "rows" "I" "BitRopes") ∈ lw_tbl := lw_at lw_m1 151 rfl
theorem q356 : (Jvm.Cond.fieldLink "BitRopes$BookReade\x72" (51 : Nat) "BitRopes$BookReade\x72" "token" "I") ∈ lw_all := lw_g (lw_at lw_m2 7 rfl) rfl
theorem q357 : (Jvm.Cond.sameField "BitRopes$BookReade\x72" "BitRopes$Reade\x72" "token" "I") ∈ lw_all := lw_g (lw_at lw_m2 8 rfl) rfl
theorem q399 : (Jvm.Cond.instantiable "BitRopes$BookReade\x72" (12 : Nat)) ∈ lw_all := lw_g (lw_at lw_m2 50 rfl) rfl
theorem q401 : (Jvm.Cond.instanceMethod ({ cls := "BitRopes$BookReade\x72", name := "<init>", desc := "(LBitRopes;)V" } : Jvm.MethodName)) ∈ lw_all := lw_g (lw_at lw_m2 52 rfl) rfl
theorem q402 : (Jvm.Cond.code ({ cls := "BitRopes$BookReade\x72", name := "<init>", desc := "(LBitRopes;)V" } : Jvm.MethodName) prog_3_method_1_code (2 : Nat) (Option.none : Option Jvm.ClassFile.FieldType)) ∈ lw_all := lw_g (lw_at lw_m2 53 rfl) rfl
theorem q403 : (Jvm.Cond.methodLink "BitRopes$BookReade\x72" (9 : Nat) ({ cls := "BitRopes$Reade\x72", name := "<init>", desc := "(LBitRopes;I)V" } : Jvm.MethodName)) ∈ lw_all := lw_g (lw_at lw_m2 54 rfl) rfl
theorem q404 : (Jvm.Cond.classLink "BitRopes$BookReade\x72" (15 : Nat) "java/lang/String") ∈ lw_all := lw_g (lw_at lw_m2 55 rfl) rfl
theorem q405 : (Jvm.Cond.stringRef "BitRopes$BookReade\x72" (17 : Nat) "put") ∈ lw_tbl := lw_at lw_m2 56 rfl
theorem q406 : (Jvm.Cond.stringRef "BitRopes$BookReade\x72" (19 : Nat) "set") ∈ lw_tbl := lw_at lw_m2 57 rfl
theorem q407 : (Jvm.Cond.stringRef "BitRopes$BookReade\x72" (21 : Nat) "cut") ∈ lw_tbl := lw_at lw_m2 58 rfl
theorem q408 : (Jvm.Cond.stringRef "BitRopes$BookReade\x72" (23 : Nat) "turn") ∈ lw_tbl := lw_at lw_m2 59 rfl
theorem q409 : (Jvm.Cond.stringRef "BitRopes$BookReade\x72" (25 : Nat) "join") ∈ lw_tbl := lw_at lw_m2 60 rfl
theorem q410 : (Jvm.Cond.stringRef "BitRopes$BookReade\x72" (27 : Nat) "split") ∈ lw_tbl := lw_at lw_m2 61 rfl
theorem q411 : (Jvm.Cond.stringRef "BitRopes$BookReade\x72" (29 : Nat) "type") ∈ lw_tbl := lw_at lw_m2 62 rfl
theorem q412 : (Jvm.Cond.stringRef "BitRopes$BookReade\x72" (31 : Nat) "erase") ∈ lw_tbl := lw_at lw_m2 63 rfl
theorem q413 : (Jvm.Cond.classLink "BitRopes$BookReade\x72" (37 : Nat) "BitRopes$Deed") ∈ lw_all := lw_g (lw_at lw_m2 64 rfl) rfl
theorem q415 : (Jvm.Cond.fieldLink "BitRopes$BookReade\x72" (33 : Nat) "BitRopes$BookReade\x72" "heads" "[Ljava/lang/String;") ∈ lw_all := lw_g (lw_at lw_m2 66 rfl) rfl
theorem q416 : (Jvm.Cond.fieldLink "BitRopes$BookReade\x72" (39 : Nat) "BitRopes$BookReade\x72" "row" "[LBitRopes$Deed;") ∈ lw_all := lw_g (lw_at lw_m2 67 rfl) rfl
theorem q418 : (Jvm.Cond.fieldLink "BitRopes$BookReade\x72" (43 : Nat) "BitRopes$BookReade\x72" "n" "I") ∈ lw_all := lw_g (lw_at lw_m2 69 rfl) rfl
theorem q420 : (Jvm.Cond.fieldLink "BitRopes$BookReade\x72" (3 : Nat) "BitRopes$BookReade\x72" "this$0" "LBitRopes;") ∈ lw_all := lw_g (lw_at lw_m2 71 rfl) rfl
theorem q421 : (Jvm.Cond.laysFinal "BitRopes$BookReade\x72" "BitRopes$BookReade\x72" "heads" "[Ljava/lang/String;") ∈ lw_all := lw_g (lw_at lw_m2 72 rfl) rfl
theorem q422 : (Jvm.Cond.soleField "BitRopes$BookReade\x72" "heads") ∈ lw_all := lw_g (lw_at lw_m2 73 rfl) rfl
theorem q423 : (Jvm.Cond.laysFinal "BitRopes$BookReade\x72" "BitRopes$BookReade\x72" "row" "[LBitRopes$Deed;") ∈ lw_all := lw_g (lw_at lw_m2 74 rfl) rfl
theorem q424 : (Jvm.Cond.soleField "BitRopes$BookReade\x72" "row") ∈ lw_all := lw_g (lw_at lw_m2 75 rfl) rfl
theorem q425 : (Jvm.Cond.lays "BitRopes$BookReade\x72" "BitRopes$BookReade\x72" "n" "I") ∈ lw_all := lw_g (lw_at lw_m2 76 rfl) rfl
theorem q426 : (Jvm.Cond.soleField "BitRopes$BookReade\x72" "n") ∈ lw_all := lw_g (lw_at lw_m2 77 rfl) rfl
theorem q427 : (Jvm.Cond.laysFinal "BitRopes$BookReade\x72" "BitRopes$BookReade\x72" "this$0" "LBitRopes;") ∈ lw_all := lw_g (lw_at lw_m2 78 rfl) rfl
theorem q428 : (Jvm.Cond.soleField "BitRopes$BookReade\x72" "this$0") ∈ lw_all := lw_g (lw_at lw_m2 79 rfl) rfl
theorem q429 : (Jvm.Cond.laysFinal "BitRopes$BookReade\x72" "BitRopes$Reade\x72" "most" "I") ∈ lw_all := lw_g (lw_at lw_m2 80 rfl) rfl
theorem q430 : (Jvm.Cond.lays "BitRopes$BookReade\x72" "BitRopes$Reade\x72" "p" "I") ∈ lw_all := lw_g (lw_at lw_m2 81 rfl) rfl
theorem q431 : (Jvm.Cond.lays "BitRopes$BookReade\x72" "BitRopes$Reade\x72" "at" "I") ∈ lw_all := lw_g (lw_at lw_m2 82 rfl) rfl
theorem q432 : (Jvm.Cond.lays "BitRopes$BookReade\x72" "BitRopes$Reade\x72" "token" "I") ∈ lw_all := lw_g (lw_at lw_m2 83 rfl) rfl
theorem q433 : (Jvm.Cond.lays "BitRopes$BookReade\x72" "BitRopes$Reade\x72" "value" "I") ∈ lw_all := lw_g (lw_at lw_m2 84 rfl) rfl
theorem q434 : (Jvm.Cond.lays "BitRopes$BookReade\x72" "BitRopes$Reade\x72" "many" "I") ∈ lw_all := lw_g (lw_at lw_m2 85 rfl) rfl
theorem q435 : (Jvm.Cond.lays "BitRopes$BookReade\x72" "BitRopes$Reade\x72" "name" "J") ∈ lw_all := lw_g (lw_at lw_m2 86 rfl) rfl
theorem q436 : (Jvm.Cond.laysFinal "BitRopes$BookReade\x72" "BitRopes$Reade\x72" "this$0" "LBitRopes;") ∈ lw_all := lw_g (lw_at lw_m2 87 rfl) rfl
theorem q437 : (Jvm.Cond.superclass "BitRopes$BookReade\x72" "BitRopes$Reade\x72") ∈ lw_all := lw_g (lw_at lw_m2 88 rfl) rfl
theorem q508 : (Jvm.Cond.fieldLinkNest "BitRopes$BookReade\x72" (73 : Nat) "BitRopes" "room" "LBitRopes$Room;" "BitRopes") ∈ lw_tbl := lw_at lw_m2 159 rfl
theorem q600 : (Jvm.Cond.selects "BitRopes$BookReade\x72" ({ cls := "BitRopes$Reade\x72", name := "next", desc := "()V" } : Jvm.MethodName) ({ cls := "BitRopes$Reade\x72", name := "next", desc := "()V" } : Jvm.MethodName)) ∈ lw_all := lw_g (lw_at lw_m3 11 rfl) rfl
theorem q632 : (Jvm.Cond.selects "BitRopes$BookReade\x72" ({ cls := "BitRopes$Reade\x72", name := "is", desc := "(Ljava/lang/String;)Z" } : Jvm.MethodName) ({ cls := "BitRopes$Reade\x72", name := "is", desc := "(Ljava/lang/String;)Z" } : Jvm.MethodName)) ∈ lw_all := lw_g (lw_at lw_m3 43 rfl) rfl
theorem q693 : (Jvm.Cond.selects "BitRopes$BookReade\x72" ({ cls := "BitRopes$Reade\x72", name := "wrong", desc := "(I)LBitRopes$Fault;" } : Jvm.MethodName) ({ cls := "BitRopes$Reade\x72", name := "wrong", desc := "(I)LBitRopes$Fault;" } : Jvm.MethodName)) ∈ lw_all := lw_g (lw_at lw_m3 104 rfl) rfl
theorem q884 : (Jvm.Cond.selects "BitRopes$BookReade\x72" ({ cls := "BitRopes$Reade\x72", name := "is", desc := "(I)Z" } : Jvm.MethodName) ({ cls := "BitRopes$Reade\x72", name := "is", desc := "(I)Z" } : Jvm.MethodName)) ∈ lw_all := lw_g (lw_at lw_m4 55 rfl) rfl
theorem q1302 : (Jvm.Cond.instanceMethod ({ cls := "BitRopes$BookReade\x72", name := "read", desc := "()V" } : Jvm.MethodName)) ∈ lw_all := lw_g (lw_at lw_m5 233 rfl) rfl
theorem q1303 : (Jvm.Cond.selects "BitRopes$BookReade\x72" ({ cls := "BitRopes$BookReade\x72", name := "read", desc := "()V" } : Jvm.MethodName) ({ cls := "BitRopes$BookReade\x72", name := "read", desc := "()V" } : Jvm.MethodName)) ∈ lw_all := lw_g (lw_at lw_m5 234 rfl) rfl
theorem q1304 : (Jvm.Cond.code ({ cls := "BitRopes$BookReade\x72", name := "read", desc := "()V" } : Jvm.MethodName) prog_3_method_2_code (2 : Nat) (Option.none : Option Jvm.ClassFile.FieldType)) ∈ lw_all := lw_g (lw_at lw_m5 235 rfl) rfl
theorem q1305 : (Jvm.Cond.methodLink "BitRopes$BookReade\x72" (47 : Nat) ({ cls := "BitRopes$BookReade\x72", name := "begin", desc := "()V" } : Jvm.MethodName)) ∈ lw_all := lw_g (lw_at lw_m5 236 rfl) rfl
theorem q1306 : (Jvm.Cond.sameMethod "BitRopes$BookReade\x72" "BitRopes$Reade\x72" "begin" "()V") ∈ lw_all := lw_g (lw_at lw_m5 237 rfl) rfl
theorem q1307 : (Jvm.Cond.selects "BitRopes$BookReade\x72" ({ cls := "BitRopes$BookReade\x72", name := "begin", desc := "()V" } : Jvm.MethodName) ({ cls := "BitRopes$Reade\x72", name := "begin", desc := "()V" } : Jvm.MethodName)) ∈ lw_all := lw_g (lw_at lw_m5 238 rfl) rfl
theorem q1308 : (Jvm.Cond.methodLink "BitRopes$BookReade\x72" (54 : Nat) ({ cls := "BitRopes$BookReade\x72", name := "readLine", desc := "()LBitRopes$Deed;" } : Jvm.MethodName)) ∈ lw_all := lw_g (lw_at lw_m5 239 rfl) rfl
theorem q1309 : (Jvm.Cond.privateMethod ({ cls := "BitRopes$BookReade\x72", name := "readLine", desc := "()LBitRopes$Deed;" } : Jvm.MethodName)) ∈ lw_tbl := lw_at lw_m6 0 rfl
theorem q1310 : (Jvm.Cond.instanceMethod ({ cls := "BitRopes$BookReade\x72", name := "readLine", desc := "()LBitRopes$Deed;" } : Jvm.MethodName)) ∈ lw_all := lw_g (lw_at lw_m6 1 rfl) rfl
theorem q1311 : (Jvm.Cond.code ({ cls := "BitRopes$BookReade\x72", name := "readLine", desc := "()LBitRopes$Deed;" } : Jvm.MethodName) prog_3_method_3_code (6 : Nat) (Option.some (Jvm.ClassFile.FieldType.object "BitRopes$Deed"))) ∈ lw_all := lw_g (lw_at lw_m6 2 rfl) rfl
theorem q1312 : (Jvm.Cond.methodLink "BitRopes$BookReade\x72" (62 : Nat) ({ cls := "BitRopes$BookReade\x72", name := "find", desc := "([Ljava/lang/String;)I" } : Jvm.MethodName)) ∈ lw_all := lw_g (lw_at lw_m6 3 rfl) rfl
theorem q1313 : (Jvm.Cond.sameMethod "BitRopes$BookReade\x72" "BitRopes$Reade\x72" "find" "([Ljava/lang/String;)I") ∈ lw_all := lw_g (lw_at lw_m6 4 rfl) rfl
theorem q1314 : (Jvm.Cond.selects "BitRopes$BookReade\x72" ({ cls := "BitRopes$BookReade\x72", name := "find", desc := "([Ljava/lang/String;)I" } : Jvm.MethodName) ({ cls := "BitRopes$Reade\x72", name := "find", desc := "([Ljava/lang/String;)I" } : Jvm.MethodName)) ∈ lw_all := lw_g (lw_at lw_m6 5 rfl) rfl
theorem q1315 : (Jvm.Cond.methodLink "BitRopes$BookReade\x72" (66 : Nat) ({ cls := "BitRopes$BookReade\x72", name := "must", desc := "(ZI)V" } : Jvm.MethodName)) ∈ lw_all := lw_g (lw_at lw_m6 6 rfl) rfl
theorem q1316 : (Jvm.Cond.sameMethod "BitRopes$BookReade\x72" "BitRopes$Reade\x72" "must" "(ZI)V") ∈ lw_all := lw_g (lw_at lw_m6 7 rfl) rfl
theorem q1317 : (Jvm.Cond.selects "BitRopes$BookReade\x72" ({ cls := "BitRopes$BookReade\x72", name := "must", desc := "(ZI)V" } : Jvm.MethodName) ({ cls := "BitRopes$Reade\x72", name := "must", desc := "(ZI)V" } : Jvm.MethodName)) ∈ lw_all := lw_g (lw_at lw_m6 8 rfl) rfl
theorem q1318 : (Jvm.Cond.methodLink "BitRopes$BookReade\x72" (70 : Nat) ({ cls := "BitRopes$BookReade\x72", name := "next", desc := "()V" } : Jvm.MethodName)) ∈ lw_all := lw_g (lw_at lw_m6 9 rfl) rfl
theorem q1319 : (Jvm.Cond.sameMethod "BitRopes$BookReade\x72" "BitRopes$Reade\x72" "next" "()V") ∈ lw_all := lw_g (lw_at lw_m6 10 rfl) rfl
theorem q1320 : (Jvm.Cond.selects "BitRopes$BookReade\x72" ({ cls := "BitRopes$BookReade\x72", name := "next", desc := "()V" } : Jvm.MethodName) ({ cls := "BitRopes$Reade\x72", name := "next", desc := "()V" } : Jvm.MethodName)) ∈ lw_all := lw_g (lw_at lw_m6 11 rfl) rfl
theorem q1321 : (Jvm.Cond.methodLink "BitRopes$BookReade\x72" (86 : Nat) ({ cls := "BitRopes$BookReade\x72", name := "known", desc := "([JI)I" } : Jvm.MethodName)) ∈ lw_all := lw_g (lw_at lw_m6 12 rfl) rfl
theorem q1322 : (Jvm.Cond.sameMethod "BitRopes$BookReade\x72" "BitRopes$Reade\x72" "known" "([JI)I") ∈ lw_all := lw_g (lw_at lw_m6 13 rfl) rfl
theorem q1324 : (Jvm.Cond.selects "BitRopes$BookReade\x72" ({ cls := "BitRopes$BookReade\x72", name := "known", desc := "([JI)I" } : Jvm.MethodName) ({ cls := "BitRopes$Reade\x72", name := "known", desc := "([JI)I" } : Jvm.MethodName)) ∈ lw_all := lw_g (lw_at lw_m6 15 rfl) rfl
theorem q1330 : (Jvm.Cond.selects "BitRopes$BookReade\x72" ({ cls := "BitRopes$Reade\x72", name := "look", desc := "([JI)I" } : Jvm.MethodName) ({ cls := "BitRopes$Reade\x72", name := "look", desc := "([JI)I" } : Jvm.MethodName)) ∈ lw_all := lw_g (lw_at lw_m6 21 rfl) rfl
theorem q1336 : (Jvm.Cond.methodLink "BitRopes$BookReade\x72" (90 : Nat) ({ cls := "BitRopes$BookReade\x72", name := "numbe\x72", desc := "(II)I" } : Jvm.MethodName)) ∈ lw_all := lw_g (lw_at lw_m6 27 rfl) rfl
theorem q1337 : (Jvm.Cond.sameMethod "BitRopes$BookReade\x72" "BitRopes$Reade\x72" "numbe\x72" "(II)I") ∈ lw_all := lw_g (lw_at lw_m6 28 rfl) rfl
theorem q1338 : (Jvm.Cond.selects "BitRopes$BookReade\x72" ({ cls := "BitRopes$BookReade\x72", name := "numbe\x72", desc := "(II)I" } : Jvm.MethodName) ({ cls := "BitRopes$Reade\x72", name := "numbe\x72", desc := "(II)I" } : Jvm.MethodName)) ∈ lw_all := lw_g (lw_at lw_m6 29 rfl) rfl
theorem q1339 : (Jvm.Cond.methodLink "BitRopes$BookReade\x72" (94 : Nat) ({ cls := "BitRopes$BookReade\x72", name := "look", desc := "([JI)I" } : Jvm.MethodName)) ∈ lw_all := lw_g (lw_at lw_m6 30 rfl) rfl
theorem q1340 : (Jvm.Cond.sameMethod "BitRopes$BookReade\x72" "BitRopes$Reade\x72" "look" "([JI)I") ∈ lw_all := lw_g (lw_at lw_m6 31 rfl) rfl
theorem q1342 : (Jvm.Cond.selects "BitRopes$BookReade\x72" ({ cls := "BitRopes$BookReade\x72", name := "look", desc := "([JI)I" } : Jvm.MethodName) ({ cls := "BitRopes$Reade\x72", name := "look", desc := "([JI)I" } : Jvm.MethodName)) ∈ lw_all := lw_g (lw_at lw_m6 33 rfl) rfl
theorem q1344 : (Jvm.Cond.methodLink "BitRopes$BookReade\x72" (97 : Nat) ({ cls := "BitRopes$Deed", name := "<init>", desc := "(IIII)V" } : Jvm.MethodName)) ∈ lw_all := lw_g (lw_at lw_m6 35 rfl) rfl
theorem q1365 : (Jvm.Cond.methodLink "BitRopes$BookReade\x72" (58 : Nat) ({ cls := "BitRopes$BookReade\x72", name := "sign", desc := "(I)V" } : Jvm.MethodName)) ∈ lw_all := lw_g (lw_at lw_m6 56 rfl) rfl
theorem q1366 : (Jvm.Cond.sameMethod "BitRopes$BookReade\x72" "BitRopes$Reade\x72" "sign" "(I)V") ∈ lw_all := lw_g (lw_at lw_m6 57 rfl) rfl
theorem q1367 : (Jvm.Cond.selects "BitRopes$BookReade\x72" ({ cls := "BitRopes$BookReade\x72", name := "sign", desc := "(I)V" } : Jvm.MethodName) ({ cls := "BitRopes$Reade\x72", name := "sign", desc := "(I)V" } : Jvm.MethodName)) ∈ lw_all := lw_g (lw_at lw_m6 58 rfl) rfl
theorem q2307 : (Jvm.Cond.selects "BitRopes$BookReade\x72" ({ cls := "BitRopes$Reade\x72", name := "must", desc := "(ZI)V" } : Jvm.MethodName) ({ cls := "BitRopes$Reade\x72", name := "must", desc := "(ZI)V" } : Jvm.MethodName)) ∈ lw_all := lw_g (lw_at lw_m10 38 rfl) rfl
theorem q2311 : (Jvm.Cond.selects "BitRopes$BookReade\x72" ({ cls := "BitRopes$Reade\x72", name := "find", desc := "([Ljava/lang/String;)I" } : Jvm.MethodName) ({ cls := "BitRopes$Reade\x72", name := "find", desc := "([Ljava/lang/String;)I" } : Jvm.MethodName)) ∈ lw_all := lw_g (lw_at lw_m10 42 rfl) rfl
theorem q2315 : (Jvm.Cond.selects "BitRopes$BookReade\x72" ({ cls := "BitRopes$Reade\x72", name := "isName", desc := "()Z" } : Jvm.MethodName) ({ cls := "BitRopes$Reade\x72", name := "isName", desc := "()Z" } : Jvm.MethodName)) ∈ lw_all := lw_g (lw_at lw_m10 46 rfl) rfl
theorem q2319 : (Jvm.Cond.selects "BitRopes$BookReade\x72" ({ cls := "BitRopes$Reade\x72", name := "of", desc := "([JI)I" } : Jvm.MethodName) ({ cls := "BitRopes$Reade\x72", name := "of", desc := "([JI)I" } : Jvm.MethodName)) ∈ lw_all := lw_g (lw_at lw_m10 50 rfl) rfl
theorem q2329 : (Jvm.Cond.castable "BitRopes$BookReade\x72" "java/lang/Object") ∈ lw_tbl := lw_at lw_m10 60 rfl
theorem in_X8 : ∀ w ∈ wsX80, w ∈ lw_all := lw_in wsX80 [429, 430, 431, 432, 433, 434, 435, 436, 421, 423, 425, 427] (by decide +kernel) (by decide +kernel)

/-! BitRopes$SentenceReader -/
set_option maxRecDepth 100000
def RX9 : String := "BitRopes$SentenceReade\x72"
def TX9 : u_T := fun k => match k with
  | 0 => ("BitRopes$Reade\x72", "most", "I", true)
  | 1 => ("BitRopes$Reade\x72", "p", "I", false)
  | 2 => ("BitRopes$Reade\x72", "at", "I", false)
  | 3 => ("BitRopes$Reade\x72", "token", "I", false)
  | 4 => ("BitRopes$Reade\x72", "value", "I", false)
  | 5 => ("BitRopes$Reade\x72", "many", "I", false)
  | 6 => ("BitRopes$Reade\x72", "name", "J", false)
  | 7 => ("BitRopes$Reade\x72", "this$0", "LBitRopes;", true)
  | 8 => ("BitRopes$SentenceReade\x72", "marks", "[Ljava/lang/String;", true)
  | 9 => ("BitRopes$SentenceReade\x72", "counts", "[Ljava/lang/String;", true)
  | 10 => ("BitRopes$SentenceReade\x72", "parts", "I", false)
  | _ => ("BitRopes$SentenceReade\x72", "this$0", "LBitRopes;", true)
def tyX9 : Nat → FieldType := fun k => match k with
  | 0 => .int
  | 1 => .int
  | 2 => .int
  | 3 => .int
  | 4 => .int
  | 5 => .int
  | 6 => .long
  | 7 => .object "BitRopes"
  | 8 => .array (.object "java/lang/String")
  | 9 => .array (.object "java/lang/String")
  | 10 => .int
  | _ => .object "BitRopes"
abbrev wsX90 : List Cond := u_ws RX9 TX9 12
-- two fields of one name: no nmX9
theorem tyX9_ok : ∀ k, k < 12 → parseFieldDescriptor (TX9 k).2.2.1 = some (tyX9 k) := by decide +kernel
abbrev cX9_init : ByteArray := prog_20_method_1_code
def yX9_init : MethodName := ⟨RX9, "<init>", "(LBitRopes;)V"⟩
def dkwX9_init_3 : List UInt8 := [181, 0, 39, 177]
abbrev dktX9_init_3 : List UInt8 := dkwX9_init_3 ++ []
def dkwX9_init_2 : List UInt8 := [18, 29, 83, 89, 4, 18, 31, 83, 89, 5, 18, 33, 83, 89, 6, 18, 35, 83, 89, 7, 18, 37, 83]
abbrev dktX9_init_2 : List UInt8 := dkwX9_init_2 ++ dktX9_init_3
def dkwX9_init_1 : List UInt8 := [4, 18, 19, 83, 89, 5, 18, 21, 83, 89, 6, 18, 23, 83, 181, 0, 25, 42, 8, 189, 0, 15, 89, 3]
abbrev dktX9_init_1 : List UInt8 := dkwX9_init_1 ++ dktX9_init_2
def dkwX9_init_0 : List UInt8 := [42, 43, 181, 0, 3, 42, 43, 17, 0, 200, 183, 0, 9, 42, 7, 189, 0, 15, 89, 3, 18, 17, 83, 89]
abbrev dktX9_init_0 : List UInt8 := dkwX9_init_0 ++ dktX9_init_1
theorem dksX9_init_0 : cX9_init.data.toList.drop 0 = dktX9_init_0 := by decide +kernel
theorem dksX9_init_1 : cX9_init.data.toList.drop 24 = dktX9_init_1 := dk_seg dksX9_init_0 24 rfl rfl
theorem dksX9_init_2 : cX9_init.data.toList.drop 48 = dktX9_init_2 := dk_seg dksX9_init_1 24 rfl rfl
theorem dksX9_init_3 : cX9_init.data.toList.drop 71 = dktX9_init_3 := dk_seg dksX9_init_2 23 rfl rfl
theorem dX9_init_0 : decode cX9_init 0 = .ok (.aload_n 0, 1) := dk_42 (dk_at dksX9_init_0 0 rfl rfl)
theorem dX9_init_1 : decode cX9_init 1 = .ok (.aload_n 1, 1) := dk_43 (dk_at dksX9_init_0 1 rfl rfl)
theorem dX9_init_2 : decode cX9_init 2 = .ok (.putfield 3, 3) := dk_181 0 3 (dk_at dksX9_init_0 2 rfl rfl)
theorem dX9_init_5 : decode cX9_init 5 = .ok (.aload_n 0, 1) := dk_42 (dk_at dksX9_init_0 5 rfl rfl)
theorem dX9_init_6 : decode cX9_init 6 = .ok (.aload_n 1, 1) := dk_43 (dk_at dksX9_init_0 6 rfl rfl)
theorem dX9_init_7 : decode cX9_init 7 = .ok (.sipush 200, 3) := dk_17 0 200 (dk_at dksX9_init_0 7 rfl rfl)
theorem dX9_init_10 : decode cX9_init 10 = .ok (.invokespecial 9, 3) := dk_183 0 9 (dk_at dksX9_init_0 10 rfl rfl)
theorem dX9_init_13 : decode cX9_init 13 = .ok (.aload_n 0, 1) := dk_42 (dk_at dksX9_init_0 13 rfl rfl)
theorem dX9_init_14 : decode cX9_init 14 = .ok (.iconst 4, 1) := dk_7 (dk_at dksX9_init_0 14 rfl rfl)
theorem dX9_init_15 : decode cX9_init 15 = .ok (.anewarray 15, 3) := dk_189 0 15 (dk_at dksX9_init_0 15 rfl rfl)
theorem dX9_init_18 : decode cX9_init 18 = .ok (.dup, 1) := dk_89 (dk_at dksX9_init_0 18 rfl rfl)
theorem dX9_init_19 : decode cX9_init 19 = .ok (.iconst 0, 1) := dk_3 (dk_at dksX9_init_0 19 rfl rfl)
theorem dX9_init_20 : decode cX9_init 20 = .ok (.ldc 17, 2) := dk_18 17 (dk_at dksX9_init_0 20 rfl rfl)
theorem dX9_init_22 : decode cX9_init 22 = .ok (.aastore, 1) := dk_83 (dk_at dksX9_init_0 22 rfl rfl)
theorem dX9_init_23 : decode cX9_init 23 = .ok (.dup, 1) := dk_89 (dk_at dksX9_init_0 23 rfl rfl)
theorem dX9_init_24 : decode cX9_init 24 = .ok (.iconst 1, 1) := dk_4 (dk_at dksX9_init_1 0 rfl rfl)
theorem dX9_init_25 : decode cX9_init 25 = .ok (.ldc 19, 2) := dk_18 19 (dk_at dksX9_init_1 1 rfl rfl)
theorem dX9_init_27 : decode cX9_init 27 = .ok (.aastore, 1) := dk_83 (dk_at dksX9_init_1 3 rfl rfl)
theorem dX9_init_28 : decode cX9_init 28 = .ok (.dup, 1) := dk_89 (dk_at dksX9_init_1 4 rfl rfl)
theorem dX9_init_29 : decode cX9_init 29 = .ok (.iconst 2, 1) := dk_5 (dk_at dksX9_init_1 5 rfl rfl)
theorem dX9_init_30 : decode cX9_init 30 = .ok (.ldc 21, 2) := dk_18 21 (dk_at dksX9_init_1 6 rfl rfl)
theorem dX9_init_32 : decode cX9_init 32 = .ok (.aastore, 1) := dk_83 (dk_at dksX9_init_1 8 rfl rfl)
theorem dX9_init_33 : decode cX9_init 33 = .ok (.dup, 1) := dk_89 (dk_at dksX9_init_1 9 rfl rfl)
theorem dX9_init_34 : decode cX9_init 34 = .ok (.iconst 3, 1) := dk_6 (dk_at dksX9_init_1 10 rfl rfl)
theorem dX9_init_35 : decode cX9_init 35 = .ok (.ldc 23, 2) := dk_18 23 (dk_at dksX9_init_1 11 rfl rfl)
theorem dX9_init_37 : decode cX9_init 37 = .ok (.aastore, 1) := dk_83 (dk_at dksX9_init_1 13 rfl rfl)
theorem dX9_init_38 : decode cX9_init 38 = .ok (.putfield 25, 3) := dk_181 0 25 (dk_at dksX9_init_1 14 rfl rfl)
theorem dX9_init_41 : decode cX9_init 41 = .ok (.aload_n 0, 1) := dk_42 (dk_at dksX9_init_1 17 rfl rfl)
theorem dX9_init_42 : decode cX9_init 42 = .ok (.iconst 5, 1) := dk_8 (dk_at dksX9_init_1 18 rfl rfl)
theorem dX9_init_43 : decode cX9_init 43 = .ok (.anewarray 15, 3) := dk_189 0 15 (dk_at dksX9_init_1 19 rfl rfl)
theorem dX9_init_46 : decode cX9_init 46 = .ok (.dup, 1) := dk_89 (dk_at dksX9_init_1 22 rfl rfl)
theorem dX9_init_47 : decode cX9_init 47 = .ok (.iconst 0, 1) := dk_3 (dk_at dksX9_init_1 23 rfl rfl)
theorem dX9_init_48 : decode cX9_init 48 = .ok (.ldc 29, 2) := dk_18 29 (dk_at dksX9_init_2 0 rfl rfl)
theorem dX9_init_50 : decode cX9_init 50 = .ok (.aastore, 1) := dk_83 (dk_at dksX9_init_2 2 rfl rfl)
theorem dX9_init_51 : decode cX9_init 51 = .ok (.dup, 1) := dk_89 (dk_at dksX9_init_2 3 rfl rfl)
theorem dX9_init_52 : decode cX9_init 52 = .ok (.iconst 1, 1) := dk_4 (dk_at dksX9_init_2 4 rfl rfl)
theorem dX9_init_53 : decode cX9_init 53 = .ok (.ldc 31, 2) := dk_18 31 (dk_at dksX9_init_2 5 rfl rfl)
theorem dX9_init_55 : decode cX9_init 55 = .ok (.aastore, 1) := dk_83 (dk_at dksX9_init_2 7 rfl rfl)
theorem dX9_init_56 : decode cX9_init 56 = .ok (.dup, 1) := dk_89 (dk_at dksX9_init_2 8 rfl rfl)
theorem dX9_init_57 : decode cX9_init 57 = .ok (.iconst 2, 1) := dk_5 (dk_at dksX9_init_2 9 rfl rfl)
theorem dX9_init_58 : decode cX9_init 58 = .ok (.ldc 33, 2) := dk_18 33 (dk_at dksX9_init_2 10 rfl rfl)
theorem dX9_init_60 : decode cX9_init 60 = .ok (.aastore, 1) := dk_83 (dk_at dksX9_init_2 12 rfl rfl)
theorem dX9_init_61 : decode cX9_init 61 = .ok (.dup, 1) := dk_89 (dk_at dksX9_init_2 13 rfl rfl)
theorem dX9_init_62 : decode cX9_init 62 = .ok (.iconst 3, 1) := dk_6 (dk_at dksX9_init_2 14 rfl rfl)
theorem dX9_init_63 : decode cX9_init 63 = .ok (.ldc 35, 2) := dk_18 35 (dk_at dksX9_init_2 15 rfl rfl)
theorem dX9_init_65 : decode cX9_init 65 = .ok (.aastore, 1) := dk_83 (dk_at dksX9_init_2 17 rfl rfl)
theorem dX9_init_66 : decode cX9_init 66 = .ok (.dup, 1) := dk_89 (dk_at dksX9_init_2 18 rfl rfl)
theorem dX9_init_67 : decode cX9_init 67 = .ok (.iconst 4, 1) := dk_7 (dk_at dksX9_init_2 19 rfl rfl)
theorem dX9_init_68 : decode cX9_init 68 = .ok (.ldc 37, 2) := dk_18 37 (dk_at dksX9_init_2 20 rfl rfl)
theorem dX9_init_70 : decode cX9_init 70 = .ok (.aastore, 1) := dk_83 (dk_at dksX9_init_2 22 rfl rfl)
theorem dX9_init_71 : decode cX9_init 71 = .ok (.putfield 39, 3) := dk_181 0 39 (dk_at dksX9_init_3 0 rfl rfl)
theorem dX9_init_74 : decode cX9_init 74 = .ok (.return_, 1) := dk_177 (dk_at dksX9_init_3 3 rfl rfl)
abbrev cX9_read : ByteArray := prog_20_method_2_code
def yX9_read : MethodName := ⟨RX9, "read", "()LBitRopes$Cond;"⟩
def dkwX9_read_1 : List UInt8 := [167, 0, 4, 3, 4, 182, 0, 57, 43, 176]
abbrev dktX9_read_1 : List UInt8 := dkwX9_read_1 ++ []
def dkwX9_read_0 : List UInt8 := [42, 3, 181, 0, 42, 42, 182, 0, 46, 42, 4, 182, 0, 50, 76, 42, 42, 180, 0, 54, 154, 0, 7, 4]
abbrev dktX9_read_0 : List UInt8 := dkwX9_read_0 ++ dktX9_read_1
theorem dksX9_read_0 : cX9_read.data.toList.drop 0 = dktX9_read_0 := by decide +kernel
theorem dksX9_read_1 : cX9_read.data.toList.drop 24 = dktX9_read_1 := dk_seg dksX9_read_0 24 rfl rfl
theorem dX9_read_0 : decode cX9_read 0 = .ok (.aload_n 0, 1) := dk_42 (dk_at dksX9_read_0 0 rfl rfl)
theorem dX9_read_1 : decode cX9_read 1 = .ok (.iconst 0, 1) := dk_3 (dk_at dksX9_read_0 1 rfl rfl)
theorem dX9_read_2 : decode cX9_read 2 = .ok (.putfield 42, 3) := dk_181 0 42 (dk_at dksX9_read_0 2 rfl rfl)
theorem dX9_read_5 : decode cX9_read 5 = .ok (.aload_n 0, 1) := dk_42 (dk_at dksX9_read_0 5 rfl rfl)
theorem dX9_read_6 : decode cX9_read 6 = .ok (.invokevirtual 46, 3) := dk_182 0 46 (dk_at dksX9_read_0 6 rfl rfl)
theorem dX9_read_9 : decode cX9_read 9 = .ok (.aload_n 0, 1) := dk_42 (dk_at dksX9_read_0 9 rfl rfl)
theorem dX9_read_10 : decode cX9_read 10 = .ok (.iconst 1, 1) := dk_4 (dk_at dksX9_read_0 10 rfl rfl)
theorem dX9_read_11 : decode cX9_read 11 = .ok (.invokevirtual 50, 3) := dk_182 0 50 (dk_at dksX9_read_0 11 rfl rfl)
theorem dX9_read_14 : decode cX9_read 14 = .ok (.astore_n 1, 1) := dk_76 (dk_at dksX9_read_0 14 rfl rfl)
theorem dX9_read_15 : decode cX9_read 15 = .ok (.aload_n 0, 1) := dk_42 (dk_at dksX9_read_0 15 rfl rfl)
theorem dX9_read_16 : decode cX9_read 16 = .ok (.aload_n 0, 1) := dk_42 (dk_at dksX9_read_0 16 rfl rfl)
theorem dX9_read_17 : decode cX9_read 17 = .ok (.getfield 54, 3) := dk_180 0 54 (dk_at dksX9_read_0 17 rfl rfl)
theorem dX9_read_20 : decode cX9_read 20 = .ok (.ifCond .ne 7, 3) := dk_154 0 7 (dk_at dksX9_read_0 20 rfl rfl)
theorem dX9_read_23 : decode cX9_read 23 = .ok (.iconst 1, 1) := dk_4 (dk_at dksX9_read_0 23 rfl rfl)
theorem dX9_read_24 : decode cX9_read 24 = .ok (.goto 4, 3) := dk_167 0 4 (dk_at dksX9_read_1 0 rfl rfl)
theorem dX9_read_27 : decode cX9_read 27 = .ok (.iconst 0, 1) := dk_3 (dk_at dksX9_read_1 3 rfl rfl)
theorem dX9_read_28 : decode cX9_read 28 = .ok (.iconst 1, 1) := dk_4 (dk_at dksX9_read_1 4 rfl rfl)
theorem dX9_read_29 : decode cX9_read 29 = .ok (.invokevirtual 57, 3) := dk_182 0 57 (dk_at dksX9_read_1 5 rfl rfl)
theorem dX9_read_32 : decode cX9_read 32 = .ok (.aload_n 1, 1) := dk_43 (dk_at dksX9_read_1 8 rfl rfl)
theorem dX9_read_33 : decode cX9_read 33 = .ok (.areturn, 1) := dk_176 (dk_at dksX9_read_1 9 rfl rfl)
abbrev cX9_any : ByteArray := prog_20_method_3_code
def yX9_any : MethodName := ⟨RX9, "any", "(I)LBitRopes$Cond;"⟩
def dkwX9_any_1 : List UInt8 := [42, 27, 182, 0, 61, 183, 0, 75, 77, 167, 255, 229, 44, 176]
abbrev dktX9_any_1 : List UInt8 := dkwX9_any_1 ++ []
def dkwX9_any_0 : List UInt8 := [42, 27, 182, 0, 61, 77, 42, 18, 64, 182, 0, 66, 153, 0, 24, 42, 182, 0, 70, 187, 0, 73, 89, 44]
abbrev dktX9_any_0 : List UInt8 := dkwX9_any_0 ++ dktX9_any_1
theorem dksX9_any_0 : cX9_any.data.toList.drop 0 = dktX9_any_0 := by decide +kernel
theorem dksX9_any_1 : cX9_any.data.toList.drop 24 = dktX9_any_1 := dk_seg dksX9_any_0 24 rfl rfl
theorem dX9_any_0 : decode cX9_any 0 = .ok (.aload_n 0, 1) := dk_42 (dk_at dksX9_any_0 0 rfl rfl)
theorem dX9_any_1 : decode cX9_any 1 = .ok (.iload_n 1, 1) := dk_27 (dk_at dksX9_any_0 1 rfl rfl)
theorem dX9_any_2 : decode cX9_any 2 = .ok (.invokevirtual 61, 3) := dk_182 0 61 (dk_at dksX9_any_0 2 rfl rfl)
theorem dX9_any_5 : decode cX9_any 5 = .ok (.astore_n 2, 1) := dk_77 (dk_at dksX9_any_0 5 rfl rfl)
theorem dX9_any_6 : decode cX9_any 6 = .ok (.aload_n 0, 1) := dk_42 (dk_at dksX9_any_0 6 rfl rfl)
theorem dX9_any_7 : decode cX9_any 7 = .ok (.ldc 64, 2) := dk_18 64 (dk_at dksX9_any_0 7 rfl rfl)
theorem dX9_any_9 : decode cX9_any 9 = .ok (.invokevirtual 66, 3) := dk_182 0 66 (dk_at dksX9_any_0 9 rfl rfl)
theorem dX9_any_12 : decode cX9_any 12 = .ok (.ifCond .eq 24, 3) := dk_153 0 24 (dk_at dksX9_any_0 12 rfl rfl)
theorem dX9_any_15 : decode cX9_any 15 = .ok (.aload_n 0, 1) := dk_42 (dk_at dksX9_any_0 15 rfl rfl)
theorem dX9_any_16 : decode cX9_any 16 = .ok (.invokevirtual 70, 3) := dk_182 0 70 (dk_at dksX9_any_0 16 rfl rfl)
theorem dX9_any_19 : decode cX9_any 19 = .ok (.new 73, 3) := dk_187 0 73 (dk_at dksX9_any_0 19 rfl rfl)
theorem dX9_any_22 : decode cX9_any 22 = .ok (.dup, 1) := dk_89 (dk_at dksX9_any_0 22 rfl rfl)
theorem dX9_any_23 : decode cX9_any 23 = .ok (.aload_n 2, 1) := dk_44 (dk_at dksX9_any_0 23 rfl rfl)
theorem dX9_any_24 : decode cX9_any 24 = .ok (.aload_n 0, 1) := dk_42 (dk_at dksX9_any_1 0 rfl rfl)
theorem dX9_any_25 : decode cX9_any 25 = .ok (.iload_n 1, 1) := dk_27 (dk_at dksX9_any_1 1 rfl rfl)
theorem dX9_any_26 : decode cX9_any 26 = .ok (.invokevirtual 61, 3) := dk_182 0 61 (dk_at dksX9_any_1 2 rfl rfl)
theorem dX9_any_29 : decode cX9_any 29 = .ok (.invokespecial 75, 3) := dk_183 0 75 (dk_at dksX9_any_1 5 rfl rfl)
theorem dX9_any_32 : decode cX9_any 32 = .ok (.astore_n 2, 1) := dk_77 (dk_at dksX9_any_1 8 rfl rfl)
theorem dX9_any_33 : decode cX9_any 33 = .ok (.goto (-27), 3) := dk_167 255 229 (dk_at dksX9_any_1 9 rfl rfl)
theorem dX9_any_36 : decode cX9_any 36 = .ok (.aload_n 2, 1) := dk_44 (dk_at dksX9_any_1 12 rfl rfl)
theorem dX9_any_37 : decode cX9_any 37 = .ok (.areturn, 1) := dk_176 (dk_at dksX9_any_1 13 rfl rfl)
abbrev cX9_both : ByteArray := prog_20_method_4_code
def yX9_both : MethodName := ⟨RX9, "both", "(I)LBitRopes$Cond;"⟩
def dkwX9_both_1 : List UInt8 := [42, 27, 182, 0, 78, 183, 0, 85, 77, 167, 255, 229, 44, 176]
abbrev dktX9_both_1 : List UInt8 := dkwX9_both_1 ++ []
def dkwX9_both_0 : List UInt8 := [42, 27, 182, 0, 78, 77, 42, 18, 81, 182, 0, 66, 153, 0, 24, 42, 182, 0, 70, 187, 0, 83, 89, 44]
abbrev dktX9_both_0 : List UInt8 := dkwX9_both_0 ++ dktX9_both_1
theorem dksX9_both_0 : cX9_both.data.toList.drop 0 = dktX9_both_0 := by decide +kernel
theorem dksX9_both_1 : cX9_both.data.toList.drop 24 = dktX9_both_1 := dk_seg dksX9_both_0 24 rfl rfl
theorem dX9_both_0 : decode cX9_both 0 = .ok (.aload_n 0, 1) := dk_42 (dk_at dksX9_both_0 0 rfl rfl)
theorem dX9_both_1 : decode cX9_both 1 = .ok (.iload_n 1, 1) := dk_27 (dk_at dksX9_both_0 1 rfl rfl)
theorem dX9_both_2 : decode cX9_both 2 = .ok (.invokevirtual 78, 3) := dk_182 0 78 (dk_at dksX9_both_0 2 rfl rfl)
theorem dX9_both_5 : decode cX9_both 5 = .ok (.astore_n 2, 1) := dk_77 (dk_at dksX9_both_0 5 rfl rfl)
theorem dX9_both_6 : decode cX9_both 6 = .ok (.aload_n 0, 1) := dk_42 (dk_at dksX9_both_0 6 rfl rfl)
theorem dX9_both_7 : decode cX9_both 7 = .ok (.ldc 81, 2) := dk_18 81 (dk_at dksX9_both_0 7 rfl rfl)
theorem dX9_both_9 : decode cX9_both 9 = .ok (.invokevirtual 66, 3) := dk_182 0 66 (dk_at dksX9_both_0 9 rfl rfl)
theorem dX9_both_12 : decode cX9_both 12 = .ok (.ifCond .eq 24, 3) := dk_153 0 24 (dk_at dksX9_both_0 12 rfl rfl)
theorem dX9_both_15 : decode cX9_both 15 = .ok (.aload_n 0, 1) := dk_42 (dk_at dksX9_both_0 15 rfl rfl)
theorem dX9_both_16 : decode cX9_both 16 = .ok (.invokevirtual 70, 3) := dk_182 0 70 (dk_at dksX9_both_0 16 rfl rfl)
theorem dX9_both_19 : decode cX9_both 19 = .ok (.new 83, 3) := dk_187 0 83 (dk_at dksX9_both_0 19 rfl rfl)
theorem dX9_both_22 : decode cX9_both 22 = .ok (.dup, 1) := dk_89 (dk_at dksX9_both_0 22 rfl rfl)
theorem dX9_both_23 : decode cX9_both 23 = .ok (.aload_n 2, 1) := dk_44 (dk_at dksX9_both_0 23 rfl rfl)
theorem dX9_both_24 : decode cX9_both 24 = .ok (.aload_n 0, 1) := dk_42 (dk_at dksX9_both_1 0 rfl rfl)
theorem dX9_both_25 : decode cX9_both 25 = .ok (.iload_n 1, 1) := dk_27 (dk_at dksX9_both_1 1 rfl rfl)
theorem dX9_both_26 : decode cX9_both 26 = .ok (.invokevirtual 78, 3) := dk_182 0 78 (dk_at dksX9_both_1 2 rfl rfl)
theorem dX9_both_29 : decode cX9_both 29 = .ok (.invokespecial 85, 3) := dk_183 0 85 (dk_at dksX9_both_1 5 rfl rfl)
theorem dX9_both_32 : decode cX9_both 32 = .ok (.astore_n 2, 1) := dk_77 (dk_at dksX9_both_1 8 rfl rfl)
theorem dX9_both_33 : decode cX9_both 33 = .ok (.goto (-27), 3) := dk_167 255 229 (dk_at dksX9_both_1 9 rfl rfl)
theorem dX9_both_36 : decode cX9_both 36 = .ok (.aload_n 2, 1) := dk_44 (dk_at dksX9_both_1 12 rfl rfl)
theorem dX9_both_37 : decode cX9_both 37 = .ok (.areturn, 1) := dk_176 (dk_at dksX9_both_1 13 rfl rfl)
abbrev cX9_single : ByteArray := prog_20_method_5_code
def yX9_single : MethodName := ⟨RX9, "single", "(I)LBitRopes$Cond;"⟩
def dkwX9_single_12 : List UInt8 := [183, 0, 131, 176]
abbrev dktX9_single_12 : List UInt8 := dkwX9_single_12 ++ []
def dkwX9_single_11 : List UInt8 := [4, 182, 0, 57, 42, 180, 0, 126, 54, 7, 42, 182, 0, 70, 187, 0, 129, 89, 21, 5, 21, 6, 21, 7]
abbrev dktX9_single_11 : List UInt8 := dkwX9_single_11 ++ dktX9_single_12
def dkwX9_single_10 : List UInt8 := [42, 180, 0, 126, 54, 6, 42, 182, 0, 70, 42, 42, 180, 0, 54, 5, 160, 0, 7, 4, 167, 0, 4, 3]
abbrev dktX9_single_10 : List UInt8 := dkwX9_single_10 ++ dktX9_single_11
def dkwX9_single_9 : List UInt8 := [182, 0, 88, 154, 0, 12, 42, 16, 62, 182, 0, 88, 153, 0, 7, 4, 167, 0, 4, 3, 4, 182, 0, 57]
abbrev dktX9_single_9 : List UInt8 := dkwX9_single_9 ++ dktX9_single_10
def dkwX9_single_8 : List UInt8 := [180, 0, 116, 182, 0, 119, 183, 0, 123, 176, 42, 42, 16, 60, 182, 0, 88, 154, 0, 21, 42, 16, 61]
abbrev dktX9_single_8 : List UInt8 := dkwX9_single_8 ++ dktX9_single_9
def dkwX9_single_7 : List UInt8 := [2, 167, 0, 27, 42, 42, 180, 0, 3, 180, 0, 106, 180, 0, 110, 42, 180, 0, 3, 180, 0, 106]
abbrev dktX9_single_7 : List UInt8 := dkwX9_single_7 ++ dktX9_single_8
def dkwX9_single_6 : List UInt8 := [182, 0, 100, 25, 6, 176, 21, 4, 2, 159, 0, 47, 187, 0, 104, 89, 21, 4, 21, 4, 5, 162, 0, 7]
abbrev dktX9_single_6 : List UInt8 := dkwX9_single_6 ++ dktX9_single_7
def dkwX9_single_5 : List UInt8 := [182, 0, 78, 183, 0, 97, 176, 29, 153, 0, 21, 42, 27, 4, 96, 182, 0, 50, 58, 6, 42, 16, 41]
abbrev dktX9_single_5 : List UInt8 := dkwX9_single_5 ++ dktX9_single_6
def dkwX9_single_4 : List UInt8 := [180, 0, 42, 4, 96, 181, 0, 42, 42, 182, 0, 70, 28, 153, 0, 18, 187, 0, 95, 89, 42, 27, 4, 96]
abbrev dktX9_single_4 : List UInt8 := dkwX9_single_4 ++ dktX9_single_5
def dkwX9_single_3 : List UInt8 := [16, 20, 162, 0, 13, 27, 16, 8, 163, 0, 7, 4, 167, 0, 4, 3, 7, 182, 0, 57, 42, 89]
abbrev dktX9_single_3 : List UInt8 := dkwX9_single_3 ++ dktX9_single_4
def dkwX9_single_2 : List UInt8 := [160, 0, 9, 21, 5, 2, 159, 0, 7, 4, 167, 0, 4, 3, 4, 182, 0, 57, 42, 42, 180, 0, 42]
abbrev dktX9_single_2 : List UInt8 := dkwX9_single_2 ++ dktX9_single_3
def dkwX9_single_1 : List UInt8 := [42, 42, 180, 0, 39, 182, 0, 91, 54, 5, 42, 28, 154, 0, 19, 29, 154, 0, 15, 21, 4, 2]
abbrev dktX9_single_1 : List UInt8 := dkwX9_single_1 ++ dktX9_single_2
def dkwX9_single_0 : List UInt8 := [42, 18, 86, 182, 0, 66, 61, 42, 16, 40, 182, 0, 88, 62, 42, 42, 180, 0, 25, 182, 0, 91, 54, 4]
abbrev dktX9_single_0 : List UInt8 := dkwX9_single_0 ++ dktX9_single_1
theorem dksX9_single_0 : cX9_single.data.toList.drop 0 = dktX9_single_0 := by decide +kernel
theorem dksX9_single_1 : cX9_single.data.toList.drop 24 = dktX9_single_1 := dk_seg dksX9_single_0 24 rfl rfl
theorem dksX9_single_2 : cX9_single.data.toList.drop 46 = dktX9_single_2 := dk_seg dksX9_single_1 22 rfl rfl
theorem dksX9_single_3 : cX9_single.data.toList.drop 69 = dktX9_single_3 := dk_seg dksX9_single_2 23 rfl rfl
theorem dksX9_single_4 : cX9_single.data.toList.drop 91 = dktX9_single_4 := dk_seg dksX9_single_3 22 rfl rfl
theorem dksX9_single_5 : cX9_single.data.toList.drop 115 = dktX9_single_5 := dk_seg dksX9_single_4 24 rfl rfl
theorem dksX9_single_6 : cX9_single.data.toList.drop 138 = dktX9_single_6 := dk_seg dksX9_single_5 23 rfl rfl
theorem dksX9_single_7 : cX9_single.data.toList.drop 162 = dktX9_single_7 := dk_seg dksX9_single_6 24 rfl rfl
theorem dksX9_single_8 : cX9_single.data.toList.drop 184 = dktX9_single_8 := dk_seg dksX9_single_7 22 rfl rfl
theorem dksX9_single_9 : cX9_single.data.toList.drop 207 = dktX9_single_9 := dk_seg dksX9_single_8 23 rfl rfl
theorem dksX9_single_10 : cX9_single.data.toList.drop 231 = dktX9_single_10 := dk_seg dksX9_single_9 24 rfl rfl
theorem dksX9_single_11 : cX9_single.data.toList.drop 255 = dktX9_single_11 := dk_seg dksX9_single_10 24 rfl rfl
theorem dksX9_single_12 : cX9_single.data.toList.drop 279 = dktX9_single_12 := dk_seg dksX9_single_11 24 rfl rfl
theorem dX9_single_0 : decode cX9_single 0 = .ok (.aload_n 0, 1) := dk_42 (dk_at dksX9_single_0 0 rfl rfl)
theorem dX9_single_1 : decode cX9_single 1 = .ok (.ldc 86, 2) := dk_18 86 (dk_at dksX9_single_0 1 rfl rfl)
theorem dX9_single_3 : decode cX9_single 3 = .ok (.invokevirtual 66, 3) := dk_182 0 66 (dk_at dksX9_single_0 3 rfl rfl)
theorem dX9_single_6 : decode cX9_single 6 = .ok (.istore_n 2, 1) := dk_61 (dk_at dksX9_single_0 6 rfl rfl)
theorem dX9_single_7 : decode cX9_single 7 = .ok (.aload_n 0, 1) := dk_42 (dk_at dksX9_single_0 7 rfl rfl)
theorem dX9_single_8 : decode cX9_single 8 = .ok (.bipush 40, 2) := dk_16 40 (dk_at dksX9_single_0 8 rfl rfl)
theorem dX9_single_10 : decode cX9_single 10 = .ok (.invokevirtual 88, 3) := dk_182 0 88 (dk_at dksX9_single_0 10 rfl rfl)
theorem dX9_single_13 : decode cX9_single 13 = .ok (.istore_n 3, 1) := dk_62 (dk_at dksX9_single_0 13 rfl rfl)
theorem dX9_single_14 : decode cX9_single 14 = .ok (.aload_n 0, 1) := dk_42 (dk_at dksX9_single_0 14 rfl rfl)
theorem dX9_single_15 : decode cX9_single 15 = .ok (.aload_n 0, 1) := dk_42 (dk_at dksX9_single_0 15 rfl rfl)
theorem dX9_single_16 : decode cX9_single 16 = .ok (.getfield 25, 3) := dk_180 0 25 (dk_at dksX9_single_0 16 rfl rfl)
theorem dX9_single_19 : decode cX9_single 19 = .ok (.invokevirtual 91, 3) := dk_182 0 91 (dk_at dksX9_single_0 19 rfl rfl)
theorem dX9_single_22 : decode cX9_single 22 = .ok (.istore 4, 2) := dk_54 4 (dk_at dksX9_single_0 22 rfl rfl)
theorem dX9_single_24 : decode cX9_single 24 = .ok (.aload_n 0, 1) := dk_42 (dk_at dksX9_single_1 0 rfl rfl)
theorem dX9_single_25 : decode cX9_single 25 = .ok (.aload_n 0, 1) := dk_42 (dk_at dksX9_single_1 1 rfl rfl)
theorem dX9_single_26 : decode cX9_single 26 = .ok (.getfield 39, 3) := dk_180 0 39 (dk_at dksX9_single_1 2 rfl rfl)
theorem dX9_single_29 : decode cX9_single 29 = .ok (.invokevirtual 91, 3) := dk_182 0 91 (dk_at dksX9_single_1 5 rfl rfl)
theorem dX9_single_32 : decode cX9_single 32 = .ok (.istore 5, 2) := dk_54 5 (dk_at dksX9_single_1 8 rfl rfl)
theorem dX9_single_34 : decode cX9_single 34 = .ok (.aload_n 0, 1) := dk_42 (dk_at dksX9_single_1 10 rfl rfl)
theorem dX9_single_35 : decode cX9_single 35 = .ok (.iload_n 2, 1) := dk_28 (dk_at dksX9_single_1 11 rfl rfl)
theorem dX9_single_36 : decode cX9_single 36 = .ok (.ifCond .ne 19, 3) := dk_154 0 19 (dk_at dksX9_single_1 12 rfl rfl)
theorem dX9_single_39 : decode cX9_single 39 = .ok (.iload_n 3, 1) := dk_29 (dk_at dksX9_single_1 15 rfl rfl)
theorem dX9_single_40 : decode cX9_single 40 = .ok (.ifCond .ne 15, 3) := dk_154 0 15 (dk_at dksX9_single_1 16 rfl rfl)
theorem dX9_single_43 : decode cX9_single 43 = .ok (.iload 4, 2) := dk_21 4 (dk_at dksX9_single_1 19 rfl rfl)
theorem dX9_single_45 : decode cX9_single 45 = .ok (.iconst (-1), 1) := dk_2 (dk_at dksX9_single_1 21 rfl rfl)
theorem dX9_single_46 : decode cX9_single 46 = .ok (.if_icmp .ne 9, 3) := dk_160 0 9 (dk_at dksX9_single_2 0 rfl rfl)
theorem dX9_single_49 : decode cX9_single 49 = .ok (.iload 5, 2) := dk_21 5 (dk_at dksX9_single_2 3 rfl rfl)
theorem dX9_single_51 : decode cX9_single 51 = .ok (.iconst (-1), 1) := dk_2 (dk_at dksX9_single_2 5 rfl rfl)
theorem dX9_single_52 : decode cX9_single 52 = .ok (.if_icmp .eq 7, 3) := dk_159 0 7 (dk_at dksX9_single_2 6 rfl rfl)
theorem dX9_single_55 : decode cX9_single 55 = .ok (.iconst 1, 1) := dk_4 (dk_at dksX9_single_2 9 rfl rfl)
theorem dX9_single_56 : decode cX9_single 56 = .ok (.goto 4, 3) := dk_167 0 4 (dk_at dksX9_single_2 10 rfl rfl)
theorem dX9_single_59 : decode cX9_single 59 = .ok (.iconst 0, 1) := dk_3 (dk_at dksX9_single_2 13 rfl rfl)
theorem dX9_single_60 : decode cX9_single 60 = .ok (.iconst 1, 1) := dk_4 (dk_at dksX9_single_2 14 rfl rfl)
theorem dX9_single_61 : decode cX9_single 61 = .ok (.invokevirtual 57, 3) := dk_182 0 57 (dk_at dksX9_single_2 15 rfl rfl)
theorem dX9_single_64 : decode cX9_single 64 = .ok (.aload_n 0, 1) := dk_42 (dk_at dksX9_single_2 18 rfl rfl)
theorem dX9_single_65 : decode cX9_single 65 = .ok (.aload_n 0, 1) := dk_42 (dk_at dksX9_single_2 19 rfl rfl)
theorem dX9_single_66 : decode cX9_single 66 = .ok (.getfield 42, 3) := dk_180 0 42 (dk_at dksX9_single_2 20 rfl rfl)
theorem dX9_single_69 : decode cX9_single 69 = .ok (.bipush 20, 2) := dk_16 20 (dk_at dksX9_single_3 0 rfl rfl)
theorem dX9_single_71 : decode cX9_single 71 = .ok (.if_icmp .ge 13, 3) := dk_162 0 13 (dk_at dksX9_single_3 2 rfl rfl)
theorem dX9_single_74 : decode cX9_single 74 = .ok (.iload_n 1, 1) := dk_27 (dk_at dksX9_single_3 5 rfl rfl)
theorem dX9_single_75 : decode cX9_single 75 = .ok (.bipush 8, 2) := dk_16 8 (dk_at dksX9_single_3 6 rfl rfl)
theorem dX9_single_77 : decode cX9_single 77 = .ok (.if_icmp .gt 7, 3) := dk_163 0 7 (dk_at dksX9_single_3 8 rfl rfl)
theorem dX9_single_80 : decode cX9_single 80 = .ok (.iconst 1, 1) := dk_4 (dk_at dksX9_single_3 11 rfl rfl)
theorem dX9_single_81 : decode cX9_single 81 = .ok (.goto 4, 3) := dk_167 0 4 (dk_at dksX9_single_3 12 rfl rfl)
theorem dX9_single_84 : decode cX9_single 84 = .ok (.iconst 0, 1) := dk_3 (dk_at dksX9_single_3 15 rfl rfl)
theorem dX9_single_85 : decode cX9_single 85 = .ok (.iconst 4, 1) := dk_7 (dk_at dksX9_single_3 16 rfl rfl)
theorem dX9_single_86 : decode cX9_single 86 = .ok (.invokevirtual 57, 3) := dk_182 0 57 (dk_at dksX9_single_3 17 rfl rfl)
theorem dX9_single_89 : decode cX9_single 89 = .ok (.aload_n 0, 1) := dk_42 (dk_at dksX9_single_3 20 rfl rfl)
theorem dX9_single_90 : decode cX9_single 90 = .ok (.dup, 1) := dk_89 (dk_at dksX9_single_3 21 rfl rfl)
theorem dX9_single_91 : decode cX9_single 91 = .ok (.getfield 42, 3) := dk_180 0 42 (dk_at dksX9_single_4 0 rfl rfl)
theorem dX9_single_94 : decode cX9_single 94 = .ok (.iconst 1, 1) := dk_4 (dk_at dksX9_single_4 3 rfl rfl)
theorem dX9_single_95 : decode cX9_single 95 = .ok (.iadd, 1) := dk_96 (dk_at dksX9_single_4 4 rfl rfl)
theorem dX9_single_96 : decode cX9_single 96 = .ok (.putfield 42, 3) := dk_181 0 42 (dk_at dksX9_single_4 5 rfl rfl)
theorem dX9_single_99 : decode cX9_single 99 = .ok (.aload_n 0, 1) := dk_42 (dk_at dksX9_single_4 8 rfl rfl)
theorem dX9_single_100 : decode cX9_single 100 = .ok (.invokevirtual 70, 3) := dk_182 0 70 (dk_at dksX9_single_4 9 rfl rfl)
theorem dX9_single_103 : decode cX9_single 103 = .ok (.iload_n 2, 1) := dk_28 (dk_at dksX9_single_4 12 rfl rfl)
theorem dX9_single_104 : decode cX9_single 104 = .ok (.ifCond .eq 18, 3) := dk_153 0 18 (dk_at dksX9_single_4 13 rfl rfl)
theorem dX9_single_107 : decode cX9_single 107 = .ok (.new 95, 3) := dk_187 0 95 (dk_at dksX9_single_4 16 rfl rfl)
theorem dX9_single_110 : decode cX9_single 110 = .ok (.dup, 1) := dk_89 (dk_at dksX9_single_4 19 rfl rfl)
theorem dX9_single_111 : decode cX9_single 111 = .ok (.aload_n 0, 1) := dk_42 (dk_at dksX9_single_4 20 rfl rfl)
theorem dX9_single_112 : decode cX9_single 112 = .ok (.iload_n 1, 1) := dk_27 (dk_at dksX9_single_4 21 rfl rfl)
theorem dX9_single_113 : decode cX9_single 113 = .ok (.iconst 1, 1) := dk_4 (dk_at dksX9_single_4 22 rfl rfl)
theorem dX9_single_114 : decode cX9_single 114 = .ok (.iadd, 1) := dk_96 (dk_at dksX9_single_4 23 rfl rfl)
theorem dX9_single_115 : decode cX9_single 115 = .ok (.invokevirtual 78, 3) := dk_182 0 78 (dk_at dksX9_single_5 0 rfl rfl)
theorem dX9_single_118 : decode cX9_single 118 = .ok (.invokespecial 97, 3) := dk_183 0 97 (dk_at dksX9_single_5 3 rfl rfl)
theorem dX9_single_121 : decode cX9_single 121 = .ok (.areturn, 1) := dk_176 (dk_at dksX9_single_5 6 rfl rfl)
theorem dX9_single_122 : decode cX9_single 122 = .ok (.iload_n 3, 1) := dk_29 (dk_at dksX9_single_5 7 rfl rfl)
theorem dX9_single_123 : decode cX9_single 123 = .ok (.ifCond .eq 21, 3) := dk_153 0 21 (dk_at dksX9_single_5 8 rfl rfl)
theorem dX9_single_126 : decode cX9_single 126 = .ok (.aload_n 0, 1) := dk_42 (dk_at dksX9_single_5 11 rfl rfl)
theorem dX9_single_127 : decode cX9_single 127 = .ok (.iload_n 1, 1) := dk_27 (dk_at dksX9_single_5 12 rfl rfl)
theorem dX9_single_128 : decode cX9_single 128 = .ok (.iconst 1, 1) := dk_4 (dk_at dksX9_single_5 13 rfl rfl)
theorem dX9_single_129 : decode cX9_single 129 = .ok (.iadd, 1) := dk_96 (dk_at dksX9_single_5 14 rfl rfl)
theorem dX9_single_130 : decode cX9_single 130 = .ok (.invokevirtual 50, 3) := dk_182 0 50 (dk_at dksX9_single_5 15 rfl rfl)
theorem dX9_single_133 : decode cX9_single 133 = .ok (.astore 6, 2) := dk_58 6 (dk_at dksX9_single_5 18 rfl rfl)
theorem dX9_single_135 : decode cX9_single 135 = .ok (.aload_n 0, 1) := dk_42 (dk_at dksX9_single_5 20 rfl rfl)
theorem dX9_single_136 : decode cX9_single 136 = .ok (.bipush 41, 2) := dk_16 41 (dk_at dksX9_single_5 21 rfl rfl)
theorem dX9_single_138 : decode cX9_single 138 = .ok (.invokevirtual 100, 3) := dk_182 0 100 (dk_at dksX9_single_6 0 rfl rfl)
theorem dX9_single_141 : decode cX9_single 141 = .ok (.aload 6, 2) := dk_25 6 (dk_at dksX9_single_6 3 rfl rfl)
theorem dX9_single_143 : decode cX9_single 143 = .ok (.areturn, 1) := dk_176 (dk_at dksX9_single_6 5 rfl rfl)
theorem dX9_single_144 : decode cX9_single 144 = .ok (.iload 4, 2) := dk_21 4 (dk_at dksX9_single_6 6 rfl rfl)
theorem dX9_single_146 : decode cX9_single 146 = .ok (.iconst (-1), 1) := dk_2 (dk_at dksX9_single_6 8 rfl rfl)
theorem dX9_single_147 : decode cX9_single 147 = .ok (.if_icmp .eq 47, 3) := dk_159 0 47 (dk_at dksX9_single_6 9 rfl rfl)
theorem dX9_single_150 : decode cX9_single 150 = .ok (.new 104, 3) := dk_187 0 104 (dk_at dksX9_single_6 12 rfl rfl)
theorem dX9_single_153 : decode cX9_single 153 = .ok (.dup, 1) := dk_89 (dk_at dksX9_single_6 15 rfl rfl)
theorem dX9_single_154 : decode cX9_single 154 = .ok (.iload 4, 2) := dk_21 4 (dk_at dksX9_single_6 16 rfl rfl)
theorem dX9_single_156 : decode cX9_single 156 = .ok (.iload 4, 2) := dk_21 4 (dk_at dksX9_single_6 18 rfl rfl)
theorem dX9_single_158 : decode cX9_single 158 = .ok (.iconst 2, 1) := dk_5 (dk_at dksX9_single_6 20 rfl rfl)
theorem dX9_single_159 : decode cX9_single 159 = .ok (.if_icmp .ge 7, 3) := dk_162 0 7 (dk_at dksX9_single_6 21 rfl rfl)
theorem dX9_single_162 : decode cX9_single 162 = .ok (.iconst (-1), 1) := dk_2 (dk_at dksX9_single_7 0 rfl rfl)
theorem dX9_single_163 : decode cX9_single 163 = .ok (.goto 27, 3) := dk_167 0 27 (dk_at dksX9_single_7 1 rfl rfl)
theorem dX9_single_166 : decode cX9_single 166 = .ok (.aload_n 0, 1) := dk_42 (dk_at dksX9_single_7 4 rfl rfl)
theorem dX9_single_167 : decode cX9_single 167 = .ok (.aload_n 0, 1) := dk_42 (dk_at dksX9_single_7 5 rfl rfl)
theorem dX9_single_168 : decode cX9_single 168 = .ok (.getfield 3, 3) := dk_180 0 3 (dk_at dksX9_single_7 6 rfl rfl)
theorem dX9_single_171 : decode cX9_single 171 = .ok (.getfield 106, 3) := dk_180 0 106 (dk_at dksX9_single_7 9 rfl rfl)
theorem dX9_single_174 : decode cX9_single 174 = .ok (.getfield 110, 3) := dk_180 0 110 (dk_at dksX9_single_7 12 rfl rfl)
theorem dX9_single_177 : decode cX9_single 177 = .ok (.aload_n 0, 1) := dk_42 (dk_at dksX9_single_7 15 rfl rfl)
theorem dX9_single_178 : decode cX9_single 178 = .ok (.getfield 3, 3) := dk_180 0 3 (dk_at dksX9_single_7 16 rfl rfl)
theorem dX9_single_181 : decode cX9_single 181 = .ok (.getfield 106, 3) := dk_180 0 106 (dk_at dksX9_single_7 19 rfl rfl)
theorem dX9_single_184 : decode cX9_single 184 = .ok (.getfield 116, 3) := dk_180 0 116 (dk_at dksX9_single_8 0 rfl rfl)
theorem dX9_single_187 : decode cX9_single 187 = .ok (.invokevirtual 119, 3) := dk_182 0 119 (dk_at dksX9_single_8 3 rfl rfl)
theorem dX9_single_190 : decode cX9_single 190 = .ok (.invokespecial 123, 3) := dk_183 0 123 (dk_at dksX9_single_8 6 rfl rfl)
theorem dX9_single_193 : decode cX9_single 193 = .ok (.areturn, 1) := dk_176 (dk_at dksX9_single_8 9 rfl rfl)
theorem dX9_single_194 : decode cX9_single 194 = .ok (.aload_n 0, 1) := dk_42 (dk_at dksX9_single_8 10 rfl rfl)
theorem dX9_single_195 : decode cX9_single 195 = .ok (.aload_n 0, 1) := dk_42 (dk_at dksX9_single_8 11 rfl rfl)
theorem dX9_single_196 : decode cX9_single 196 = .ok (.bipush 60, 2) := dk_16 60 (dk_at dksX9_single_8 12 rfl rfl)
theorem dX9_single_198 : decode cX9_single 198 = .ok (.invokevirtual 88, 3) := dk_182 0 88 (dk_at dksX9_single_8 14 rfl rfl)
theorem dX9_single_201 : decode cX9_single 201 = .ok (.ifCond .ne 21, 3) := dk_154 0 21 (dk_at dksX9_single_8 17 rfl rfl)
theorem dX9_single_204 : decode cX9_single 204 = .ok (.aload_n 0, 1) := dk_42 (dk_at dksX9_single_8 20 rfl rfl)
theorem dX9_single_205 : decode cX9_single 205 = .ok (.bipush 61, 2) := dk_16 61 (dk_at dksX9_single_8 21 rfl rfl)
theorem dX9_single_207 : decode cX9_single 207 = .ok (.invokevirtual 88, 3) := dk_182 0 88 (dk_at dksX9_single_9 0 rfl rfl)
theorem dX9_single_210 : decode cX9_single 210 = .ok (.ifCond .ne 12, 3) := dk_154 0 12 (dk_at dksX9_single_9 3 rfl rfl)
theorem dX9_single_213 : decode cX9_single 213 = .ok (.aload_n 0, 1) := dk_42 (dk_at dksX9_single_9 6 rfl rfl)
theorem dX9_single_214 : decode cX9_single 214 = .ok (.bipush 62, 2) := dk_16 62 (dk_at dksX9_single_9 7 rfl rfl)
theorem dX9_single_216 : decode cX9_single 216 = .ok (.invokevirtual 88, 3) := dk_182 0 88 (dk_at dksX9_single_9 9 rfl rfl)
theorem dX9_single_219 : decode cX9_single 219 = .ok (.ifCond .eq 7, 3) := dk_153 0 7 (dk_at dksX9_single_9 12 rfl rfl)
theorem dX9_single_222 : decode cX9_single 222 = .ok (.iconst 1, 1) := dk_4 (dk_at dksX9_single_9 15 rfl rfl)
theorem dX9_single_223 : decode cX9_single 223 = .ok (.goto 4, 3) := dk_167 0 4 (dk_at dksX9_single_9 16 rfl rfl)
theorem dX9_single_226 : decode cX9_single 226 = .ok (.iconst 0, 1) := dk_3 (dk_at dksX9_single_9 19 rfl rfl)
theorem dX9_single_227 : decode cX9_single 227 = .ok (.iconst 1, 1) := dk_4 (dk_at dksX9_single_9 20 rfl rfl)
theorem dX9_single_228 : decode cX9_single 228 = .ok (.invokevirtual 57, 3) := dk_182 0 57 (dk_at dksX9_single_9 21 rfl rfl)
theorem dX9_single_231 : decode cX9_single 231 = .ok (.aload_n 0, 1) := dk_42 (dk_at dksX9_single_10 0 rfl rfl)
theorem dX9_single_232 : decode cX9_single 232 = .ok (.getfield 126, 3) := dk_180 0 126 (dk_at dksX9_single_10 1 rfl rfl)
theorem dX9_single_235 : decode cX9_single 235 = .ok (.istore 6, 2) := dk_54 6 (dk_at dksX9_single_10 4 rfl rfl)
theorem dX9_single_237 : decode cX9_single 237 = .ok (.aload_n 0, 1) := dk_42 (dk_at dksX9_single_10 6 rfl rfl)
theorem dX9_single_238 : decode cX9_single 238 = .ok (.invokevirtual 70, 3) := dk_182 0 70 (dk_at dksX9_single_10 7 rfl rfl)
theorem dX9_single_241 : decode cX9_single 241 = .ok (.aload_n 0, 1) := dk_42 (dk_at dksX9_single_10 10 rfl rfl)
theorem dX9_single_242 : decode cX9_single 242 = .ok (.aload_n 0, 1) := dk_42 (dk_at dksX9_single_10 11 rfl rfl)
theorem dX9_single_243 : decode cX9_single 243 = .ok (.getfield 54, 3) := dk_180 0 54 (dk_at dksX9_single_10 12 rfl rfl)
theorem dX9_single_246 : decode cX9_single 246 = .ok (.iconst 2, 1) := dk_5 (dk_at dksX9_single_10 15 rfl rfl)
theorem dX9_single_247 : decode cX9_single 247 = .ok (.if_icmp .ne 7, 3) := dk_160 0 7 (dk_at dksX9_single_10 16 rfl rfl)
theorem dX9_single_250 : decode cX9_single 250 = .ok (.iconst 1, 1) := dk_4 (dk_at dksX9_single_10 19 rfl rfl)
theorem dX9_single_251 : decode cX9_single 251 = .ok (.goto 4, 3) := dk_167 0 4 (dk_at dksX9_single_10 20 rfl rfl)
theorem dX9_single_254 : decode cX9_single 254 = .ok (.iconst 0, 1) := dk_3 (dk_at dksX9_single_10 23 rfl rfl)
theorem dX9_single_255 : decode cX9_single 255 = .ok (.iconst 1, 1) := dk_4 (dk_at dksX9_single_11 0 rfl rfl)
theorem dX9_single_256 : decode cX9_single 256 = .ok (.invokevirtual 57, 3) := dk_182 0 57 (dk_at dksX9_single_11 1 rfl rfl)
theorem dX9_single_259 : decode cX9_single 259 = .ok (.aload_n 0, 1) := dk_42 (dk_at dksX9_single_11 4 rfl rfl)
theorem dX9_single_260 : decode cX9_single 260 = .ok (.getfield 126, 3) := dk_180 0 126 (dk_at dksX9_single_11 5 rfl rfl)
theorem dX9_single_263 : decode cX9_single 263 = .ok (.istore 7, 2) := dk_54 7 (dk_at dksX9_single_11 8 rfl rfl)
theorem dX9_single_265 : decode cX9_single 265 = .ok (.aload_n 0, 1) := dk_42 (dk_at dksX9_single_11 10 rfl rfl)
theorem dX9_single_266 : decode cX9_single 266 = .ok (.invokevirtual 70, 3) := dk_182 0 70 (dk_at dksX9_single_11 11 rfl rfl)
theorem dX9_single_269 : decode cX9_single 269 = .ok (.new 129, 3) := dk_187 0 129 (dk_at dksX9_single_11 14 rfl rfl)
theorem dX9_single_272 : decode cX9_single 272 = .ok (.dup, 1) := dk_89 (dk_at dksX9_single_11 17 rfl rfl)
theorem dX9_single_273 : decode cX9_single 273 = .ok (.iload 5, 2) := dk_21 5 (dk_at dksX9_single_11 18 rfl rfl)
theorem dX9_single_275 : decode cX9_single 275 = .ok (.iload 6, 2) := dk_21 6 (dk_at dksX9_single_11 20 rfl rfl)
theorem dX9_single_277 : decode cX9_single 277 = .ok (.iload 7, 2) := dk_21 7 (dk_at dksX9_single_11 22 rfl rfl)
theorem dX9_single_279 : decode cX9_single 279 = .ok (.invokespecial 131, 3) := dk_183 0 131 (dk_at dksX9_single_12 0 rfl rfl)
theorem dX9_single_282 : decode cX9_single 282 = .ok (.areturn, 1) := dk_176 (dk_at dksX9_single_12 3 rfl rfl)
theorem q120 : (Jvm.Cond.initialized "BitRopes$SentenceReade\x72") ∈ lw_all := lw_g (lw_at lw_m1 11 rfl) rfl
theorem q257 : (Jvm.Cond.fieldLinkNest "BitRopes$SentenceReade\x72" (110 : Nat) "BitRopes$Room" "names" "[J" "BitRopes") ∈ lw_tbl := lw_at lw_m1 148 rfl
theorem q261 : (Jvm.Cond.fieldLinkNest "BitRopes$SentenceReade\x72" (116 : Nat) "BitRopes$Room" "rows" "I" "BitRopes") ∈ lw_tbl := lw_at lw_m1 152 rfl
theorem q358 : (Jvm.Cond.fieldLink "BitRopes$SentenceReade\x72" (54 : Nat) "BitRopes$SentenceReade\x72" "token" "I") ∈ lw_all := lw_g (lw_at lw_m2 9 rfl) rfl
theorem q359 : (Jvm.Cond.sameField "BitRopes$SentenceReade\x72" "BitRopes$Reade\x72" "token" "I") ∈ lw_all := lw_g (lw_at lw_m2 10 rfl) rfl
theorem q363 : (Jvm.Cond.fieldLink "BitRopes$SentenceReade\x72" (126 : Nat) "BitRopes$SentenceReade\x72" "value" "I") ∈ lw_all := lw_g (lw_at lw_m2 14 rfl) rfl
theorem q364 : (Jvm.Cond.sameField "BitRopes$SentenceReade\x72" "BitRopes$Reade\x72" "value" "I") ∈ lw_all := lw_g (lw_at lw_m2 15 rfl) rfl
theorem q454 : (Jvm.Cond.instantiable "BitRopes$SentenceReade\x72" (12 : Nat)) ∈ lw_all := lw_g (lw_at lw_m2 105 rfl) rfl
theorem q456 : (Jvm.Cond.instanceMethod ({ cls := "BitRopes$SentenceReade\x72", name := "<init>", desc := "(LBitRopes;)V" } : Jvm.MethodName)) ∈ lw_all := lw_g (lw_at lw_m2 107 rfl) rfl
theorem q457 : (Jvm.Cond.code ({ cls := "BitRopes$SentenceReade\x72", name := "<init>", desc := "(LBitRopes;)V" } : Jvm.MethodName) prog_20_method_1_code (2 : Nat) (Option.none : Option Jvm.ClassFile.FieldType)) ∈ lw_all := lw_g (lw_at lw_m2 108 rfl) rfl
theorem q458 : (Jvm.Cond.methodLink "BitRopes$SentenceReade\x72" (9 : Nat) ({ cls := "BitRopes$Reade\x72", name := "<init>", desc := "(LBitRopes;I)V" } : Jvm.MethodName)) ∈ lw_all := lw_g (lw_at lw_m2 109 rfl) rfl
theorem q459 : (Jvm.Cond.classLink "BitRopes$SentenceReade\x72" (15 : Nat) "java/lang/String") ∈ lw_all := lw_g (lw_at lw_m2 110 rfl) rfl
theorem q460 : (Jvm.Cond.stringRef "BitRopes$SentenceReade\x72" (17 : Nat) "empty") ∈ lw_tbl := lw_at lw_m2 111 rfl
theorem q461 : (Jvm.Cond.stringRef "BitRopes$SentenceReade\x72" (19 : Nat) "even") ∈ lw_tbl := lw_at lw_m2 112 rfl
theorem q462 : (Jvm.Cond.stringRef "BitRopes$SentenceReade\x72" (21 : Nat) "like") ∈ lw_tbl := lw_at lw_m2 113 rfl
theorem q463 : (Jvm.Cond.stringRef "BitRopes$SentenceReade\x72" (23 : Nat) "begins") ∈ lw_tbl := lw_at lw_m2 114 rfl
theorem q464 : (Jvm.Cond.stringRef "BitRopes$SentenceReade\x72" (29 : Nat) "size") ∈ lw_tbl := lw_at lw_m2 115 rfl
theorem q465 : (Jvm.Cond.stringRef "BitRopes$SentenceReade\x72" (31 : Nat) "ones") ∈ lw_tbl := lw_at lw_m2 116 rfl
theorem q466 : (Jvm.Cond.stringRef "BitRopes$SentenceReade\x72" (33 : Nat) "runs") ∈ lw_tbl := lw_at lw_m2 117 rfl
theorem q467 : (Jvm.Cond.stringRef "BitRopes$SentenceReade\x72" (35 : Nat) "leaves") ∈ lw_tbl := lw_at lw_m2 118 rfl
theorem q468 : (Jvm.Cond.stringRef "BitRopes$SentenceReade\x72" (37 : Nat) "numbe\x72") ∈ lw_tbl := lw_at lw_m2 119 rfl
theorem q469 : (Jvm.Cond.fieldLink "BitRopes$SentenceReade\x72" (25 : Nat) "BitRopes$SentenceReade\x72" "marks" "[Ljava/lang/String;") ∈ lw_all := lw_g (lw_at lw_m2 120 rfl) rfl
theorem q470 : (Jvm.Cond.fieldLink "BitRopes$SentenceReade\x72" (39 : Nat) "BitRopes$SentenceReade\x72" "counts" "[Ljava/lang/String;") ∈ lw_all := lw_g (lw_at lw_m2 121 rfl) rfl
theorem q471 : (Jvm.Cond.fieldLink "BitRopes$SentenceReade\x72" (42 : Nat) "BitRopes$SentenceReade\x72" "parts" "I") ∈ lw_all := lw_g (lw_at lw_m2 122 rfl) rfl
theorem q473 : (Jvm.Cond.fieldLink "BitRopes$SentenceReade\x72" (3 : Nat) "BitRopes$SentenceReade\x72" "this$0" "LBitRopes;") ∈ lw_all := lw_g (lw_at lw_m2 124 rfl) rfl
theorem q474 : (Jvm.Cond.laysFinal "BitRopes$SentenceReade\x72" "BitRopes$SentenceReade\x72" "marks" "[Ljava/lang/String;") ∈ lw_all := lw_g (lw_at lw_m2 125 rfl) rfl
theorem q475 : (Jvm.Cond.soleField "BitRopes$SentenceReade\x72" "marks") ∈ lw_all := lw_g (lw_at lw_m2 126 rfl) rfl
theorem q476 : (Jvm.Cond.laysFinal "BitRopes$SentenceReade\x72" "BitRopes$SentenceReade\x72" "counts" "[Ljava/lang/String;") ∈ lw_all := lw_g (lw_at lw_m2 127 rfl) rfl
theorem q477 : (Jvm.Cond.soleField "BitRopes$SentenceReade\x72" "counts") ∈ lw_all := lw_g (lw_at lw_m2 128 rfl) rfl
theorem q478 : (Jvm.Cond.lays "BitRopes$SentenceReade\x72" "BitRopes$SentenceReade\x72" "parts" "I") ∈ lw_all := lw_g (lw_at lw_m2 129 rfl) rfl
theorem q479 : (Jvm.Cond.soleField "BitRopes$SentenceReade\x72" "parts") ∈ lw_all := lw_g (lw_at lw_m2 130 rfl) rfl
theorem q480 : (Jvm.Cond.laysFinal "BitRopes$SentenceReade\x72" "BitRopes$SentenceReade\x72" "this$0" "LBitRopes;") ∈ lw_all := lw_g (lw_at lw_m2 131 rfl) rfl
theorem q481 : (Jvm.Cond.soleField "BitRopes$SentenceReade\x72" "this$0") ∈ lw_all := lw_g (lw_at lw_m2 132 rfl) rfl
theorem q482 : (Jvm.Cond.laysFinal "BitRopes$SentenceReade\x72" "BitRopes$Reade\x72" "most" "I") ∈ lw_all := lw_g (lw_at lw_m2 133 rfl) rfl
theorem q483 : (Jvm.Cond.lays "BitRopes$SentenceReade\x72" "BitRopes$Reade\x72" "p" "I") ∈ lw_all := lw_g (lw_at lw_m2 134 rfl) rfl
theorem q484 : (Jvm.Cond.lays "BitRopes$SentenceReade\x72" "BitRopes$Reade\x72" "at" "I") ∈ lw_all := lw_g (lw_at lw_m2 135 rfl) rfl
theorem q485 : (Jvm.Cond.lays "BitRopes$SentenceReade\x72" "BitRopes$Reade\x72" "token" "I") ∈ lw_all := lw_g (lw_at lw_m2 136 rfl) rfl
theorem q486 : (Jvm.Cond.lays "BitRopes$SentenceReade\x72" "BitRopes$Reade\x72" "value" "I") ∈ lw_all := lw_g (lw_at lw_m2 137 rfl) rfl
theorem q487 : (Jvm.Cond.lays "BitRopes$SentenceReade\x72" "BitRopes$Reade\x72" "many" "I") ∈ lw_all := lw_g (lw_at lw_m2 138 rfl) rfl
theorem q488 : (Jvm.Cond.lays "BitRopes$SentenceReade\x72" "BitRopes$Reade\x72" "name" "J") ∈ lw_all := lw_g (lw_at lw_m2 139 rfl) rfl
theorem q489 : (Jvm.Cond.laysFinal "BitRopes$SentenceReade\x72" "BitRopes$Reade\x72" "this$0" "LBitRopes;") ∈ lw_all := lw_g (lw_at lw_m2 140 rfl) rfl
theorem q490 : (Jvm.Cond.superclass "BitRopes$SentenceReade\x72" "BitRopes$Reade\x72") ∈ lw_all := lw_g (lw_at lw_m2 141 rfl) rfl
theorem q509 : (Jvm.Cond.fieldLinkNest "BitRopes$SentenceReade\x72" (106 : Nat) "BitRopes" "room" "LBitRopes$Room;" "BitRopes") ∈ lw_tbl := lw_at lw_m2 160 rfl
theorem q602 : (Jvm.Cond.selects "BitRopes$SentenceReade\x72" ({ cls := "BitRopes$Reade\x72", name := "next", desc := "()V" } : Jvm.MethodName) ({ cls := "BitRopes$Reade\x72", name := "next", desc := "()V" } : Jvm.MethodName)) ∈ lw_all := lw_g (lw_at lw_m3 13 rfl) rfl
theorem q634 : (Jvm.Cond.selects "BitRopes$SentenceReade\x72" ({ cls := "BitRopes$Reade\x72", name := "is", desc := "(Ljava/lang/String;)Z" } : Jvm.MethodName) ({ cls := "BitRopes$Reade\x72", name := "is", desc := "(Ljava/lang/String;)Z" } : Jvm.MethodName)) ∈ lw_all := lw_g (lw_at lw_m3 45 rfl) rfl
theorem q695 : (Jvm.Cond.selects "BitRopes$SentenceReade\x72" ({ cls := "BitRopes$Reade\x72", name := "wrong", desc := "(I)LBitRopes$Fault;" } : Jvm.MethodName) ({ cls := "BitRopes$Reade\x72", name := "wrong", desc := "(I)LBitRopes$Fault;" } : Jvm.MethodName)) ∈ lw_all := lw_g (lw_at lw_m3 106 rfl) rfl
theorem q886 : (Jvm.Cond.selects "BitRopes$SentenceReade\x72" ({ cls := "BitRopes$Reade\x72", name := "is", desc := "(I)Z" } : Jvm.MethodName) ({ cls := "BitRopes$Reade\x72", name := "is", desc := "(I)Z" } : Jvm.MethodName)) ∈ lw_all := lw_g (lw_at lw_m4 57 rfl) rfl
theorem q1332 : (Jvm.Cond.selects "BitRopes$SentenceReade\x72" ({ cls := "BitRopes$Reade\x72", name := "look", desc := "([JI)I" } : Jvm.MethodName) ({ cls := "BitRopes$Reade\x72", name := "look", desc := "([JI)I" } : Jvm.MethodName)) ∈ lw_all := lw_g (lw_at lw_m6 23 rfl) rfl
theorem q1381 : (Jvm.Cond.instanceMethod ({ cls := "BitRopes$SentenceReade\x72", name := "read", desc := "()LBitRopes$Cond;" } : Jvm.MethodName)) ∈ lw_all := lw_g (lw_at lw_m6 72 rfl) rfl
theorem q1382 : (Jvm.Cond.selects "BitRopes$SentenceReade\x72" ({ cls := "BitRopes$SentenceReade\x72", name := "read", desc := "()LBitRopes$Cond;" } : Jvm.MethodName) ({ cls := "BitRopes$SentenceReade\x72", name := "read", desc := "()LBitRopes$Cond;" } : Jvm.MethodName)) ∈ lw_all := lw_g (lw_at lw_m6 73 rfl) rfl
theorem q1383 : (Jvm.Cond.code ({ cls := "BitRopes$SentenceReade\x72", name := "read", desc := "()LBitRopes$Cond;" } : Jvm.MethodName) prog_20_method_2_code (2 : Nat) (Option.some (Jvm.ClassFile.FieldType.object "BitRopes$Cond"))) ∈ lw_all := lw_g (lw_at lw_m6 74 rfl) rfl
theorem q1384 : (Jvm.Cond.methodLink "BitRopes$SentenceReade\x72" (46 : Nat) ({ cls := "BitRopes$SentenceReade\x72", name := "begin", desc := "()V" } : Jvm.MethodName)) ∈ lw_all := lw_g (lw_at lw_m6 75 rfl) rfl
theorem q1385 : (Jvm.Cond.sameMethod "BitRopes$SentenceReade\x72" "BitRopes$Reade\x72" "begin" "()V") ∈ lw_all := lw_g (lw_at lw_m6 76 rfl) rfl
theorem q1386 : (Jvm.Cond.selects "BitRopes$SentenceReade\x72" ({ cls := "BitRopes$SentenceReade\x72", name := "begin", desc := "()V" } : Jvm.MethodName) ({ cls := "BitRopes$Reade\x72", name := "begin", desc := "()V" } : Jvm.MethodName)) ∈ lw_all := lw_g (lw_at lw_m6 77 rfl) rfl
theorem q1387 : (Jvm.Cond.methodLink "BitRopes$SentenceReade\x72" (50 : Nat) ({ cls := "BitRopes$SentenceReade\x72", name := "any", desc := "(I)LBitRopes$Cond;" } : Jvm.MethodName)) ∈ lw_all := lw_g (lw_at lw_m6 78 rfl) rfl
theorem q1388 : (Jvm.Cond.privateMethod ({ cls := "BitRopes$SentenceReade\x72", name := "any", desc := "(I)LBitRopes$Cond;" } : Jvm.MethodName)) ∈ lw_tbl := lw_at lw_m6 79 rfl
theorem q1389 : (Jvm.Cond.instanceMethod ({ cls := "BitRopes$SentenceReade\x72", name := "any", desc := "(I)LBitRopes$Cond;" } : Jvm.MethodName)) ∈ lw_all := lw_g (lw_at lw_m6 80 rfl) rfl
theorem q1390 : (Jvm.Cond.code ({ cls := "BitRopes$SentenceReade\x72", name := "any", desc := "(I)LBitRopes$Cond;" } : Jvm.MethodName) prog_20_method_3_code (3 : Nat) (Option.some (Jvm.ClassFile.FieldType.object "BitRopes$Cond"))) ∈ lw_all := lw_g (lw_at lw_m6 81 rfl) rfl
theorem q1391 : (Jvm.Cond.methodLink "BitRopes$SentenceReade\x72" (61 : Nat) ({ cls := "BitRopes$SentenceReade\x72", name := "both", desc := "(I)LBitRopes$Cond;" } : Jvm.MethodName)) ∈ lw_all := lw_g (lw_at lw_m6 82 rfl) rfl
theorem q1392 : (Jvm.Cond.privateMethod ({ cls := "BitRopes$SentenceReade\x72", name := "both", desc := "(I)LBitRopes$Cond;" } : Jvm.MethodName)) ∈ lw_tbl := lw_at lw_m6 83 rfl
theorem q1393 : (Jvm.Cond.instanceMethod ({ cls := "BitRopes$SentenceReade\x72", name := "both", desc := "(I)LBitRopes$Cond;" } : Jvm.MethodName)) ∈ lw_all := lw_g (lw_at lw_m6 84 rfl) rfl
theorem q1394 : (Jvm.Cond.code ({ cls := "BitRopes$SentenceReade\x72", name := "both", desc := "(I)LBitRopes$Cond;" } : Jvm.MethodName) prog_20_method_4_code (3 : Nat) (Option.some (Jvm.ClassFile.FieldType.object "BitRopes$Cond"))) ∈ lw_all := lw_g (lw_at lw_m6 85 rfl) rfl
theorem q1395 : (Jvm.Cond.methodLink "BitRopes$SentenceReade\x72" (78 : Nat) ({ cls := "BitRopes$SentenceReade\x72", name := "single", desc := "(I)LBitRopes$Cond;" } : Jvm.MethodName)) ∈ lw_all := lw_g (lw_at lw_m6 86 rfl) rfl
theorem q1396 : (Jvm.Cond.privateMethod ({ cls := "BitRopes$SentenceReade\x72", name := "single", desc := "(I)LBitRopes$Cond;" } : Jvm.MethodName)) ∈ lw_tbl := lw_at lw_m6 87 rfl
theorem q1397 : (Jvm.Cond.instanceMethod ({ cls := "BitRopes$SentenceReade\x72", name := "single", desc := "(I)LBitRopes$Cond;" } : Jvm.MethodName)) ∈ lw_all := lw_g (lw_at lw_m6 88 rfl) rfl
theorem q1398 : (Jvm.Cond.code ({ cls := "BitRopes$SentenceReade\x72", name := "single", desc := "(I)LBitRopes$Cond;" } : Jvm.MethodName) prog_20_method_5_code (8 : Nat) (Option.some (Jvm.ClassFile.FieldType.object "BitRopes$Cond"))) ∈ lw_all := lw_g (lw_at lw_m6 89 rfl) rfl
theorem q1399 : (Jvm.Cond.stringRef "BitRopes$SentenceReade\x72" (86 : Nat) "not") ∈ lw_tbl := lw_at lw_m6 90 rfl
theorem q1400 : (Jvm.Cond.methodLink "BitRopes$SentenceReade\x72" (66 : Nat) ({ cls := "BitRopes$SentenceReade\x72", name := "is", desc := "(Ljava/lang/String;)Z" } : Jvm.MethodName)) ∈ lw_all := lw_g (lw_at lw_m6 91 rfl) rfl
theorem q1401 : (Jvm.Cond.sameMethod "BitRopes$SentenceReade\x72" "BitRopes$Reade\x72" "is" "(Ljava/lang/String;)Z") ∈ lw_all := lw_g (lw_at lw_m6 92 rfl) rfl
theorem q1403 : (Jvm.Cond.selects "BitRopes$SentenceReade\x72" ({ cls := "BitRopes$SentenceReade\x72", name := "is", desc := "(Ljava/lang/String;)Z" } : Jvm.MethodName) ({ cls := "BitRopes$Reade\x72", name := "is", desc := "(Ljava/lang/String;)Z" } : Jvm.MethodName)) ∈ lw_all := lw_g (lw_at lw_m6 94 rfl) rfl
theorem q1404 : (Jvm.Cond.methodLink "BitRopes$SentenceReade\x72" (88 : Nat) ({ cls := "BitRopes$SentenceReade\x72", name := "is", desc := "(I)Z" } : Jvm.MethodName)) ∈ lw_all := lw_g (lw_at lw_m6 95 rfl) rfl
theorem q1405 : (Jvm.Cond.sameMethod "BitRopes$SentenceReade\x72" "BitRopes$Reade\x72" "is" "(I)Z") ∈ lw_all := lw_g (lw_at lw_m6 96 rfl) rfl
theorem q1407 : (Jvm.Cond.selects "BitRopes$SentenceReade\x72" ({ cls := "BitRopes$SentenceReade\x72", name := "is", desc := "(I)Z" } : Jvm.MethodName) ({ cls := "BitRopes$Reade\x72", name := "is", desc := "(I)Z" } : Jvm.MethodName)) ∈ lw_all := lw_g (lw_at lw_m6 98 rfl) rfl
theorem q1408 : (Jvm.Cond.methodLink "BitRopes$SentenceReade\x72" (91 : Nat) ({ cls := "BitRopes$SentenceReade\x72", name := "find", desc := "([Ljava/lang/String;)I" } : Jvm.MethodName)) ∈ lw_all := lw_g (lw_at lw_m6 99 rfl) rfl
theorem q1409 : (Jvm.Cond.sameMethod "BitRopes$SentenceReade\x72" "BitRopes$Reade\x72" "find" "([Ljava/lang/String;)I") ∈ lw_all := lw_g (lw_at lw_m6 100 rfl) rfl
theorem q1410 : (Jvm.Cond.selects "BitRopes$SentenceReade\x72" ({ cls := "BitRopes$SentenceReade\x72", name := "find", desc := "([Ljava/lang/String;)I" } : Jvm.MethodName) ({ cls := "BitRopes$Reade\x72", name := "find", desc := "([Ljava/lang/String;)I" } : Jvm.MethodName)) ∈ lw_all := lw_g (lw_at lw_m6 101 rfl) rfl
theorem q1411 : (Jvm.Cond.methodLink "BitRopes$SentenceReade\x72" (57 : Nat) ({ cls := "BitRopes$SentenceReade\x72", name := "must", desc := "(ZI)V" } : Jvm.MethodName)) ∈ lw_all := lw_g (lw_at lw_m6 102 rfl) rfl
theorem q1412 : (Jvm.Cond.sameMethod "BitRopes$SentenceReade\x72" "BitRopes$Reade\x72" "must" "(ZI)V") ∈ lw_all := lw_g (lw_at lw_m6 103 rfl) rfl
theorem q1413 : (Jvm.Cond.selects "BitRopes$SentenceReade\x72" ({ cls := "BitRopes$SentenceReade\x72", name := "must", desc := "(ZI)V" } : Jvm.MethodName) ({ cls := "BitRopes$Reade\x72", name := "must", desc := "(ZI)V" } : Jvm.MethodName)) ∈ lw_all := lw_g (lw_at lw_m6 104 rfl) rfl
theorem q1414 : (Jvm.Cond.methodLink "BitRopes$SentenceReade\x72" (70 : Nat) ({ cls := "BitRopes$SentenceReade\x72", name := "next", desc := "()V" } : Jvm.MethodName)) ∈ lw_all := lw_g (lw_at lw_m6 105 rfl) rfl
theorem q1415 : (Jvm.Cond.sameMethod "BitRopes$SentenceReade\x72" "BitRopes$Reade\x72" "next" "()V") ∈ lw_all := lw_g (lw_at lw_m6 106 rfl) rfl
theorem q1416 : (Jvm.Cond.selects "BitRopes$SentenceReade\x72" ({ cls := "BitRopes$SentenceReade\x72", name := "next", desc := "()V" } : Jvm.MethodName) ({ cls := "BitRopes$Reade\x72", name := "next", desc := "()V" } : Jvm.MethodName)) ∈ lw_all := lw_g (lw_at lw_m6 107 rfl) rfl
theorem q1417 : (Jvm.Cond.classLink "BitRopes$SentenceReade\x72" (95 : Nat) "BitRopes$Not") ∈ lw_all := lw_g (lw_at lw_m6 108 rfl) rfl
theorem q1419 : (Jvm.Cond.methodLink "BitRopes$SentenceReade\x72" (97 : Nat) ({ cls := "BitRopes$Not", name := "<init>", desc := "(LBitRopes$Cond;)V" } : Jvm.MethodName)) ∈ lw_all := lw_g (lw_at lw_m6 110 rfl) rfl
theorem q1427 : (Jvm.Cond.methodLink "BitRopes$SentenceReade\x72" (100 : Nat) ({ cls := "BitRopes$SentenceReade\x72", name := "sign", desc := "(I)V" } : Jvm.MethodName)) ∈ lw_all := lw_g (lw_at lw_m6 118 rfl) rfl
theorem q1428 : (Jvm.Cond.sameMethod "BitRopes$SentenceReade\x72" "BitRopes$Reade\x72" "sign" "(I)V") ∈ lw_all := lw_g (lw_at lw_m6 119 rfl) rfl
theorem q1429 : (Jvm.Cond.selects "BitRopes$SentenceReade\x72" ({ cls := "BitRopes$SentenceReade\x72", name := "sign", desc := "(I)V" } : Jvm.MethodName) ({ cls := "BitRopes$Reade\x72", name := "sign", desc := "(I)V" } : Jvm.MethodName)) ∈ lw_all := lw_g (lw_at lw_m6 120 rfl) rfl
theorem q1430 : (Jvm.Cond.classLink "BitRopes$SentenceReade\x72" (104 : Nat) "BitRopes$Marks") ∈ lw_all := lw_g (lw_at lw_m6 121 rfl) rfl
theorem q1432 : (Jvm.Cond.methodLink "BitRopes$SentenceReade\x72" (119 : Nat) ({ cls := "BitRopes$SentenceReade\x72", name := "known", desc := "([JI)I" } : Jvm.MethodName)) ∈ lw_all := lw_g (lw_at lw_m6 123 rfl) rfl
theorem q1433 : (Jvm.Cond.sameMethod "BitRopes$SentenceReade\x72" "BitRopes$Reade\x72" "known" "([JI)I") ∈ lw_all := lw_g (lw_at lw_m6 124 rfl) rfl
theorem q1434 : (Jvm.Cond.selects "BitRopes$SentenceReade\x72" ({ cls := "BitRopes$SentenceReade\x72", name := "known", desc := "([JI)I" } : Jvm.MethodName) ({ cls := "BitRopes$Reade\x72", name := "known", desc := "([JI)I" } : Jvm.MethodName)) ∈ lw_all := lw_g (lw_at lw_m6 125 rfl) rfl
theorem q1435 : (Jvm.Cond.methodLink "BitRopes$SentenceReade\x72" (123 : Nat) ({ cls := "BitRopes$Marks", name := "<init>", desc := "(II)V" } : Jvm.MethodName)) ∈ lw_all := lw_g (lw_at lw_m6 126 rfl) rfl
theorem q1446 : (Jvm.Cond.classLink "BitRopes$SentenceReade\x72" (129 : Nat) "BitRopes$Counts") ∈ lw_all := lw_g (lw_at lw_m6 137 rfl) rfl
theorem q1448 : (Jvm.Cond.methodLink "BitRopes$SentenceReade\x72" (131 : Nat) ({ cls := "BitRopes$Counts", name := "<init>", desc := "(III)V" } : Jvm.MethodName)) ∈ lw_all := lw_g (lw_at lw_m6 139 rfl) rfl
theorem q1462 : (Jvm.Cond.stringRef "BitRopes$SentenceReade\x72" (81 : Nat) "and") ∈ lw_tbl := lw_at lw_m6 153 rfl
theorem q1463 : (Jvm.Cond.classLink "BitRopes$SentenceReade\x72" (83 : Nat) "BitRopes$Both") ∈ lw_all := lw_g (lw_at lw_m6 154 rfl) rfl
theorem q1465 : (Jvm.Cond.methodLink "BitRopes$SentenceReade\x72" (85 : Nat) ({ cls := "BitRopes$Both", name := "<init>", desc := "(LBitRopes$Cond;LBitRopes$Cond;)V" } : Jvm.MethodName)) ∈ lw_all := lw_g (lw_at lw_m6 156 rfl) rfl
theorem q1476 : (Jvm.Cond.stringRef "BitRopes$SentenceReade\x72" (64 : Nat) "o\x72") ∈ lw_tbl := lw_at lw_m6 167 rfl
theorem q1477 : (Jvm.Cond.classLink "BitRopes$SentenceReade\x72" (73 : Nat) "BitRopes$Any") ∈ lw_all := lw_g (lw_at lw_m6 168 rfl) rfl
theorem q1479 : (Jvm.Cond.methodLink "BitRopes$SentenceReade\x72" (75 : Nat) ({ cls := "BitRopes$Any", name := "<init>", desc := "(LBitRopes$Cond;LBitRopes$Cond;)V" } : Jvm.MethodName)) ∈ lw_all := lw_g (lw_at lw_m6 170 rfl) rfl
theorem q2309 : (Jvm.Cond.selects "BitRopes$SentenceReade\x72" ({ cls := "BitRopes$Reade\x72", name := "must", desc := "(ZI)V" } : Jvm.MethodName) ({ cls := "BitRopes$Reade\x72", name := "must", desc := "(ZI)V" } : Jvm.MethodName)) ∈ lw_all := lw_g (lw_at lw_m10 40 rfl) rfl
theorem q2313 : (Jvm.Cond.selects "BitRopes$SentenceReade\x72" ({ cls := "BitRopes$Reade\x72", name := "find", desc := "([Ljava/lang/String;)I" } : Jvm.MethodName) ({ cls := "BitRopes$Reade\x72", name := "find", desc := "([Ljava/lang/String;)I" } : Jvm.MethodName)) ∈ lw_all := lw_g (lw_at lw_m10 44 rfl) rfl
theorem q2317 : (Jvm.Cond.selects "BitRopes$SentenceReade\x72" ({ cls := "BitRopes$Reade\x72", name := "isName", desc := "()Z" } : Jvm.MethodName) ({ cls := "BitRopes$Reade\x72", name := "isName", desc := "()Z" } : Jvm.MethodName)) ∈ lw_all := lw_g (lw_at lw_m10 48 rfl) rfl
theorem q2321 : (Jvm.Cond.selects "BitRopes$SentenceReade\x72" ({ cls := "BitRopes$Reade\x72", name := "of", desc := "([JI)I" } : Jvm.MethodName) ({ cls := "BitRopes$Reade\x72", name := "of", desc := "([JI)I" } : Jvm.MethodName)) ∈ lw_all := lw_g (lw_at lw_m10 52 rfl) rfl
theorem q2330 : (Jvm.Cond.castable "BitRopes$SentenceReade\x72" "java/lang/Object") ∈ lw_tbl := lw_at lw_m10 61 rfl
theorem in_X9 : ∀ w ∈ wsX90, w ∈ lw_all := lw_in wsX90 [482, 483, 484, 485, 486, 487, 488, 489, 474, 476, 478, 480] (by decide +kernel) (by decide +kernel)

/-! BitRopes$Node -/
set_option maxRecDepth 100000
def RX11 : String := "BitRopes$Node"
abbrev cX11_init : ByteArray := prog_13_method_1_code
def yX11_init : MethodName := ⟨RX11, "<init>", "()V"⟩
theorem dX11_init_0 : decode cX11_init 0 = .ok (.aload_n 0, 1) := by decide +kernel
theorem dX11_init_1 : decode cX11_init 1 = .ok (.invokespecial 1, 3) := by decide +kernel
theorem dX11_init_4 : decode cX11_init 4 = .ok (.return_, 1) := by decide +kernel
theorem q126 : (Jvm.Cond.initialized "BitRopes$Node") ∈ lw_all := lw_g (lw_at lw_m1 17 rfl) rfl
theorem q757 : (Jvm.Cond.declares ({ cls := "BitRopes$Node", name := "turnAll", desc := "()V" } : Jvm.MethodName)) ∈ lw_tbl := lw_at lw_m3 168 rfl
theorem q758 : (Jvm.Cond.sameMethod "BitRopes$Node" "BitRopes$Node" "turnAll" "()V") ∈ lw_all := lw_g (lw_at lw_m3 169 rfl) rfl
theorem q774 : (Jvm.Cond.instanceMethod ({ cls := "BitRopes$Node", name := "<init>", desc := "()V" } : Jvm.MethodName)) ∈ lw_all := lw_g (lw_at lw_m3 185 rfl) rfl
theorem q775 : (Jvm.Cond.code ({ cls := "BitRopes$Node", name := "<init>", desc := "()V" } : Jvm.MethodName) prog_13_method_1_code (1 : Nat) (Option.none : Option Jvm.ClassFile.FieldType)) ∈ lw_all := lw_g (lw_at lw_m3 186 rfl) rfl
theorem q776 : (Jvm.Cond.methodLink "BitRopes$Node" (1 : Nat) ({ cls := "java/lang/Object", name := "<init>", desc := "()V" } : Jvm.MethodName)) ∈ lw_all := lw_g (lw_at lw_m3 187 rfl) rfl
theorem q805 : (Jvm.Cond.soleField "BitRopes$Node" "size") ∈ lw_all := lw_g (lw_at lw_m3 216 rfl) rfl
theorem q807 : (Jvm.Cond.soleField "BitRopes$Node" "ones") ∈ lw_all := lw_g (lw_at lw_m3 218 rfl) rfl
theorem q809 : (Jvm.Cond.soleField "BitRopes$Node" "leaves") ∈ lw_all := lw_g (lw_at lw_m3 220 rfl) rfl

/-! BitRopes$Deed -/
set_option maxRecDepth 100000
def RX15 : String := "BitRopes$Deed"
def TX15 : u_T := fun k => match k with
  | 0 => ("BitRopes$Deed", "what", "I", true)
  | 1 => ("BitRopes$Deed", "\x72", "I", true)
  | 2 => ("BitRopes$Deed", "i", "I", true)
  | _ => ("BitRopes$Deed", "x", "I", true)
def tyX15 : Nat → FieldType := fun k => match k with
  | 0 => .int
  | 1 => .int
  | 2 => .int
  | _ => .int
abbrev wsX150 : List Cond := u_ws RX15 TX15 4
theorem nmX15 : ∀ a, a < 4 → ∀ b, b < 4 → a ≠ b → (TX15 a).2.1 ≠ (TX15 b).2.1 := by decide +kernel
theorem tyX15_ok : ∀ k, k < 4 → parseFieldDescriptor (TX15 k).2.2.1 = some (tyX15 k) := by decide +kernel
abbrev cX15_init : ByteArray := prog_7_method_1_code
def yX15_init : MethodName := ⟨RX15, "<init>", "(IIII)V"⟩
def dkwX15_init_1 : List UInt8 := [181, 0, 19, 177]
abbrev dktX15_init_1 : List UInt8 := dkwX15_init_1 ++ []
def dkwX15_init_0 : List UInt8 := [42, 183, 0, 1, 42, 27, 181, 0, 7, 42, 28, 181, 0, 13, 42, 29, 181, 0, 16, 42, 21, 4]
abbrev dktX15_init_0 : List UInt8 := dkwX15_init_0 ++ dktX15_init_1
theorem dksX15_init_0 : cX15_init.data.toList.drop 0 = dktX15_init_0 := by decide +kernel
theorem dksX15_init_1 : cX15_init.data.toList.drop 22 = dktX15_init_1 := dk_seg dksX15_init_0 22 rfl rfl
theorem dX15_init_0 : decode cX15_init 0 = .ok (.aload_n 0, 1) := dk_42 (dk_at dksX15_init_0 0 rfl rfl)
theorem dX15_init_1 : decode cX15_init 1 = .ok (.invokespecial 1, 3) := dk_183 0 1 (dk_at dksX15_init_0 1 rfl rfl)
theorem dX15_init_4 : decode cX15_init 4 = .ok (.aload_n 0, 1) := dk_42 (dk_at dksX15_init_0 4 rfl rfl)
theorem dX15_init_5 : decode cX15_init 5 = .ok (.iload_n 1, 1) := dk_27 (dk_at dksX15_init_0 5 rfl rfl)
theorem dX15_init_6 : decode cX15_init 6 = .ok (.putfield 7, 3) := dk_181 0 7 (dk_at dksX15_init_0 6 rfl rfl)
theorem dX15_init_9 : decode cX15_init 9 = .ok (.aload_n 0, 1) := dk_42 (dk_at dksX15_init_0 9 rfl rfl)
theorem dX15_init_10 : decode cX15_init 10 = .ok (.iload_n 2, 1) := dk_28 (dk_at dksX15_init_0 10 rfl rfl)
theorem dX15_init_11 : decode cX15_init 11 = .ok (.putfield 13, 3) := dk_181 0 13 (dk_at dksX15_init_0 11 rfl rfl)
theorem dX15_init_14 : decode cX15_init 14 = .ok (.aload_n 0, 1) := dk_42 (dk_at dksX15_init_0 14 rfl rfl)
theorem dX15_init_15 : decode cX15_init 15 = .ok (.iload_n 3, 1) := dk_29 (dk_at dksX15_init_0 15 rfl rfl)
theorem dX15_init_16 : decode cX15_init 16 = .ok (.putfield 16, 3) := dk_181 0 16 (dk_at dksX15_init_0 16 rfl rfl)
theorem dX15_init_19 : decode cX15_init 19 = .ok (.aload_n 0, 1) := dk_42 (dk_at dksX15_init_0 19 rfl rfl)
theorem dX15_init_20 : decode cX15_init 20 = .ok (.iload 4, 2) := dk_21 4 (dk_at dksX15_init_0 20 rfl rfl)
theorem dX15_init_22 : decode cX15_init 22 = .ok (.putfield 19, 3) := dk_181 0 19 (dk_at dksX15_init_1 0 rfl rfl)
theorem dX15_init_25 : decode cX15_init 25 = .ok (.return_, 1) := dk_177 (dk_at dksX15_init_1 3 rfl rfl)
theorem q138 : (Jvm.Cond.initialized "BitRopes$Deed") ∈ lw_all := lw_g (lw_at lw_m1 29 rfl) rfl
theorem q1343 : (Jvm.Cond.instantiable "BitRopes$Deed" (4 : Nat)) ∈ lw_all := lw_g (lw_at lw_m6 34 rfl) rfl
theorem q1345 : (Jvm.Cond.instanceMethod ({ cls := "BitRopes$Deed", name := "<init>", desc := "(IIII)V" } : Jvm.MethodName)) ∈ lw_all := lw_g (lw_at lw_m6 36 rfl) rfl
theorem q1346 : (Jvm.Cond.code ({ cls := "BitRopes$Deed", name := "<init>", desc := "(IIII)V" } : Jvm.MethodName) prog_7_method_1_code (5 : Nat) (Option.none : Option Jvm.ClassFile.FieldType)) ∈ lw_all := lw_g (lw_at lw_m6 37 rfl) rfl
theorem q1347 : (Jvm.Cond.methodLink "BitRopes$Deed" (1 : Nat) ({ cls := "java/lang/Object", name := "<init>", desc := "()V" } : Jvm.MethodName)) ∈ lw_all := lw_g (lw_at lw_m6 38 rfl) rfl
theorem q1348 : (Jvm.Cond.fieldLink "BitRopes$Deed" (7 : Nat) "BitRopes$Deed" "what" "I") ∈ lw_all := lw_g (lw_at lw_m6 39 rfl) rfl
theorem q1350 : (Jvm.Cond.fieldLink "BitRopes$Deed" (13 : Nat) "BitRopes$Deed" "\x72" "I") ∈ lw_all := lw_g (lw_at lw_m6 41 rfl) rfl
theorem q1352 : (Jvm.Cond.fieldLink "BitRopes$Deed" (16 : Nat) "BitRopes$Deed" "i" "I") ∈ lw_all := lw_g (lw_at lw_m6 43 rfl) rfl
theorem q1354 : (Jvm.Cond.fieldLink "BitRopes$Deed" (19 : Nat) "BitRopes$Deed" "x" "I") ∈ lw_all := lw_g (lw_at lw_m6 45 rfl) rfl
theorem q1356 : (Jvm.Cond.laysFinal "BitRopes$Deed" "BitRopes$Deed" "what" "I") ∈ lw_all := lw_g (lw_at lw_m6 47 rfl) rfl
theorem q1357 : (Jvm.Cond.soleField "BitRopes$Deed" "what") ∈ lw_all := lw_g (lw_at lw_m6 48 rfl) rfl
theorem q1358 : (Jvm.Cond.laysFinal "BitRopes$Deed" "BitRopes$Deed" "\x72" "I") ∈ lw_all := lw_g (lw_at lw_m6 49 rfl) rfl
theorem q1359 : (Jvm.Cond.soleField "BitRopes$Deed" "\x72") ∈ lw_all := lw_g (lw_at lw_m6 50 rfl) rfl
theorem q1360 : (Jvm.Cond.laysFinal "BitRopes$Deed" "BitRopes$Deed" "i" "I") ∈ lw_all := lw_g (lw_at lw_m6 51 rfl) rfl
theorem q1361 : (Jvm.Cond.soleField "BitRopes$Deed" "i") ∈ lw_all := lw_g (lw_at lw_m6 52 rfl) rfl
theorem q1362 : (Jvm.Cond.laysFinal "BitRopes$Deed" "BitRopes$Deed" "x" "I") ∈ lw_all := lw_g (lw_at lw_m6 53 rfl) rfl
theorem q1363 : (Jvm.Cond.soleField "BitRopes$Deed" "x") ∈ lw_all := lw_g (lw_at lw_m6 54 rfl) rfl
theorem q1364 : (Jvm.Cond.superclass "BitRopes$Deed" "java/lang/Object") ∈ lw_all := lw_g (lw_at lw_m6 55 rfl) rfl
theorem q2337 : (Jvm.Cond.castable "BitRopes$Deed" "java/lang/Object") ∈ lw_tbl := lw_at lw_m10 68 rfl
theorem in_X15 : ∀ w ∈ wsX150, w ∈ lw_all := lw_in wsX150 [1356, 1358, 1360, 1362] (by decide +kernel) (by decide +kernel)

/-! BitRopes$Not -/
set_option maxRecDepth 100000
def RX16 : String := "BitRopes$Not"
def TX16 : u_T := fun k => match k with
  | _ => ("BitRopes$Not", "a", "LBitRopes$Cond;", true)
def tyX16 : Nat → FieldType := fun k => match k with
  | _ => .object "BitRopes$Cond"
abbrev wsX160 : List Cond := u_ws RX16 TX16 1
theorem nmX16 : ∀ a, a < 1 → ∀ b, b < 1 → a ≠ b → (TX16 a).2.1 ≠ (TX16 b).2.1 := by decide +kernel
theorem tyX16_ok : ∀ k, k < 1 → parseFieldDescriptor (TX16 k).2.2.1 = some (tyX16 k) := by decide +kernel
abbrev cX16_init : ByteArray := prog_14_method_1_code
def yX16_init : MethodName := ⟨RX16, "<init>", "(LBitRopes$Cond;)V"⟩
def dkwX16_init_0 : List UInt8 := [42, 183, 0, 1, 42, 43, 181, 0, 7, 177]
abbrev dktX16_init_0 : List UInt8 := dkwX16_init_0 ++ []
theorem dksX16_init_0 : cX16_init.data.toList.drop 0 = dktX16_init_0 := by decide +kernel
theorem dX16_init_0 : decode cX16_init 0 = .ok (.aload_n 0, 1) := dk_42 (dk_at dksX16_init_0 0 rfl rfl)
theorem dX16_init_1 : decode cX16_init 1 = .ok (.invokespecial 1, 3) := dk_183 0 1 (dk_at dksX16_init_0 1 rfl rfl)
theorem dX16_init_4 : decode cX16_init 4 = .ok (.aload_n 0, 1) := dk_42 (dk_at dksX16_init_0 4 rfl rfl)
theorem dX16_init_5 : decode cX16_init 5 = .ok (.aload_n 1, 1) := dk_43 (dk_at dksX16_init_0 5 rfl rfl)
theorem dX16_init_6 : decode cX16_init 6 = .ok (.putfield 7, 3) := dk_181 0 7 (dk_at dksX16_init_0 6 rfl rfl)
theorem dX16_init_9 : decode cX16_init 9 = .ok (.return_, 1) := dk_177 (dk_at dksX16_init_0 9 rfl rfl)
abbrev cX16_is : ByteArray := prog_14_method_2_code
def yX16_is : MethodName := ⟨RX16, "is", "(LBitRopes;I)Z"⟩
def dkwX16_is_0 : List UInt8 := [42, 180, 0, 7, 43, 28, 185, 0, 13, 3, 0, 154, 0, 7, 4, 167, 0, 4, 3, 172]
abbrev dktX16_is_0 : List UInt8 := dkwX16_is_0 ++ []
theorem dksX16_is_0 : cX16_is.data.toList.drop 0 = dktX16_is_0 := by decide +kernel
theorem dX16_is_0 : decode cX16_is 0 = .ok (.aload_n 0, 1) := dk_42 (dk_at dksX16_is_0 0 rfl rfl)
theorem dX16_is_1 : decode cX16_is 1 = .ok (.getfield 7, 3) := dk_180 0 7 (dk_at dksX16_is_0 1 rfl rfl)
theorem dX16_is_4 : decode cX16_is 4 = .ok (.aload_n 1, 1) := dk_43 (dk_at dksX16_is_0 4 rfl rfl)
theorem dX16_is_5 : decode cX16_is 5 = .ok (.iload_n 2, 1) := dk_28 (dk_at dksX16_is_0 5 rfl rfl)
theorem dX16_is_6 : decode cX16_is 6 = .ok (.invokeinterface 13 3, 5) := by decide +kernel
theorem dX16_is_11 : decode cX16_is 11 = .ok (.ifCond .ne 7, 3) := dk_154 0 7 (dk_at dksX16_is_0 11 rfl rfl)
theorem dX16_is_14 : decode cX16_is 14 = .ok (.iconst 1, 1) := dk_4 (dk_at dksX16_is_0 14 rfl rfl)
theorem dX16_is_15 : decode cX16_is 15 = .ok (.goto 4, 3) := dk_167 0 4 (dk_at dksX16_is_0 15 rfl rfl)
theorem dX16_is_18 : decode cX16_is 18 = .ok (.iconst 0, 1) := dk_3 (dk_at dksX16_is_0 18 rfl rfl)
theorem dX16_is_19 : decode cX16_is 19 = .ok (.ireturn, 1) := dk_172 (dk_at dksX16_is_0 19 rfl rfl)
theorem q139 : (Jvm.Cond.initialized "BitRopes$Not") ∈ lw_all := lw_g (lw_at lw_m1 30 rfl) rfl
theorem q1418 : (Jvm.Cond.instantiable "BitRopes$Not" (1 : Nat)) ∈ lw_all := lw_g (lw_at lw_m6 109 rfl) rfl
theorem q1420 : (Jvm.Cond.instanceMethod ({ cls := "BitRopes$Not", name := "<init>", desc := "(LBitRopes$Cond;)V" } : Jvm.MethodName)) ∈ lw_all := lw_g (lw_at lw_m6 111 rfl) rfl
theorem q1421 : (Jvm.Cond.code ({ cls := "BitRopes$Not", name := "<init>", desc := "(LBitRopes$Cond;)V" } : Jvm.MethodName) prog_14_method_1_code (2 : Nat) (Option.none : Option Jvm.ClassFile.FieldType)) ∈ lw_all := lw_g (lw_at lw_m6 112 rfl) rfl
theorem q1422 : (Jvm.Cond.methodLink "BitRopes$Not" (1 : Nat) ({ cls := "java/lang/Object", name := "<init>", desc := "()V" } : Jvm.MethodName)) ∈ lw_all := lw_g (lw_at lw_m6 113 rfl) rfl
theorem q1423 : (Jvm.Cond.fieldLink "BitRopes$Not" (7 : Nat) "BitRopes$Not" "a" "LBitRopes$Cond;") ∈ lw_all := lw_g (lw_at lw_m6 114 rfl) rfl
theorem q1424 : (Jvm.Cond.laysFinal "BitRopes$Not" "BitRopes$Not" "a" "LBitRopes$Cond;") ∈ lw_all := lw_g (lw_at lw_m6 115 rfl) rfl
theorem q1425 : (Jvm.Cond.soleField "BitRopes$Not" "a") ∈ lw_all := lw_g (lw_at lw_m6 116 rfl) rfl
theorem q1426 : (Jvm.Cond.superclass "BitRopes$Not" "java/lang/Object") ∈ lw_all := lw_g (lw_at lw_m6 117 rfl) rfl
theorem q1535 : (Jvm.Cond.castable "BitRopes$Not" "BitRopes$Cond") ∈ lw_tbl := lw_at lw_m6 226 rfl
theorem q1536 : (Jvm.Cond.selects "BitRopes$Not" ({ cls := "BitRopes$Cond", name := "is", desc := "(LBitRopes;I)Z" } : Jvm.MethodName) ({ cls := "BitRopes$Not", name := "is", desc := "(LBitRopes;I)Z" } : Jvm.MethodName)) ∈ lw_all := lw_g (lw_at lw_m6 227 rfl) rfl
theorem q1537 : (Jvm.Cond.unhidden "BitRopes$Not" "is" "(LBitRopes;I)Z") ∈ lw_tbl := lw_at lw_m6 228 rfl
theorem q1538 : (Jvm.Cond.instanceMethod ({ cls := "BitRopes$Not", name := "is", desc := "(LBitRopes;I)Z" } : Jvm.MethodName)) ∈ lw_all := lw_g (lw_at lw_m6 229 rfl) rfl
theorem q1539 : (Jvm.Cond.publicMethod ({ cls := "BitRopes$Not", name := "is", desc := "(LBitRopes;I)Z" } : Jvm.MethodName)) ∈ lw_tbl := lw_at lw_m6 230 rfl
theorem q1540 : (Jvm.Cond.code ({ cls := "BitRopes$Not", name := "is", desc := "(LBitRopes;I)Z" } : Jvm.MethodName) prog_14_method_2_code (3 : Nat) (Option.some Jvm.ClassFile.FieldType.boolean)) ∈ lw_all := lw_g (lw_at lw_m6 231 rfl) rfl
theorem q1541 : (Jvm.Cond.interfaceEntry "BitRopes$Not" (13 : Nat)) ∈ lw_tbl := lw_at lw_m6 232 rfl
theorem q1542 : (Jvm.Cond.methodLink "BitRopes$Not" (13 : Nat) ({ cls := "BitRopes$Cond", name := "is", desc := "(LBitRopes;I)Z" } : Jvm.MethodName)) ∈ lw_all := lw_g (lw_at lw_m6 233 rfl) rfl
theorem q2338 : (Jvm.Cond.castable "BitRopes$Not" "java/lang/Object") ∈ lw_tbl := lw_at lw_m10 69 rfl
theorem in_X16 : ∀ w ∈ wsX160, w ∈ lw_all := lw_in wsX160 [1424] (by decide +kernel) (by decide +kernel)

/-! BitRopes$Marks -/
set_option maxRecDepth 100000
def RX17 : String := "BitRopes$Marks"
def TX17 : u_T := fun k => match k with
  | 0 => ("BitRopes$Marks", "what", "I", true)
  | _ => ("BitRopes$Marks", "of", "I", true)
def tyX17 : Nat → FieldType := fun k => match k with
  | 0 => .int
  | _ => .int
abbrev wsX170 : List Cond := u_ws RX17 TX17 2
theorem nmX17 : ∀ a, a < 2 → ∀ b, b < 2 → a ≠ b → (TX17 a).2.1 ≠ (TX17 b).2.1 := by decide +kernel
theorem tyX17_ok : ∀ k, k < 2 → parseFieldDescriptor (TX17 k).2.2.1 = some (tyX17 k) := by decide +kernel
abbrev cX17_init : ByteArray := prog_12_method_1_code
def yX17_init : MethodName := ⟨RX17, "<init>", "(II)V"⟩
def dkwX17_init_0 : List UInt8 := [42, 183, 0, 3, 42, 27, 181, 0, 9, 42, 28, 181, 0, 15, 177]
abbrev dktX17_init_0 : List UInt8 := dkwX17_init_0 ++ []
theorem dksX17_init_0 : cX17_init.data.toList.drop 0 = dktX17_init_0 := by decide +kernel
theorem dX17_init_0 : decode cX17_init 0 = .ok (.aload_n 0, 1) := dk_42 (dk_at dksX17_init_0 0 rfl rfl)
theorem dX17_init_1 : decode cX17_init 1 = .ok (.invokespecial 3, 3) := dk_183 0 3 (dk_at dksX17_init_0 1 rfl rfl)
theorem dX17_init_4 : decode cX17_init 4 = .ok (.aload_n 0, 1) := dk_42 (dk_at dksX17_init_0 4 rfl rfl)
theorem dX17_init_5 : decode cX17_init 5 = .ok (.iload_n 1, 1) := dk_27 (dk_at dksX17_init_0 5 rfl rfl)
theorem dX17_init_6 : decode cX17_init 6 = .ok (.putfield 9, 3) := dk_181 0 9 (dk_at dksX17_init_0 6 rfl rfl)
theorem dX17_init_9 : decode cX17_init 9 = .ok (.aload_n 0, 1) := dk_42 (dk_at dksX17_init_0 9 rfl rfl)
theorem dX17_init_10 : decode cX17_init 10 = .ok (.iload_n 2, 1) := dk_28 (dk_at dksX17_init_0 10 rfl rfl)
theorem dX17_init_11 : decode cX17_init 11 = .ok (.putfield 15, 3) := dk_181 0 15 (dk_at dksX17_init_0 11 rfl rfl)
theorem dX17_init_14 : decode cX17_init 14 = .ok (.return_, 1) := dk_177 (dk_at dksX17_init_0 14 rfl rfl)
abbrev cX17_is : ByteArray := prog_12_method_2_code
def yX17_is : MethodName := ⟨RX17, "is", "(LBitRopes;I)Z"⟩
def dkwX17_is_5 : List UInt8 := [182, 0, 18, 182, 0, 22, 160, 0, 7, 4, 167, 0, 4, 3, 172]
abbrev dktX17_is_5 : List UInt8 := dkwX17_is_5 ++ []
def dkwX17_is_4 : List UInt8 := [43, 28, 42, 180, 0, 15, 182, 0, 31, 54, 4, 21, 4, 2, 159, 0, 19, 21, 4, 43, 42, 180, 0, 15]
abbrev dktX17_is_4 : List UInt8 := dkwX17_is_4 ++ dktX17_is_5
def dkwX17_is_3 : List UInt8 := [167, 0, 4, 3, 172, 43, 28, 42, 180, 0, 15, 182, 0, 31, 2, 160, 0, 7, 4, 167, 0, 4, 3, 172]
abbrev dktX17_is_3 : List UInt8 := dkwX17_is_3 ++ dktX17_is_4
def dkwX17_is_2 : List UInt8 := [45, 182, 0, 22, 154, 0, 7, 4, 167, 0, 4, 3, 172, 45, 182, 0, 28, 5, 112, 154, 0, 7, 4]
abbrev dktX17_is_2 : List UInt8 := dkwX17_is_2 ++ dktX17_is_3
def dkwX17_is_1 : List UInt8 := [170, 0, 0, 0, 0, 73, 0, 0, 0, 0, 0, 0, 0, 2, 0, 0, 0, 26, 0, 0, 0, 39, 0, 0, 0, 54]
abbrev dktX17_is_1 : List UInt8 := dkwX17_is_1 ++ dktX17_is_2
def dkwX17_is_0 : List UInt8 := [43, 28, 182, 0, 18, 78, 42, 180, 0, 9]
abbrev dktX17_is_0 : List UInt8 := dkwX17_is_0 ++ dktX17_is_1
theorem dksX17_is_0 : cX17_is.data.toList.drop 0 = dktX17_is_0 := by decide +kernel
theorem dksX17_is_1 : cX17_is.data.toList.drop 10 = dktX17_is_1 := dk_seg dksX17_is_0 10 rfl rfl
theorem dksX17_is_2 : cX17_is.data.toList.drop 36 = dktX17_is_2 := dk_seg dksX17_is_1 26 rfl rfl
theorem dksX17_is_3 : cX17_is.data.toList.drop 59 = dktX17_is_3 := dk_seg dksX17_is_2 23 rfl rfl
theorem dksX17_is_4 : cX17_is.data.toList.drop 83 = dktX17_is_4 := dk_seg dksX17_is_3 24 rfl rfl
theorem dksX17_is_5 : cX17_is.data.toList.drop 107 = dktX17_is_5 := dk_seg dksX17_is_4 24 rfl rfl
theorem dX17_is_0 : decode cX17_is 0 = .ok (.aload_n 1, 1) := dk_43 (dk_at dksX17_is_0 0 rfl rfl)
theorem dX17_is_1 : decode cX17_is 1 = .ok (.iload_n 2, 1) := dk_28 (dk_at dksX17_is_0 1 rfl rfl)
theorem dX17_is_2 : decode cX17_is 2 = .ok (.invokevirtual 18, 3) := dk_182 0 18 (dk_at dksX17_is_0 2 rfl rfl)
theorem dX17_is_5 : decode cX17_is 5 = .ok (.astore_n 3, 1) := dk_78 (dk_at dksX17_is_0 5 rfl rfl)
theorem dX17_is_6 : decode cX17_is 6 = .ok (.aload_n 0, 1) := dk_42 (dk_at dksX17_is_0 6 rfl rfl)
theorem dX17_is_7 : decode cX17_is 7 = .ok (.getfield 9, 3) := dk_180 0 9 (dk_at dksX17_is_0 7 rfl rfl)
theorem dX17_is_10 : decode cX17_is 10 = .ok (.tableswitch 73 0 2 #[26, 39, 54], 26) := by decide +kernel
theorem dX17_is_36 : decode cX17_is 36 = .ok (.aload_n 3, 1) := dk_45 (dk_at dksX17_is_2 0 rfl rfl)
theorem dX17_is_37 : decode cX17_is 37 = .ok (.invokevirtual 22, 3) := dk_182 0 22 (dk_at dksX17_is_2 1 rfl rfl)
theorem dX17_is_40 : decode cX17_is 40 = .ok (.ifCond .ne 7, 3) := dk_154 0 7 (dk_at dksX17_is_2 4 rfl rfl)
theorem dX17_is_43 : decode cX17_is 43 = .ok (.iconst 1, 1) := dk_4 (dk_at dksX17_is_2 7 rfl rfl)
theorem dX17_is_44 : decode cX17_is 44 = .ok (.goto 4, 3) := dk_167 0 4 (dk_at dksX17_is_2 8 rfl rfl)
theorem dX17_is_47 : decode cX17_is 47 = .ok (.iconst 0, 1) := dk_3 (dk_at dksX17_is_2 11 rfl rfl)
theorem dX17_is_48 : decode cX17_is 48 = .ok (.ireturn, 1) := dk_172 (dk_at dksX17_is_2 12 rfl rfl)
theorem dX17_is_49 : decode cX17_is 49 = .ok (.aload_n 3, 1) := dk_45 (dk_at dksX17_is_2 13 rfl rfl)
theorem dX17_is_50 : decode cX17_is 50 = .ok (.invokevirtual 28, 3) := dk_182 0 28 (dk_at dksX17_is_2 14 rfl rfl)
theorem dX17_is_53 : decode cX17_is 53 = .ok (.iconst 2, 1) := dk_5 (dk_at dksX17_is_2 17 rfl rfl)
theorem dX17_is_54 : decode cX17_is 54 = .ok (.irem, 1) := dk_112 (dk_at dksX17_is_2 18 rfl rfl)
theorem dX17_is_55 : decode cX17_is 55 = .ok (.ifCond .ne 7, 3) := dk_154 0 7 (dk_at dksX17_is_2 19 rfl rfl)
theorem dX17_is_58 : decode cX17_is 58 = .ok (.iconst 1, 1) := dk_4 (dk_at dksX17_is_2 22 rfl rfl)
theorem dX17_is_59 : decode cX17_is 59 = .ok (.goto 4, 3) := dk_167 0 4 (dk_at dksX17_is_3 0 rfl rfl)
theorem dX17_is_62 : decode cX17_is 62 = .ok (.iconst 0, 1) := dk_3 (dk_at dksX17_is_3 3 rfl rfl)
theorem dX17_is_63 : decode cX17_is 63 = .ok (.ireturn, 1) := dk_172 (dk_at dksX17_is_3 4 rfl rfl)
theorem dX17_is_64 : decode cX17_is 64 = .ok (.aload_n 1, 1) := dk_43 (dk_at dksX17_is_3 5 rfl rfl)
theorem dX17_is_65 : decode cX17_is 65 = .ok (.iload_n 2, 1) := dk_28 (dk_at dksX17_is_3 6 rfl rfl)
theorem dX17_is_66 : decode cX17_is 66 = .ok (.aload_n 0, 1) := dk_42 (dk_at dksX17_is_3 7 rfl rfl)
theorem dX17_is_67 : decode cX17_is 67 = .ok (.getfield 15, 3) := dk_180 0 15 (dk_at dksX17_is_3 8 rfl rfl)
theorem dX17_is_70 : decode cX17_is 70 = .ok (.invokevirtual 31, 3) := dk_182 0 31 (dk_at dksX17_is_3 11 rfl rfl)
theorem dX17_is_73 : decode cX17_is 73 = .ok (.iconst (-1), 1) := dk_2 (dk_at dksX17_is_3 14 rfl rfl)
theorem dX17_is_74 : decode cX17_is 74 = .ok (.if_icmp .ne 7, 3) := dk_160 0 7 (dk_at dksX17_is_3 15 rfl rfl)
theorem dX17_is_77 : decode cX17_is 77 = .ok (.iconst 1, 1) := dk_4 (dk_at dksX17_is_3 18 rfl rfl)
theorem dX17_is_78 : decode cX17_is 78 = .ok (.goto 4, 3) := dk_167 0 4 (dk_at dksX17_is_3 19 rfl rfl)
theorem dX17_is_81 : decode cX17_is 81 = .ok (.iconst 0, 1) := dk_3 (dk_at dksX17_is_3 22 rfl rfl)
theorem dX17_is_82 : decode cX17_is 82 = .ok (.ireturn, 1) := dk_172 (dk_at dksX17_is_3 23 rfl rfl)
theorem dX17_is_83 : decode cX17_is 83 = .ok (.aload_n 1, 1) := dk_43 (dk_at dksX17_is_4 0 rfl rfl)
theorem dX17_is_84 : decode cX17_is 84 = .ok (.iload_n 2, 1) := dk_28 (dk_at dksX17_is_4 1 rfl rfl)
theorem dX17_is_85 : decode cX17_is 85 = .ok (.aload_n 0, 1) := dk_42 (dk_at dksX17_is_4 2 rfl rfl)
theorem dX17_is_86 : decode cX17_is 86 = .ok (.getfield 15, 3) := dk_180 0 15 (dk_at dksX17_is_4 3 rfl rfl)
theorem dX17_is_89 : decode cX17_is 89 = .ok (.invokevirtual 31, 3) := dk_182 0 31 (dk_at dksX17_is_4 6 rfl rfl)
theorem dX17_is_92 : decode cX17_is 92 = .ok (.istore 4, 2) := dk_54 4 (dk_at dksX17_is_4 9 rfl rfl)
theorem dX17_is_94 : decode cX17_is 94 = .ok (.iload 4, 2) := dk_21 4 (dk_at dksX17_is_4 11 rfl rfl)
theorem dX17_is_96 : decode cX17_is 96 = .ok (.iconst (-1), 1) := dk_2 (dk_at dksX17_is_4 13 rfl rfl)
theorem dX17_is_97 : decode cX17_is 97 = .ok (.if_icmp .eq 19, 3) := dk_159 0 19 (dk_at dksX17_is_4 14 rfl rfl)
theorem dX17_is_100 : decode cX17_is 100 = .ok (.iload 4, 2) := dk_21 4 (dk_at dksX17_is_4 17 rfl rfl)
theorem dX17_is_102 : decode cX17_is 102 = .ok (.aload_n 1, 1) := dk_43 (dk_at dksX17_is_4 19 rfl rfl)
theorem dX17_is_103 : decode cX17_is 103 = .ok (.aload_n 0, 1) := dk_42 (dk_at dksX17_is_4 20 rfl rfl)
theorem dX17_is_104 : decode cX17_is 104 = .ok (.getfield 15, 3) := dk_180 0 15 (dk_at dksX17_is_4 21 rfl rfl)
theorem dX17_is_107 : decode cX17_is 107 = .ok (.invokevirtual 18, 3) := dk_182 0 18 (dk_at dksX17_is_5 0 rfl rfl)
theorem dX17_is_110 : decode cX17_is 110 = .ok (.invokevirtual 22, 3) := dk_182 0 22 (dk_at dksX17_is_5 3 rfl rfl)
theorem dX17_is_113 : decode cX17_is 113 = .ok (.if_icmp .ne 7, 3) := dk_160 0 7 (dk_at dksX17_is_5 6 rfl rfl)
theorem dX17_is_116 : decode cX17_is 116 = .ok (.iconst 1, 1) := dk_4 (dk_at dksX17_is_5 9 rfl rfl)
theorem dX17_is_117 : decode cX17_is 117 = .ok (.goto 4, 3) := dk_167 0 4 (dk_at dksX17_is_5 10 rfl rfl)
theorem dX17_is_120 : decode cX17_is 120 = .ok (.iconst 0, 1) := dk_3 (dk_at dksX17_is_5 13 rfl rfl)
theorem dX17_is_121 : decode cX17_is 121 = .ok (.ireturn, 1) := dk_172 (dk_at dksX17_is_5 14 rfl rfl)
theorem q140 : (Jvm.Cond.initialized "BitRopes$Marks") ∈ lw_all := lw_g (lw_at lw_m1 31 rfl) rfl
theorem q1431 : (Jvm.Cond.instantiable "BitRopes$Marks" (2 : Nat)) ∈ lw_all := lw_g (lw_at lw_m6 122 rfl) rfl
theorem q1436 : (Jvm.Cond.instanceMethod ({ cls := "BitRopes$Marks", name := "<init>", desc := "(II)V" } : Jvm.MethodName)) ∈ lw_all := lw_g (lw_at lw_m6 127 rfl) rfl
theorem q1437 : (Jvm.Cond.code ({ cls := "BitRopes$Marks", name := "<init>", desc := "(II)V" } : Jvm.MethodName) prog_12_method_1_code (3 : Nat) (Option.none : Option Jvm.ClassFile.FieldType)) ∈ lw_all := lw_g (lw_at lw_m6 128 rfl) rfl
theorem q1438 : (Jvm.Cond.methodLink "BitRopes$Marks" (3 : Nat) ({ cls := "java/lang/Object", name := "<init>", desc := "()V" } : Jvm.MethodName)) ∈ lw_all := lw_g (lw_at lw_m6 129 rfl) rfl
theorem q1439 : (Jvm.Cond.fieldLink "BitRopes$Marks" (9 : Nat) "BitRopes$Marks" "what" "I") ∈ lw_all := lw_g (lw_at lw_m6 130 rfl) rfl
theorem q1440 : (Jvm.Cond.fieldLink "BitRopes$Marks" (15 : Nat) "BitRopes$Marks" "of" "I") ∈ lw_all := lw_g (lw_at lw_m6 131 rfl) rfl
theorem q1441 : (Jvm.Cond.laysFinal "BitRopes$Marks" "BitRopes$Marks" "what" "I") ∈ lw_all := lw_g (lw_at lw_m6 132 rfl) rfl
theorem q1442 : (Jvm.Cond.soleField "BitRopes$Marks" "what") ∈ lw_all := lw_g (lw_at lw_m6 133 rfl) rfl
theorem q1443 : (Jvm.Cond.laysFinal "BitRopes$Marks" "BitRopes$Marks" "of" "I") ∈ lw_all := lw_g (lw_at lw_m6 134 rfl) rfl
theorem q1444 : (Jvm.Cond.soleField "BitRopes$Marks" "of") ∈ lw_all := lw_g (lw_at lw_m6 135 rfl) rfl
theorem q1445 : (Jvm.Cond.superclass "BitRopes$Marks" "java/lang/Object") ∈ lw_all := lw_g (lw_at lw_m6 136 rfl) rfl
theorem q1525 : (Jvm.Cond.castable "BitRopes$Marks" "BitRopes$Cond") ∈ lw_tbl := lw_at lw_m6 216 rfl
theorem q1526 : (Jvm.Cond.selects "BitRopes$Marks" ({ cls := "BitRopes$Cond", name := "is", desc := "(LBitRopes;I)Z" } : Jvm.MethodName) ({ cls := "BitRopes$Marks", name := "is", desc := "(LBitRopes;I)Z" } : Jvm.MethodName)) ∈ lw_all := lw_g (lw_at lw_m6 217 rfl) rfl
theorem q1527 : (Jvm.Cond.unhidden "BitRopes$Marks" "is" "(LBitRopes;I)Z") ∈ lw_tbl := lw_at lw_m6 218 rfl
theorem q1528 : (Jvm.Cond.instanceMethod ({ cls := "BitRopes$Marks", name := "is", desc := "(LBitRopes;I)Z" } : Jvm.MethodName)) ∈ lw_all := lw_g (lw_at lw_m6 219 rfl) rfl
theorem q1529 : (Jvm.Cond.publicMethod ({ cls := "BitRopes$Marks", name := "is", desc := "(LBitRopes;I)Z" } : Jvm.MethodName)) ∈ lw_tbl := lw_at lw_m6 220 rfl
theorem q1530 : (Jvm.Cond.code ({ cls := "BitRopes$Marks", name := "is", desc := "(LBitRopes;I)Z" } : Jvm.MethodName) prog_12_method_2_code (5 : Nat) (Option.some Jvm.ClassFile.FieldType.boolean)) ∈ lw_all := lw_g (lw_at lw_m6 221 rfl) rfl
theorem q1531 : (Jvm.Cond.methodLinkNest "BitRopes$Marks" (18 : Nat) ({ cls := "BitRopes", name := "rope", desc := "(I)LBitRopes$Rope;" } : Jvm.MethodName) "BitRopes") ∈ lw_tbl := lw_at lw_m6 222 rfl
theorem q1532 : (Jvm.Cond.methodLink "BitRopes$Marks" (22 : Nat) ({ cls := "BitRopes$Rope", name := "wide", desc := "()I" } : Jvm.MethodName)) ∈ lw_all := lw_g (lw_at lw_m6 223 rfl) rfl
theorem q1533 : (Jvm.Cond.methodLink "BitRopes$Marks" (28 : Nat) ({ cls := "BitRopes$Rope", name := "lit", desc := "()I" } : Jvm.MethodName)) ∈ lw_all := lw_g (lw_at lw_m6 224 rfl) rfl
theorem q1534 : (Jvm.Cond.methodLinkNest "BitRopes$Marks" (31 : Nat) ({ cls := "BitRopes", name := "differs", desc := "(II)I" } : Jvm.MethodName) "BitRopes") ∈ lw_tbl := lw_at lw_m6 225 rfl
theorem q2339 : (Jvm.Cond.castable "BitRopes$Marks" "java/lang/Object") ∈ lw_tbl := lw_at lw_m10 70 rfl
theorem in_X17 : ∀ w ∈ wsX170, w ∈ lw_all := lw_in wsX170 [1441, 1443] (by decide +kernel) (by decide +kernel)

/-! BitRopes$Counts -/
set_option maxRecDepth 100000
def RX18 : String := "BitRopes$Counts"
def TX18 : u_T := fun k => match k with
  | 0 => ("BitRopes$Counts", "what", "I", true)
  | 1 => ("BitRopes$Counts", "sign", "I", true)
  | _ => ("BitRopes$Counts", "numbe\x72", "I", true)
def tyX18 : Nat → FieldType := fun k => match k with
  | 0 => .int
  | 1 => .int
  | _ => .int
abbrev wsX180 : List Cond := u_ws RX18 TX18 3
theorem nmX18 : ∀ a, a < 3 → ∀ b, b < 3 → a ≠ b → (TX18 a).2.1 ≠ (TX18 b).2.1 := by decide +kernel
theorem tyX18_ok : ∀ k, k < 3 → parseFieldDescriptor (TX18 k).2.2.1 = some (tyX18 k) := by decide +kernel
abbrev cX18_init : ByteArray := prog_6_method_1_code
def yX18_init : MethodName := ⟨RX18, "<init>", "(III)V"⟩
def dkwX18_init_0 : List UInt8 := [42, 183, 0, 1, 42, 27, 181, 0, 7, 42, 28, 181, 0, 13, 42, 29, 181, 0, 16, 177]
abbrev dktX18_init_0 : List UInt8 := dkwX18_init_0 ++ []
theorem dksX18_init_0 : cX18_init.data.toList.drop 0 = dktX18_init_0 := by decide +kernel
theorem dX18_init_0 : decode cX18_init 0 = .ok (.aload_n 0, 1) := dk_42 (dk_at dksX18_init_0 0 rfl rfl)
theorem dX18_init_1 : decode cX18_init 1 = .ok (.invokespecial 1, 3) := dk_183 0 1 (dk_at dksX18_init_0 1 rfl rfl)
theorem dX18_init_4 : decode cX18_init 4 = .ok (.aload_n 0, 1) := dk_42 (dk_at dksX18_init_0 4 rfl rfl)
theorem dX18_init_5 : decode cX18_init 5 = .ok (.iload_n 1, 1) := dk_27 (dk_at dksX18_init_0 5 rfl rfl)
theorem dX18_init_6 : decode cX18_init 6 = .ok (.putfield 7, 3) := dk_181 0 7 (dk_at dksX18_init_0 6 rfl rfl)
theorem dX18_init_9 : decode cX18_init 9 = .ok (.aload_n 0, 1) := dk_42 (dk_at dksX18_init_0 9 rfl rfl)
theorem dX18_init_10 : decode cX18_init 10 = .ok (.iload_n 2, 1) := dk_28 (dk_at dksX18_init_0 10 rfl rfl)
theorem dX18_init_11 : decode cX18_init 11 = .ok (.putfield 13, 3) := dk_181 0 13 (dk_at dksX18_init_0 11 rfl rfl)
theorem dX18_init_14 : decode cX18_init 14 = .ok (.aload_n 0, 1) := dk_42 (dk_at dksX18_init_0 14 rfl rfl)
theorem dX18_init_15 : decode cX18_init 15 = .ok (.iload_n 3, 1) := dk_29 (dk_at dksX18_init_0 15 rfl rfl)
theorem dX18_init_16 : decode cX18_init 16 = .ok (.putfield 16, 3) := dk_181 0 16 (dk_at dksX18_init_0 16 rfl rfl)
theorem dX18_init_19 : decode cX18_init 19 = .ok (.return_, 1) := dk_177 (dk_at dksX18_init_0 19 rfl rfl)
abbrev cX18_is : ByteArray := prog_6_method_2_code
def yX18_is : MethodName := ⟨RX18, "is", "(LBitRopes;I)Z"⟩
def dkwX18_is_5 : List UInt8 := [167, 0, 21, 3, 167, 0, 17, 21, 4, 42, 180, 0, 16, 164, 0, 7, 4, 167, 0, 4, 3, 172]
abbrev dktX18_is_5 : List UInt8 := dkwX18_is_5 ++ []
def dkwX18_is_4 : List UInt8 := [167, 0, 43, 42, 180, 0, 13, 16, 61, 160, 0, 20, 21, 4, 42, 180, 0, 16, 160, 0, 7, 4]
abbrev dktX18_is_4 : List UInt8 := dkwX18_is_4 ++ dktX18_is_5
def dkwX18_is_3 : List UInt8 := [180, 0, 13, 16, 60, 160, 0, 20, 21, 4, 42, 180, 0, 16, 162, 0, 7, 4, 167, 0, 47, 3]
abbrev dktX18_is_3 : List UInt8 := dkwX18_is_3 ++ dktX18_is_4
def dkwX18_is_2 : List UInt8 := [167, 0, 19, 42, 180, 0, 7, 6, 160, 0, 10, 45, 182, 0, 38, 167, 0, 4, 28, 54, 4, 42]
abbrev dktX18_is_2 : List UInt8 := dkwX18_is_2 ++ dktX18_is_3
def dkwX18_is_1 : List UInt8 := [4, 160, 0, 10, 45, 182, 0, 31, 167, 0, 35, 42, 180, 0, 7, 5, 160, 0, 11, 43, 28, 182, 0, 34]
abbrev dktX18_is_1 : List UInt8 := dkwX18_is_1 ++ dktX18_is_2
def dkwX18_is_0 : List UInt8 := [43, 28, 182, 0, 19, 78, 42, 180, 0, 7, 154, 0, 10, 45, 182, 0, 25, 167, 0, 50, 42, 180, 0, 7]
abbrev dktX18_is_0 : List UInt8 := dkwX18_is_0 ++ dktX18_is_1
theorem dksX18_is_0 : cX18_is.data.toList.drop 0 = dktX18_is_0 := by decide +kernel
theorem dksX18_is_1 : cX18_is.data.toList.drop 24 = dktX18_is_1 := dk_seg dksX18_is_0 24 rfl rfl
theorem dksX18_is_2 : cX18_is.data.toList.drop 48 = dktX18_is_2 := dk_seg dksX18_is_1 24 rfl rfl
theorem dksX18_is_3 : cX18_is.data.toList.drop 70 = dktX18_is_3 := dk_seg dksX18_is_2 22 rfl rfl
theorem dksX18_is_4 : cX18_is.data.toList.drop 92 = dktX18_is_4 := dk_seg dksX18_is_3 22 rfl rfl
theorem dksX18_is_5 : cX18_is.data.toList.drop 114 = dktX18_is_5 := dk_seg dksX18_is_4 22 rfl rfl
theorem dX18_is_0 : decode cX18_is 0 = .ok (.aload_n 1, 1) := dk_43 (dk_at dksX18_is_0 0 rfl rfl)
theorem dX18_is_1 : decode cX18_is 1 = .ok (.iload_n 2, 1) := dk_28 (dk_at dksX18_is_0 1 rfl rfl)
theorem dX18_is_2 : decode cX18_is 2 = .ok (.invokevirtual 19, 3) := dk_182 0 19 (dk_at dksX18_is_0 2 rfl rfl)
theorem dX18_is_5 : decode cX18_is 5 = .ok (.astore_n 3, 1) := dk_78 (dk_at dksX18_is_0 5 rfl rfl)
theorem dX18_is_6 : decode cX18_is 6 = .ok (.aload_n 0, 1) := dk_42 (dk_at dksX18_is_0 6 rfl rfl)
theorem dX18_is_7 : decode cX18_is 7 = .ok (.getfield 7, 3) := dk_180 0 7 (dk_at dksX18_is_0 7 rfl rfl)
theorem dX18_is_10 : decode cX18_is 10 = .ok (.ifCond .ne 10, 3) := dk_154 0 10 (dk_at dksX18_is_0 10 rfl rfl)
theorem dX18_is_13 : decode cX18_is 13 = .ok (.aload_n 3, 1) := dk_45 (dk_at dksX18_is_0 13 rfl rfl)
theorem dX18_is_14 : decode cX18_is 14 = .ok (.invokevirtual 25, 3) := dk_182 0 25 (dk_at dksX18_is_0 14 rfl rfl)
theorem dX18_is_17 : decode cX18_is 17 = .ok (.goto 50, 3) := dk_167 0 50 (dk_at dksX18_is_0 17 rfl rfl)
theorem dX18_is_20 : decode cX18_is 20 = .ok (.aload_n 0, 1) := dk_42 (dk_at dksX18_is_0 20 rfl rfl)
theorem dX18_is_21 : decode cX18_is 21 = .ok (.getfield 7, 3) := dk_180 0 7 (dk_at dksX18_is_0 21 rfl rfl)
theorem dX18_is_24 : decode cX18_is 24 = .ok (.iconst 1, 1) := dk_4 (dk_at dksX18_is_1 0 rfl rfl)
theorem dX18_is_25 : decode cX18_is 25 = .ok (.if_icmp .ne 10, 3) := dk_160 0 10 (dk_at dksX18_is_1 1 rfl rfl)
theorem dX18_is_28 : decode cX18_is 28 = .ok (.aload_n 3, 1) := dk_45 (dk_at dksX18_is_1 4 rfl rfl)
theorem dX18_is_29 : decode cX18_is 29 = .ok (.invokevirtual 31, 3) := dk_182 0 31 (dk_at dksX18_is_1 5 rfl rfl)
theorem dX18_is_32 : decode cX18_is 32 = .ok (.goto 35, 3) := dk_167 0 35 (dk_at dksX18_is_1 8 rfl rfl)
theorem dX18_is_35 : decode cX18_is 35 = .ok (.aload_n 0, 1) := dk_42 (dk_at dksX18_is_1 11 rfl rfl)
theorem dX18_is_36 : decode cX18_is 36 = .ok (.getfield 7, 3) := dk_180 0 7 (dk_at dksX18_is_1 12 rfl rfl)
theorem dX18_is_39 : decode cX18_is 39 = .ok (.iconst 2, 1) := dk_5 (dk_at dksX18_is_1 15 rfl rfl)
theorem dX18_is_40 : decode cX18_is 40 = .ok (.if_icmp .ne 11, 3) := dk_160 0 11 (dk_at dksX18_is_1 16 rfl rfl)
theorem dX18_is_43 : decode cX18_is 43 = .ok (.aload_n 1, 1) := dk_43 (dk_at dksX18_is_1 19 rfl rfl)
theorem dX18_is_44 : decode cX18_is 44 = .ok (.iload_n 2, 1) := dk_28 (dk_at dksX18_is_1 20 rfl rfl)
theorem dX18_is_45 : decode cX18_is 45 = .ok (.invokevirtual 34, 3) := dk_182 0 34 (dk_at dksX18_is_1 21 rfl rfl)
theorem dX18_is_48 : decode cX18_is 48 = .ok (.goto 19, 3) := dk_167 0 19 (dk_at dksX18_is_2 0 rfl rfl)
theorem dX18_is_51 : decode cX18_is 51 = .ok (.aload_n 0, 1) := dk_42 (dk_at dksX18_is_2 3 rfl rfl)
theorem dX18_is_52 : decode cX18_is 52 = .ok (.getfield 7, 3) := dk_180 0 7 (dk_at dksX18_is_2 4 rfl rfl)
theorem dX18_is_55 : decode cX18_is 55 = .ok (.iconst 3, 1) := dk_6 (dk_at dksX18_is_2 7 rfl rfl)
theorem dX18_is_56 : decode cX18_is 56 = .ok (.if_icmp .ne 10, 3) := dk_160 0 10 (dk_at dksX18_is_2 8 rfl rfl)
theorem dX18_is_59 : decode cX18_is 59 = .ok (.aload_n 3, 1) := dk_45 (dk_at dksX18_is_2 11 rfl rfl)
theorem dX18_is_60 : decode cX18_is 60 = .ok (.invokevirtual 38, 3) := dk_182 0 38 (dk_at dksX18_is_2 12 rfl rfl)
theorem dX18_is_63 : decode cX18_is 63 = .ok (.goto 4, 3) := dk_167 0 4 (dk_at dksX18_is_2 15 rfl rfl)
theorem dX18_is_66 : decode cX18_is 66 = .ok (.iload_n 2, 1) := dk_28 (dk_at dksX18_is_2 18 rfl rfl)
theorem dX18_is_67 : decode cX18_is 67 = .ok (.istore 4, 2) := dk_54 4 (dk_at dksX18_is_2 19 rfl rfl)
theorem dX18_is_69 : decode cX18_is 69 = .ok (.aload_n 0, 1) := dk_42 (dk_at dksX18_is_2 21 rfl rfl)
theorem dX18_is_70 : decode cX18_is 70 = .ok (.getfield 13, 3) := dk_180 0 13 (dk_at dksX18_is_3 0 rfl rfl)
theorem dX18_is_73 : decode cX18_is 73 = .ok (.bipush 60, 2) := dk_16 60 (dk_at dksX18_is_3 3 rfl rfl)
theorem dX18_is_75 : decode cX18_is 75 = .ok (.if_icmp .ne 20, 3) := dk_160 0 20 (dk_at dksX18_is_3 5 rfl rfl)
theorem dX18_is_78 : decode cX18_is 78 = .ok (.iload 4, 2) := dk_21 4 (dk_at dksX18_is_3 8 rfl rfl)
theorem dX18_is_80 : decode cX18_is 80 = .ok (.aload_n 0, 1) := dk_42 (dk_at dksX18_is_3 10 rfl rfl)
theorem dX18_is_81 : decode cX18_is 81 = .ok (.getfield 16, 3) := dk_180 0 16 (dk_at dksX18_is_3 11 rfl rfl)
theorem dX18_is_84 : decode cX18_is 84 = .ok (.if_icmp .ge 7, 3) := dk_162 0 7 (dk_at dksX18_is_3 14 rfl rfl)
theorem dX18_is_87 : decode cX18_is 87 = .ok (.iconst 1, 1) := dk_4 (dk_at dksX18_is_3 17 rfl rfl)
theorem dX18_is_88 : decode cX18_is 88 = .ok (.goto 47, 3) := dk_167 0 47 (dk_at dksX18_is_3 18 rfl rfl)
theorem dX18_is_91 : decode cX18_is 91 = .ok (.iconst 0, 1) := dk_3 (dk_at dksX18_is_3 21 rfl rfl)
theorem dX18_is_92 : decode cX18_is 92 = .ok (.goto 43, 3) := dk_167 0 43 (dk_at dksX18_is_4 0 rfl rfl)
theorem dX18_is_95 : decode cX18_is 95 = .ok (.aload_n 0, 1) := dk_42 (dk_at dksX18_is_4 3 rfl rfl)
theorem dX18_is_96 : decode cX18_is 96 = .ok (.getfield 13, 3) := dk_180 0 13 (dk_at dksX18_is_4 4 rfl rfl)
theorem dX18_is_99 : decode cX18_is 99 = .ok (.bipush 61, 2) := dk_16 61 (dk_at dksX18_is_4 7 rfl rfl)
theorem dX18_is_101 : decode cX18_is 101 = .ok (.if_icmp .ne 20, 3) := dk_160 0 20 (dk_at dksX18_is_4 9 rfl rfl)
theorem dX18_is_104 : decode cX18_is 104 = .ok (.iload 4, 2) := dk_21 4 (dk_at dksX18_is_4 12 rfl rfl)
theorem dX18_is_106 : decode cX18_is 106 = .ok (.aload_n 0, 1) := dk_42 (dk_at dksX18_is_4 14 rfl rfl)
theorem dX18_is_107 : decode cX18_is 107 = .ok (.getfield 16, 3) := dk_180 0 16 (dk_at dksX18_is_4 15 rfl rfl)
theorem dX18_is_110 : decode cX18_is 110 = .ok (.if_icmp .ne 7, 3) := dk_160 0 7 (dk_at dksX18_is_4 18 rfl rfl)
theorem dX18_is_113 : decode cX18_is 113 = .ok (.iconst 1, 1) := dk_4 (dk_at dksX18_is_4 21 rfl rfl)
theorem dX18_is_114 : decode cX18_is 114 = .ok (.goto 21, 3) := dk_167 0 21 (dk_at dksX18_is_5 0 rfl rfl)
theorem dX18_is_117 : decode cX18_is 117 = .ok (.iconst 0, 1) := dk_3 (dk_at dksX18_is_5 3 rfl rfl)
theorem dX18_is_118 : decode cX18_is 118 = .ok (.goto 17, 3) := dk_167 0 17 (dk_at dksX18_is_5 4 rfl rfl)
theorem dX18_is_121 : decode cX18_is 121 = .ok (.iload 4, 2) := dk_21 4 (dk_at dksX18_is_5 7 rfl rfl)
theorem dX18_is_123 : decode cX18_is 123 = .ok (.aload_n 0, 1) := dk_42 (dk_at dksX18_is_5 9 rfl rfl)
theorem dX18_is_124 : decode cX18_is 124 = .ok (.getfield 16, 3) := dk_180 0 16 (dk_at dksX18_is_5 10 rfl rfl)
theorem dX18_is_127 : decode cX18_is 127 = .ok (.if_icmp .le 7, 3) := dk_164 0 7 (dk_at dksX18_is_5 13 rfl rfl)
theorem dX18_is_130 : decode cX18_is 130 = .ok (.iconst 1, 1) := dk_4 (dk_at dksX18_is_5 16 rfl rfl)
theorem dX18_is_131 : decode cX18_is 131 = .ok (.goto 4, 3) := dk_167 0 4 (dk_at dksX18_is_5 17 rfl rfl)
theorem dX18_is_134 : decode cX18_is 134 = .ok (.iconst 0, 1) := dk_3 (dk_at dksX18_is_5 20 rfl rfl)
theorem dX18_is_135 : decode cX18_is 135 = .ok (.ireturn, 1) := dk_172 (dk_at dksX18_is_5 21 rfl rfl)
theorem q141 : (Jvm.Cond.initialized "BitRopes$Counts") ∈ lw_all := lw_g (lw_at lw_m1 32 rfl) rfl
theorem q1447 : (Jvm.Cond.instantiable "BitRopes$Counts" (3 : Nat)) ∈ lw_all := lw_g (lw_at lw_m6 138 rfl) rfl
theorem q1449 : (Jvm.Cond.instanceMethod ({ cls := "BitRopes$Counts", name := "<init>", desc := "(III)V" } : Jvm.MethodName)) ∈ lw_all := lw_g (lw_at lw_m6 140 rfl) rfl
theorem q1450 : (Jvm.Cond.code ({ cls := "BitRopes$Counts", name := "<init>", desc := "(III)V" } : Jvm.MethodName) prog_6_method_1_code (4 : Nat) (Option.none : Option Jvm.ClassFile.FieldType)) ∈ lw_all := lw_g (lw_at lw_m6 141 rfl) rfl
theorem q1451 : (Jvm.Cond.methodLink "BitRopes$Counts" (1 : Nat) ({ cls := "java/lang/Object", name := "<init>", desc := "()V" } : Jvm.MethodName)) ∈ lw_all := lw_g (lw_at lw_m6 142 rfl) rfl
theorem q1452 : (Jvm.Cond.fieldLink "BitRopes$Counts" (7 : Nat) "BitRopes$Counts" "what" "I") ∈ lw_all := lw_g (lw_at lw_m6 143 rfl) rfl
theorem q1453 : (Jvm.Cond.fieldLink "BitRopes$Counts" (13 : Nat) "BitRopes$Counts" "sign" "I") ∈ lw_all := lw_g (lw_at lw_m6 144 rfl) rfl
theorem q1454 : (Jvm.Cond.fieldLink "BitRopes$Counts" (16 : Nat) "BitRopes$Counts" "numbe\x72" "I") ∈ lw_all := lw_g (lw_at lw_m6 145 rfl) rfl
theorem q1455 : (Jvm.Cond.laysFinal "BitRopes$Counts" "BitRopes$Counts" "what" "I") ∈ lw_all := lw_g (lw_at lw_m6 146 rfl) rfl
theorem q1456 : (Jvm.Cond.soleField "BitRopes$Counts" "what") ∈ lw_all := lw_g (lw_at lw_m6 147 rfl) rfl
theorem q1457 : (Jvm.Cond.laysFinal "BitRopes$Counts" "BitRopes$Counts" "sign" "I") ∈ lw_all := lw_g (lw_at lw_m6 148 rfl) rfl
theorem q1458 : (Jvm.Cond.soleField "BitRopes$Counts" "sign") ∈ lw_all := lw_g (lw_at lw_m6 149 rfl) rfl
theorem q1459 : (Jvm.Cond.laysFinal "BitRopes$Counts" "BitRopes$Counts" "numbe\x72" "I") ∈ lw_all := lw_g (lw_at lw_m6 150 rfl) rfl
theorem q1460 : (Jvm.Cond.soleField "BitRopes$Counts" "numbe\x72") ∈ lw_all := lw_g (lw_at lw_m6 151 rfl) rfl
theorem q1461 : (Jvm.Cond.superclass "BitRopes$Counts" "java/lang/Object") ∈ lw_all := lw_g (lw_at lw_m6 152 rfl) rfl
theorem q1514 : (Jvm.Cond.castable "BitRopes$Counts" "BitRopes$Cond") ∈ lw_tbl := lw_at lw_m6 205 rfl
theorem q1515 : (Jvm.Cond.selects "BitRopes$Counts" ({ cls := "BitRopes$Cond", name := "is", desc := "(LBitRopes;I)Z" } : Jvm.MethodName) ({ cls := "BitRopes$Counts", name := "is", desc := "(LBitRopes;I)Z" } : Jvm.MethodName)) ∈ lw_all := lw_g (lw_at lw_m6 206 rfl) rfl
theorem q1516 : (Jvm.Cond.unhidden "BitRopes$Counts" "is" "(LBitRopes;I)Z") ∈ lw_tbl := lw_at lw_m6 207 rfl
theorem q1517 : (Jvm.Cond.instanceMethod ({ cls := "BitRopes$Counts", name := "is", desc := "(LBitRopes;I)Z" } : Jvm.MethodName)) ∈ lw_all := lw_g (lw_at lw_m6 208 rfl) rfl
theorem q1518 : (Jvm.Cond.publicMethod ({ cls := "BitRopes$Counts", name := "is", desc := "(LBitRopes;I)Z" } : Jvm.MethodName)) ∈ lw_tbl := lw_at lw_m6 209 rfl
theorem q1519 : (Jvm.Cond.code ({ cls := "BitRopes$Counts", name := "is", desc := "(LBitRopes;I)Z" } : Jvm.MethodName) prog_6_method_2_code (5 : Nat) (Option.some Jvm.ClassFile.FieldType.boolean)) ∈ lw_all := lw_g (lw_at lw_m6 210 rfl) rfl
theorem q1520 : (Jvm.Cond.methodLinkNest "BitRopes$Counts" (19 : Nat) ({ cls := "BitRopes", name := "rope", desc := "(I)LBitRopes$Rope;" } : Jvm.MethodName) "BitRopes") ∈ lw_tbl := lw_at lw_m6 211 rfl
theorem q1521 : (Jvm.Cond.methodLink "BitRopes$Counts" (25 : Nat) ({ cls := "BitRopes$Rope", name := "wide", desc := "()I" } : Jvm.MethodName)) ∈ lw_all := lw_g (lw_at lw_m6 212 rfl) rfl
theorem q1522 : (Jvm.Cond.methodLink "BitRopes$Counts" (31 : Nat) ({ cls := "BitRopes$Rope", name := "lit", desc := "()I" } : Jvm.MethodName)) ∈ lw_all := lw_g (lw_at lw_m6 213 rfl) rfl
theorem q1523 : (Jvm.Cond.methodLinkNest "BitRopes$Counts" (34 : Nat) ({ cls := "BitRopes", name := "runsOf", desc := "(I)I" } : Jvm.MethodName) "BitRopes") ∈ lw_tbl := lw_at lw_m6 214 rfl
theorem q1524 : (Jvm.Cond.methodLink "BitRopes$Counts" (38 : Nat) ({ cls := "BitRopes$Rope", name := "folds", desc := "()I" } : Jvm.MethodName)) ∈ lw_all := lw_g (lw_at lw_m6 215 rfl) rfl
theorem q2340 : (Jvm.Cond.castable "BitRopes$Counts" "java/lang/Object") ∈ lw_tbl := lw_at lw_m10 71 rfl
theorem in_X18 : ∀ w ∈ wsX180, w ∈ lw_all := lw_in wsX180 [1455, 1457, 1459] (by decide +kernel) (by decide +kernel)

/-! BitRopes$Both -/
set_option maxRecDepth 100000
def RX19 : String := "BitRopes$Both"
def TX19 : u_T := fun k => match k with
  | 0 => ("BitRopes$Both", "a", "LBitRopes$Cond;", true)
  | _ => ("BitRopes$Both", "b", "LBitRopes$Cond;", true)
def tyX19 : Nat → FieldType := fun k => match k with
  | 0 => .object "BitRopes$Cond"
  | _ => .object "BitRopes$Cond"
abbrev wsX190 : List Cond := u_ws RX19 TX19 2
theorem nmX19 : ∀ a, a < 2 → ∀ b, b < 2 → a ≠ b → (TX19 a).2.1 ≠ (TX19 b).2.1 := by decide +kernel
theorem tyX19_ok : ∀ k, k < 2 → parseFieldDescriptor (TX19 k).2.2.1 = some (tyX19 k) := by decide +kernel
abbrev cX19_init : ByteArray := prog_4_method_1_code
def yX19_init : MethodName := ⟨RX19, "<init>", "(LBitRopes$Cond;LBitRopes$Cond;)V"⟩
def dkwX19_init_0 : List UInt8 := [42, 183, 0, 1, 42, 43, 181, 0, 7, 42, 44, 181, 0, 13, 177]
abbrev dktX19_init_0 : List UInt8 := dkwX19_init_0 ++ []
theorem dksX19_init_0 : cX19_init.data.toList.drop 0 = dktX19_init_0 := by decide +kernel
theorem dX19_init_0 : decode cX19_init 0 = .ok (.aload_n 0, 1) := dk_42 (dk_at dksX19_init_0 0 rfl rfl)
theorem dX19_init_1 : decode cX19_init 1 = .ok (.invokespecial 1, 3) := dk_183 0 1 (dk_at dksX19_init_0 1 rfl rfl)
theorem dX19_init_4 : decode cX19_init 4 = .ok (.aload_n 0, 1) := dk_42 (dk_at dksX19_init_0 4 rfl rfl)
theorem dX19_init_5 : decode cX19_init 5 = .ok (.aload_n 1, 1) := dk_43 (dk_at dksX19_init_0 5 rfl rfl)
theorem dX19_init_6 : decode cX19_init 6 = .ok (.putfield 7, 3) := dk_181 0 7 (dk_at dksX19_init_0 6 rfl rfl)
theorem dX19_init_9 : decode cX19_init 9 = .ok (.aload_n 0, 1) := dk_42 (dk_at dksX19_init_0 9 rfl rfl)
theorem dX19_init_10 : decode cX19_init 10 = .ok (.aload_n 2, 1) := dk_44 (dk_at dksX19_init_0 10 rfl rfl)
theorem dX19_init_11 : decode cX19_init 11 = .ok (.putfield 13, 3) := dk_181 0 13 (dk_at dksX19_init_0 11 rfl rfl)
theorem dX19_init_14 : decode cX19_init 14 = .ok (.return_, 1) := dk_177 (dk_at dksX19_init_0 14 rfl rfl)
abbrev cX19_is : ByteArray := prog_4_method_2_code
def yX19_is : MethodName := ⟨RX19, "is", "(LBitRopes;I)Z"⟩
def dkwX19_is_1 : List UInt8 := [185, 0, 16, 3, 0, 153, 0, 7, 4, 167, 0, 4, 3, 172]
abbrev dktX19_is_1 : List UInt8 := dkwX19_is_1 ++ []
def dkwX19_is_0 : List UInt8 := [42, 180, 0, 7, 43, 28, 185, 0, 16, 3, 0, 153, 0, 21, 42, 180, 0, 13, 43, 28]
abbrev dktX19_is_0 : List UInt8 := dkwX19_is_0 ++ dktX19_is_1
theorem dksX19_is_0 : cX19_is.data.toList.drop 0 = dktX19_is_0 := by decide +kernel
theorem dksX19_is_1 : cX19_is.data.toList.drop 20 = dktX19_is_1 := dk_seg dksX19_is_0 20 rfl rfl
theorem dX19_is_0 : decode cX19_is 0 = .ok (.aload_n 0, 1) := dk_42 (dk_at dksX19_is_0 0 rfl rfl)
theorem dX19_is_1 : decode cX19_is 1 = .ok (.getfield 7, 3) := dk_180 0 7 (dk_at dksX19_is_0 1 rfl rfl)
theorem dX19_is_4 : decode cX19_is 4 = .ok (.aload_n 1, 1) := dk_43 (dk_at dksX19_is_0 4 rfl rfl)
theorem dX19_is_5 : decode cX19_is 5 = .ok (.iload_n 2, 1) := dk_28 (dk_at dksX19_is_0 5 rfl rfl)
theorem dX19_is_6 : decode cX19_is 6 = .ok (.invokeinterface 16 3, 5) := by decide +kernel
theorem dX19_is_11 : decode cX19_is 11 = .ok (.ifCond .eq 21, 3) := dk_153 0 21 (dk_at dksX19_is_0 11 rfl rfl)
theorem dX19_is_14 : decode cX19_is 14 = .ok (.aload_n 0, 1) := dk_42 (dk_at dksX19_is_0 14 rfl rfl)
theorem dX19_is_15 : decode cX19_is 15 = .ok (.getfield 13, 3) := dk_180 0 13 (dk_at dksX19_is_0 15 rfl rfl)
theorem dX19_is_18 : decode cX19_is 18 = .ok (.aload_n 1, 1) := dk_43 (dk_at dksX19_is_0 18 rfl rfl)
theorem dX19_is_19 : decode cX19_is 19 = .ok (.iload_n 2, 1) := dk_28 (dk_at dksX19_is_0 19 rfl rfl)
theorem dX19_is_20 : decode cX19_is 20 = .ok (.invokeinterface 16 3, 5) := by decide +kernel
theorem dX19_is_25 : decode cX19_is 25 = .ok (.ifCond .eq 7, 3) := dk_153 0 7 (dk_at dksX19_is_1 5 rfl rfl)
theorem dX19_is_28 : decode cX19_is 28 = .ok (.iconst 1, 1) := dk_4 (dk_at dksX19_is_1 8 rfl rfl)
theorem dX19_is_29 : decode cX19_is 29 = .ok (.goto 4, 3) := dk_167 0 4 (dk_at dksX19_is_1 9 rfl rfl)
theorem dX19_is_32 : decode cX19_is 32 = .ok (.iconst 0, 1) := dk_3 (dk_at dksX19_is_1 12 rfl rfl)
theorem dX19_is_33 : decode cX19_is 33 = .ok (.ireturn, 1) := dk_172 (dk_at dksX19_is_1 13 rfl rfl)
theorem q142 : (Jvm.Cond.initialized "BitRopes$Both") ∈ lw_all := lw_g (lw_at lw_m1 33 rfl) rfl
theorem q1464 : (Jvm.Cond.instantiable "BitRopes$Both" (2 : Nat)) ∈ lw_all := lw_g (lw_at lw_m6 155 rfl) rfl
theorem q1466 : (Jvm.Cond.instanceMethod ({ cls := "BitRopes$Both", name := "<init>", desc := "(LBitRopes$Cond;LBitRopes$Cond;)V" } : Jvm.MethodName)) ∈ lw_all := lw_g (lw_at lw_m6 157 rfl) rfl
theorem q1467 : (Jvm.Cond.code ({ cls := "BitRopes$Both", name := "<init>", desc := "(LBitRopes$Cond;LBitRopes$Cond;)V" } : Jvm.MethodName) prog_4_method_1_code (3 : Nat) (Option.none : Option Jvm.ClassFile.FieldType)) ∈ lw_all := lw_g (lw_at lw_m6 158 rfl) rfl
theorem q1468 : (Jvm.Cond.methodLink "BitRopes$Both" (1 : Nat) ({ cls := "java/lang/Object", name := "<init>", desc := "()V" } : Jvm.MethodName)) ∈ lw_all := lw_g (lw_at lw_m6 159 rfl) rfl
theorem q1469 : (Jvm.Cond.fieldLink "BitRopes$Both" (7 : Nat) "BitRopes$Both" "a" "LBitRopes$Cond;") ∈ lw_all := lw_g (lw_at lw_m6 160 rfl) rfl
theorem q1470 : (Jvm.Cond.fieldLink "BitRopes$Both" (13 : Nat) "BitRopes$Both" "b" "LBitRopes$Cond;") ∈ lw_all := lw_g (lw_at lw_m6 161 rfl) rfl
theorem q1471 : (Jvm.Cond.laysFinal "BitRopes$Both" "BitRopes$Both" "a" "LBitRopes$Cond;") ∈ lw_all := lw_g (lw_at lw_m6 162 rfl) rfl
theorem q1472 : (Jvm.Cond.soleField "BitRopes$Both" "a") ∈ lw_all := lw_g (lw_at lw_m6 163 rfl) rfl
theorem q1473 : (Jvm.Cond.laysFinal "BitRopes$Both" "BitRopes$Both" "b" "LBitRopes$Cond;") ∈ lw_all := lw_g (lw_at lw_m6 164 rfl) rfl
theorem q1474 : (Jvm.Cond.soleField "BitRopes$Both" "b") ∈ lw_all := lw_g (lw_at lw_m6 165 rfl) rfl
theorem q1475 : (Jvm.Cond.superclass "BitRopes$Both" "java/lang/Object") ∈ lw_all := lw_g (lw_at lw_m6 166 rfl) rfl
theorem q1506 : (Jvm.Cond.castable "BitRopes$Both" "BitRopes$Cond") ∈ lw_tbl := lw_at lw_m6 197 rfl
theorem q1507 : (Jvm.Cond.selects "BitRopes$Both" ({ cls := "BitRopes$Cond", name := "is", desc := "(LBitRopes;I)Z" } : Jvm.MethodName) ({ cls := "BitRopes$Both", name := "is", desc := "(LBitRopes;I)Z" } : Jvm.MethodName)) ∈ lw_all := lw_g (lw_at lw_m6 198 rfl) rfl
theorem q1508 : (Jvm.Cond.unhidden "BitRopes$Both" "is" "(LBitRopes;I)Z") ∈ lw_tbl := lw_at lw_m6 199 rfl
theorem q1509 : (Jvm.Cond.instanceMethod ({ cls := "BitRopes$Both", name := "is", desc := "(LBitRopes;I)Z" } : Jvm.MethodName)) ∈ lw_all := lw_g (lw_at lw_m6 200 rfl) rfl
theorem q1510 : (Jvm.Cond.publicMethod ({ cls := "BitRopes$Both", name := "is", desc := "(LBitRopes;I)Z" } : Jvm.MethodName)) ∈ lw_tbl := lw_at lw_m6 201 rfl
theorem q1511 : (Jvm.Cond.code ({ cls := "BitRopes$Both", name := "is", desc := "(LBitRopes;I)Z" } : Jvm.MethodName) prog_4_method_2_code (3 : Nat) (Option.some Jvm.ClassFile.FieldType.boolean)) ∈ lw_all := lw_g (lw_at lw_m6 202 rfl) rfl
theorem q1512 : (Jvm.Cond.interfaceEntry "BitRopes$Both" (16 : Nat)) ∈ lw_tbl := lw_at lw_m6 203 rfl
theorem q1513 : (Jvm.Cond.methodLink "BitRopes$Both" (16 : Nat) ({ cls := "BitRopes$Cond", name := "is", desc := "(LBitRopes;I)Z" } : Jvm.MethodName)) ∈ lw_all := lw_g (lw_at lw_m6 204 rfl) rfl
theorem q2341 : (Jvm.Cond.castable "BitRopes$Both" "java/lang/Object") ∈ lw_tbl := lw_at lw_m10 72 rfl
theorem in_X19 : ∀ w ∈ wsX190, w ∈ lw_all := lw_in wsX190 [1471, 1473] (by decide +kernel) (by decide +kernel)

/-! BitRopes$Any -/
set_option maxRecDepth 100000
def RX20 : String := "BitRopes$Any"
def TX20 : u_T := fun k => match k with
  | 0 => ("BitRopes$Any", "a", "LBitRopes$Cond;", true)
  | _ => ("BitRopes$Any", "b", "LBitRopes$Cond;", true)
def tyX20 : Nat → FieldType := fun k => match k with
  | 0 => .object "BitRopes$Cond"
  | _ => .object "BitRopes$Cond"
abbrev wsX200 : List Cond := u_ws RX20 TX20 2
theorem nmX20 : ∀ a, a < 2 → ∀ b, b < 2 → a ≠ b → (TX20 a).2.1 ≠ (TX20 b).2.1 := by decide +kernel
theorem tyX20_ok : ∀ k, k < 2 → parseFieldDescriptor (TX20 k).2.2.1 = some (tyX20 k) := by decide +kernel
abbrev cX20_init : ByteArray := prog_2_method_1_code
def yX20_init : MethodName := ⟨RX20, "<init>", "(LBitRopes$Cond;LBitRopes$Cond;)V"⟩
def dkwX20_init_0 : List UInt8 := [42, 183, 0, 1, 42, 43, 181, 0, 7, 42, 44, 181, 0, 13, 177]
abbrev dktX20_init_0 : List UInt8 := dkwX20_init_0 ++ []
theorem dksX20_init_0 : cX20_init.data.toList.drop 0 = dktX20_init_0 := by decide +kernel
theorem dX20_init_0 : decode cX20_init 0 = .ok (.aload_n 0, 1) := dk_42 (dk_at dksX20_init_0 0 rfl rfl)
theorem dX20_init_1 : decode cX20_init 1 = .ok (.invokespecial 1, 3) := dk_183 0 1 (dk_at dksX20_init_0 1 rfl rfl)
theorem dX20_init_4 : decode cX20_init 4 = .ok (.aload_n 0, 1) := dk_42 (dk_at dksX20_init_0 4 rfl rfl)
theorem dX20_init_5 : decode cX20_init 5 = .ok (.aload_n 1, 1) := dk_43 (dk_at dksX20_init_0 5 rfl rfl)
theorem dX20_init_6 : decode cX20_init 6 = .ok (.putfield 7, 3) := dk_181 0 7 (dk_at dksX20_init_0 6 rfl rfl)
theorem dX20_init_9 : decode cX20_init 9 = .ok (.aload_n 0, 1) := dk_42 (dk_at dksX20_init_0 9 rfl rfl)
theorem dX20_init_10 : decode cX20_init 10 = .ok (.aload_n 2, 1) := dk_44 (dk_at dksX20_init_0 10 rfl rfl)
theorem dX20_init_11 : decode cX20_init 11 = .ok (.putfield 13, 3) := dk_181 0 13 (dk_at dksX20_init_0 11 rfl rfl)
theorem dX20_init_14 : decode cX20_init 14 = .ok (.return_, 1) := dk_177 (dk_at dksX20_init_0 14 rfl rfl)
abbrev cX20_is : ByteArray := prog_2_method_2_code
def yX20_is : MethodName := ⟨RX20, "is", "(LBitRopes;I)Z"⟩
def dkwX20_is_1 : List UInt8 := [185, 0, 16, 3, 0, 153, 0, 7, 4, 167, 0, 4, 3, 172]
abbrev dktX20_is_1 : List UInt8 := dkwX20_is_1 ++ []
def dkwX20_is_0 : List UInt8 := [42, 180, 0, 7, 43, 28, 185, 0, 16, 3, 0, 154, 0, 17, 42, 180, 0, 13, 43, 28]
abbrev dktX20_is_0 : List UInt8 := dkwX20_is_0 ++ dktX20_is_1
theorem dksX20_is_0 : cX20_is.data.toList.drop 0 = dktX20_is_0 := by decide +kernel
theorem dksX20_is_1 : cX20_is.data.toList.drop 20 = dktX20_is_1 := dk_seg dksX20_is_0 20 rfl rfl
theorem dX20_is_0 : decode cX20_is 0 = .ok (.aload_n 0, 1) := dk_42 (dk_at dksX20_is_0 0 rfl rfl)
theorem dX20_is_1 : decode cX20_is 1 = .ok (.getfield 7, 3) := dk_180 0 7 (dk_at dksX20_is_0 1 rfl rfl)
theorem dX20_is_4 : decode cX20_is 4 = .ok (.aload_n 1, 1) := dk_43 (dk_at dksX20_is_0 4 rfl rfl)
theorem dX20_is_5 : decode cX20_is 5 = .ok (.iload_n 2, 1) := dk_28 (dk_at dksX20_is_0 5 rfl rfl)
theorem dX20_is_6 : decode cX20_is 6 = .ok (.invokeinterface 16 3, 5) := by decide +kernel
theorem dX20_is_11 : decode cX20_is 11 = .ok (.ifCond .ne 17, 3) := dk_154 0 17 (dk_at dksX20_is_0 11 rfl rfl)
theorem dX20_is_14 : decode cX20_is 14 = .ok (.aload_n 0, 1) := dk_42 (dk_at dksX20_is_0 14 rfl rfl)
theorem dX20_is_15 : decode cX20_is 15 = .ok (.getfield 13, 3) := dk_180 0 13 (dk_at dksX20_is_0 15 rfl rfl)
theorem dX20_is_18 : decode cX20_is 18 = .ok (.aload_n 1, 1) := dk_43 (dk_at dksX20_is_0 18 rfl rfl)
theorem dX20_is_19 : decode cX20_is 19 = .ok (.iload_n 2, 1) := dk_28 (dk_at dksX20_is_0 19 rfl rfl)
theorem dX20_is_20 : decode cX20_is 20 = .ok (.invokeinterface 16 3, 5) := by decide +kernel
theorem dX20_is_25 : decode cX20_is 25 = .ok (.ifCond .eq 7, 3) := dk_153 0 7 (dk_at dksX20_is_1 5 rfl rfl)
theorem dX20_is_28 : decode cX20_is 28 = .ok (.iconst 1, 1) := dk_4 (dk_at dksX20_is_1 8 rfl rfl)
theorem dX20_is_29 : decode cX20_is 29 = .ok (.goto 4, 3) := dk_167 0 4 (dk_at dksX20_is_1 9 rfl rfl)
theorem dX20_is_32 : decode cX20_is 32 = .ok (.iconst 0, 1) := dk_3 (dk_at dksX20_is_1 12 rfl rfl)
theorem dX20_is_33 : decode cX20_is 33 = .ok (.ireturn, 1) := dk_172 (dk_at dksX20_is_1 13 rfl rfl)
theorem q143 : (Jvm.Cond.initialized "BitRopes$Any") ∈ lw_all := lw_g (lw_at lw_m1 34 rfl) rfl
theorem q1478 : (Jvm.Cond.instantiable "BitRopes$Any" (2 : Nat)) ∈ lw_all := lw_g (lw_at lw_m6 169 rfl) rfl
theorem q1480 : (Jvm.Cond.instanceMethod ({ cls := "BitRopes$Any", name := "<init>", desc := "(LBitRopes$Cond;LBitRopes$Cond;)V" } : Jvm.MethodName)) ∈ lw_all := lw_g (lw_at lw_m6 171 rfl) rfl
theorem q1481 : (Jvm.Cond.code ({ cls := "BitRopes$Any", name := "<init>", desc := "(LBitRopes$Cond;LBitRopes$Cond;)V" } : Jvm.MethodName) prog_2_method_1_code (3 : Nat) (Option.none : Option Jvm.ClassFile.FieldType)) ∈ lw_all := lw_g (lw_at lw_m6 172 rfl) rfl
theorem q1482 : (Jvm.Cond.methodLink "BitRopes$Any" (1 : Nat) ({ cls := "java/lang/Object", name := "<init>", desc := "()V" } : Jvm.MethodName)) ∈ lw_all := lw_g (lw_at lw_m6 173 rfl) rfl
theorem q1483 : (Jvm.Cond.fieldLink "BitRopes$Any" (7 : Nat) "BitRopes$Any" "a" "LBitRopes$Cond;") ∈ lw_all := lw_g (lw_at lw_m6 174 rfl) rfl
theorem q1484 : (Jvm.Cond.fieldLink "BitRopes$Any" (13 : Nat) "BitRopes$Any" "b" "LBitRopes$Cond;") ∈ lw_all := lw_g (lw_at lw_m6 175 rfl) rfl
theorem q1485 : (Jvm.Cond.laysFinal "BitRopes$Any" "BitRopes$Any" "a" "LBitRopes$Cond;") ∈ lw_all := lw_g (lw_at lw_m6 176 rfl) rfl
theorem q1486 : (Jvm.Cond.soleField "BitRopes$Any" "a") ∈ lw_all := lw_g (lw_at lw_m6 177 rfl) rfl
theorem q1487 : (Jvm.Cond.laysFinal "BitRopes$Any" "BitRopes$Any" "b" "LBitRopes$Cond;") ∈ lw_all := lw_g (lw_at lw_m6 178 rfl) rfl
theorem q1488 : (Jvm.Cond.soleField "BitRopes$Any" "b") ∈ lw_all := lw_g (lw_at lw_m6 179 rfl) rfl
theorem q1489 : (Jvm.Cond.superclass "BitRopes$Any" "java/lang/Object") ∈ lw_all := lw_g (lw_at lw_m6 180 rfl) rfl
theorem q1498 : (Jvm.Cond.castable "BitRopes$Any" "BitRopes$Cond") ∈ lw_tbl := lw_at lw_m6 189 rfl
theorem q1499 : (Jvm.Cond.selects "BitRopes$Any" ({ cls := "BitRopes$Cond", name := "is", desc := "(LBitRopes;I)Z" } : Jvm.MethodName) ({ cls := "BitRopes$Any", name := "is", desc := "(LBitRopes;I)Z" } : Jvm.MethodName)) ∈ lw_all := lw_g (lw_at lw_m6 190 rfl) rfl
theorem q1500 : (Jvm.Cond.unhidden "BitRopes$Any" "is" "(LBitRopes;I)Z") ∈ lw_tbl := lw_at lw_m6 191 rfl
theorem q1501 : (Jvm.Cond.instanceMethod ({ cls := "BitRopes$Any", name := "is", desc := "(LBitRopes;I)Z" } : Jvm.MethodName)) ∈ lw_all := lw_g (lw_at lw_m6 192 rfl) rfl
theorem q1502 : (Jvm.Cond.publicMethod ({ cls := "BitRopes$Any", name := "is", desc := "(LBitRopes;I)Z" } : Jvm.MethodName)) ∈ lw_tbl := lw_at lw_m6 193 rfl
theorem q1503 : (Jvm.Cond.code ({ cls := "BitRopes$Any", name := "is", desc := "(LBitRopes;I)Z" } : Jvm.MethodName) prog_2_method_2_code (3 : Nat) (Option.some Jvm.ClassFile.FieldType.boolean)) ∈ lw_all := lw_g (lw_at lw_m6 194 rfl) rfl
theorem q1504 : (Jvm.Cond.interfaceEntry "BitRopes$Any" (16 : Nat)) ∈ lw_tbl := lw_at lw_m6 195 rfl
theorem q1505 : (Jvm.Cond.methodLink "BitRopes$Any" (16 : Nat) ({ cls := "BitRopes$Cond", name := "is", desc := "(LBitRopes;I)Z" } : Jvm.MethodName)) ∈ lw_all := lw_g (lw_at lw_m6 196 rfl) rfl
theorem q2342 : (Jvm.Cond.castable "BitRopes$Any" "java/lang/Object") ∈ lw_tbl := lw_at lw_m10 73 rfl
theorem in_X20 : ∀ w ∈ wsX200, w ∈ lw_all := lw_in wsX200 [1485, 1487] (by decide +kernel) (by decide +kernel)

/-! BitRopes$Kept -/
set_option maxRecDepth 100000
def RX21 : String := "BitRopes$Kept"
def TX21 : u_T := fun k => match k with
  | 0 => ("BitRopes$Kept", "room", "LBitRopes$Room;", false)
  | 1 => ("BitRopes$Kept", "rows", "[LBitRopes$Packed;", false)
  | _ => ("BitRopes$Kept", "sentence", "LBitRopes$Cond;", false)
def tyX21 : Nat → FieldType := fun k => match k with
  | 0 => .object "BitRopes$Room"
  | 1 => .array (.object "BitRopes$Packed")
  | _ => .object "BitRopes$Cond"
abbrev wsX210 : List Cond := u_ws RX21 TX21 3
theorem nmX21 : ∀ a, a < 3 → ∀ b, b < 3 → a ≠ b → (TX21 a).2.1 ≠ (TX21 b).2.1 := by decide +kernel
theorem tyX21_ok : ∀ k, k < 3 → parseFieldDescriptor (TX21 k).2.2.1 = some (tyX21 k) := by decide +kernel
abbrev cX21_init : ByteArray := prog_10_method_1_code
def yX21_init : MethodName := ⟨RX21, "<init>", "()V"⟩
theorem dX21_init_0 : decode cX21_init 0 = .ok (.aload_n 0, 1) := by decide +kernel
theorem dX21_init_1 : decode cX21_init 1 = .ok (.invokespecial 1, 3) := by decide +kernel
theorem dX21_init_4 : decode cX21_init 4 = .ok (.return_, 1) := by decide +kernel
theorem q144 : (Jvm.Cond.initialized "BitRopes$Kept") ∈ lw_all := lw_g (lw_at lw_m1 35 rfl) rfl
theorem q1547 : (Jvm.Cond.instantiable "BitRopes$Kept" (3 : Nat)) ∈ lw_all := lw_g (lw_at lw_m6 238 rfl) rfl
theorem q1549 : (Jvm.Cond.instanceMethod ({ cls := "BitRopes$Kept", name := "<init>", desc := "()V" } : Jvm.MethodName)) ∈ lw_all := lw_g (lw_at lw_m7 0 rfl) rfl
theorem q1550 : (Jvm.Cond.code ({ cls := "BitRopes$Kept", name := "<init>", desc := "()V" } : Jvm.MethodName) prog_10_method_1_code (1 : Nat) (Option.none : Option Jvm.ClassFile.FieldType)) ∈ lw_all := lw_g (lw_at lw_m7 1 rfl) rfl
theorem q1551 : (Jvm.Cond.methodLink "BitRopes$Kept" (1 : Nat) ({ cls := "java/lang/Object", name := "<init>", desc := "()V" } : Jvm.MethodName)) ∈ lw_all := lw_g (lw_at lw_m7 2 rfl) rfl
theorem q1555 : (Jvm.Cond.lays "BitRopes$Kept" "BitRopes$Kept" "room" "LBitRopes$Room;") ∈ lw_all := lw_g (lw_at lw_m7 6 rfl) rfl
theorem q1556 : (Jvm.Cond.soleField "BitRopes$Kept" "room") ∈ lw_all := lw_g (lw_at lw_m7 7 rfl) rfl
theorem q1557 : (Jvm.Cond.lays "BitRopes$Kept" "BitRopes$Kept" "rows" "[LBitRopes$Packed;") ∈ lw_all := lw_g (lw_at lw_m7 8 rfl) rfl
theorem q1558 : (Jvm.Cond.soleField "BitRopes$Kept" "rows") ∈ lw_all := lw_g (lw_at lw_m7 9 rfl) rfl
theorem q1559 : (Jvm.Cond.lays "BitRopes$Kept" "BitRopes$Kept" "sentence" "LBitRopes$Cond;") ∈ lw_all := lw_g (lw_at lw_m7 10 rfl) rfl
theorem q1560 : (Jvm.Cond.soleField "BitRopes$Kept" "sentence") ∈ lw_all := lw_g (lw_at lw_m7 11 rfl) rfl
theorem q1561 : (Jvm.Cond.superclass "BitRopes$Kept" "java/lang/Object") ∈ lw_all := lw_g (lw_at lw_m7 12 rfl) rfl
theorem q2343 : (Jvm.Cond.castable "BitRopes$Kept" "java/lang/Object") ∈ lw_tbl := lw_at lw_m10 74 rfl
theorem in_X21 : ∀ w ∈ wsX210, w ∈ lw_all := lw_in wsX210 [1555, 1557, 1559] (by decide +kernel) (by decide +kernel)
