theorem q1496 : (Jvm.Cond.interfaceMethod "BitRopes$Cond" "BitRopes$Cond" "is" "(LBitRopes;I)Z") ∈ lw_tbl := lw_at lw_m6 187 rfl
set_option maxRecDepth 100000
theorem q1497 : (Jvm.Cond.declares ({ cls := "BitRopes$Cond", name := "is", desc := "(LBitRopes;I)Z" } : Jvm.MethodName)) ∈ lw_tbl := lw_at lw_m6 188 rfl

theorem q1580 : (Jvm.Cond.sameMethod "[I" "java/lang/Object" "clone" "()Ljava/lang/Object;") ∈ lw_all := lw_g (lw_at lw_m7 31 rfl) rfl
set_option maxRecDepth 100000
theorem q1581 : (Jvm.Cond.selects "[I" ({ cls := "[I", name := "clone", desc := "()Ljava/lang/Object;" } : Jvm.MethodName) ({ cls := "java/lang/Object", name := "clone", desc := "()Ljava/lang/Object;" } : Jvm.MethodName)) ∈ lw_all := lw_g (lw_at lw_m7 32 rfl) rfl
theorem q1582 : (Jvm.Cond.castable "[I" "java/lang/Cloneable") ∈ lw_tbl := lw_at lw_m7 33 rfl

theorem q1573 : (Jvm.Cond.sameMethod "[J" "java/lang/Object" "clone" "()Ljava/lang/Object;") ∈ lw_all := lw_g (lw_at lw_m7 24 rfl) rfl
set_option maxRecDepth 100000
theorem q1576 : (Jvm.Cond.selects "[J" ({ cls := "[J", name := "clone", desc := "()Ljava/lang/Object;" } : Jvm.MethodName) ({ cls := "java/lang/Object", name := "clone", desc := "()Ljava/lang/Object;" } : Jvm.MethodName)) ∈ lw_all := lw_g (lw_at lw_m7 27 rfl) rfl
theorem q1577 : (Jvm.Cond.castable "[J" "java/lang/Cloneable") ∈ lw_tbl := lw_at lw_m7 28 rfl

theorem q134 : (Jvm.Cond.initialized "java/lang/Numbe\x72") ∈ lw_all := lw_g (lw_at lw_m1 25 rfl) rfl
set_option maxRecDepth 100000

theorem q128 : (Jvm.Cond.initialized "java/lang/System") ∈ lw_all := lw_g (lw_at lw_m1 19 rfl) rfl
set_option maxRecDepth 100000
theorem q837 : (Jvm.Cond.static ({ cls := "java/lang/System", name := "arraycopy", desc := "(Ljava/lang/Object;ILjava/lang/Object;II)V" } : Jvm.MethodName)) ∈ lw_all := lw_g (lw_at lw_m4 8 rfl) rfl
theorem q838 : (Jvm.Cond.native ({ cls := "java/lang/System", name := "arraycopy", desc := "(Ljava/lang/Object;ILjava/lang/Object;II)V" } : Jvm.MethodName)) ∈ lw_all := lw_g (lw_at lw_m4 9 rfl) rfl

theorem q222 : (Jvm.Cond.arrayClass Jvm.ClassFile.FieldType.byte) ∈ lw_all := lw_g (lw_at lw_m1 113 rfl) rfl
set_option maxRecDepth 100000
theorem q224 : (Jvm.Cond.arrayOver (Jvm.ClassFile.FieldType.object "java/lang/String")) ∈ lw_tbl := lw_at lw_m1 115 rfl
theorem q274 : (Jvm.Cond.arrayClass Jvm.ClassFile.FieldType.long) ∈ lw_all := lw_g (lw_at lw_m1 165 rfl) rfl
theorem q282 : (Jvm.Cond.arrayOver (Jvm.ClassFile.FieldType.object "BitRopes$Rope")) ∈ lw_tbl := lw_at lw_m1 173 rfl
theorem q289 : (Jvm.Cond.arrayOver (Jvm.ClassFile.FieldType.object "BitRopes$Leaf")) ∈ lw_tbl := lw_at lw_m1 180 rfl
theorem q414 : (Jvm.Cond.arrayOver (Jvm.ClassFile.FieldType.object "BitRopes$Deed")) ∈ lw_tbl := lw_at lw_m2 65 rfl
theorem q451 : (Jvm.Cond.arrayOver (Jvm.ClassFile.FieldType.array (Jvm.ClassFile.FieldType.object "BitRopes$Packed"))) ∈ lw_tbl := lw_at lw_m2 102 rfl
theorem q452 : (Jvm.Cond.arrayOver (Jvm.ClassFile.FieldType.object "BitRopes$Packed")) ∈ lw_tbl := lw_at lw_m2 103 rfl
theorem q491 : (Jvm.Cond.arrayClass Jvm.ClassFile.FieldType.int) ∈ lw_all := lw_g (lw_at lw_m2 142 rfl) rfl
theorem q493 : (Jvm.Cond.arrayOver (Jvm.ClassFile.FieldType.object "BitRopes$Kept")) ∈ lw_tbl := lw_at lw_m2 144 rfl
theorem q947 : (Jvm.Cond.arrayOver (Jvm.ClassFile.FieldType.object "BitRopes$Inne\x72")) ∈ lw_tbl := lw_at lw_m4 118 rfl
theorem q949 : (Jvm.Cond.arrayOver (Jvm.ClassFile.FieldType.object "BitRopes$Node")) ∈ lw_tbl := lw_at lw_m4 120 rfl
theorem q1804 : (Jvm.Cond.arrayClass Jvm.ClassFile.FieldType.boolean) ∈ lw_all := lw_g (lw_at lw_m8 15 rfl) rfl
