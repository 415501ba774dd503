theorem q317 : (Jvm.Cond.arrayClass Jvm.ClassFile.FieldType.byte) ∈ lw_all := lw_g (lw_at lw_m1 151 rfl) rfl
set_option maxRecDepth 100000
theorem q322 : (Jvm.Cond.arrayClass Jvm.ClassFile.FieldType.short) ∈ lw_all := lw_g (lw_at lw_m1 156 rfl) rfl
theorem q323 : (Jvm.Cond.arrayClass Jvm.ClassFile.FieldType.int) ∈ lw_all := lw_g (lw_at lw_m1 157 rfl) rfl
theorem q324 : (Jvm.Cond.arrayClass Jvm.ClassFile.FieldType.long) ∈ lw_all := lw_g (lw_at lw_m1 158 rfl) rfl
theorem q427 : (Jvm.Cond.arrayOver (Jvm.ClassFile.FieldType.object "MergeJudge$Slot")) ∈ lw_tbl := lw_at lw_m2 21 rfl
theorem q456 : (Jvm.Cond.arrayOver (Jvm.ClassFile.FieldType.object "java/lang/Object")) ∈ lw_tbl := lw_at lw_m2 50 rfl
theorem q532 : (Jvm.Cond.arrayOver (Jvm.ClassFile.FieldType.object "MergeJudge$Base")) ∈ lw_tbl := lw_at lw_m2 126 rfl
theorem q534 : (Jvm.Cond.arrayOver (Jvm.ClassFile.FieldType.object "MergeJudge$Merging")) ∈ lw_tbl := lw_at lw_m2 128 rfl
theorem q551 : (Jvm.Cond.arrayOver (Jvm.ClassFile.FieldType.object "MergeJudge$Ruling")) ∈ lw_tbl := lw_at lw_m2 145 rfl
theorem q553 : (Jvm.Cond.arrayOver (Jvm.ClassFile.FieldType.object "MergeJudge$Stepping")) ∈ lw_tbl := lw_at lw_m2 147 rfl
theorem q580 : (Jvm.Cond.arrayClass Jvm.ClassFile.FieldType.boolean) ∈ lw_all := lw_g (lw_at lw_m2 174 rfl) rfl
theorem q808 : (Jvm.Cond.arrayOver (Jvm.ClassFile.FieldType.object "java/lang/String")) ∈ lw_tbl := lw_at lw_m3 162 rfl
theorem q956 : (Jvm.Cond.arrayOver (Jvm.ClassFile.FieldType.object "java/util/HashMap$Node")) ∈ lw_tbl := lw_at lw_m4 70 rfl
theorem q3562 : (Jvm.Cond.arrayClass Jvm.ClassFile.FieldType.char) ∈ lw_all := lw_g (lw_at lw_m15 36 rfl) rfl
theorem q1452 : (Jvm.Cond.sameMethod "[B" "java/lang/Object" "clone" "()Ljava/lang/Object;") ∈ lw_all := lw_g (lw_at lw_m6 86 rfl) rfl
set_option maxRecDepth 100000
theorem q1455 : (Jvm.Cond.selects "[B" ({ cls := "[B", name := "clone", desc := "()Ljava/lang/Object;" } : Jvm.MethodName) ({ cls := "java/lang/Object", name := "clone", desc := "()Ljava/lang/Object;" } : Jvm.MethodName)) ∈ lw_all := lw_g (lw_at lw_m6 89 rfl) rfl
theorem q1456 : (Jvm.Cond.castable "[B" "java/lang/Cloneable") ∈ lw_tbl := lw_at lw_m6 90 rfl
theorem q3549 : (Jvm.Cond.castable "[B" "java/lang/Object") ∈ lw_tbl := lw_at lw_m15 23 rfl
theorem q3551 : (Jvm.Cond.castable "[I" "java/lang/Object") ∈ lw_tbl := lw_at lw_m15 25 rfl
set_option maxRecDepth 100000
theorem q3552 : (Jvm.Cond.castable "[J" "java/lang/Object") ∈ lw_tbl := lw_at lw_m15 26 rfl
set_option maxRecDepth 100000
theorem q3550 : (Jvm.Cond.castable "[S" "java/lang/Object") ∈ lw_tbl := lw_at lw_m15 24 rfl
set_option maxRecDepth 100000
theorem q3559 : (Jvm.Cond.castable "[Z" "java/lang/Object") ∈ lw_tbl := lw_at lw_m15 33 rfl
set_option maxRecDepth 100000
