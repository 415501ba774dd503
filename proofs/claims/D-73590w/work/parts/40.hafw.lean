theorem q3555 : (Jvm.Cond.castable "[LMergeJudge$Base;" "java/lang/Object") ∈ lw_tbl := lw_at lw_m15 29 rfl
set_option maxRecDepth 100000
theorem q3556 : (Jvm.Cond.castable "[LMergeJudge$Merging;" "java/lang/Object") ∈ lw_tbl := lw_at lw_m15 30 rfl
set_option maxRecDepth 100000
theorem q3557 : (Jvm.Cond.castable "[LMergeJudge$Ruling;" "java/lang/Object") ∈ lw_tbl := lw_at lw_m15 31 rfl
set_option maxRecDepth 100000
theorem q3553 : (Jvm.Cond.castable "[LMergeJudge$Slot;" "java/lang/Object") ∈ lw_tbl := lw_at lw_m15 27 rfl
set_option maxRecDepth 100000
theorem q3558 : (Jvm.Cond.castable "[LMergeJudge$Stepping;" "java/lang/Object") ∈ lw_tbl := lw_at lw_m15 32 rfl
set_option maxRecDepth 100000
theorem q3546 : (Jvm.Cond.sameMethod "[Ljava/lang/Object;" "java/lang/Object" "getClass" "()Ljava/lang/Class;") ∈ lw_all := lw_g (lw_at lw_m15 20 rfl) rfl
set_option maxRecDepth 100000
theorem q3547 : (Jvm.Cond.selects "[Ljava/lang/Object;" ({ cls := "java/lang/Object", name := "getClass", desc := "()Ljava/lang/Class;" } : Jvm.MethodName) ({ cls := "java/lang/Object", name := "getClass", desc := "()Ljava/lang/Class;" } : Jvm.MethodName)) ∈ lw_all := lw_g (lw_at lw_m15 21 rfl) rfl
theorem q3554 : (Jvm.Cond.castable "[Ljava/lang/Object;" "java/lang/Object") ∈ lw_tbl := lw_at lw_m15 28 rfl
theorem q3560 : (Jvm.Cond.castable "[Ljava/lang/String;" "java/lang/Object") ∈ lw_tbl := lw_at lw_m15 34 rfl
set_option maxRecDepth 100000
theorem q3561 : (Jvm.Cond.castable "[Ljava/util/HashMap$Node;" "java/lang/Object") ∈ lw_tbl := lw_at lw_m15 35 rfl
set_option maxRecDepth 100000
