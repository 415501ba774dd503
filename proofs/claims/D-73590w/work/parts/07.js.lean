/-! java/util/AbstractCollection -/
set_option maxRecDepth 100000
def RJ0 : String := "java/util/AbstractCollection"
abbrev cJ0_init : ByteArray := prog_52_method_1_code
def yJ0_init : MethodName := ⟨RJ0, "<init>", "()V"⟩
theorem dJ0_init_0 : decode cJ0_init 0 = .ok (.aload_n 0, 1) := by decide +kernel
theorem dJ0_init_1 : decode cJ0_init 1 = .ok (.invokespecial 1, 3) := by decide +kernel
theorem dJ0_init_4 : decode cJ0_init 4 = .ok (.return_, 1) := by decide +kernel
theorem q170 : (Jvm.Cond.initialized "java/util/AbstractCollection") ∈ lw_all := lw_g (lw_at lw_m1 4 rfl) rfl
theorem q452 : (Jvm.Cond.instanceMethod ({ cls := "java/util/AbstractCollection", name := "<init>", desc := "()V" } : Jvm.MethodName)) ∈ lw_all := lw_g (lw_at lw_m2 46 rfl) rfl
theorem q453 : (Jvm.Cond.code ({ cls := "java/util/AbstractCollection", name := "<init>", desc := "()V" } : Jvm.MethodName) prog_52_method_1_code (1 : Nat) (Option.none : Option Jvm.ClassFile.FieldType)) ∈ lw_all := lw_g (lw_at lw_m2 47 rfl) rfl
theorem q454 : (Jvm.Cond.methodLink "java/util/AbstractCollection" (1 : Nat) ({ cls := "java/lang/Object", name := "<init>", desc := "()V" } : Jvm.MethodName)) ∈ lw_all := lw_g (lw_at lw_m2 48 rfl) rfl
/-! java/util/AbstractList -/
set_option maxRecDepth 100000
def RJ1 : String := "java/util/AbstractList"
abbrev cJ1_init : ByteArray := prog_53_method_1_code
def yJ1_init : MethodName := ⟨RJ1, "<init>", "()V"⟩
def dkwJ1_init_0 : List UInt8 := [42, 183, 0, 1, 42, 3, 181, 0, 7, 177]
abbrev dktJ1_init_0 : List UInt8 := dkwJ1_init_0 ++ []
theorem dksJ1_init_0 : cJ1_init.data.toList.drop 0 = dktJ1_init_0 := by decide +kernel
theorem dJ1_init_0 : decode cJ1_init 0 = .ok (.aload_n 0, 1) := dk_42 (dk_at dksJ1_init_0 0 rfl rfl)
theorem dJ1_init_1 : decode cJ1_init 1 = .ok (.invokespecial 1, 3) := dk_183 0 1 (dk_at dksJ1_init_0 1 rfl rfl)
theorem dJ1_init_4 : decode cJ1_init 4 = .ok (.aload_n 0, 1) := dk_42 (dk_at dksJ1_init_0 4 rfl rfl)
theorem dJ1_init_5 : decode cJ1_init 5 = .ok (.iconst 0, 1) := dk_3 (dk_at dksJ1_init_0 5 rfl rfl)
theorem dJ1_init_6 : decode cJ1_init 6 = .ok (.putfield 7, 3) := dk_181 0 7 (dk_at dksJ1_init_0 6 rfl rfl)
theorem dJ1_init_9 : decode cJ1_init 9 = .ok (.return_, 1) := dk_177 (dk_at dksJ1_init_0 9 rfl rfl)
theorem q171 : (Jvm.Cond.initialized "java/util/AbstractList") ∈ lw_all := lw_g (lw_at lw_m1 5 rfl) rfl
theorem q449 : (Jvm.Cond.instanceMethod ({ cls := "java/util/AbstractList", name := "<init>", desc := "()V" } : Jvm.MethodName)) ∈ lw_all := lw_g (lw_at lw_m2 43 rfl) rfl
theorem q450 : (Jvm.Cond.code ({ cls := "java/util/AbstractList", name := "<init>", desc := "()V" } : Jvm.MethodName) prog_53_method_1_code (1 : Nat) (Option.none : Option Jvm.ClassFile.FieldType)) ∈ lw_all := lw_g (lw_at lw_m2 44 rfl) rfl
theorem q451 : (Jvm.Cond.methodLink "java/util/AbstractList" (1 : Nat) ({ cls := "java/util/AbstractCollection", name := "<init>", desc := "()V" } : Jvm.MethodName)) ∈ lw_all := lw_g (lw_at lw_m2 45 rfl) rfl
theorem q461 : (Jvm.Cond.fieldLink "java/util/AbstractList" (7 : Nat) "java/util/AbstractList" "modCount" "I") ∈ lw_all := lw_g (lw_at lw_m2 55 rfl) rfl
theorem q469 : (Jvm.Cond.soleField "java/util/AbstractList" "modCount") ∈ lw_all := lw_g (lw_at lw_m2 63 rfl) rfl
/-! java/util/ArrayList -/
set_option maxRecDepth 100000
def RJ2 : String := "java/util/ArrayList"
def TJ2 : u_T := fun k => match k with
  | 0 => ("java/util/AbstractList", "modCount", "I", false)
  | 1 => ("java/util/ArrayList", "elementData", "[Ljava/lang/Object;", false)
  | _ => ("java/util/ArrayList", "size", "I", false)
def tyJ2 : Nat → FieldType := fun k => match k with
  | 0 => .int
  | 1 => .array (.object "java/lang/Object")
  | _ => .int
abbrev wsJ20 : List Cond := u_ws RJ2 TJ2 3
theorem nmJ2 : ∀ a, a < 3 → ∀ b, b < 3 → a ≠ b → (TJ2 a).2.1 ≠ (TJ2 b).2.1 := by decide +kernel
theorem tyJ2_ok : ∀ k, k < 3 → parseFieldDescriptor (TJ2 k).2.2.1 = some (tyJ2 k) := by decide +kernel
abbrev cJ2_init : ByteArray := prog_56_method_1_code
def yJ2_init : MethodName := ⟨RJ2, "<init>", "(I)V"⟩
def dkwJ2_init_2 : List UInt8 := [182, 0, 25, 27, 182, 0, 29, 182, 0, 32, 183, 0, 36, 191, 177]
abbrev dktJ2_init_2 : List UInt8 := dkwJ2_init_2 ++ []
def dkwJ2_init_1 : List UInt8 := [178, 0, 15, 181, 0, 9, 167, 0, 30, 187, 0, 18, 89, 187, 0, 20, 89, 183, 0, 22, 18, 23]
abbrev dktJ2_init_1 : List UInt8 := dkwJ2_init_1 ++ dktJ2_init_2
def dkwJ2_init_0 : List UInt8 := [42, 183, 0, 1, 27, 158, 0, 14, 42, 27, 189, 0, 7, 181, 0, 9, 167, 0, 44, 27, 154, 0, 13, 42]
abbrev dktJ2_init_0 : List UInt8 := dkwJ2_init_0 ++ dktJ2_init_1
theorem dksJ2_init_0 : cJ2_init.data.toList.drop 0 = dktJ2_init_0 := by decide +kernel
theorem dksJ2_init_1 : cJ2_init.data.toList.drop 24 = dktJ2_init_1 := dk_seg dksJ2_init_0 24 rfl rfl
theorem dksJ2_init_2 : cJ2_init.data.toList.drop 46 = dktJ2_init_2 := dk_seg dksJ2_init_1 22 rfl rfl
theorem dJ2_init_0 : decode cJ2_init 0 = .ok (.aload_n 0, 1) := dk_42 (dk_at dksJ2_init_0 0 rfl rfl)
theorem dJ2_init_1 : decode cJ2_init 1 = .ok (.invokespecial 1, 3) := dk_183 0 1 (dk_at dksJ2_init_0 1 rfl rfl)
theorem dJ2_init_4 : decode cJ2_init 4 = .ok (.iload_n 1, 1) := dk_27 (dk_at dksJ2_init_0 4 rfl rfl)
theorem dJ2_init_5 : decode cJ2_init 5 = .ok (.ifCond .le 14, 3) := dk_158 0 14 (dk_at dksJ2_init_0 5 rfl rfl)
theorem dJ2_init_8 : decode cJ2_init 8 = .ok (.aload_n 0, 1) := dk_42 (dk_at dksJ2_init_0 8 rfl rfl)
theorem dJ2_init_9 : decode cJ2_init 9 = .ok (.iload_n 1, 1) := dk_27 (dk_at dksJ2_init_0 9 rfl rfl)
theorem dJ2_init_10 : decode cJ2_init 10 = .ok (.anewarray 7, 3) := dk_189 0 7 (dk_at dksJ2_init_0 10 rfl rfl)
theorem dJ2_init_13 : decode cJ2_init 13 = .ok (.putfield 9, 3) := dk_181 0 9 (dk_at dksJ2_init_0 13 rfl rfl)
theorem dJ2_init_16 : decode cJ2_init 16 = .ok (.goto 44, 3) := dk_167 0 44 (dk_at dksJ2_init_0 16 rfl rfl)
theorem dJ2_init_19 : decode cJ2_init 19 = .ok (.iload_n 1, 1) := dk_27 (dk_at dksJ2_init_0 19 rfl rfl)
theorem dJ2_init_20 : decode cJ2_init 20 = .ok (.ifCond .ne 13, 3) := dk_154 0 13 (dk_at dksJ2_init_0 20 rfl rfl)
theorem dJ2_init_23 : decode cJ2_init 23 = .ok (.aload_n 0, 1) := dk_42 (dk_at dksJ2_init_0 23 rfl rfl)
theorem dJ2_init_24 : decode cJ2_init 24 = .ok (.getstatic 15, 3) := dk_178 0 15 (dk_at dksJ2_init_1 0 rfl rfl)
theorem dJ2_init_27 : decode cJ2_init 27 = .ok (.putfield 9, 3) := dk_181 0 9 (dk_at dksJ2_init_1 3 rfl rfl)
theorem dJ2_init_30 : decode cJ2_init 30 = .ok (.goto 30, 3) := dk_167 0 30 (dk_at dksJ2_init_1 6 rfl rfl)
theorem dJ2_init_33 : decode cJ2_init 33 = .ok (.new 18, 3) := dk_187 0 18 (dk_at dksJ2_init_1 9 rfl rfl)
theorem dJ2_init_36 : decode cJ2_init 36 = .ok (.dup, 1) := dk_89 (dk_at dksJ2_init_1 12 rfl rfl)
theorem dJ2_init_37 : decode cJ2_init 37 = .ok (.new 20, 3) := dk_187 0 20 (dk_at dksJ2_init_1 13 rfl rfl)
theorem dJ2_init_40 : decode cJ2_init 40 = .ok (.dup, 1) := dk_89 (dk_at dksJ2_init_1 16 rfl rfl)
theorem dJ2_init_41 : decode cJ2_init 41 = .ok (.invokespecial 22, 3) := dk_183 0 22 (dk_at dksJ2_init_1 17 rfl rfl)
theorem dJ2_init_44 : decode cJ2_init 44 = .ok (.ldc 23, 2) := dk_18 23 (dk_at dksJ2_init_1 20 rfl rfl)
theorem dJ2_init_46 : decode cJ2_init 46 = .ok (.invokevirtual 25, 3) := dk_182 0 25 (dk_at dksJ2_init_2 0 rfl rfl)
theorem dJ2_init_49 : decode cJ2_init 49 = .ok (.iload_n 1, 1) := dk_27 (dk_at dksJ2_init_2 3 rfl rfl)
theorem dJ2_init_50 : decode cJ2_init 50 = .ok (.invokevirtual 29, 3) := dk_182 0 29 (dk_at dksJ2_init_2 4 rfl rfl)
theorem dJ2_init_53 : decode cJ2_init 53 = .ok (.invokevirtual 32, 3) := dk_182 0 32 (dk_at dksJ2_init_2 7 rfl rfl)
theorem dJ2_init_56 : decode cJ2_init 56 = .ok (.invokespecial 36, 3) := dk_183 0 36 (dk_at dksJ2_init_2 10 rfl rfl)
theorem dJ2_init_59 : decode cJ2_init 59 = .ok (.athrow, 1) := dk_191 (dk_at dksJ2_init_2 13 rfl rfl)
theorem dJ2_init_60 : decode cJ2_init 60 = .ok (.return_, 1) := dk_177 (dk_at dksJ2_init_2 14 rfl rfl)
abbrev cJ2_init_2 : ByteArray := prog_56_method_2_code
def yJ2_init_2 : MethodName := ⟨RJ2, "<init>", "()V"⟩
def dkwJ2_init_2_0 : List UInt8 := [42, 183, 0, 1, 42, 178, 0, 39, 181, 0, 9, 177]
abbrev dktJ2_init_2_0 : List UInt8 := dkwJ2_init_2_0 ++ []
theorem dksJ2_init_2_0 : cJ2_init_2.data.toList.drop 0 = dktJ2_init_2_0 := by decide +kernel
theorem dJ2_init_2_0 : decode cJ2_init_2 0 = .ok (.aload_n 0, 1) := dk_42 (dk_at dksJ2_init_2_0 0 rfl rfl)
theorem dJ2_init_2_1 : decode cJ2_init_2 1 = .ok (.invokespecial 1, 3) := dk_183 0 1 (dk_at dksJ2_init_2_0 1 rfl rfl)
theorem dJ2_init_2_4 : decode cJ2_init_2 4 = .ok (.aload_n 0, 1) := dk_42 (dk_at dksJ2_init_2_0 4 rfl rfl)
theorem dJ2_init_2_5 : decode cJ2_init_2 5 = .ok (.getstatic 39, 3) := dk_178 0 39 (dk_at dksJ2_init_2_0 5 rfl rfl)
theorem dJ2_init_2_8 : decode cJ2_init_2 8 = .ok (.putfield 9, 3) := dk_181 0 9 (dk_at dksJ2_init_2_0 8 rfl rfl)
theorem dJ2_init_2_11 : decode cJ2_init_2 11 = .ok (.return_, 1) := dk_177 (dk_at dksJ2_init_2_0 11 rfl rfl)
abbrev cJ2_size : ByteArray := prog_56_method_8_code
def yJ2_size : MethodName := ⟨RJ2, "size", "()I"⟩
theorem dJ2_size_0 : decode cJ2_size 0 = .ok (.aload_n 0, 1) := by decide +kernel
theorem dJ2_size_1 : decode cJ2_size 1 = .ok (.getfield 48, 3) := by decide +kernel
theorem dJ2_size_4 : decode cJ2_size 4 = .ok (.ireturn, 1) := by decide +kernel
abbrev cJ2_add : ByteArray := prog_56_method_25_code
def yJ2_add : MethodName := ⟨RJ2, "add", "(Ljava/lang/Object;)Z"⟩
def dkwJ2_add_1 : List UInt8 := [172]
abbrev dktJ2_add_1 : List UInt8 := dkwJ2_add_1 ++ []
def dkwJ2_add_0 : List UInt8 := [42, 89, 180, 0, 63, 4, 96, 181, 0, 63, 42, 43, 42, 180, 0, 9, 42, 180, 0, 48, 182, 0, 131, 4]
abbrev dktJ2_add_0 : List UInt8 := dkwJ2_add_0 ++ dktJ2_add_1
theorem dksJ2_add_0 : cJ2_add.data.toList.drop 0 = dktJ2_add_0 := by decide +kernel
theorem dksJ2_add_1 : cJ2_add.data.toList.drop 24 = dktJ2_add_1 := dk_seg dksJ2_add_0 24 rfl rfl
theorem dJ2_add_0 : decode cJ2_add 0 = .ok (.aload_n 0, 1) := dk_42 (dk_at dksJ2_add_0 0 rfl rfl)
theorem dJ2_add_1 : decode cJ2_add 1 = .ok (.dup, 1) := dk_89 (dk_at dksJ2_add_0 1 rfl rfl)
theorem dJ2_add_2 : decode cJ2_add 2 = .ok (.getfield 63, 3) := dk_180 0 63 (dk_at dksJ2_add_0 2 rfl rfl)
theorem dJ2_add_5 : decode cJ2_add 5 = .ok (.iconst 1, 1) := dk_4 (dk_at dksJ2_add_0 5 rfl rfl)
theorem dJ2_add_6 : decode cJ2_add 6 = .ok (.iadd, 1) := dk_96 (dk_at dksJ2_add_0 6 rfl rfl)
theorem dJ2_add_7 : decode cJ2_add 7 = .ok (.putfield 63, 3) := dk_181 0 63 (dk_at dksJ2_add_0 7 rfl rfl)
theorem dJ2_add_10 : decode cJ2_add 10 = .ok (.aload_n 0, 1) := dk_42 (dk_at dksJ2_add_0 10 rfl rfl)
theorem dJ2_add_11 : decode cJ2_add 11 = .ok (.aload_n 1, 1) := dk_43 (dk_at dksJ2_add_0 11 rfl rfl)
theorem dJ2_add_12 : decode cJ2_add 12 = .ok (.aload_n 0, 1) := dk_42 (dk_at dksJ2_add_0 12 rfl rfl)
theorem dJ2_add_13 : decode cJ2_add 13 = .ok (.getfield 9, 3) := dk_180 0 9 (dk_at dksJ2_add_0 13 rfl rfl)
theorem dJ2_add_16 : decode cJ2_add 16 = .ok (.aload_n 0, 1) := dk_42 (dk_at dksJ2_add_0 16 rfl rfl)
theorem dJ2_add_17 : decode cJ2_add 17 = .ok (.getfield 48, 3) := dk_180 0 48 (dk_at dksJ2_add_0 17 rfl rfl)
theorem dJ2_add_20 : decode cJ2_add 20 = .ok (.invokevirtual 131, 3) := dk_182 0 131 (dk_at dksJ2_add_0 20 rfl rfl)
theorem dJ2_add_23 : decode cJ2_add 23 = .ok (.iconst 1, 1) := dk_4 (dk_at dksJ2_add_0 23 rfl rfl)
theorem dJ2_add_24 : decode cJ2_add 24 = .ok (.ireturn, 1) := dk_172 (dk_at dksJ2_add_1 0 rfl rfl)
abbrev cJ2_add_2 : ByteArray := prog_56_method_24_code
def yJ2_add_2 : MethodName := ⟨RJ2, "add", "(Ljava/lang/Object;[Ljava/lang/Object;I)V"⟩
def dkwJ2_add_2_0 : List UInt8 := [29, 44, 190, 160, 0, 8, 42, 182, 0, 129, 77, 44, 29, 43, 83, 42, 29, 4, 96, 181, 0, 48, 177]
abbrev dktJ2_add_2_0 : List UInt8 := dkwJ2_add_2_0 ++ []
theorem dksJ2_add_2_0 : cJ2_add_2.data.toList.drop 0 = dktJ2_add_2_0 := by decide +kernel
theorem dJ2_add_2_0 : decode cJ2_add_2 0 = .ok (.iload_n 3, 1) := dk_29 (dk_at dksJ2_add_2_0 0 rfl rfl)
theorem dJ2_add_2_1 : decode cJ2_add_2 1 = .ok (.aload_n 2, 1) := dk_44 (dk_at dksJ2_add_2_0 1 rfl rfl)
theorem dJ2_add_2_2 : decode cJ2_add_2 2 = .ok (.arraylength, 1) := dk_190 (dk_at dksJ2_add_2_0 2 rfl rfl)
theorem dJ2_add_2_3 : decode cJ2_add_2 3 = .ok (.if_icmp .ne 8, 3) := dk_160 0 8 (dk_at dksJ2_add_2_0 3 rfl rfl)
theorem dJ2_add_2_6 : decode cJ2_add_2 6 = .ok (.aload_n 0, 1) := dk_42 (dk_at dksJ2_add_2_0 6 rfl rfl)
theorem dJ2_add_2_7 : decode cJ2_add_2 7 = .ok (.invokevirtual 129, 3) := dk_182 0 129 (dk_at dksJ2_add_2_0 7 rfl rfl)
theorem dJ2_add_2_10 : decode cJ2_add_2 10 = .ok (.astore_n 2, 1) := dk_77 (dk_at dksJ2_add_2_0 10 rfl rfl)
theorem dJ2_add_2_11 : decode cJ2_add_2 11 = .ok (.aload_n 2, 1) := dk_44 (dk_at dksJ2_add_2_0 11 rfl rfl)
theorem dJ2_add_2_12 : decode cJ2_add_2 12 = .ok (.iload_n 3, 1) := dk_29 (dk_at dksJ2_add_2_0 12 rfl rfl)
theorem dJ2_add_2_13 : decode cJ2_add_2 13 = .ok (.aload_n 1, 1) := dk_43 (dk_at dksJ2_add_2_0 13 rfl rfl)
theorem dJ2_add_2_14 : decode cJ2_add_2 14 = .ok (.aastore, 1) := dk_83 (dk_at dksJ2_add_2_0 14 rfl rfl)
theorem dJ2_add_2_15 : decode cJ2_add_2 15 = .ok (.aload_n 0, 1) := dk_42 (dk_at dksJ2_add_2_0 15 rfl rfl)
theorem dJ2_add_2_16 : decode cJ2_add_2 16 = .ok (.iload_n 3, 1) := dk_29 (dk_at dksJ2_add_2_0 16 rfl rfl)
theorem dJ2_add_2_17 : decode cJ2_add_2 17 = .ok (.iconst 1, 1) := dk_4 (dk_at dksJ2_add_2_0 17 rfl rfl)
theorem dJ2_add_2_18 : decode cJ2_add_2 18 = .ok (.iadd, 1) := dk_96 (dk_at dksJ2_add_2_0 18 rfl rfl)
theorem dJ2_add_2_19 : decode cJ2_add_2 19 = .ok (.putfield 48, 3) := dk_181 0 48 (dk_at dksJ2_add_2_0 19 rfl rfl)
theorem dJ2_add_2_22 : decode cJ2_add_2 22 = .ok (.return_, 1) := dk_177 (dk_at dksJ2_add_2_0 22 rfl rfl)
abbrev cJ2_grow : ByteArray := prog_56_method_7_code
def yJ2_grow : MethodName := ⟨RJ2, "grow", "()[Ljava/lang/Object;"⟩
def dkwJ2_grow_0 : List UInt8 := [42, 42, 180, 0, 48, 4, 96, 182, 0, 69, 176]
abbrev dktJ2_grow_0 : List UInt8 := dkwJ2_grow_0 ++ []
theorem dksJ2_grow_0 : cJ2_grow.data.toList.drop 0 = dktJ2_grow_0 := by decide +kernel
theorem dJ2_grow_0 : decode cJ2_grow 0 = .ok (.aload_n 0, 1) := dk_42 (dk_at dksJ2_grow_0 0 rfl rfl)
theorem dJ2_grow_1 : decode cJ2_grow 1 = .ok (.aload_n 0, 1) := dk_42 (dk_at dksJ2_grow_0 1 rfl rfl)
theorem dJ2_grow_2 : decode cJ2_grow 2 = .ok (.getfield 48, 3) := dk_180 0 48 (dk_at dksJ2_grow_0 2 rfl rfl)
theorem dJ2_grow_5 : decode cJ2_grow 5 = .ok (.iconst 1, 1) := dk_4 (dk_at dksJ2_grow_0 5 rfl rfl)
theorem dJ2_grow_6 : decode cJ2_grow 6 = .ok (.iadd, 1) := dk_96 (dk_at dksJ2_grow_0 6 rfl rfl)
theorem dJ2_grow_7 : decode cJ2_grow 7 = .ok (.invokevirtual 69, 3) := dk_182 0 69 (dk_at dksJ2_grow_0 7 rfl rfl)
theorem dJ2_grow_10 : decode cJ2_grow 10 = .ok (.areturn, 1) := dk_176 (dk_at dksJ2_grow_0 10 rfl rfl)
abbrev cJ2_grow_2 : ByteArray := prog_56_method_6_code
def yJ2_grow_2 : MethodName := ⟨RJ2, "grow", "(I)[Ljava/lang/Object;"⟩
def dkwJ2_grow_2_2 : List UInt8 := [27, 184, 0, 79, 189, 0, 7, 90, 181, 0, 9, 176]
abbrev dktJ2_grow_2_2 : List UInt8 := dkwJ2_grow_2_2 ++ []
def dkwJ2_grow_2_1 : List UInt8 := [28, 4, 122, 184, 0, 73, 62, 42, 42, 180, 0, 9, 29, 184, 0, 66, 90, 181, 0, 9, 176, 42, 16, 10]
abbrev dktJ2_grow_2_1 : List UInt8 := dkwJ2_grow_2_1 ++ dktJ2_grow_2_2
def dkwJ2_grow_2_0 : List UInt8 := [42, 180, 0, 9, 190, 61, 28, 157, 0, 13, 42, 180, 0, 9, 178, 0, 39, 165, 0, 28, 28, 27, 28, 100]
abbrev dktJ2_grow_2_0 : List UInt8 := dkwJ2_grow_2_0 ++ dktJ2_grow_2_1
theorem dksJ2_grow_2_0 : cJ2_grow_2.data.toList.drop 0 = dktJ2_grow_2_0 := by decide +kernel
theorem dksJ2_grow_2_1 : cJ2_grow_2.data.toList.drop 24 = dktJ2_grow_2_1 := dk_seg dksJ2_grow_2_0 24 rfl rfl
theorem dksJ2_grow_2_2 : cJ2_grow_2.data.toList.drop 48 = dktJ2_grow_2_2 := dk_seg dksJ2_grow_2_1 24 rfl rfl
theorem dJ2_grow_2_0 : decode cJ2_grow_2 0 = .ok (.aload_n 0, 1) := dk_42 (dk_at dksJ2_grow_2_0 0 rfl rfl)
theorem dJ2_grow_2_1 : decode cJ2_grow_2 1 = .ok (.getfield 9, 3) := dk_180 0 9 (dk_at dksJ2_grow_2_0 1 rfl rfl)
theorem dJ2_grow_2_4 : decode cJ2_grow_2 4 = .ok (.arraylength, 1) := dk_190 (dk_at dksJ2_grow_2_0 4 rfl rfl)
theorem dJ2_grow_2_5 : decode cJ2_grow_2 5 = .ok (.istore_n 2, 1) := dk_61 (dk_at dksJ2_grow_2_0 5 rfl rfl)
theorem dJ2_grow_2_6 : decode cJ2_grow_2 6 = .ok (.iload_n 2, 1) := dk_28 (dk_at dksJ2_grow_2_0 6 rfl rfl)
theorem dJ2_grow_2_7 : decode cJ2_grow_2 7 = .ok (.ifCond .gt 13, 3) := dk_157 0 13 (dk_at dksJ2_grow_2_0 7 rfl rfl)
theorem dJ2_grow_2_10 : decode cJ2_grow_2 10 = .ok (.aload_n 0, 1) := dk_42 (dk_at dksJ2_grow_2_0 10 rfl rfl)
theorem dJ2_grow_2_11 : decode cJ2_grow_2 11 = .ok (.getfield 9, 3) := dk_180 0 9 (dk_at dksJ2_grow_2_0 11 rfl rfl)
theorem dJ2_grow_2_14 : decode cJ2_grow_2 14 = .ok (.getstatic 39, 3) := dk_178 0 39 (dk_at dksJ2_grow_2_0 14 rfl rfl)
theorem dJ2_grow_2_17 : decode cJ2_grow_2 17 = .ok (.if_acmp .eq 28, 3) := dk_165 0 28 (dk_at dksJ2_grow_2_0 17 rfl rfl)
theorem dJ2_grow_2_20 : decode cJ2_grow_2 20 = .ok (.iload_n 2, 1) := dk_28 (dk_at dksJ2_grow_2_0 20 rfl rfl)
theorem dJ2_grow_2_21 : decode cJ2_grow_2 21 = .ok (.iload_n 1, 1) := dk_27 (dk_at dksJ2_grow_2_0 21 rfl rfl)
theorem dJ2_grow_2_22 : decode cJ2_grow_2 22 = .ok (.iload_n 2, 1) := dk_28 (dk_at dksJ2_grow_2_0 22 rfl rfl)
theorem dJ2_grow_2_23 : decode cJ2_grow_2 23 = .ok (.isub, 1) := dk_100 (dk_at dksJ2_grow_2_0 23 rfl rfl)
theorem dJ2_grow_2_24 : decode cJ2_grow_2 24 = .ok (.iload_n 2, 1) := dk_28 (dk_at dksJ2_grow_2_1 0 rfl rfl)
theorem dJ2_grow_2_25 : decode cJ2_grow_2 25 = .ok (.iconst 1, 1) := dk_4 (dk_at dksJ2_grow_2_1 1 rfl rfl)
theorem dJ2_grow_2_26 : decode cJ2_grow_2 26 = .ok (.ishr, 1) := dk_122 (dk_at dksJ2_grow_2_1 2 rfl rfl)
theorem dJ2_grow_2_27 : decode cJ2_grow_2 27 = .ok (.invokestatic 73, 3) := dk_184 0 73 (dk_at dksJ2_grow_2_1 3 rfl rfl)
theorem dJ2_grow_2_30 : decode cJ2_grow_2 30 = .ok (.istore_n 3, 1) := dk_62 (dk_at dksJ2_grow_2_1 6 rfl rfl)
theorem dJ2_grow_2_31 : decode cJ2_grow_2 31 = .ok (.aload_n 0, 1) := dk_42 (dk_at dksJ2_grow_2_1 7 rfl rfl)
theorem dJ2_grow_2_32 : decode cJ2_grow_2 32 = .ok (.aload_n 0, 1) := dk_42 (dk_at dksJ2_grow_2_1 8 rfl rfl)
theorem dJ2_grow_2_33 : decode cJ2_grow_2 33 = .ok (.getfield 9, 3) := dk_180 0 9 (dk_at dksJ2_grow_2_1 9 rfl rfl)
theorem dJ2_grow_2_36 : decode cJ2_grow_2 36 = .ok (.iload_n 3, 1) := dk_29 (dk_at dksJ2_grow_2_1 12 rfl rfl)
theorem dJ2_grow_2_37 : decode cJ2_grow_2 37 = .ok (.invokestatic 66, 3) := dk_184 0 66 (dk_at dksJ2_grow_2_1 13 rfl rfl)
theorem dJ2_grow_2_40 : decode cJ2_grow_2 40 = .ok (.dup_x1, 1) := dk_90 (dk_at dksJ2_grow_2_1 16 rfl rfl)
theorem dJ2_grow_2_41 : decode cJ2_grow_2 41 = .ok (.putfield 9, 3) := dk_181 0 9 (dk_at dksJ2_grow_2_1 17 rfl rfl)
theorem dJ2_grow_2_44 : decode cJ2_grow_2 44 = .ok (.areturn, 1) := dk_176 (dk_at dksJ2_grow_2_1 20 rfl rfl)
theorem dJ2_grow_2_45 : decode cJ2_grow_2 45 = .ok (.aload_n 0, 1) := dk_42 (dk_at dksJ2_grow_2_1 21 rfl rfl)
theorem dJ2_grow_2_46 : decode cJ2_grow_2 46 = .ok (.bipush 10, 2) := dk_16 10 (dk_at dksJ2_grow_2_1 22 rfl rfl)
theorem dJ2_grow_2_48 : decode cJ2_grow_2 48 = .ok (.iload_n 1, 1) := dk_27 (dk_at dksJ2_grow_2_2 0 rfl rfl)
theorem dJ2_grow_2_49 : decode cJ2_grow_2 49 = .ok (.invokestatic 79, 3) := dk_184 0 79 (dk_at dksJ2_grow_2_2 1 rfl rfl)
theorem dJ2_grow_2_52 : decode cJ2_grow_2 52 = .ok (.anewarray 7, 3) := dk_189 0 7 (dk_at dksJ2_grow_2_2 4 rfl rfl)
theorem dJ2_grow_2_55 : decode cJ2_grow_2 55 = .ok (.dup_x1, 1) := dk_90 (dk_at dksJ2_grow_2_2 7 rfl rfl)
theorem dJ2_grow_2_56 : decode cJ2_grow_2 56 = .ok (.putfield 9, 3) := dk_181 0 9 (dk_at dksJ2_grow_2_2 8 rfl rfl)
theorem dJ2_grow_2_59 : decode cJ2_grow_2 59 = .ok (.areturn, 1) := dk_176 (dk_at dksJ2_grow_2_2 11 rfl rfl)
abbrev cJ2_get : ByteArray := prog_56_method_20_code
def yJ2_get : MethodName := ⟨RJ2, "get", "(I)Ljava/lang/Object;"⟩
def dkwJ2_get_0 : List UInt8 := [27, 42, 180, 0, 48, 184, 0, 118, 87, 42, 27, 182, 0, 123, 176]
abbrev dktJ2_get_0 : List UInt8 := dkwJ2_get_0 ++ []
theorem dksJ2_get_0 : cJ2_get.data.toList.drop 0 = dktJ2_get_0 := by decide +kernel
theorem dJ2_get_0 : decode cJ2_get 0 = .ok (.iload_n 1, 1) := dk_27 (dk_at dksJ2_get_0 0 rfl rfl)
theorem dJ2_get_1 : decode cJ2_get 1 = .ok (.aload_n 0, 1) := dk_42 (dk_at dksJ2_get_0 1 rfl rfl)
theorem dJ2_get_2 : decode cJ2_get 2 = .ok (.getfield 48, 3) := dk_180 0 48 (dk_at dksJ2_get_0 2 rfl rfl)
theorem dJ2_get_5 : decode cJ2_get 5 = .ok (.invokestatic 118, 3) := dk_184 0 118 (dk_at dksJ2_get_0 5 rfl rfl)
theorem dJ2_get_8 : decode cJ2_get 8 = .ok (.pop, 1) := dk_87 (dk_at dksJ2_get_0 8 rfl rfl)
theorem dJ2_get_9 : decode cJ2_get 9 = .ok (.aload_n 0, 1) := dk_42 (dk_at dksJ2_get_0 9 rfl rfl)
theorem dJ2_get_10 : decode cJ2_get 10 = .ok (.iload_n 1, 1) := dk_27 (dk_at dksJ2_get_0 10 rfl rfl)
theorem dJ2_get_11 : decode cJ2_get 11 = .ok (.invokevirtual 123, 3) := dk_182 0 123 (dk_at dksJ2_get_0 11 rfl rfl)
theorem dJ2_get_14 : decode cJ2_get 14 = .ok (.areturn, 1) := dk_176 (dk_at dksJ2_get_0 14 rfl rfl)
abbrev cJ2_elementData : ByteArray := prog_56_method_18_code
def yJ2_elementData : MethodName := ⟨RJ2, "elementData", "(I)Ljava/lang/Object;"⟩
def dkwJ2_elementData_0 : List UInt8 := [42, 180, 0, 9, 27, 50, 176]
abbrev dktJ2_elementData_0 : List UInt8 := dkwJ2_elementData_0 ++ []
theorem dksJ2_elementData_0 : cJ2_elementData.data.toList.drop 0 = dktJ2_elementData_0 := by decide +kernel
theorem dJ2_elementData_0 : decode cJ2_elementData 0 = .ok (.aload_n 0, 1) := dk_42 (dk_at dksJ2_elementData_0 0 rfl rfl)
theorem dJ2_elementData_1 : decode cJ2_elementData 1 = .ok (.getfield 9, 3) := dk_180 0 9 (dk_at dksJ2_elementData_0 1 rfl rfl)
theorem dJ2_elementData_4 : decode cJ2_elementData 4 = .ok (.iload_n 1, 1) := dk_27 (dk_at dksJ2_elementData_0 4 rfl rfl)
theorem dJ2_elementData_5 : decode cJ2_elementData 5 = .ok (.aaload, 1) := dk_50 (dk_at dksJ2_elementData_0 5 rfl rfl)
theorem dJ2_elementData_6 : decode cJ2_elementData 6 = .ok (.areturn, 1) := dk_176 (dk_at dksJ2_elementData_0 6 rfl rfl)
abbrev cJ2_isEmpty : ByteArray := prog_56_method_9_code
def yJ2_isEmpty : MethodName := ⟨RJ2, "isEmpty", "()Z"⟩
def dkwJ2_isEmpty_0 : List UInt8 := [42, 180, 0, 48, 154, 0, 7, 4, 167, 0, 4, 3, 172]
abbrev dktJ2_isEmpty_0 : List UInt8 := dkwJ2_isEmpty_0 ++ []
theorem dksJ2_isEmpty_0 : cJ2_isEmpty.data.toList.drop 0 = dktJ2_isEmpty_0 := by decide +kernel
theorem dJ2_isEmpty_0 : decode cJ2_isEmpty 0 = .ok (.aload_n 0, 1) := dk_42 (dk_at dksJ2_isEmpty_0 0 rfl rfl)
theorem dJ2_isEmpty_1 : decode cJ2_isEmpty 1 = .ok (.getfield 48, 3) := dk_180 0 48 (dk_at dksJ2_isEmpty_0 1 rfl rfl)
theorem dJ2_isEmpty_4 : decode cJ2_isEmpty 4 = .ok (.ifCond .ne 7, 3) := dk_154 0 7 (dk_at dksJ2_isEmpty_0 4 rfl rfl)
theorem dJ2_isEmpty_7 : decode cJ2_isEmpty 7 = .ok (.iconst 1, 1) := dk_4 (dk_at dksJ2_isEmpty_0 7 rfl rfl)
theorem dJ2_isEmpty_8 : decode cJ2_isEmpty 8 = .ok (.goto 4, 3) := dk_167 0 4 (dk_at dksJ2_isEmpty_0 8 rfl rfl)
theorem dJ2_isEmpty_11 : decode cJ2_isEmpty 11 = .ok (.iconst 0, 1) := dk_3 (dk_at dksJ2_isEmpty_0 11 rfl rfl)
theorem dJ2_isEmpty_12 : decode cJ2_isEmpty 12 = .ok (.ireturn, 1) := dk_172 (dk_at dksJ2_isEmpty_0 12 rfl rfl)
abbrev cJ2_remove : ByteArray := prog_56_method_29_code
def yJ2_remove : MethodName := ⟨RJ2, "remove", "(I)Ljava/lang/Object;"⟩
def dkwJ2_remove_1 : List UInt8 := [45, 176]
abbrev dktJ2_remove_1 : List UInt8 := dkwJ2_remove_1 ++ []
def dkwJ2_remove_0 : List UInt8 := [27, 42, 180, 0, 48, 184, 0, 118, 87, 42, 180, 0, 9, 77, 44, 27, 50, 78, 42, 44, 27, 182, 0, 144]
abbrev dktJ2_remove_0 : List UInt8 := dkwJ2_remove_0 ++ dktJ2_remove_1
theorem dksJ2_remove_0 : cJ2_remove.data.toList.drop 0 = dktJ2_remove_0 := by decide +kernel
theorem dksJ2_remove_1 : cJ2_remove.data.toList.drop 24 = dktJ2_remove_1 := dk_seg dksJ2_remove_0 24 rfl rfl
theorem dJ2_remove_0 : decode cJ2_remove 0 = .ok (.iload_n 1, 1) := dk_27 (dk_at dksJ2_remove_0 0 rfl rfl)
theorem dJ2_remove_1 : decode cJ2_remove 1 = .ok (.aload_n 0, 1) := dk_42 (dk_at dksJ2_remove_0 1 rfl rfl)
theorem dJ2_remove_2 : decode cJ2_remove 2 = .ok (.getfield 48, 3) := dk_180 0 48 (dk_at dksJ2_remove_0 2 rfl rfl)
theorem dJ2_remove_5 : decode cJ2_remove 5 = .ok (.invokestatic 118, 3) := dk_184 0 118 (dk_at dksJ2_remove_0 5 rfl rfl)
theorem dJ2_remove_8 : decode cJ2_remove 8 = .ok (.pop, 1) := dk_87 (dk_at dksJ2_remove_0 8 rfl rfl)
theorem dJ2_remove_9 : decode cJ2_remove 9 = .ok (.aload_n 0, 1) := dk_42 (dk_at dksJ2_remove_0 9 rfl rfl)
theorem dJ2_remove_10 : decode cJ2_remove 10 = .ok (.getfield 9, 3) := dk_180 0 9 (dk_at dksJ2_remove_0 10 rfl rfl)
theorem dJ2_remove_13 : decode cJ2_remove 13 = .ok (.astore_n 2, 1) := dk_77 (dk_at dksJ2_remove_0 13 rfl rfl)
theorem dJ2_remove_14 : decode cJ2_remove 14 = .ok (.aload_n 2, 1) := dk_44 (dk_at dksJ2_remove_0 14 rfl rfl)
theorem dJ2_remove_15 : decode cJ2_remove 15 = .ok (.iload_n 1, 1) := dk_27 (dk_at dksJ2_remove_0 15 rfl rfl)
theorem dJ2_remove_16 : decode cJ2_remove 16 = .ok (.aaload, 1) := dk_50 (dk_at dksJ2_remove_0 16 rfl rfl)
theorem dJ2_remove_17 : decode cJ2_remove 17 = .ok (.astore_n 3, 1) := dk_78 (dk_at dksJ2_remove_0 17 rfl rfl)
theorem dJ2_remove_18 : decode cJ2_remove 18 = .ok (.aload_n 0, 1) := dk_42 (dk_at dksJ2_remove_0 18 rfl rfl)
theorem dJ2_remove_19 : decode cJ2_remove 19 = .ok (.aload_n 2, 1) := dk_44 (dk_at dksJ2_remove_0 19 rfl rfl)
theorem dJ2_remove_20 : decode cJ2_remove 20 = .ok (.iload_n 1, 1) := dk_27 (dk_at dksJ2_remove_0 20 rfl rfl)
theorem dJ2_remove_21 : decode cJ2_remove 21 = .ok (.invokevirtual 144, 3) := dk_182 0 144 (dk_at dksJ2_remove_0 21 rfl rfl)
theorem dJ2_remove_24 : decode cJ2_remove 24 = .ok (.aload_n 3, 1) := dk_45 (dk_at dksJ2_remove_1 0 rfl rfl)
theorem dJ2_remove_25 : decode cJ2_remove 25 = .ok (.areturn, 1) := dk_176 (dk_at dksJ2_remove_1 1 rfl rfl)
abbrev cJ2_fastRemove : ByteArray := prog_56_method_39_code
def yJ2_fastRemove : MethodName := ⟨RJ2, "fastRemove", "([Ljava/lang/Object;I)V"⟩
def dkwJ2_fastRemove_1 : List UInt8 := [4, 96, 43, 28, 29, 28, 100, 184, 0, 112, 43, 42, 29, 90, 181, 0, 48, 1, 83, 177]
abbrev dktJ2_fastRemove_1 : List UInt8 := dkwJ2_fastRemove_1 ++ []
def dkwJ2_fastRemove_0 : List UInt8 := [42, 89, 180, 0, 63, 4, 96, 181, 0, 63, 42, 180, 0, 48, 4, 100, 89, 62, 28, 164, 0, 15, 43, 28]
abbrev dktJ2_fastRemove_0 : List UInt8 := dkwJ2_fastRemove_0 ++ dktJ2_fastRemove_1
theorem dksJ2_fastRemove_0 : cJ2_fastRemove.data.toList.drop 0 = dktJ2_fastRemove_0 := by decide +kernel
theorem dksJ2_fastRemove_1 : cJ2_fastRemove.data.toList.drop 24 = dktJ2_fastRemove_1 := dk_seg dksJ2_fastRemove_0 24 rfl rfl
theorem dJ2_fastRemove_0 : decode cJ2_fastRemove 0 = .ok (.aload_n 0, 1) := dk_42 (dk_at dksJ2_fastRemove_0 0 rfl rfl)
theorem dJ2_fastRemove_1 : decode cJ2_fastRemove 1 = .ok (.dup, 1) := dk_89 (dk_at dksJ2_fastRemove_0 1 rfl rfl)
theorem dJ2_fastRemove_2 : decode cJ2_fastRemove 2 = .ok (.getfield 63, 3) := dk_180 0 63 (dk_at dksJ2_fastRemove_0 2 rfl rfl)
theorem dJ2_fastRemove_5 : decode cJ2_fastRemove 5 = .ok (.iconst 1, 1) := dk_4 (dk_at dksJ2_fastRemove_0 5 rfl rfl)
theorem dJ2_fastRemove_6 : decode cJ2_fastRemove 6 = .ok (.iadd, 1) := dk_96 (dk_at dksJ2_fastRemove_0 6 rfl rfl)
theorem dJ2_fastRemove_7 : decode cJ2_fastRemove 7 = .ok (.putfield 63, 3) := dk_181 0 63 (dk_at dksJ2_fastRemove_0 7 rfl rfl)
theorem dJ2_fastRemove_10 : decode cJ2_fastRemove 10 = .ok (.aload_n 0, 1) := dk_42 (dk_at dksJ2_fastRemove_0 10 rfl rfl)
theorem dJ2_fastRemove_11 : decode cJ2_fastRemove 11 = .ok (.getfield 48, 3) := dk_180 0 48 (dk_at dksJ2_fastRemove_0 11 rfl rfl)
theorem dJ2_fastRemove_14 : decode cJ2_fastRemove 14 = .ok (.iconst 1, 1) := dk_4 (dk_at dksJ2_fastRemove_0 14 rfl rfl)
theorem dJ2_fastRemove_15 : decode cJ2_fastRemove 15 = .ok (.isub, 1) := dk_100 (dk_at dksJ2_fastRemove_0 15 rfl rfl)
theorem dJ2_fastRemove_16 : decode cJ2_fastRemove 16 = .ok (.dup, 1) := dk_89 (dk_at dksJ2_fastRemove_0 16 rfl rfl)
theorem dJ2_fastRemove_17 : decode cJ2_fastRemove 17 = .ok (.istore_n 3, 1) := dk_62 (dk_at dksJ2_fastRemove_0 17 rfl rfl)
theorem dJ2_fastRemove_18 : decode cJ2_fastRemove 18 = .ok (.iload_n 2, 1) := dk_28 (dk_at dksJ2_fastRemove_0 18 rfl rfl)
theorem dJ2_fastRemove_19 : decode cJ2_fastRemove 19 = .ok (.if_icmp .le 15, 3) := dk_164 0 15 (dk_at dksJ2_fastRemove_0 19 rfl rfl)
theorem dJ2_fastRemove_22 : decode cJ2_fastRemove 22 = .ok (.aload_n 1, 1) := dk_43 (dk_at dksJ2_fastRemove_0 22 rfl rfl)
theorem dJ2_fastRemove_23 : decode cJ2_fastRemove 23 = .ok (.iload_n 2, 1) := dk_28 (dk_at dksJ2_fastRemove_0 23 rfl rfl)
theorem dJ2_fastRemove_24 : decode cJ2_fastRemove 24 = .ok (.iconst 1, 1) := dk_4 (dk_at dksJ2_fastRemove_1 0 rfl rfl)
theorem dJ2_fastRemove_25 : decode cJ2_fastRemove 25 = .ok (.iadd, 1) := dk_96 (dk_at dksJ2_fastRemove_1 1 rfl rfl)
theorem dJ2_fastRemove_26 : decode cJ2_fastRemove 26 = .ok (.aload_n 1, 1) := dk_43 (dk_at dksJ2_fastRemove_1 2 rfl rfl)
theorem dJ2_fastRemove_27 : decode cJ2_fastRemove 27 = .ok (.iload_n 2, 1) := dk_28 (dk_at dksJ2_fastRemove_1 3 rfl rfl)
theorem dJ2_fastRemove_28 : decode cJ2_fastRemove 28 = .ok (.iload_n 3, 1) := dk_29 (dk_at dksJ2_fastRemove_1 4 rfl rfl)
theorem dJ2_fastRemove_29 : decode cJ2_fastRemove 29 = .ok (.iload_n 2, 1) := dk_28 (dk_at dksJ2_fastRemove_1 5 rfl rfl)
theorem dJ2_fastRemove_30 : decode cJ2_fastRemove 30 = .ok (.isub, 1) := dk_100 (dk_at dksJ2_fastRemove_1 6 rfl rfl)
theorem dJ2_fastRemove_31 : decode cJ2_fastRemove 31 = .ok (.invokestatic 112, 3) := dk_184 0 112 (dk_at dksJ2_fastRemove_1 7 rfl rfl)
theorem dJ2_fastRemove_34 : decode cJ2_fastRemove 34 = .ok (.aload_n 1, 1) := dk_43 (dk_at dksJ2_fastRemove_1 10 rfl rfl)
theorem dJ2_fastRemove_35 : decode cJ2_fastRemove 35 = .ok (.aload_n 0, 1) := dk_42 (dk_at dksJ2_fastRemove_1 11 rfl rfl)
theorem dJ2_fastRemove_36 : decode cJ2_fastRemove 36 = .ok (.iload_n 3, 1) := dk_29 (dk_at dksJ2_fastRemove_1 12 rfl rfl)
theorem dJ2_fastRemove_37 : decode cJ2_fastRemove 37 = .ok (.dup_x1, 1) := dk_90 (dk_at dksJ2_fastRemove_1 13 rfl rfl)
theorem dJ2_fastRemove_38 : decode cJ2_fastRemove 38 = .ok (.putfield 48, 3) := dk_181 0 48 (dk_at dksJ2_fastRemove_1 14 rfl rfl)
theorem dJ2_fastRemove_41 : decode cJ2_fastRemove 41 = .ok (.aconst_null, 1) := dk_1 (dk_at dksJ2_fastRemove_1 17 rfl rfl)
theorem dJ2_fastRemove_42 : decode cJ2_fastRemove 42 = .ok (.aastore, 1) := dk_83 (dk_at dksJ2_fastRemove_1 18 rfl rfl)
theorem dJ2_fastRemove_43 : decode cJ2_fastRemove 43 = .ok (.return_, 1) := dk_177 (dk_at dksJ2_fastRemove_1 19 rfl rfl)
abbrev cJ2_addAll : ByteArray := prog_56_method_41_code
def yJ2_addAll : MethodName := ⟨RJ2, "addAll", "(Ljava/util/Collection;)Z"⟩
def dkwJ2_addAll_3 : List UInt8 := [181, 0, 48, 4, 172]
abbrev dktJ2_addAll_3 : List UInt8 := dkwJ2_addAll_3 ++ []
def dkwJ2_addAll_2 : List UInt8 := [21, 5, 29, 96, 182, 0, 69, 58, 4, 44, 3, 25, 4, 21, 5, 29, 184, 0, 112, 42, 21, 5, 29, 96]
abbrev dktJ2_addAll_2 : List UInt8 := dkwJ2_addAll_2 ++ dktJ2_addAll_3
def dkwJ2_addAll_1 : List UInt8 := [3, 172, 29, 42, 180, 0, 9, 89, 58, 4, 190, 42, 180, 0, 48, 89, 54, 5, 100, 164, 0, 13, 42]
abbrev dktJ2_addAll_1 : List UInt8 := dkwJ2_addAll_1 ++ dktJ2_addAll_2
def dkwJ2_addAll_0 : List UInt8 := [43, 185, 0, 42, 1, 0, 77, 42, 89, 180, 0, 63, 4, 96, 181, 0, 63, 44, 190, 62, 29, 154, 0, 5]
abbrev dktJ2_addAll_0 : List UInt8 := dkwJ2_addAll_0 ++ dktJ2_addAll_1
theorem dksJ2_addAll_0 : cJ2_addAll.data.toList.drop 0 = dktJ2_addAll_0 := by decide +kernel
theorem dksJ2_addAll_1 : cJ2_addAll.data.toList.drop 24 = dktJ2_addAll_1 := dk_seg dksJ2_addAll_0 24 rfl rfl
theorem dksJ2_addAll_2 : cJ2_addAll.data.toList.drop 47 = dktJ2_addAll_2 := dk_seg dksJ2_addAll_1 23 rfl rfl
theorem dksJ2_addAll_3 : cJ2_addAll.data.toList.drop 71 = dktJ2_addAll_3 := dk_seg dksJ2_addAll_2 24 rfl rfl
theorem dJ2_addAll_0 : decode cJ2_addAll 0 = .ok (.aload_n 1, 1) := dk_43 (dk_at dksJ2_addAll_0 0 rfl rfl)
theorem dJ2_addAll_1 : decode cJ2_addAll 1 = .ok (.invokeinterface 42 1, 5) := by decide +kernel
theorem dJ2_addAll_6 : decode cJ2_addAll 6 = .ok (.astore_n 2, 1) := dk_77 (dk_at dksJ2_addAll_0 6 rfl rfl)
theorem dJ2_addAll_7 : decode cJ2_addAll 7 = .ok (.aload_n 0, 1) := dk_42 (dk_at dksJ2_addAll_0 7 rfl rfl)
theorem dJ2_addAll_8 : decode cJ2_addAll 8 = .ok (.dup, 1) := dk_89 (dk_at dksJ2_addAll_0 8 rfl rfl)
theorem dJ2_addAll_9 : decode cJ2_addAll 9 = .ok (.getfield 63, 3) := dk_180 0 63 (dk_at dksJ2_addAll_0 9 rfl rfl)
theorem dJ2_addAll_12 : decode cJ2_addAll 12 = .ok (.iconst 1, 1) := dk_4 (dk_at dksJ2_addAll_0 12 rfl rfl)
theorem dJ2_addAll_13 : decode cJ2_addAll 13 = .ok (.iadd, 1) := dk_96 (dk_at dksJ2_addAll_0 13 rfl rfl)
theorem dJ2_addAll_14 : decode cJ2_addAll 14 = .ok (.putfield 63, 3) := dk_181 0 63 (dk_at dksJ2_addAll_0 14 rfl rfl)
theorem dJ2_addAll_17 : decode cJ2_addAll 17 = .ok (.aload_n 2, 1) := dk_44 (dk_at dksJ2_addAll_0 17 rfl rfl)
theorem dJ2_addAll_18 : decode cJ2_addAll 18 = .ok (.arraylength, 1) := dk_190 (dk_at dksJ2_addAll_0 18 rfl rfl)
theorem dJ2_addAll_19 : decode cJ2_addAll 19 = .ok (.istore_n 3, 1) := dk_62 (dk_at dksJ2_addAll_0 19 rfl rfl)
theorem dJ2_addAll_20 : decode cJ2_addAll 20 = .ok (.iload_n 3, 1) := dk_29 (dk_at dksJ2_addAll_0 20 rfl rfl)
theorem dJ2_addAll_21 : decode cJ2_addAll 21 = .ok (.ifCond .ne 5, 3) := dk_154 0 5 (dk_at dksJ2_addAll_0 21 rfl rfl)
theorem dJ2_addAll_24 : decode cJ2_addAll 24 = .ok (.iconst 0, 1) := dk_3 (dk_at dksJ2_addAll_1 0 rfl rfl)
theorem dJ2_addAll_25 : decode cJ2_addAll 25 = .ok (.ireturn, 1) := dk_172 (dk_at dksJ2_addAll_1 1 rfl rfl)
theorem dJ2_addAll_26 : decode cJ2_addAll 26 = .ok (.iload_n 3, 1) := dk_29 (dk_at dksJ2_addAll_1 2 rfl rfl)
theorem dJ2_addAll_27 : decode cJ2_addAll 27 = .ok (.aload_n 0, 1) := dk_42 (dk_at dksJ2_addAll_1 3 rfl rfl)
theorem dJ2_addAll_28 : decode cJ2_addAll 28 = .ok (.getfield 9, 3) := dk_180 0 9 (dk_at dksJ2_addAll_1 4 rfl rfl)
theorem dJ2_addAll_31 : decode cJ2_addAll 31 = .ok (.dup, 1) := dk_89 (dk_at dksJ2_addAll_1 7 rfl rfl)
theorem dJ2_addAll_32 : decode cJ2_addAll 32 = .ok (.astore 4, 2) := dk_58 4 (dk_at dksJ2_addAll_1 8 rfl rfl)
theorem dJ2_addAll_34 : decode cJ2_addAll 34 = .ok (.arraylength, 1) := dk_190 (dk_at dksJ2_addAll_1 10 rfl rfl)
theorem dJ2_addAll_35 : decode cJ2_addAll 35 = .ok (.aload_n 0, 1) := dk_42 (dk_at dksJ2_addAll_1 11 rfl rfl)
theorem dJ2_addAll_36 : decode cJ2_addAll 36 = .ok (.getfield 48, 3) := dk_180 0 48 (dk_at dksJ2_addAll_1 12 rfl rfl)
theorem dJ2_addAll_39 : decode cJ2_addAll 39 = .ok (.dup, 1) := dk_89 (dk_at dksJ2_addAll_1 15 rfl rfl)
theorem dJ2_addAll_40 : decode cJ2_addAll 40 = .ok (.istore 5, 2) := dk_54 5 (dk_at dksJ2_addAll_1 16 rfl rfl)
theorem dJ2_addAll_42 : decode cJ2_addAll 42 = .ok (.isub, 1) := dk_100 (dk_at dksJ2_addAll_1 18 rfl rfl)
theorem dJ2_addAll_43 : decode cJ2_addAll 43 = .ok (.if_icmp .le 13, 3) := dk_164 0 13 (dk_at dksJ2_addAll_1 19 rfl rfl)
theorem dJ2_addAll_46 : decode cJ2_addAll 46 = .ok (.aload_n 0, 1) := dk_42 (dk_at dksJ2_addAll_1 22 rfl rfl)
theorem dJ2_addAll_47 : decode cJ2_addAll 47 = .ok (.iload 5, 2) := dk_21 5 (dk_at dksJ2_addAll_2 0 rfl rfl)
theorem dJ2_addAll_49 : decode cJ2_addAll 49 = .ok (.iload_n 3, 1) := dk_29 (dk_at dksJ2_addAll_2 2 rfl rfl)
theorem dJ2_addAll_50 : decode cJ2_addAll 50 = .ok (.iadd, 1) := dk_96 (dk_at dksJ2_addAll_2 3 rfl rfl)
theorem dJ2_addAll_51 : decode cJ2_addAll 51 = .ok (.invokevirtual 69, 3) := dk_182 0 69 (dk_at dksJ2_addAll_2 4 rfl rfl)
theorem dJ2_addAll_54 : decode cJ2_addAll 54 = .ok (.astore 4, 2) := dk_58 4 (dk_at dksJ2_addAll_2 7 rfl rfl)
theorem dJ2_addAll_56 : decode cJ2_addAll 56 = .ok (.aload_n 2, 1) := dk_44 (dk_at dksJ2_addAll_2 9 rfl rfl)
theorem dJ2_addAll_57 : decode cJ2_addAll 57 = .ok (.iconst 0, 1) := dk_3 (dk_at dksJ2_addAll_2 10 rfl rfl)
theorem dJ2_addAll_58 : decode cJ2_addAll 58 = .ok (.aload 4, 2) := dk_25 4 (dk_at dksJ2_addAll_2 11 rfl rfl)
theorem dJ2_addAll_60 : decode cJ2_addAll 60 = .ok (.iload 5, 2) := dk_21 5 (dk_at dksJ2_addAll_2 13 rfl rfl)
theorem dJ2_addAll_62 : decode cJ2_addAll 62 = .ok (.iload_n 3, 1) := dk_29 (dk_at dksJ2_addAll_2 15 rfl rfl)
theorem dJ2_addAll_63 : decode cJ2_addAll 63 = .ok (.invokestatic 112, 3) := dk_184 0 112 (dk_at dksJ2_addAll_2 16 rfl rfl)
theorem dJ2_addAll_66 : decode cJ2_addAll 66 = .ok (.aload_n 0, 1) := dk_42 (dk_at dksJ2_addAll_2 19 rfl rfl)
theorem dJ2_addAll_67 : decode cJ2_addAll 67 = .ok (.iload 5, 2) := dk_21 5 (dk_at dksJ2_addAll_2 20 rfl rfl)
theorem dJ2_addAll_69 : decode cJ2_addAll 69 = .ok (.iload_n 3, 1) := dk_29 (dk_at dksJ2_addAll_2 22 rfl rfl)
theorem dJ2_addAll_70 : decode cJ2_addAll 70 = .ok (.iadd, 1) := dk_96 (dk_at dksJ2_addAll_2 23 rfl rfl)
theorem dJ2_addAll_71 : decode cJ2_addAll 71 = .ok (.putfield 48, 3) := dk_181 0 48 (dk_at dksJ2_addAll_3 0 rfl rfl)
theorem dJ2_addAll_74 : decode cJ2_addAll 74 = .ok (.iconst 1, 1) := dk_4 (dk_at dksJ2_addAll_3 3 rfl rfl)
theorem dJ2_addAll_75 : decode cJ2_addAll 75 = .ok (.ireturn, 1) := dk_172 (dk_at dksJ2_addAll_3 4 rfl rfl)
abbrev cJ2_toArray : ByteArray := prog_56_method_16_code
def yJ2_toArray : MethodName := ⟨RJ2, "toArray", "()[Ljava/lang/Object;"⟩
def dkwJ2_toArray_0 : List UInt8 := [42, 180, 0, 9, 42, 180, 0, 48, 184, 0, 66, 176]
abbrev dktJ2_toArray_0 : List UInt8 := dkwJ2_toArray_0 ++ []
theorem dksJ2_toArray_0 : cJ2_toArray.data.toList.drop 0 = dktJ2_toArray_0 := by decide +kernel
theorem dJ2_toArray_0 : decode cJ2_toArray 0 = .ok (.aload_n 0, 1) := dk_42 (dk_at dksJ2_toArray_0 0 rfl rfl)
theorem dJ2_toArray_1 : decode cJ2_toArray 1 = .ok (.getfield 9, 3) := dk_180 0 9 (dk_at dksJ2_toArray_0 1 rfl rfl)
theorem dJ2_toArray_4 : decode cJ2_toArray 4 = .ok (.aload_n 0, 1) := dk_42 (dk_at dksJ2_toArray_0 4 rfl rfl)
theorem dJ2_toArray_5 : decode cJ2_toArray 5 = .ok (.getfield 48, 3) := dk_180 0 48 (dk_at dksJ2_toArray_0 5 rfl rfl)
theorem dJ2_toArray_8 : decode cJ2_toArray 8 = .ok (.invokestatic 66, 3) := dk_184 0 66 (dk_at dksJ2_toArray_0 8 rfl rfl)
theorem dJ2_toArray_11 : decode cJ2_toArray 11 = .ok (.areturn, 1) := dk_176 (dk_at dksJ2_toArray_0 11 rfl rfl)
theorem q172 : (Jvm.Cond.initialized "java/util/ArrayList") ∈ lw_all := lw_g (lw_at lw_m1 6 rfl) rfl
theorem q444 : (Jvm.Cond.instantiable "java/util/ArrayList" (3 : Nat)) ∈ lw_all := lw_g (lw_at lw_m2 38 rfl) rfl
theorem q446 : (Jvm.Cond.instanceMethod ({ cls := "java/util/ArrayList", name := "<init>", desc := "(I)V" } : Jvm.MethodName)) ∈ lw_all := lw_g (lw_at lw_m2 40 rfl) rfl
theorem q447 : (Jvm.Cond.code ({ cls := "java/util/ArrayList", name := "<init>", desc := "(I)V" } : Jvm.MethodName) prog_56_method_1_code (2 : Nat) (Option.none : Option Jvm.ClassFile.FieldType)) ∈ lw_all := lw_g (lw_at lw_m2 41 rfl) rfl
theorem q448 : (Jvm.Cond.methodLink "java/util/ArrayList" (1 : Nat) ({ cls := "java/util/AbstractList", name := "<init>", desc := "()V" } : Jvm.MethodName)) ∈ lw_all := lw_g (lw_at lw_m2 42 rfl) rfl
theorem q455 : (Jvm.Cond.classLink "java/util/ArrayList" (7 : Nat) "java/lang/Object") ∈ lw_all := lw_g (lw_at lw_m2 49 rfl) rfl
theorem q457 : (Jvm.Cond.fieldLink "java/util/ArrayList" (15 : Nat) "java/util/ArrayList" "EMPTY_ELEMENTDATA" "[Ljava/lang/Object;") ∈ lw_all := lw_g (lw_at lw_m2 51 rfl) rfl
theorem q458 : (Jvm.Cond.laysStatic "java/util/ArrayList" "EMPTY_ELEMENTDATA" "[Ljava/lang/Object;") ∈ lw_tbl := lw_at lw_m2 52 rfl
theorem q459 : (Jvm.Cond.fieldLink "java/util/ArrayList" (9 : Nat) "java/util/ArrayList" "elementData" "[Ljava/lang/Object;") ∈ lw_all := lw_g (lw_at lw_m2 53 rfl) rfl
theorem q460 : (Jvm.Cond.fieldLink "java/util/ArrayList" (48 : Nat) "java/util/ArrayList" "size" "I") ∈ lw_all := lw_g (lw_at lw_m2 54 rfl) rfl
theorem q462 : (Jvm.Cond.fieldLink "java/util/ArrayList" (63 : Nat) "java/util/ArrayList" "modCount" "I") ∈ lw_all := lw_g (lw_at lw_m2 56 rfl) rfl
theorem q463 : (Jvm.Cond.sameField "java/util/ArrayList" "java/util/AbstractList" "modCount" "I") ∈ lw_all := lw_g (lw_at lw_m2 57 rfl) rfl
theorem q464 : (Jvm.Cond.lays "java/util/ArrayList" "java/util/ArrayList" "elementData" "[Ljava/lang/Object;") ∈ lw_all := lw_g (lw_at lw_m2 58 rfl) rfl
theorem q465 : (Jvm.Cond.soleField "java/util/ArrayList" "elementData") ∈ lw_all := lw_g (lw_at lw_m2 59 rfl) rfl
theorem q466 : (Jvm.Cond.lays "java/util/ArrayList" "java/util/ArrayList" "size" "I") ∈ lw_all := lw_g (lw_at lw_m2 60 rfl) rfl
theorem q467 : (Jvm.Cond.soleField "java/util/ArrayList" "size") ∈ lw_all := lw_g (lw_at lw_m2 61 rfl) rfl
theorem q468 : (Jvm.Cond.lays "java/util/ArrayList" "java/util/AbstractList" "modCount" "I") ∈ lw_all := lw_g (lw_at lw_m2 62 rfl) rfl
theorem q470 : (Jvm.Cond.superclass "java/util/ArrayList" "java/util/AbstractList") ∈ lw_all := lw_g (lw_at lw_m2 64 rfl) rfl
theorem q472 : (Jvm.Cond.instanceMethod ({ cls := "java/util/ArrayList", name := "<init>", desc := "()V" } : Jvm.MethodName)) ∈ lw_all := lw_g (lw_at lw_m2 66 rfl) rfl
theorem q473 : (Jvm.Cond.code ({ cls := "java/util/ArrayList", name := "<init>", desc := "()V" } : Jvm.MethodName) prog_56_method_2_code (1 : Nat) (Option.none : Option Jvm.ClassFile.FieldType)) ∈ lw_all := lw_g (lw_at lw_m2 67 rfl) rfl
theorem q474 : (Jvm.Cond.fieldLink "java/util/ArrayList" (39 : Nat) "java/util/ArrayList" "DEFAULTCAPACITY_EMPTY_ELEMENTDATA" "[Ljava/lang/Object;") ∈ lw_all := lw_g (lw_at lw_m2 68 rfl) rfl
theorem q475 : (Jvm.Cond.laysStatic "java/util/ArrayList" "DEFAULTCAPACITY_EMPTY_ELEMENTDATA" "[Ljava/lang/Object;") ∈ lw_tbl := lw_at lw_m2 69 rfl
theorem q1036 : (Jvm.Cond.selects "java/util/ArrayList" ({ cls := "java/lang/Object", name := "getClass", desc := "()Ljava/lang/Class;" } : Jvm.MethodName) ({ cls := "java/lang/Object", name := "getClass", desc := "()Ljava/lang/Class;" } : Jvm.MethodName)) ∈ lw_all := lw_g (lw_at lw_m4 150 rfl) rfl
theorem q1770 : (Jvm.Cond.castable "java/util/ArrayList" "java/util/List") ∈ lw_tbl := lw_at lw_m7 164 rfl
theorem q1771 : (Jvm.Cond.selects "java/util/ArrayList" ({ cls := "java/util/List", name := "size", desc := "()I" } : Jvm.MethodName) ({ cls := "java/util/ArrayList", name := "size", desc := "()I" } : Jvm.MethodName)) ∈ lw_all := lw_g (lw_at lw_m7 165 rfl) rfl
theorem q1772 : (Jvm.Cond.unhidden "java/util/ArrayList" "size" "()I") ∈ lw_tbl := lw_at lw_m7 166 rfl
theorem q1773 : (Jvm.Cond.instanceMethod ({ cls := "java/util/ArrayList", name := "size", desc := "()I" } : Jvm.MethodName)) ∈ lw_all := lw_g (lw_at lw_m7 167 rfl) rfl
theorem q1774 : (Jvm.Cond.publicMethod ({ cls := "java/util/ArrayList", name := "size", desc := "()I" } : Jvm.MethodName)) ∈ lw_tbl := lw_at lw_m7 168 rfl
theorem q1775 : (Jvm.Cond.code ({ cls := "java/util/ArrayList", name := "size", desc := "()I" } : Jvm.MethodName) prog_56_method_8_code (1 : Nat) (Option.some Jvm.ClassFile.FieldType.int)) ∈ lw_all := lw_g (lw_at lw_m7 169 rfl) rfl
theorem q1806 : (Jvm.Cond.selects "java/util/ArrayList" ({ cls := "java/util/List", name := "add", desc := "(Ljava/lang/Object;)Z" } : Jvm.MethodName) ({ cls := "java/util/ArrayList", name := "add", desc := "(Ljava/lang/Object;)Z" } : Jvm.MethodName)) ∈ lw_all := lw_g (lw_at lw_m7 200 rfl) rfl
theorem q1807 : (Jvm.Cond.unhidden "java/util/ArrayList" "add" "(Ljava/lang/Object;)Z") ∈ lw_tbl := lw_at lw_m7 201 rfl
theorem q1808 : (Jvm.Cond.instanceMethod ({ cls := "java/util/ArrayList", name := "add", desc := "(Ljava/lang/Object;)Z" } : Jvm.MethodName)) ∈ lw_all := lw_g (lw_at lw_m7 202 rfl) rfl
theorem q1809 : (Jvm.Cond.publicMethod ({ cls := "java/util/ArrayList", name := "add", desc := "(Ljava/lang/Object;)Z" } : Jvm.MethodName)) ∈ lw_tbl := lw_at lw_m7 203 rfl
theorem q1810 : (Jvm.Cond.code ({ cls := "java/util/ArrayList", name := "add", desc := "(Ljava/lang/Object;)Z" } : Jvm.MethodName) prog_56_method_25_code (2 : Nat) (Option.some Jvm.ClassFile.FieldType.boolean)) ∈ lw_all := lw_g (lw_at lw_m7 204 rfl) rfl
theorem q1811 : (Jvm.Cond.methodLink "java/util/ArrayList" (131 : Nat) ({ cls := "java/util/ArrayList", name := "add", desc := "(Ljava/lang/Object;[Ljava/lang/Object;I)V" } : Jvm.MethodName)) ∈ lw_all := lw_g (lw_at lw_m7 205 rfl) rfl
theorem q1812 : (Jvm.Cond.privateMethod ({ cls := "java/util/ArrayList", name := "add", desc := "(Ljava/lang/Object;[Ljava/lang/Object;I)V" } : Jvm.MethodName)) ∈ lw_tbl := lw_at lw_m7 206 rfl
theorem q1813 : (Jvm.Cond.instanceMethod ({ cls := "java/util/ArrayList", name := "add", desc := "(Ljava/lang/Object;[Ljava/lang/Object;I)V" } : Jvm.MethodName)) ∈ lw_all := lw_g (lw_at lw_m7 207 rfl) rfl
theorem q1814 : (Jvm.Cond.code ({ cls := "java/util/ArrayList", name := "add", desc := "(Ljava/lang/Object;[Ljava/lang/Object;I)V" } : Jvm.MethodName) prog_56_method_24_code (4 : Nat) (Option.none : Option Jvm.ClassFile.FieldType)) ∈ lw_all := lw_g (lw_at lw_m7 208 rfl) rfl
theorem q1815 : (Jvm.Cond.methodLink "java/util/ArrayList" (129 : Nat) ({ cls := "java/util/ArrayList", name := "grow", desc := "()[Ljava/lang/Object;" } : Jvm.MethodName)) ∈ lw_all := lw_g (lw_at lw_m7 209 rfl) rfl
theorem q1816 : (Jvm.Cond.privateMethod ({ cls := "java/util/ArrayList", name := "grow", desc := "()[Ljava/lang/Object;" } : Jvm.MethodName)) ∈ lw_tbl := lw_at lw_m7 210 rfl
theorem q1817 : (Jvm.Cond.instanceMethod ({ cls := "java/util/ArrayList", name := "grow", desc := "()[Ljava/lang/Object;" } : Jvm.MethodName)) ∈ lw_all := lw_g (lw_at lw_m7 211 rfl) rfl
theorem q1818 : (Jvm.Cond.code ({ cls := "java/util/ArrayList", name := "grow", desc := "()[Ljava/lang/Object;" } : Jvm.MethodName) prog_56_method_7_code (1 : Nat) (Option.some (Jvm.ClassFile.FieldType.array (Jvm.ClassFile.FieldType.object "java/lang/Object")))) ∈ lw_all := lw_g (lw_at lw_m7 212 rfl) rfl
theorem q1819 : (Jvm.Cond.methodLink "java/util/ArrayList" (69 : Nat) ({ cls := "java/util/ArrayList", name := "grow", desc := "(I)[Ljava/lang/Object;" } : Jvm.MethodName)) ∈ lw_all := lw_g (lw_at lw_m7 213 rfl) rfl
theorem q1820 : (Jvm.Cond.privateMethod ({ cls := "java/util/ArrayList", name := "grow", desc := "(I)[Ljava/lang/Object;" } : Jvm.MethodName)) ∈ lw_tbl := lw_at lw_m7 214 rfl
theorem q1821 : (Jvm.Cond.instanceMethod ({ cls := "java/util/ArrayList", name := "grow", desc := "(I)[Ljava/lang/Object;" } : Jvm.MethodName)) ∈ lw_all := lw_g (lw_at lw_m7 215 rfl) rfl
theorem q1822 : (Jvm.Cond.code ({ cls := "java/util/ArrayList", name := "grow", desc := "(I)[Ljava/lang/Object;" } : Jvm.MethodName) prog_56_method_6_code (4 : Nat) (Option.some (Jvm.ClassFile.FieldType.array (Jvm.ClassFile.FieldType.object "java/lang/Object")))) ∈ lw_all := lw_g (lw_at lw_m7 216 rfl) rfl
theorem q1823 : (Jvm.Cond.methodLink "java/util/ArrayList" (73 : Nat) ({ cls := "jdk/internal/util/ArraysSupport", name := "newLength", desc := "(III)I" } : Jvm.MethodName)) ∈ lw_all := lw_g (lw_at lw_m7 217 rfl) rfl
theorem q1824 : (Jvm.Cond.methodLink "java/util/ArrayList" (66 : Nat) ({ cls := "java/util/Arrays", name := "copyOf", desc := "([Ljava/lang/Object;I)[Ljava/lang/Object;" } : Jvm.MethodName)) ∈ lw_all := lw_g (lw_at lw_m7 218 rfl) rfl
theorem q1833 : (Jvm.Cond.methodLink "java/util/ArrayList" (79 : Nat) ({ cls := "java/lang/Math", name := "max", desc := "(II)I" } : Jvm.MethodName)) ∈ lw_all := lw_g (lw_at lw_m7 227 rfl) rfl
theorem q1854 : (Jvm.Cond.selects "java/util/ArrayList" ({ cls := "java/util/List", name := "get", desc := "(I)Ljava/lang/Object;" } : Jvm.MethodName) ({ cls := "java/util/ArrayList", name := "get", desc := "(I)Ljava/lang/Object;" } : Jvm.MethodName)) ∈ lw_all := lw_g (lw_at lw_m8 8 rfl) rfl
theorem q1855 : (Jvm.Cond.unhidden "java/util/ArrayList" "get" "(I)Ljava/lang/Object;") ∈ lw_tbl := lw_at lw_m8 9 rfl
theorem q1856 : (Jvm.Cond.instanceMethod ({ cls := "java/util/ArrayList", name := "get", desc := "(I)Ljava/lang/Object;" } : Jvm.MethodName)) ∈ lw_all := lw_g (lw_at lw_m8 10 rfl) rfl
theorem q1857 : (Jvm.Cond.publicMethod ({ cls := "java/util/ArrayList", name := "get", desc := "(I)Ljava/lang/Object;" } : Jvm.MethodName)) ∈ lw_tbl := lw_at lw_m8 11 rfl
theorem q1858 : (Jvm.Cond.code ({ cls := "java/util/ArrayList", name := "get", desc := "(I)Ljava/lang/Object;" } : Jvm.MethodName) prog_56_method_20_code (2 : Nat) (Option.some (Jvm.ClassFile.FieldType.object "java/lang/Object"))) ∈ lw_all := lw_g (lw_at lw_m8 12 rfl) rfl
theorem q1859 : (Jvm.Cond.methodLink "java/util/ArrayList" (118 : Nat) ({ cls := "java/util/Objects", name := "checkIndex", desc := "(II)I" } : Jvm.MethodName)) ∈ lw_all := lw_g (lw_at lw_m8 13 rfl) rfl
theorem q1863 : (Jvm.Cond.methodLink "java/util/ArrayList" (123 : Nat) ({ cls := "java/util/ArrayList", name := "elementData", desc := "(I)Ljava/lang/Object;" } : Jvm.MethodName)) ∈ lw_all := lw_g (lw_at lw_m8 17 rfl) rfl
theorem q1864 : (Jvm.Cond.instanceMethod ({ cls := "java/util/ArrayList", name := "elementData", desc := "(I)Ljava/lang/Object;" } : Jvm.MethodName)) ∈ lw_all := lw_g (lw_at lw_m8 18 rfl) rfl
theorem q1865 : (Jvm.Cond.selects "java/util/ArrayList" ({ cls := "java/util/ArrayList", name := "elementData", desc := "(I)Ljava/lang/Object;" } : Jvm.MethodName) ({ cls := "java/util/ArrayList", name := "elementData", desc := "(I)Ljava/lang/Object;" } : Jvm.MethodName)) ∈ lw_all := lw_g (lw_at lw_m8 19 rfl) rfl
theorem q1866 : (Jvm.Cond.code ({ cls := "java/util/ArrayList", name := "elementData", desc := "(I)Ljava/lang/Object;" } : Jvm.MethodName) prog_56_method_18_code (2 : Nat) (Option.some (Jvm.ClassFile.FieldType.object "java/lang/Object"))) ∈ lw_all := lw_g (lw_at lw_m8 20 rfl) rfl
theorem q2568 : (Jvm.Cond.selects "java/util/ArrayList" ({ cls := "java/util/List", name := "isEmpty", desc := "()Z" } : Jvm.MethodName) ({ cls := "java/util/ArrayList", name := "isEmpty", desc := "()Z" } : Jvm.MethodName)) ∈ lw_all := lw_g (lw_at lw_m11 2 rfl) rfl
theorem q2569 : (Jvm.Cond.unhidden "java/util/ArrayList" "isEmpty" "()Z") ∈ lw_tbl := lw_at lw_m11 3 rfl
theorem q2570 : (Jvm.Cond.instanceMethod ({ cls := "java/util/ArrayList", name := "isEmpty", desc := "()Z" } : Jvm.MethodName)) ∈ lw_all := lw_g (lw_at lw_m11 4 rfl) rfl
theorem q2571 : (Jvm.Cond.publicMethod ({ cls := "java/util/ArrayList", name := "isEmpty", desc := "()Z" } : Jvm.MethodName)) ∈ lw_tbl := lw_at lw_m11 5 rfl
theorem q2572 : (Jvm.Cond.code ({ cls := "java/util/ArrayList", name := "isEmpty", desc := "()Z" } : Jvm.MethodName) prog_56_method_9_code (1 : Nat) (Option.some Jvm.ClassFile.FieldType.boolean)) ∈ lw_all := lw_g (lw_at lw_m11 6 rfl) rfl
theorem q2581 : (Jvm.Cond.selects "java/util/ArrayList" ({ cls := "java/util/List", name := "remove", desc := "(I)Ljava/lang/Object;" } : Jvm.MethodName) ({ cls := "java/util/ArrayList", name := "remove", desc := "(I)Ljava/lang/Object;" } : Jvm.MethodName)) ∈ lw_all := lw_g (lw_at lw_m11 15 rfl) rfl
theorem q2582 : (Jvm.Cond.unhidden "java/util/ArrayList" "remove" "(I)Ljava/lang/Object;") ∈ lw_tbl := lw_at lw_m11 16 rfl
theorem q2583 : (Jvm.Cond.instanceMethod ({ cls := "java/util/ArrayList", name := "remove", desc := "(I)Ljava/lang/Object;" } : Jvm.MethodName)) ∈ lw_all := lw_g (lw_at lw_m11 17 rfl) rfl
theorem q2584 : (Jvm.Cond.publicMethod ({ cls := "java/util/ArrayList", name := "remove", desc := "(I)Ljava/lang/Object;" } : Jvm.MethodName)) ∈ lw_tbl := lw_at lw_m11 18 rfl
theorem q2585 : (Jvm.Cond.code ({ cls := "java/util/ArrayList", name := "remove", desc := "(I)Ljava/lang/Object;" } : Jvm.MethodName) prog_56_method_29_code (4 : Nat) (Option.some (Jvm.ClassFile.FieldType.object "java/lang/Object"))) ∈ lw_all := lw_g (lw_at lw_m11 19 rfl) rfl
theorem q2586 : (Jvm.Cond.methodLink "java/util/ArrayList" (144 : Nat) ({ cls := "java/util/ArrayList", name := "fastRemove", desc := "([Ljava/lang/Object;I)V" } : Jvm.MethodName)) ∈ lw_all := lw_g (lw_at lw_m11 20 rfl) rfl
theorem q2587 : (Jvm.Cond.privateMethod ({ cls := "java/util/ArrayList", name := "fastRemove", desc := "([Ljava/lang/Object;I)V" } : Jvm.MethodName)) ∈ lw_tbl := lw_at lw_m11 21 rfl
theorem q2588 : (Jvm.Cond.instanceMethod ({ cls := "java/util/ArrayList", name := "fastRemove", desc := "([Ljava/lang/Object;I)V" } : Jvm.MethodName)) ∈ lw_all := lw_g (lw_at lw_m11 22 rfl) rfl
theorem q2589 : (Jvm.Cond.code ({ cls := "java/util/ArrayList", name := "fastRemove", desc := "([Ljava/lang/Object;I)V" } : Jvm.MethodName) prog_56_method_39_code (4 : Nat) (Option.none : Option Jvm.ClassFile.FieldType)) ∈ lw_all := lw_g (lw_at lw_m11 23 rfl) rfl
theorem q2590 : (Jvm.Cond.methodLink "java/util/ArrayList" (112 : Nat) ({ cls := "java/lang/System", name := "arraycopy", desc := "(Ljava/lang/Object;ILjava/lang/Object;II)V" } : Jvm.MethodName)) ∈ lw_all := lw_g (lw_at lw_m11 24 rfl) rfl
theorem q2622 : (Jvm.Cond.selects "java/util/ArrayList" ({ cls := "java/util/List", name := "addAll", desc := "(Ljava/util/Collection;)Z" } : Jvm.MethodName) ({ cls := "java/util/ArrayList", name := "addAll", desc := "(Ljava/util/Collection;)Z" } : Jvm.MethodName)) ∈ lw_all := lw_g (lw_at lw_m11 56 rfl) rfl
theorem q2623 : (Jvm.Cond.unhidden "java/util/ArrayList" "addAll" "(Ljava/util/Collection;)Z") ∈ lw_tbl := lw_at lw_m11 57 rfl
theorem q2624 : (Jvm.Cond.instanceMethod ({ cls := "java/util/ArrayList", name := "addAll", desc := "(Ljava/util/Collection;)Z" } : Jvm.MethodName)) ∈ lw_all := lw_g (lw_at lw_m11 58 rfl) rfl
theorem q2625 : (Jvm.Cond.publicMethod ({ cls := "java/util/ArrayList", name := "addAll", desc := "(Ljava/util/Collection;)Z" } : Jvm.MethodName)) ∈ lw_tbl := lw_at lw_m11 59 rfl
theorem q2626 : (Jvm.Cond.code ({ cls := "java/util/ArrayList", name := "addAll", desc := "(Ljava/util/Collection;)Z" } : Jvm.MethodName) prog_56_method_41_code (6 : Nat) (Option.some Jvm.ClassFile.FieldType.boolean)) ∈ lw_all := lw_g (lw_at lw_m11 60 rfl) rfl
theorem q2627 : (Jvm.Cond.interfaceEntry "java/util/ArrayList" (42 : Nat)) ∈ lw_tbl := lw_at lw_m11 61 rfl
theorem q2628 : (Jvm.Cond.methodLink "java/util/ArrayList" (42 : Nat) ({ cls := "java/util/Collection", name := "toArray", desc := "()[Ljava/lang/Object;" } : Jvm.MethodName)) ∈ lw_all := lw_g (lw_at lw_m11 62 rfl) rfl
theorem q2631 : (Jvm.Cond.castable "java/util/ArrayList" "java/util/Collection") ∈ lw_tbl := lw_at lw_m11 65 rfl
theorem q2632 : (Jvm.Cond.selects "java/util/ArrayList" ({ cls := "java/util/Collection", name := "toArray", desc := "()[Ljava/lang/Object;" } : Jvm.MethodName) ({ cls := "java/util/ArrayList", name := "toArray", desc := "()[Ljava/lang/Object;" } : Jvm.MethodName)) ∈ lw_all := lw_g (lw_at lw_m11 66 rfl) rfl
theorem q2633 : (Jvm.Cond.unhidden "java/util/ArrayList" "toArray" "()[Ljava/lang/Object;") ∈ lw_tbl := lw_at lw_m11 67 rfl
theorem q2634 : (Jvm.Cond.instanceMethod ({ cls := "java/util/ArrayList", name := "toArray", desc := "()[Ljava/lang/Object;" } : Jvm.MethodName)) ∈ lw_all := lw_g (lw_at lw_m11 68 rfl) rfl
theorem q2635 : (Jvm.Cond.publicMethod ({ cls := "java/util/ArrayList", name := "toArray", desc := "()[Ljava/lang/Object;" } : Jvm.MethodName)) ∈ lw_tbl := lw_at lw_m11 69 rfl
theorem q2636 : (Jvm.Cond.code ({ cls := "java/util/ArrayList", name := "toArray", desc := "()[Ljava/lang/Object;" } : Jvm.MethodName) prog_56_method_16_code (1 : Nat) (Option.some (Jvm.ClassFile.FieldType.array (Jvm.ClassFile.FieldType.object "java/lang/Object")))) ∈ lw_all := lw_g (lw_at lw_m11 70 rfl) rfl
theorem q3522 : (Jvm.Cond.castable "java/util/ArrayList" "java/lang/Object") ∈ lw_tbl := lw_at lw_m14 236 rfl
theorem in_J2 : ∀ w ∈ wsJ20, w ∈ lw_all := lw_in wsJ20 [468, 464, 466] (by decide +kernel) (by decide +kernel)
/-! java/util/AbstractMap -/
set_option maxRecDepth 100000
def RJ4 : String := "java/util/AbstractMap"
abbrev cJ4_init : ByteArray := prog_54_method_1_code
def yJ4_init : MethodName := ⟨RJ4, "<init>", "()V"⟩
theorem dJ4_init_0 : decode cJ4_init 0 = .ok (.aload_n 0, 1) := by decide +kernel
theorem dJ4_init_1 : decode cJ4_init 1 = .ok (.invokespecial 1, 3) := by decide +kernel
theorem dJ4_init_4 : decode cJ4_init 4 = .ok (.return_, 1) := by decide +kernel
theorem q180 : (Jvm.Cond.initialized "java/util/AbstractMap") ∈ lw_all := lw_g (lw_at lw_m1 14 rfl) rfl
theorem q743 : (Jvm.Cond.instanceMethod ({ cls := "java/util/AbstractMap", name := "<init>", desc := "()V" } : Jvm.MethodName)) ∈ lw_all := lw_g (lw_at lw_m3 97 rfl) rfl
theorem q744 : (Jvm.Cond.code ({ cls := "java/util/AbstractMap", name := "<init>", desc := "()V" } : Jvm.MethodName) prog_54_method_1_code (1 : Nat) (Option.none : Option Jvm.ClassFile.FieldType)) ∈ lw_all := lw_g (lw_at lw_m3 98 rfl) rfl
theorem q745 : (Jvm.Cond.methodLink "java/util/AbstractMap" (1 : Nat) ({ cls := "java/lang/Object", name := "<init>", desc := "()V" } : Jvm.MethodName)) ∈ lw_all := lw_g (lw_at lw_m3 99 rfl) rfl
theorem q765 : (Jvm.Cond.soleField "java/util/AbstractMap" "keySet") ∈ lw_all := lw_g (lw_at lw_m3 119 rfl) rfl
theorem q767 : (Jvm.Cond.soleField "java/util/AbstractMap" "values") ∈ lw_all := lw_g (lw_at lw_m3 121 rfl) rfl
/-! java/util/HashMap -/
set_option maxRecDepth 100000
def RJ5 : String := "java/util/HashMap"
def TJ5 : u_T := fun k => match k with
  | 0 => ("java/util/AbstractMap", "keySet", "Ljava/util/Set;", false)
  | 1 => ("java/util/AbstractMap", "values", "Ljava/util/Collection;", false)
  | 2 => ("java/util/HashMap", "table", "[Ljava/util/HashMap$Node;", false)
  | 3 => ("java/util/HashMap", "entrySet", "Ljava/util/Set;", false)
  | 4 => ("java/util/HashMap", "size", "I", false)
  | 5 => ("java/util/HashMap", "modCount", "I", false)
  | 6 => ("java/util/HashMap", "threshold", "I", false)
  | _ => ("java/util/HashMap", "loadFactor", "F", true)
def tyJ5 : Nat → FieldType := fun k => match k with
  | 0 => .object "java/util/Set"
  | 1 => .object "java/util/Collection"
  | 2 => .array (.object "java/util/HashMap$Node")
  | 3 => .object "java/util/Set"
  | 4 => .int
  | 5 => .int
  | 6 => .int
  | _ => .float
abbrev wsJ50 : List Cond := u_ws RJ5 TJ5 8
theorem nmJ5 : ∀ a, a < 8 → ∀ b, b < 8 → a ≠ b → (TJ5 a).2.1 ≠ (TJ5 b).2.1 := by decide +kernel
theorem tyJ5_ok : ∀ k, k < 8 → parseFieldDescriptor (TJ5 k).2.2.1 = some (tyJ5 k) := by decide +kernel
abbrev cJ5_init : ByteArray := prog_59_method_7_code
def yJ5_init : MethodName := ⟨RJ5, "<init>", "()V"⟩
def dkwJ5_init_0 : List UInt8 := [42, 183, 0, 43, 42, 18, 92, 181, 0, 81, 177]
abbrev dktJ5_init_0 : List UInt8 := dkwJ5_init_0 ++ []
theorem dksJ5_init_0 : cJ5_init.data.toList.drop 0 = dktJ5_init_0 := by decide +kernel
theorem dJ5_init_0 : decode cJ5_init 0 = .ok (.aload_n 0, 1) := dk_42 (dk_at dksJ5_init_0 0 rfl rfl)
theorem dJ5_init_1 : decode cJ5_init 1 = .ok (.invokespecial 43, 3) := dk_183 0 43 (dk_at dksJ5_init_0 1 rfl rfl)
theorem dJ5_init_4 : decode cJ5_init 4 = .ok (.aload_n 0, 1) := dk_42 (dk_at dksJ5_init_0 4 rfl rfl)
theorem dJ5_init_5 : decode cJ5_init 5 = .ok (.ldc 92, 2) := dk_18 92 (dk_at dksJ5_init_0 5 rfl rfl)
theorem dJ5_init_7 : decode cJ5_init 7 = .ok (.putfield 81, 3) := dk_181 0 81 (dk_at dksJ5_init_0 7 rfl rfl)
theorem dJ5_init_10 : decode cJ5_init 10 = .ok (.return_, 1) := dk_177 (dk_at dksJ5_init_0 10 rfl rfl)
abbrev cJ5_put : ByteArray := prog_59_method_15_code
def yJ5_put : MethodName := ⟨RJ5, "put", "(Ljava/lang/Object;Ljava/lang/Object;)Ljava/lang/Object;"⟩
def dkwJ5_put_0 : List UInt8 := [42, 43, 184, 0, 149, 43, 44, 3, 4, 182, 0, 152, 176]
abbrev dktJ5_put_0 : List UInt8 := dkwJ5_put_0 ++ []
theorem dksJ5_put_0 : cJ5_put.data.toList.drop 0 = dktJ5_put_0 := by decide +kernel
theorem dJ5_put_0 : decode cJ5_put 0 = .ok (.aload_n 0, 1) := dk_42 (dk_at dksJ5_put_0 0 rfl rfl)
theorem dJ5_put_1 : decode cJ5_put 1 = .ok (.aload_n 1, 1) := dk_43 (dk_at dksJ5_put_0 1 rfl rfl)
theorem dJ5_put_2 : decode cJ5_put 2 = .ok (.invokestatic 149, 3) := dk_184 0 149 (dk_at dksJ5_put_0 2 rfl rfl)
theorem dJ5_put_5 : decode cJ5_put 5 = .ok (.aload_n 1, 1) := dk_43 (dk_at dksJ5_put_0 5 rfl rfl)
theorem dJ5_put_6 : decode cJ5_put 6 = .ok (.aload_n 2, 1) := dk_44 (dk_at dksJ5_put_0 6 rfl rfl)
theorem dJ5_put_7 : decode cJ5_put 7 = .ok (.iconst 0, 1) := dk_3 (dk_at dksJ5_put_0 7 rfl rfl)
theorem dJ5_put_8 : decode cJ5_put 8 = .ok (.iconst 1, 1) := dk_4 (dk_at dksJ5_put_0 8 rfl rfl)
theorem dJ5_put_9 : decode cJ5_put 9 = .ok (.invokevirtual 152, 3) := dk_182 0 152 (dk_at dksJ5_put_0 9 rfl rfl)
theorem dJ5_put_12 : decode cJ5_put 12 = .ok (.areturn, 1) := dk_176 (dk_at dksJ5_put_0 12 rfl rfl)
abbrev cJ5_hash : ByteArray := prog_59_method_1_code
def yJ5_hash : MethodName := ⟨RJ5, "hash", "(Ljava/lang/Object;)I"⟩
def dkwJ5_hash_0 : List UInt8 := [42, 199, 0, 7, 3, 167, 0, 14, 42, 182, 0, 1, 89, 60, 27, 16, 16, 124, 130, 172]
abbrev dktJ5_hash_0 : List UInt8 := dkwJ5_hash_0 ++ []
theorem dksJ5_hash_0 : cJ5_hash.data.toList.drop 0 = dktJ5_hash_0 := by decide +kernel
theorem dJ5_hash_0 : decode cJ5_hash 0 = .ok (.aload_n 0, 1) := dk_42 (dk_at dksJ5_hash_0 0 rfl rfl)
theorem dJ5_hash_1 : decode cJ5_hash 1 = .ok (.ifnonnull 7, 3) := dk_199 0 7 (dk_at dksJ5_hash_0 1 rfl rfl)
theorem dJ5_hash_4 : decode cJ5_hash 4 = .ok (.iconst 0, 1) := dk_3 (dk_at dksJ5_hash_0 4 rfl rfl)
theorem dJ5_hash_5 : decode cJ5_hash 5 = .ok (.goto 14, 3) := dk_167 0 14 (dk_at dksJ5_hash_0 5 rfl rfl)
theorem dJ5_hash_8 : decode cJ5_hash 8 = .ok (.aload_n 0, 1) := dk_42 (dk_at dksJ5_hash_0 8 rfl rfl)
theorem dJ5_hash_9 : decode cJ5_hash 9 = .ok (.invokevirtual 1, 3) := dk_182 0 1 (dk_at dksJ5_hash_0 9 rfl rfl)
theorem dJ5_hash_12 : decode cJ5_hash 12 = .ok (.dup, 1) := dk_89 (dk_at dksJ5_hash_0 12 rfl rfl)
theorem dJ5_hash_13 : decode cJ5_hash 13 = .ok (.istore_n 1, 1) := dk_60 (dk_at dksJ5_hash_0 13 rfl rfl)
theorem dJ5_hash_14 : decode cJ5_hash 14 = .ok (.iload_n 1, 1) := dk_27 (dk_at dksJ5_hash_0 14 rfl rfl)
theorem dJ5_hash_15 : decode cJ5_hash 15 = .ok (.bipush 16, 2) := dk_16 16 (dk_at dksJ5_hash_0 15 rfl rfl)
theorem dJ5_hash_17 : decode cJ5_hash 17 = .ok (.iushr, 1) := dk_124 (dk_at dksJ5_hash_0 17 rfl rfl)
theorem dJ5_hash_18 : decode cJ5_hash 18 = .ok (.ixor, 1) := dk_130 (dk_at dksJ5_hash_0 18 rfl rfl)
theorem dJ5_hash_19 : decode cJ5_hash 19 = .ok (.ireturn, 1) := dk_172 (dk_at dksJ5_hash_0 19 rfl rfl)
abbrev cJ5_putVal : ByteArray := prog_59_method_16_code
def yJ5_putVal : MethodName := ⟨RJ5, "putVal", "(ILjava/lang/Object;Ljava/lang/Object;ZZ)Ljava/lang/Object;"⟩
def dkwJ5_putVal_12 : List UInt8 := [181, 0, 156, 42, 180, 0, 88, 164, 0, 8, 42, 182, 0, 117, 87, 42, 21, 5, 182, 0, 205, 1, 176]
abbrev dktJ5_putVal_12 : List UInt8 := dkwJ5_putVal_12 ++ []
def dkwJ5_putVal_11 : List UInt8 := [182, 0, 198, 25, 12, 176, 42, 89, 180, 0, 202, 4, 96, 181, 0, 202, 42, 89, 180, 0, 156, 4, 96, 90]
abbrev dktJ5_putVal_11 : List UInt8 := dkwJ5_putVal_11 ++ dktJ5_putVal_12
def dkwJ5_putVal_10 : List UInt8 := [180, 0, 162, 58, 12, 21, 4, 153, 0, 8, 25, 12, 199, 0, 9, 25, 10, 45, 181, 0, 162, 42, 25, 10]
abbrev dktJ5_putVal_10 : List UInt8 := dkwJ5_putVal_10 ++ dktJ5_putVal_11
def dkwJ5_putVal_9 : List UInt8 := [153, 0, 6, 167, 0, 13, 25, 10, 58, 7, 132, 12, 1, 167, 255, 171, 25, 10, 198, 0, 35, 25, 10]
abbrev dktJ5_putVal_9 : List UInt8 := dkwJ5_putVal_9 ++ dktJ5_putVal_10
def dkwJ5_putVal_8 : List UInt8 := [25, 10, 180, 0, 170, 89, 58, 11, 44, 165, 0, 29, 44, 198, 0, 15, 44, 25, 11, 182, 0, 173]
abbrev dktJ5_putVal_8 : List UInt8 := dkwJ5_putVal_8 ++ dktJ5_putVal_9
def dkwJ5_putVal_7 : List UInt8 := [16, 7, 161, 0, 60, 42, 25, 6, 27, 182, 0, 194, 167, 0, 50, 25, 10, 180, 0, 168, 27, 160, 0, 31]
abbrev dktJ5_putVal_7 : List UInt8 := dkwJ5_putVal_7 ++ dktJ5_putVal_8
def dkwJ5_putVal_6 : List UInt8 := [180, 0, 177, 89, 58, 10, 199, 0, 33, 25, 7, 42, 27, 44, 45, 1, 182, 0, 186, 181, 0, 177, 21, 12]
abbrev dktJ5_putVal_6 : List UInt8 := dkwJ5_putVal_6 ++ dktJ5_putVal_7
def dkwJ5_putVal_5 : List UInt8 := [192, 0, 180, 42, 25, 6, 27, 44, 45, 182, 0, 190, 58, 10, 167, 0, 94, 3, 54, 12, 25, 7]
abbrev dktJ5_putVal_5 : List UInt8 := dkwJ5_putVal_5 ++ dktJ5_putVal_6
def dkwJ5_putVal_4 : List UInt8 := [182, 0, 173, 153, 0, 10, 25, 7, 58, 10, 167, 0, 121, 25, 7, 193, 0, 180, 153, 0, 22, 25, 7]
abbrev dktJ5_putVal_4 : List UInt8 := dkwJ5_putVal_4 ++ dktJ5_putVal_5
def dkwJ5_putVal_3 : List UInt8 := [160, 0, 35, 25, 7, 180, 0, 170, 89, 58, 11, 44, 165, 0, 16, 44, 198, 0, 19, 44, 25, 11]
abbrev dktJ5_putVal_3 : List UInt8 := dkwJ5_putVal_3 ++ dktJ5_putVal_4
def dkwJ5_putVal_2 : List UInt8 := [25, 6, 21, 9, 42, 27, 44, 45, 1, 182, 0, 186, 83, 167, 0, 199, 25, 7, 180, 0, 168, 27]
abbrev dktJ5_putVal_2 : List UInt8 := dkwJ5_putVal_2 ++ dktJ5_putVal_3
def dkwJ5_putVal_1 : List UInt8 := [58, 6, 190, 54, 8, 25, 6, 21, 8, 4, 100, 27, 126, 89, 54, 9, 50, 89, 58, 7, 199, 0, 19]
abbrev dktJ5_putVal_1 : List UInt8 := dkwJ5_putVal_1 ++ dktJ5_putVal_2
def dkwJ5_putVal_0 : List UInt8 := [42, 180, 0, 105, 89, 58, 6, 198, 0, 12, 25, 6, 190, 89, 54, 8, 154, 0, 13, 42, 182, 0, 117, 89]
abbrev dktJ5_putVal_0 : List UInt8 := dkwJ5_putVal_0 ++ dktJ5_putVal_1
theorem dksJ5_putVal_0 : cJ5_putVal.data.toList.drop 0 = dktJ5_putVal_0 := by decide +kernel
theorem dksJ5_putVal_1 : cJ5_putVal.data.toList.drop 24 = dktJ5_putVal_1 := dk_seg dksJ5_putVal_0 24 rfl rfl
theorem dksJ5_putVal_2 : cJ5_putVal.data.toList.drop 47 = dktJ5_putVal_2 := dk_seg dksJ5_putVal_1 23 rfl rfl
theorem dksJ5_putVal_3 : cJ5_putVal.data.toList.drop 69 = dktJ5_putVal_3 := dk_seg dksJ5_putVal_2 22 rfl rfl
theorem dksJ5_putVal_4 : cJ5_putVal.data.toList.drop 91 = dktJ5_putVal_4 := dk_seg dksJ5_putVal_3 22 rfl rfl
theorem dksJ5_putVal_5 : cJ5_putVal.data.toList.drop 114 = dktJ5_putVal_5 := dk_seg dksJ5_putVal_4 23 rfl rfl
theorem dksJ5_putVal_6 : cJ5_putVal.data.toList.drop 136 = dktJ5_putVal_6 := dk_seg dksJ5_putVal_5 22 rfl rfl
theorem dksJ5_putVal_7 : cJ5_putVal.data.toList.drop 160 = dktJ5_putVal_7 := dk_seg dksJ5_putVal_6 24 rfl rfl
theorem dksJ5_putVal_8 : cJ5_putVal.data.toList.drop 184 = dktJ5_putVal_8 := dk_seg dksJ5_putVal_7 24 rfl rfl
theorem dksJ5_putVal_9 : cJ5_putVal.data.toList.drop 206 = dktJ5_putVal_9 := dk_seg dksJ5_putVal_8 22 rfl rfl
theorem dksJ5_putVal_10 : cJ5_putVal.data.toList.drop 229 = dktJ5_putVal_10 := dk_seg dksJ5_putVal_9 23 rfl rfl
theorem dksJ5_putVal_11 : cJ5_putVal.data.toList.drop 253 = dktJ5_putVal_11 := dk_seg dksJ5_putVal_10 24 rfl rfl
theorem dksJ5_putVal_12 : cJ5_putVal.data.toList.drop 277 = dktJ5_putVal_12 := dk_seg dksJ5_putVal_11 24 rfl rfl
theorem dJ5_putVal_0 : decode cJ5_putVal 0 = .ok (.aload_n 0, 1) := dk_42 (dk_at dksJ5_putVal_0 0 rfl rfl)
theorem dJ5_putVal_1 : decode cJ5_putVal 1 = .ok (.getfield 105, 3) := dk_180 0 105 (dk_at dksJ5_putVal_0 1 rfl rfl)
theorem dJ5_putVal_4 : decode cJ5_putVal 4 = .ok (.dup, 1) := dk_89 (dk_at dksJ5_putVal_0 4 rfl rfl)
theorem dJ5_putVal_5 : decode cJ5_putVal 5 = .ok (.astore 6, 2) := dk_58 6 (dk_at dksJ5_putVal_0 5 rfl rfl)
theorem dJ5_putVal_7 : decode cJ5_putVal 7 = .ok (.ifnull 12, 3) := dk_198 0 12 (dk_at dksJ5_putVal_0 7 rfl rfl)
theorem dJ5_putVal_10 : decode cJ5_putVal 10 = .ok (.aload 6, 2) := dk_25 6 (dk_at dksJ5_putVal_0 10 rfl rfl)
theorem dJ5_putVal_12 : decode cJ5_putVal 12 = .ok (.arraylength, 1) := dk_190 (dk_at dksJ5_putVal_0 12 rfl rfl)
theorem dJ5_putVal_13 : decode cJ5_putVal 13 = .ok (.dup, 1) := dk_89 (dk_at dksJ5_putVal_0 13 rfl rfl)
theorem dJ5_putVal_14 : decode cJ5_putVal 14 = .ok (.istore 8, 2) := dk_54 8 (dk_at dksJ5_putVal_0 14 rfl rfl)
theorem dJ5_putVal_16 : decode cJ5_putVal 16 = .ok (.ifCond .ne 13, 3) := dk_154 0 13 (dk_at dksJ5_putVal_0 16 rfl rfl)
theorem dJ5_putVal_19 : decode cJ5_putVal 19 = .ok (.aload_n 0, 1) := dk_42 (dk_at dksJ5_putVal_0 19 rfl rfl)
theorem dJ5_putVal_20 : decode cJ5_putVal 20 = .ok (.invokevirtual 117, 3) := dk_182 0 117 (dk_at dksJ5_putVal_0 20 rfl rfl)
theorem dJ5_putVal_23 : decode cJ5_putVal 23 = .ok (.dup, 1) := dk_89 (dk_at dksJ5_putVal_0 23 rfl rfl)
theorem dJ5_putVal_24 : decode cJ5_putVal 24 = .ok (.astore 6, 2) := dk_58 6 (dk_at dksJ5_putVal_1 0 rfl rfl)
theorem dJ5_putVal_26 : decode cJ5_putVal 26 = .ok (.arraylength, 1) := dk_190 (dk_at dksJ5_putVal_1 2 rfl rfl)
theorem dJ5_putVal_27 : decode cJ5_putVal 27 = .ok (.istore 8, 2) := dk_54 8 (dk_at dksJ5_putVal_1 3 rfl rfl)
theorem dJ5_putVal_29 : decode cJ5_putVal 29 = .ok (.aload 6, 2) := dk_25 6 (dk_at dksJ5_putVal_1 5 rfl rfl)
theorem dJ5_putVal_31 : decode cJ5_putVal 31 = .ok (.iload 8, 2) := dk_21 8 (dk_at dksJ5_putVal_1 7 rfl rfl)
theorem dJ5_putVal_33 : decode cJ5_putVal 33 = .ok (.iconst 1, 1) := dk_4 (dk_at dksJ5_putVal_1 9 rfl rfl)
theorem dJ5_putVal_34 : decode cJ5_putVal 34 = .ok (.isub, 1) := dk_100 (dk_at dksJ5_putVal_1 10 rfl rfl)
theorem dJ5_putVal_35 : decode cJ5_putVal 35 = .ok (.iload_n 1, 1) := dk_27 (dk_at dksJ5_putVal_1 11 rfl rfl)
theorem dJ5_putVal_36 : decode cJ5_putVal 36 = .ok (.iand, 1) := dk_126 (dk_at dksJ5_putVal_1 12 rfl rfl)
theorem dJ5_putVal_37 : decode cJ5_putVal 37 = .ok (.dup, 1) := dk_89 (dk_at dksJ5_putVal_1 13 rfl rfl)
theorem dJ5_putVal_38 : decode cJ5_putVal 38 = .ok (.istore 9, 2) := dk_54 9 (dk_at dksJ5_putVal_1 14 rfl rfl)
theorem dJ5_putVal_40 : decode cJ5_putVal 40 = .ok (.aaload, 1) := dk_50 (dk_at dksJ5_putVal_1 16 rfl rfl)
theorem dJ5_putVal_41 : decode cJ5_putVal 41 = .ok (.dup, 1) := dk_89 (dk_at dksJ5_putVal_1 17 rfl rfl)
theorem dJ5_putVal_42 : decode cJ5_putVal 42 = .ok (.astore 7, 2) := dk_58 7 (dk_at dksJ5_putVal_1 18 rfl rfl)
theorem dJ5_putVal_44 : decode cJ5_putVal 44 = .ok (.ifnonnull 19, 3) := dk_199 0 19 (dk_at dksJ5_putVal_1 20 rfl rfl)
theorem dJ5_putVal_47 : decode cJ5_putVal 47 = .ok (.aload 6, 2) := dk_25 6 (dk_at dksJ5_putVal_2 0 rfl rfl)
theorem dJ5_putVal_49 : decode cJ5_putVal 49 = .ok (.iload 9, 2) := dk_21 9 (dk_at dksJ5_putVal_2 2 rfl rfl)
theorem dJ5_putVal_51 : decode cJ5_putVal 51 = .ok (.aload_n 0, 1) := dk_42 (dk_at dksJ5_putVal_2 4 rfl rfl)
theorem dJ5_putVal_52 : decode cJ5_putVal 52 = .ok (.iload_n 1, 1) := dk_27 (dk_at dksJ5_putVal_2 5 rfl rfl)
theorem dJ5_putVal_53 : decode cJ5_putVal 53 = .ok (.aload_n 2, 1) := dk_44 (dk_at dksJ5_putVal_2 6 rfl rfl)
theorem dJ5_putVal_54 : decode cJ5_putVal 54 = .ok (.aload_n 3, 1) := dk_45 (dk_at dksJ5_putVal_2 7 rfl rfl)
theorem dJ5_putVal_55 : decode cJ5_putVal 55 = .ok (.aconst_null, 1) := dk_1 (dk_at dksJ5_putVal_2 8 rfl rfl)
theorem dJ5_putVal_56 : decode cJ5_putVal 56 = .ok (.invokevirtual 186, 3) := dk_182 0 186 (dk_at dksJ5_putVal_2 9 rfl rfl)
theorem dJ5_putVal_59 : decode cJ5_putVal 59 = .ok (.aastore, 1) := dk_83 (dk_at dksJ5_putVal_2 12 rfl rfl)
theorem dJ5_putVal_60 : decode cJ5_putVal 60 = .ok (.goto 199, 3) := dk_167 0 199 (dk_at dksJ5_putVal_2 13 rfl rfl)
theorem dJ5_putVal_63 : decode cJ5_putVal 63 = .ok (.aload 7, 2) := dk_25 7 (dk_at dksJ5_putVal_2 16 rfl rfl)
theorem dJ5_putVal_65 : decode cJ5_putVal 65 = .ok (.getfield 168, 3) := dk_180 0 168 (dk_at dksJ5_putVal_2 18 rfl rfl)
theorem dJ5_putVal_68 : decode cJ5_putVal 68 = .ok (.iload_n 1, 1) := dk_27 (dk_at dksJ5_putVal_2 21 rfl rfl)
theorem dJ5_putVal_69 : decode cJ5_putVal 69 = .ok (.if_icmp .ne 35, 3) := dk_160 0 35 (dk_at dksJ5_putVal_3 0 rfl rfl)
theorem dJ5_putVal_72 : decode cJ5_putVal 72 = .ok (.aload 7, 2) := dk_25 7 (dk_at dksJ5_putVal_3 3 rfl rfl)
theorem dJ5_putVal_74 : decode cJ5_putVal 74 = .ok (.getfield 170, 3) := dk_180 0 170 (dk_at dksJ5_putVal_3 5 rfl rfl)
theorem dJ5_putVal_77 : decode cJ5_putVal 77 = .ok (.dup, 1) := dk_89 (dk_at dksJ5_putVal_3 8 rfl rfl)
theorem dJ5_putVal_78 : decode cJ5_putVal 78 = .ok (.astore 11, 2) := dk_58 11 (dk_at dksJ5_putVal_3 9 rfl rfl)
theorem dJ5_putVal_80 : decode cJ5_putVal 80 = .ok (.aload_n 2, 1) := dk_44 (dk_at dksJ5_putVal_3 11 rfl rfl)
theorem dJ5_putVal_81 : decode cJ5_putVal 81 = .ok (.if_acmp .eq 16, 3) := dk_165 0 16 (dk_at dksJ5_putVal_3 12 rfl rfl)
theorem dJ5_putVal_84 : decode cJ5_putVal 84 = .ok (.aload_n 2, 1) := dk_44 (dk_at dksJ5_putVal_3 15 rfl rfl)
theorem dJ5_putVal_85 : decode cJ5_putVal 85 = .ok (.ifnull 19, 3) := dk_198 0 19 (dk_at dksJ5_putVal_3 16 rfl rfl)
theorem dJ5_putVal_88 : decode cJ5_putVal 88 = .ok (.aload_n 2, 1) := dk_44 (dk_at dksJ5_putVal_3 19 rfl rfl)
theorem dJ5_putVal_89 : decode cJ5_putVal 89 = .ok (.aload 11, 2) := dk_25 11 (dk_at dksJ5_putVal_3 20 rfl rfl)
theorem dJ5_putVal_91 : decode cJ5_putVal 91 = .ok (.invokevirtual 173, 3) := dk_182 0 173 (dk_at dksJ5_putVal_4 0 rfl rfl)
theorem dJ5_putVal_94 : decode cJ5_putVal 94 = .ok (.ifCond .eq 10, 3) := dk_153 0 10 (dk_at dksJ5_putVal_4 3 rfl rfl)
theorem dJ5_putVal_97 : decode cJ5_putVal 97 = .ok (.aload 7, 2) := dk_25 7 (dk_at dksJ5_putVal_4 6 rfl rfl)
theorem dJ5_putVal_99 : decode cJ5_putVal 99 = .ok (.astore 10, 2) := dk_58 10 (dk_at dksJ5_putVal_4 8 rfl rfl)
theorem dJ5_putVal_101 : decode cJ5_putVal 101 = .ok (.goto 121, 3) := dk_167 0 121 (dk_at dksJ5_putVal_4 10 rfl rfl)
theorem dJ5_putVal_104 : decode cJ5_putVal 104 = .ok (.aload 7, 2) := dk_25 7 (dk_at dksJ5_putVal_4 13 rfl rfl)
theorem dJ5_putVal_106 : decode cJ5_putVal 106 = .ok (.instanceof 180, 3) := dk_193 0 180 (dk_at dksJ5_putVal_4 15 rfl rfl)
theorem dJ5_putVal_109 : decode cJ5_putVal 109 = .ok (.ifCond .eq 22, 3) := dk_153 0 22 (dk_at dksJ5_putVal_4 18 rfl rfl)
theorem dJ5_putVal_112 : decode cJ5_putVal 112 = .ok (.aload 7, 2) := dk_25 7 (dk_at dksJ5_putVal_4 21 rfl rfl)
theorem dJ5_putVal_114 : decode cJ5_putVal 114 = .ok (.checkcast 180, 3) := dk_192 0 180 (dk_at dksJ5_putVal_5 0 rfl rfl)
theorem dJ5_putVal_117 : decode cJ5_putVal 117 = .ok (.aload_n 0, 1) := dk_42 (dk_at dksJ5_putVal_5 3 rfl rfl)
theorem dJ5_putVal_118 : decode cJ5_putVal 118 = .ok (.aload 6, 2) := dk_25 6 (dk_at dksJ5_putVal_5 4 rfl rfl)
theorem dJ5_putVal_120 : decode cJ5_putVal 120 = .ok (.iload_n 1, 1) := dk_27 (dk_at dksJ5_putVal_5 6 rfl rfl)
theorem dJ5_putVal_121 : decode cJ5_putVal 121 = .ok (.aload_n 2, 1) := dk_44 (dk_at dksJ5_putVal_5 7 rfl rfl)
theorem dJ5_putVal_122 : decode cJ5_putVal 122 = .ok (.aload_n 3, 1) := dk_45 (dk_at dksJ5_putVal_5 8 rfl rfl)
theorem dJ5_putVal_123 : decode cJ5_putVal 123 = .ok (.invokevirtual 190, 3) := dk_182 0 190 (dk_at dksJ5_putVal_5 9 rfl rfl)
theorem dJ5_putVal_126 : decode cJ5_putVal 126 = .ok (.astore 10, 2) := dk_58 10 (dk_at dksJ5_putVal_5 12 rfl rfl)
theorem dJ5_putVal_128 : decode cJ5_putVal 128 = .ok (.goto 94, 3) := dk_167 0 94 (dk_at dksJ5_putVal_5 14 rfl rfl)
theorem dJ5_putVal_131 : decode cJ5_putVal 131 = .ok (.iconst 0, 1) := dk_3 (dk_at dksJ5_putVal_5 17 rfl rfl)
theorem dJ5_putVal_132 : decode cJ5_putVal 132 = .ok (.istore 12, 2) := dk_54 12 (dk_at dksJ5_putVal_5 18 rfl rfl)
theorem dJ5_putVal_134 : decode cJ5_putVal 134 = .ok (.aload 7, 2) := dk_25 7 (dk_at dksJ5_putVal_5 20 rfl rfl)
theorem dJ5_putVal_136 : decode cJ5_putVal 136 = .ok (.getfield 177, 3) := dk_180 0 177 (dk_at dksJ5_putVal_6 0 rfl rfl)
theorem dJ5_putVal_139 : decode cJ5_putVal 139 = .ok (.dup, 1) := dk_89 (dk_at dksJ5_putVal_6 3 rfl rfl)
theorem dJ5_putVal_140 : decode cJ5_putVal 140 = .ok (.astore 10, 2) := dk_58 10 (dk_at dksJ5_putVal_6 4 rfl rfl)
theorem dJ5_putVal_142 : decode cJ5_putVal 142 = .ok (.ifnonnull 33, 3) := dk_199 0 33 (dk_at dksJ5_putVal_6 6 rfl rfl)
theorem dJ5_putVal_145 : decode cJ5_putVal 145 = .ok (.aload 7, 2) := dk_25 7 (dk_at dksJ5_putVal_6 9 rfl rfl)
theorem dJ5_putVal_147 : decode cJ5_putVal 147 = .ok (.aload_n 0, 1) := dk_42 (dk_at dksJ5_putVal_6 11 rfl rfl)
theorem dJ5_putVal_148 : decode cJ5_putVal 148 = .ok (.iload_n 1, 1) := dk_27 (dk_at dksJ5_putVal_6 12 rfl rfl)
theorem dJ5_putVal_149 : decode cJ5_putVal 149 = .ok (.aload_n 2, 1) := dk_44 (dk_at dksJ5_putVal_6 13 rfl rfl)
theorem dJ5_putVal_150 : decode cJ5_putVal 150 = .ok (.aload_n 3, 1) := dk_45 (dk_at dksJ5_putVal_6 14 rfl rfl)
theorem dJ5_putVal_151 : decode cJ5_putVal 151 = .ok (.aconst_null, 1) := dk_1 (dk_at dksJ5_putVal_6 15 rfl rfl)
theorem dJ5_putVal_152 : decode cJ5_putVal 152 = .ok (.invokevirtual 186, 3) := dk_182 0 186 (dk_at dksJ5_putVal_6 16 rfl rfl)
theorem dJ5_putVal_155 : decode cJ5_putVal 155 = .ok (.putfield 177, 3) := dk_181 0 177 (dk_at dksJ5_putVal_6 19 rfl rfl)
theorem dJ5_putVal_158 : decode cJ5_putVal 158 = .ok (.iload 12, 2) := dk_21 12 (dk_at dksJ5_putVal_6 22 rfl rfl)
theorem dJ5_putVal_160 : decode cJ5_putVal 160 = .ok (.bipush 7, 2) := dk_16 7 (dk_at dksJ5_putVal_7 0 rfl rfl)
theorem dJ5_putVal_162 : decode cJ5_putVal 162 = .ok (.if_icmp .lt 60, 3) := dk_161 0 60 (dk_at dksJ5_putVal_7 2 rfl rfl)
theorem dJ5_putVal_165 : decode cJ5_putVal 165 = .ok (.aload_n 0, 1) := dk_42 (dk_at dksJ5_putVal_7 5 rfl rfl)
theorem dJ5_putVal_166 : decode cJ5_putVal 166 = .ok (.aload 6, 2) := dk_25 6 (dk_at dksJ5_putVal_7 6 rfl rfl)
theorem dJ5_putVal_168 : decode cJ5_putVal 168 = .ok (.iload_n 1, 1) := dk_27 (dk_at dksJ5_putVal_7 8 rfl rfl)
theorem dJ5_putVal_169 : decode cJ5_putVal 169 = .ok (.invokevirtual 194, 3) := dk_182 0 194 (dk_at dksJ5_putVal_7 9 rfl rfl)
theorem dJ5_putVal_172 : decode cJ5_putVal 172 = .ok (.goto 50, 3) := dk_167 0 50 (dk_at dksJ5_putVal_7 12 rfl rfl)
theorem dJ5_putVal_175 : decode cJ5_putVal 175 = .ok (.aload 10, 2) := dk_25 10 (dk_at dksJ5_putVal_7 15 rfl rfl)
theorem dJ5_putVal_177 : decode cJ5_putVal 177 = .ok (.getfield 168, 3) := dk_180 0 168 (dk_at dksJ5_putVal_7 17 rfl rfl)
theorem dJ5_putVal_180 : decode cJ5_putVal 180 = .ok (.iload_n 1, 1) := dk_27 (dk_at dksJ5_putVal_7 20 rfl rfl)
theorem dJ5_putVal_181 : decode cJ5_putVal 181 = .ok (.if_icmp .ne 31, 3) := dk_160 0 31 (dk_at dksJ5_putVal_7 21 rfl rfl)
theorem dJ5_putVal_184 : decode cJ5_putVal 184 = .ok (.aload 10, 2) := dk_25 10 (dk_at dksJ5_putVal_8 0 rfl rfl)
theorem dJ5_putVal_186 : decode cJ5_putVal 186 = .ok (.getfield 170, 3) := dk_180 0 170 (dk_at dksJ5_putVal_8 2 rfl rfl)
theorem dJ5_putVal_189 : decode cJ5_putVal 189 = .ok (.dup, 1) := dk_89 (dk_at dksJ5_putVal_8 5 rfl rfl)
theorem dJ5_putVal_190 : decode cJ5_putVal 190 = .ok (.astore 11, 2) := dk_58 11 (dk_at dksJ5_putVal_8 6 rfl rfl)
theorem dJ5_putVal_192 : decode cJ5_putVal 192 = .ok (.aload_n 2, 1) := dk_44 (dk_at dksJ5_putVal_8 8 rfl rfl)
theorem dJ5_putVal_193 : decode cJ5_putVal 193 = .ok (.if_acmp .eq 29, 3) := dk_165 0 29 (dk_at dksJ5_putVal_8 9 rfl rfl)
theorem dJ5_putVal_196 : decode cJ5_putVal 196 = .ok (.aload_n 2, 1) := dk_44 (dk_at dksJ5_putVal_8 12 rfl rfl)
theorem dJ5_putVal_197 : decode cJ5_putVal 197 = .ok (.ifnull 15, 3) := dk_198 0 15 (dk_at dksJ5_putVal_8 13 rfl rfl)
theorem dJ5_putVal_200 : decode cJ5_putVal 200 = .ok (.aload_n 2, 1) := dk_44 (dk_at dksJ5_putVal_8 16 rfl rfl)
theorem dJ5_putVal_201 : decode cJ5_putVal 201 = .ok (.aload 11, 2) := dk_25 11 (dk_at dksJ5_putVal_8 17 rfl rfl)
theorem dJ5_putVal_203 : decode cJ5_putVal 203 = .ok (.invokevirtual 173, 3) := dk_182 0 173 (dk_at dksJ5_putVal_8 19 rfl rfl)
theorem dJ5_putVal_206 : decode cJ5_putVal 206 = .ok (.ifCond .eq 6, 3) := dk_153 0 6 (dk_at dksJ5_putVal_9 0 rfl rfl)
theorem dJ5_putVal_209 : decode cJ5_putVal 209 = .ok (.goto 13, 3) := dk_167 0 13 (dk_at dksJ5_putVal_9 3 rfl rfl)
theorem dJ5_putVal_212 : decode cJ5_putVal 212 = .ok (.aload 10, 2) := dk_25 10 (dk_at dksJ5_putVal_9 6 rfl rfl)
theorem dJ5_putVal_214 : decode cJ5_putVal 214 = .ok (.astore 7, 2) := dk_58 7 (dk_at dksJ5_putVal_9 8 rfl rfl)
theorem dJ5_putVal_216 : decode cJ5_putVal 216 = .ok (.iinc 12 1, 3) := dk_132 12 1 (dk_at dksJ5_putVal_9 10 rfl rfl)
theorem dJ5_putVal_219 : decode cJ5_putVal 219 = .ok (.goto (-85), 3) := dk_167 255 171 (dk_at dksJ5_putVal_9 13 rfl rfl)
theorem dJ5_putVal_222 : decode cJ5_putVal 222 = .ok (.aload 10, 2) := dk_25 10 (dk_at dksJ5_putVal_9 16 rfl rfl)
theorem dJ5_putVal_224 : decode cJ5_putVal 224 = .ok (.ifnull 35, 3) := dk_198 0 35 (dk_at dksJ5_putVal_9 18 rfl rfl)
theorem dJ5_putVal_227 : decode cJ5_putVal 227 = .ok (.aload 10, 2) := dk_25 10 (dk_at dksJ5_putVal_9 21 rfl rfl)
theorem dJ5_putVal_229 : decode cJ5_putVal 229 = .ok (.getfield 162, 3) := dk_180 0 162 (dk_at dksJ5_putVal_10 0 rfl rfl)
theorem dJ5_putVal_232 : decode cJ5_putVal 232 = .ok (.astore 12, 2) := dk_58 12 (dk_at dksJ5_putVal_10 3 rfl rfl)
theorem dJ5_putVal_234 : decode cJ5_putVal 234 = .ok (.iload 4, 2) := dk_21 4 (dk_at dksJ5_putVal_10 5 rfl rfl)
theorem dJ5_putVal_236 : decode cJ5_putVal 236 = .ok (.ifCond .eq 8, 3) := dk_153 0 8 (dk_at dksJ5_putVal_10 7 rfl rfl)
theorem dJ5_putVal_239 : decode cJ5_putVal 239 = .ok (.aload 12, 2) := dk_25 12 (dk_at dksJ5_putVal_10 10 rfl rfl)
theorem dJ5_putVal_241 : decode cJ5_putVal 241 = .ok (.ifnonnull 9, 3) := dk_199 0 9 (dk_at dksJ5_putVal_10 12 rfl rfl)
theorem dJ5_putVal_244 : decode cJ5_putVal 244 = .ok (.aload 10, 2) := dk_25 10 (dk_at dksJ5_putVal_10 15 rfl rfl)
theorem dJ5_putVal_246 : decode cJ5_putVal 246 = .ok (.aload_n 3, 1) := dk_45 (dk_at dksJ5_putVal_10 17 rfl rfl)
theorem dJ5_putVal_247 : decode cJ5_putVal 247 = .ok (.putfield 162, 3) := dk_181 0 162 (dk_at dksJ5_putVal_10 18 rfl rfl)
theorem dJ5_putVal_250 : decode cJ5_putVal 250 = .ok (.aload_n 0, 1) := dk_42 (dk_at dksJ5_putVal_10 21 rfl rfl)
theorem dJ5_putVal_251 : decode cJ5_putVal 251 = .ok (.aload 10, 2) := dk_25 10 (dk_at dksJ5_putVal_10 22 rfl rfl)
theorem dJ5_putVal_253 : decode cJ5_putVal 253 = .ok (.invokevirtual 198, 3) := dk_182 0 198 (dk_at dksJ5_putVal_11 0 rfl rfl)
theorem dJ5_putVal_256 : decode cJ5_putVal 256 = .ok (.aload 12, 2) := dk_25 12 (dk_at dksJ5_putVal_11 3 rfl rfl)
theorem dJ5_putVal_258 : decode cJ5_putVal 258 = .ok (.areturn, 1) := dk_176 (dk_at dksJ5_putVal_11 5 rfl rfl)
theorem dJ5_putVal_259 : decode cJ5_putVal 259 = .ok (.aload_n 0, 1) := dk_42 (dk_at dksJ5_putVal_11 6 rfl rfl)
theorem dJ5_putVal_260 : decode cJ5_putVal 260 = .ok (.dup, 1) := dk_89 (dk_at dksJ5_putVal_11 7 rfl rfl)
theorem dJ5_putVal_261 : decode cJ5_putVal 261 = .ok (.getfield 202, 3) := dk_180 0 202 (dk_at dksJ5_putVal_11 8 rfl rfl)
theorem dJ5_putVal_264 : decode cJ5_putVal 264 = .ok (.iconst 1, 1) := dk_4 (dk_at dksJ5_putVal_11 11 rfl rfl)
theorem dJ5_putVal_265 : decode cJ5_putVal 265 = .ok (.iadd, 1) := dk_96 (dk_at dksJ5_putVal_11 12 rfl rfl)
theorem dJ5_putVal_266 : decode cJ5_putVal 266 = .ok (.putfield 202, 3) := dk_181 0 202 (dk_at dksJ5_putVal_11 13 rfl rfl)
theorem dJ5_putVal_269 : decode cJ5_putVal 269 = .ok (.aload_n 0, 1) := dk_42 (dk_at dksJ5_putVal_11 16 rfl rfl)
theorem dJ5_putVal_270 : decode cJ5_putVal 270 = .ok (.dup, 1) := dk_89 (dk_at dksJ5_putVal_11 17 rfl rfl)
theorem dJ5_putVal_271 : decode cJ5_putVal 271 = .ok (.getfield 156, 3) := dk_180 0 156 (dk_at dksJ5_putVal_11 18 rfl rfl)
theorem dJ5_putVal_274 : decode cJ5_putVal 274 = .ok (.iconst 1, 1) := dk_4 (dk_at dksJ5_putVal_11 21 rfl rfl)
theorem dJ5_putVal_275 : decode cJ5_putVal 275 = .ok (.iadd, 1) := dk_96 (dk_at dksJ5_putVal_11 22 rfl rfl)
theorem dJ5_putVal_276 : decode cJ5_putVal 276 = .ok (.dup_x1, 1) := dk_90 (dk_at dksJ5_putVal_11 23 rfl rfl)
theorem dJ5_putVal_277 : decode cJ5_putVal 277 = .ok (.putfield 156, 3) := dk_181 0 156 (dk_at dksJ5_putVal_12 0 rfl rfl)
theorem dJ5_putVal_280 : decode cJ5_putVal 280 = .ok (.aload_n 0, 1) := dk_42 (dk_at dksJ5_putVal_12 3 rfl rfl)
theorem dJ5_putVal_281 : decode cJ5_putVal 281 = .ok (.getfield 88, 3) := dk_180 0 88 (dk_at dksJ5_putVal_12 4 rfl rfl)
theorem dJ5_putVal_284 : decode cJ5_putVal 284 = .ok (.if_icmp .le 8, 3) := dk_164 0 8 (dk_at dksJ5_putVal_12 7 rfl rfl)
theorem dJ5_putVal_287 : decode cJ5_putVal 287 = .ok (.aload_n 0, 1) := dk_42 (dk_at dksJ5_putVal_12 10 rfl rfl)
theorem dJ5_putVal_288 : decode cJ5_putVal 288 = .ok (.invokevirtual 117, 3) := dk_182 0 117 (dk_at dksJ5_putVal_12 11 rfl rfl)
theorem dJ5_putVal_291 : decode cJ5_putVal 291 = .ok (.pop, 1) := dk_87 (dk_at dksJ5_putVal_12 14 rfl rfl)
theorem dJ5_putVal_292 : decode cJ5_putVal 292 = .ok (.aload_n 0, 1) := dk_42 (dk_at dksJ5_putVal_12 15 rfl rfl)
theorem dJ5_putVal_293 : decode cJ5_putVal 293 = .ok (.iload 5, 2) := dk_21 5 (dk_at dksJ5_putVal_12 16 rfl rfl)
theorem dJ5_putVal_295 : decode cJ5_putVal 295 = .ok (.invokevirtual 205, 3) := dk_182 0 205 (dk_at dksJ5_putVal_12 18 rfl rfl)
theorem dJ5_putVal_298 : decode cJ5_putVal 298 = .ok (.aconst_null, 1) := dk_1 (dk_at dksJ5_putVal_12 21 rfl rfl)
theorem dJ5_putVal_299 : decode cJ5_putVal 299 = .ok (.areturn, 1) := dk_176 (dk_at dksJ5_putVal_12 22 rfl rfl)
abbrev cJ5_resize : ByteArray := prog_59_method_17_code
def yJ5_resize : MethodName := ⟨RJ5, "resize", "()[Ljava/util/HashMap$Node;"⟩
def dkwJ5_resize_15 : List UInt8 := [25, 6, 176]
abbrev dktJ5_resize_15 : List UInt8 := dkwJ5_resize_15 ++ []
def dkwJ5_resize_14 : List UInt8 := [198, 0, 18, 25, 12, 1, 181, 0, 177, 25, 6, 21, 7, 28, 96, 25, 11, 83, 132, 7, 1, 167, 255, 57]
abbrev dktJ5_resize_14 : List UInt8 := dkwJ5_resize_14 ++ dktJ5_resize_15
def dkwJ5_resize_13 : List UInt8 := [199, 255, 185, 25, 10, 198, 0, 16, 25, 10, 1, 181, 0, 177, 25, 6, 21, 7, 25, 9, 83, 25, 12]
abbrev dktJ5_resize_13 : List UInt8 := dkwJ5_resize_13 ++ dktJ5_resize_14
def dkwJ5_resize_12 : List UInt8 := [25, 8, 58, 11, 167, 0, 10, 25, 12, 25, 8, 181, 0, 177, 25, 8, 58, 12, 25, 13, 89, 58, 8]
abbrev dktJ5_resize_12 : List UInt8 := dkwJ5_resize_12 ++ dktJ5_resize_13
def dkwJ5_resize_11 : List UInt8 := [58, 9, 167, 0, 10, 25, 10, 25, 8, 181, 0, 177, 25, 8, 58, 10, 167, 0, 26, 25, 12, 199, 0, 10]
abbrev dktJ5_resize_11 : List UInt8 := dkwJ5_resize_11 ++ dktJ5_resize_12
def dkwJ5_resize_10 : List UInt8 := [25, 8, 180, 0, 177, 58, 13, 25, 8, 180, 0, 168, 28, 126, 154, 0, 29, 25, 10, 199, 0, 10, 25, 8]
abbrev dktJ5_resize_10 : List UInt8 := dkwJ5_resize_10 ++ dktJ5_resize_11
def dkwJ5_resize_9 : List UInt8 := [42, 25, 6, 21, 7, 28, 182, 0, 211, 167, 0, 127, 1, 58, 9, 1, 58, 10, 1, 58, 11, 1, 58, 12]
abbrev dktJ5_resize_9 : List UInt8 := dkwJ5_resize_9 ++ dktJ5_resize_10
def dkwJ5_resize_8 : List UInt8 := [21, 4, 4, 100, 126, 25, 8, 83, 167, 0, 152, 25, 8, 193, 0, 180, 153, 0, 20, 25, 8, 192, 0, 180]
abbrev dktJ5_resize_8 : List UInt8 := dkwJ5_resize_8 ++ dktJ5_resize_9
def dkwJ5_resize_7 : List UInt8 := [198, 0, 183, 43, 21, 7, 1, 83, 25, 8, 180, 0, 177, 199, 0, 21, 25, 6, 25, 8, 180, 0, 168]
abbrev dktJ5_resize_7 : List UInt8 := dkwJ5_resize_7 ++ dktJ5_resize_8
def dkwJ5_resize_6 : List UInt8 := [181, 0, 105, 43, 198, 0, 208, 3, 54, 7, 21, 7, 28, 162, 0, 199, 43, 21, 7, 50, 89, 58, 8]
abbrev dktJ5_resize_6 : List UInt8 := dkwJ5_resize_6 ++ dktJ5_resize_7
def dkwJ5_resize_5 : List UInt8 := [167, 0, 5, 18, 209, 54, 5, 42, 21, 5, 181, 0, 88, 21, 4, 189, 0, 163, 58, 6, 42, 25, 6]
abbrev dktJ5_resize_5 : List UInt8 := dkwJ5_resize_5 ++ dktJ5_resize_6
def dkwJ5_resize_4 : List UInt8 := [180, 0, 81, 106, 56, 6, 21, 4, 18, 42, 162, 0, 17, 23, 6, 18, 210, 150, 156, 0, 9, 23, 6, 139]
abbrev dktJ5_resize_4 : List UInt8 := dkwJ5_resize_4 ++ dktJ5_resize_5
def dkwJ5_resize_3 : List UInt8 := [54, 4, 167, 0, 11, 16, 16, 54, 4, 16, 12, 54, 5, 21, 5, 154, 0, 38, 21, 4, 134, 42]
abbrev dktJ5_resize_3 : List UInt8 := dkwJ5_resize_3 ++ dktJ5_resize_4
def dkwJ5_resize_2 : List UInt8 := [18, 42, 162, 0, 35, 28, 16, 16, 161, 0, 29, 29, 4, 120, 54, 5, 167, 0, 21, 29, 158, 0, 9, 29]
abbrev dktJ5_resize_2 : List UInt8 := dkwJ5_resize_2 ++ dktJ5_resize_3
def dkwJ5_resize_1 : List UInt8 := [28, 158, 0, 42, 28, 18, 42, 161, 0, 11, 42, 18, 209, 181, 0, 88, 43, 176, 28, 4, 120, 89, 54, 4]
abbrev dktJ5_resize_1 : List UInt8 := dkwJ5_resize_1 ++ dktJ5_resize_2
def dkwJ5_resize_0 : List UInt8 := [42, 180, 0, 105, 76, 43, 199, 0, 7, 3, 167, 0, 5, 43, 190, 61, 42, 180, 0, 88, 62, 3, 54, 5]
abbrev dktJ5_resize_0 : List UInt8 := dkwJ5_resize_0 ++ dktJ5_resize_1
theorem dksJ5_resize_0 : cJ5_resize.data.toList.drop 0 = dktJ5_resize_0 := by decide +kernel
theorem dksJ5_resize_1 : cJ5_resize.data.toList.drop 24 = dktJ5_resize_1 := dk_seg dksJ5_resize_0 24 rfl rfl
theorem dksJ5_resize_2 : cJ5_resize.data.toList.drop 48 = dktJ5_resize_2 := dk_seg dksJ5_resize_1 24 rfl rfl
theorem dksJ5_resize_3 : cJ5_resize.data.toList.drop 72 = dktJ5_resize_3 := dk_seg dksJ5_resize_2 24 rfl rfl
theorem dksJ5_resize_4 : cJ5_resize.data.toList.drop 94 = dktJ5_resize_4 := dk_seg dksJ5_resize_3 22 rfl rfl
theorem dksJ5_resize_5 : cJ5_resize.data.toList.drop 118 = dktJ5_resize_5 := dk_seg dksJ5_resize_4 24 rfl rfl
theorem dksJ5_resize_6 : cJ5_resize.data.toList.drop 141 = dktJ5_resize_6 := dk_seg dksJ5_resize_5 23 rfl rfl
theorem dksJ5_resize_7 : cJ5_resize.data.toList.drop 164 = dktJ5_resize_7 := dk_seg dksJ5_resize_6 23 rfl rfl
theorem dksJ5_resize_8 : cJ5_resize.data.toList.drop 187 = dktJ5_resize_8 := dk_seg dksJ5_resize_7 23 rfl rfl
theorem dksJ5_resize_9 : cJ5_resize.data.toList.drop 211 = dktJ5_resize_9 := dk_seg dksJ5_resize_8 24 rfl rfl
theorem dksJ5_resize_10 : cJ5_resize.data.toList.drop 235 = dktJ5_resize_10 := dk_seg dksJ5_resize_9 24 rfl rfl
theorem dksJ5_resize_11 : cJ5_resize.data.toList.drop 259 = dktJ5_resize_11 := dk_seg dksJ5_resize_10 24 rfl rfl
theorem dksJ5_resize_12 : cJ5_resize.data.toList.drop 283 = dktJ5_resize_12 := dk_seg dksJ5_resize_11 24 rfl rfl
theorem dksJ5_resize_13 : cJ5_resize.data.toList.drop 306 = dktJ5_resize_13 := dk_seg dksJ5_resize_12 23 rfl rfl
theorem dksJ5_resize_14 : cJ5_resize.data.toList.drop 329 = dktJ5_resize_14 := dk_seg dksJ5_resize_13 23 rfl rfl
theorem dksJ5_resize_15 : cJ5_resize.data.toList.drop 353 = dktJ5_resize_15 := dk_seg dksJ5_resize_14 24 rfl rfl
theorem dJ5_resize_0 : decode cJ5_resize 0 = .ok (.aload_n 0, 1) := dk_42 (dk_at dksJ5_resize_0 0 rfl rfl)
theorem dJ5_resize_1 : decode cJ5_resize 1 = .ok (.getfield 105, 3) := dk_180 0 105 (dk_at dksJ5_resize_0 1 rfl rfl)
theorem dJ5_resize_4 : decode cJ5_resize 4 = .ok (.astore_n 1, 1) := dk_76 (dk_at dksJ5_resize_0 4 rfl rfl)
theorem dJ5_resize_5 : decode cJ5_resize 5 = .ok (.aload_n 1, 1) := dk_43 (dk_at dksJ5_resize_0 5 rfl rfl)
theorem dJ5_resize_6 : decode cJ5_resize 6 = .ok (.ifnonnull 7, 3) := dk_199 0 7 (dk_at dksJ5_resize_0 6 rfl rfl)
theorem dJ5_resize_9 : decode cJ5_resize 9 = .ok (.iconst 0, 1) := dk_3 (dk_at dksJ5_resize_0 9 rfl rfl)
theorem dJ5_resize_10 : decode cJ5_resize 10 = .ok (.goto 5, 3) := dk_167 0 5 (dk_at dksJ5_resize_0 10 rfl rfl)
theorem dJ5_resize_13 : decode cJ5_resize 13 = .ok (.aload_n 1, 1) := dk_43 (dk_at dksJ5_resize_0 13 rfl rfl)
theorem dJ5_resize_14 : decode cJ5_resize 14 = .ok (.arraylength, 1) := dk_190 (dk_at dksJ5_resize_0 14 rfl rfl)
theorem dJ5_resize_15 : decode cJ5_resize 15 = .ok (.istore_n 2, 1) := dk_61 (dk_at dksJ5_resize_0 15 rfl rfl)
theorem dJ5_resize_16 : decode cJ5_resize 16 = .ok (.aload_n 0, 1) := dk_42 (dk_at dksJ5_resize_0 16 rfl rfl)
theorem dJ5_resize_17 : decode cJ5_resize 17 = .ok (.getfield 88, 3) := dk_180 0 88 (dk_at dksJ5_resize_0 17 rfl rfl)
theorem dJ5_resize_20 : decode cJ5_resize 20 = .ok (.istore_n 3, 1) := dk_62 (dk_at dksJ5_resize_0 20 rfl rfl)
theorem dJ5_resize_21 : decode cJ5_resize 21 = .ok (.iconst 0, 1) := dk_3 (dk_at dksJ5_resize_0 21 rfl rfl)
theorem dJ5_resize_22 : decode cJ5_resize 22 = .ok (.istore 5, 2) := dk_54 5 (dk_at dksJ5_resize_0 22 rfl rfl)
theorem dJ5_resize_24 : decode cJ5_resize 24 = .ok (.iload_n 2, 1) := dk_28 (dk_at dksJ5_resize_1 0 rfl rfl)
theorem dJ5_resize_25 : decode cJ5_resize 25 = .ok (.ifCond .le 42, 3) := dk_158 0 42 (dk_at dksJ5_resize_1 1 rfl rfl)
theorem dJ5_resize_28 : decode cJ5_resize 28 = .ok (.iload_n 2, 1) := dk_28 (dk_at dksJ5_resize_1 4 rfl rfl)
theorem dJ5_resize_29 : decode cJ5_resize 29 = .ok (.ldc 42, 2) := dk_18 42 (dk_at dksJ5_resize_1 5 rfl rfl)
theorem dJ5_resize_31 : decode cJ5_resize 31 = .ok (.if_icmp .lt 11, 3) := dk_161 0 11 (dk_at dksJ5_resize_1 7 rfl rfl)
theorem dJ5_resize_34 : decode cJ5_resize 34 = .ok (.aload_n 0, 1) := dk_42 (dk_at dksJ5_resize_1 10 rfl rfl)
theorem dJ5_resize_35 : decode cJ5_resize 35 = .ok (.ldc 209, 2) := dk_18 209 (dk_at dksJ5_resize_1 11 rfl rfl)
theorem dJ5_resize_37 : decode cJ5_resize 37 = .ok (.putfield 88, 3) := dk_181 0 88 (dk_at dksJ5_resize_1 13 rfl rfl)
theorem dJ5_resize_40 : decode cJ5_resize 40 = .ok (.aload_n 1, 1) := dk_43 (dk_at dksJ5_resize_1 16 rfl rfl)
theorem dJ5_resize_41 : decode cJ5_resize 41 = .ok (.areturn, 1) := dk_176 (dk_at dksJ5_resize_1 17 rfl rfl)
theorem dJ5_resize_42 : decode cJ5_resize 42 = .ok (.iload_n 2, 1) := dk_28 (dk_at dksJ5_resize_1 18 rfl rfl)
theorem dJ5_resize_43 : decode cJ5_resize 43 = .ok (.iconst 1, 1) := dk_4 (dk_at dksJ5_resize_1 19 rfl rfl)
theorem dJ5_resize_44 : decode cJ5_resize 44 = .ok (.ishl, 1) := dk_120 (dk_at dksJ5_resize_1 20 rfl rfl)
theorem dJ5_resize_45 : decode cJ5_resize 45 = .ok (.dup, 1) := dk_89 (dk_at dksJ5_resize_1 21 rfl rfl)
theorem dJ5_resize_46 : decode cJ5_resize 46 = .ok (.istore 4, 2) := dk_54 4 (dk_at dksJ5_resize_1 22 rfl rfl)
theorem dJ5_resize_48 : decode cJ5_resize 48 = .ok (.ldc 42, 2) := dk_18 42 (dk_at dksJ5_resize_2 0 rfl rfl)
theorem dJ5_resize_50 : decode cJ5_resize 50 = .ok (.if_icmp .ge 35, 3) := dk_162 0 35 (dk_at dksJ5_resize_2 2 rfl rfl)
theorem dJ5_resize_53 : decode cJ5_resize 53 = .ok (.iload_n 2, 1) := dk_28 (dk_at dksJ5_resize_2 5 rfl rfl)
theorem dJ5_resize_54 : decode cJ5_resize 54 = .ok (.bipush 16, 2) := dk_16 16 (dk_at dksJ5_resize_2 6 rfl rfl)
theorem dJ5_resize_56 : decode cJ5_resize 56 = .ok (.if_icmp .lt 29, 3) := dk_161 0 29 (dk_at dksJ5_resize_2 8 rfl rfl)
theorem dJ5_resize_59 : decode cJ5_resize 59 = .ok (.iload_n 3, 1) := dk_29 (dk_at dksJ5_resize_2 11 rfl rfl)
theorem dJ5_resize_60 : decode cJ5_resize 60 = .ok (.iconst 1, 1) := dk_4 (dk_at dksJ5_resize_2 12 rfl rfl)
theorem dJ5_resize_61 : decode cJ5_resize 61 = .ok (.ishl, 1) := dk_120 (dk_at dksJ5_resize_2 13 rfl rfl)
theorem dJ5_resize_62 : decode cJ5_resize 62 = .ok (.istore 5, 2) := dk_54 5 (dk_at dksJ5_resize_2 14 rfl rfl)
theorem dJ5_resize_64 : decode cJ5_resize 64 = .ok (.goto 21, 3) := dk_167 0 21 (dk_at dksJ5_resize_2 16 rfl rfl)
theorem dJ5_resize_67 : decode cJ5_resize 67 = .ok (.iload_n 3, 1) := dk_29 (dk_at dksJ5_resize_2 19 rfl rfl)
theorem dJ5_resize_68 : decode cJ5_resize 68 = .ok (.ifCond .le 9, 3) := dk_158 0 9 (dk_at dksJ5_resize_2 20 rfl rfl)
theorem dJ5_resize_71 : decode cJ5_resize 71 = .ok (.iload_n 3, 1) := dk_29 (dk_at dksJ5_resize_2 23 rfl rfl)
theorem dJ5_resize_72 : decode cJ5_resize 72 = .ok (.istore 4, 2) := dk_54 4 (dk_at dksJ5_resize_3 0 rfl rfl)
theorem dJ5_resize_74 : decode cJ5_resize 74 = .ok (.goto 11, 3) := dk_167 0 11 (dk_at dksJ5_resize_3 2 rfl rfl)
theorem dJ5_resize_77 : decode cJ5_resize 77 = .ok (.bipush 16, 2) := dk_16 16 (dk_at dksJ5_resize_3 5 rfl rfl)
theorem dJ5_resize_79 : decode cJ5_resize 79 = .ok (.istore 4, 2) := dk_54 4 (dk_at dksJ5_resize_3 7 rfl rfl)
theorem dJ5_resize_81 : decode cJ5_resize 81 = .ok (.bipush 12, 2) := dk_16 12 (dk_at dksJ5_resize_3 9 rfl rfl)
theorem dJ5_resize_83 : decode cJ5_resize 83 = .ok (.istore 5, 2) := dk_54 5 (dk_at dksJ5_resize_3 11 rfl rfl)
theorem dJ5_resize_85 : decode cJ5_resize 85 = .ok (.iload 5, 2) := dk_21 5 (dk_at dksJ5_resize_3 13 rfl rfl)
theorem dJ5_resize_87 : decode cJ5_resize 87 = .ok (.ifCond .ne 38, 3) := dk_154 0 38 (dk_at dksJ5_resize_3 15 rfl rfl)
theorem dJ5_resize_90 : decode cJ5_resize 90 = .ok (.iload 4, 2) := dk_21 4 (dk_at dksJ5_resize_3 18 rfl rfl)
theorem dJ5_resize_92 : decode cJ5_resize 92 = .ok (.i2f, 1) := dk_134 (dk_at dksJ5_resize_3 20 rfl rfl)
theorem dJ5_resize_93 : decode cJ5_resize 93 = .ok (.aload_n 0, 1) := dk_42 (dk_at dksJ5_resize_3 21 rfl rfl)
theorem dJ5_resize_94 : decode cJ5_resize 94 = .ok (.getfield 81, 3) := dk_180 0 81 (dk_at dksJ5_resize_4 0 rfl rfl)
theorem dJ5_resize_97 : decode cJ5_resize 97 = .ok (.fmul, 1) := dk_106 (dk_at dksJ5_resize_4 3 rfl rfl)
theorem dJ5_resize_98 : decode cJ5_resize 98 = .ok (.fstore 6, 2) := dk_56 6 (dk_at dksJ5_resize_4 4 rfl rfl)
theorem dJ5_resize_100 : decode cJ5_resize 100 = .ok (.iload 4, 2) := dk_21 4 (dk_at dksJ5_resize_4 6 rfl rfl)
theorem dJ5_resize_102 : decode cJ5_resize 102 = .ok (.ldc 42, 2) := dk_18 42 (dk_at dksJ5_resize_4 8 rfl rfl)
theorem dJ5_resize_104 : decode cJ5_resize 104 = .ok (.if_icmp .ge 17, 3) := dk_162 0 17 (dk_at dksJ5_resize_4 10 rfl rfl)
theorem dJ5_resize_107 : decode cJ5_resize 107 = .ok (.fload 6, 2) := dk_23 6 (dk_at dksJ5_resize_4 13 rfl rfl)
theorem dJ5_resize_109 : decode cJ5_resize 109 = .ok (.ldc 210, 2) := dk_18 210 (dk_at dksJ5_resize_4 15 rfl rfl)
theorem dJ5_resize_111 : decode cJ5_resize 111 = .ok (.fcmp .g, 1) := dk_150 (dk_at dksJ5_resize_4 17 rfl rfl)
theorem dJ5_resize_112 : decode cJ5_resize 112 = .ok (.ifCond .ge 9, 3) := dk_156 0 9 (dk_at dksJ5_resize_4 18 rfl rfl)
theorem dJ5_resize_115 : decode cJ5_resize 115 = .ok (.fload 6, 2) := dk_23 6 (dk_at dksJ5_resize_4 21 rfl rfl)
theorem dJ5_resize_117 : decode cJ5_resize 117 = .ok (.f2i, 1) := dk_139 (dk_at dksJ5_resize_4 23 rfl rfl)
theorem dJ5_resize_118 : decode cJ5_resize 118 = .ok (.goto 5, 3) := dk_167 0 5 (dk_at dksJ5_resize_5 0 rfl rfl)
theorem dJ5_resize_121 : decode cJ5_resize 121 = .ok (.ldc 209, 2) := dk_18 209 (dk_at dksJ5_resize_5 3 rfl rfl)
theorem dJ5_resize_123 : decode cJ5_resize 123 = .ok (.istore 5, 2) := dk_54 5 (dk_at dksJ5_resize_5 5 rfl rfl)
theorem dJ5_resize_125 : decode cJ5_resize 125 = .ok (.aload_n 0, 1) := dk_42 (dk_at dksJ5_resize_5 7 rfl rfl)
theorem dJ5_resize_126 : decode cJ5_resize 126 = .ok (.iload 5, 2) := dk_21 5 (dk_at dksJ5_resize_5 8 rfl rfl)
theorem dJ5_resize_128 : decode cJ5_resize 128 = .ok (.putfield 88, 3) := dk_181 0 88 (dk_at dksJ5_resize_5 10 rfl rfl)
theorem dJ5_resize_131 : decode cJ5_resize 131 = .ok (.iload 4, 2) := dk_21 4 (dk_at dksJ5_resize_5 13 rfl rfl)
theorem dJ5_resize_133 : decode cJ5_resize 133 = .ok (.anewarray 163, 3) := dk_189 0 163 (dk_at dksJ5_resize_5 15 rfl rfl)
theorem dJ5_resize_136 : decode cJ5_resize 136 = .ok (.astore 6, 2) := dk_58 6 (dk_at dksJ5_resize_5 18 rfl rfl)
theorem dJ5_resize_138 : decode cJ5_resize 138 = .ok (.aload_n 0, 1) := dk_42 (dk_at dksJ5_resize_5 20 rfl rfl)
theorem dJ5_resize_139 : decode cJ5_resize 139 = .ok (.aload 6, 2) := dk_25 6 (dk_at dksJ5_resize_5 21 rfl rfl)
theorem dJ5_resize_141 : decode cJ5_resize 141 = .ok (.putfield 105, 3) := dk_181 0 105 (dk_at dksJ5_resize_6 0 rfl rfl)
theorem dJ5_resize_144 : decode cJ5_resize 144 = .ok (.aload_n 1, 1) := dk_43 (dk_at dksJ5_resize_6 3 rfl rfl)
theorem dJ5_resize_145 : decode cJ5_resize 145 = .ok (.ifnull 208, 3) := dk_198 0 208 (dk_at dksJ5_resize_6 4 rfl rfl)
theorem dJ5_resize_148 : decode cJ5_resize 148 = .ok (.iconst 0, 1) := dk_3 (dk_at dksJ5_resize_6 7 rfl rfl)
theorem dJ5_resize_149 : decode cJ5_resize 149 = .ok (.istore 7, 2) := dk_54 7 (dk_at dksJ5_resize_6 8 rfl rfl)
theorem dJ5_resize_151 : decode cJ5_resize 151 = .ok (.iload 7, 2) := dk_21 7 (dk_at dksJ5_resize_6 10 rfl rfl)
theorem dJ5_resize_153 : decode cJ5_resize 153 = .ok (.iload_n 2, 1) := dk_28 (dk_at dksJ5_resize_6 12 rfl rfl)
theorem dJ5_resize_154 : decode cJ5_resize 154 = .ok (.if_icmp .ge 199, 3) := dk_162 0 199 (dk_at dksJ5_resize_6 13 rfl rfl)
theorem dJ5_resize_157 : decode cJ5_resize 157 = .ok (.aload_n 1, 1) := dk_43 (dk_at dksJ5_resize_6 16 rfl rfl)
theorem dJ5_resize_158 : decode cJ5_resize 158 = .ok (.iload 7, 2) := dk_21 7 (dk_at dksJ5_resize_6 17 rfl rfl)
theorem dJ5_resize_160 : decode cJ5_resize 160 = .ok (.aaload, 1) := dk_50 (dk_at dksJ5_resize_6 19 rfl rfl)
theorem dJ5_resize_161 : decode cJ5_resize 161 = .ok (.dup, 1) := dk_89 (dk_at dksJ5_resize_6 20 rfl rfl)
theorem dJ5_resize_162 : decode cJ5_resize 162 = .ok (.astore 8, 2) := dk_58 8 (dk_at dksJ5_resize_6 21 rfl rfl)
theorem dJ5_resize_164 : decode cJ5_resize 164 = .ok (.ifnull 183, 3) := dk_198 0 183 (dk_at dksJ5_resize_7 0 rfl rfl)
theorem dJ5_resize_167 : decode cJ5_resize 167 = .ok (.aload_n 1, 1) := dk_43 (dk_at dksJ5_resize_7 3 rfl rfl)
theorem dJ5_resize_168 : decode cJ5_resize 168 = .ok (.iload 7, 2) := dk_21 7 (dk_at dksJ5_resize_7 4 rfl rfl)
theorem dJ5_resize_170 : decode cJ5_resize 170 = .ok (.aconst_null, 1) := dk_1 (dk_at dksJ5_resize_7 6 rfl rfl)
theorem dJ5_resize_171 : decode cJ5_resize 171 = .ok (.aastore, 1) := dk_83 (dk_at dksJ5_resize_7 7 rfl rfl)
theorem dJ5_resize_172 : decode cJ5_resize 172 = .ok (.aload 8, 2) := dk_25 8 (dk_at dksJ5_resize_7 8 rfl rfl)
theorem dJ5_resize_174 : decode cJ5_resize 174 = .ok (.getfield 177, 3) := dk_180 0 177 (dk_at dksJ5_resize_7 10 rfl rfl)
theorem dJ5_resize_177 : decode cJ5_resize 177 = .ok (.ifnonnull 21, 3) := dk_199 0 21 (dk_at dksJ5_resize_7 13 rfl rfl)
theorem dJ5_resize_180 : decode cJ5_resize 180 = .ok (.aload 6, 2) := dk_25 6 (dk_at dksJ5_resize_7 16 rfl rfl)
theorem dJ5_resize_182 : decode cJ5_resize 182 = .ok (.aload 8, 2) := dk_25 8 (dk_at dksJ5_resize_7 18 rfl rfl)
theorem dJ5_resize_184 : decode cJ5_resize 184 = .ok (.getfield 168, 3) := dk_180 0 168 (dk_at dksJ5_resize_7 20 rfl rfl)
theorem dJ5_resize_187 : decode cJ5_resize 187 = .ok (.iload 4, 2) := dk_21 4 (dk_at dksJ5_resize_8 0 rfl rfl)
theorem dJ5_resize_189 : decode cJ5_resize 189 = .ok (.iconst 1, 1) := dk_4 (dk_at dksJ5_resize_8 2 rfl rfl)
theorem dJ5_resize_190 : decode cJ5_resize 190 = .ok (.isub, 1) := dk_100 (dk_at dksJ5_resize_8 3 rfl rfl)
theorem dJ5_resize_191 : decode cJ5_resize 191 = .ok (.iand, 1) := dk_126 (dk_at dksJ5_resize_8 4 rfl rfl)
theorem dJ5_resize_192 : decode cJ5_resize 192 = .ok (.aload 8, 2) := dk_25 8 (dk_at dksJ5_resize_8 5 rfl rfl)
theorem dJ5_resize_194 : decode cJ5_resize 194 = .ok (.aastore, 1) := dk_83 (dk_at dksJ5_resize_8 7 rfl rfl)
theorem dJ5_resize_195 : decode cJ5_resize 195 = .ok (.goto 152, 3) := dk_167 0 152 (dk_at dksJ5_resize_8 8 rfl rfl)
theorem dJ5_resize_198 : decode cJ5_resize 198 = .ok (.aload 8, 2) := dk_25 8 (dk_at dksJ5_resize_8 11 rfl rfl)
theorem dJ5_resize_200 : decode cJ5_resize 200 = .ok (.instanceof 180, 3) := dk_193 0 180 (dk_at dksJ5_resize_8 13 rfl rfl)
theorem dJ5_resize_203 : decode cJ5_resize 203 = .ok (.ifCond .eq 20, 3) := dk_153 0 20 (dk_at dksJ5_resize_8 16 rfl rfl)
theorem dJ5_resize_206 : decode cJ5_resize 206 = .ok (.aload 8, 2) := dk_25 8 (dk_at dksJ5_resize_8 19 rfl rfl)
theorem dJ5_resize_208 : decode cJ5_resize 208 = .ok (.checkcast 180, 3) := dk_192 0 180 (dk_at dksJ5_resize_8 21 rfl rfl)
theorem dJ5_resize_211 : decode cJ5_resize 211 = .ok (.aload_n 0, 1) := dk_42 (dk_at dksJ5_resize_9 0 rfl rfl)
theorem dJ5_resize_212 : decode cJ5_resize 212 = .ok (.aload 6, 2) := dk_25 6 (dk_at dksJ5_resize_9 1 rfl rfl)
theorem dJ5_resize_214 : decode cJ5_resize 214 = .ok (.iload 7, 2) := dk_21 7 (dk_at dksJ5_resize_9 3 rfl rfl)
theorem dJ5_resize_216 : decode cJ5_resize 216 = .ok (.iload_n 2, 1) := dk_28 (dk_at dksJ5_resize_9 5 rfl rfl)
theorem dJ5_resize_217 : decode cJ5_resize 217 = .ok (.invokevirtual 211, 3) := dk_182 0 211 (dk_at dksJ5_resize_9 6 rfl rfl)
theorem dJ5_resize_220 : decode cJ5_resize 220 = .ok (.goto 127, 3) := dk_167 0 127 (dk_at dksJ5_resize_9 9 rfl rfl)
theorem dJ5_resize_223 : decode cJ5_resize 223 = .ok (.aconst_null, 1) := dk_1 (dk_at dksJ5_resize_9 12 rfl rfl)
theorem dJ5_resize_224 : decode cJ5_resize 224 = .ok (.astore 9, 2) := dk_58 9 (dk_at dksJ5_resize_9 13 rfl rfl)
theorem dJ5_resize_226 : decode cJ5_resize 226 = .ok (.aconst_null, 1) := dk_1 (dk_at dksJ5_resize_9 15 rfl rfl)
theorem dJ5_resize_227 : decode cJ5_resize 227 = .ok (.astore 10, 2) := dk_58 10 (dk_at dksJ5_resize_9 16 rfl rfl)
theorem dJ5_resize_229 : decode cJ5_resize 229 = .ok (.aconst_null, 1) := dk_1 (dk_at dksJ5_resize_9 18 rfl rfl)
theorem dJ5_resize_230 : decode cJ5_resize 230 = .ok (.astore 11, 2) := dk_58 11 (dk_at dksJ5_resize_9 19 rfl rfl)
theorem dJ5_resize_232 : decode cJ5_resize 232 = .ok (.aconst_null, 1) := dk_1 (dk_at dksJ5_resize_9 21 rfl rfl)
theorem dJ5_resize_233 : decode cJ5_resize 233 = .ok (.astore 12, 2) := dk_58 12 (dk_at dksJ5_resize_9 22 rfl rfl)
theorem dJ5_resize_235 : decode cJ5_resize 235 = .ok (.aload 8, 2) := dk_25 8 (dk_at dksJ5_resize_10 0 rfl rfl)
theorem dJ5_resize_237 : decode cJ5_resize 237 = .ok (.getfield 177, 3) := dk_180 0 177 (dk_at dksJ5_resize_10 2 rfl rfl)
theorem dJ5_resize_240 : decode cJ5_resize 240 = .ok (.astore 13, 2) := dk_58 13 (dk_at dksJ5_resize_10 5 rfl rfl)
theorem dJ5_resize_242 : decode cJ5_resize 242 = .ok (.aload 8, 2) := dk_25 8 (dk_at dksJ5_resize_10 7 rfl rfl)
theorem dJ5_resize_244 : decode cJ5_resize 244 = .ok (.getfield 168, 3) := dk_180 0 168 (dk_at dksJ5_resize_10 9 rfl rfl)
theorem dJ5_resize_247 : decode cJ5_resize 247 = .ok (.iload_n 2, 1) := dk_28 (dk_at dksJ5_resize_10 12 rfl rfl)
theorem dJ5_resize_248 : decode cJ5_resize 248 = .ok (.iand, 1) := dk_126 (dk_at dksJ5_resize_10 13 rfl rfl)
theorem dJ5_resize_249 : decode cJ5_resize 249 = .ok (.ifCond .ne 29, 3) := dk_154 0 29 (dk_at dksJ5_resize_10 14 rfl rfl)
theorem dJ5_resize_252 : decode cJ5_resize 252 = .ok (.aload 10, 2) := dk_25 10 (dk_at dksJ5_resize_10 17 rfl rfl)
theorem dJ5_resize_254 : decode cJ5_resize 254 = .ok (.ifnonnull 10, 3) := dk_199 0 10 (dk_at dksJ5_resize_10 19 rfl rfl)
theorem dJ5_resize_257 : decode cJ5_resize 257 = .ok (.aload 8, 2) := dk_25 8 (dk_at dksJ5_resize_10 22 rfl rfl)
theorem dJ5_resize_259 : decode cJ5_resize 259 = .ok (.astore 9, 2) := dk_58 9 (dk_at dksJ5_resize_11 0 rfl rfl)
theorem dJ5_resize_261 : decode cJ5_resize 261 = .ok (.goto 10, 3) := dk_167 0 10 (dk_at dksJ5_resize_11 2 rfl rfl)
theorem dJ5_resize_264 : decode cJ5_resize 264 = .ok (.aload 10, 2) := dk_25 10 (dk_at dksJ5_resize_11 5 rfl rfl)
theorem dJ5_resize_266 : decode cJ5_resize 266 = .ok (.aload 8, 2) := dk_25 8 (dk_at dksJ5_resize_11 7 rfl rfl)
theorem dJ5_resize_268 : decode cJ5_resize 268 = .ok (.putfield 177, 3) := dk_181 0 177 (dk_at dksJ5_resize_11 9 rfl rfl)
theorem dJ5_resize_271 : decode cJ5_resize 271 = .ok (.aload 8, 2) := dk_25 8 (dk_at dksJ5_resize_11 12 rfl rfl)
theorem dJ5_resize_273 : decode cJ5_resize 273 = .ok (.astore 10, 2) := dk_58 10 (dk_at dksJ5_resize_11 14 rfl rfl)
theorem dJ5_resize_275 : decode cJ5_resize 275 = .ok (.goto 26, 3) := dk_167 0 26 (dk_at dksJ5_resize_11 16 rfl rfl)
theorem dJ5_resize_278 : decode cJ5_resize 278 = .ok (.aload 12, 2) := dk_25 12 (dk_at dksJ5_resize_11 19 rfl rfl)
theorem dJ5_resize_280 : decode cJ5_resize 280 = .ok (.ifnonnull 10, 3) := dk_199 0 10 (dk_at dksJ5_resize_11 21 rfl rfl)
theorem dJ5_resize_283 : decode cJ5_resize 283 = .ok (.aload 8, 2) := dk_25 8 (dk_at dksJ5_resize_12 0 rfl rfl)
theorem dJ5_resize_285 : decode cJ5_resize 285 = .ok (.astore 11, 2) := dk_58 11 (dk_at dksJ5_resize_12 2 rfl rfl)
theorem dJ5_resize_287 : decode cJ5_resize 287 = .ok (.goto 10, 3) := dk_167 0 10 (dk_at dksJ5_resize_12 4 rfl rfl)
theorem dJ5_resize_290 : decode cJ5_resize 290 = .ok (.aload 12, 2) := dk_25 12 (dk_at dksJ5_resize_12 7 rfl rfl)
theorem dJ5_resize_292 : decode cJ5_resize 292 = .ok (.aload 8, 2) := dk_25 8 (dk_at dksJ5_resize_12 9 rfl rfl)
theorem dJ5_resize_294 : decode cJ5_resize 294 = .ok (.putfield 177, 3) := dk_181 0 177 (dk_at dksJ5_resize_12 11 rfl rfl)
theorem dJ5_resize_297 : decode cJ5_resize 297 = .ok (.aload 8, 2) := dk_25 8 (dk_at dksJ5_resize_12 14 rfl rfl)
theorem dJ5_resize_299 : decode cJ5_resize 299 = .ok (.astore 12, 2) := dk_58 12 (dk_at dksJ5_resize_12 16 rfl rfl)
theorem dJ5_resize_301 : decode cJ5_resize 301 = .ok (.aload 13, 2) := dk_25 13 (dk_at dksJ5_resize_12 18 rfl rfl)
theorem dJ5_resize_303 : decode cJ5_resize 303 = .ok (.dup, 1) := dk_89 (dk_at dksJ5_resize_12 20 rfl rfl)
theorem dJ5_resize_304 : decode cJ5_resize 304 = .ok (.astore 8, 2) := dk_58 8 (dk_at dksJ5_resize_12 21 rfl rfl)
theorem dJ5_resize_306 : decode cJ5_resize 306 = .ok (.ifnonnull (-71), 3) := dk_199 255 185 (dk_at dksJ5_resize_13 0 rfl rfl)
theorem dJ5_resize_309 : decode cJ5_resize 309 = .ok (.aload 10, 2) := dk_25 10 (dk_at dksJ5_resize_13 3 rfl rfl)
theorem dJ5_resize_311 : decode cJ5_resize 311 = .ok (.ifnull 16, 3) := dk_198 0 16 (dk_at dksJ5_resize_13 5 rfl rfl)
theorem dJ5_resize_314 : decode cJ5_resize 314 = .ok (.aload 10, 2) := dk_25 10 (dk_at dksJ5_resize_13 8 rfl rfl)
theorem dJ5_resize_316 : decode cJ5_resize 316 = .ok (.aconst_null, 1) := dk_1 (dk_at dksJ5_resize_13 10 rfl rfl)
theorem dJ5_resize_317 : decode cJ5_resize 317 = .ok (.putfield 177, 3) := dk_181 0 177 (dk_at dksJ5_resize_13 11 rfl rfl)
theorem dJ5_resize_320 : decode cJ5_resize 320 = .ok (.aload 6, 2) := dk_25 6 (dk_at dksJ5_resize_13 14 rfl rfl)
theorem dJ5_resize_322 : decode cJ5_resize 322 = .ok (.iload 7, 2) := dk_21 7 (dk_at dksJ5_resize_13 16 rfl rfl)
theorem dJ5_resize_324 : decode cJ5_resize 324 = .ok (.aload 9, 2) := dk_25 9 (dk_at dksJ5_resize_13 18 rfl rfl)
theorem dJ5_resize_326 : decode cJ5_resize 326 = .ok (.aastore, 1) := dk_83 (dk_at dksJ5_resize_13 20 rfl rfl)
theorem dJ5_resize_327 : decode cJ5_resize 327 = .ok (.aload 12, 2) := dk_25 12 (dk_at dksJ5_resize_13 21 rfl rfl)
theorem dJ5_resize_329 : decode cJ5_resize 329 = .ok (.ifnull 18, 3) := dk_198 0 18 (dk_at dksJ5_resize_14 0 rfl rfl)
theorem dJ5_resize_332 : decode cJ5_resize 332 = .ok (.aload 12, 2) := dk_25 12 (dk_at dksJ5_resize_14 3 rfl rfl)
theorem dJ5_resize_334 : decode cJ5_resize 334 = .ok (.aconst_null, 1) := dk_1 (dk_at dksJ5_resize_14 5 rfl rfl)
theorem dJ5_resize_335 : decode cJ5_resize 335 = .ok (.putfield 177, 3) := dk_181 0 177 (dk_at dksJ5_resize_14 6 rfl rfl)
theorem dJ5_resize_338 : decode cJ5_resize 338 = .ok (.aload 6, 2) := dk_25 6 (dk_at dksJ5_resize_14 9 rfl rfl)
theorem dJ5_resize_340 : decode cJ5_resize 340 = .ok (.iload 7, 2) := dk_21 7 (dk_at dksJ5_resize_14 11 rfl rfl)
theorem dJ5_resize_342 : decode cJ5_resize 342 = .ok (.iload_n 2, 1) := dk_28 (dk_at dksJ5_resize_14 13 rfl rfl)
theorem dJ5_resize_343 : decode cJ5_resize 343 = .ok (.iadd, 1) := dk_96 (dk_at dksJ5_resize_14 14 rfl rfl)
theorem dJ5_resize_344 : decode cJ5_resize 344 = .ok (.aload 11, 2) := dk_25 11 (dk_at dksJ5_resize_14 15 rfl rfl)
theorem dJ5_resize_346 : decode cJ5_resize 346 = .ok (.aastore, 1) := dk_83 (dk_at dksJ5_resize_14 17 rfl rfl)
theorem dJ5_resize_347 : decode cJ5_resize 347 = .ok (.iinc 7 1, 3) := dk_132 7 1 (dk_at dksJ5_resize_14 18 rfl rfl)
theorem dJ5_resize_350 : decode cJ5_resize 350 = .ok (.goto (-199), 3) := dk_167 255 57 (dk_at dksJ5_resize_14 21 rfl rfl)
theorem dJ5_resize_353 : decode cJ5_resize 353 = .ok (.aload 6, 2) := dk_25 6 (dk_at dksJ5_resize_15 0 rfl rfl)
theorem dJ5_resize_355 : decode cJ5_resize 355 = .ok (.areturn, 1) := dk_176 (dk_at dksJ5_resize_15 2 rfl rfl)
abbrev cJ5_replacementNode : ByteArray := prog_59_method_47_code
def yJ5_replacementNode : MethodName := ⟨RJ5, "replacementNode", "(Ljava/util/HashMap$Node;Ljava/util/HashMap$Node;)Ljava/util/HashMap$Node;"⟩
def dkwJ5_replacementNode_0 : List UInt8 := [187, 0, 163, 89, 43, 180, 0, 168, 43, 180, 0, 170, 43, 180, 0, 162, 44, 183, 1, 119, 176]
abbrev dktJ5_replacementNode_0 : List UInt8 := dkwJ5_replacementNode_0 ++ []
theorem dksJ5_replacementNode_0 : cJ5_replacementNode.data.toList.drop 0 = dktJ5_replacementNode_0 := by decide +kernel
theorem dJ5_replacementNode_0 : decode cJ5_replacementNode 0 = .ok (.new 163, 3) := dk_187 0 163 (dk_at dksJ5_replacementNode_0 0 rfl rfl)
theorem dJ5_replacementNode_3 : decode cJ5_replacementNode 3 = .ok (.dup, 1) := dk_89 (dk_at dksJ5_replacementNode_0 3 rfl rfl)
theorem dJ5_replacementNode_4 : decode cJ5_replacementNode 4 = .ok (.aload_n 1, 1) := dk_43 (dk_at dksJ5_replacementNode_0 4 rfl rfl)
theorem dJ5_replacementNode_5 : decode cJ5_replacementNode 5 = .ok (.getfield 168, 3) := dk_180 0 168 (dk_at dksJ5_replacementNode_0 5 rfl rfl)
theorem dJ5_replacementNode_8 : decode cJ5_replacementNode 8 = .ok (.aload_n 1, 1) := dk_43 (dk_at dksJ5_replacementNode_0 8 rfl rfl)
theorem dJ5_replacementNode_9 : decode cJ5_replacementNode 9 = .ok (.getfield 170, 3) := dk_180 0 170 (dk_at dksJ5_replacementNode_0 9 rfl rfl)
theorem dJ5_replacementNode_12 : decode cJ5_replacementNode 12 = .ok (.aload_n 1, 1) := dk_43 (dk_at dksJ5_replacementNode_0 12 rfl rfl)
theorem dJ5_replacementNode_13 : decode cJ5_replacementNode 13 = .ok (.getfield 162, 3) := dk_180 0 162 (dk_at dksJ5_replacementNode_0 13 rfl rfl)
theorem dJ5_replacementNode_16 : decode cJ5_replacementNode 16 = .ok (.aload_n 2, 1) := dk_44 (dk_at dksJ5_replacementNode_0 16 rfl rfl)
theorem dJ5_replacementNode_17 : decode cJ5_replacementNode 17 = .ok (.invokespecial 375, 3) := dk_183 1 119 (dk_at dksJ5_replacementNode_0 17 rfl rfl)
theorem dJ5_replacementNode_20 : decode cJ5_replacementNode 20 = .ok (.areturn, 1) := dk_176 (dk_at dksJ5_replacementNode_0 20 rfl rfl)
abbrev cJ5_comparableClassFor : ByteArray := prog_59_method_2_code
def yJ5_comparableClassFor : MethodName := ⟨RJ5, "comparableClassFor", "(Ljava/lang/Object;)Ljava/lang/Class;"⟩
def dkwJ5_comparableClassFor_4 : List UInt8 := [4, 160, 0, 12, 45, 3, 50, 43, 166, 0, 5, 43, 176, 132, 7, 1, 167, 255, 186, 1, 176]
abbrev dktJ5_comparableClassFor_4 : List UInt8 := dkwJ5_comparableClassFor_4 ++ []
def dkwJ5_comparableClassFor_3 : List UInt8 := [185, 0, 23, 1, 0, 18, 7, 166, 0, 30, 25, 4, 185, 0, 27, 1, 0, 89, 78, 198, 0, 18, 45, 190]
abbrev dktJ5_comparableClassFor_3 : List UInt8 := dkwJ5_comparableClassFor_3 ++ dktJ5_comparableClassFor_4
def dkwJ5_comparableClassFor_2 : List UInt8 := [25, 5, 21, 7, 50, 58, 8, 25, 8, 193, 0, 21, 153, 0, 48, 25, 8, 192, 0, 21, 89, 58, 4]
abbrev dktJ5_comparableClassFor_2 : List UInt8 := dkwJ5_comparableClassFor_2 ++ dktJ5_comparableClassFor_3
def dkwJ5_comparableClassFor_1 : List UInt8 := [89, 77, 198, 0, 87, 44, 58, 5, 25, 5, 190, 54, 6, 3, 54, 7, 21, 7, 21, 6, 162, 0, 69]
abbrev dktJ5_comparableClassFor_1 : List UInt8 := dkwJ5_comparableClassFor_1 ++ dktJ5_comparableClassFor_2
def dkwJ5_comparableClassFor_0 : List UInt8 := [42, 193, 0, 7, 153, 0, 109, 42, 182, 0, 9, 89, 76, 18, 13, 166, 0, 5, 43, 176, 43, 182, 0, 15]
abbrev dktJ5_comparableClassFor_0 : List UInt8 := dkwJ5_comparableClassFor_0 ++ dktJ5_comparableClassFor_1
theorem dksJ5_comparableClassFor_0 : cJ5_comparableClassFor.data.toList.drop 0 = dktJ5_comparableClassFor_0 := by decide +kernel
theorem dksJ5_comparableClassFor_1 : cJ5_comparableClassFor.data.toList.drop 24 = dktJ5_comparableClassFor_1 := dk_seg dksJ5_comparableClassFor_0 24 rfl rfl
theorem dksJ5_comparableClassFor_2 : cJ5_comparableClassFor.data.toList.drop 47 = dktJ5_comparableClassFor_2 := dk_seg dksJ5_comparableClassFor_1 23 rfl rfl
theorem dksJ5_comparableClassFor_3 : cJ5_comparableClassFor.data.toList.drop 70 = dktJ5_comparableClassFor_3 := dk_seg dksJ5_comparableClassFor_2 23 rfl rfl
theorem dksJ5_comparableClassFor_4 : cJ5_comparableClassFor.data.toList.drop 94 = dktJ5_comparableClassFor_4 := dk_seg dksJ5_comparableClassFor_3 24 rfl rfl
theorem dJ5_comparableClassFor_0 : decode cJ5_comparableClassFor 0 = .ok (.aload_n 0, 1) := dk_42 (dk_at dksJ5_comparableClassFor_0 0 rfl rfl)
theorem dJ5_comparableClassFor_1 : decode cJ5_comparableClassFor 1 = .ok (.instanceof 7, 3) := dk_193 0 7 (dk_at dksJ5_comparableClassFor_0 1 rfl rfl)
theorem dJ5_comparableClassFor_4 : decode cJ5_comparableClassFor 4 = .ok (.ifCond .eq 109, 3) := dk_153 0 109 (dk_at dksJ5_comparableClassFor_0 4 rfl rfl)
theorem dJ5_comparableClassFor_7 : decode cJ5_comparableClassFor 7 = .ok (.aload_n 0, 1) := dk_42 (dk_at dksJ5_comparableClassFor_0 7 rfl rfl)
theorem dJ5_comparableClassFor_8 : decode cJ5_comparableClassFor 8 = .ok (.invokevirtual 9, 3) := dk_182 0 9 (dk_at dksJ5_comparableClassFor_0 8 rfl rfl)
theorem dJ5_comparableClassFor_11 : decode cJ5_comparableClassFor 11 = .ok (.dup, 1) := dk_89 (dk_at dksJ5_comparableClassFor_0 11 rfl rfl)
theorem dJ5_comparableClassFor_12 : decode cJ5_comparableClassFor 12 = .ok (.astore_n 1, 1) := dk_76 (dk_at dksJ5_comparableClassFor_0 12 rfl rfl)
theorem dJ5_comparableClassFor_13 : decode cJ5_comparableClassFor 13 = .ok (.ldc 13, 2) := dk_18 13 (dk_at dksJ5_comparableClassFor_0 13 rfl rfl)
theorem dJ5_comparableClassFor_15 : decode cJ5_comparableClassFor 15 = .ok (.if_acmp .ne 5, 3) := dk_166 0 5 (dk_at dksJ5_comparableClassFor_0 15 rfl rfl)
theorem dJ5_comparableClassFor_18 : decode cJ5_comparableClassFor 18 = .ok (.aload_n 1, 1) := dk_43 (dk_at dksJ5_comparableClassFor_0 18 rfl rfl)
theorem dJ5_comparableClassFor_19 : decode cJ5_comparableClassFor 19 = .ok (.areturn, 1) := dk_176 (dk_at dksJ5_comparableClassFor_0 19 rfl rfl)
theorem dJ5_comparableClassFor_20 : decode cJ5_comparableClassFor 20 = .ok (.aload_n 1, 1) := dk_43 (dk_at dksJ5_comparableClassFor_0 20 rfl rfl)
theorem dJ5_comparableClassFor_21 : decode cJ5_comparableClassFor 21 = .ok (.invokevirtual 15, 3) := dk_182 0 15 (dk_at dksJ5_comparableClassFor_0 21 rfl rfl)
theorem dJ5_comparableClassFor_24 : decode cJ5_comparableClassFor 24 = .ok (.dup, 1) := dk_89 (dk_at dksJ5_comparableClassFor_1 0 rfl rfl)
theorem dJ5_comparableClassFor_25 : decode cJ5_comparableClassFor 25 = .ok (.astore_n 2, 1) := dk_77 (dk_at dksJ5_comparableClassFor_1 1 rfl rfl)
theorem dJ5_comparableClassFor_26 : decode cJ5_comparableClassFor 26 = .ok (.ifnull 87, 3) := dk_198 0 87 (dk_at dksJ5_comparableClassFor_1 2 rfl rfl)
theorem dJ5_comparableClassFor_29 : decode cJ5_comparableClassFor 29 = .ok (.aload_n 2, 1) := dk_44 (dk_at dksJ5_comparableClassFor_1 5 rfl rfl)
theorem dJ5_comparableClassFor_30 : decode cJ5_comparableClassFor 30 = .ok (.astore 5, 2) := dk_58 5 (dk_at dksJ5_comparableClassFor_1 6 rfl rfl)
theorem dJ5_comparableClassFor_32 : decode cJ5_comparableClassFor 32 = .ok (.aload 5, 2) := dk_25 5 (dk_at dksJ5_comparableClassFor_1 8 rfl rfl)
theorem dJ5_comparableClassFor_34 : decode cJ5_comparableClassFor 34 = .ok (.arraylength, 1) := dk_190 (dk_at dksJ5_comparableClassFor_1 10 rfl rfl)
theorem dJ5_comparableClassFor_35 : decode cJ5_comparableClassFor 35 = .ok (.istore 6, 2) := dk_54 6 (dk_at dksJ5_comparableClassFor_1 11 rfl rfl)
theorem dJ5_comparableClassFor_37 : decode cJ5_comparableClassFor 37 = .ok (.iconst 0, 1) := dk_3 (dk_at dksJ5_comparableClassFor_1 13 rfl rfl)
theorem dJ5_comparableClassFor_38 : decode cJ5_comparableClassFor 38 = .ok (.istore 7, 2) := dk_54 7 (dk_at dksJ5_comparableClassFor_1 14 rfl rfl)
theorem dJ5_comparableClassFor_40 : decode cJ5_comparableClassFor 40 = .ok (.iload 7, 2) := dk_21 7 (dk_at dksJ5_comparableClassFor_1 16 rfl rfl)
theorem dJ5_comparableClassFor_42 : decode cJ5_comparableClassFor 42 = .ok (.iload 6, 2) := dk_21 6 (dk_at dksJ5_comparableClassFor_1 18 rfl rfl)
theorem dJ5_comparableClassFor_44 : decode cJ5_comparableClassFor 44 = .ok (.if_icmp .ge 69, 3) := dk_162 0 69 (dk_at dksJ5_comparableClassFor_1 20 rfl rfl)
theorem dJ5_comparableClassFor_47 : decode cJ5_comparableClassFor 47 = .ok (.aload 5, 2) := dk_25 5 (dk_at dksJ5_comparableClassFor_2 0 rfl rfl)
theorem dJ5_comparableClassFor_49 : decode cJ5_comparableClassFor 49 = .ok (.iload 7, 2) := dk_21 7 (dk_at dksJ5_comparableClassFor_2 2 rfl rfl)
theorem dJ5_comparableClassFor_51 : decode cJ5_comparableClassFor 51 = .ok (.aaload, 1) := dk_50 (dk_at dksJ5_comparableClassFor_2 4 rfl rfl)
theorem dJ5_comparableClassFor_52 : decode cJ5_comparableClassFor 52 = .ok (.astore 8, 2) := dk_58 8 (dk_at dksJ5_comparableClassFor_2 5 rfl rfl)
theorem dJ5_comparableClassFor_54 : decode cJ5_comparableClassFor 54 = .ok (.aload 8, 2) := dk_25 8 (dk_at dksJ5_comparableClassFor_2 7 rfl rfl)
theorem dJ5_comparableClassFor_56 : decode cJ5_comparableClassFor 56 = .ok (.instanceof 21, 3) := dk_193 0 21 (dk_at dksJ5_comparableClassFor_2 9 rfl rfl)
theorem dJ5_comparableClassFor_59 : decode cJ5_comparableClassFor 59 = .ok (.ifCond .eq 48, 3) := dk_153 0 48 (dk_at dksJ5_comparableClassFor_2 12 rfl rfl)
theorem dJ5_comparableClassFor_62 : decode cJ5_comparableClassFor 62 = .ok (.aload 8, 2) := dk_25 8 (dk_at dksJ5_comparableClassFor_2 15 rfl rfl)
theorem dJ5_comparableClassFor_64 : decode cJ5_comparableClassFor 64 = .ok (.checkcast 21, 3) := dk_192 0 21 (dk_at dksJ5_comparableClassFor_2 17 rfl rfl)
theorem dJ5_comparableClassFor_67 : decode cJ5_comparableClassFor 67 = .ok (.dup, 1) := dk_89 (dk_at dksJ5_comparableClassFor_2 20 rfl rfl)
theorem dJ5_comparableClassFor_68 : decode cJ5_comparableClassFor 68 = .ok (.astore 4, 2) := dk_58 4 (dk_at dksJ5_comparableClassFor_2 21 rfl rfl)
theorem dJ5_comparableClassFor_70 : decode cJ5_comparableClassFor 70 = .ok (.invokeinterface 23 1, 5) := by decide +kernel
theorem dJ5_comparableClassFor_75 : decode cJ5_comparableClassFor 75 = .ok (.ldc 7, 2) := dk_18 7 (dk_at dksJ5_comparableClassFor_3 5 rfl rfl)
theorem dJ5_comparableClassFor_77 : decode cJ5_comparableClassFor 77 = .ok (.if_acmp .ne 30, 3) := dk_166 0 30 (dk_at dksJ5_comparableClassFor_3 7 rfl rfl)
theorem dJ5_comparableClassFor_80 : decode cJ5_comparableClassFor 80 = .ok (.aload 4, 2) := dk_25 4 (dk_at dksJ5_comparableClassFor_3 10 rfl rfl)
theorem dJ5_comparableClassFor_82 : decode cJ5_comparableClassFor 82 = .ok (.invokeinterface 27 1, 5) := by decide +kernel
theorem dJ5_comparableClassFor_87 : decode cJ5_comparableClassFor 87 = .ok (.dup, 1) := dk_89 (dk_at dksJ5_comparableClassFor_3 17 rfl rfl)
theorem dJ5_comparableClassFor_88 : decode cJ5_comparableClassFor 88 = .ok (.astore_n 3, 1) := dk_78 (dk_at dksJ5_comparableClassFor_3 18 rfl rfl)
theorem dJ5_comparableClassFor_89 : decode cJ5_comparableClassFor 89 = .ok (.ifnull 18, 3) := dk_198 0 18 (dk_at dksJ5_comparableClassFor_3 19 rfl rfl)
theorem dJ5_comparableClassFor_92 : decode cJ5_comparableClassFor 92 = .ok (.aload_n 3, 1) := dk_45 (dk_at dksJ5_comparableClassFor_3 22 rfl rfl)
theorem dJ5_comparableClassFor_93 : decode cJ5_comparableClassFor 93 = .ok (.arraylength, 1) := dk_190 (dk_at dksJ5_comparableClassFor_3 23 rfl rfl)
theorem dJ5_comparableClassFor_94 : decode cJ5_comparableClassFor 94 = .ok (.iconst 1, 1) := dk_4 (dk_at dksJ5_comparableClassFor_4 0 rfl rfl)
theorem dJ5_comparableClassFor_95 : decode cJ5_comparableClassFor 95 = .ok (.if_icmp .ne 12, 3) := dk_160 0 12 (dk_at dksJ5_comparableClassFor_4 1 rfl rfl)
theorem dJ5_comparableClassFor_98 : decode cJ5_comparableClassFor 98 = .ok (.aload_n 3, 1) := dk_45 (dk_at dksJ5_comparableClassFor_4 4 rfl rfl)
theorem dJ5_comparableClassFor_99 : decode cJ5_comparableClassFor 99 = .ok (.iconst 0, 1) := dk_3 (dk_at dksJ5_comparableClassFor_4 5 rfl rfl)
theorem dJ5_comparableClassFor_100 : decode cJ5_comparableClassFor 100 = .ok (.aaload, 1) := dk_50 (dk_at dksJ5_comparableClassFor_4 6 rfl rfl)
theorem dJ5_comparableClassFor_101 : decode cJ5_comparableClassFor 101 = .ok (.aload_n 1, 1) := dk_43 (dk_at dksJ5_comparableClassFor_4 7 rfl rfl)
theorem dJ5_comparableClassFor_102 : decode cJ5_comparableClassFor 102 = .ok (.if_acmp .ne 5, 3) := dk_166 0 5 (dk_at dksJ5_comparableClassFor_4 8 rfl rfl)
theorem dJ5_comparableClassFor_105 : decode cJ5_comparableClassFor 105 = .ok (.aload_n 1, 1) := dk_43 (dk_at dksJ5_comparableClassFor_4 11 rfl rfl)
theorem dJ5_comparableClassFor_106 : decode cJ5_comparableClassFor 106 = .ok (.areturn, 1) := dk_176 (dk_at dksJ5_comparableClassFor_4 12 rfl rfl)
theorem dJ5_comparableClassFor_107 : decode cJ5_comparableClassFor 107 = .ok (.iinc 7 1, 3) := dk_132 7 1 (dk_at dksJ5_comparableClassFor_4 13 rfl rfl)
theorem dJ5_comparableClassFor_110 : decode cJ5_comparableClassFor 110 = .ok (.goto (-70), 3) := dk_167 255 186 (dk_at dksJ5_comparableClassFor_4 16 rfl rfl)
theorem dJ5_comparableClassFor_113 : decode cJ5_comparableClassFor 113 = .ok (.aconst_null, 1) := dk_1 (dk_at dksJ5_comparableClassFor_4 19 rfl rfl)
theorem dJ5_comparableClassFor_114 : decode cJ5_comparableClassFor 114 = .ok (.areturn, 1) := dk_176 (dk_at dksJ5_comparableClassFor_4 20 rfl rfl)
abbrev cJ5_compareComparables : ByteArray := prog_59_method_3_code
def yJ5_compareComparables : MethodName := ⟨RJ5, "compareComparables", "(Ljava/lang/Class;Ljava/lang/Object;Ljava/lang/Object;)I"⟩
def dkwJ5_compareComparables_1 : List UInt8 := [185, 0, 30, 2, 0, 172]
abbrev dktJ5_compareComparables_1 : List UInt8 := dkwJ5_compareComparables_1 ++ []
def dkwJ5_compareComparables_0 : List UInt8 := [44, 198, 0, 11, 44, 182, 0, 9, 42, 165, 0, 7, 3, 167, 0, 13, 43, 192, 0, 7, 44]
abbrev dktJ5_compareComparables_0 : List UInt8 := dkwJ5_compareComparables_0 ++ dktJ5_compareComparables_1
theorem dksJ5_compareComparables_0 : cJ5_compareComparables.data.toList.drop 0 = dktJ5_compareComparables_0 := by decide +kernel
theorem dksJ5_compareComparables_1 : cJ5_compareComparables.data.toList.drop 21 = dktJ5_compareComparables_1 := dk_seg dksJ5_compareComparables_0 21 rfl rfl
theorem dJ5_compareComparables_0 : decode cJ5_compareComparables 0 = .ok (.aload_n 2, 1) := dk_44 (dk_at dksJ5_compareComparables_0 0 rfl rfl)
theorem dJ5_compareComparables_1 : decode cJ5_compareComparables 1 = .ok (.ifnull 11, 3) := dk_198 0 11 (dk_at dksJ5_compareComparables_0 1 rfl rfl)
theorem dJ5_compareComparables_4 : decode cJ5_compareComparables 4 = .ok (.aload_n 2, 1) := dk_44 (dk_at dksJ5_compareComparables_0 4 rfl rfl)
theorem dJ5_compareComparables_5 : decode cJ5_compareComparables 5 = .ok (.invokevirtual 9, 3) := dk_182 0 9 (dk_at dksJ5_compareComparables_0 5 rfl rfl)
theorem dJ5_compareComparables_8 : decode cJ5_compareComparables 8 = .ok (.aload_n 0, 1) := dk_42 (dk_at dksJ5_compareComparables_0 8 rfl rfl)
theorem dJ5_compareComparables_9 : decode cJ5_compareComparables 9 = .ok (.if_acmp .eq 7, 3) := dk_165 0 7 (dk_at dksJ5_compareComparables_0 9 rfl rfl)
theorem dJ5_compareComparables_12 : decode cJ5_compareComparables 12 = .ok (.iconst 0, 1) := dk_3 (dk_at dksJ5_compareComparables_0 12 rfl rfl)
theorem dJ5_compareComparables_13 : decode cJ5_compareComparables 13 = .ok (.goto 13, 3) := dk_167 0 13 (dk_at dksJ5_compareComparables_0 13 rfl rfl)
theorem dJ5_compareComparables_16 : decode cJ5_compareComparables 16 = .ok (.aload_n 1, 1) := dk_43 (dk_at dksJ5_compareComparables_0 16 rfl rfl)
theorem dJ5_compareComparables_17 : decode cJ5_compareComparables 17 = .ok (.checkcast 7, 3) := dk_192 0 7 (dk_at dksJ5_compareComparables_0 17 rfl rfl)
theorem dJ5_compareComparables_20 : decode cJ5_compareComparables 20 = .ok (.aload_n 2, 1) := dk_44 (dk_at dksJ5_compareComparables_0 20 rfl rfl)
theorem dJ5_compareComparables_21 : decode cJ5_compareComparables 21 = .ok (.invokeinterface 30 2, 5) := by decide +kernel
theorem dJ5_compareComparables_26 : decode cJ5_compareComparables 26 = .ok (.ireturn, 1) := dk_172 (dk_at dksJ5_compareComparables_1 5 rfl rfl)
abbrev cJ5_newNode : ByteArray := prog_59_method_46_code
def yJ5_newNode : MethodName := ⟨RJ5, "newNode", "(ILjava/lang/Object;Ljava/lang/Object;Ljava/util/HashMap$Node;)Ljava/util/HashMap$Node;"⟩
def dkwJ5_newNode_0 : List UInt8 := [187, 0, 163, 89, 27, 44, 45, 25, 4, 183, 1, 119, 176]
abbrev dktJ5_newNode_0 : List UInt8 := dkwJ5_newNode_0 ++ []
theorem dksJ5_newNode_0 : cJ5_newNode.data.toList.drop 0 = dktJ5_newNode_0 := by decide +kernel
theorem dJ5_newNode_0 : decode cJ5_newNode 0 = .ok (.new 163, 3) := dk_187 0 163 (dk_at dksJ5_newNode_0 0 rfl rfl)
theorem dJ5_newNode_3 : decode cJ5_newNode 3 = .ok (.dup, 1) := dk_89 (dk_at dksJ5_newNode_0 3 rfl rfl)
theorem dJ5_newNode_4 : decode cJ5_newNode 4 = .ok (.iload_n 1, 1) := dk_27 (dk_at dksJ5_newNode_0 4 rfl rfl)
theorem dJ5_newNode_5 : decode cJ5_newNode 5 = .ok (.aload_n 2, 1) := dk_44 (dk_at dksJ5_newNode_0 5 rfl rfl)
theorem dJ5_newNode_6 : decode cJ5_newNode 6 = .ok (.aload_n 3, 1) := dk_45 (dk_at dksJ5_newNode_0 6 rfl rfl)
theorem dJ5_newNode_7 : decode cJ5_newNode 7 = .ok (.aload 4, 2) := dk_25 4 (dk_at dksJ5_newNode_0 7 rfl rfl)
theorem dJ5_newNode_9 : decode cJ5_newNode 9 = .ok (.invokespecial 375, 3) := dk_183 1 119 (dk_at dksJ5_newNode_0 9 rfl rfl)
theorem dJ5_newNode_12 : decode cJ5_newNode 12 = .ok (.areturn, 1) := dk_176 (dk_at dksJ5_newNode_0 12 rfl rfl)
abbrev cJ5_newTreeNode : ByteArray := prog_59_method_48_code
def yJ5_newTreeNode : MethodName := ⟨RJ5, "newTreeNode", "(ILjava/lang/Object;Ljava/lang/Object;Ljava/util/HashMap$Node;)Ljava/util/HashMap$TreeNode;"⟩
def dkwJ5_newTreeNode_0 : List UInt8 := [187, 0, 180, 89, 27, 44, 45, 25, 4, 183, 1, 122, 176]
abbrev dktJ5_newTreeNode_0 : List UInt8 := dkwJ5_newTreeNode_0 ++ []
theorem dksJ5_newTreeNode_0 : cJ5_newTreeNode.data.toList.drop 0 = dktJ5_newTreeNode_0 := by decide +kernel
theorem dJ5_newTreeNode_0 : decode cJ5_newTreeNode 0 = .ok (.new 180, 3) := dk_187 0 180 (dk_at dksJ5_newTreeNode_0 0 rfl rfl)
theorem dJ5_newTreeNode_3 : decode cJ5_newTreeNode 3 = .ok (.dup, 1) := dk_89 (dk_at dksJ5_newTreeNode_0 3 rfl rfl)
theorem dJ5_newTreeNode_4 : decode cJ5_newTreeNode 4 = .ok (.iload_n 1, 1) := dk_27 (dk_at dksJ5_newTreeNode_0 4 rfl rfl)
theorem dJ5_newTreeNode_5 : decode cJ5_newTreeNode 5 = .ok (.aload_n 2, 1) := dk_44 (dk_at dksJ5_newTreeNode_0 5 rfl rfl)
theorem dJ5_newTreeNode_6 : decode cJ5_newTreeNode 6 = .ok (.aload_n 3, 1) := dk_45 (dk_at dksJ5_newTreeNode_0 6 rfl rfl)
theorem dJ5_newTreeNode_7 : decode cJ5_newTreeNode 7 = .ok (.aload 4, 2) := dk_25 4 (dk_at dksJ5_newTreeNode_0 7 rfl rfl)
theorem dJ5_newTreeNode_9 : decode cJ5_newTreeNode 9 = .ok (.invokespecial 378, 3) := dk_183 1 122 (dk_at dksJ5_newTreeNode_0 9 rfl rfl)
theorem dJ5_newTreeNode_12 : decode cJ5_newTreeNode 12 = .ok (.areturn, 1) := dk_176 (dk_at dksJ5_newTreeNode_0 12 rfl rfl)
abbrev cJ5_treeifyBin : ByteArray := prog_59_method_18_code
def yJ5_treeifyBin : MethodName := ⟨RJ5, "treeifyBin", "([Ljava/util/HashMap$Node;I)V"⟩
def dkwJ5_treeifyBin_4 : List UInt8 := [21, 4, 25, 6, 91, 83, 198, 0, 9, 25, 6, 43, 182, 0, 224, 177]
abbrev dktJ5_treeifyBin_4 : List UInt8 := dkwJ5_treeifyBin_4 ++ []
def dkwJ5_treeifyBin_3 : List UInt8 := [25, 7, 25, 8, 181, 0, 223, 25, 8, 58, 7, 25, 5, 180, 0, 177, 89, 58, 5, 199, 255, 209, 43]
abbrev dktJ5_treeifyBin_3 : List UInt8 := dkwJ5_treeifyBin_3 ++ dktJ5_treeifyBin_4
def dkwJ5_treeifyBin_2 : List UInt8 := [182, 0, 215, 58, 8, 25, 7, 199, 0, 10, 25, 8, 58, 6, 167, 0, 17, 25, 8, 25, 7, 181, 0, 219]
abbrev dktJ5_treeifyBin_2 : List UInt8 := dkwJ5_treeifyBin_2 ++ dktJ5_treeifyBin_3
def dkwJ5_treeifyBin_1 : List UInt8 := [100, 28, 126, 89, 54, 4, 50, 89, 58, 5, 198, 0, 75, 1, 58, 6, 1, 58, 7, 42, 25, 5, 1]
abbrev dktJ5_treeifyBin_1 : List UInt8 := dkwJ5_treeifyBin_1 ++ dktJ5_treeifyBin_2
def dkwJ5_treeifyBin_0 : List UInt8 := [43, 198, 0, 12, 43, 190, 89, 62, 16, 64, 162, 0, 11, 42, 182, 0, 117, 87, 167, 0, 91, 43, 29, 4]
abbrev dktJ5_treeifyBin_0 : List UInt8 := dkwJ5_treeifyBin_0 ++ dktJ5_treeifyBin_1
theorem dksJ5_treeifyBin_0 : cJ5_treeifyBin.data.toList.drop 0 = dktJ5_treeifyBin_0 := by decide +kernel
theorem dksJ5_treeifyBin_1 : cJ5_treeifyBin.data.toList.drop 24 = dktJ5_treeifyBin_1 := dk_seg dksJ5_treeifyBin_0 24 rfl rfl
theorem dksJ5_treeifyBin_2 : cJ5_treeifyBin.data.toList.drop 47 = dktJ5_treeifyBin_2 := dk_seg dksJ5_treeifyBin_1 23 rfl rfl
theorem dksJ5_treeifyBin_3 : cJ5_treeifyBin.data.toList.drop 71 = dktJ5_treeifyBin_3 := dk_seg dksJ5_treeifyBin_2 24 rfl rfl
theorem dksJ5_treeifyBin_4 : cJ5_treeifyBin.data.toList.drop 94 = dktJ5_treeifyBin_4 := dk_seg dksJ5_treeifyBin_3 23 rfl rfl
theorem dJ5_treeifyBin_0 : decode cJ5_treeifyBin 0 = .ok (.aload_n 1, 1) := dk_43 (dk_at dksJ5_treeifyBin_0 0 rfl rfl)
theorem dJ5_treeifyBin_1 : decode cJ5_treeifyBin 1 = .ok (.ifnull 12, 3) := dk_198 0 12 (dk_at dksJ5_treeifyBin_0 1 rfl rfl)
theorem dJ5_treeifyBin_4 : decode cJ5_treeifyBin 4 = .ok (.aload_n 1, 1) := dk_43 (dk_at dksJ5_treeifyBin_0 4 rfl rfl)
theorem dJ5_treeifyBin_5 : decode cJ5_treeifyBin 5 = .ok (.arraylength, 1) := dk_190 (dk_at dksJ5_treeifyBin_0 5 rfl rfl)
theorem dJ5_treeifyBin_6 : decode cJ5_treeifyBin 6 = .ok (.dup, 1) := dk_89 (dk_at dksJ5_treeifyBin_0 6 rfl rfl)
theorem dJ5_treeifyBin_7 : decode cJ5_treeifyBin 7 = .ok (.istore_n 3, 1) := dk_62 (dk_at dksJ5_treeifyBin_0 7 rfl rfl)
theorem dJ5_treeifyBin_8 : decode cJ5_treeifyBin 8 = .ok (.bipush 64, 2) := dk_16 64 (dk_at dksJ5_treeifyBin_0 8 rfl rfl)
theorem dJ5_treeifyBin_10 : decode cJ5_treeifyBin 10 = .ok (.if_icmp .ge 11, 3) := dk_162 0 11 (dk_at dksJ5_treeifyBin_0 10 rfl rfl)
theorem dJ5_treeifyBin_13 : decode cJ5_treeifyBin 13 = .ok (.aload_n 0, 1) := dk_42 (dk_at dksJ5_treeifyBin_0 13 rfl rfl)
theorem dJ5_treeifyBin_14 : decode cJ5_treeifyBin 14 = .ok (.invokevirtual 117, 3) := dk_182 0 117 (dk_at dksJ5_treeifyBin_0 14 rfl rfl)
theorem dJ5_treeifyBin_17 : decode cJ5_treeifyBin 17 = .ok (.pop, 1) := dk_87 (dk_at dksJ5_treeifyBin_0 17 rfl rfl)
theorem dJ5_treeifyBin_18 : decode cJ5_treeifyBin 18 = .ok (.goto 91, 3) := dk_167 0 91 (dk_at dksJ5_treeifyBin_0 18 rfl rfl)
theorem dJ5_treeifyBin_21 : decode cJ5_treeifyBin 21 = .ok (.aload_n 1, 1) := dk_43 (dk_at dksJ5_treeifyBin_0 21 rfl rfl)
theorem dJ5_treeifyBin_22 : decode cJ5_treeifyBin 22 = .ok (.iload_n 3, 1) := dk_29 (dk_at dksJ5_treeifyBin_0 22 rfl rfl)
theorem dJ5_treeifyBin_23 : decode cJ5_treeifyBin 23 = .ok (.iconst 1, 1) := dk_4 (dk_at dksJ5_treeifyBin_0 23 rfl rfl)
theorem dJ5_treeifyBin_24 : decode cJ5_treeifyBin 24 = .ok (.isub, 1) := dk_100 (dk_at dksJ5_treeifyBin_1 0 rfl rfl)
theorem dJ5_treeifyBin_25 : decode cJ5_treeifyBin 25 = .ok (.iload_n 2, 1) := dk_28 (dk_at dksJ5_treeifyBin_1 1 rfl rfl)
theorem dJ5_treeifyBin_26 : decode cJ5_treeifyBin 26 = .ok (.iand, 1) := dk_126 (dk_at dksJ5_treeifyBin_1 2 rfl rfl)
theorem dJ5_treeifyBin_27 : decode cJ5_treeifyBin 27 = .ok (.dup, 1) := dk_89 (dk_at dksJ5_treeifyBin_1 3 rfl rfl)
theorem dJ5_treeifyBin_28 : decode cJ5_treeifyBin 28 = .ok (.istore 4, 2) := dk_54 4 (dk_at dksJ5_treeifyBin_1 4 rfl rfl)
theorem dJ5_treeifyBin_30 : decode cJ5_treeifyBin 30 = .ok (.aaload, 1) := dk_50 (dk_at dksJ5_treeifyBin_1 6 rfl rfl)
theorem dJ5_treeifyBin_31 : decode cJ5_treeifyBin 31 = .ok (.dup, 1) := dk_89 (dk_at dksJ5_treeifyBin_1 7 rfl rfl)
theorem dJ5_treeifyBin_32 : decode cJ5_treeifyBin 32 = .ok (.astore 5, 2) := dk_58 5 (dk_at dksJ5_treeifyBin_1 8 rfl rfl)
theorem dJ5_treeifyBin_34 : decode cJ5_treeifyBin 34 = .ok (.ifnull 75, 3) := dk_198 0 75 (dk_at dksJ5_treeifyBin_1 10 rfl rfl)
theorem dJ5_treeifyBin_37 : decode cJ5_treeifyBin 37 = .ok (.aconst_null, 1) := dk_1 (dk_at dksJ5_treeifyBin_1 13 rfl rfl)
theorem dJ5_treeifyBin_38 : decode cJ5_treeifyBin 38 = .ok (.astore 6, 2) := dk_58 6 (dk_at dksJ5_treeifyBin_1 14 rfl rfl)
theorem dJ5_treeifyBin_40 : decode cJ5_treeifyBin 40 = .ok (.aconst_null, 1) := dk_1 (dk_at dksJ5_treeifyBin_1 16 rfl rfl)
theorem dJ5_treeifyBin_41 : decode cJ5_treeifyBin 41 = .ok (.astore 7, 2) := dk_58 7 (dk_at dksJ5_treeifyBin_1 17 rfl rfl)
theorem dJ5_treeifyBin_43 : decode cJ5_treeifyBin 43 = .ok (.aload_n 0, 1) := dk_42 (dk_at dksJ5_treeifyBin_1 19 rfl rfl)
theorem dJ5_treeifyBin_44 : decode cJ5_treeifyBin 44 = .ok (.aload 5, 2) := dk_25 5 (dk_at dksJ5_treeifyBin_1 20 rfl rfl)
theorem dJ5_treeifyBin_46 : decode cJ5_treeifyBin 46 = .ok (.aconst_null, 1) := dk_1 (dk_at dksJ5_treeifyBin_1 22 rfl rfl)
theorem dJ5_treeifyBin_47 : decode cJ5_treeifyBin 47 = .ok (.invokevirtual 215, 3) := dk_182 0 215 (dk_at dksJ5_treeifyBin_2 0 rfl rfl)
theorem dJ5_treeifyBin_50 : decode cJ5_treeifyBin 50 = .ok (.astore 8, 2) := dk_58 8 (dk_at dksJ5_treeifyBin_2 3 rfl rfl)
theorem dJ5_treeifyBin_52 : decode cJ5_treeifyBin 52 = .ok (.aload 7, 2) := dk_25 7 (dk_at dksJ5_treeifyBin_2 5 rfl rfl)
theorem dJ5_treeifyBin_54 : decode cJ5_treeifyBin 54 = .ok (.ifnonnull 10, 3) := dk_199 0 10 (dk_at dksJ5_treeifyBin_2 7 rfl rfl)
theorem dJ5_treeifyBin_57 : decode cJ5_treeifyBin 57 = .ok (.aload 8, 2) := dk_25 8 (dk_at dksJ5_treeifyBin_2 10 rfl rfl)
theorem dJ5_treeifyBin_59 : decode cJ5_treeifyBin 59 = .ok (.astore 6, 2) := dk_58 6 (dk_at dksJ5_treeifyBin_2 12 rfl rfl)
theorem dJ5_treeifyBin_61 : decode cJ5_treeifyBin 61 = .ok (.goto 17, 3) := dk_167 0 17 (dk_at dksJ5_treeifyBin_2 14 rfl rfl)
theorem dJ5_treeifyBin_64 : decode cJ5_treeifyBin 64 = .ok (.aload 8, 2) := dk_25 8 (dk_at dksJ5_treeifyBin_2 17 rfl rfl)
theorem dJ5_treeifyBin_66 : decode cJ5_treeifyBin 66 = .ok (.aload 7, 2) := dk_25 7 (dk_at dksJ5_treeifyBin_2 19 rfl rfl)
theorem dJ5_treeifyBin_68 : decode cJ5_treeifyBin 68 = .ok (.putfield 219, 3) := dk_181 0 219 (dk_at dksJ5_treeifyBin_2 21 rfl rfl)
theorem dJ5_treeifyBin_71 : decode cJ5_treeifyBin 71 = .ok (.aload 7, 2) := dk_25 7 (dk_at dksJ5_treeifyBin_3 0 rfl rfl)
theorem dJ5_treeifyBin_73 : decode cJ5_treeifyBin 73 = .ok (.aload 8, 2) := dk_25 8 (dk_at dksJ5_treeifyBin_3 2 rfl rfl)
theorem dJ5_treeifyBin_75 : decode cJ5_treeifyBin 75 = .ok (.putfield 223, 3) := dk_181 0 223 (dk_at dksJ5_treeifyBin_3 4 rfl rfl)
theorem dJ5_treeifyBin_78 : decode cJ5_treeifyBin 78 = .ok (.aload 8, 2) := dk_25 8 (dk_at dksJ5_treeifyBin_3 7 rfl rfl)
theorem dJ5_treeifyBin_80 : decode cJ5_treeifyBin 80 = .ok (.astore 7, 2) := dk_58 7 (dk_at dksJ5_treeifyBin_3 9 rfl rfl)
theorem dJ5_treeifyBin_82 : decode cJ5_treeifyBin 82 = .ok (.aload 5, 2) := dk_25 5 (dk_at dksJ5_treeifyBin_3 11 rfl rfl)
theorem dJ5_treeifyBin_84 : decode cJ5_treeifyBin 84 = .ok (.getfield 177, 3) := dk_180 0 177 (dk_at dksJ5_treeifyBin_3 13 rfl rfl)
theorem dJ5_treeifyBin_87 : decode cJ5_treeifyBin 87 = .ok (.dup, 1) := dk_89 (dk_at dksJ5_treeifyBin_3 16 rfl rfl)
theorem dJ5_treeifyBin_88 : decode cJ5_treeifyBin 88 = .ok (.astore 5, 2) := dk_58 5 (dk_at dksJ5_treeifyBin_3 17 rfl rfl)
theorem dJ5_treeifyBin_90 : decode cJ5_treeifyBin 90 = .ok (.ifnonnull (-47), 3) := dk_199 255 209 (dk_at dksJ5_treeifyBin_3 19 rfl rfl)
theorem dJ5_treeifyBin_93 : decode cJ5_treeifyBin 93 = .ok (.aload_n 1, 1) := dk_43 (dk_at dksJ5_treeifyBin_3 22 rfl rfl)
theorem dJ5_treeifyBin_94 : decode cJ5_treeifyBin 94 = .ok (.iload 4, 2) := dk_21 4 (dk_at dksJ5_treeifyBin_4 0 rfl rfl)
theorem dJ5_treeifyBin_96 : decode cJ5_treeifyBin 96 = .ok (.aload 6, 2) := dk_25 6 (dk_at dksJ5_treeifyBin_4 2 rfl rfl)
theorem dJ5_treeifyBin_98 : decode cJ5_treeifyBin 98 = .ok (.dup_x2, 1) := dk_91 (dk_at dksJ5_treeifyBin_4 4 rfl rfl)
theorem dJ5_treeifyBin_99 : decode cJ5_treeifyBin 99 = .ok (.aastore, 1) := dk_83 (dk_at dksJ5_treeifyBin_4 5 rfl rfl)
theorem dJ5_treeifyBin_100 : decode cJ5_treeifyBin 100 = .ok (.ifnull 9, 3) := dk_198 0 9 (dk_at dksJ5_treeifyBin_4 6 rfl rfl)
theorem dJ5_treeifyBin_103 : decode cJ5_treeifyBin 103 = .ok (.aload 6, 2) := dk_25 6 (dk_at dksJ5_treeifyBin_4 9 rfl rfl)
theorem dJ5_treeifyBin_105 : decode cJ5_treeifyBin 105 = .ok (.aload_n 1, 1) := dk_43 (dk_at dksJ5_treeifyBin_4 11 rfl rfl)
theorem dJ5_treeifyBin_106 : decode cJ5_treeifyBin 106 = .ok (.invokevirtual 224, 3) := dk_182 0 224 (dk_at dksJ5_treeifyBin_4 12 rfl rfl)
theorem dJ5_treeifyBin_109 : decode cJ5_treeifyBin 109 = .ok (.return_, 1) := dk_177 (dk_at dksJ5_treeifyBin_4 15 rfl rfl)
abbrev cJ5_replacementTreeNode : ByteArray := prog_59_method_49_code
def yJ5_replacementTreeNode : MethodName := ⟨RJ5, "replacementTreeNode", "(Ljava/util/HashMap$Node;Ljava/util/HashMap$Node;)Ljava/util/HashMap$TreeNode;"⟩
def dkwJ5_replacementTreeNode_0 : List UInt8 := [187, 0, 180, 89, 43, 180, 0, 168, 43, 180, 0, 170, 43, 180, 0, 162, 44, 183, 1, 122, 176]
abbrev dktJ5_replacementTreeNode_0 : List UInt8 := dkwJ5_replacementTreeNode_0 ++ []
theorem dksJ5_replacementTreeNode_0 : cJ5_replacementTreeNode.data.toList.drop 0 = dktJ5_replacementTreeNode_0 := by decide +kernel
theorem dJ5_replacementTreeNode_0 : decode cJ5_replacementTreeNode 0 = .ok (.new 180, 3) := dk_187 0 180 (dk_at dksJ5_replacementTreeNode_0 0 rfl rfl)
theorem dJ5_replacementTreeNode_3 : decode cJ5_replacementTreeNode 3 = .ok (.dup, 1) := dk_89 (dk_at dksJ5_replacementTreeNode_0 3 rfl rfl)
theorem dJ5_replacementTreeNode_4 : decode cJ5_replacementTreeNode 4 = .ok (.aload_n 1, 1) := dk_43 (dk_at dksJ5_replacementTreeNode_0 4 rfl rfl)
theorem dJ5_replacementTreeNode_5 : decode cJ5_replacementTreeNode 5 = .ok (.getfield 168, 3) := dk_180 0 168 (dk_at dksJ5_replacementTreeNode_0 5 rfl rfl)
theorem dJ5_replacementTreeNode_8 : decode cJ5_replacementTreeNode 8 = .ok (.aload_n 1, 1) := dk_43 (dk_at dksJ5_replacementTreeNode_0 8 rfl rfl)
theorem dJ5_replacementTreeNode_9 : decode cJ5_replacementTreeNode 9 = .ok (.getfield 170, 3) := dk_180 0 170 (dk_at dksJ5_replacementTreeNode_0 9 rfl rfl)
theorem dJ5_replacementTreeNode_12 : decode cJ5_replacementTreeNode 12 = .ok (.aload_n 1, 1) := dk_43 (dk_at dksJ5_replacementTreeNode_0 12 rfl rfl)
theorem dJ5_replacementTreeNode_13 : decode cJ5_replacementTreeNode 13 = .ok (.getfield 162, 3) := dk_180 0 162 (dk_at dksJ5_replacementTreeNode_0 13 rfl rfl)
theorem dJ5_replacementTreeNode_16 : decode cJ5_replacementTreeNode 16 = .ok (.aload_n 2, 1) := dk_44 (dk_at dksJ5_replacementTreeNode_0 16 rfl rfl)
theorem dJ5_replacementTreeNode_17 : decode cJ5_replacementTreeNode 17 = .ok (.invokespecial 378, 3) := dk_183 1 122 (dk_at dksJ5_replacementTreeNode_0 17 rfl rfl)
theorem dJ5_replacementTreeNode_20 : decode cJ5_replacementTreeNode 20 = .ok (.areturn, 1) := dk_176 (dk_at dksJ5_replacementTreeNode_0 20 rfl rfl)
abbrev cJ5_afterNodeAccess : ByteArray := prog_59_method_51_code
def yJ5_afterNodeAccess : MethodName := ⟨RJ5, "afterNodeAccess", "(Ljava/util/HashMap$Node;)V"⟩
theorem dJ5_afterNodeAccess_0 : decode cJ5_afterNodeAccess 0 = .ok (.return_, 1) := by decide +kernel
abbrev cJ5_afterNodeInsertion : ByteArray := prog_59_method_52_code
def yJ5_afterNodeInsertion : MethodName := ⟨RJ5, "afterNodeInsertion", "(Z)V"⟩
theorem dJ5_afterNodeInsertion_0 : decode cJ5_afterNodeInsertion 0 = .ok (.return_, 1) := by decide +kernel
abbrev cJ5_get : ByteArray := prog_59_method_12_code
def yJ5_get : MethodName := ⟨RJ5, "get", "(Ljava/lang/Object;)Ljava/lang/Object;"⟩
def dkwJ5_get_0 : List UInt8 := [42, 43, 182, 0, 158, 89, 77, 199, 0, 7, 1, 167, 0, 7, 44, 180, 0, 162, 176]
abbrev dktJ5_get_0 : List UInt8 := dkwJ5_get_0 ++ []
theorem dksJ5_get_0 : cJ5_get.data.toList.drop 0 = dktJ5_get_0 := by decide +kernel
theorem dJ5_get_0 : decode cJ5_get 0 = .ok (.aload_n 0, 1) := dk_42 (dk_at dksJ5_get_0 0 rfl rfl)
theorem dJ5_get_1 : decode cJ5_get 1 = .ok (.aload_n 1, 1) := dk_43 (dk_at dksJ5_get_0 1 rfl rfl)
theorem dJ5_get_2 : decode cJ5_get 2 = .ok (.invokevirtual 158, 3) := dk_182 0 158 (dk_at dksJ5_get_0 2 rfl rfl)
theorem dJ5_get_5 : decode cJ5_get 5 = .ok (.dup, 1) := dk_89 (dk_at dksJ5_get_0 5 rfl rfl)
theorem dJ5_get_6 : decode cJ5_get 6 = .ok (.astore_n 2, 1) := dk_77 (dk_at dksJ5_get_0 6 rfl rfl)
theorem dJ5_get_7 : decode cJ5_get 7 = .ok (.ifnonnull 7, 3) := dk_199 0 7 (dk_at dksJ5_get_0 7 rfl rfl)
theorem dJ5_get_10 : decode cJ5_get 10 = .ok (.aconst_null, 1) := dk_1 (dk_at dksJ5_get_0 10 rfl rfl)
theorem dJ5_get_11 : decode cJ5_get 11 = .ok (.goto 7, 3) := dk_167 0 7 (dk_at dksJ5_get_0 11 rfl rfl)
theorem dJ5_get_14 : decode cJ5_get 14 = .ok (.aload_n 2, 1) := dk_44 (dk_at dksJ5_get_0 14 rfl rfl)
theorem dJ5_get_15 : decode cJ5_get 15 = .ok (.getfield 162, 3) := dk_180 0 162 (dk_at dksJ5_get_0 15 rfl rfl)
theorem dJ5_get_18 : decode cJ5_get 18 = .ok (.areturn, 1) := dk_176 (dk_at dksJ5_get_0 18 rfl rfl)
abbrev cJ5_getNode : ByteArray := prog_59_method_13_code
def yJ5_getNode : MethodName := ⟨RJ5, "getNode", "(Ljava/lang/Object;)Ljava/util/HashMap$Node;"⟩
def dkwJ5_getNode_6 : List UInt8 := [89, 58, 4, 199, 255, 210, 1, 176]
abbrev dktJ5_getNode_6 : List UInt8 := dkwJ5_getNode_6 ++ []
def dkwJ5_getNode_5 : List UInt8 := [165, 0, 16, 43, 198, 0, 15, 43, 25, 7, 182, 0, 173, 153, 0, 6, 25, 4, 176, 25, 4, 180, 0, 177]
abbrev dktJ5_getNode_5 : List UInt8 := dkwJ5_getNode_5 ++ dktJ5_getNode_6
def dkwJ5_getNode_4 : List UInt8 := [43, 182, 0, 182, 176, 25, 4, 180, 0, 168, 21, 6, 160, 0, 31, 25, 4, 180, 0, 170, 89, 58, 7, 43]
abbrev dktJ5_getNode_4 : List UInt8 := dkwJ5_getNode_4 ++ dktJ5_getNode_5
def dkwJ5_getNode_3 : List UInt8 := [176, 45, 180, 0, 177, 89, 58, 4, 198, 0, 70, 45, 193, 0, 180, 153, 0, 14, 45, 192, 0, 180, 21, 6]
abbrev dktJ5_getNode_3 : List UInt8 := dkwJ5_getNode_3 ++ dktJ5_getNode_4
def dkwJ5_getNode_2 : List UInt8 := [180, 0, 170, 89, 58, 7, 43, 165, 0, 16, 43, 198, 0, 14, 43, 25, 7, 182, 0, 173, 153, 0, 5, 45]
abbrev dktJ5_getNode_2 : List UInt8 := dkwJ5_getNode_2 ++ dktJ5_getNode_3
def dkwJ5_getNode_1 : List UInt8 := [184, 0, 149, 89, 54, 6, 126, 50, 89, 78, 198, 0, 115, 45, 180, 0, 168, 21, 6, 160, 0, 29, 45]
abbrev dktJ5_getNode_1 : List UInt8 := dkwJ5_getNode_1 ++ dktJ5_getNode_2
def dkwJ5_getNode_0 : List UInt8 := [42, 180, 0, 105, 89, 77, 198, 0, 142, 44, 190, 89, 54, 5, 158, 0, 134, 44, 21, 5, 4, 100, 43]
abbrev dktJ5_getNode_0 : List UInt8 := dkwJ5_getNode_0 ++ dktJ5_getNode_1
theorem dksJ5_getNode_0 : cJ5_getNode.data.toList.drop 0 = dktJ5_getNode_0 := by decide +kernel
theorem dksJ5_getNode_1 : cJ5_getNode.data.toList.drop 23 = dktJ5_getNode_1 := dk_seg dksJ5_getNode_0 23 rfl rfl
theorem dksJ5_getNode_2 : cJ5_getNode.data.toList.drop 46 = dktJ5_getNode_2 := dk_seg dksJ5_getNode_1 23 rfl rfl
theorem dksJ5_getNode_3 : cJ5_getNode.data.toList.drop 70 = dktJ5_getNode_3 := dk_seg dksJ5_getNode_2 24 rfl rfl
theorem dksJ5_getNode_4 : cJ5_getNode.data.toList.drop 94 = dktJ5_getNode_4 := dk_seg dksJ5_getNode_3 24 rfl rfl
theorem dksJ5_getNode_5 : cJ5_getNode.data.toList.drop 118 = dktJ5_getNode_5 := dk_seg dksJ5_getNode_4 24 rfl rfl
theorem dksJ5_getNode_6 : cJ5_getNode.data.toList.drop 142 = dktJ5_getNode_6 := dk_seg dksJ5_getNode_5 24 rfl rfl
theorem dJ5_getNode_0 : decode cJ5_getNode 0 = .ok (.aload_n 0, 1) := dk_42 (dk_at dksJ5_getNode_0 0 rfl rfl)
theorem dJ5_getNode_1 : decode cJ5_getNode 1 = .ok (.getfield 105, 3) := dk_180 0 105 (dk_at dksJ5_getNode_0 1 rfl rfl)
theorem dJ5_getNode_4 : decode cJ5_getNode 4 = .ok (.dup, 1) := dk_89 (dk_at dksJ5_getNode_0 4 rfl rfl)
theorem dJ5_getNode_5 : decode cJ5_getNode 5 = .ok (.astore_n 2, 1) := dk_77 (dk_at dksJ5_getNode_0 5 rfl rfl)
theorem dJ5_getNode_6 : decode cJ5_getNode 6 = .ok (.ifnull 142, 3) := dk_198 0 142 (dk_at dksJ5_getNode_0 6 rfl rfl)
theorem dJ5_getNode_9 : decode cJ5_getNode 9 = .ok (.aload_n 2, 1) := dk_44 (dk_at dksJ5_getNode_0 9 rfl rfl)
theorem dJ5_getNode_10 : decode cJ5_getNode 10 = .ok (.arraylength, 1) := dk_190 (dk_at dksJ5_getNode_0 10 rfl rfl)
theorem dJ5_getNode_11 : decode cJ5_getNode 11 = .ok (.dup, 1) := dk_89 (dk_at dksJ5_getNode_0 11 rfl rfl)
theorem dJ5_getNode_12 : decode cJ5_getNode 12 = .ok (.istore 5, 2) := dk_54 5 (dk_at dksJ5_getNode_0 12 rfl rfl)
theorem dJ5_getNode_14 : decode cJ5_getNode 14 = .ok (.ifCond .le 134, 3) := dk_158 0 134 (dk_at dksJ5_getNode_0 14 rfl rfl)
theorem dJ5_getNode_17 : decode cJ5_getNode 17 = .ok (.aload_n 2, 1) := dk_44 (dk_at dksJ5_getNode_0 17 rfl rfl)
theorem dJ5_getNode_18 : decode cJ5_getNode 18 = .ok (.iload 5, 2) := dk_21 5 (dk_at dksJ5_getNode_0 18 rfl rfl)
theorem dJ5_getNode_20 : decode cJ5_getNode 20 = .ok (.iconst 1, 1) := dk_4 (dk_at dksJ5_getNode_0 20 rfl rfl)
theorem dJ5_getNode_21 : decode cJ5_getNode 21 = .ok (.isub, 1) := dk_100 (dk_at dksJ5_getNode_0 21 rfl rfl)
theorem dJ5_getNode_22 : decode cJ5_getNode 22 = .ok (.aload_n 1, 1) := dk_43 (dk_at dksJ5_getNode_0 22 rfl rfl)
theorem dJ5_getNode_23 : decode cJ5_getNode 23 = .ok (.invokestatic 149, 3) := dk_184 0 149 (dk_at dksJ5_getNode_1 0 rfl rfl)
theorem dJ5_getNode_26 : decode cJ5_getNode 26 = .ok (.dup, 1) := dk_89 (dk_at dksJ5_getNode_1 3 rfl rfl)
theorem dJ5_getNode_27 : decode cJ5_getNode 27 = .ok (.istore 6, 2) := dk_54 6 (dk_at dksJ5_getNode_1 4 rfl rfl)
theorem dJ5_getNode_29 : decode cJ5_getNode 29 = .ok (.iand, 1) := dk_126 (dk_at dksJ5_getNode_1 6 rfl rfl)
theorem dJ5_getNode_30 : decode cJ5_getNode 30 = .ok (.aaload, 1) := dk_50 (dk_at dksJ5_getNode_1 7 rfl rfl)
theorem dJ5_getNode_31 : decode cJ5_getNode 31 = .ok (.dup, 1) := dk_89 (dk_at dksJ5_getNode_1 8 rfl rfl)
theorem dJ5_getNode_32 : decode cJ5_getNode 32 = .ok (.astore_n 3, 1) := dk_78 (dk_at dksJ5_getNode_1 9 rfl rfl)
theorem dJ5_getNode_33 : decode cJ5_getNode 33 = .ok (.ifnull 115, 3) := dk_198 0 115 (dk_at dksJ5_getNode_1 10 rfl rfl)
theorem dJ5_getNode_36 : decode cJ5_getNode 36 = .ok (.aload_n 3, 1) := dk_45 (dk_at dksJ5_getNode_1 13 rfl rfl)
theorem dJ5_getNode_37 : decode cJ5_getNode 37 = .ok (.getfield 168, 3) := dk_180 0 168 (dk_at dksJ5_getNode_1 14 rfl rfl)
theorem dJ5_getNode_40 : decode cJ5_getNode 40 = .ok (.iload 6, 2) := dk_21 6 (dk_at dksJ5_getNode_1 17 rfl rfl)
theorem dJ5_getNode_42 : decode cJ5_getNode 42 = .ok (.if_icmp .ne 29, 3) := dk_160 0 29 (dk_at dksJ5_getNode_1 19 rfl rfl)
theorem dJ5_getNode_45 : decode cJ5_getNode 45 = .ok (.aload_n 3, 1) := dk_45 (dk_at dksJ5_getNode_1 22 rfl rfl)
theorem dJ5_getNode_46 : decode cJ5_getNode 46 = .ok (.getfield 170, 3) := dk_180 0 170 (dk_at dksJ5_getNode_2 0 rfl rfl)
theorem dJ5_getNode_49 : decode cJ5_getNode 49 = .ok (.dup, 1) := dk_89 (dk_at dksJ5_getNode_2 3 rfl rfl)
theorem dJ5_getNode_50 : decode cJ5_getNode 50 = .ok (.astore 7, 2) := dk_58 7 (dk_at dksJ5_getNode_2 4 rfl rfl)
theorem dJ5_getNode_52 : decode cJ5_getNode 52 = .ok (.aload_n 1, 1) := dk_43 (dk_at dksJ5_getNode_2 6 rfl rfl)
theorem dJ5_getNode_53 : decode cJ5_getNode 53 = .ok (.if_acmp .eq 16, 3) := dk_165 0 16 (dk_at dksJ5_getNode_2 7 rfl rfl)
theorem dJ5_getNode_56 : decode cJ5_getNode 56 = .ok (.aload_n 1, 1) := dk_43 (dk_at dksJ5_getNode_2 10 rfl rfl)
theorem dJ5_getNode_57 : decode cJ5_getNode 57 = .ok (.ifnull 14, 3) := dk_198 0 14 (dk_at dksJ5_getNode_2 11 rfl rfl)
theorem dJ5_getNode_60 : decode cJ5_getNode 60 = .ok (.aload_n 1, 1) := dk_43 (dk_at dksJ5_getNode_2 14 rfl rfl)
theorem dJ5_getNode_61 : decode cJ5_getNode 61 = .ok (.aload 7, 2) := dk_25 7 (dk_at dksJ5_getNode_2 15 rfl rfl)
theorem dJ5_getNode_63 : decode cJ5_getNode 63 = .ok (.invokevirtual 173, 3) := dk_182 0 173 (dk_at dksJ5_getNode_2 17 rfl rfl)
theorem dJ5_getNode_66 : decode cJ5_getNode 66 = .ok (.ifCond .eq 5, 3) := dk_153 0 5 (dk_at dksJ5_getNode_2 20 rfl rfl)
theorem dJ5_getNode_69 : decode cJ5_getNode 69 = .ok (.aload_n 3, 1) := dk_45 (dk_at dksJ5_getNode_2 23 rfl rfl)
theorem dJ5_getNode_70 : decode cJ5_getNode 70 = .ok (.areturn, 1) := dk_176 (dk_at dksJ5_getNode_3 0 rfl rfl)
theorem dJ5_getNode_71 : decode cJ5_getNode 71 = .ok (.aload_n 3, 1) := dk_45 (dk_at dksJ5_getNode_3 1 rfl rfl)
theorem dJ5_getNode_72 : decode cJ5_getNode 72 = .ok (.getfield 177, 3) := dk_180 0 177 (dk_at dksJ5_getNode_3 2 rfl rfl)
theorem dJ5_getNode_75 : decode cJ5_getNode 75 = .ok (.dup, 1) := dk_89 (dk_at dksJ5_getNode_3 5 rfl rfl)
theorem dJ5_getNode_76 : decode cJ5_getNode 76 = .ok (.astore 4, 2) := dk_58 4 (dk_at dksJ5_getNode_3 6 rfl rfl)
theorem dJ5_getNode_78 : decode cJ5_getNode 78 = .ok (.ifnull 70, 3) := dk_198 0 70 (dk_at dksJ5_getNode_3 8 rfl rfl)
theorem dJ5_getNode_81 : decode cJ5_getNode 81 = .ok (.aload_n 3, 1) := dk_45 (dk_at dksJ5_getNode_3 11 rfl rfl)
theorem dJ5_getNode_82 : decode cJ5_getNode 82 = .ok (.instanceof 180, 3) := dk_193 0 180 (dk_at dksJ5_getNode_3 12 rfl rfl)
theorem dJ5_getNode_85 : decode cJ5_getNode 85 = .ok (.ifCond .eq 14, 3) := dk_153 0 14 (dk_at dksJ5_getNode_3 15 rfl rfl)
theorem dJ5_getNode_88 : decode cJ5_getNode 88 = .ok (.aload_n 3, 1) := dk_45 (dk_at dksJ5_getNode_3 18 rfl rfl)
theorem dJ5_getNode_89 : decode cJ5_getNode 89 = .ok (.checkcast 180, 3) := dk_192 0 180 (dk_at dksJ5_getNode_3 19 rfl rfl)
theorem dJ5_getNode_92 : decode cJ5_getNode 92 = .ok (.iload 6, 2) := dk_21 6 (dk_at dksJ5_getNode_3 22 rfl rfl)
theorem dJ5_getNode_94 : decode cJ5_getNode 94 = .ok (.aload_n 1, 1) := dk_43 (dk_at dksJ5_getNode_4 0 rfl rfl)
theorem dJ5_getNode_95 : decode cJ5_getNode 95 = .ok (.invokevirtual 182, 3) := dk_182 0 182 (dk_at dksJ5_getNode_4 1 rfl rfl)
theorem dJ5_getNode_98 : decode cJ5_getNode 98 = .ok (.areturn, 1) := dk_176 (dk_at dksJ5_getNode_4 4 rfl rfl)
theorem dJ5_getNode_99 : decode cJ5_getNode 99 = .ok (.aload 4, 2) := dk_25 4 (dk_at dksJ5_getNode_4 5 rfl rfl)
theorem dJ5_getNode_101 : decode cJ5_getNode 101 = .ok (.getfield 168, 3) := dk_180 0 168 (dk_at dksJ5_getNode_4 7 rfl rfl)
theorem dJ5_getNode_104 : decode cJ5_getNode 104 = .ok (.iload 6, 2) := dk_21 6 (dk_at dksJ5_getNode_4 10 rfl rfl)
theorem dJ5_getNode_106 : decode cJ5_getNode 106 = .ok (.if_icmp .ne 31, 3) := dk_160 0 31 (dk_at dksJ5_getNode_4 12 rfl rfl)
theorem dJ5_getNode_109 : decode cJ5_getNode 109 = .ok (.aload 4, 2) := dk_25 4 (dk_at dksJ5_getNode_4 15 rfl rfl)
theorem dJ5_getNode_111 : decode cJ5_getNode 111 = .ok (.getfield 170, 3) := dk_180 0 170 (dk_at dksJ5_getNode_4 17 rfl rfl)
theorem dJ5_getNode_114 : decode cJ5_getNode 114 = .ok (.dup, 1) := dk_89 (dk_at dksJ5_getNode_4 20 rfl rfl)
theorem dJ5_getNode_115 : decode cJ5_getNode 115 = .ok (.astore 7, 2) := dk_58 7 (dk_at dksJ5_getNode_4 21 rfl rfl)
theorem dJ5_getNode_117 : decode cJ5_getNode 117 = .ok (.aload_n 1, 1) := dk_43 (dk_at dksJ5_getNode_4 23 rfl rfl)
theorem dJ5_getNode_118 : decode cJ5_getNode 118 = .ok (.if_acmp .eq 16, 3) := dk_165 0 16 (dk_at dksJ5_getNode_5 0 rfl rfl)
theorem dJ5_getNode_121 : decode cJ5_getNode 121 = .ok (.aload_n 1, 1) := dk_43 (dk_at dksJ5_getNode_5 3 rfl rfl)
theorem dJ5_getNode_122 : decode cJ5_getNode 122 = .ok (.ifnull 15, 3) := dk_198 0 15 (dk_at dksJ5_getNode_5 4 rfl rfl)
theorem dJ5_getNode_125 : decode cJ5_getNode 125 = .ok (.aload_n 1, 1) := dk_43 (dk_at dksJ5_getNode_5 7 rfl rfl)
theorem dJ5_getNode_126 : decode cJ5_getNode 126 = .ok (.aload 7, 2) := dk_25 7 (dk_at dksJ5_getNode_5 8 rfl rfl)
theorem dJ5_getNode_128 : decode cJ5_getNode 128 = .ok (.invokevirtual 173, 3) := dk_182 0 173 (dk_at dksJ5_getNode_5 10 rfl rfl)
theorem dJ5_getNode_131 : decode cJ5_getNode 131 = .ok (.ifCond .eq 6, 3) := dk_153 0 6 (dk_at dksJ5_getNode_5 13 rfl rfl)
theorem dJ5_getNode_134 : decode cJ5_getNode 134 = .ok (.aload 4, 2) := dk_25 4 (dk_at dksJ5_getNode_5 16 rfl rfl)
theorem dJ5_getNode_136 : decode cJ5_getNode 136 = .ok (.areturn, 1) := dk_176 (dk_at dksJ5_getNode_5 18 rfl rfl)
theorem dJ5_getNode_137 : decode cJ5_getNode 137 = .ok (.aload 4, 2) := dk_25 4 (dk_at dksJ5_getNode_5 19 rfl rfl)
theorem dJ5_getNode_139 : decode cJ5_getNode 139 = .ok (.getfield 177, 3) := dk_180 0 177 (dk_at dksJ5_getNode_5 21 rfl rfl)
theorem dJ5_getNode_142 : decode cJ5_getNode 142 = .ok (.dup, 1) := dk_89 (dk_at dksJ5_getNode_6 0 rfl rfl)
theorem dJ5_getNode_143 : decode cJ5_getNode 143 = .ok (.astore 4, 2) := dk_58 4 (dk_at dksJ5_getNode_6 1 rfl rfl)
theorem dJ5_getNode_145 : decode cJ5_getNode 145 = .ok (.ifnonnull (-46), 3) := dk_199 255 210 (dk_at dksJ5_getNode_6 3 rfl rfl)
theorem dJ5_getNode_148 : decode cJ5_getNode 148 = .ok (.aconst_null, 1) := dk_1 (dk_at dksJ5_getNode_6 6 rfl rfl)
theorem dJ5_getNode_149 : decode cJ5_getNode 149 = .ok (.areturn, 1) := dk_176 (dk_at dksJ5_getNode_6 7 rfl rfl)
abbrev cJ5_size : ByteArray := prog_59_method_10_code
def yJ5_size : MethodName := ⟨RJ5, "size", "()I"⟩
theorem dJ5_size_0 : decode cJ5_size 0 = .ok (.aload_n 0, 1) := by decide +kernel
theorem dJ5_size_1 : decode cJ5_size 1 = .ok (.getfield 156, 3) := by decide +kernel
theorem dJ5_size_4 : decode cJ5_size 4 = .ok (.ireturn, 1) := by decide +kernel
abbrev cJ5_keysToArray : ByteArray := prog_59_method_26_code
def yJ5_keysToArray : MethodName := ⟨RJ5, "keysToArray", "([Ljava/lang/Object;)[Ljava/lang/Object;"⟩
def dkwJ5_keysToArray_3 : List UInt8 := [167, 255, 232, 132, 7, 1, 167, 255, 212, 43, 176]
abbrev dktJ5_keysToArray_3 : List UInt8 := dkwJ5_keysToArray_3 ++ []
def dkwJ5_keysToArray_2 : List UInt8 := [198, 0, 25, 44, 21, 4, 132, 4, 1, 25, 8, 180, 0, 170, 83, 25, 8, 180, 0, 177, 58, 8]
abbrev dktJ5_keysToArray_2 : List UInt8 := dkwJ5_keysToArray_2 ++ dktJ5_keysToArray_3
def dkwJ5_keysToArray_1 : List UInt8 := [25, 5, 190, 54, 6, 3, 54, 7, 21, 7, 21, 6, 162, 0, 43, 25, 5, 21, 7, 50, 58, 8, 25, 8]
abbrev dktJ5_keysToArray_1 : List UInt8 := dkwJ5_keysToArray_1 ++ dktJ5_keysToArray_2
def dkwJ5_keysToArray_0 : List UInt8 := [43, 77, 3, 54, 4, 42, 180, 0, 156, 158, 0, 70, 42, 180, 0, 105, 89, 78, 198, 0, 61, 45, 58, 5]
abbrev dktJ5_keysToArray_0 : List UInt8 := dkwJ5_keysToArray_0 ++ dktJ5_keysToArray_1
theorem dksJ5_keysToArray_0 : cJ5_keysToArray.data.toList.drop 0 = dktJ5_keysToArray_0 := by decide +kernel
theorem dksJ5_keysToArray_1 : cJ5_keysToArray.data.toList.drop 24 = dktJ5_keysToArray_1 := dk_seg dksJ5_keysToArray_0 24 rfl rfl
theorem dksJ5_keysToArray_2 : cJ5_keysToArray.data.toList.drop 48 = dktJ5_keysToArray_2 := dk_seg dksJ5_keysToArray_1 24 rfl rfl
theorem dksJ5_keysToArray_3 : cJ5_keysToArray.data.toList.drop 70 = dktJ5_keysToArray_3 := dk_seg dksJ5_keysToArray_2 22 rfl rfl
theorem dJ5_keysToArray_0 : decode cJ5_keysToArray 0 = .ok (.aload_n 1, 1) := dk_43 (dk_at dksJ5_keysToArray_0 0 rfl rfl)
theorem dJ5_keysToArray_1 : decode cJ5_keysToArray 1 = .ok (.astore_n 2, 1) := dk_77 (dk_at dksJ5_keysToArray_0 1 rfl rfl)
theorem dJ5_keysToArray_2 : decode cJ5_keysToArray 2 = .ok (.iconst 0, 1) := dk_3 (dk_at dksJ5_keysToArray_0 2 rfl rfl)
theorem dJ5_keysToArray_3 : decode cJ5_keysToArray 3 = .ok (.istore 4, 2) := dk_54 4 (dk_at dksJ5_keysToArray_0 3 rfl rfl)
theorem dJ5_keysToArray_5 : decode cJ5_keysToArray 5 = .ok (.aload_n 0, 1) := dk_42 (dk_at dksJ5_keysToArray_0 5 rfl rfl)
theorem dJ5_keysToArray_6 : decode cJ5_keysToArray 6 = .ok (.getfield 156, 3) := dk_180 0 156 (dk_at dksJ5_keysToArray_0 6 rfl rfl)
theorem dJ5_keysToArray_9 : decode cJ5_keysToArray 9 = .ok (.ifCond .le 70, 3) := dk_158 0 70 (dk_at dksJ5_keysToArray_0 9 rfl rfl)
theorem dJ5_keysToArray_12 : decode cJ5_keysToArray 12 = .ok (.aload_n 0, 1) := dk_42 (dk_at dksJ5_keysToArray_0 12 rfl rfl)
theorem dJ5_keysToArray_13 : decode cJ5_keysToArray 13 = .ok (.getfield 105, 3) := dk_180 0 105 (dk_at dksJ5_keysToArray_0 13 rfl rfl)
theorem dJ5_keysToArray_16 : decode cJ5_keysToArray 16 = .ok (.dup, 1) := dk_89 (dk_at dksJ5_keysToArray_0 16 rfl rfl)
theorem dJ5_keysToArray_17 : decode cJ5_keysToArray 17 = .ok (.astore_n 3, 1) := dk_78 (dk_at dksJ5_keysToArray_0 17 rfl rfl)
theorem dJ5_keysToArray_18 : decode cJ5_keysToArray 18 = .ok (.ifnull 61, 3) := dk_198 0 61 (dk_at dksJ5_keysToArray_0 18 rfl rfl)
theorem dJ5_keysToArray_21 : decode cJ5_keysToArray 21 = .ok (.aload_n 3, 1) := dk_45 (dk_at dksJ5_keysToArray_0 21 rfl rfl)
theorem dJ5_keysToArray_22 : decode cJ5_keysToArray 22 = .ok (.astore 5, 2) := dk_58 5 (dk_at dksJ5_keysToArray_0 22 rfl rfl)
theorem dJ5_keysToArray_24 : decode cJ5_keysToArray 24 = .ok (.aload 5, 2) := dk_25 5 (dk_at dksJ5_keysToArray_1 0 rfl rfl)
theorem dJ5_keysToArray_26 : decode cJ5_keysToArray 26 = .ok (.arraylength, 1) := dk_190 (dk_at dksJ5_keysToArray_1 2 rfl rfl)
theorem dJ5_keysToArray_27 : decode cJ5_keysToArray 27 = .ok (.istore 6, 2) := dk_54 6 (dk_at dksJ5_keysToArray_1 3 rfl rfl)
theorem dJ5_keysToArray_29 : decode cJ5_keysToArray 29 = .ok (.iconst 0, 1) := dk_3 (dk_at dksJ5_keysToArray_1 5 rfl rfl)
theorem dJ5_keysToArray_30 : decode cJ5_keysToArray 30 = .ok (.istore 7, 2) := dk_54 7 (dk_at dksJ5_keysToArray_1 6 rfl rfl)
theorem dJ5_keysToArray_32 : decode cJ5_keysToArray 32 = .ok (.iload 7, 2) := dk_21 7 (dk_at dksJ5_keysToArray_1 8 rfl rfl)
theorem dJ5_keysToArray_34 : decode cJ5_keysToArray 34 = .ok (.iload 6, 2) := dk_21 6 (dk_at dksJ5_keysToArray_1 10 rfl rfl)
theorem dJ5_keysToArray_36 : decode cJ5_keysToArray 36 = .ok (.if_icmp .ge 43, 3) := dk_162 0 43 (dk_at dksJ5_keysToArray_1 12 rfl rfl)
theorem dJ5_keysToArray_39 : decode cJ5_keysToArray 39 = .ok (.aload 5, 2) := dk_25 5 (dk_at dksJ5_keysToArray_1 15 rfl rfl)
theorem dJ5_keysToArray_41 : decode cJ5_keysToArray 41 = .ok (.iload 7, 2) := dk_21 7 (dk_at dksJ5_keysToArray_1 17 rfl rfl)
theorem dJ5_keysToArray_43 : decode cJ5_keysToArray 43 = .ok (.aaload, 1) := dk_50 (dk_at dksJ5_keysToArray_1 19 rfl rfl)
theorem dJ5_keysToArray_44 : decode cJ5_keysToArray 44 = .ok (.astore 8, 2) := dk_58 8 (dk_at dksJ5_keysToArray_1 20 rfl rfl)
theorem dJ5_keysToArray_46 : decode cJ5_keysToArray 46 = .ok (.aload 8, 2) := dk_25 8 (dk_at dksJ5_keysToArray_1 22 rfl rfl)
theorem dJ5_keysToArray_48 : decode cJ5_keysToArray 48 = .ok (.ifnull 25, 3) := dk_198 0 25 (dk_at dksJ5_keysToArray_2 0 rfl rfl)
theorem dJ5_keysToArray_51 : decode cJ5_keysToArray 51 = .ok (.aload_n 2, 1) := dk_44 (dk_at dksJ5_keysToArray_2 3 rfl rfl)
theorem dJ5_keysToArray_52 : decode cJ5_keysToArray 52 = .ok (.iload 4, 2) := dk_21 4 (dk_at dksJ5_keysToArray_2 4 rfl rfl)
theorem dJ5_keysToArray_54 : decode cJ5_keysToArray 54 = .ok (.iinc 4 1, 3) := dk_132 4 1 (dk_at dksJ5_keysToArray_2 6 rfl rfl)
theorem dJ5_keysToArray_57 : decode cJ5_keysToArray 57 = .ok (.aload 8, 2) := dk_25 8 (dk_at dksJ5_keysToArray_2 9 rfl rfl)
theorem dJ5_keysToArray_59 : decode cJ5_keysToArray 59 = .ok (.getfield 170, 3) := dk_180 0 170 (dk_at dksJ5_keysToArray_2 11 rfl rfl)
theorem dJ5_keysToArray_62 : decode cJ5_keysToArray 62 = .ok (.aastore, 1) := dk_83 (dk_at dksJ5_keysToArray_2 14 rfl rfl)
theorem dJ5_keysToArray_63 : decode cJ5_keysToArray 63 = .ok (.aload 8, 2) := dk_25 8 (dk_at dksJ5_keysToArray_2 15 rfl rfl)
theorem dJ5_keysToArray_65 : decode cJ5_keysToArray 65 = .ok (.getfield 177, 3) := dk_180 0 177 (dk_at dksJ5_keysToArray_2 17 rfl rfl)
theorem dJ5_keysToArray_68 : decode cJ5_keysToArray 68 = .ok (.astore 8, 2) := dk_58 8 (dk_at dksJ5_keysToArray_2 20 rfl rfl)
theorem dJ5_keysToArray_70 : decode cJ5_keysToArray 70 = .ok (.goto (-24), 3) := dk_167 255 232 (dk_at dksJ5_keysToArray_3 0 rfl rfl)
theorem dJ5_keysToArray_73 : decode cJ5_keysToArray 73 = .ok (.iinc 7 1, 3) := dk_132 7 1 (dk_at dksJ5_keysToArray_3 3 rfl rfl)
theorem dJ5_keysToArray_76 : decode cJ5_keysToArray 76 = .ok (.goto (-44), 3) := dk_167 255 212 (dk_at dksJ5_keysToArray_3 6 rfl rfl)
theorem dJ5_keysToArray_79 : decode cJ5_keysToArray 79 = .ok (.aload_n 1, 1) := dk_43 (dk_at dksJ5_keysToArray_3 9 rfl rfl)
theorem dJ5_keysToArray_80 : decode cJ5_keysToArray 80 = .ok (.areturn, 1) := dk_176 (dk_at dksJ5_keysToArray_3 10 rfl rfl)
theorem q181 : (Jvm.Cond.initialized "java/util/HashMap") ∈ lw_all := lw_g (lw_at lw_m1 15 rfl) rfl
theorem q738 : (Jvm.Cond.instantiable "java/util/HashMap" (8 : Nat)) ∈ lw_all := lw_g (lw_at lw_m3 92 rfl) rfl
theorem q740 : (Jvm.Cond.instanceMethod ({ cls := "java/util/HashMap", name := "<init>", desc := "()V" } : Jvm.MethodName)) ∈ lw_all := lw_g (lw_at lw_m3 94 rfl) rfl
theorem q741 : (Jvm.Cond.code ({ cls := "java/util/HashMap", name := "<init>", desc := "()V" } : Jvm.MethodName) prog_59_method_7_code (1 : Nat) (Option.none : Option Jvm.ClassFile.FieldType)) ∈ lw_all := lw_g (lw_at lw_m3 95 rfl) rfl
theorem q742 : (Jvm.Cond.methodLink "java/util/HashMap" (43 : Nat) ({ cls := "java/util/AbstractMap", name := "<init>", desc := "()V" } : Jvm.MethodName)) ∈ lw_all := lw_g (lw_at lw_m3 96 rfl) rfl
theorem q746 : (Jvm.Cond.constantFloat "java/util/HashMap" (92 : Nat) (1061158912 : UInt32)) ∈ lw_all := lw_g (lw_at lw_m3 100 rfl) rfl
theorem q747 : (Jvm.Cond.fieldLink "java/util/HashMap" (105 : Nat) "java/util/HashMap" "table" "[Ljava/util/HashMap$Node;") ∈ lw_all := lw_g (lw_at lw_m3 101 rfl) rfl
theorem q748 : (Jvm.Cond.fieldLink "java/util/HashMap" (156 : Nat) "java/util/HashMap" "size" "I") ∈ lw_all := lw_g (lw_at lw_m3 102 rfl) rfl
theorem q749 : (Jvm.Cond.fieldLink "java/util/HashMap" (202 : Nat) "java/util/HashMap" "modCount" "I") ∈ lw_all := lw_g (lw_at lw_m3 103 rfl) rfl
theorem q750 : (Jvm.Cond.fieldLink "java/util/HashMap" (88 : Nat) "java/util/HashMap" "threshold" "I") ∈ lw_all := lw_g (lw_at lw_m3 104 rfl) rfl
theorem q751 : (Jvm.Cond.fieldLink "java/util/HashMap" (81 : Nat) "java/util/HashMap" "loadFactor" "F") ∈ lw_all := lw_g (lw_at lw_m3 105 rfl) rfl
theorem q752 : (Jvm.Cond.lays "java/util/HashMap" "java/util/HashMap" "table" "[Ljava/util/HashMap$Node;") ∈ lw_all := lw_g (lw_at lw_m3 106 rfl) rfl
theorem q753 : (Jvm.Cond.soleField "java/util/HashMap" "table") ∈ lw_all := lw_g (lw_at lw_m3 107 rfl) rfl
theorem q754 : (Jvm.Cond.lays "java/util/HashMap" "java/util/HashMap" "entrySet" "Ljava/util/Set;") ∈ lw_all := lw_g (lw_at lw_m3 108 rfl) rfl
theorem q755 : (Jvm.Cond.soleField "java/util/HashMap" "entrySet") ∈ lw_all := lw_g (lw_at lw_m3 109 rfl) rfl
theorem q756 : (Jvm.Cond.lays "java/util/HashMap" "java/util/HashMap" "size" "I") ∈ lw_all := lw_g (lw_at lw_m3 110 rfl) rfl
theorem q757 : (Jvm.Cond.soleField "java/util/HashMap" "size") ∈ lw_all := lw_g (lw_at lw_m3 111 rfl) rfl
theorem q758 : (Jvm.Cond.lays "java/util/HashMap" "java/util/HashMap" "modCount" "I") ∈ lw_all := lw_g (lw_at lw_m3 112 rfl) rfl
theorem q759 : (Jvm.Cond.soleField "java/util/HashMap" "modCount") ∈ lw_all := lw_g (lw_at lw_m3 113 rfl) rfl
theorem q760 : (Jvm.Cond.lays "java/util/HashMap" "java/util/HashMap" "threshold" "I") ∈ lw_all := lw_g (lw_at lw_m3 114 rfl) rfl
theorem q761 : (Jvm.Cond.soleField "java/util/HashMap" "threshold") ∈ lw_all := lw_g (lw_at lw_m3 115 rfl) rfl
theorem q762 : (Jvm.Cond.laysFinal "java/util/HashMap" "java/util/HashMap" "loadFactor" "F") ∈ lw_all := lw_g (lw_at lw_m3 116 rfl) rfl
theorem q763 : (Jvm.Cond.soleField "java/util/HashMap" "loadFactor") ∈ lw_all := lw_g (lw_at lw_m3 117 rfl) rfl
theorem q764 : (Jvm.Cond.lays "java/util/HashMap" "java/util/AbstractMap" "keySet" "Ljava/util/Set;") ∈ lw_all := lw_g (lw_at lw_m3 118 rfl) rfl
theorem q766 : (Jvm.Cond.lays "java/util/HashMap" "java/util/AbstractMap" "values" "Ljava/util/Collection;") ∈ lw_all := lw_g (lw_at lw_m3 120 rfl) rfl
theorem q768 : (Jvm.Cond.superclass "java/util/HashMap" "java/util/AbstractMap") ∈ lw_all := lw_g (lw_at lw_m3 122 rfl) rfl
theorem q837 : (Jvm.Cond.instanceMethod ({ cls := "java/util/HashMap", name := "put", desc := "(Ljava/lang/Object;Ljava/lang/Object;)Ljava/lang/Object;" } : Jvm.MethodName)) ∈ lw_all := lw_g (lw_at lw_m3 191 rfl) rfl
theorem q838 : (Jvm.Cond.selects "java/util/HashMap" ({ cls := "java/util/HashMap", name := "put", desc := "(Ljava/lang/Object;Ljava/lang/Object;)Ljava/lang/Object;" } : Jvm.MethodName) ({ cls := "java/util/HashMap", name := "put", desc := "(Ljava/lang/Object;Ljava/lang/Object;)Ljava/lang/Object;" } : Jvm.MethodName)) ∈ lw_all := lw_g (lw_at lw_m3 192 rfl) rfl
theorem q839 : (Jvm.Cond.code ({ cls := "java/util/HashMap", name := "put", desc := "(Ljava/lang/Object;Ljava/lang/Object;)Ljava/lang/Object;" } : Jvm.MethodName) prog_59_method_15_code (3 : Nat) (Option.some (Jvm.ClassFile.FieldType.object "java/lang/Object"))) ∈ lw_all := lw_g (lw_at lw_m3 193 rfl) rfl
theorem q840 : (Jvm.Cond.methodLink "java/util/HashMap" (149 : Nat) ({ cls := "java/util/HashMap", name := "hash", desc := "(Ljava/lang/Object;)I" } : Jvm.MethodName)) ∈ lw_all := lw_g (lw_at lw_m3 194 rfl) rfl
theorem q841 : (Jvm.Cond.static ({ cls := "java/util/HashMap", name := "hash", desc := "(Ljava/lang/Object;)I" } : Jvm.MethodName)) ∈ lw_all := lw_g (lw_at lw_m3 195 rfl) rfl
theorem q842 : (Jvm.Cond.code ({ cls := "java/util/HashMap", name := "hash", desc := "(Ljava/lang/Object;)I" } : Jvm.MethodName) prog_59_method_1_code (2 : Nat) (Option.some Jvm.ClassFile.FieldType.int)) ∈ lw_all := lw_g (lw_at lw_m3 196 rfl) rfl
theorem q844 : (Jvm.Cond.methodLink "java/util/HashMap" (1 : Nat) ({ cls := "java/lang/Object", name := "hashCode", desc := "()I" } : Jvm.MethodName)) ∈ lw_all := lw_g (lw_at lw_m3 198 rfl) rfl
theorem q944 : (Jvm.Cond.methodLink "java/util/HashMap" (152 : Nat) ({ cls := "java/util/HashMap", name := "putVal", desc := "(ILjava/lang/Object;Ljava/lang/Object;ZZ)Ljava/lang/Object;" } : Jvm.MethodName)) ∈ lw_all := lw_g (lw_at lw_m4 58 rfl) rfl
theorem q945 : (Jvm.Cond.instanceMethod ({ cls := "java/util/HashMap", name := "putVal", desc := "(ILjava/lang/Object;Ljava/lang/Object;ZZ)Ljava/lang/Object;" } : Jvm.MethodName)) ∈ lw_all := lw_g (lw_at lw_m4 59 rfl) rfl
theorem q946 : (Jvm.Cond.selects "java/util/HashMap" ({ cls := "java/util/HashMap", name := "putVal", desc := "(ILjava/lang/Object;Ljava/lang/Object;ZZ)Ljava/lang/Object;" } : Jvm.MethodName) ({ cls := "java/util/HashMap", name := "putVal", desc := "(ILjava/lang/Object;Ljava/lang/Object;ZZ)Ljava/lang/Object;" } : Jvm.MethodName)) ∈ lw_all := lw_g (lw_at lw_m4 60 rfl) rfl
theorem q947 : (Jvm.Cond.code ({ cls := "java/util/HashMap", name := "putVal", desc := "(ILjava/lang/Object;Ljava/lang/Object;ZZ)Ljava/lang/Object;" } : Jvm.MethodName) prog_59_method_16_code (13 : Nat) (Option.some (Jvm.ClassFile.FieldType.object "java/lang/Object"))) ∈ lw_all := lw_g (lw_at lw_m4 61 rfl) rfl
theorem q948 : (Jvm.Cond.methodLink "java/util/HashMap" (117 : Nat) ({ cls := "java/util/HashMap", name := "resize", desc := "()[Ljava/util/HashMap$Node;" } : Jvm.MethodName)) ∈ lw_all := lw_g (lw_at lw_m4 62 rfl) rfl
theorem q949 : (Jvm.Cond.instanceMethod ({ cls := "java/util/HashMap", name := "resize", desc := "()[Ljava/util/HashMap$Node;" } : Jvm.MethodName)) ∈ lw_all := lw_g (lw_at lw_m4 63 rfl) rfl
theorem q950 : (Jvm.Cond.selects "java/util/HashMap" ({ cls := "java/util/HashMap", name := "resize", desc := "()[Ljava/util/HashMap$Node;" } : Jvm.MethodName) ({ cls := "java/util/HashMap", name := "resize", desc := "()[Ljava/util/HashMap$Node;" } : Jvm.MethodName)) ∈ lw_all := lw_g (lw_at lw_m4 64 rfl) rfl
theorem q951 : (Jvm.Cond.code ({ cls := "java/util/HashMap", name := "resize", desc := "()[Ljava/util/HashMap$Node;" } : Jvm.MethodName) prog_59_method_17_code (14 : Nat) (Option.some (Jvm.ClassFile.FieldType.array (Jvm.ClassFile.FieldType.object "java/util/HashMap$Node")))) ∈ lw_all := lw_g (lw_at lw_m4 65 rfl) rfl
theorem q952 : (Jvm.Cond.constant "java/util/HashMap" (42 : Nat) (1073741824 : Int32)) ∈ lw_all := lw_g (lw_at lw_m4 66 rfl) rfl
theorem q953 : (Jvm.Cond.constant "java/util/HashMap" (209 : Nat) (2147483647 : Int32)) ∈ lw_all := lw_g (lw_at lw_m4 67 rfl) rfl
theorem q954 : (Jvm.Cond.constantFloat "java/util/HashMap" (210 : Nat) (1317011456 : UInt32)) ∈ lw_all := lw_g (lw_at lw_m4 68 rfl) rfl
theorem q955 : (Jvm.Cond.classLink "java/util/HashMap" (163 : Nat) "java/util/HashMap$Node") ∈ lw_all := lw_g (lw_at lw_m4 69 rfl) rfl
theorem q957 : (Jvm.Cond.classLink "java/util/HashMap" (180 : Nat) "java/util/HashMap$TreeNode") ∈ lw_all := lw_g (lw_at lw_m4 71 rfl) rfl
theorem q958 : (Jvm.Cond.methodLink "java/util/HashMap" (211 : Nat) ({ cls := "java/util/HashMap$TreeNode", name := "split", desc := "(Ljava/util/HashMap;[Ljava/util/HashMap$Node;II)V" } : Jvm.MethodName)) ∈ lw_all := lw_g (lw_at lw_m4 72 rfl) rfl
theorem q968 : (Jvm.Cond.instanceMethod ({ cls := "java/util/HashMap", name := "replacementNode", desc := "(Ljava/util/HashMap$Node;Ljava/util/HashMap$Node;)Ljava/util/HashMap$Node;" } : Jvm.MethodName)) ∈ lw_all := lw_g (lw_at lw_m4 82 rfl) rfl
theorem q969 : (Jvm.Cond.selects "java/util/HashMap" ({ cls := "java/util/HashMap", name := "replacementNode", desc := "(Ljava/util/HashMap$Node;Ljava/util/HashMap$Node;)Ljava/util/HashMap$Node;" } : Jvm.MethodName) ({ cls := "java/util/HashMap", name := "replacementNode", desc := "(Ljava/util/HashMap$Node;Ljava/util/HashMap$Node;)Ljava/util/HashMap$Node;" } : Jvm.MethodName)) ∈ lw_all := lw_g (lw_at lw_m4 83 rfl) rfl
theorem q970 : (Jvm.Cond.code ({ cls := "java/util/HashMap", name := "replacementNode", desc := "(Ljava/util/HashMap$Node;Ljava/util/HashMap$Node;)Ljava/util/HashMap$Node;" } : Jvm.MethodName) prog_59_method_47_code (3 : Nat) (Option.some (Jvm.ClassFile.FieldType.object "java/util/HashMap$Node"))) ∈ lw_all := lw_g (lw_at lw_m4 84 rfl) rfl
theorem q972 : (Jvm.Cond.methodLink "java/util/HashMap" (375 : Nat) ({ cls := "java/util/HashMap$Node", name := "<init>", desc := "(ILjava/lang/Object;Ljava/lang/Object;Ljava/util/HashMap$Node;)V" } : Jvm.MethodName)) ∈ lw_all := lw_g (lw_at lw_m4 86 rfl) rfl
theorem q979 : (Jvm.Cond.fieldLink "java/util/HashMap" (168 : Nat) "java/util/HashMap$Node" "hash" "I") ∈ lw_all := lw_g (lw_at lw_m4 93 rfl) rfl
theorem q983 : (Jvm.Cond.fieldLink "java/util/HashMap" (170 : Nat) "java/util/HashMap$Node" "key" "Ljava/lang/Object;") ∈ lw_all := lw_g (lw_at lw_m4 97 rfl) rfl
theorem q985 : (Jvm.Cond.fieldLink "java/util/HashMap" (162 : Nat) "java/util/HashMap$Node" "value" "Ljava/lang/Object;") ∈ lw_all := lw_g (lw_at lw_m4 99 rfl) rfl
theorem q990 : (Jvm.Cond.fieldLink "java/util/HashMap" (177 : Nat) "java/util/HashMap$Node" "next" "Ljava/util/HashMap$Node;") ∈ lw_all := lw_g (lw_at lw_m4 104 rfl) rfl
theorem q991 : (Jvm.Cond.fieldLink "java/util/HashMap" (223 : Nat) "java/util/HashMap$TreeNode" "next" "Ljava/util/HashMap$Node;") ∈ lw_all := lw_g (lw_at lw_m4 105 rfl) rfl
theorem q1006 : (Jvm.Cond.static ({ cls := "java/util/HashMap", name := "comparableClassFor", desc := "(Ljava/lang/Object;)Ljava/lang/Class;" } : Jvm.MethodName)) ∈ lw_all := lw_g (lw_at lw_m4 120 rfl) rfl
theorem q1007 : (Jvm.Cond.code ({ cls := "java/util/HashMap", name := "comparableClassFor", desc := "(Ljava/lang/Object;)Ljava/lang/Class;" } : Jvm.MethodName) prog_59_method_2_code (9 : Nat) (Option.some (Jvm.ClassFile.FieldType.object "java/lang/Class"))) ∈ lw_all := lw_g (lw_at lw_m4 121 rfl) rfl
theorem q1008 : (Jvm.Cond.classLink "java/util/HashMap" (7 : Nat) "java/lang/Comparable") ∈ lw_all := lw_g (lw_at lw_m4 122 rfl) rfl
theorem q1009 : (Jvm.Cond.methodLink "java/util/HashMap" (9 : Nat) ({ cls := "java/lang/Object", name := "getClass", desc := "()Ljava/lang/Class;" } : Jvm.MethodName)) ∈ lw_all := lw_g (lw_at lw_m4 123 rfl) rfl
theorem q1037 : (Jvm.Cond.selects "java/util/HashMap" ({ cls := "java/lang/Object", name := "getClass", desc := "()Ljava/lang/Class;" } : Jvm.MethodName) ({ cls := "java/lang/Object", name := "getClass", desc := "()Ljava/lang/Class;" } : Jvm.MethodName)) ∈ lw_all := lw_g (lw_at lw_m4 151 rfl) rfl
theorem q1043 : (Jvm.Cond.classLink "java/util/HashMap" (13 : Nat) "java/lang/String") ∈ lw_all := lw_g (lw_at lw_m4 157 rfl) rfl
theorem q1045 : (Jvm.Cond.static ({ cls := "java/util/HashMap", name := "compareComparables", desc := "(Ljava/lang/Class;Ljava/lang/Object;Ljava/lang/Object;)I" } : Jvm.MethodName)) ∈ lw_all := lw_g (lw_at lw_m4 159 rfl) rfl
theorem q1046 : (Jvm.Cond.code ({ cls := "java/util/HashMap", name := "compareComparables", desc := "(Ljava/lang/Class;Ljava/lang/Object;Ljava/lang/Object;)I" } : Jvm.MethodName) prog_59_method_3_code (3 : Nat) (Option.some Jvm.ClassFile.FieldType.int)) ∈ lw_all := lw_g (lw_at lw_m4 160 rfl) rfl
theorem q1047 : (Jvm.Cond.interfaceEntry "java/util/HashMap" (30 : Nat)) ∈ lw_tbl := lw_at lw_m4 161 rfl
theorem q1048 : (Jvm.Cond.methodLink "java/util/HashMap" (30 : Nat) ({ cls := "java/lang/Comparable", name := "compareTo", desc := "(Ljava/lang/Object;)I" } : Jvm.MethodName)) ∈ lw_all := lw_g (lw_at lw_m4 162 rfl) rfl
theorem q1271 : (Jvm.Cond.methodLink "java/util/HashMap" (186 : Nat) ({ cls := "java/util/HashMap", name := "newNode", desc := "(ILjava/lang/Object;Ljava/lang/Object;Ljava/util/HashMap$Node;)Ljava/util/HashMap$Node;" } : Jvm.MethodName)) ∈ lw_all := lw_g (lw_at lw_m5 145 rfl) rfl
theorem q1272 : (Jvm.Cond.instanceMethod ({ cls := "java/util/HashMap", name := "newNode", desc := "(ILjava/lang/Object;Ljava/lang/Object;Ljava/util/HashMap$Node;)Ljava/util/HashMap$Node;" } : Jvm.MethodName)) ∈ lw_all := lw_g (lw_at lw_m5 146 rfl) rfl
theorem q1273 : (Jvm.Cond.selects "java/util/HashMap" ({ cls := "java/util/HashMap", name := "newNode", desc := "(ILjava/lang/Object;Ljava/lang/Object;Ljava/util/HashMap$Node;)Ljava/util/HashMap$Node;" } : Jvm.MethodName) ({ cls := "java/util/HashMap", name := "newNode", desc := "(ILjava/lang/Object;Ljava/lang/Object;Ljava/util/HashMap$Node;)Ljava/util/HashMap$Node;" } : Jvm.MethodName)) ∈ lw_all := lw_g (lw_at lw_m5 147 rfl) rfl
theorem q1274 : (Jvm.Cond.code ({ cls := "java/util/HashMap", name := "newNode", desc := "(ILjava/lang/Object;Ljava/lang/Object;Ljava/util/HashMap$Node;)Ljava/util/HashMap$Node;" } : Jvm.MethodName) prog_59_method_46_code (5 : Nat) (Option.some (Jvm.ClassFile.FieldType.object "java/util/HashMap$Node"))) ∈ lw_all := lw_g (lw_at lw_m5 148 rfl) rfl
theorem q1276 : (Jvm.Cond.methodLink "java/util/HashMap" (173 : Nat) ({ cls := "java/lang/Object", name := "equals", desc := "(Ljava/lang/Object;)Z" } : Jvm.MethodName)) ∈ lw_all := lw_g (lw_at lw_m5 150 rfl) rfl
theorem q1319 : (Jvm.Cond.methodLink "java/util/HashMap" (190 : Nat) ({ cls := "java/util/HashMap$TreeNode", name := "putTreeVal", desc := "(Ljava/util/HashMap;[Ljava/util/HashMap$Node;ILjava/lang/Object;Ljava/lang/Object;)Ljava/util/HashMap$TreeNode;" } : Jvm.MethodName)) ∈ lw_all := lw_g (lw_at lw_m5 193 rfl) rfl
theorem q1333 : (Jvm.Cond.instanceMethod ({ cls := "java/util/HashMap", name := "newTreeNode", desc := "(ILjava/lang/Object;Ljava/lang/Object;Ljava/util/HashMap$Node;)Ljava/util/HashMap$TreeNode;" } : Jvm.MethodName)) ∈ lw_all := lw_g (lw_at lw_m5 207 rfl) rfl
theorem q1334 : (Jvm.Cond.selects "java/util/HashMap" ({ cls := "java/util/HashMap", name := "newTreeNode", desc := "(ILjava/lang/Object;Ljava/lang/Object;Ljava/util/HashMap$Node;)Ljava/util/HashMap$TreeNode;" } : Jvm.MethodName) ({ cls := "java/util/HashMap", name := "newTreeNode", desc := "(ILjava/lang/Object;Ljava/lang/Object;Ljava/util/HashMap$Node;)Ljava/util/HashMap$TreeNode;" } : Jvm.MethodName)) ∈ lw_all := lw_g (lw_at lw_m5 208 rfl) rfl
theorem q1335 : (Jvm.Cond.code ({ cls := "java/util/HashMap", name := "newTreeNode", desc := "(ILjava/lang/Object;Ljava/lang/Object;Ljava/util/HashMap$Node;)Ljava/util/HashMap$TreeNode;" } : Jvm.MethodName) prog_59_method_48_code (5 : Nat) (Option.some (Jvm.ClassFile.FieldType.object "java/util/HashMap$TreeNode"))) ∈ lw_all := lw_g (lw_at lw_m5 209 rfl) rfl
theorem q1337 : (Jvm.Cond.methodLink "java/util/HashMap" (378 : Nat) ({ cls := "java/util/HashMap$TreeNode", name := "<init>", desc := "(ILjava/lang/Object;Ljava/lang/Object;Ljava/util/HashMap$Node;)V" } : Jvm.MethodName)) ∈ lw_all := lw_g (lw_at lw_m5 211 rfl) rfl
theorem q1348 : (Jvm.Cond.fieldLink "java/util/HashMap" (219 : Nat) "java/util/HashMap$TreeNode" "prev" "Ljava/util/HashMap$TreeNode;") ∈ lw_all := lw_g (lw_at lw_m5 222 rfl) rfl
theorem q1369 : (Jvm.Cond.methodLink "java/util/HashMap" (194 : Nat) ({ cls := "java/util/HashMap", name := "treeifyBin", desc := "([Ljava/util/HashMap$Node;I)V" } : Jvm.MethodName)) ∈ lw_all := lw_g (lw_at lw_m6 3 rfl) rfl
theorem q1370 : (Jvm.Cond.instanceMethod ({ cls := "java/util/HashMap", name := "treeifyBin", desc := "([Ljava/util/HashMap$Node;I)V" } : Jvm.MethodName)) ∈ lw_all := lw_g (lw_at lw_m6 4 rfl) rfl
theorem q1371 : (Jvm.Cond.selects "java/util/HashMap" ({ cls := "java/util/HashMap", name := "treeifyBin", desc := "([Ljava/util/HashMap$Node;I)V" } : Jvm.MethodName) ({ cls := "java/util/HashMap", name := "treeifyBin", desc := "([Ljava/util/HashMap$Node;I)V" } : Jvm.MethodName)) ∈ lw_all := lw_g (lw_at lw_m6 5 rfl) rfl
theorem q1372 : (Jvm.Cond.code ({ cls := "java/util/HashMap", name := "treeifyBin", desc := "([Ljava/util/HashMap$Node;I)V" } : Jvm.MethodName) prog_59_method_18_code (9 : Nat) (Option.none : Option Jvm.ClassFile.FieldType)) ∈ lw_all := lw_g (lw_at lw_m6 6 rfl) rfl
theorem q1373 : (Jvm.Cond.methodLink "java/util/HashMap" (215 : Nat) ({ cls := "java/util/HashMap", name := "replacementTreeNode", desc := "(Ljava/util/HashMap$Node;Ljava/util/HashMap$Node;)Ljava/util/HashMap$TreeNode;" } : Jvm.MethodName)) ∈ lw_all := lw_g (lw_at lw_m6 7 rfl) rfl
theorem q1374 : (Jvm.Cond.instanceMethod ({ cls := "java/util/HashMap", name := "replacementTreeNode", desc := "(Ljava/util/HashMap$Node;Ljava/util/HashMap$Node;)Ljava/util/HashMap$TreeNode;" } : Jvm.MethodName)) ∈ lw_all := lw_g (lw_at lw_m6 8 rfl) rfl
theorem q1375 : (Jvm.Cond.selects "java/util/HashMap" ({ cls := "java/util/HashMap", name := "replacementTreeNode", desc := "(Ljava/util/HashMap$Node;Ljava/util/HashMap$Node;)Ljava/util/HashMap$TreeNode;" } : Jvm.MethodName) ({ cls := "java/util/HashMap", name := "replacementTreeNode", desc := "(Ljava/util/HashMap$Node;Ljava/util/HashMap$Node;)Ljava/util/HashMap$TreeNode;" } : Jvm.MethodName)) ∈ lw_all := lw_g (lw_at lw_m6 9 rfl) rfl
theorem q1376 : (Jvm.Cond.code ({ cls := "java/util/HashMap", name := "replacementTreeNode", desc := "(Ljava/util/HashMap$Node;Ljava/util/HashMap$Node;)Ljava/util/HashMap$TreeNode;" } : Jvm.MethodName) prog_59_method_49_code (3 : Nat) (Option.some (Jvm.ClassFile.FieldType.object "java/util/HashMap$TreeNode"))) ∈ lw_all := lw_g (lw_at lw_m6 10 rfl) rfl
theorem q1377 : (Jvm.Cond.methodLink "java/util/HashMap" (224 : Nat) ({ cls := "java/util/HashMap$TreeNode", name := "treeify", desc := "([Ljava/util/HashMap$Node;)V" } : Jvm.MethodName)) ∈ lw_all := lw_g (lw_at lw_m6 11 rfl) rfl
theorem q1378 : (Jvm.Cond.methodLink "java/util/HashMap" (198 : Nat) ({ cls := "java/util/HashMap", name := "afterNodeAccess", desc := "(Ljava/util/HashMap$Node;)V" } : Jvm.MethodName)) ∈ lw_all := lw_g (lw_at lw_m6 12 rfl) rfl
theorem q1379 : (Jvm.Cond.instanceMethod ({ cls := "java/util/HashMap", name := "afterNodeAccess", desc := "(Ljava/util/HashMap$Node;)V" } : Jvm.MethodName)) ∈ lw_all := lw_g (lw_at lw_m6 13 rfl) rfl
theorem q1380 : (Jvm.Cond.selects "java/util/HashMap" ({ cls := "java/util/HashMap", name := "afterNodeAccess", desc := "(Ljava/util/HashMap$Node;)V" } : Jvm.MethodName) ({ cls := "java/util/HashMap", name := "afterNodeAccess", desc := "(Ljava/util/HashMap$Node;)V" } : Jvm.MethodName)) ∈ lw_all := lw_g (lw_at lw_m6 14 rfl) rfl
theorem q1381 : (Jvm.Cond.code ({ cls := "java/util/HashMap", name := "afterNodeAccess", desc := "(Ljava/util/HashMap$Node;)V" } : Jvm.MethodName) prog_59_method_51_code (2 : Nat) (Option.none : Option Jvm.ClassFile.FieldType)) ∈ lw_all := lw_g (lw_at lw_m6 15 rfl) rfl
theorem q1382 : (Jvm.Cond.methodLink "java/util/HashMap" (205 : Nat) ({ cls := "java/util/HashMap", name := "afterNodeInsertion", desc := "(Z)V" } : Jvm.MethodName)) ∈ lw_all := lw_g (lw_at lw_m6 16 rfl) rfl
theorem q1383 : (Jvm.Cond.instanceMethod ({ cls := "java/util/HashMap", name := "afterNodeInsertion", desc := "(Z)V" } : Jvm.MethodName)) ∈ lw_all := lw_g (lw_at lw_m6 17 rfl) rfl
theorem q1384 : (Jvm.Cond.selects "java/util/HashMap" ({ cls := "java/util/HashMap", name := "afterNodeInsertion", desc := "(Z)V" } : Jvm.MethodName) ({ cls := "java/util/HashMap", name := "afterNodeInsertion", desc := "(Z)V" } : Jvm.MethodName)) ∈ lw_all := lw_g (lw_at lw_m6 18 rfl) rfl
theorem q1385 : (Jvm.Cond.code ({ cls := "java/util/HashMap", name := "afterNodeInsertion", desc := "(Z)V" } : Jvm.MethodName) prog_59_method_52_code (2 : Nat) (Option.none : Option Jvm.ClassFile.FieldType)) ∈ lw_all := lw_g (lw_at lw_m6 19 rfl) rfl
theorem q1752 : (Jvm.Cond.instanceMethod ({ cls := "java/util/HashMap", name := "get", desc := "(Ljava/lang/Object;)Ljava/lang/Object;" } : Jvm.MethodName)) ∈ lw_all := lw_g (lw_at lw_m7 146 rfl) rfl
theorem q1753 : (Jvm.Cond.selects "java/util/HashMap" ({ cls := "java/util/HashMap", name := "get", desc := "(Ljava/lang/Object;)Ljava/lang/Object;" } : Jvm.MethodName) ({ cls := "java/util/HashMap", name := "get", desc := "(Ljava/lang/Object;)Ljava/lang/Object;" } : Jvm.MethodName)) ∈ lw_all := lw_g (lw_at lw_m7 147 rfl) rfl
theorem q1754 : (Jvm.Cond.code ({ cls := "java/util/HashMap", name := "get", desc := "(Ljava/lang/Object;)Ljava/lang/Object;" } : Jvm.MethodName) prog_59_method_12_code (3 : Nat) (Option.some (Jvm.ClassFile.FieldType.object "java/lang/Object"))) ∈ lw_all := lw_g (lw_at lw_m7 148 rfl) rfl
theorem q1755 : (Jvm.Cond.methodLink "java/util/HashMap" (158 : Nat) ({ cls := "java/util/HashMap", name := "getNode", desc := "(Ljava/lang/Object;)Ljava/util/HashMap$Node;" } : Jvm.MethodName)) ∈ lw_all := lw_g (lw_at lw_m7 149 rfl) rfl
theorem q1756 : (Jvm.Cond.instanceMethod ({ cls := "java/util/HashMap", name := "getNode", desc := "(Ljava/lang/Object;)Ljava/util/HashMap$Node;" } : Jvm.MethodName)) ∈ lw_all := lw_g (lw_at lw_m7 150 rfl) rfl
theorem q1757 : (Jvm.Cond.selects "java/util/HashMap" ({ cls := "java/util/HashMap", name := "getNode", desc := "(Ljava/lang/Object;)Ljava/util/HashMap$Node;" } : Jvm.MethodName) ({ cls := "java/util/HashMap", name := "getNode", desc := "(Ljava/lang/Object;)Ljava/util/HashMap$Node;" } : Jvm.MethodName)) ∈ lw_all := lw_g (lw_at lw_m7 151 rfl) rfl
theorem q1758 : (Jvm.Cond.code ({ cls := "java/util/HashMap", name := "getNode", desc := "(Ljava/lang/Object;)Ljava/util/HashMap$Node;" } : Jvm.MethodName) prog_59_method_13_code (8 : Nat) (Option.some (Jvm.ClassFile.FieldType.object "java/util/HashMap$Node"))) ∈ lw_all := lw_g (lw_at lw_m7 152 rfl) rfl
theorem q1759 : (Jvm.Cond.methodLink "java/util/HashMap" (182 : Nat) ({ cls := "java/util/HashMap$TreeNode", name := "getTreeNode", desc := "(ILjava/lang/Object;)Ljava/util/HashMap$TreeNode;" } : Jvm.MethodName)) ∈ lw_all := lw_g (lw_at lw_m7 153 rfl) rfl
theorem q2260 : (Jvm.Cond.instanceMethod ({ cls := "java/util/HashMap", name := "size", desc := "()I" } : Jvm.MethodName)) ∈ lw_all := lw_g (lw_at lw_m9 174 rfl) rfl
theorem q2261 : (Jvm.Cond.selects "java/util/HashMap" ({ cls := "java/util/HashMap", name := "size", desc := "()I" } : Jvm.MethodName) ({ cls := "java/util/HashMap", name := "size", desc := "()I" } : Jvm.MethodName)) ∈ lw_all := lw_g (lw_at lw_m9 175 rfl) rfl
theorem q2262 : (Jvm.Cond.code ({ cls := "java/util/HashMap", name := "size", desc := "()I" } : Jvm.MethodName) prog_59_method_10_code (1 : Nat) (Option.some Jvm.ClassFile.FieldType.int)) ∈ lw_all := lw_g (lw_at lw_m9 176 rfl) rfl
theorem q2645 : (Jvm.Cond.instanceMethod ({ cls := "java/util/HashMap", name := "keysToArray", desc := "([Ljava/lang/Object;)[Ljava/lang/Object;" } : Jvm.MethodName)) ∈ lw_all := lw_g (lw_at lw_m11 79 rfl) rfl
theorem q2646 : (Jvm.Cond.selects "java/util/HashMap" ({ cls := "java/util/HashMap", name := "keysToArray", desc := "([Ljava/lang/Object;)[Ljava/lang/Object;" } : Jvm.MethodName) ({ cls := "java/util/HashMap", name := "keysToArray", desc := "([Ljava/lang/Object;)[Ljava/lang/Object;" } : Jvm.MethodName)) ∈ lw_all := lw_g (lw_at lw_m11 80 rfl) rfl
theorem q2647 : (Jvm.Cond.code ({ cls := "java/util/HashMap", name := "keysToArray", desc := "([Ljava/lang/Object;)[Ljava/lang/Object;" } : Jvm.MethodName) prog_59_method_26_code (9 : Nat) (Option.some (Jvm.ClassFile.FieldType.array (Jvm.ClassFile.FieldType.object "java/lang/Object")))) ∈ lw_all := lw_g (lw_at lw_m11 81 rfl) rfl
theorem q3528 : (Jvm.Cond.castable "java/util/HashMap" "java/lang/Object") ∈ lw_tbl := lw_at lw_m15 2 rfl
theorem in_J5 : ∀ w ∈ wsJ50, w ∈ lw_all := lw_in wsJ50 [764, 766, 752, 754, 756, 758, 760, 762] (by decide +kernel) (by decide +kernel)
/-! java/lang/AbstractStringBuilder -/
set_option maxRecDepth 100000
def RJ6 : String := "java/lang/AbstractStringBuilder"
abbrev cJ6_init : ByteArray := prog_24_method_2_code
def yJ6_init : MethodName := ⟨RJ6, "<init>", "(I)V"⟩
def dkwJ6_init_1 : List UInt8 := [167, 0, 16, 42, 27, 184, 0, 26, 181, 0, 15, 42, 4, 181, 0, 22, 177]
abbrev dktJ6_init_1 : List UInt8 := dkwJ6_init_1 ++ []
def dkwJ6_init_0 : List UInt8 := [42, 183, 0, 3, 178, 0, 18, 153, 0, 18, 42, 27, 188, 8, 181, 0, 15, 42, 3, 181, 0, 22]
abbrev dktJ6_init_0 : List UInt8 := dkwJ6_init_0 ++ dktJ6_init_1
theorem dksJ6_init_0 : cJ6_init.data.toList.drop 0 = dktJ6_init_0 := by decide +kernel
theorem dksJ6_init_1 : cJ6_init.data.toList.drop 22 = dktJ6_init_1 := dk_seg dksJ6_init_0 22 rfl rfl
theorem dJ6_init_0 : decode cJ6_init 0 = .ok (.aload_n 0, 1) := dk_42 (dk_at dksJ6_init_0 0 rfl rfl)
theorem dJ6_init_1 : decode cJ6_init 1 = .ok (.invokespecial 3, 3) := dk_183 0 3 (dk_at dksJ6_init_0 1 rfl rfl)
theorem dJ6_init_4 : decode cJ6_init 4 = .ok (.getstatic 18, 3) := dk_178 0 18 (dk_at dksJ6_init_0 4 rfl rfl)
theorem dJ6_init_7 : decode cJ6_init 7 = .ok (.ifCond .eq 18, 3) := dk_153 0 18 (dk_at dksJ6_init_0 7 rfl rfl)
theorem dJ6_init_10 : decode cJ6_init 10 = .ok (.aload_n 0, 1) := dk_42 (dk_at dksJ6_init_0 10 rfl rfl)
theorem dJ6_init_11 : decode cJ6_init 11 = .ok (.iload_n 1, 1) := dk_27 (dk_at dksJ6_init_0 11 rfl rfl)
theorem dJ6_init_12 : decode cJ6_init 12 = .ok (.newarray .byte, 2) := dk_188_8 (dk_at dksJ6_init_0 12 rfl rfl)
theorem dJ6_init_14 : decode cJ6_init 14 = .ok (.putfield 15, 3) := dk_181 0 15 (dk_at dksJ6_init_0 14 rfl rfl)
theorem dJ6_init_17 : decode cJ6_init 17 = .ok (.aload_n 0, 1) := dk_42 (dk_at dksJ6_init_0 17 rfl rfl)
theorem dJ6_init_18 : decode cJ6_init 18 = .ok (.iconst 0, 1) := dk_3 (dk_at dksJ6_init_0 18 rfl rfl)
theorem dJ6_init_19 : decode cJ6_init 19 = .ok (.putfield 22, 3) := dk_181 0 22 (dk_at dksJ6_init_0 19 rfl rfl)
theorem dJ6_init_22 : decode cJ6_init 22 = .ok (.goto 16, 3) := dk_167 0 16 (dk_at dksJ6_init_1 0 rfl rfl)
theorem dJ6_init_25 : decode cJ6_init 25 = .ok (.aload_n 0, 1) := dk_42 (dk_at dksJ6_init_1 3 rfl rfl)
theorem dJ6_init_26 : decode cJ6_init 26 = .ok (.iload_n 1, 1) := dk_27 (dk_at dksJ6_init_1 4 rfl rfl)
theorem dJ6_init_27 : decode cJ6_init 27 = .ok (.invokestatic 26, 3) := dk_184 0 26 (dk_at dksJ6_init_1 5 rfl rfl)
theorem dJ6_init_30 : decode cJ6_init 30 = .ok (.putfield 15, 3) := dk_181 0 15 (dk_at dksJ6_init_1 8 rfl rfl)
theorem dJ6_init_33 : decode cJ6_init 33 = .ok (.aload_n 0, 1) := dk_42 (dk_at dksJ6_init_1 11 rfl rfl)
theorem dJ6_init_34 : decode cJ6_init 34 = .ok (.iconst 1, 1) := dk_4 (dk_at dksJ6_init_1 12 rfl rfl)
theorem dJ6_init_35 : decode cJ6_init 35 = .ok (.putfield 22, 3) := dk_181 0 22 (dk_at dksJ6_init_1 13 rfl rfl)
theorem dJ6_init_38 : decode cJ6_init 38 = .ok (.return_, 1) := dk_177 (dk_at dksJ6_init_1 16 rfl rfl)
abbrev cJ6_compareTo : ByteArray := prog_24_method_5_code
def yJ6_compareTo : MethodName := ⟨RJ6, "compareTo", "(Ljava/lang/AbstractStringBuilder;)I"⟩
def dkwJ6_compareTo_4 : List UInt8 := [184, 0, 97, 172]
abbrev dktJ6_compareTo_4 : List UInt8 := dkwJ6_compareTo_4 ++ []
def dkwJ6_compareTo_3 : List UInt8 := [182, 0, 83, 153, 0, 15, 44, 45, 21, 4, 21, 5, 184, 0, 94, 167, 0, 12, 44, 45, 21, 4, 21, 5]
abbrev dktJ6_compareTo_3 : List UInt8 := dkwJ6_compareTo_3 ++ dktJ6_compareTo_4
def dkwJ6_compareTo_2 : List UInt8 := [45, 21, 4, 21, 5, 184, 0, 87, 167, 0, 12, 44, 45, 21, 4, 21, 5, 184, 0, 93, 172, 42]
abbrev dktJ6_compareTo_2 : List UInt8 := dkwJ6_compareTo_2 ++ dktJ6_compareTo_3
def dkwJ6_compareTo_1 : List UInt8 := [180, 0, 79, 54, 5, 42, 180, 0, 22, 43, 180, 0, 22, 160, 0, 32, 42, 182, 0, 83, 153, 0, 15, 44]
abbrev dktJ6_compareTo_1 : List UInt8 := dkwJ6_compareTo_1 ++ dktJ6_compareTo_2
def dkwJ6_compareTo_0 : List UInt8 := [42, 43, 166, 0, 5, 3, 172, 42, 180, 0, 15, 77, 43, 180, 0, 15, 78, 42, 180, 0, 79, 54, 4, 43]
abbrev dktJ6_compareTo_0 : List UInt8 := dkwJ6_compareTo_0 ++ dktJ6_compareTo_1
theorem dksJ6_compareTo_0 : cJ6_compareTo.data.toList.drop 0 = dktJ6_compareTo_0 := by decide +kernel
theorem dksJ6_compareTo_1 : cJ6_compareTo.data.toList.drop 24 = dktJ6_compareTo_1 := dk_seg dksJ6_compareTo_0 24 rfl rfl
theorem dksJ6_compareTo_2 : cJ6_compareTo.data.toList.drop 48 = dktJ6_compareTo_2 := dk_seg dksJ6_compareTo_1 24 rfl rfl
theorem dksJ6_compareTo_3 : cJ6_compareTo.data.toList.drop 70 = dktJ6_compareTo_3 := dk_seg dksJ6_compareTo_2 22 rfl rfl
theorem dksJ6_compareTo_4 : cJ6_compareTo.data.toList.drop 94 = dktJ6_compareTo_4 := dk_seg dksJ6_compareTo_3 24 rfl rfl
theorem dJ6_compareTo_0 : decode cJ6_compareTo 0 = .ok (.aload_n 0, 1) := dk_42 (dk_at dksJ6_compareTo_0 0 rfl rfl)
theorem dJ6_compareTo_1 : decode cJ6_compareTo 1 = .ok (.aload_n 1, 1) := dk_43 (dk_at dksJ6_compareTo_0 1 rfl rfl)
theorem dJ6_compareTo_2 : decode cJ6_compareTo 2 = .ok (.if_acmp .ne 5, 3) := dk_166 0 5 (dk_at dksJ6_compareTo_0 2 rfl rfl)
theorem dJ6_compareTo_5 : decode cJ6_compareTo 5 = .ok (.iconst 0, 1) := dk_3 (dk_at dksJ6_compareTo_0 5 rfl rfl)
theorem dJ6_compareTo_6 : decode cJ6_compareTo 6 = .ok (.ireturn, 1) := dk_172 (dk_at dksJ6_compareTo_0 6 rfl rfl)
theorem dJ6_compareTo_7 : decode cJ6_compareTo 7 = .ok (.aload_n 0, 1) := dk_42 (dk_at dksJ6_compareTo_0 7 rfl rfl)
theorem dJ6_compareTo_8 : decode cJ6_compareTo 8 = .ok (.getfield 15, 3) := dk_180 0 15 (dk_at dksJ6_compareTo_0 8 rfl rfl)
theorem dJ6_compareTo_11 : decode cJ6_compareTo 11 = .ok (.astore_n 2, 1) := dk_77 (dk_at dksJ6_compareTo_0 11 rfl rfl)
theorem dJ6_compareTo_12 : decode cJ6_compareTo 12 = .ok (.aload_n 1, 1) := dk_43 (dk_at dksJ6_compareTo_0 12 rfl rfl)
theorem dJ6_compareTo_13 : decode cJ6_compareTo 13 = .ok (.getfield 15, 3) := dk_180 0 15 (dk_at dksJ6_compareTo_0 13 rfl rfl)
theorem dJ6_compareTo_16 : decode cJ6_compareTo 16 = .ok (.astore_n 3, 1) := dk_78 (dk_at dksJ6_compareTo_0 16 rfl rfl)
theorem dJ6_compareTo_17 : decode cJ6_compareTo 17 = .ok (.aload_n 0, 1) := dk_42 (dk_at dksJ6_compareTo_0 17 rfl rfl)
theorem dJ6_compareTo_18 : decode cJ6_compareTo 18 = .ok (.getfield 79, 3) := dk_180 0 79 (dk_at dksJ6_compareTo_0 18 rfl rfl)
theorem dJ6_compareTo_21 : decode cJ6_compareTo 21 = .ok (.istore 4, 2) := dk_54 4 (dk_at dksJ6_compareTo_0 21 rfl rfl)
theorem dJ6_compareTo_23 : decode cJ6_compareTo 23 = .ok (.aload_n 1, 1) := dk_43 (dk_at dksJ6_compareTo_0 23 rfl rfl)
theorem dJ6_compareTo_24 : decode cJ6_compareTo 24 = .ok (.getfield 79, 3) := dk_180 0 79 (dk_at dksJ6_compareTo_1 0 rfl rfl)
theorem dJ6_compareTo_27 : decode cJ6_compareTo 27 = .ok (.istore 5, 2) := dk_54 5 (dk_at dksJ6_compareTo_1 3 rfl rfl)
theorem dJ6_compareTo_29 : decode cJ6_compareTo 29 = .ok (.aload_n 0, 1) := dk_42 (dk_at dksJ6_compareTo_1 5 rfl rfl)
theorem dJ6_compareTo_30 : decode cJ6_compareTo 30 = .ok (.getfield 22, 3) := dk_180 0 22 (dk_at dksJ6_compareTo_1 6 rfl rfl)
theorem dJ6_compareTo_33 : decode cJ6_compareTo 33 = .ok (.aload_n 1, 1) := dk_43 (dk_at dksJ6_compareTo_1 9 rfl rfl)
theorem dJ6_compareTo_34 : decode cJ6_compareTo 34 = .ok (.getfield 22, 3) := dk_180 0 22 (dk_at dksJ6_compareTo_1 10 rfl rfl)
theorem dJ6_compareTo_37 : decode cJ6_compareTo 37 = .ok (.if_icmp .ne 32, 3) := dk_160 0 32 (dk_at dksJ6_compareTo_1 13 rfl rfl)
theorem dJ6_compareTo_40 : decode cJ6_compareTo 40 = .ok (.aload_n 0, 1) := dk_42 (dk_at dksJ6_compareTo_1 16 rfl rfl)
theorem dJ6_compareTo_41 : decode cJ6_compareTo 41 = .ok (.invokevirtual 83, 3) := dk_182 0 83 (dk_at dksJ6_compareTo_1 17 rfl rfl)
theorem dJ6_compareTo_44 : decode cJ6_compareTo 44 = .ok (.ifCond .eq 15, 3) := dk_153 0 15 (dk_at dksJ6_compareTo_1 20 rfl rfl)
theorem dJ6_compareTo_47 : decode cJ6_compareTo 47 = .ok (.aload_n 2, 1) := dk_44 (dk_at dksJ6_compareTo_1 23 rfl rfl)
theorem dJ6_compareTo_48 : decode cJ6_compareTo 48 = .ok (.aload_n 3, 1) := dk_45 (dk_at dksJ6_compareTo_2 0 rfl rfl)
theorem dJ6_compareTo_49 : decode cJ6_compareTo 49 = .ok (.iload 4, 2) := dk_21 4 (dk_at dksJ6_compareTo_2 1 rfl rfl)
theorem dJ6_compareTo_51 : decode cJ6_compareTo 51 = .ok (.iload 5, 2) := dk_21 5 (dk_at dksJ6_compareTo_2 3 rfl rfl)
theorem dJ6_compareTo_53 : decode cJ6_compareTo 53 = .ok (.invokestatic 87, 3) := dk_184 0 87 (dk_at dksJ6_compareTo_2 5 rfl rfl)
theorem dJ6_compareTo_56 : decode cJ6_compareTo 56 = .ok (.goto 12, 3) := dk_167 0 12 (dk_at dksJ6_compareTo_2 8 rfl rfl)
theorem dJ6_compareTo_59 : decode cJ6_compareTo 59 = .ok (.aload_n 2, 1) := dk_44 (dk_at dksJ6_compareTo_2 11 rfl rfl)
theorem dJ6_compareTo_60 : decode cJ6_compareTo 60 = .ok (.aload_n 3, 1) := dk_45 (dk_at dksJ6_compareTo_2 12 rfl rfl)
theorem dJ6_compareTo_61 : decode cJ6_compareTo 61 = .ok (.iload 4, 2) := dk_21 4 (dk_at dksJ6_compareTo_2 13 rfl rfl)
theorem dJ6_compareTo_63 : decode cJ6_compareTo 63 = .ok (.iload 5, 2) := dk_21 5 (dk_at dksJ6_compareTo_2 15 rfl rfl)
theorem dJ6_compareTo_65 : decode cJ6_compareTo 65 = .ok (.invokestatic 93, 3) := dk_184 0 93 (dk_at dksJ6_compareTo_2 17 rfl rfl)
theorem dJ6_compareTo_68 : decode cJ6_compareTo 68 = .ok (.ireturn, 1) := dk_172 (dk_at dksJ6_compareTo_2 20 rfl rfl)
theorem dJ6_compareTo_69 : decode cJ6_compareTo 69 = .ok (.aload_n 0, 1) := dk_42 (dk_at dksJ6_compareTo_2 21 rfl rfl)
theorem dJ6_compareTo_70 : decode cJ6_compareTo 70 = .ok (.invokevirtual 83, 3) := dk_182 0 83 (dk_at dksJ6_compareTo_3 0 rfl rfl)
theorem dJ6_compareTo_73 : decode cJ6_compareTo 73 = .ok (.ifCond .eq 15, 3) := dk_153 0 15 (dk_at dksJ6_compareTo_3 3 rfl rfl)
theorem dJ6_compareTo_76 : decode cJ6_compareTo 76 = .ok (.aload_n 2, 1) := dk_44 (dk_at dksJ6_compareTo_3 6 rfl rfl)
theorem dJ6_compareTo_77 : decode cJ6_compareTo 77 = .ok (.aload_n 3, 1) := dk_45 (dk_at dksJ6_compareTo_3 7 rfl rfl)
theorem dJ6_compareTo_78 : decode cJ6_compareTo 78 = .ok (.iload 4, 2) := dk_21 4 (dk_at dksJ6_compareTo_3 8 rfl rfl)
theorem dJ6_compareTo_80 : decode cJ6_compareTo 80 = .ok (.iload 5, 2) := dk_21 5 (dk_at dksJ6_compareTo_3 10 rfl rfl)
theorem dJ6_compareTo_82 : decode cJ6_compareTo 82 = .ok (.invokestatic 94, 3) := dk_184 0 94 (dk_at dksJ6_compareTo_3 12 rfl rfl)
theorem dJ6_compareTo_85 : decode cJ6_compareTo 85 = .ok (.goto 12, 3) := dk_167 0 12 (dk_at dksJ6_compareTo_3 15 rfl rfl)
theorem dJ6_compareTo_88 : decode cJ6_compareTo 88 = .ok (.aload_n 2, 1) := dk_44 (dk_at dksJ6_compareTo_3 18 rfl rfl)
theorem dJ6_compareTo_89 : decode cJ6_compareTo 89 = .ok (.aload_n 3, 1) := dk_45 (dk_at dksJ6_compareTo_3 19 rfl rfl)
theorem dJ6_compareTo_90 : decode cJ6_compareTo 90 = .ok (.iload 4, 2) := dk_21 4 (dk_at dksJ6_compareTo_3 20 rfl rfl)
theorem dJ6_compareTo_92 : decode cJ6_compareTo 92 = .ok (.iload 5, 2) := dk_21 5 (dk_at dksJ6_compareTo_3 22 rfl rfl)
theorem dJ6_compareTo_94 : decode cJ6_compareTo 94 = .ok (.invokestatic 97, 3) := dk_184 0 97 (dk_at dksJ6_compareTo_4 0 rfl rfl)
theorem dJ6_compareTo_97 : decode cJ6_compareTo 97 = .ok (.ireturn, 1) := dk_172 (dk_at dksJ6_compareTo_4 3 rfl rfl)
abbrev cJ6_isLatin1 : ByteArray := prog_24_method_68_code
def yJ6_isLatin1 : MethodName := ⟨RJ6, "isLatin1", "()Z"⟩
def dkwJ6_isLatin1_0 : List UInt8 := [178, 0, 18, 153, 0, 14, 42, 180, 0, 22, 154, 0, 7, 4, 167, 0, 4, 3, 172]
abbrev dktJ6_isLatin1_0 : List UInt8 := dkwJ6_isLatin1_0 ++ []
theorem dksJ6_isLatin1_0 : cJ6_isLatin1.data.toList.drop 0 = dktJ6_isLatin1_0 := by decide +kernel
theorem dJ6_isLatin1_0 : decode cJ6_isLatin1 0 = .ok (.getstatic 18, 3) := dk_178 0 18 (dk_at dksJ6_isLatin1_0 0 rfl rfl)
theorem dJ6_isLatin1_3 : decode cJ6_isLatin1 3 = .ok (.ifCond .eq 14, 3) := dk_153 0 14 (dk_at dksJ6_isLatin1_0 3 rfl rfl)
theorem dJ6_isLatin1_6 : decode cJ6_isLatin1 6 = .ok (.aload_n 0, 1) := dk_42 (dk_at dksJ6_isLatin1_0 6 rfl rfl)
theorem dJ6_isLatin1_7 : decode cJ6_isLatin1 7 = .ok (.getfield 22, 3) := dk_180 0 22 (dk_at dksJ6_isLatin1_0 7 rfl rfl)
theorem dJ6_isLatin1_10 : decode cJ6_isLatin1 10 = .ok (.ifCond .ne 7, 3) := dk_154 0 7 (dk_at dksJ6_isLatin1_0 10 rfl rfl)
theorem dJ6_isLatin1_13 : decode cJ6_isLatin1 13 = .ok (.iconst 1, 1) := dk_4 (dk_at dksJ6_isLatin1_0 13 rfl rfl)
theorem dJ6_isLatin1_14 : decode cJ6_isLatin1 14 = .ok (.goto 4, 3) := dk_167 0 4 (dk_at dksJ6_isLatin1_0 14 rfl rfl)
theorem dJ6_isLatin1_17 : decode cJ6_isLatin1 17 = .ok (.iconst 0, 1) := dk_3 (dk_at dksJ6_isLatin1_0 17 rfl rfl)
theorem dJ6_isLatin1_18 : decode cJ6_isLatin1 18 = .ok (.ireturn, 1) := dk_172 (dk_at dksJ6_isLatin1_0 18 rfl rfl)
abbrev cJ6_setLength : ByteArray := prog_24_method_13_code
def yJ6_setLength : MethodName := ⟨RJ6, "setLength", "(I)V"⟩
def dkwJ6_setLength_3 : List UInt8 := [164, 0, 8, 42, 4, 181, 0, 73, 42, 27, 181, 0, 79, 177]
abbrev dktJ6_setLength_3 : List UInt8 := dkwJ6_setLength_3 ++ []
def dkwJ6_setLength_2 : List UInt8 := [167, 0, 31, 42, 180, 0, 15, 42, 180, 0, 79, 27, 184, 0, 137, 167, 0, 16, 42, 180, 0, 79, 27]
abbrev dktJ6_setLength_2 : List UInt8 := dkwJ6_setLength_2 ++ dktJ6_setLength_3
def dkwJ6_setLength_1 : List UInt8 := [162, 0, 40, 42, 182, 0, 83, 153, 0, 18, 42, 180, 0, 15, 42, 180, 0, 79, 27, 184, 0, 133]
abbrev dktJ6_setLength_1 : List UInt8 := dkwJ6_setLength_1 ++ dktJ6_setLength_2
def dkwJ6_setLength_0 : List UInt8 := [27, 156, 0, 12, 187, 0, 129, 89, 27, 183, 0, 131, 191, 42, 27, 182, 0, 100, 42, 180, 0, 79, 27]
abbrev dktJ6_setLength_0 : List UInt8 := dkwJ6_setLength_0 ++ dktJ6_setLength_1
theorem dksJ6_setLength_0 : cJ6_setLength.data.toList.drop 0 = dktJ6_setLength_0 := by decide +kernel
theorem dksJ6_setLength_1 : cJ6_setLength.data.toList.drop 23 = dktJ6_setLength_1 := dk_seg dksJ6_setLength_0 23 rfl rfl
theorem dksJ6_setLength_2 : cJ6_setLength.data.toList.drop 45 = dktJ6_setLength_2 := dk_seg dksJ6_setLength_1 22 rfl rfl
theorem dksJ6_setLength_3 : cJ6_setLength.data.toList.drop 68 = dktJ6_setLength_3 := dk_seg dksJ6_setLength_2 23 rfl rfl
theorem dJ6_setLength_0 : decode cJ6_setLength 0 = .ok (.iload_n 1, 1) := dk_27 (dk_at dksJ6_setLength_0 0 rfl rfl)
theorem dJ6_setLength_1 : decode cJ6_setLength 1 = .ok (.ifCond .ge 12, 3) := dk_156 0 12 (dk_at dksJ6_setLength_0 1 rfl rfl)
theorem dJ6_setLength_4 : decode cJ6_setLength 4 = .ok (.new 129, 3) := dk_187 0 129 (dk_at dksJ6_setLength_0 4 rfl rfl)
theorem dJ6_setLength_7 : decode cJ6_setLength 7 = .ok (.dup, 1) := dk_89 (dk_at dksJ6_setLength_0 7 rfl rfl)
theorem dJ6_setLength_8 : decode cJ6_setLength 8 = .ok (.iload_n 1, 1) := dk_27 (dk_at dksJ6_setLength_0 8 rfl rfl)
theorem dJ6_setLength_9 : decode cJ6_setLength 9 = .ok (.invokespecial 131, 3) := dk_183 0 131 (dk_at dksJ6_setLength_0 9 rfl rfl)
theorem dJ6_setLength_12 : decode cJ6_setLength 12 = .ok (.athrow, 1) := dk_191 (dk_at dksJ6_setLength_0 12 rfl rfl)
theorem dJ6_setLength_13 : decode cJ6_setLength 13 = .ok (.aload_n 0, 1) := dk_42 (dk_at dksJ6_setLength_0 13 rfl rfl)
theorem dJ6_setLength_14 : decode cJ6_setLength 14 = .ok (.iload_n 1, 1) := dk_27 (dk_at dksJ6_setLength_0 14 rfl rfl)
theorem dJ6_setLength_15 : decode cJ6_setLength 15 = .ok (.invokevirtual 100, 3) := dk_182 0 100 (dk_at dksJ6_setLength_0 15 rfl rfl)
theorem dJ6_setLength_18 : decode cJ6_setLength 18 = .ok (.aload_n 0, 1) := dk_42 (dk_at dksJ6_setLength_0 18 rfl rfl)
theorem dJ6_setLength_19 : decode cJ6_setLength 19 = .ok (.getfield 79, 3) := dk_180 0 79 (dk_at dksJ6_setLength_0 19 rfl rfl)
theorem dJ6_setLength_22 : decode cJ6_setLength 22 = .ok (.iload_n 1, 1) := dk_27 (dk_at dksJ6_setLength_0 22 rfl rfl)
theorem dJ6_setLength_23 : decode cJ6_setLength 23 = .ok (.if_icmp .ge 40, 3) := dk_162 0 40 (dk_at dksJ6_setLength_1 0 rfl rfl)
theorem dJ6_setLength_26 : decode cJ6_setLength 26 = .ok (.aload_n 0, 1) := dk_42 (dk_at dksJ6_setLength_1 3 rfl rfl)
theorem dJ6_setLength_27 : decode cJ6_setLength 27 = .ok (.invokevirtual 83, 3) := dk_182 0 83 (dk_at dksJ6_setLength_1 4 rfl rfl)
theorem dJ6_setLength_30 : decode cJ6_setLength 30 = .ok (.ifCond .eq 18, 3) := dk_153 0 18 (dk_at dksJ6_setLength_1 7 rfl rfl)
theorem dJ6_setLength_33 : decode cJ6_setLength 33 = .ok (.aload_n 0, 1) := dk_42 (dk_at dksJ6_setLength_1 10 rfl rfl)
theorem dJ6_setLength_34 : decode cJ6_setLength 34 = .ok (.getfield 15, 3) := dk_180 0 15 (dk_at dksJ6_setLength_1 11 rfl rfl)
theorem dJ6_setLength_37 : decode cJ6_setLength 37 = .ok (.aload_n 0, 1) := dk_42 (dk_at dksJ6_setLength_1 14 rfl rfl)
theorem dJ6_setLength_38 : decode cJ6_setLength 38 = .ok (.getfield 79, 3) := dk_180 0 79 (dk_at dksJ6_setLength_1 15 rfl rfl)
theorem dJ6_setLength_41 : decode cJ6_setLength 41 = .ok (.iload_n 1, 1) := dk_27 (dk_at dksJ6_setLength_1 18 rfl rfl)
theorem dJ6_setLength_42 : decode cJ6_setLength 42 = .ok (.invokestatic 133, 3) := dk_184 0 133 (dk_at dksJ6_setLength_1 19 rfl rfl)
theorem dJ6_setLength_45 : decode cJ6_setLength 45 = .ok (.goto 31, 3) := dk_167 0 31 (dk_at dksJ6_setLength_2 0 rfl rfl)
theorem dJ6_setLength_48 : decode cJ6_setLength 48 = .ok (.aload_n 0, 1) := dk_42 (dk_at dksJ6_setLength_2 3 rfl rfl)
theorem dJ6_setLength_49 : decode cJ6_setLength 49 = .ok (.getfield 15, 3) := dk_180 0 15 (dk_at dksJ6_setLength_2 4 rfl rfl)
theorem dJ6_setLength_52 : decode cJ6_setLength 52 = .ok (.aload_n 0, 1) := dk_42 (dk_at dksJ6_setLength_2 7 rfl rfl)
theorem dJ6_setLength_53 : decode cJ6_setLength 53 = .ok (.getfield 79, 3) := dk_180 0 79 (dk_at dksJ6_setLength_2 8 rfl rfl)
theorem dJ6_setLength_56 : decode cJ6_setLength 56 = .ok (.iload_n 1, 1) := dk_27 (dk_at dksJ6_setLength_2 11 rfl rfl)
theorem dJ6_setLength_57 : decode cJ6_setLength 57 = .ok (.invokestatic 137, 3) := dk_184 0 137 (dk_at dksJ6_setLength_2 12 rfl rfl)
theorem dJ6_setLength_60 : decode cJ6_setLength 60 = .ok (.goto 16, 3) := dk_167 0 16 (dk_at dksJ6_setLength_2 15 rfl rfl)
theorem dJ6_setLength_63 : decode cJ6_setLength 63 = .ok (.aload_n 0, 1) := dk_42 (dk_at dksJ6_setLength_2 18 rfl rfl)
theorem dJ6_setLength_64 : decode cJ6_setLength 64 = .ok (.getfield 79, 3) := dk_180 0 79 (dk_at dksJ6_setLength_2 19 rfl rfl)
theorem dJ6_setLength_67 : decode cJ6_setLength 67 = .ok (.iload_n 1, 1) := dk_27 (dk_at dksJ6_setLength_2 22 rfl rfl)
theorem dJ6_setLength_68 : decode cJ6_setLength 68 = .ok (.if_icmp .le 8, 3) := dk_164 0 8 (dk_at dksJ6_setLength_3 0 rfl rfl)
theorem dJ6_setLength_71 : decode cJ6_setLength 71 = .ok (.aload_n 0, 1) := dk_42 (dk_at dksJ6_setLength_3 3 rfl rfl)
theorem dJ6_setLength_72 : decode cJ6_setLength 72 = .ok (.iconst 1, 1) := dk_4 (dk_at dksJ6_setLength_3 4 rfl rfl)
theorem dJ6_setLength_73 : decode cJ6_setLength 73 = .ok (.putfield 73, 3) := dk_181 0 73 (dk_at dksJ6_setLength_3 5 rfl rfl)
theorem dJ6_setLength_76 : decode cJ6_setLength 76 = .ok (.aload_n 0, 1) := dk_42 (dk_at dksJ6_setLength_3 8 rfl rfl)
theorem dJ6_setLength_77 : decode cJ6_setLength 77 = .ok (.iload_n 1, 1) := dk_27 (dk_at dksJ6_setLength_3 9 rfl rfl)
theorem dJ6_setLength_78 : decode cJ6_setLength 78 = .ok (.putfield 79, 3) := dk_181 0 79 (dk_at dksJ6_setLength_3 10 rfl rfl)
theorem dJ6_setLength_81 : decode cJ6_setLength 81 = .ok (.return_, 1) := dk_177 (dk_at dksJ6_setLength_3 13 rfl rfl)
abbrev cJ6_append : ByteArray := prog_24_method_22_code
def yJ6_append : MethodName := ⟨RJ6, "append", "(Ljava/lang/String;)Ljava/lang/AbstractStringBuilder;"⟩
def dkwJ6_append_1 : List UInt8 := [42, 42, 180, 0, 79, 43, 182, 0, 208, 42, 89, 180, 0, 79, 28, 96, 181, 0, 79, 42, 176]
abbrev dktJ6_append_1 : List UInt8 := dkwJ6_append_1 ++ []
def dkwJ6_append_0 : List UInt8 := [43, 199, 0, 8, 42, 182, 0, 204, 176, 43, 182, 0, 32, 61, 42, 42, 180, 0, 79, 28, 96, 182, 0, 100]
abbrev dktJ6_append_0 : List UInt8 := dkwJ6_append_0 ++ dktJ6_append_1
theorem dksJ6_append_0 : cJ6_append.data.toList.drop 0 = dktJ6_append_0 := by decide +kernel
theorem dksJ6_append_1 : cJ6_append.data.toList.drop 24 = dktJ6_append_1 := dk_seg dksJ6_append_0 24 rfl rfl
theorem dJ6_append_0 : decode cJ6_append 0 = .ok (.aload_n 1, 1) := dk_43 (dk_at dksJ6_append_0 0 rfl rfl)
theorem dJ6_append_1 : decode cJ6_append 1 = .ok (.ifnonnull 8, 3) := dk_199 0 8 (dk_at dksJ6_append_0 1 rfl rfl)
theorem dJ6_append_4 : decode cJ6_append 4 = .ok (.aload_n 0, 1) := dk_42 (dk_at dksJ6_append_0 4 rfl rfl)
theorem dJ6_append_5 : decode cJ6_append 5 = .ok (.invokevirtual 204, 3) := dk_182 0 204 (dk_at dksJ6_append_0 5 rfl rfl)
theorem dJ6_append_8 : decode cJ6_append 8 = .ok (.areturn, 1) := dk_176 (dk_at dksJ6_append_0 8 rfl rfl)
theorem dJ6_append_9 : decode cJ6_append 9 = .ok (.aload_n 1, 1) := dk_43 (dk_at dksJ6_append_0 9 rfl rfl)
theorem dJ6_append_10 : decode cJ6_append 10 = .ok (.invokevirtual 32, 3) := dk_182 0 32 (dk_at dksJ6_append_0 10 rfl rfl)
theorem dJ6_append_13 : decode cJ6_append 13 = .ok (.istore_n 2, 1) := dk_61 (dk_at dksJ6_append_0 13 rfl rfl)
theorem dJ6_append_14 : decode cJ6_append 14 = .ok (.aload_n 0, 1) := dk_42 (dk_at dksJ6_append_0 14 rfl rfl)
theorem dJ6_append_15 : decode cJ6_append 15 = .ok (.aload_n 0, 1) := dk_42 (dk_at dksJ6_append_0 15 rfl rfl)
theorem dJ6_append_16 : decode cJ6_append 16 = .ok (.getfield 79, 3) := dk_180 0 79 (dk_at dksJ6_append_0 16 rfl rfl)
theorem dJ6_append_19 : decode cJ6_append 19 = .ok (.iload_n 2, 1) := dk_28 (dk_at dksJ6_append_0 19 rfl rfl)
theorem dJ6_append_20 : decode cJ6_append 20 = .ok (.iadd, 1) := dk_96 (dk_at dksJ6_append_0 20 rfl rfl)
theorem dJ6_append_21 : decode cJ6_append 21 = .ok (.invokevirtual 100, 3) := dk_182 0 100 (dk_at dksJ6_append_0 21 rfl rfl)
theorem dJ6_append_24 : decode cJ6_append 24 = .ok (.aload_n 0, 1) := dk_42 (dk_at dksJ6_append_1 0 rfl rfl)
theorem dJ6_append_25 : decode cJ6_append 25 = .ok (.aload_n 0, 1) := dk_42 (dk_at dksJ6_append_1 1 rfl rfl)
theorem dJ6_append_26 : decode cJ6_append 26 = .ok (.getfield 79, 3) := dk_180 0 79 (dk_at dksJ6_append_1 2 rfl rfl)
theorem dJ6_append_29 : decode cJ6_append 29 = .ok (.aload_n 1, 1) := dk_43 (dk_at dksJ6_append_1 5 rfl rfl)
theorem dJ6_append_30 : decode cJ6_append 30 = .ok (.invokevirtual 208, 3) := dk_182 0 208 (dk_at dksJ6_append_1 6 rfl rfl)
theorem dJ6_append_33 : decode cJ6_append 33 = .ok (.aload_n 0, 1) := dk_42 (dk_at dksJ6_append_1 9 rfl rfl)
theorem dJ6_append_34 : decode cJ6_append 34 = .ok (.dup, 1) := dk_89 (dk_at dksJ6_append_1 10 rfl rfl)
theorem dJ6_append_35 : decode cJ6_append 35 = .ok (.getfield 79, 3) := dk_180 0 79 (dk_at dksJ6_append_1 11 rfl rfl)
theorem dJ6_append_38 : decode cJ6_append 38 = .ok (.iload_n 2, 1) := dk_28 (dk_at dksJ6_append_1 14 rfl rfl)
theorem dJ6_append_39 : decode cJ6_append 39 = .ok (.iadd, 1) := dk_96 (dk_at dksJ6_append_1 15 rfl rfl)
theorem dJ6_append_40 : decode cJ6_append 40 = .ok (.putfield 79, 3) := dk_181 0 79 (dk_at dksJ6_append_1 16 rfl rfl)
theorem dJ6_append_43 : decode cJ6_append 43 = .ok (.aload_n 0, 1) := dk_42 (dk_at dksJ6_append_1 19 rfl rfl)
theorem dJ6_append_44 : decode cJ6_append 44 = .ok (.areturn, 1) := dk_176 (dk_at dksJ6_append_1 20 rfl rfl)
abbrev cJ6_appendNull : ByteArray := prog_24_method_26_code
def yJ6_appendNull : MethodName := ⟨RJ6, "appendNull", "()Ljava/lang/AbstractStringBuilder;"⟩
def dkwJ6_appendNull_3 : List UInt8 := [184, 0, 226, 60, 42, 27, 181, 0, 79, 42, 176]
abbrev dktJ6_appendNull_3 : List UInt8 := dkwJ6_appendNull_3 ++ []
def dkwJ6_appendNull_2 : List UInt8 := [16, 108, 84, 44, 27, 132, 1, 1, 16, 108, 84, 167, 0, 17, 44, 27, 16, 110, 16, 117, 16, 108, 16, 108]
abbrev dktJ6_appendNull_2 : List UInt8 := dkwJ6_appendNull_2 ++ dktJ6_appendNull_3
def dkwJ6_appendNull_1 : List UInt8 := [153, 0, 38, 44, 27, 132, 1, 1, 16, 110, 84, 44, 27, 132, 1, 1, 16, 117, 84, 44, 27, 132, 1, 1]
abbrev dktJ6_appendNull_1 : List UInt8 := dkwJ6_appendNull_1 ++ dktJ6_appendNull_2
def dkwJ6_appendNull_0 : List UInt8 := [42, 42, 180, 0, 79, 7, 96, 182, 0, 100, 42, 180, 0, 79, 60, 42, 180, 0, 15, 77, 42, 182, 0, 83]
abbrev dktJ6_appendNull_0 : List UInt8 := dkwJ6_appendNull_0 ++ dktJ6_appendNull_1
theorem dksJ6_appendNull_0 : cJ6_appendNull.data.toList.drop 0 = dktJ6_appendNull_0 := by decide +kernel
theorem dksJ6_appendNull_1 : cJ6_appendNull.data.toList.drop 24 = dktJ6_appendNull_1 := dk_seg dksJ6_appendNull_0 24 rfl rfl
theorem dksJ6_appendNull_2 : cJ6_appendNull.data.toList.drop 48 = dktJ6_appendNull_2 := dk_seg dksJ6_appendNull_1 24 rfl rfl
theorem dksJ6_appendNull_3 : cJ6_appendNull.data.toList.drop 72 = dktJ6_appendNull_3 := dk_seg dksJ6_appendNull_2 24 rfl rfl
theorem dJ6_appendNull_0 : decode cJ6_appendNull 0 = .ok (.aload_n 0, 1) := dk_42 (dk_at dksJ6_appendNull_0 0 rfl rfl)
theorem dJ6_appendNull_1 : decode cJ6_appendNull 1 = .ok (.aload_n 0, 1) := dk_42 (dk_at dksJ6_appendNull_0 1 rfl rfl)
theorem dJ6_appendNull_2 : decode cJ6_appendNull 2 = .ok (.getfield 79, 3) := dk_180 0 79 (dk_at dksJ6_appendNull_0 2 rfl rfl)
theorem dJ6_appendNull_5 : decode cJ6_appendNull 5 = .ok (.iconst 4, 1) := dk_7 (dk_at dksJ6_appendNull_0 5 rfl rfl)
theorem dJ6_appendNull_6 : decode cJ6_appendNull 6 = .ok (.iadd, 1) := dk_96 (dk_at dksJ6_appendNull_0 6 rfl rfl)
theorem dJ6_appendNull_7 : decode cJ6_appendNull 7 = .ok (.invokevirtual 100, 3) := dk_182 0 100 (dk_at dksJ6_appendNull_0 7 rfl rfl)
theorem dJ6_appendNull_10 : decode cJ6_appendNull 10 = .ok (.aload_n 0, 1) := dk_42 (dk_at dksJ6_appendNull_0 10 rfl rfl)
theorem dJ6_appendNull_11 : decode cJ6_appendNull 11 = .ok (.getfield 79, 3) := dk_180 0 79 (dk_at dksJ6_appendNull_0 11 rfl rfl)
theorem dJ6_appendNull_14 : decode cJ6_appendNull 14 = .ok (.istore_n 1, 1) := dk_60 (dk_at dksJ6_appendNull_0 14 rfl rfl)
theorem dJ6_appendNull_15 : decode cJ6_appendNull 15 = .ok (.aload_n 0, 1) := dk_42 (dk_at dksJ6_appendNull_0 15 rfl rfl)
theorem dJ6_appendNull_16 : decode cJ6_appendNull 16 = .ok (.getfield 15, 3) := dk_180 0 15 (dk_at dksJ6_appendNull_0 16 rfl rfl)
theorem dJ6_appendNull_19 : decode cJ6_appendNull 19 = .ok (.astore_n 2, 1) := dk_77 (dk_at dksJ6_appendNull_0 19 rfl rfl)
theorem dJ6_appendNull_20 : decode cJ6_appendNull 20 = .ok (.aload_n 0, 1) := dk_42 (dk_at dksJ6_appendNull_0 20 rfl rfl)
theorem dJ6_appendNull_21 : decode cJ6_appendNull 21 = .ok (.invokevirtual 83, 3) := dk_182 0 83 (dk_at dksJ6_appendNull_0 21 rfl rfl)
theorem dJ6_appendNull_24 : decode cJ6_appendNull 24 = .ok (.ifCond .eq 38, 3) := dk_153 0 38 (dk_at dksJ6_appendNull_1 0 rfl rfl)
theorem dJ6_appendNull_27 : decode cJ6_appendNull 27 = .ok (.aload_n 2, 1) := dk_44 (dk_at dksJ6_appendNull_1 3 rfl rfl)
theorem dJ6_appendNull_28 : decode cJ6_appendNull 28 = .ok (.iload_n 1, 1) := dk_27 (dk_at dksJ6_appendNull_1 4 rfl rfl)
theorem dJ6_appendNull_29 : decode cJ6_appendNull 29 = .ok (.iinc 1 1, 3) := dk_132 1 1 (dk_at dksJ6_appendNull_1 5 rfl rfl)
theorem dJ6_appendNull_32 : decode cJ6_appendNull 32 = .ok (.bipush 110, 2) := dk_16 110 (dk_at dksJ6_appendNull_1 8 rfl rfl)
theorem dJ6_appendNull_34 : decode cJ6_appendNull 34 = .ok (.bastore, 1) := dk_84 (dk_at dksJ6_appendNull_1 10 rfl rfl)
theorem dJ6_appendNull_35 : decode cJ6_appendNull 35 = .ok (.aload_n 2, 1) := dk_44 (dk_at dksJ6_appendNull_1 11 rfl rfl)
theorem dJ6_appendNull_36 : decode cJ6_appendNull 36 = .ok (.iload_n 1, 1) := dk_27 (dk_at dksJ6_appendNull_1 12 rfl rfl)
theorem dJ6_appendNull_37 : decode cJ6_appendNull 37 = .ok (.iinc 1 1, 3) := dk_132 1 1 (dk_at dksJ6_appendNull_1 13 rfl rfl)
theorem dJ6_appendNull_40 : decode cJ6_appendNull 40 = .ok (.bipush 117, 2) := dk_16 117 (dk_at dksJ6_appendNull_1 16 rfl rfl)
theorem dJ6_appendNull_42 : decode cJ6_appendNull 42 = .ok (.bastore, 1) := dk_84 (dk_at dksJ6_appendNull_1 18 rfl rfl)
theorem dJ6_appendNull_43 : decode cJ6_appendNull 43 = .ok (.aload_n 2, 1) := dk_44 (dk_at dksJ6_appendNull_1 19 rfl rfl)
theorem dJ6_appendNull_44 : decode cJ6_appendNull 44 = .ok (.iload_n 1, 1) := dk_27 (dk_at dksJ6_appendNull_1 20 rfl rfl)
theorem dJ6_appendNull_45 : decode cJ6_appendNull 45 = .ok (.iinc 1 1, 3) := dk_132 1 1 (dk_at dksJ6_appendNull_1 21 rfl rfl)
theorem dJ6_appendNull_48 : decode cJ6_appendNull 48 = .ok (.bipush 108, 2) := dk_16 108 (dk_at dksJ6_appendNull_2 0 rfl rfl)
theorem dJ6_appendNull_50 : decode cJ6_appendNull 50 = .ok (.bastore, 1) := dk_84 (dk_at dksJ6_appendNull_2 2 rfl rfl)
theorem dJ6_appendNull_51 : decode cJ6_appendNull 51 = .ok (.aload_n 2, 1) := dk_44 (dk_at dksJ6_appendNull_2 3 rfl rfl)
theorem dJ6_appendNull_52 : decode cJ6_appendNull 52 = .ok (.iload_n 1, 1) := dk_27 (dk_at dksJ6_appendNull_2 4 rfl rfl)
theorem dJ6_appendNull_53 : decode cJ6_appendNull 53 = .ok (.iinc 1 1, 3) := dk_132 1 1 (dk_at dksJ6_appendNull_2 5 rfl rfl)
theorem dJ6_appendNull_56 : decode cJ6_appendNull 56 = .ok (.bipush 108, 2) := dk_16 108 (dk_at dksJ6_appendNull_2 8 rfl rfl)
theorem dJ6_appendNull_58 : decode cJ6_appendNull 58 = .ok (.bastore, 1) := dk_84 (dk_at dksJ6_appendNull_2 10 rfl rfl)
theorem dJ6_appendNull_59 : decode cJ6_appendNull 59 = .ok (.goto 17, 3) := dk_167 0 17 (dk_at dksJ6_appendNull_2 11 rfl rfl)
theorem dJ6_appendNull_62 : decode cJ6_appendNull 62 = .ok (.aload_n 2, 1) := dk_44 (dk_at dksJ6_appendNull_2 14 rfl rfl)
theorem dJ6_appendNull_63 : decode cJ6_appendNull 63 = .ok (.iload_n 1, 1) := dk_27 (dk_at dksJ6_appendNull_2 15 rfl rfl)
theorem dJ6_appendNull_64 : decode cJ6_appendNull 64 = .ok (.bipush 110, 2) := dk_16 110 (dk_at dksJ6_appendNull_2 16 rfl rfl)
theorem dJ6_appendNull_66 : decode cJ6_appendNull 66 = .ok (.bipush 117, 2) := dk_16 117 (dk_at dksJ6_appendNull_2 18 rfl rfl)
theorem dJ6_appendNull_68 : decode cJ6_appendNull 68 = .ok (.bipush 108, 2) := dk_16 108 (dk_at dksJ6_appendNull_2 20 rfl rfl)
theorem dJ6_appendNull_70 : decode cJ6_appendNull 70 = .ok (.bipush 108, 2) := dk_16 108 (dk_at dksJ6_appendNull_2 22 rfl rfl)
theorem dJ6_appendNull_72 : decode cJ6_appendNull 72 = .ok (.invokestatic 226, 3) := dk_184 0 226 (dk_at dksJ6_appendNull_3 0 rfl rfl)
theorem dJ6_appendNull_75 : decode cJ6_appendNull 75 = .ok (.istore_n 1, 1) := dk_60 (dk_at dksJ6_appendNull_3 3 rfl rfl)
theorem dJ6_appendNull_76 : decode cJ6_appendNull 76 = .ok (.aload_n 0, 1) := dk_42 (dk_at dksJ6_appendNull_3 4 rfl rfl)
theorem dJ6_appendNull_77 : decode cJ6_appendNull 77 = .ok (.iload_n 1, 1) := dk_27 (dk_at dksJ6_appendNull_3 5 rfl rfl)
theorem dJ6_appendNull_78 : decode cJ6_appendNull 78 = .ok (.putfield 79, 3) := dk_181 0 79 (dk_at dksJ6_appendNull_3 6 rfl rfl)
theorem dJ6_appendNull_81 : decode cJ6_appendNull 81 = .ok (.aload_n 0, 1) := dk_42 (dk_at dksJ6_appendNull_3 9 rfl rfl)
theorem dJ6_appendNull_82 : decode cJ6_appendNull 82 = .ok (.areturn, 1) := dk_176 (dk_at dksJ6_appendNull_3 10 rfl rfl)
abbrev cJ6_ensureCapacityInternal : ByteArray := prog_24_method_9_code
def yJ6_ensureCapacityInternal : MethodName := ⟨RJ6, "ensureCapacityInternal", "(I)V"⟩
def dkwJ6_ensureCapacityInternal_1 : List UInt8 := [182, 0, 104, 42, 180, 0, 22, 120, 184, 0, 108, 181, 0, 15, 177]
abbrev dktJ6_ensureCapacityInternal_1 : List UInt8 := dkwJ6_ensureCapacityInternal_1 ++ []
def dkwJ6_ensureCapacityInternal_0 : List UInt8 := [42, 180, 0, 15, 190, 42, 180, 0, 22, 122, 61, 27, 28, 100, 158, 0, 24, 42, 42, 180, 0, 15, 42, 27]
abbrev dktJ6_ensureCapacityInternal_0 : List UInt8 := dkwJ6_ensureCapacityInternal_0 ++ dktJ6_ensureCapacityInternal_1
theorem dksJ6_ensureCapacityInternal_0 : cJ6_ensureCapacityInternal.data.toList.drop 0 = dktJ6_ensureCapacityInternal_0 := by decide +kernel
theorem dksJ6_ensureCapacityInternal_1 : cJ6_ensureCapacityInternal.data.toList.drop 24 = dktJ6_ensureCapacityInternal_1 := dk_seg dksJ6_ensureCapacityInternal_0 24 rfl rfl
theorem dJ6_ensureCapacityInternal_0 : decode cJ6_ensureCapacityInternal 0 = .ok (.aload_n 0, 1) := dk_42 (dk_at dksJ6_ensureCapacityInternal_0 0 rfl rfl)
theorem dJ6_ensureCapacityInternal_1 : decode cJ6_ensureCapacityInternal 1 = .ok (.getfield 15, 3) := dk_180 0 15 (dk_at dksJ6_ensureCapacityInternal_0 1 rfl rfl)
theorem dJ6_ensureCapacityInternal_4 : decode cJ6_ensureCapacityInternal 4 = .ok (.arraylength, 1) := dk_190 (dk_at dksJ6_ensureCapacityInternal_0 4 rfl rfl)
theorem dJ6_ensureCapacityInternal_5 : decode cJ6_ensureCapacityInternal 5 = .ok (.aload_n 0, 1) := dk_42 (dk_at dksJ6_ensureCapacityInternal_0 5 rfl rfl)
theorem dJ6_ensureCapacityInternal_6 : decode cJ6_ensureCapacityInternal 6 = .ok (.getfield 22, 3) := dk_180 0 22 (dk_at dksJ6_ensureCapacityInternal_0 6 rfl rfl)
theorem dJ6_ensureCapacityInternal_9 : decode cJ6_ensureCapacityInternal 9 = .ok (.ishr, 1) := dk_122 (dk_at dksJ6_ensureCapacityInternal_0 9 rfl rfl)
theorem dJ6_ensureCapacityInternal_10 : decode cJ6_ensureCapacityInternal 10 = .ok (.istore_n 2, 1) := dk_61 (dk_at dksJ6_ensureCapacityInternal_0 10 rfl rfl)
theorem dJ6_ensureCapacityInternal_11 : decode cJ6_ensureCapacityInternal 11 = .ok (.iload_n 1, 1) := dk_27 (dk_at dksJ6_ensureCapacityInternal_0 11 rfl rfl)
theorem dJ6_ensureCapacityInternal_12 : decode cJ6_ensureCapacityInternal 12 = .ok (.iload_n 2, 1) := dk_28 (dk_at dksJ6_ensureCapacityInternal_0 12 rfl rfl)
theorem dJ6_ensureCapacityInternal_13 : decode cJ6_ensureCapacityInternal 13 = .ok (.isub, 1) := dk_100 (dk_at dksJ6_ensureCapacityInternal_0 13 rfl rfl)
theorem dJ6_ensureCapacityInternal_14 : decode cJ6_ensureCapacityInternal 14 = .ok (.ifCond .le 24, 3) := dk_158 0 24 (dk_at dksJ6_ensureCapacityInternal_0 14 rfl rfl)
theorem dJ6_ensureCapacityInternal_17 : decode cJ6_ensureCapacityInternal 17 = .ok (.aload_n 0, 1) := dk_42 (dk_at dksJ6_ensureCapacityInternal_0 17 rfl rfl)
theorem dJ6_ensureCapacityInternal_18 : decode cJ6_ensureCapacityInternal 18 = .ok (.aload_n 0, 1) := dk_42 (dk_at dksJ6_ensureCapacityInternal_0 18 rfl rfl)
theorem dJ6_ensureCapacityInternal_19 : decode cJ6_ensureCapacityInternal 19 = .ok (.getfield 15, 3) := dk_180 0 15 (dk_at dksJ6_ensureCapacityInternal_0 19 rfl rfl)
theorem dJ6_ensureCapacityInternal_22 : decode cJ6_ensureCapacityInternal 22 = .ok (.aload_n 0, 1) := dk_42 (dk_at dksJ6_ensureCapacityInternal_0 22 rfl rfl)
theorem dJ6_ensureCapacityInternal_23 : decode cJ6_ensureCapacityInternal 23 = .ok (.iload_n 1, 1) := dk_27 (dk_at dksJ6_ensureCapacityInternal_0 23 rfl rfl)
theorem dJ6_ensureCapacityInternal_24 : decode cJ6_ensureCapacityInternal 24 = .ok (.invokevirtual 104, 3) := dk_182 0 104 (dk_at dksJ6_ensureCapacityInternal_1 0 rfl rfl)
theorem dJ6_ensureCapacityInternal_27 : decode cJ6_ensureCapacityInternal 27 = .ok (.aload_n 0, 1) := dk_42 (dk_at dksJ6_ensureCapacityInternal_1 3 rfl rfl)
theorem dJ6_ensureCapacityInternal_28 : decode cJ6_ensureCapacityInternal 28 = .ok (.getfield 22, 3) := dk_180 0 22 (dk_at dksJ6_ensureCapacityInternal_1 4 rfl rfl)
theorem dJ6_ensureCapacityInternal_31 : decode cJ6_ensureCapacityInternal 31 = .ok (.ishl, 1) := dk_120 (dk_at dksJ6_ensureCapacityInternal_1 7 rfl rfl)
theorem dJ6_ensureCapacityInternal_32 : decode cJ6_ensureCapacityInternal 32 = .ok (.invokestatic 108, 3) := dk_184 0 108 (dk_at dksJ6_ensureCapacityInternal_1 8 rfl rfl)
theorem dJ6_ensureCapacityInternal_35 : decode cJ6_ensureCapacityInternal 35 = .ok (.putfield 15, 3) := dk_181 0 15 (dk_at dksJ6_ensureCapacityInternal_1 11 rfl rfl)
theorem dJ6_ensureCapacityInternal_38 : decode cJ6_ensureCapacityInternal 38 = .ok (.return_, 1) := dk_177 (dk_at dksJ6_ensureCapacityInternal_1 14 rfl rfl)
abbrev cJ6_newCapacity : ByteArray := prog_24_method_10_code
def yJ6_newCapacity : MethodName := ⟨RJ6, "newCapacity", "(I)I"⟩
def dkwJ6_newCapacity_2 : List UInt8 := [183, 0, 124, 191, 21, 5, 42, 180, 0, 22, 122, 172]
abbrev dktJ6_newCapacity_2 : List UInt8 := dkwJ6_newCapacity_2 ++ []
def dkwJ6_newCapacity_1 : List UInt8 := [180, 0, 22, 120, 96, 184, 0, 114, 54, 5, 21, 5, 18, 39, 160, 0, 13, 187, 0, 120, 89, 18, 122]
abbrev dktJ6_newCapacity_1 : List UInt8 := dkwJ6_newCapacity_1 ++ dktJ6_newCapacity_2
def dkwJ6_newCapacity_0 : List UInt8 := [42, 180, 0, 15, 190, 61, 27, 42, 180, 0, 22, 120, 62, 29, 28, 100, 54, 4, 28, 21, 4, 28, 5, 42]
abbrev dktJ6_newCapacity_0 : List UInt8 := dkwJ6_newCapacity_0 ++ dktJ6_newCapacity_1
theorem dksJ6_newCapacity_0 : cJ6_newCapacity.data.toList.drop 0 = dktJ6_newCapacity_0 := by decide +kernel
theorem dksJ6_newCapacity_1 : cJ6_newCapacity.data.toList.drop 24 = dktJ6_newCapacity_1 := dk_seg dksJ6_newCapacity_0 24 rfl rfl
theorem dksJ6_newCapacity_2 : cJ6_newCapacity.data.toList.drop 47 = dktJ6_newCapacity_2 := dk_seg dksJ6_newCapacity_1 23 rfl rfl
theorem dJ6_newCapacity_0 : decode cJ6_newCapacity 0 = .ok (.aload_n 0, 1) := dk_42 (dk_at dksJ6_newCapacity_0 0 rfl rfl)
theorem dJ6_newCapacity_1 : decode cJ6_newCapacity 1 = .ok (.getfield 15, 3) := dk_180 0 15 (dk_at dksJ6_newCapacity_0 1 rfl rfl)
theorem dJ6_newCapacity_4 : decode cJ6_newCapacity 4 = .ok (.arraylength, 1) := dk_190 (dk_at dksJ6_newCapacity_0 4 rfl rfl)
theorem dJ6_newCapacity_5 : decode cJ6_newCapacity 5 = .ok (.istore_n 2, 1) := dk_61 (dk_at dksJ6_newCapacity_0 5 rfl rfl)
theorem dJ6_newCapacity_6 : decode cJ6_newCapacity 6 = .ok (.iload_n 1, 1) := dk_27 (dk_at dksJ6_newCapacity_0 6 rfl rfl)
theorem dJ6_newCapacity_7 : decode cJ6_newCapacity 7 = .ok (.aload_n 0, 1) := dk_42 (dk_at dksJ6_newCapacity_0 7 rfl rfl)
theorem dJ6_newCapacity_8 : decode cJ6_newCapacity 8 = .ok (.getfield 22, 3) := dk_180 0 22 (dk_at dksJ6_newCapacity_0 8 rfl rfl)
theorem dJ6_newCapacity_11 : decode cJ6_newCapacity 11 = .ok (.ishl, 1) := dk_120 (dk_at dksJ6_newCapacity_0 11 rfl rfl)
theorem dJ6_newCapacity_12 : decode cJ6_newCapacity 12 = .ok (.istore_n 3, 1) := dk_62 (dk_at dksJ6_newCapacity_0 12 rfl rfl)
theorem dJ6_newCapacity_13 : decode cJ6_newCapacity 13 = .ok (.iload_n 3, 1) := dk_29 (dk_at dksJ6_newCapacity_0 13 rfl rfl)
theorem dJ6_newCapacity_14 : decode cJ6_newCapacity 14 = .ok (.iload_n 2, 1) := dk_28 (dk_at dksJ6_newCapacity_0 14 rfl rfl)
theorem dJ6_newCapacity_15 : decode cJ6_newCapacity 15 = .ok (.isub, 1) := dk_100 (dk_at dksJ6_newCapacity_0 15 rfl rfl)
theorem dJ6_newCapacity_16 : decode cJ6_newCapacity 16 = .ok (.istore 4, 2) := dk_54 4 (dk_at dksJ6_newCapacity_0 16 rfl rfl)
theorem dJ6_newCapacity_18 : decode cJ6_newCapacity 18 = .ok (.iload_n 2, 1) := dk_28 (dk_at dksJ6_newCapacity_0 18 rfl rfl)
theorem dJ6_newCapacity_19 : decode cJ6_newCapacity 19 = .ok (.iload 4, 2) := dk_21 4 (dk_at dksJ6_newCapacity_0 19 rfl rfl)
theorem dJ6_newCapacity_21 : decode cJ6_newCapacity 21 = .ok (.iload_n 2, 1) := dk_28 (dk_at dksJ6_newCapacity_0 21 rfl rfl)
theorem dJ6_newCapacity_22 : decode cJ6_newCapacity 22 = .ok (.iconst 2, 1) := dk_5 (dk_at dksJ6_newCapacity_0 22 rfl rfl)
theorem dJ6_newCapacity_23 : decode cJ6_newCapacity 23 = .ok (.aload_n 0, 1) := dk_42 (dk_at dksJ6_newCapacity_0 23 rfl rfl)
theorem dJ6_newCapacity_24 : decode cJ6_newCapacity 24 = .ok (.getfield 22, 3) := dk_180 0 22 (dk_at dksJ6_newCapacity_1 0 rfl rfl)
theorem dJ6_newCapacity_27 : decode cJ6_newCapacity 27 = .ok (.ishl, 1) := dk_120 (dk_at dksJ6_newCapacity_1 3 rfl rfl)
theorem dJ6_newCapacity_28 : decode cJ6_newCapacity 28 = .ok (.iadd, 1) := dk_96 (dk_at dksJ6_newCapacity_1 4 rfl rfl)
theorem dJ6_newCapacity_29 : decode cJ6_newCapacity 29 = .ok (.invokestatic 114, 3) := dk_184 0 114 (dk_at dksJ6_newCapacity_1 5 rfl rfl)
theorem dJ6_newCapacity_32 : decode cJ6_newCapacity 32 = .ok (.istore 5, 2) := dk_54 5 (dk_at dksJ6_newCapacity_1 8 rfl rfl)
theorem dJ6_newCapacity_34 : decode cJ6_newCapacity 34 = .ok (.iload 5, 2) := dk_21 5 (dk_at dksJ6_newCapacity_1 10 rfl rfl)
theorem dJ6_newCapacity_36 : decode cJ6_newCapacity 36 = .ok (.ldc 39, 2) := dk_18 39 (dk_at dksJ6_newCapacity_1 12 rfl rfl)
theorem dJ6_newCapacity_38 : decode cJ6_newCapacity 38 = .ok (.if_icmp .ne 13, 3) := dk_160 0 13 (dk_at dksJ6_newCapacity_1 14 rfl rfl)
theorem dJ6_newCapacity_41 : decode cJ6_newCapacity 41 = .ok (.new 120, 3) := dk_187 0 120 (dk_at dksJ6_newCapacity_1 17 rfl rfl)
theorem dJ6_newCapacity_44 : decode cJ6_newCapacity 44 = .ok (.dup, 1) := dk_89 (dk_at dksJ6_newCapacity_1 20 rfl rfl)
theorem dJ6_newCapacity_45 : decode cJ6_newCapacity 45 = .ok (.ldc 122, 2) := dk_18 122 (dk_at dksJ6_newCapacity_1 21 rfl rfl)
theorem dJ6_newCapacity_47 : decode cJ6_newCapacity 47 = .ok (.invokespecial 124, 3) := dk_183 0 124 (dk_at dksJ6_newCapacity_2 0 rfl rfl)
theorem dJ6_newCapacity_50 : decode cJ6_newCapacity 50 = .ok (.athrow, 1) := dk_191 (dk_at dksJ6_newCapacity_2 3 rfl rfl)
theorem dJ6_newCapacity_51 : decode cJ6_newCapacity 51 = .ok (.iload 5, 2) := dk_21 5 (dk_at dksJ6_newCapacity_2 4 rfl rfl)
theorem dJ6_newCapacity_53 : decode cJ6_newCapacity 53 = .ok (.aload_n 0, 1) := dk_42 (dk_at dksJ6_newCapacity_2 6 rfl rfl)
theorem dJ6_newCapacity_54 : decode cJ6_newCapacity 54 = .ok (.getfield 22, 3) := dk_180 0 22 (dk_at dksJ6_newCapacity_2 7 rfl rfl)
theorem dJ6_newCapacity_57 : decode cJ6_newCapacity 57 = .ok (.ishr, 1) := dk_122 (dk_at dksJ6_newCapacity_2 10 rfl rfl)
theorem dJ6_newCapacity_58 : decode cJ6_newCapacity 58 = .ok (.ireturn, 1) := dk_172 (dk_at dksJ6_newCapacity_2 11 rfl rfl)
abbrev cJ6_putStringAt : ByteArray := prog_24_method_73_code
def yJ6_putStringAt : MethodName := ⟨RJ6, "putStringAt", "(ILjava/lang/String;)V"⟩
def dkwJ6_putStringAt_0 : List UInt8 := [42, 44, 182, 1, 141, 44, 42, 180, 0, 15, 27, 42, 180, 0, 22, 182, 1, 143, 177]
abbrev dktJ6_putStringAt_0 : List UInt8 := dkwJ6_putStringAt_0 ++ []
theorem dksJ6_putStringAt_0 : cJ6_putStringAt.data.toList.drop 0 = dktJ6_putStringAt_0 := by decide +kernel
theorem dJ6_putStringAt_0 : decode cJ6_putStringAt 0 = .ok (.aload_n 0, 1) := dk_42 (dk_at dksJ6_putStringAt_0 0 rfl rfl)
theorem dJ6_putStringAt_1 : decode cJ6_putStringAt 1 = .ok (.aload_n 2, 1) := dk_44 (dk_at dksJ6_putStringAt_0 1 rfl rfl)
theorem dJ6_putStringAt_2 : decode cJ6_putStringAt 2 = .ok (.invokevirtual 397, 3) := dk_182 1 141 (dk_at dksJ6_putStringAt_0 2 rfl rfl)
theorem dJ6_putStringAt_5 : decode cJ6_putStringAt 5 = .ok (.aload_n 2, 1) := dk_44 (dk_at dksJ6_putStringAt_0 5 rfl rfl)
theorem dJ6_putStringAt_6 : decode cJ6_putStringAt 6 = .ok (.aload_n 0, 1) := dk_42 (dk_at dksJ6_putStringAt_0 6 rfl rfl)
theorem dJ6_putStringAt_7 : decode cJ6_putStringAt 7 = .ok (.getfield 15, 3) := dk_180 0 15 (dk_at dksJ6_putStringAt_0 7 rfl rfl)
theorem dJ6_putStringAt_10 : decode cJ6_putStringAt 10 = .ok (.iload_n 1, 1) := dk_27 (dk_at dksJ6_putStringAt_0 10 rfl rfl)
theorem dJ6_putStringAt_11 : decode cJ6_putStringAt 11 = .ok (.aload_n 0, 1) := dk_42 (dk_at dksJ6_putStringAt_0 11 rfl rfl)
theorem dJ6_putStringAt_12 : decode cJ6_putStringAt 12 = .ok (.getfield 22, 3) := dk_180 0 22 (dk_at dksJ6_putStringAt_0 12 rfl rfl)
theorem dJ6_putStringAt_15 : decode cJ6_putStringAt 15 = .ok (.invokevirtual 399, 3) := dk_182 1 143 (dk_at dksJ6_putStringAt_0 15 rfl rfl)
theorem dJ6_putStringAt_18 : decode cJ6_putStringAt 18 = .ok (.return_, 1) := dk_177 (dk_at dksJ6_putStringAt_0 18 rfl rfl)
abbrev cJ6_inflateIfNeededFor : ByteArray := prog_24_method_71_code
def yJ6_inflateIfNeededFor : MethodName := ⟨RJ6, "inflateIfNeededFor", "(Ljava/lang/String;)V"⟩
def dkwJ6_inflateIfNeededFor_0 : List UInt8 := [178, 0, 18, 153, 0, 18, 42, 180, 0, 22, 43, 182, 0, 40, 159, 0, 7, 42, 182, 0, 195, 177]
abbrev dktJ6_inflateIfNeededFor_0 : List UInt8 := dkwJ6_inflateIfNeededFor_0 ++ []
theorem dksJ6_inflateIfNeededFor_0 : cJ6_inflateIfNeededFor.data.toList.drop 0 = dktJ6_inflateIfNeededFor_0 := by decide +kernel
theorem dJ6_inflateIfNeededFor_0 : decode cJ6_inflateIfNeededFor 0 = .ok (.getstatic 18, 3) := dk_178 0 18 (dk_at dksJ6_inflateIfNeededFor_0 0 rfl rfl)
theorem dJ6_inflateIfNeededFor_3 : decode cJ6_inflateIfNeededFor 3 = .ok (.ifCond .eq 18, 3) := dk_153 0 18 (dk_at dksJ6_inflateIfNeededFor_0 3 rfl rfl)
theorem dJ6_inflateIfNeededFor_6 : decode cJ6_inflateIfNeededFor 6 = .ok (.aload_n 0, 1) := dk_42 (dk_at dksJ6_inflateIfNeededFor_0 6 rfl rfl)
theorem dJ6_inflateIfNeededFor_7 : decode cJ6_inflateIfNeededFor 7 = .ok (.getfield 22, 3) := dk_180 0 22 (dk_at dksJ6_inflateIfNeededFor_0 7 rfl rfl)
theorem dJ6_inflateIfNeededFor_10 : decode cJ6_inflateIfNeededFor 10 = .ok (.aload_n 1, 1) := dk_43 (dk_at dksJ6_inflateIfNeededFor_0 10 rfl rfl)
theorem dJ6_inflateIfNeededFor_11 : decode cJ6_inflateIfNeededFor 11 = .ok (.invokevirtual 40, 3) := dk_182 0 40 (dk_at dksJ6_inflateIfNeededFor_0 11 rfl rfl)
theorem dJ6_inflateIfNeededFor_14 : decode cJ6_inflateIfNeededFor 14 = .ok (.if_icmp .eq 7, 3) := dk_159 0 7 (dk_at dksJ6_inflateIfNeededFor_0 14 rfl rfl)
theorem dJ6_inflateIfNeededFor_17 : decode cJ6_inflateIfNeededFor 17 = .ok (.aload_n 0, 1) := dk_42 (dk_at dksJ6_inflateIfNeededFor_0 17 rfl rfl)
theorem dJ6_inflateIfNeededFor_18 : decode cJ6_inflateIfNeededFor 18 = .ok (.invokevirtual 195, 3) := dk_182 0 195 (dk_at dksJ6_inflateIfNeededFor_0 18 rfl rfl)
theorem dJ6_inflateIfNeededFor_21 : decode cJ6_inflateIfNeededFor 21 = .ok (.return_, 1) := dk_177 (dk_at dksJ6_inflateIfNeededFor_0 21 rfl rfl)
abbrev cJ6_inflate : ByteArray := prog_24_method_11_code
def yJ6_inflate : MethodName := ⟨RJ6, "inflate", "()V"⟩
def dkwJ6_inflate_1 : List UInt8 := [42, 180, 0, 79, 184, 0, 125, 42, 43, 181, 0, 15, 42, 4, 181, 0, 22, 177]
abbrev dktJ6_inflate_1 : List UInt8 := dkwJ6_inflate_1 ++ []
def dkwJ6_inflate_0 : List UInt8 := [42, 182, 0, 83, 154, 0, 4, 177, 42, 180, 0, 15, 190, 184, 0, 26, 76, 42, 180, 0, 15, 3, 43, 3]
abbrev dktJ6_inflate_0 : List UInt8 := dkwJ6_inflate_0 ++ dktJ6_inflate_1
theorem dksJ6_inflate_0 : cJ6_inflate.data.toList.drop 0 = dktJ6_inflate_0 := by decide +kernel
theorem dksJ6_inflate_1 : cJ6_inflate.data.toList.drop 24 = dktJ6_inflate_1 := dk_seg dksJ6_inflate_0 24 rfl rfl
theorem dJ6_inflate_0 : decode cJ6_inflate 0 = .ok (.aload_n 0, 1) := dk_42 (dk_at dksJ6_inflate_0 0 rfl rfl)
theorem dJ6_inflate_1 : decode cJ6_inflate 1 = .ok (.invokevirtual 83, 3) := dk_182 0 83 (dk_at dksJ6_inflate_0 1 rfl rfl)
theorem dJ6_inflate_4 : decode cJ6_inflate 4 = .ok (.ifCond .ne 4, 3) := dk_154 0 4 (dk_at dksJ6_inflate_0 4 rfl rfl)
theorem dJ6_inflate_7 : decode cJ6_inflate 7 = .ok (.return_, 1) := dk_177 (dk_at dksJ6_inflate_0 7 rfl rfl)
theorem dJ6_inflate_8 : decode cJ6_inflate 8 = .ok (.aload_n 0, 1) := dk_42 (dk_at dksJ6_inflate_0 8 rfl rfl)
theorem dJ6_inflate_9 : decode cJ6_inflate 9 = .ok (.getfield 15, 3) := dk_180 0 15 (dk_at dksJ6_inflate_0 9 rfl rfl)
theorem dJ6_inflate_12 : decode cJ6_inflate 12 = .ok (.arraylength, 1) := dk_190 (dk_at dksJ6_inflate_0 12 rfl rfl)
theorem dJ6_inflate_13 : decode cJ6_inflate 13 = .ok (.invokestatic 26, 3) := dk_184 0 26 (dk_at dksJ6_inflate_0 13 rfl rfl)
theorem dJ6_inflate_16 : decode cJ6_inflate 16 = .ok (.astore_n 1, 1) := dk_76 (dk_at dksJ6_inflate_0 16 rfl rfl)
theorem dJ6_inflate_17 : decode cJ6_inflate 17 = .ok (.aload_n 0, 1) := dk_42 (dk_at dksJ6_inflate_0 17 rfl rfl)
theorem dJ6_inflate_18 : decode cJ6_inflate 18 = .ok (.getfield 15, 3) := dk_180 0 15 (dk_at dksJ6_inflate_0 18 rfl rfl)
theorem dJ6_inflate_21 : decode cJ6_inflate 21 = .ok (.iconst 0, 1) := dk_3 (dk_at dksJ6_inflate_0 21 rfl rfl)
theorem dJ6_inflate_22 : decode cJ6_inflate 22 = .ok (.aload_n 1, 1) := dk_43 (dk_at dksJ6_inflate_0 22 rfl rfl)
theorem dJ6_inflate_23 : decode cJ6_inflate 23 = .ok (.iconst 0, 1) := dk_3 (dk_at dksJ6_inflate_0 23 rfl rfl)
theorem dJ6_inflate_24 : decode cJ6_inflate 24 = .ok (.aload_n 0, 1) := dk_42 (dk_at dksJ6_inflate_1 0 rfl rfl)
theorem dJ6_inflate_25 : decode cJ6_inflate 25 = .ok (.getfield 79, 3) := dk_180 0 79 (dk_at dksJ6_inflate_1 1 rfl rfl)
theorem dJ6_inflate_28 : decode cJ6_inflate 28 = .ok (.invokestatic 125, 3) := dk_184 0 125 (dk_at dksJ6_inflate_1 4 rfl rfl)
theorem dJ6_inflate_31 : decode cJ6_inflate 31 = .ok (.aload_n 0, 1) := dk_42 (dk_at dksJ6_inflate_1 7 rfl rfl)
theorem dJ6_inflate_32 : decode cJ6_inflate 32 = .ok (.aload_n 1, 1) := dk_43 (dk_at dksJ6_inflate_1 8 rfl rfl)
theorem dJ6_inflate_33 : decode cJ6_inflate 33 = .ok (.putfield 15, 3) := dk_181 0 15 (dk_at dksJ6_inflate_1 9 rfl rfl)
theorem dJ6_inflate_36 : decode cJ6_inflate 36 = .ok (.aload_n 0, 1) := dk_42 (dk_at dksJ6_inflate_1 12 rfl rfl)
theorem dJ6_inflate_37 : decode cJ6_inflate 37 = .ok (.iconst 1, 1) := dk_4 (dk_at dksJ6_inflate_1 13 rfl rfl)
theorem dJ6_inflate_38 : decode cJ6_inflate 38 = .ok (.putfield 22, 3) := dk_181 0 22 (dk_at dksJ6_inflate_1 14 rfl rfl)
theorem dJ6_inflate_41 : decode cJ6_inflate 41 = .ok (.return_, 1) := dk_177 (dk_at dksJ6_inflate_1 17 rfl rfl)
abbrev cJ6_append_2 : ByteArray := prog_24_method_32_code
def yJ6_append_2 : MethodName := ⟨RJ6, "append", "(I)Ljava/lang/AbstractStringBuilder;"⟩
def dkwJ6_append_2_2 : List UInt8 := [42, 29, 181, 0, 79, 42, 176]
abbrev dktJ6_append_2_2 : List UInt8 := dkwJ6_append_2_2 ++ []
def dkwJ6_append_2_1 : List UInt8 := [27, 29, 42, 180, 0, 15, 184, 0, 248, 87, 167, 0, 14, 27, 28, 29, 42, 180, 0, 15, 184, 0, 251, 87]
abbrev dktJ6_append_2_1 : List UInt8 := dkwJ6_append_2_1 ++ dktJ6_append_2_2
def dkwJ6_append_2_0 : List UInt8 := [42, 180, 0, 79, 61, 28, 27, 184, 0, 245, 96, 62, 42, 29, 182, 0, 100, 42, 182, 0, 83, 153, 0, 16]
abbrev dktJ6_append_2_0 : List UInt8 := dkwJ6_append_2_0 ++ dktJ6_append_2_1
theorem dksJ6_append_2_0 : cJ6_append_2.data.toList.drop 0 = dktJ6_append_2_0 := by decide +kernel
theorem dksJ6_append_2_1 : cJ6_append_2.data.toList.drop 24 = dktJ6_append_2_1 := dk_seg dksJ6_append_2_0 24 rfl rfl
theorem dksJ6_append_2_2 : cJ6_append_2.data.toList.drop 48 = dktJ6_append_2_2 := dk_seg dksJ6_append_2_1 24 rfl rfl
theorem dJ6_append_2_0 : decode cJ6_append_2 0 = .ok (.aload_n 0, 1) := dk_42 (dk_at dksJ6_append_2_0 0 rfl rfl)
theorem dJ6_append_2_1 : decode cJ6_append_2 1 = .ok (.getfield 79, 3) := dk_180 0 79 (dk_at dksJ6_append_2_0 1 rfl rfl)
theorem dJ6_append_2_4 : decode cJ6_append_2 4 = .ok (.istore_n 2, 1) := dk_61 (dk_at dksJ6_append_2_0 4 rfl rfl)
theorem dJ6_append_2_5 : decode cJ6_append_2 5 = .ok (.iload_n 2, 1) := dk_28 (dk_at dksJ6_append_2_0 5 rfl rfl)
theorem dJ6_append_2_6 : decode cJ6_append_2 6 = .ok (.iload_n 1, 1) := dk_27 (dk_at dksJ6_append_2_0 6 rfl rfl)
theorem dJ6_append_2_7 : decode cJ6_append_2 7 = .ok (.invokestatic 245, 3) := dk_184 0 245 (dk_at dksJ6_append_2_0 7 rfl rfl)
theorem dJ6_append_2_10 : decode cJ6_append_2 10 = .ok (.iadd, 1) := dk_96 (dk_at dksJ6_append_2_0 10 rfl rfl)
theorem dJ6_append_2_11 : decode cJ6_append_2 11 = .ok (.istore_n 3, 1) := dk_62 (dk_at dksJ6_append_2_0 11 rfl rfl)
theorem dJ6_append_2_12 : decode cJ6_append_2 12 = .ok (.aload_n 0, 1) := dk_42 (dk_at dksJ6_append_2_0 12 rfl rfl)
theorem dJ6_append_2_13 : decode cJ6_append_2 13 = .ok (.iload_n 3, 1) := dk_29 (dk_at dksJ6_append_2_0 13 rfl rfl)
theorem dJ6_append_2_14 : decode cJ6_append_2 14 = .ok (.invokevirtual 100, 3) := dk_182 0 100 (dk_at dksJ6_append_2_0 14 rfl rfl)
theorem dJ6_append_2_17 : decode cJ6_append_2 17 = .ok (.aload_n 0, 1) := dk_42 (dk_at dksJ6_append_2_0 17 rfl rfl)
theorem dJ6_append_2_18 : decode cJ6_append_2 18 = .ok (.invokevirtual 83, 3) := dk_182 0 83 (dk_at dksJ6_append_2_0 18 rfl rfl)
theorem dJ6_append_2_21 : decode cJ6_append_2 21 = .ok (.ifCond .eq 16, 3) := dk_153 0 16 (dk_at dksJ6_append_2_0 21 rfl rfl)
theorem dJ6_append_2_24 : decode cJ6_append_2 24 = .ok (.iload_n 1, 1) := dk_27 (dk_at dksJ6_append_2_1 0 rfl rfl)
theorem dJ6_append_2_25 : decode cJ6_append_2 25 = .ok (.iload_n 3, 1) := dk_29 (dk_at dksJ6_append_2_1 1 rfl rfl)
theorem dJ6_append_2_26 : decode cJ6_append_2 26 = .ok (.aload_n 0, 1) := dk_42 (dk_at dksJ6_append_2_1 2 rfl rfl)
theorem dJ6_append_2_27 : decode cJ6_append_2 27 = .ok (.getfield 15, 3) := dk_180 0 15 (dk_at dksJ6_append_2_1 3 rfl rfl)
theorem dJ6_append_2_30 : decode cJ6_append_2 30 = .ok (.invokestatic 248, 3) := dk_184 0 248 (dk_at dksJ6_append_2_1 6 rfl rfl)
theorem dJ6_append_2_33 : decode cJ6_append_2 33 = .ok (.pop, 1) := dk_87 (dk_at dksJ6_append_2_1 9 rfl rfl)
theorem dJ6_append_2_34 : decode cJ6_append_2 34 = .ok (.goto 14, 3) := dk_167 0 14 (dk_at dksJ6_append_2_1 10 rfl rfl)
theorem dJ6_append_2_37 : decode cJ6_append_2 37 = .ok (.iload_n 1, 1) := dk_27 (dk_at dksJ6_append_2_1 13 rfl rfl)
theorem dJ6_append_2_38 : decode cJ6_append_2 38 = .ok (.iload_n 2, 1) := dk_28 (dk_at dksJ6_append_2_1 14 rfl rfl)
theorem dJ6_append_2_39 : decode cJ6_append_2 39 = .ok (.iload_n 3, 1) := dk_29 (dk_at dksJ6_append_2_1 15 rfl rfl)
theorem dJ6_append_2_40 : decode cJ6_append_2 40 = .ok (.aload_n 0, 1) := dk_42 (dk_at dksJ6_append_2_1 16 rfl rfl)
theorem dJ6_append_2_41 : decode cJ6_append_2 41 = .ok (.getfield 15, 3) := dk_180 0 15 (dk_at dksJ6_append_2_1 17 rfl rfl)
theorem dJ6_append_2_44 : decode cJ6_append_2 44 = .ok (.invokestatic 251, 3) := dk_184 0 251 (dk_at dksJ6_append_2_1 20 rfl rfl)
theorem dJ6_append_2_47 : decode cJ6_append_2 47 = .ok (.pop, 1) := dk_87 (dk_at dksJ6_append_2_1 23 rfl rfl)
theorem dJ6_append_2_48 : decode cJ6_append_2 48 = .ok (.aload_n 0, 1) := dk_42 (dk_at dksJ6_append_2_2 0 rfl rfl)
theorem dJ6_append_2_49 : decode cJ6_append_2 49 = .ok (.iload_n 3, 1) := dk_29 (dk_at dksJ6_append_2_2 1 rfl rfl)
theorem dJ6_append_2_50 : decode cJ6_append_2 50 = .ok (.putfield 79, 3) := dk_181 0 79 (dk_at dksJ6_append_2_2 2 rfl rfl)
theorem dJ6_append_2_53 : decode cJ6_append_2 53 = .ok (.aload_n 0, 1) := dk_42 (dk_at dksJ6_append_2_2 5 rfl rfl)
theorem dJ6_append_2_54 : decode cJ6_append_2 54 = .ok (.areturn, 1) := dk_176 (dk_at dksJ6_append_2_2 6 rfl rfl)
abbrev cJ6_getValue : ByteArray := prog_24_method_64_code
def yJ6_getValue : MethodName := ⟨RJ6, "getValue", "()[B"⟩
theorem dJ6_getValue_0 : decode cJ6_getValue 0 = .ok (.aload_n 0, 1) := by decide +kernel
theorem dJ6_getValue_1 : decode cJ6_getValue 1 = .ok (.getfield 15, 3) := by decide +kernel
theorem dJ6_getValue_4 : decode cJ6_getValue 4 = .ok (.areturn, 1) := by decide +kernel
abbrev cJ6_length : ByteArray := prog_24_method_6_code
def yJ6_length : MethodName := ⟨RJ6, "length", "()I"⟩
theorem dJ6_length_0 : decode cJ6_length 0 = .ok (.aload_n 0, 1) := by decide +kernel
theorem dJ6_length_1 : decode cJ6_length 1 = .ok (.getfield 79, 3) := by decide +kernel
theorem dJ6_length_4 : decode cJ6_length 4 = .ok (.ireturn, 1) := by decide +kernel
abbrev cJ6_append_3 : ByteArray := prog_24_method_31_code
def yJ6_append_3 : MethodName := ⟨RJ6, "append", "(C)Ljava/lang/AbstractStringBuilder;"⟩
def dkwJ6_append_3_3 : List UInt8 := [181, 0, 79, 27, 184, 0, 197, 42, 176]
abbrev dktJ6_append_3_3 : List UInt8 := dkwJ6_append_3_3 ++ []
def dkwJ6_append_3_2 : List UInt8 := [182, 0, 83, 153, 0, 7, 42, 182, 0, 195, 42, 180, 0, 15, 42, 89, 180, 0, 79, 90, 4, 96]
abbrev dktJ6_append_3_2 : List UInt8 := dkwJ6_append_3_2 ++ dktJ6_append_3_3
def dkwJ6_append_3_1 : List UInt8 := [42, 180, 0, 15, 42, 89, 180, 0, 79, 90, 4, 96, 181, 0, 79, 27, 145, 84, 167, 0, 33, 42]
abbrev dktJ6_append_3_1 : List UInt8 := dkwJ6_append_3_1 ++ dktJ6_append_3_2
def dkwJ6_append_3_0 : List UInt8 := [42, 42, 180, 0, 79, 4, 96, 182, 0, 100, 42, 182, 0, 83, 153, 0, 31, 27, 184, 0, 191, 153, 0, 24]
abbrev dktJ6_append_3_0 : List UInt8 := dkwJ6_append_3_0 ++ dktJ6_append_3_1
theorem dksJ6_append_3_0 : cJ6_append_3.data.toList.drop 0 = dktJ6_append_3_0 := by decide +kernel
theorem dksJ6_append_3_1 : cJ6_append_3.data.toList.drop 24 = dktJ6_append_3_1 := dk_seg dksJ6_append_3_0 24 rfl rfl
theorem dksJ6_append_3_2 : cJ6_append_3.data.toList.drop 46 = dktJ6_append_3_2 := dk_seg dksJ6_append_3_1 22 rfl rfl
theorem dksJ6_append_3_3 : cJ6_append_3.data.toList.drop 68 = dktJ6_append_3_3 := dk_seg dksJ6_append_3_2 22 rfl rfl
theorem dJ6_append_3_0 : decode cJ6_append_3 0 = .ok (.aload_n 0, 1) := dk_42 (dk_at dksJ6_append_3_0 0 rfl rfl)
theorem dJ6_append_3_1 : decode cJ6_append_3 1 = .ok (.aload_n 0, 1) := dk_42 (dk_at dksJ6_append_3_0 1 rfl rfl)
theorem dJ6_append_3_2 : decode cJ6_append_3 2 = .ok (.getfield 79, 3) := dk_180 0 79 (dk_at dksJ6_append_3_0 2 rfl rfl)
theorem dJ6_append_3_5 : decode cJ6_append_3 5 = .ok (.iconst 1, 1) := dk_4 (dk_at dksJ6_append_3_0 5 rfl rfl)
theorem dJ6_append_3_6 : decode cJ6_append_3 6 = .ok (.iadd, 1) := dk_96 (dk_at dksJ6_append_3_0 6 rfl rfl)
theorem dJ6_append_3_7 : decode cJ6_append_3 7 = .ok (.invokevirtual 100, 3) := dk_182 0 100 (dk_at dksJ6_append_3_0 7 rfl rfl)
theorem dJ6_append_3_10 : decode cJ6_append_3 10 = .ok (.aload_n 0, 1) := dk_42 (dk_at dksJ6_append_3_0 10 rfl rfl)
theorem dJ6_append_3_11 : decode cJ6_append_3 11 = .ok (.invokevirtual 83, 3) := dk_182 0 83 (dk_at dksJ6_append_3_0 11 rfl rfl)
theorem dJ6_append_3_14 : decode cJ6_append_3 14 = .ok (.ifCond .eq 31, 3) := dk_153 0 31 (dk_at dksJ6_append_3_0 14 rfl rfl)
theorem dJ6_append_3_17 : decode cJ6_append_3 17 = .ok (.iload_n 1, 1) := dk_27 (dk_at dksJ6_append_3_0 17 rfl rfl)
theorem dJ6_append_3_18 : decode cJ6_append_3 18 = .ok (.invokestatic 191, 3) := dk_184 0 191 (dk_at dksJ6_append_3_0 18 rfl rfl)
theorem dJ6_append_3_21 : decode cJ6_append_3 21 = .ok (.ifCond .eq 24, 3) := dk_153 0 24 (dk_at dksJ6_append_3_0 21 rfl rfl)
theorem dJ6_append_3_24 : decode cJ6_append_3 24 = .ok (.aload_n 0, 1) := dk_42 (dk_at dksJ6_append_3_1 0 rfl rfl)
theorem dJ6_append_3_25 : decode cJ6_append_3 25 = .ok (.getfield 15, 3) := dk_180 0 15 (dk_at dksJ6_append_3_1 1 rfl rfl)
theorem dJ6_append_3_28 : decode cJ6_append_3 28 = .ok (.aload_n 0, 1) := dk_42 (dk_at dksJ6_append_3_1 4 rfl rfl)
theorem dJ6_append_3_29 : decode cJ6_append_3 29 = .ok (.dup, 1) := dk_89 (dk_at dksJ6_append_3_1 5 rfl rfl)
theorem dJ6_append_3_30 : decode cJ6_append_3 30 = .ok (.getfield 79, 3) := dk_180 0 79 (dk_at dksJ6_append_3_1 6 rfl rfl)
theorem dJ6_append_3_33 : decode cJ6_append_3 33 = .ok (.dup_x1, 1) := dk_90 (dk_at dksJ6_append_3_1 9 rfl rfl)
theorem dJ6_append_3_34 : decode cJ6_append_3 34 = .ok (.iconst 1, 1) := dk_4 (dk_at dksJ6_append_3_1 10 rfl rfl)
theorem dJ6_append_3_35 : decode cJ6_append_3 35 = .ok (.iadd, 1) := dk_96 (dk_at dksJ6_append_3_1 11 rfl rfl)
theorem dJ6_append_3_36 : decode cJ6_append_3 36 = .ok (.putfield 79, 3) := dk_181 0 79 (dk_at dksJ6_append_3_1 12 rfl rfl)
theorem dJ6_append_3_39 : decode cJ6_append_3 39 = .ok (.iload_n 1, 1) := dk_27 (dk_at dksJ6_append_3_1 15 rfl rfl)
theorem dJ6_append_3_40 : decode cJ6_append_3 40 = .ok (.i2b, 1) := dk_145 (dk_at dksJ6_append_3_1 16 rfl rfl)
theorem dJ6_append_3_41 : decode cJ6_append_3 41 = .ok (.bastore, 1) := dk_84 (dk_at dksJ6_append_3_1 17 rfl rfl)
theorem dJ6_append_3_42 : decode cJ6_append_3 42 = .ok (.goto 33, 3) := dk_167 0 33 (dk_at dksJ6_append_3_1 18 rfl rfl)
theorem dJ6_append_3_45 : decode cJ6_append_3 45 = .ok (.aload_n 0, 1) := dk_42 (dk_at dksJ6_append_3_1 21 rfl rfl)
theorem dJ6_append_3_46 : decode cJ6_append_3 46 = .ok (.invokevirtual 83, 3) := dk_182 0 83 (dk_at dksJ6_append_3_2 0 rfl rfl)
theorem dJ6_append_3_49 : decode cJ6_append_3 49 = .ok (.ifCond .eq 7, 3) := dk_153 0 7 (dk_at dksJ6_append_3_2 3 rfl rfl)
theorem dJ6_append_3_52 : decode cJ6_append_3 52 = .ok (.aload_n 0, 1) := dk_42 (dk_at dksJ6_append_3_2 6 rfl rfl)
theorem dJ6_append_3_53 : decode cJ6_append_3 53 = .ok (.invokevirtual 195, 3) := dk_182 0 195 (dk_at dksJ6_append_3_2 7 rfl rfl)
theorem dJ6_append_3_56 : decode cJ6_append_3 56 = .ok (.aload_n 0, 1) := dk_42 (dk_at dksJ6_append_3_2 10 rfl rfl)
theorem dJ6_append_3_57 : decode cJ6_append_3 57 = .ok (.getfield 15, 3) := dk_180 0 15 (dk_at dksJ6_append_3_2 11 rfl rfl)
theorem dJ6_append_3_60 : decode cJ6_append_3 60 = .ok (.aload_n 0, 1) := dk_42 (dk_at dksJ6_append_3_2 14 rfl rfl)
theorem dJ6_append_3_61 : decode cJ6_append_3 61 = .ok (.dup, 1) := dk_89 (dk_at dksJ6_append_3_2 15 rfl rfl)
theorem dJ6_append_3_62 : decode cJ6_append_3 62 = .ok (.getfield 79, 3) := dk_180 0 79 (dk_at dksJ6_append_3_2 16 rfl rfl)
theorem dJ6_append_3_65 : decode cJ6_append_3 65 = .ok (.dup_x1, 1) := dk_90 (dk_at dksJ6_append_3_2 19 rfl rfl)
theorem dJ6_append_3_66 : decode cJ6_append_3 66 = .ok (.iconst 1, 1) := dk_4 (dk_at dksJ6_append_3_2 20 rfl rfl)
theorem dJ6_append_3_67 : decode cJ6_append_3 67 = .ok (.iadd, 1) := dk_96 (dk_at dksJ6_append_3_2 21 rfl rfl)
theorem dJ6_append_3_68 : decode cJ6_append_3 68 = .ok (.putfield 79, 3) := dk_181 0 79 (dk_at dksJ6_append_3_3 0 rfl rfl)
theorem dJ6_append_3_71 : decode cJ6_append_3 71 = .ok (.iload_n 1, 1) := dk_27 (dk_at dksJ6_append_3_3 3 rfl rfl)
theorem dJ6_append_3_72 : decode cJ6_append_3 72 = .ok (.invokestatic 197, 3) := dk_184 0 197 (dk_at dksJ6_append_3_3 4 rfl rfl)
theorem dJ6_append_3_75 : decode cJ6_append_3 75 = .ok (.aload_n 0, 1) := dk_42 (dk_at dksJ6_append_3_3 7 rfl rfl)
theorem dJ6_append_3_76 : decode cJ6_append_3 76 = .ok (.areturn, 1) := dk_176 (dk_at dksJ6_append_3_3 8 rfl rfl)
theorem q182 : (Jvm.Cond.initialized "java/lang/AbstractStringBuilder") ∈ lw_all := lw_g (lw_at lw_m1 16 rfl) rfl
theorem q775 : (Jvm.Cond.instanceMethod ({ cls := "java/lang/AbstractStringBuilder", name := "<init>", desc := "(I)V" } : Jvm.MethodName)) ∈ lw_all := lw_g (lw_at lw_m3 129 rfl) rfl
theorem q776 : (Jvm.Cond.code ({ cls := "java/lang/AbstractStringBuilder", name := "<init>", desc := "(I)V" } : Jvm.MethodName) prog_24_method_2_code (2 : Nat) (Option.none : Option Jvm.ClassFile.FieldType)) ∈ lw_all := lw_g (lw_at lw_m3 130 rfl) rfl
theorem q777 : (Jvm.Cond.methodLink "java/lang/AbstractStringBuilder" (3 : Nat) ({ cls := "java/lang/Object", name := "<init>", desc := "()V" } : Jvm.MethodName)) ∈ lw_all := lw_g (lw_at lw_m3 131 rfl) rfl
theorem q778 : (Jvm.Cond.fieldLink "java/lang/AbstractStringBuilder" (18 : Nat) "java/lang/String" "COMPACT_STRINGS" "Z") ∈ lw_all := lw_g (lw_at lw_m3 132 rfl) rfl
theorem q780 : (Jvm.Cond.methodLink "java/lang/AbstractStringBuilder" (26 : Nat) ({ cls := "java/lang/StringUTF16", name := "newBytesFor", desc := "(I)[B" } : Jvm.MethodName)) ∈ lw_all := lw_g (lw_at lw_m3 134 rfl) rfl
theorem q792 : (Jvm.Cond.fieldLink "java/lang/AbstractStringBuilder" (15 : Nat) "java/lang/AbstractStringBuilder" "value" "[B") ∈ lw_all := lw_g (lw_at lw_m3 146 rfl) rfl
theorem q793 : (Jvm.Cond.fieldLink "java/lang/AbstractStringBuilder" (22 : Nat) "java/lang/AbstractStringBuilder" "coder" "B") ∈ lw_all := lw_g (lw_at lw_m3 147 rfl) rfl
theorem q794 : (Jvm.Cond.fieldLink "java/lang/AbstractStringBuilder" (73 : Nat) "java/lang/AbstractStringBuilder" "maybeLatin1" "Z") ∈ lw_all := lw_g (lw_at lw_m3 148 rfl) rfl
theorem q796 : (Jvm.Cond.fieldLink "java/lang/AbstractStringBuilder" (79 : Nat) "java/lang/AbstractStringBuilder" "count" "I") ∈ lw_all := lw_g (lw_at lw_m3 150 rfl) rfl
theorem q798 : (Jvm.Cond.soleField "java/lang/AbstractStringBuilder" "value") ∈ lw_all := lw_g (lw_at lw_m3 152 rfl) rfl
theorem q800 : (Jvm.Cond.soleField "java/lang/AbstractStringBuilder" "coder") ∈ lw_all := lw_g (lw_at lw_m3 154 rfl) rfl
theorem q802 : (Jvm.Cond.soleField "java/lang/AbstractStringBuilder" "maybeLatin1") ∈ lw_all := lw_g (lw_at lw_m3 156 rfl) rfl
theorem q804 : (Jvm.Cond.soleField "java/lang/AbstractStringBuilder" "count") ∈ lw_all := lw_g (lw_at lw_m3 158 rfl) rfl
theorem q1227 : (Jvm.Cond.instanceMethod ({ cls := "java/lang/AbstractStringBuilder", name := "compareTo", desc := "(Ljava/lang/AbstractStringBuilder;)I" } : Jvm.MethodName)) ∈ lw_all := lw_g (lw_at lw_m5 101 rfl) rfl
theorem q1228 : (Jvm.Cond.code ({ cls := "java/lang/AbstractStringBuilder", name := "compareTo", desc := "(Ljava/lang/AbstractStringBuilder;)I" } : Jvm.MethodName) prog_24_method_5_code (6 : Nat) (Option.some Jvm.ClassFile.FieldType.int)) ∈ lw_all := lw_g (lw_at lw_m5 102 rfl) rfl
theorem q1229 : (Jvm.Cond.methodLink "java/lang/AbstractStringBuilder" (83 : Nat) ({ cls := "java/lang/AbstractStringBuilder", name := "isLatin1", desc := "()Z" } : Jvm.MethodName)) ∈ lw_all := lw_g (lw_at lw_m5 103 rfl) rfl
theorem q1230 : (Jvm.Cond.instanceMethod ({ cls := "java/lang/AbstractStringBuilder", name := "isLatin1", desc := "()Z" } : Jvm.MethodName)) ∈ lw_all := lw_g (lw_at lw_m5 104 rfl) rfl
theorem q1231 : (Jvm.Cond.sameMethod "java/lang/AbstractStringBuilder" "java/lang/AbstractStringBuilder" "isLatin1" "()Z") ∈ lw_all := lw_g (lw_at lw_m5 105 rfl) rfl
theorem q1233 : (Jvm.Cond.code ({ cls := "java/lang/AbstractStringBuilder", name := "isLatin1", desc := "()Z" } : Jvm.MethodName) prog_24_method_68_code (1 : Nat) (Option.some Jvm.ClassFile.FieldType.boolean)) ∈ lw_all := lw_g (lw_at lw_m5 107 rfl) rfl
theorem q1234 : (Jvm.Cond.methodLink "java/lang/AbstractStringBuilder" (87 : Nat) ({ cls := "java/lang/StringLatin1", name := "compareTo", desc := "([B[BII)I" } : Jvm.MethodName)) ∈ lw_all := lw_g (lw_at lw_m5 108 rfl) rfl
theorem q1235 : (Jvm.Cond.methodLink "java/lang/AbstractStringBuilder" (93 : Nat) ({ cls := "java/lang/StringUTF16", name := "compareTo", desc := "([B[BII)I" } : Jvm.MethodName)) ∈ lw_all := lw_g (lw_at lw_m5 109 rfl) rfl
theorem q1249 : (Jvm.Cond.methodLink "java/lang/AbstractStringBuilder" (94 : Nat) ({ cls := "java/lang/StringLatin1", name := "compareToUTF16", desc := "([B[BII)I" } : Jvm.MethodName)) ∈ lw_all := lw_g (lw_at lw_m5 123 rfl) rfl
theorem q1253 : (Jvm.Cond.methodLink "java/lang/AbstractStringBuilder" (97 : Nat) ({ cls := "java/lang/StringUTF16", name := "compareToLatin1", desc := "([B[BII)I" } : Jvm.MethodName)) ∈ lw_all := lw_g (lw_at lw_m5 127 rfl) rfl
theorem q1410 : (Jvm.Cond.instanceMethod ({ cls := "java/lang/AbstractStringBuilder", name := "setLength", desc := "(I)V" } : Jvm.MethodName)) ∈ lw_all := lw_g (lw_at lw_m6 44 rfl) rfl
theorem q1411 : (Jvm.Cond.code ({ cls := "java/lang/AbstractStringBuilder", name := "setLength", desc := "(I)V" } : Jvm.MethodName) prog_24_method_13_code (2 : Nat) (Option.none : Option Jvm.ClassFile.FieldType)) ∈ lw_all := lw_g (lw_at lw_m6 45 rfl) rfl
theorem q1412 : (Jvm.Cond.classLink "java/lang/AbstractStringBuilder" (129 : Nat) "java/lang/StringIndexOutOfBoundsException") ∈ lw_all := lw_g (lw_at lw_m6 46 rfl) rfl
theorem q1414 : (Jvm.Cond.methodLink "java/lang/AbstractStringBuilder" (131 : Nat) ({ cls := "java/lang/StringIndexOutOfBoundsException", name := "<init>", desc := "(I)V" } : Jvm.MethodName)) ∈ lw_all := lw_g (lw_at lw_m6 48 rfl) rfl
theorem q1425 : (Jvm.Cond.instanceMethod ({ cls := "java/lang/AbstractStringBuilder", name := "append", desc := "(Ljava/lang/String;)Ljava/lang/AbstractStringBuilder;" } : Jvm.MethodName)) ∈ lw_all := lw_g (lw_at lw_m6 59 rfl) rfl
theorem q1426 : (Jvm.Cond.code ({ cls := "java/lang/AbstractStringBuilder", name := "append", desc := "(Ljava/lang/String;)Ljava/lang/AbstractStringBuilder;" } : Jvm.MethodName) prog_24_method_22_code (3 : Nat) (Option.some (Jvm.ClassFile.FieldType.object "java/lang/AbstractStringBuilder"))) ∈ lw_all := lw_g (lw_at lw_m6 60 rfl) rfl
theorem q1427 : (Jvm.Cond.methodLink "java/lang/AbstractStringBuilder" (204 : Nat) ({ cls := "java/lang/AbstractStringBuilder", name := "appendNull", desc := "()Ljava/lang/AbstractStringBuilder;" } : Jvm.MethodName)) ∈ lw_all := lw_g (lw_at lw_m6 61 rfl) rfl
theorem q1428 : (Jvm.Cond.privateMethod ({ cls := "java/lang/AbstractStringBuilder", name := "appendNull", desc := "()Ljava/lang/AbstractStringBuilder;" } : Jvm.MethodName)) ∈ lw_tbl := lw_at lw_m6 62 rfl
theorem q1429 : (Jvm.Cond.instanceMethod ({ cls := "java/lang/AbstractStringBuilder", name := "appendNull", desc := "()Ljava/lang/AbstractStringBuilder;" } : Jvm.MethodName)) ∈ lw_all := lw_g (lw_at lw_m6 63 rfl) rfl
theorem q1430 : (Jvm.Cond.code ({ cls := "java/lang/AbstractStringBuilder", name := "appendNull", desc := "()Ljava/lang/AbstractStringBuilder;" } : Jvm.MethodName) prog_24_method_26_code (3 : Nat) (Option.some (Jvm.ClassFile.FieldType.object "java/lang/AbstractStringBuilder"))) ∈ lw_all := lw_g (lw_at lw_m6 64 rfl) rfl
theorem q1431 : (Jvm.Cond.methodLink "java/lang/AbstractStringBuilder" (100 : Nat) ({ cls := "java/lang/AbstractStringBuilder", name := "ensureCapacityInternal", desc := "(I)V" } : Jvm.MethodName)) ∈ lw_all := lw_g (lw_at lw_m6 65 rfl) rfl
theorem q1432 : (Jvm.Cond.privateMethod ({ cls := "java/lang/AbstractStringBuilder", name := "ensureCapacityInternal", desc := "(I)V" } : Jvm.MethodName)) ∈ lw_tbl := lw_at lw_m6 66 rfl
theorem q1433 : (Jvm.Cond.instanceMethod ({ cls := "java/lang/AbstractStringBuilder", name := "ensureCapacityInternal", desc := "(I)V" } : Jvm.MethodName)) ∈ lw_all := lw_g (lw_at lw_m6 67 rfl) rfl
theorem q1434 : (Jvm.Cond.code ({ cls := "java/lang/AbstractStringBuilder", name := "ensureCapacityInternal", desc := "(I)V" } : Jvm.MethodName) prog_24_method_9_code (3 : Nat) (Option.none : Option Jvm.ClassFile.FieldType)) ∈ lw_all := lw_g (lw_at lw_m6 68 rfl) rfl
theorem q1435 : (Jvm.Cond.methodLink "java/lang/AbstractStringBuilder" (104 : Nat) ({ cls := "java/lang/AbstractStringBuilder", name := "newCapacity", desc := "(I)I" } : Jvm.MethodName)) ∈ lw_all := lw_g (lw_at lw_m6 69 rfl) rfl
theorem q1436 : (Jvm.Cond.privateMethod ({ cls := "java/lang/AbstractStringBuilder", name := "newCapacity", desc := "(I)I" } : Jvm.MethodName)) ∈ lw_tbl := lw_at lw_m6 70 rfl
theorem q1437 : (Jvm.Cond.instanceMethod ({ cls := "java/lang/AbstractStringBuilder", name := "newCapacity", desc := "(I)I" } : Jvm.MethodName)) ∈ lw_all := lw_g (lw_at lw_m6 71 rfl) rfl
theorem q1438 : (Jvm.Cond.code ({ cls := "java/lang/AbstractStringBuilder", name := "newCapacity", desc := "(I)I" } : Jvm.MethodName) prog_24_method_10_code (6 : Nat) (Option.some Jvm.ClassFile.FieldType.int)) ∈ lw_all := lw_g (lw_at lw_m6 72 rfl) rfl
theorem q1439 : (Jvm.Cond.methodLink "java/lang/AbstractStringBuilder" (114 : Nat) ({ cls := "jdk/internal/util/ArraysSupport", name := "newLength", desc := "(III)I" } : Jvm.MethodName)) ∈ lw_all := lw_g (lw_at lw_m6 73 rfl) rfl
theorem q1447 : (Jvm.Cond.constant "java/lang/AbstractStringBuilder" (39 : Nat) (2147483647 : Int32)) ∈ lw_all := lw_g (lw_at lw_m6 81 rfl) rfl
theorem q1448 : (Jvm.Cond.methodLink "java/lang/AbstractStringBuilder" (108 : Nat) ({ cls := "java/util/Arrays", name := "copyOf", desc := "([BI)[B" } : Jvm.MethodName)) ∈ lw_all := lw_g (lw_at lw_m6 82 rfl) rfl
theorem q1460 : (Jvm.Cond.methodLink "java/lang/AbstractStringBuilder" (226 : Nat) ({ cls := "java/lang/StringUTF16", name := "putCharsAt", desc := "([BICCCC)I" } : Jvm.MethodName)) ∈ lw_all := lw_g (lw_at lw_m6 94 rfl) rfl
theorem q1472 : (Jvm.Cond.methodLink "java/lang/AbstractStringBuilder" (32 : Nat) ({ cls := "java/lang/String", name := "length", desc := "()I" } : Jvm.MethodName)) ∈ lw_all := lw_g (lw_at lw_m6 106 rfl) rfl
theorem q1476 : (Jvm.Cond.methodLink "java/lang/AbstractStringBuilder" (208 : Nat) ({ cls := "java/lang/AbstractStringBuilder", name := "putStringAt", desc := "(ILjava/lang/String;)V" } : Jvm.MethodName)) ∈ lw_all := lw_g (lw_at lw_m6 110 rfl) rfl
theorem q1477 : (Jvm.Cond.privateMethod ({ cls := "java/lang/AbstractStringBuilder", name := "putStringAt", desc := "(ILjava/lang/String;)V" } : Jvm.MethodName)) ∈ lw_tbl := lw_at lw_m6 111 rfl
theorem q1478 : (Jvm.Cond.instanceMethod ({ cls := "java/lang/AbstractStringBuilder", name := "putStringAt", desc := "(ILjava/lang/String;)V" } : Jvm.MethodName)) ∈ lw_all := lw_g (lw_at lw_m6 112 rfl) rfl
theorem q1479 : (Jvm.Cond.code ({ cls := "java/lang/AbstractStringBuilder", name := "putStringAt", desc := "(ILjava/lang/String;)V" } : Jvm.MethodName) prog_24_method_73_code (3 : Nat) (Option.none : Option Jvm.ClassFile.FieldType)) ∈ lw_all := lw_g (lw_at lw_m6 113 rfl) rfl
theorem q1480 : (Jvm.Cond.methodLink "java/lang/AbstractStringBuilder" (397 : Nat) ({ cls := "java/lang/AbstractStringBuilder", name := "inflateIfNeededFor", desc := "(Ljava/lang/String;)V" } : Jvm.MethodName)) ∈ lw_all := lw_g (lw_at lw_m6 114 rfl) rfl
theorem q1481 : (Jvm.Cond.privateMethod ({ cls := "java/lang/AbstractStringBuilder", name := "inflateIfNeededFor", desc := "(Ljava/lang/String;)V" } : Jvm.MethodName)) ∈ lw_tbl := lw_at lw_m6 115 rfl
theorem q1482 : (Jvm.Cond.instanceMethod ({ cls := "java/lang/AbstractStringBuilder", name := "inflateIfNeededFor", desc := "(Ljava/lang/String;)V" } : Jvm.MethodName)) ∈ lw_all := lw_g (lw_at lw_m6 116 rfl) rfl
theorem q1483 : (Jvm.Cond.code ({ cls := "java/lang/AbstractStringBuilder", name := "inflateIfNeededFor", desc := "(Ljava/lang/String;)V" } : Jvm.MethodName) prog_24_method_71_code (2 : Nat) (Option.none : Option Jvm.ClassFile.FieldType)) ∈ lw_all := lw_g (lw_at lw_m6 117 rfl) rfl
theorem q1484 : (Jvm.Cond.methodLink "java/lang/AbstractStringBuilder" (40 : Nat) ({ cls := "java/lang/String", name := "coder", desc := "()B" } : Jvm.MethodName)) ∈ lw_all := lw_g (lw_at lw_m6 118 rfl) rfl
theorem q1485 : (Jvm.Cond.methodLink "java/lang/AbstractStringBuilder" (195 : Nat) ({ cls := "java/lang/AbstractStringBuilder", name := "inflate", desc := "()V" } : Jvm.MethodName)) ∈ lw_all := lw_g (lw_at lw_m6 119 rfl) rfl
theorem q1486 : (Jvm.Cond.privateMethod ({ cls := "java/lang/AbstractStringBuilder", name := "inflate", desc := "()V" } : Jvm.MethodName)) ∈ lw_tbl := lw_at lw_m6 120 rfl
theorem q1487 : (Jvm.Cond.instanceMethod ({ cls := "java/lang/AbstractStringBuilder", name := "inflate", desc := "()V" } : Jvm.MethodName)) ∈ lw_all := lw_g (lw_at lw_m6 121 rfl) rfl
theorem q1488 : (Jvm.Cond.code ({ cls := "java/lang/AbstractStringBuilder", name := "inflate", desc := "()V" } : Jvm.MethodName) prog_24_method_11_code (2 : Nat) (Option.none : Option Jvm.ClassFile.FieldType)) ∈ lw_all := lw_g (lw_at lw_m6 122 rfl) rfl
theorem q1489 : (Jvm.Cond.methodLink "java/lang/AbstractStringBuilder" (125 : Nat) ({ cls := "java/lang/StringLatin1", name := "inflate", desc := "([BI[BII)V" } : Jvm.MethodName)) ∈ lw_all := lw_g (lw_at lw_m6 123 rfl) rfl
theorem q1504 : (Jvm.Cond.methodLink "java/lang/AbstractStringBuilder" (399 : Nat) ({ cls := "java/lang/String", name := "getBytes", desc := "([BIB)V" } : Jvm.MethodName)) ∈ lw_all := lw_g (lw_at lw_m6 138 rfl) rfl
theorem q1515 : (Jvm.Cond.instanceMethod ({ cls := "java/lang/AbstractStringBuilder", name := "append", desc := "(I)Ljava/lang/AbstractStringBuilder;" } : Jvm.MethodName)) ∈ lw_all := lw_g (lw_at lw_m6 149 rfl) rfl
theorem q1516 : (Jvm.Cond.code ({ cls := "java/lang/AbstractStringBuilder", name := "append", desc := "(I)Ljava/lang/AbstractStringBuilder;" } : Jvm.MethodName) prog_24_method_32_code (4 : Nat) (Option.some (Jvm.ClassFile.FieldType.object "java/lang/AbstractStringBuilder"))) ∈ lw_all := lw_g (lw_at lw_m6 150 rfl) rfl
theorem q1517 : (Jvm.Cond.methodLink "java/lang/AbstractStringBuilder" (245 : Nat) ({ cls := "java/lang/Integer", name := "stringSize", desc := "(I)I" } : Jvm.MethodName)) ∈ lw_all := lw_g (lw_at lw_m6 151 rfl) rfl
theorem q1520 : (Jvm.Cond.methodLink "java/lang/AbstractStringBuilder" (248 : Nat) ({ cls := "java/lang/Integer", name := "getChars", desc := "(II[B)I" } : Jvm.MethodName)) ∈ lw_all := lw_g (lw_at lw_m6 154 rfl) rfl
theorem q1527 : (Jvm.Cond.methodLink "java/lang/AbstractStringBuilder" (251 : Nat) ({ cls := "java/lang/StringUTF16", name := "getChars", desc := "(III[B)I" } : Jvm.MethodName)) ∈ lw_all := lw_g (lw_at lw_m6 161 rfl) rfl
theorem q1548 : (Jvm.Cond.instanceMethod ({ cls := "java/lang/AbstractStringBuilder", name := "getValue", desc := "()[B" } : Jvm.MethodName)) ∈ lw_all := lw_g (lw_at lw_m6 182 rfl) rfl
theorem q1549 : (Jvm.Cond.sameMethod "java/lang/AbstractStringBuilder" "java/lang/AbstractStringBuilder" "getValue" "()[B") ∈ lw_all := lw_g (lw_at lw_m6 183 rfl) rfl
theorem q1551 : (Jvm.Cond.code ({ cls := "java/lang/AbstractStringBuilder", name := "getValue", desc := "()[B" } : Jvm.MethodName) prog_24_method_64_code (1 : Nat) (Option.some (Jvm.ClassFile.FieldType.array Jvm.ClassFile.FieldType.byte))) ∈ lw_all := lw_g (lw_at lw_m6 185 rfl) rfl
theorem q1553 : (Jvm.Cond.instanceMethod ({ cls := "java/lang/AbstractStringBuilder", name := "length", desc := "()I" } : Jvm.MethodName)) ∈ lw_all := lw_g (lw_at lw_m6 187 rfl) rfl
theorem q1554 : (Jvm.Cond.sameMethod "java/lang/AbstractStringBuilder" "java/lang/AbstractStringBuilder" "length" "()I") ∈ lw_all := lw_g (lw_at lw_m6 188 rfl) rfl
theorem q1559 : (Jvm.Cond.code ({ cls := "java/lang/AbstractStringBuilder", name := "length", desc := "()I" } : Jvm.MethodName) prog_24_method_6_code (1 : Nat) (Option.some Jvm.ClassFile.FieldType.int)) ∈ lw_all := lw_g (lw_at lw_m6 193 rfl) rfl
theorem q1597 : (Jvm.Cond.methodLink "java/lang/AbstractStringBuilder" (133 : Nat) ({ cls := "java/lang/StringLatin1", name := "fillNull", desc := "([BII)V" } : Jvm.MethodName)) ∈ lw_all := lw_g (lw_at lw_m6 231 rfl) rfl
theorem q1616 : (Jvm.Cond.methodLink "java/lang/AbstractStringBuilder" (137 : Nat) ({ cls := "java/lang/StringUTF16", name := "fillNull", desc := "([BII)V" } : Jvm.MethodName)) ∈ lw_all := lw_g (lw_at lw_m7 10 rfl) rfl
theorem q1625 : (Jvm.Cond.instanceMethod ({ cls := "java/lang/AbstractStringBuilder", name := "append", desc := "(C)Ljava/lang/AbstractStringBuilder;" } : Jvm.MethodName)) ∈ lw_all := lw_g (lw_at lw_m7 19 rfl) rfl
theorem q1626 : (Jvm.Cond.code ({ cls := "java/lang/AbstractStringBuilder", name := "append", desc := "(C)Ljava/lang/AbstractStringBuilder;" } : Jvm.MethodName) prog_24_method_31_code (2 : Nat) (Option.some (Jvm.ClassFile.FieldType.object "java/lang/AbstractStringBuilder"))) ∈ lw_all := lw_g (lw_at lw_m7 20 rfl) rfl
theorem q1627 : (Jvm.Cond.methodLink "java/lang/AbstractStringBuilder" (191 : Nat) ({ cls := "java/lang/StringLatin1", name := "canEncode", desc := "(C)Z" } : Jvm.MethodName)) ∈ lw_all := lw_g (lw_at lw_m7 21 rfl) rfl
theorem q1630 : (Jvm.Cond.methodLink "java/lang/AbstractStringBuilder" (197 : Nat) ({ cls := "java/lang/StringUTF16", name := "putCharSB", desc := "([BII)V" } : Jvm.MethodName)) ∈ lw_all := lw_g (lw_at lw_m7 24 rfl) rfl
theorem q3498 : (Jvm.Cond.sameMethod "java/lang/AbstractStringBuilder" "java/lang/AbstractStringBuilder" "compareTo" "(Ljava/lang/AbstractStringBuilder;)I") ∈ lw_all := lw_g (lw_at lw_m14 212 rfl) rfl
theorem q3499 : (Jvm.Cond.sameMethod "java/lang/AbstractStringBuilder" "java/lang/AbstractStringBuilder" "setLength" "(I)V") ∈ lw_all := lw_g (lw_at lw_m14 213 rfl) rfl
theorem q3500 : (Jvm.Cond.sameMethod "java/lang/AbstractStringBuilder" "java/lang/AbstractStringBuilder" "append" "(Ljava/lang/String;)Ljava/lang/AbstractStringBuilder;") ∈ lw_all := lw_g (lw_at lw_m14 214 rfl) rfl
theorem q3501 : (Jvm.Cond.sameMethod "java/lang/AbstractStringBuilder" "java/lang/AbstractStringBuilder" "appendNull" "()Ljava/lang/AbstractStringBuilder;") ∈ lw_all := lw_g (lw_at lw_m14 215 rfl) rfl
theorem q3502 : (Jvm.Cond.sameMethod "java/lang/AbstractStringBuilder" "java/lang/AbstractStringBuilder" "ensureCapacityInternal" "(I)V") ∈ lw_all := lw_g (lw_at lw_m14 216 rfl) rfl
theorem q3503 : (Jvm.Cond.sameMethod "java/lang/AbstractStringBuilder" "java/lang/AbstractStringBuilder" "newCapacity" "(I)I") ∈ lw_all := lw_g (lw_at lw_m14 217 rfl) rfl
theorem q3504 : (Jvm.Cond.sameMethod "java/lang/AbstractStringBuilder" "java/lang/AbstractStringBuilder" "putStringAt" "(ILjava/lang/String;)V") ∈ lw_all := lw_g (lw_at lw_m14 218 rfl) rfl
theorem q3505 : (Jvm.Cond.sameMethod "java/lang/AbstractStringBuilder" "java/lang/AbstractStringBuilder" "inflateIfNeededFor" "(Ljava/lang/String;)V") ∈ lw_all := lw_g (lw_at lw_m14 219 rfl) rfl
theorem q3506 : (Jvm.Cond.sameMethod "java/lang/AbstractStringBuilder" "java/lang/AbstractStringBuilder" "inflate" "()V") ∈ lw_all := lw_g (lw_at lw_m14 220 rfl) rfl
theorem q3507 : (Jvm.Cond.sameMethod "java/lang/AbstractStringBuilder" "java/lang/AbstractStringBuilder" "append" "(I)Ljava/lang/AbstractStringBuilder;") ∈ lw_all := lw_g (lw_at lw_m14 221 rfl) rfl
theorem q3508 : (Jvm.Cond.sameMethod "java/lang/AbstractStringBuilder" "java/lang/AbstractStringBuilder" "append" "(C)Ljava/lang/AbstractStringBuilder;") ∈ lw_all := lw_g (lw_at lw_m14 222 rfl) rfl
/-! java/lang/StringBuilder -/
set_option maxRecDepth 100000
def RJ7 : String := "java/lang/StringBuilder"
def TJ7 : u_T := fun k => match k with
  | 0 => ("java/lang/AbstractStringBuilder", "value", "[B", false)
  | 1 => ("java/lang/AbstractStringBuilder", "coder", "B", false)
  | 2 => ("java/lang/AbstractStringBuilder", "maybeLatin1", "Z", false)
  | _ => ("java/lang/AbstractStringBuilder", "count", "I", false)
def tyJ7 : Nat → FieldType := fun k => match k with
  | 0 => .array .byte
  | 1 => .byte
  | 2 => .boolean
  | _ => .int
abbrev wsJ70 : List Cond := u_ws RJ7 TJ7 4
theorem nmJ7 : ∀ a, a < 4 → ∀ b, b < 4 → a ≠ b → (TJ7 a).2.1 ≠ (TJ7 b).2.1 := by decide +kernel
theorem tyJ7_ok : ∀ k, k < 4 → parseFieldDescriptor (TJ7 k).2.2.1 = some (tyJ7 k) := by decide +kernel
abbrev cJ7_init : ByteArray := prog_43_method_1_code
def yJ7_init : MethodName := ⟨RJ7, "<init>", "()V"⟩
def dkwJ7_init_0 : List UInt8 := [42, 16, 16, 183, 0, 1, 177]
abbrev dktJ7_init_0 : List UInt8 := dkwJ7_init_0 ++ []
theorem dksJ7_init_0 : cJ7_init.data.toList.drop 0 = dktJ7_init_0 := by decide +kernel
theorem dJ7_init_0 : decode cJ7_init 0 = .ok (.aload_n 0, 1) := dk_42 (dk_at dksJ7_init_0 0 rfl rfl)
theorem dJ7_init_1 : decode cJ7_init 1 = .ok (.bipush 16, 2) := dk_16 16 (dk_at dksJ7_init_0 1 rfl rfl)
theorem dJ7_init_3 : decode cJ7_init 3 = .ok (.invokespecial 1, 3) := dk_183 0 1 (dk_at dksJ7_init_0 3 rfl rfl)
theorem dJ7_init_6 : decode cJ7_init 6 = .ok (.return_, 1) := dk_177 (dk_at dksJ7_init_0 6 rfl rfl)
abbrev cJ7_compareTo : ByteArray := prog_43_method_97_code
def yJ7_compareTo : MethodName := ⟨RJ7, "compareTo", "(Ljava/lang/Object;)I"⟩
def dkwJ7_compareTo_0 : List UInt8 := [42, 43, 192, 0, 24, 182, 1, 90, 172]
abbrev dktJ7_compareTo_0 : List UInt8 := dkwJ7_compareTo_0 ++ []
theorem dksJ7_compareTo_0 : cJ7_compareTo.data.toList.drop 0 = dktJ7_compareTo_0 := by decide +kernel
theorem dJ7_compareTo_0 : decode cJ7_compareTo 0 = .ok (.aload_n 0, 1) := dk_42 (dk_at dksJ7_compareTo_0 0 rfl rfl)
theorem dJ7_compareTo_1 : decode cJ7_compareTo 1 = .ok (.aload_n 1, 1) := dk_43 (dk_at dksJ7_compareTo_0 1 rfl rfl)
theorem dJ7_compareTo_2 : decode cJ7_compareTo 2 = .ok (.checkcast 24, 3) := dk_192 0 24 (dk_at dksJ7_compareTo_0 2 rfl rfl)
theorem dJ7_compareTo_5 : decode cJ7_compareTo 5 = .ok (.invokevirtual 346, 3) := dk_182 1 90 (dk_at dksJ7_compareTo_0 5 rfl rfl)
theorem dJ7_compareTo_8 : decode cJ7_compareTo 8 = .ok (.ireturn, 1) := dk_172 (dk_at dksJ7_compareTo_0 8 rfl rfl)
abbrev cJ7_compareTo_2 : ByteArray := prog_43_method_5_code
def yJ7_compareTo_2 : MethodName := ⟨RJ7, "compareTo", "(Ljava/lang/StringBuilder;)I"⟩
def dkwJ7_compareTo_2_0 : List UInt8 := [42, 43, 183, 0, 13, 172]
abbrev dktJ7_compareTo_2_0 : List UInt8 := dkwJ7_compareTo_2_0 ++ []
theorem dksJ7_compareTo_2_0 : cJ7_compareTo_2.data.toList.drop 0 = dktJ7_compareTo_2_0 := by decide +kernel
theorem dJ7_compareTo_2_0 : decode cJ7_compareTo_2 0 = .ok (.aload_n 0, 1) := dk_42 (dk_at dksJ7_compareTo_2_0 0 rfl rfl)
theorem dJ7_compareTo_2_1 : decode cJ7_compareTo_2 1 = .ok (.aload_n 1, 1) := dk_43 (dk_at dksJ7_compareTo_2_0 1 rfl rfl)
theorem dJ7_compareTo_2_2 : decode cJ7_compareTo_2 2 = .ok (.invokespecial 13, 3) := dk_183 0 13 (dk_at dksJ7_compareTo_2_0 2 rfl rfl)
theorem dJ7_compareTo_2_5 : decode cJ7_compareTo_2 5 = .ok (.ireturn, 1) := dk_172 (dk_at dksJ7_compareTo_2_0 5 rfl rfl)
abbrev cJ7_setLength : ByteArray := prog_43_method_89_code
def yJ7_setLength : MethodName := ⟨RJ7, "setLength", "(I)V"⟩
def dkwJ7_setLength_0 : List UInt8 := [42, 27, 183, 1, 77, 177]
abbrev dktJ7_setLength_0 : List UInt8 := dkwJ7_setLength_0 ++ []
theorem dksJ7_setLength_0 : cJ7_setLength.data.toList.drop 0 = dktJ7_setLength_0 := by decide +kernel
theorem dJ7_setLength_0 : decode cJ7_setLength 0 = .ok (.aload_n 0, 1) := dk_42 (dk_at dksJ7_setLength_0 0 rfl rfl)
theorem dJ7_setLength_1 : decode cJ7_setLength 1 = .ok (.iload_n 1, 1) := dk_27 (dk_at dksJ7_setLength_0 1 rfl rfl)
theorem dJ7_setLength_2 : decode cJ7_setLength 2 = .ok (.invokespecial 333, 3) := dk_183 1 77 (dk_at dksJ7_setLength_0 2 rfl rfl)
theorem dJ7_setLength_5 : decode cJ7_setLength 5 = .ok (.return_, 1) := dk_177 (dk_at dksJ7_setLength_0 5 rfl rfl)
abbrev cJ7_append : ByteArray := prog_43_method_7_code
def yJ7_append : MethodName := ⟨RJ7, "append", "(Ljava/lang/String;)Ljava/lang/StringBuilder;"⟩
def dkwJ7_append_0 : List UInt8 := [42, 43, 183, 0, 29, 87, 42, 176]
abbrev dktJ7_append_0 : List UInt8 := dkwJ7_append_0 ++ []
theorem dksJ7_append_0 : cJ7_append.data.toList.drop 0 = dktJ7_append_0 := by decide +kernel
theorem dJ7_append_0 : decode cJ7_append 0 = .ok (.aload_n 0, 1) := dk_42 (dk_at dksJ7_append_0 0 rfl rfl)
theorem dJ7_append_1 : decode cJ7_append 1 = .ok (.aload_n 1, 1) := dk_43 (dk_at dksJ7_append_0 1 rfl rfl)
theorem dJ7_append_2 : decode cJ7_append 2 = .ok (.invokespecial 29, 3) := dk_183 0 29 (dk_at dksJ7_append_0 2 rfl rfl)
theorem dJ7_append_5 : decode cJ7_append 5 = .ok (.pop, 1) := dk_87 (dk_at dksJ7_append_0 5 rfl rfl)
theorem dJ7_append_6 : decode cJ7_append 6 = .ok (.aload_n 0, 1) := dk_42 (dk_at dksJ7_append_0 6 rfl rfl)
theorem dJ7_append_7 : decode cJ7_append 7 = .ok (.areturn, 1) := dk_176 (dk_at dksJ7_append_0 7 rfl rfl)
abbrev cJ7_append_2 : ByteArray := prog_43_method_15_code
def yJ7_append_2 : MethodName := ⟨RJ7, "append", "(I)Ljava/lang/StringBuilder;"⟩
def dkwJ7_append_2_0 : List UInt8 := [42, 27, 183, 0, 53, 87, 42, 176]
abbrev dktJ7_append_2_0 : List UInt8 := dkwJ7_append_2_0 ++ []
theorem dksJ7_append_2_0 : cJ7_append_2.data.toList.drop 0 = dktJ7_append_2_0 := by decide +kernel
theorem dJ7_append_2_0 : decode cJ7_append_2 0 = .ok (.aload_n 0, 1) := dk_42 (dk_at dksJ7_append_2_0 0 rfl rfl)
theorem dJ7_append_2_1 : decode cJ7_append_2 1 = .ok (.iload_n 1, 1) := dk_27 (dk_at dksJ7_append_2_0 1 rfl rfl)
theorem dJ7_append_2_2 : decode cJ7_append_2 2 = .ok (.invokespecial 53, 3) := dk_183 0 53 (dk_at dksJ7_append_2_0 2 rfl rfl)
theorem dJ7_append_2_5 : decode cJ7_append_2 5 = .ok (.pop, 1) := dk_87 (dk_at dksJ7_append_2_0 5 rfl rfl)
theorem dJ7_append_2_6 : decode cJ7_append_2 6 = .ok (.aload_n 0, 1) := dk_42 (dk_at dksJ7_append_2_0 6 rfl rfl)
theorem dJ7_append_2_7 : decode cJ7_append_2 7 = .ok (.areturn, 1) := dk_176 (dk_at dksJ7_append_2_0 7 rfl rfl)
abbrev cJ7_toString : ByteArray := prog_43_method_42_code
def yJ7_toString : MethodName := ⟨RJ7, "toString", "()Ljava/lang/String;"⟩
def dkwJ7_toString_0 : List UInt8 := [187, 0, 18, 89, 42, 183, 0, 137, 176]
abbrev dktJ7_toString_0 : List UInt8 := dkwJ7_toString_0 ++ []
theorem dksJ7_toString_0 : cJ7_toString.data.toList.drop 0 = dktJ7_toString_0 := by decide +kernel
theorem dJ7_toString_0 : decode cJ7_toString 0 = .ok (.new 18, 3) := dk_187 0 18 (dk_at dksJ7_toString_0 0 rfl rfl)
theorem dJ7_toString_3 : decode cJ7_toString 3 = .ok (.dup, 1) := dk_89 (dk_at dksJ7_toString_0 3 rfl rfl)
theorem dJ7_toString_4 : decode cJ7_toString 4 = .ok (.aload_n 0, 1) := dk_42 (dk_at dksJ7_toString_0 4 rfl rfl)
theorem dJ7_toString_5 : decode cJ7_toString 5 = .ok (.invokespecial 137, 3) := dk_183 0 137 (dk_at dksJ7_toString_0 5 rfl rfl)
theorem dJ7_toString_8 : decode cJ7_toString 8 = .ok (.areturn, 1) := dk_176 (dk_at dksJ7_toString_0 8 rfl rfl)
abbrev cJ7_length : ByteArray := prog_43_method_93_code
def yJ7_length : MethodName := ⟨RJ7, "length", "()I"⟩
theorem dJ7_length_0 : decode cJ7_length 0 = .ok (.aload_n 0, 1) := by decide +kernel
theorem dJ7_length_1 : decode cJ7_length 1 = .ok (.invokespecial 343, 3) := by decide +kernel
theorem dJ7_length_4 : decode cJ7_length 4 = .ok (.ireturn, 1) := by decide +kernel
abbrev cJ7_append_3 : ByteArray := prog_43_method_14_code
def yJ7_append_3 : MethodName := ⟨RJ7, "append", "(C)Ljava/lang/StringBuilder;"⟩
def dkwJ7_append_3_0 : List UInt8 := [42, 27, 183, 0, 50, 87, 42, 176]
abbrev dktJ7_append_3_0 : List UInt8 := dkwJ7_append_3_0 ++ []
theorem dksJ7_append_3_0 : cJ7_append_3.data.toList.drop 0 = dktJ7_append_3_0 := by decide +kernel
theorem dJ7_append_3_0 : decode cJ7_append_3 0 = .ok (.aload_n 0, 1) := dk_42 (dk_at dksJ7_append_3_0 0 rfl rfl)
theorem dJ7_append_3_1 : decode cJ7_append_3 1 = .ok (.iload_n 1, 1) := dk_27 (dk_at dksJ7_append_3_0 1 rfl rfl)
theorem dJ7_append_3_2 : decode cJ7_append_3 2 = .ok (.invokespecial 50, 3) := dk_183 0 50 (dk_at dksJ7_append_3_0 2 rfl rfl)
theorem dJ7_append_3_5 : decode cJ7_append_3 5 = .ok (.pop, 1) := dk_87 (dk_at dksJ7_append_3_0 5 rfl rfl)
theorem dJ7_append_3_6 : decode cJ7_append_3 6 = .ok (.aload_n 0, 1) := dk_42 (dk_at dksJ7_append_3_0 6 rfl rfl)
theorem dJ7_append_3_7 : decode cJ7_append_3 7 = .ok (.areturn, 1) := dk_176 (dk_at dksJ7_append_3_0 7 rfl rfl)
theorem q183 : (Jvm.Cond.initialized "java/lang/StringBuilder") ∈ lw_all := lw_g (lw_at lw_m1 17 rfl) rfl
theorem q770 : (Jvm.Cond.instantiable "java/lang/StringBuilder" (4 : Nat)) ∈ lw_all := lw_g (lw_at lw_m3 124 rfl) rfl
theorem q772 : (Jvm.Cond.instanceMethod ({ cls := "java/lang/StringBuilder", name := "<init>", desc := "()V" } : Jvm.MethodName)) ∈ lw_all := lw_g (lw_at lw_m3 126 rfl) rfl
theorem q773 : (Jvm.Cond.code ({ cls := "java/lang/StringBuilder", name := "<init>", desc := "()V" } : Jvm.MethodName) prog_43_method_1_code (1 : Nat) (Option.none : Option Jvm.ClassFile.FieldType)) ∈ lw_all := lw_g (lw_at lw_m3 127 rfl) rfl
theorem q774 : (Jvm.Cond.methodLink "java/lang/StringBuilder" (1 : Nat) ({ cls := "java/lang/AbstractStringBuilder", name := "<init>", desc := "(I)V" } : Jvm.MethodName)) ∈ lw_all := lw_g (lw_at lw_m3 128 rfl) rfl
theorem q797 : (Jvm.Cond.lays "java/lang/StringBuilder" "java/lang/AbstractStringBuilder" "value" "[B") ∈ lw_all := lw_g (lw_at lw_m3 151 rfl) rfl
theorem q799 : (Jvm.Cond.lays "java/lang/StringBuilder" "java/lang/AbstractStringBuilder" "coder" "B") ∈ lw_all := lw_g (lw_at lw_m3 153 rfl) rfl
theorem q801 : (Jvm.Cond.lays "java/lang/StringBuilder" "java/lang/AbstractStringBuilder" "maybeLatin1" "Z") ∈ lw_all := lw_g (lw_at lw_m3 155 rfl) rfl
theorem q803 : (Jvm.Cond.lays "java/lang/StringBuilder" "java/lang/AbstractStringBuilder" "count" "I") ∈ lw_all := lw_g (lw_at lw_m3 157 rfl) rfl
theorem q805 : (Jvm.Cond.superclass "java/lang/StringBuilder" "java/lang/AbstractStringBuilder") ∈ lw_all := lw_g (lw_at lw_m3 159 rfl) rfl
theorem q939 : (Jvm.Cond.selects "java/lang/StringBuilder" ({ cls := "java/lang/Object", name := "hashCode", desc := "()I" } : Jvm.MethodName) ({ cls := "java/lang/Object", name := "hashCode", desc := "()I" } : Jvm.MethodName)) ∈ lw_all := lw_g (lw_at lw_m4 53 rfl) rfl
theorem q1033 : (Jvm.Cond.selects "java/lang/StringBuilder" ({ cls := "java/lang/Object", name := "getClass", desc := "()Ljava/lang/Class;" } : Jvm.MethodName) ({ cls := "java/lang/Object", name := "getClass", desc := "()Ljava/lang/Class;" } : Jvm.MethodName)) ∈ lw_all := lw_g (lw_at lw_m4 147 rfl) rfl
theorem q1215 : (Jvm.Cond.castable "java/lang/StringBuilder" "java/lang/Comparable") ∈ lw_tbl := lw_at lw_m5 89 rfl
theorem q1216 : (Jvm.Cond.selects "java/lang/StringBuilder" ({ cls := "java/lang/Comparable", name := "compareTo", desc := "(Ljava/lang/Object;)I" } : Jvm.MethodName) ({ cls := "java/lang/StringBuilder", name := "compareTo", desc := "(Ljava/lang/Object;)I" } : Jvm.MethodName)) ∈ lw_all := lw_g (lw_at lw_m5 90 rfl) rfl
theorem q1217 : (Jvm.Cond.unhidden "java/lang/StringBuilder" "compareTo" "(Ljava/lang/Object;)I") ∈ lw_tbl := lw_at lw_m5 91 rfl
theorem q1218 : (Jvm.Cond.instanceMethod ({ cls := "java/lang/StringBuilder", name := "compareTo", desc := "(Ljava/lang/Object;)I" } : Jvm.MethodName)) ∈ lw_all := lw_g (lw_at lw_m5 92 rfl) rfl
theorem q1219 : (Jvm.Cond.publicMethod ({ cls := "java/lang/StringBuilder", name := "compareTo", desc := "(Ljava/lang/Object;)I" } : Jvm.MethodName)) ∈ lw_tbl := lw_at lw_m5 93 rfl
theorem q1220 : (Jvm.Cond.code ({ cls := "java/lang/StringBuilder", name := "compareTo", desc := "(Ljava/lang/Object;)I" } : Jvm.MethodName) prog_43_method_97_code (2 : Nat) (Option.some Jvm.ClassFile.FieldType.int)) ∈ lw_all := lw_g (lw_at lw_m5 94 rfl) rfl
theorem q1221 : (Jvm.Cond.classLink "java/lang/StringBuilder" (24 : Nat) "java/lang/StringBuilder") ∈ lw_all := lw_g (lw_at lw_m5 95 rfl) rfl
theorem q1222 : (Jvm.Cond.methodLink "java/lang/StringBuilder" (346 : Nat) ({ cls := "java/lang/StringBuilder", name := "compareTo", desc := "(Ljava/lang/StringBuilder;)I" } : Jvm.MethodName)) ∈ lw_all := lw_g (lw_at lw_m5 96 rfl) rfl
theorem q1223 : (Jvm.Cond.instanceMethod ({ cls := "java/lang/StringBuilder", name := "compareTo", desc := "(Ljava/lang/StringBuilder;)I" } : Jvm.MethodName)) ∈ lw_all := lw_g (lw_at lw_m5 97 rfl) rfl
theorem q1224 : (Jvm.Cond.selects "java/lang/StringBuilder" ({ cls := "java/lang/StringBuilder", name := "compareTo", desc := "(Ljava/lang/StringBuilder;)I" } : Jvm.MethodName) ({ cls := "java/lang/StringBuilder", name := "compareTo", desc := "(Ljava/lang/StringBuilder;)I" } : Jvm.MethodName)) ∈ lw_all := lw_g (lw_at lw_m5 98 rfl) rfl
theorem q1225 : (Jvm.Cond.code ({ cls := "java/lang/StringBuilder", name := "compareTo", desc := "(Ljava/lang/StringBuilder;)I" } : Jvm.MethodName) prog_43_method_5_code (2 : Nat) (Option.some Jvm.ClassFile.FieldType.int)) ∈ lw_all := lw_g (lw_at lw_m5 99 rfl) rfl
theorem q1226 : (Jvm.Cond.methodLink "java/lang/StringBuilder" (13 : Nat) ({ cls := "java/lang/AbstractStringBuilder", name := "compareTo", desc := "(Ljava/lang/AbstractStringBuilder;)I" } : Jvm.MethodName)) ∈ lw_all := lw_g (lw_at lw_m5 100 rfl) rfl
theorem q1232 : (Jvm.Cond.selects "java/lang/StringBuilder" ({ cls := "java/lang/AbstractStringBuilder", name := "isLatin1", desc := "()Z" } : Jvm.MethodName) ({ cls := "java/lang/AbstractStringBuilder", name := "isLatin1", desc := "()Z" } : Jvm.MethodName)) ∈ lw_all := lw_g (lw_at lw_m5 106 rfl) rfl
theorem q1314 : (Jvm.Cond.selects "java/lang/StringBuilder" ({ cls := "java/lang/Object", name := "equals", desc := "(Ljava/lang/Object;)Z" } : Jvm.MethodName) ({ cls := "java/lang/Object", name := "equals", desc := "(Ljava/lang/Object;)Z" } : Jvm.MethodName)) ∈ lw_all := lw_g (lw_at lw_m5 188 rfl) rfl
theorem q1406 : (Jvm.Cond.instanceMethod ({ cls := "java/lang/StringBuilder", name := "setLength", desc := "(I)V" } : Jvm.MethodName)) ∈ lw_all := lw_g (lw_at lw_m6 40 rfl) rfl
theorem q1407 : (Jvm.Cond.selects "java/lang/StringBuilder" ({ cls := "java/lang/StringBuilder", name := "setLength", desc := "(I)V" } : Jvm.MethodName) ({ cls := "java/lang/StringBuilder", name := "setLength", desc := "(I)V" } : Jvm.MethodName)) ∈ lw_all := lw_g (lw_at lw_m6 41 rfl) rfl
theorem q1408 : (Jvm.Cond.code ({ cls := "java/lang/StringBuilder", name := "setLength", desc := "(I)V" } : Jvm.MethodName) prog_43_method_89_code (2 : Nat) (Option.none : Option Jvm.ClassFile.FieldType)) ∈ lw_all := lw_g (lw_at lw_m6 42 rfl) rfl
theorem q1409 : (Jvm.Cond.methodLink "java/lang/StringBuilder" (333 : Nat) ({ cls := "java/lang/AbstractStringBuilder", name := "setLength", desc := "(I)V" } : Jvm.MethodName)) ∈ lw_all := lw_g (lw_at lw_m6 43 rfl) rfl
theorem q1421 : (Jvm.Cond.instanceMethod ({ cls := "java/lang/StringBuilder", name := "append", desc := "(Ljava/lang/String;)Ljava/lang/StringBuilder;" } : Jvm.MethodName)) ∈ lw_all := lw_g (lw_at lw_m6 55 rfl) rfl
theorem q1422 : (Jvm.Cond.selects "java/lang/StringBuilder" ({ cls := "java/lang/StringBuilder", name := "append", desc := "(Ljava/lang/String;)Ljava/lang/StringBuilder;" } : Jvm.MethodName) ({ cls := "java/lang/StringBuilder", name := "append", desc := "(Ljava/lang/String;)Ljava/lang/StringBuilder;" } : Jvm.MethodName)) ∈ lw_all := lw_g (lw_at lw_m6 56 rfl) rfl
theorem q1423 : (Jvm.Cond.code ({ cls := "java/lang/StringBuilder", name := "append", desc := "(Ljava/lang/String;)Ljava/lang/StringBuilder;" } : Jvm.MethodName) prog_43_method_7_code (2 : Nat) (Option.some (Jvm.ClassFile.FieldType.object "java/lang/StringBuilder"))) ∈ lw_all := lw_g (lw_at lw_m6 57 rfl) rfl
theorem q1424 : (Jvm.Cond.methodLink "java/lang/StringBuilder" (29 : Nat) ({ cls := "java/lang/AbstractStringBuilder", name := "append", desc := "(Ljava/lang/String;)Ljava/lang/AbstractStringBuilder;" } : Jvm.MethodName)) ∈ lw_all := lw_g (lw_at lw_m6 58 rfl) rfl
theorem q1511 : (Jvm.Cond.instanceMethod ({ cls := "java/lang/StringBuilder", name := "append", desc := "(I)Ljava/lang/StringBuilder;" } : Jvm.MethodName)) ∈ lw_all := lw_g (lw_at lw_m6 145 rfl) rfl
theorem q1512 : (Jvm.Cond.selects "java/lang/StringBuilder" ({ cls := "java/lang/StringBuilder", name := "append", desc := "(I)Ljava/lang/StringBuilder;" } : Jvm.MethodName) ({ cls := "java/lang/StringBuilder", name := "append", desc := "(I)Ljava/lang/StringBuilder;" } : Jvm.MethodName)) ∈ lw_all := lw_g (lw_at lw_m6 146 rfl) rfl
theorem q1513 : (Jvm.Cond.code ({ cls := "java/lang/StringBuilder", name := "append", desc := "(I)Ljava/lang/StringBuilder;" } : Jvm.MethodName) prog_43_method_15_code (2 : Nat) (Option.some (Jvm.ClassFile.FieldType.object "java/lang/StringBuilder"))) ∈ lw_all := lw_g (lw_at lw_m6 147 rfl) rfl
theorem q1514 : (Jvm.Cond.methodLink "java/lang/StringBuilder" (53 : Nat) ({ cls := "java/lang/AbstractStringBuilder", name := "append", desc := "(I)Ljava/lang/AbstractStringBuilder;" } : Jvm.MethodName)) ∈ lw_all := lw_g (lw_at lw_m6 148 rfl) rfl
theorem q1536 : (Jvm.Cond.instanceMethod ({ cls := "java/lang/StringBuilder", name := "toString", desc := "()Ljava/lang/String;" } : Jvm.MethodName)) ∈ lw_all := lw_g (lw_at lw_m6 170 rfl) rfl
theorem q1537 : (Jvm.Cond.selects "java/lang/StringBuilder" ({ cls := "java/lang/StringBuilder", name := "toString", desc := "()Ljava/lang/String;" } : Jvm.MethodName) ({ cls := "java/lang/StringBuilder", name := "toString", desc := "()Ljava/lang/String;" } : Jvm.MethodName)) ∈ lw_all := lw_g (lw_at lw_m6 171 rfl) rfl
theorem q1538 : (Jvm.Cond.code ({ cls := "java/lang/StringBuilder", name := "toString", desc := "()Ljava/lang/String;" } : Jvm.MethodName) prog_43_method_42_code (1 : Nat) (Option.some (Jvm.ClassFile.FieldType.object "java/lang/String"))) ∈ lw_all := lw_g (lw_at lw_m6 172 rfl) rfl
theorem q1539 : (Jvm.Cond.classLink "java/lang/StringBuilder" (18 : Nat) "java/lang/String") ∈ lw_all := lw_g (lw_at lw_m6 173 rfl) rfl
theorem q1540 : (Jvm.Cond.methodLink "java/lang/StringBuilder" (137 : Nat) ({ cls := "java/lang/String", name := "<init>", desc := "(Ljava/lang/StringBuilder;)V" } : Jvm.MethodName)) ∈ lw_all := lw_g (lw_at lw_m6 174 rfl) rfl
theorem q1550 : (Jvm.Cond.selects "java/lang/StringBuilder" ({ cls := "java/lang/AbstractStringBuilder", name := "getValue", desc := "()[B" } : Jvm.MethodName) ({ cls := "java/lang/AbstractStringBuilder", name := "getValue", desc := "()[B" } : Jvm.MethodName)) ∈ lw_all := lw_g (lw_at lw_m6 184 rfl) rfl
theorem q1555 : (Jvm.Cond.selects "java/lang/StringBuilder" ({ cls := "java/lang/AbstractStringBuilder", name := "length", desc := "()I" } : Jvm.MethodName) ({ cls := "java/lang/StringBuilder", name := "length", desc := "()I" } : Jvm.MethodName)) ∈ lw_all := lw_g (lw_at lw_m6 189 rfl) rfl
theorem q1556 : (Jvm.Cond.instanceMethod ({ cls := "java/lang/StringBuilder", name := "length", desc := "()I" } : Jvm.MethodName)) ∈ lw_all := lw_g (lw_at lw_m6 190 rfl) rfl
theorem q1557 : (Jvm.Cond.code ({ cls := "java/lang/StringBuilder", name := "length", desc := "()I" } : Jvm.MethodName) prog_43_method_93_code (1 : Nat) (Option.some Jvm.ClassFile.FieldType.int)) ∈ lw_all := lw_g (lw_at lw_m6 191 rfl) rfl
theorem q1558 : (Jvm.Cond.methodLink "java/lang/StringBuilder" (343 : Nat) ({ cls := "java/lang/AbstractStringBuilder", name := "length", desc := "()I" } : Jvm.MethodName)) ∈ lw_all := lw_g (lw_at lw_m6 192 rfl) rfl
theorem q1621 : (Jvm.Cond.instanceMethod ({ cls := "java/lang/StringBuilder", name := "append", desc := "(C)Ljava/lang/StringBuilder;" } : Jvm.MethodName)) ∈ lw_all := lw_g (lw_at lw_m7 15 rfl) rfl
theorem q1622 : (Jvm.Cond.selects "java/lang/StringBuilder" ({ cls := "java/lang/StringBuilder", name := "append", desc := "(C)Ljava/lang/StringBuilder;" } : Jvm.MethodName) ({ cls := "java/lang/StringBuilder", name := "append", desc := "(C)Ljava/lang/StringBuilder;" } : Jvm.MethodName)) ∈ lw_all := lw_g (lw_at lw_m7 16 rfl) rfl
theorem q1623 : (Jvm.Cond.code ({ cls := "java/lang/StringBuilder", name := "append", desc := "(C)Ljava/lang/StringBuilder;" } : Jvm.MethodName) prog_43_method_14_code (2 : Nat) (Option.some (Jvm.ClassFile.FieldType.object "java/lang/StringBuilder"))) ∈ lw_all := lw_g (lw_at lw_m7 17 rfl) rfl
theorem q1624 : (Jvm.Cond.methodLink "java/lang/StringBuilder" (50 : Nat) ({ cls := "java/lang/AbstractStringBuilder", name := "append", desc := "(C)Ljava/lang/AbstractStringBuilder;" } : Jvm.MethodName)) ∈ lw_all := lw_g (lw_at lw_m7 18 rfl) rfl
theorem q3529 : (Jvm.Cond.castable "java/lang/StringBuilder" "java/lang/Object") ∈ lw_tbl := lw_at lw_m15 3 rfl
theorem in_J7 : ∀ w ∈ wsJ70, w ∈ lw_all := lw_in wsJ70 [797, 799, 801, 803] (by decide +kernel) (by decide +kernel)
/-! java/lang/String -/
set_option maxRecDepth 100000
def RJ8 : String := "java/lang/String"
def TJ8 : u_T := fun k => match k with
  | 0 => ("java/lang/String", "value", "[B", true)
  | 1 => ("java/lang/String", "coder", "B", true)
  | 2 => ("java/lang/String", "hash", "I", false)
  | _ => ("java/lang/String", "hashIsZero", "Z", false)
def tyJ8 : Nat → FieldType := fun k => match k with
  | 0 => .array .byte
  | 1 => .byte
  | 2 => .int
  | _ => .boolean
abbrev wsJ80 : List Cond := u_ws RJ8 TJ8 4
theorem nmJ8 : ∀ a, a < 4 → ∀ b, b < 4 → a ≠ b → (TJ8 a).2.1 ≠ (TJ8 b).2.1 := by decide +kernel
theorem tyJ8_ok : ∀ k, k < 4 → parseFieldDescriptor (TJ8 k).2.2.1 = some (tyJ8 k) := by decide +kernel
abbrev cJ8_hashCode : ByteArray := prog_42_method_78_code
def yJ8_hashCode : MethodName := ⟨RJ8, "hashCode", "()I"⟩
def dkwJ8_hashCode_2 : List UInt8 := [181, 0, 23, 167, 0, 8, 42, 27, 181, 0, 19, 27, 172]
abbrev dktJ8_hashCode_2 : List UInt8 := dkwJ8_hashCode_2 ++ []
def dkwJ8_hashCode_1 : List UInt8 := [180, 0, 9, 184, 2, 116, 167, 0, 10, 42, 180, 0, 9, 184, 2, 120, 60, 27, 154, 0, 11, 42, 4]
abbrev dktJ8_hashCode_1 : List UInt8 := dkwJ8_hashCode_1 ++ dktJ8_hashCode_2
def dkwJ8_hashCode_0 : List UInt8 := [42, 180, 0, 19, 60, 27, 154, 0, 52, 42, 180, 0, 23, 154, 0, 45, 42, 182, 1, 236, 153, 0, 13, 42]
abbrev dktJ8_hashCode_0 : List UInt8 := dkwJ8_hashCode_0 ++ dktJ8_hashCode_1
theorem dksJ8_hashCode_0 : cJ8_hashCode.data.toList.drop 0 = dktJ8_hashCode_0 := by decide +kernel
theorem dksJ8_hashCode_1 : cJ8_hashCode.data.toList.drop 24 = dktJ8_hashCode_1 := dk_seg dksJ8_hashCode_0 24 rfl rfl
theorem dksJ8_hashCode_2 : cJ8_hashCode.data.toList.drop 47 = dktJ8_hashCode_2 := dk_seg dksJ8_hashCode_1 23 rfl rfl
theorem dJ8_hashCode_0 : decode cJ8_hashCode 0 = .ok (.aload_n 0, 1) := dk_42 (dk_at dksJ8_hashCode_0 0 rfl rfl)
theorem dJ8_hashCode_1 : decode cJ8_hashCode 1 = .ok (.getfield 19, 3) := dk_180 0 19 (dk_at dksJ8_hashCode_0 1 rfl rfl)
theorem dJ8_hashCode_4 : decode cJ8_hashCode 4 = .ok (.istore_n 1, 1) := dk_60 (dk_at dksJ8_hashCode_0 4 rfl rfl)
theorem dJ8_hashCode_5 : decode cJ8_hashCode 5 = .ok (.iload_n 1, 1) := dk_27 (dk_at dksJ8_hashCode_0 5 rfl rfl)
theorem dJ8_hashCode_6 : decode cJ8_hashCode 6 = .ok (.ifCond .ne 52, 3) := dk_154 0 52 (dk_at dksJ8_hashCode_0 6 rfl rfl)
theorem dJ8_hashCode_9 : decode cJ8_hashCode 9 = .ok (.aload_n 0, 1) := dk_42 (dk_at dksJ8_hashCode_0 9 rfl rfl)
theorem dJ8_hashCode_10 : decode cJ8_hashCode 10 = .ok (.getfield 23, 3) := dk_180 0 23 (dk_at dksJ8_hashCode_0 10 rfl rfl)
theorem dJ8_hashCode_13 : decode cJ8_hashCode 13 = .ok (.ifCond .ne 45, 3) := dk_154 0 45 (dk_at dksJ8_hashCode_0 13 rfl rfl)
theorem dJ8_hashCode_16 : decode cJ8_hashCode 16 = .ok (.aload_n 0, 1) := dk_42 (dk_at dksJ8_hashCode_0 16 rfl rfl)
theorem dJ8_hashCode_17 : decode cJ8_hashCode 17 = .ok (.invokevirtual 492, 3) := dk_182 1 236 (dk_at dksJ8_hashCode_0 17 rfl rfl)
theorem dJ8_hashCode_20 : decode cJ8_hashCode 20 = .ok (.ifCond .eq 13, 3) := dk_153 0 13 (dk_at dksJ8_hashCode_0 20 rfl rfl)
theorem dJ8_hashCode_23 : decode cJ8_hashCode 23 = .ok (.aload_n 0, 1) := dk_42 (dk_at dksJ8_hashCode_0 23 rfl rfl)
theorem dJ8_hashCode_24 : decode cJ8_hashCode 24 = .ok (.getfield 9, 3) := dk_180 0 9 (dk_at dksJ8_hashCode_1 0 rfl rfl)
theorem dJ8_hashCode_27 : decode cJ8_hashCode 27 = .ok (.invokestatic 628, 3) := dk_184 2 116 (dk_at dksJ8_hashCode_1 3 rfl rfl)
theorem dJ8_hashCode_30 : decode cJ8_hashCode 30 = .ok (.goto 10, 3) := dk_167 0 10 (dk_at dksJ8_hashCode_1 6 rfl rfl)
theorem dJ8_hashCode_33 : decode cJ8_hashCode 33 = .ok (.aload_n 0, 1) := dk_42 (dk_at dksJ8_hashCode_1 9 rfl rfl)
theorem dJ8_hashCode_34 : decode cJ8_hashCode 34 = .ok (.getfield 9, 3) := dk_180 0 9 (dk_at dksJ8_hashCode_1 10 rfl rfl)
theorem dJ8_hashCode_37 : decode cJ8_hashCode 37 = .ok (.invokestatic 632, 3) := dk_184 2 120 (dk_at dksJ8_hashCode_1 13 rfl rfl)
theorem dJ8_hashCode_40 : decode cJ8_hashCode 40 = .ok (.istore_n 1, 1) := dk_60 (dk_at dksJ8_hashCode_1 16 rfl rfl)
theorem dJ8_hashCode_41 : decode cJ8_hashCode 41 = .ok (.iload_n 1, 1) := dk_27 (dk_at dksJ8_hashCode_1 17 rfl rfl)
theorem dJ8_hashCode_42 : decode cJ8_hashCode 42 = .ok (.ifCond .ne 11, 3) := dk_154 0 11 (dk_at dksJ8_hashCode_1 18 rfl rfl)
theorem dJ8_hashCode_45 : decode cJ8_hashCode 45 = .ok (.aload_n 0, 1) := dk_42 (dk_at dksJ8_hashCode_1 21 rfl rfl)
theorem dJ8_hashCode_46 : decode cJ8_hashCode 46 = .ok (.iconst 1, 1) := dk_4 (dk_at dksJ8_hashCode_1 22 rfl rfl)
theorem dJ8_hashCode_47 : decode cJ8_hashCode 47 = .ok (.putfield 23, 3) := dk_181 0 23 (dk_at dksJ8_hashCode_2 0 rfl rfl)
theorem dJ8_hashCode_50 : decode cJ8_hashCode 50 = .ok (.goto 8, 3) := dk_167 0 8 (dk_at dksJ8_hashCode_2 3 rfl rfl)
theorem dJ8_hashCode_53 : decode cJ8_hashCode 53 = .ok (.aload_n 0, 1) := dk_42 (dk_at dksJ8_hashCode_2 6 rfl rfl)
theorem dJ8_hashCode_54 : decode cJ8_hashCode 54 = .ok (.iload_n 1, 1) := dk_27 (dk_at dksJ8_hashCode_2 7 rfl rfl)
theorem dJ8_hashCode_55 : decode cJ8_hashCode 55 = .ok (.putfield 19, 3) := dk_181 0 19 (dk_at dksJ8_hashCode_2 8 rfl rfl)
theorem dJ8_hashCode_58 : decode cJ8_hashCode 58 = .ok (.iload_n 1, 1) := dk_27 (dk_at dksJ8_hashCode_2 11 rfl rfl)
theorem dJ8_hashCode_59 : decode cJ8_hashCode 59 = .ok (.ireturn, 1) := dk_172 (dk_at dksJ8_hashCode_2 12 rfl rfl)
abbrev cJ8_isLatin1 : ByteArray := prog_42_method_154_code
def yJ8_isLatin1 : MethodName := ⟨RJ8, "isLatin1", "()Z"⟩
def dkwJ8_isLatin1_0 : List UInt8 := [178, 0, 38, 153, 0, 14, 42, 180, 0, 15, 154, 0, 7, 4, 167, 0, 4, 3, 172]
abbrev dktJ8_isLatin1_0 : List UInt8 := dkwJ8_isLatin1_0 ++ []
theorem dksJ8_isLatin1_0 : cJ8_isLatin1.data.toList.drop 0 = dktJ8_isLatin1_0 := by decide +kernel
theorem dJ8_isLatin1_0 : decode cJ8_isLatin1 0 = .ok (.getstatic 38, 3) := dk_178 0 38 (dk_at dksJ8_isLatin1_0 0 rfl rfl)
theorem dJ8_isLatin1_3 : decode cJ8_isLatin1 3 = .ok (.ifCond .eq 14, 3) := dk_153 0 14 (dk_at dksJ8_isLatin1_0 3 rfl rfl)
theorem dJ8_isLatin1_6 : decode cJ8_isLatin1 6 = .ok (.aload_n 0, 1) := dk_42 (dk_at dksJ8_isLatin1_0 6 rfl rfl)
theorem dJ8_isLatin1_7 : decode cJ8_isLatin1 7 = .ok (.getfield 15, 3) := dk_180 0 15 (dk_at dksJ8_isLatin1_0 7 rfl rfl)
theorem dJ8_isLatin1_10 : decode cJ8_isLatin1 10 = .ok (.ifCond .ne 7, 3) := dk_154 0 7 (dk_at dksJ8_isLatin1_0 10 rfl rfl)
theorem dJ8_isLatin1_13 : decode cJ8_isLatin1 13 = .ok (.iconst 1, 1) := dk_4 (dk_at dksJ8_isLatin1_0 13 rfl rfl)
theorem dJ8_isLatin1_14 : decode cJ8_isLatin1 14 = .ok (.goto 4, 3) := dk_167 0 4 (dk_at dksJ8_isLatin1_0 14 rfl rfl)
theorem dJ8_isLatin1_17 : decode cJ8_isLatin1 17 = .ok (.iconst 0, 1) := dk_3 (dk_at dksJ8_isLatin1_0 17 rfl rfl)
theorem dJ8_isLatin1_18 : decode cJ8_isLatin1 18 = .ok (.ireturn, 1) := dk_172 (dk_at dksJ8_isLatin1_0 18 rfl rfl)
abbrev cJ8_compareTo : ByteArray := prog_42_method_162_code
def yJ8_compareTo : MethodName := ⟨RJ8, "compareTo", "(Ljava/lang/Object;)I"⟩
def dkwJ8_compareTo_0 : List UInt8 := [42, 43, 192, 0, 10, 182, 4, 60, 172]
abbrev dktJ8_compareTo_0 : List UInt8 := dkwJ8_compareTo_0 ++ []
theorem dksJ8_compareTo_0 : cJ8_compareTo.data.toList.drop 0 = dktJ8_compareTo_0 := by decide +kernel
theorem dJ8_compareTo_0 : decode cJ8_compareTo 0 = .ok (.aload_n 0, 1) := dk_42 (dk_at dksJ8_compareTo_0 0 rfl rfl)
theorem dJ8_compareTo_1 : decode cJ8_compareTo 1 = .ok (.aload_n 1, 1) := dk_43 (dk_at dksJ8_compareTo_0 1 rfl rfl)
theorem dJ8_compareTo_2 : decode cJ8_compareTo 2 = .ok (.checkcast 10, 3) := dk_192 0 10 (dk_at dksJ8_compareTo_0 2 rfl rfl)
theorem dJ8_compareTo_5 : decode cJ8_compareTo 5 = .ok (.invokevirtual 1084, 3) := dk_182 4 60 (dk_at dksJ8_compareTo_0 5 rfl rfl)
theorem dJ8_compareTo_8 : decode cJ8_compareTo 8 = .ok (.ireturn, 1) := dk_172 (dk_at dksJ8_compareTo_0 8 rfl rfl)
abbrev cJ8_compareTo_2 : ByteArray := prog_42_method_71_code
def yJ8_compareTo_2 : MethodName := ⟨RJ8, "compareTo", "(Ljava/lang/String;)I"⟩
def dkwJ8_compareTo_2_2 : List UInt8 := [154, 0, 11, 44, 45, 184, 2, 79, 167, 0, 8, 44, 45, 184, 2, 82, 172]
abbrev dktJ8_compareTo_2_2 : List UInt8 := dkwJ8_compareTo_2_2 ++ []
def dkwJ8_compareTo_2_1 : List UInt8 := [160, 0, 22, 21, 4, 154, 0, 11, 44, 45, 184, 2, 74, 167, 0, 8, 44, 45, 184, 2, 78, 172, 21, 4]
abbrev dktJ8_compareTo_2_1 : List UInt8 := dkwJ8_compareTo_2_1 ++ dktJ8_compareTo_2_2
def dkwJ8_compareTo_2_0 : List UInt8 := [42, 180, 0, 9, 77, 43, 180, 0, 9, 78, 42, 182, 1, 79, 54, 4, 21, 4, 43, 182, 1, 79]
abbrev dktJ8_compareTo_2_0 : List UInt8 := dkwJ8_compareTo_2_0 ++ dktJ8_compareTo_2_1
theorem dksJ8_compareTo_2_0 : cJ8_compareTo_2.data.toList.drop 0 = dktJ8_compareTo_2_0 := by decide +kernel
theorem dksJ8_compareTo_2_1 : cJ8_compareTo_2.data.toList.drop 22 = dktJ8_compareTo_2_1 := dk_seg dksJ8_compareTo_2_0 22 rfl rfl
theorem dksJ8_compareTo_2_2 : cJ8_compareTo_2.data.toList.drop 46 = dktJ8_compareTo_2_2 := dk_seg dksJ8_compareTo_2_1 24 rfl rfl
theorem dJ8_compareTo_2_0 : decode cJ8_compareTo_2 0 = .ok (.aload_n 0, 1) := dk_42 (dk_at dksJ8_compareTo_2_0 0 rfl rfl)
theorem dJ8_compareTo_2_1 : decode cJ8_compareTo_2 1 = .ok (.getfield 9, 3) := dk_180 0 9 (dk_at dksJ8_compareTo_2_0 1 rfl rfl)
theorem dJ8_compareTo_2_4 : decode cJ8_compareTo_2 4 = .ok (.astore_n 2, 1) := dk_77 (dk_at dksJ8_compareTo_2_0 4 rfl rfl)
theorem dJ8_compareTo_2_5 : decode cJ8_compareTo_2 5 = .ok (.aload_n 1, 1) := dk_43 (dk_at dksJ8_compareTo_2_0 5 rfl rfl)
theorem dJ8_compareTo_2_6 : decode cJ8_compareTo_2 6 = .ok (.getfield 9, 3) := dk_180 0 9 (dk_at dksJ8_compareTo_2_0 6 rfl rfl)
theorem dJ8_compareTo_2_9 : decode cJ8_compareTo_2 9 = .ok (.astore_n 3, 1) := dk_78 (dk_at dksJ8_compareTo_2_0 9 rfl rfl)
theorem dJ8_compareTo_2_10 : decode cJ8_compareTo_2 10 = .ok (.aload_n 0, 1) := dk_42 (dk_at dksJ8_compareTo_2_0 10 rfl rfl)
theorem dJ8_compareTo_2_11 : decode cJ8_compareTo_2 11 = .ok (.invokevirtual 335, 3) := dk_182 1 79 (dk_at dksJ8_compareTo_2_0 11 rfl rfl)
theorem dJ8_compareTo_2_14 : decode cJ8_compareTo_2 14 = .ok (.istore 4, 2) := dk_54 4 (dk_at dksJ8_compareTo_2_0 14 rfl rfl)
theorem dJ8_compareTo_2_16 : decode cJ8_compareTo_2 16 = .ok (.iload 4, 2) := dk_21 4 (dk_at dksJ8_compareTo_2_0 16 rfl rfl)
theorem dJ8_compareTo_2_18 : decode cJ8_compareTo_2 18 = .ok (.aload_n 1, 1) := dk_43 (dk_at dksJ8_compareTo_2_0 18 rfl rfl)
theorem dJ8_compareTo_2_19 : decode cJ8_compareTo_2 19 = .ok (.invokevirtual 335, 3) := dk_182 1 79 (dk_at dksJ8_compareTo_2_0 19 rfl rfl)
theorem dJ8_compareTo_2_22 : decode cJ8_compareTo_2 22 = .ok (.if_icmp .ne 22, 3) := dk_160 0 22 (dk_at dksJ8_compareTo_2_1 0 rfl rfl)
theorem dJ8_compareTo_2_25 : decode cJ8_compareTo_2 25 = .ok (.iload 4, 2) := dk_21 4 (dk_at dksJ8_compareTo_2_1 3 rfl rfl)
theorem dJ8_compareTo_2_27 : decode cJ8_compareTo_2 27 = .ok (.ifCond .ne 11, 3) := dk_154 0 11 (dk_at dksJ8_compareTo_2_1 5 rfl rfl)
theorem dJ8_compareTo_2_30 : decode cJ8_compareTo_2 30 = .ok (.aload_n 2, 1) := dk_44 (dk_at dksJ8_compareTo_2_1 8 rfl rfl)
theorem dJ8_compareTo_2_31 : decode cJ8_compareTo_2 31 = .ok (.aload_n 3, 1) := dk_45 (dk_at dksJ8_compareTo_2_1 9 rfl rfl)
theorem dJ8_compareTo_2_32 : decode cJ8_compareTo_2 32 = .ok (.invokestatic 586, 3) := dk_184 2 74 (dk_at dksJ8_compareTo_2_1 10 rfl rfl)
theorem dJ8_compareTo_2_35 : decode cJ8_compareTo_2 35 = .ok (.goto 8, 3) := dk_167 0 8 (dk_at dksJ8_compareTo_2_1 13 rfl rfl)
theorem dJ8_compareTo_2_38 : decode cJ8_compareTo_2 38 = .ok (.aload_n 2, 1) := dk_44 (dk_at dksJ8_compareTo_2_1 16 rfl rfl)
theorem dJ8_compareTo_2_39 : decode cJ8_compareTo_2 39 = .ok (.aload_n 3, 1) := dk_45 (dk_at dksJ8_compareTo_2_1 17 rfl rfl)
theorem dJ8_compareTo_2_40 : decode cJ8_compareTo_2 40 = .ok (.invokestatic 590, 3) := dk_184 2 78 (dk_at dksJ8_compareTo_2_1 18 rfl rfl)
theorem dJ8_compareTo_2_43 : decode cJ8_compareTo_2 43 = .ok (.ireturn, 1) := dk_172 (dk_at dksJ8_compareTo_2_1 21 rfl rfl)
theorem dJ8_compareTo_2_44 : decode cJ8_compareTo_2 44 = .ok (.iload 4, 2) := dk_21 4 (dk_at dksJ8_compareTo_2_1 22 rfl rfl)
theorem dJ8_compareTo_2_46 : decode cJ8_compareTo_2 46 = .ok (.ifCond .ne 11, 3) := dk_154 0 11 (dk_at dksJ8_compareTo_2_2 0 rfl rfl)
theorem dJ8_compareTo_2_49 : decode cJ8_compareTo_2 49 = .ok (.aload_n 2, 1) := dk_44 (dk_at dksJ8_compareTo_2_2 3 rfl rfl)
theorem dJ8_compareTo_2_50 : decode cJ8_compareTo_2 50 = .ok (.aload_n 3, 1) := dk_45 (dk_at dksJ8_compareTo_2_2 4 rfl rfl)
theorem dJ8_compareTo_2_51 : decode cJ8_compareTo_2 51 = .ok (.invokestatic 591, 3) := dk_184 2 79 (dk_at dksJ8_compareTo_2_2 5 rfl rfl)
theorem dJ8_compareTo_2_54 : decode cJ8_compareTo_2 54 = .ok (.goto 8, 3) := dk_167 0 8 (dk_at dksJ8_compareTo_2_2 8 rfl rfl)
theorem dJ8_compareTo_2_57 : decode cJ8_compareTo_2 57 = .ok (.aload_n 2, 1) := dk_44 (dk_at dksJ8_compareTo_2_2 11 rfl rfl)
theorem dJ8_compareTo_2_58 : decode cJ8_compareTo_2 58 = .ok (.aload_n 3, 1) := dk_45 (dk_at dksJ8_compareTo_2_2 12 rfl rfl)
theorem dJ8_compareTo_2_59 : decode cJ8_compareTo_2 59 = .ok (.invokestatic 594, 3) := dk_184 2 82 (dk_at dksJ8_compareTo_2_2 13 rfl rfl)
theorem dJ8_compareTo_2_62 : decode cJ8_compareTo_2 62 = .ok (.ireturn, 1) := dk_172 (dk_at dksJ8_compareTo_2_2 16 rfl rfl)
abbrev cJ8_coder : ByteArray := prog_42_method_152_code
def yJ8_coder : MethodName := ⟨RJ8, "coder", "()B"⟩
def dkwJ8_coder_0 : List UInt8 := [178, 0, 38, 153, 0, 10, 42, 180, 0, 15, 167, 0, 4, 4, 172]
abbrev dktJ8_coder_0 : List UInt8 := dkwJ8_coder_0 ++ []
theorem dksJ8_coder_0 : cJ8_coder.data.toList.drop 0 = dktJ8_coder_0 := by decide +kernel
theorem dJ8_coder_0 : decode cJ8_coder 0 = .ok (.getstatic 38, 3) := dk_178 0 38 (dk_at dksJ8_coder_0 0 rfl rfl)
theorem dJ8_coder_3 : decode cJ8_coder 3 = .ok (.ifCond .eq 10, 3) := dk_153 0 10 (dk_at dksJ8_coder_0 3 rfl rfl)
theorem dJ8_coder_6 : decode cJ8_coder 6 = .ok (.aload_n 0, 1) := dk_42 (dk_at dksJ8_coder_0 6 rfl rfl)
theorem dJ8_coder_7 : decode cJ8_coder 7 = .ok (.getfield 15, 3) := dk_180 0 15 (dk_at dksJ8_coder_0 7 rfl rfl)
theorem dJ8_coder_10 : decode cJ8_coder 10 = .ok (.goto 4, 3) := dk_167 0 4 (dk_at dksJ8_coder_0 10 rfl rfl)
theorem dJ8_coder_13 : decode cJ8_coder 13 = .ok (.iconst 1, 1) := dk_4 (dk_at dksJ8_coder_0 13 rfl rfl)
theorem dJ8_coder_14 : decode cJ8_coder 14 = .ok (.ireturn, 1) := dk_172 (dk_at dksJ8_coder_0 14 rfl rfl)
abbrev cJ8_checkOffset : ByteArray := prog_42_method_156_code
def yJ8_checkOffset : MethodName := ⟨RJ8, "checkOffset", "(II)V"⟩
def dkwJ8_checkOffset_0 : List UInt8 := [26, 27, 27, 178, 4, 29, 184, 4, 38, 87, 177]
abbrev dktJ8_checkOffset_0 : List UInt8 := dkwJ8_checkOffset_0 ++ []
theorem dksJ8_checkOffset_0 : cJ8_checkOffset.data.toList.drop 0 = dktJ8_checkOffset_0 := by decide +kernel
theorem dJ8_checkOffset_0 : decode cJ8_checkOffset 0 = .ok (.iload_n 0, 1) := dk_26 (dk_at dksJ8_checkOffset_0 0 rfl rfl)
theorem dJ8_checkOffset_1 : decode cJ8_checkOffset 1 = .ok (.iload_n 1, 1) := dk_27 (dk_at dksJ8_checkOffset_0 1 rfl rfl)
theorem dJ8_checkOffset_2 : decode cJ8_checkOffset 2 = .ok (.iload_n 1, 1) := dk_27 (dk_at dksJ8_checkOffset_0 2 rfl rfl)
theorem dJ8_checkOffset_3 : decode cJ8_checkOffset 3 = .ok (.getstatic 1053, 3) := dk_178 4 29 (dk_at dksJ8_checkOffset_0 3 rfl rfl)
theorem dJ8_checkOffset_6 : decode cJ8_checkOffset 6 = .ok (.invokestatic 1062, 3) := dk_184 4 38 (dk_at dksJ8_checkOffset_0 6 rfl rfl)
theorem dJ8_checkOffset_9 : decode cJ8_checkOffset 9 = .ok (.pop, 1) := dk_87 (dk_at dksJ8_checkOffset_0 9 rfl rfl)
theorem dJ8_checkOffset_10 : decode cJ8_checkOffset 10 = .ok (.return_, 1) := dk_177 (dk_at dksJ8_checkOffset_0 10 rfl rfl)
abbrev cJ8_equals : ByteArray := prog_42_method_66_code
def yJ8_equals : MethodName := ⟨RJ8, "equals", "(Ljava/lang/Object;)Z"⟩
def dkwJ8_equals_2 : List UInt8 := [184, 2, 29, 153, 0, 7, 4, 167, 0, 4, 3, 172]
abbrev dktJ8_equals_2 : List UInt8 := dkwJ8_equals_2 ++ []
def dkwJ8_equals_1 : List UInt8 := [153, 0, 14, 42, 180, 0, 15, 44, 180, 0, 15, 160, 0, 21, 42, 180, 0, 9, 44, 180, 0, 9]
abbrev dktJ8_equals_1 : List UInt8 := dkwJ8_equals_1 ++ dktJ8_equals_2
def dkwJ8_equals_0 : List UInt8 := [42, 43, 166, 0, 5, 4, 172, 43, 193, 0, 10, 153, 0, 43, 43, 192, 0, 10, 77, 178, 0, 38]
abbrev dktJ8_equals_0 : List UInt8 := dkwJ8_equals_0 ++ dktJ8_equals_1
theorem dksJ8_equals_0 : cJ8_equals.data.toList.drop 0 = dktJ8_equals_0 := by decide +kernel
theorem dksJ8_equals_1 : cJ8_equals.data.toList.drop 22 = dktJ8_equals_1 := dk_seg dksJ8_equals_0 22 rfl rfl
theorem dksJ8_equals_2 : cJ8_equals.data.toList.drop 44 = dktJ8_equals_2 := dk_seg dksJ8_equals_1 22 rfl rfl
theorem dJ8_equals_0 : decode cJ8_equals 0 = .ok (.aload_n 0, 1) := dk_42 (dk_at dksJ8_equals_0 0 rfl rfl)
theorem dJ8_equals_1 : decode cJ8_equals 1 = .ok (.aload_n 1, 1) := dk_43 (dk_at dksJ8_equals_0 1 rfl rfl)
theorem dJ8_equals_2 : decode cJ8_equals 2 = .ok (.if_acmp .ne 5, 3) := dk_166 0 5 (dk_at dksJ8_equals_0 2 rfl rfl)
theorem dJ8_equals_5 : decode cJ8_equals 5 = .ok (.iconst 1, 1) := dk_4 (dk_at dksJ8_equals_0 5 rfl rfl)
theorem dJ8_equals_6 : decode cJ8_equals 6 = .ok (.ireturn, 1) := dk_172 (dk_at dksJ8_equals_0 6 rfl rfl)
theorem dJ8_equals_7 : decode cJ8_equals 7 = .ok (.aload_n 1, 1) := dk_43 (dk_at dksJ8_equals_0 7 rfl rfl)
theorem dJ8_equals_8 : decode cJ8_equals 8 = .ok (.instanceof 10, 3) := dk_193 0 10 (dk_at dksJ8_equals_0 8 rfl rfl)
theorem dJ8_equals_11 : decode cJ8_equals 11 = .ok (.ifCond .eq 43, 3) := dk_153 0 43 (dk_at dksJ8_equals_0 11 rfl rfl)
theorem dJ8_equals_14 : decode cJ8_equals 14 = .ok (.aload_n 1, 1) := dk_43 (dk_at dksJ8_equals_0 14 rfl rfl)
theorem dJ8_equals_15 : decode cJ8_equals 15 = .ok (.checkcast 10, 3) := dk_192 0 10 (dk_at dksJ8_equals_0 15 rfl rfl)
theorem dJ8_equals_18 : decode cJ8_equals 18 = .ok (.astore_n 2, 1) := dk_77 (dk_at dksJ8_equals_0 18 rfl rfl)
theorem dJ8_equals_19 : decode cJ8_equals 19 = .ok (.getstatic 38, 3) := dk_178 0 38 (dk_at dksJ8_equals_0 19 rfl rfl)
theorem dJ8_equals_22 : decode cJ8_equals 22 = .ok (.ifCond .eq 14, 3) := dk_153 0 14 (dk_at dksJ8_equals_1 0 rfl rfl)
theorem dJ8_equals_25 : decode cJ8_equals 25 = .ok (.aload_n 0, 1) := dk_42 (dk_at dksJ8_equals_1 3 rfl rfl)
theorem dJ8_equals_26 : decode cJ8_equals 26 = .ok (.getfield 15, 3) := dk_180 0 15 (dk_at dksJ8_equals_1 4 rfl rfl)
theorem dJ8_equals_29 : decode cJ8_equals 29 = .ok (.aload_n 2, 1) := dk_44 (dk_at dksJ8_equals_1 7 rfl rfl)
theorem dJ8_equals_30 : decode cJ8_equals 30 = .ok (.getfield 15, 3) := dk_180 0 15 (dk_at dksJ8_equals_1 8 rfl rfl)
theorem dJ8_equals_33 : decode cJ8_equals 33 = .ok (.if_icmp .ne 21, 3) := dk_160 0 21 (dk_at dksJ8_equals_1 11 rfl rfl)
theorem dJ8_equals_36 : decode cJ8_equals 36 = .ok (.aload_n 0, 1) := dk_42 (dk_at dksJ8_equals_1 14 rfl rfl)
theorem dJ8_equals_37 : decode cJ8_equals 37 = .ok (.getfield 9, 3) := dk_180 0 9 (dk_at dksJ8_equals_1 15 rfl rfl)
theorem dJ8_equals_40 : decode cJ8_equals 40 = .ok (.aload_n 2, 1) := dk_44 (dk_at dksJ8_equals_1 18 rfl rfl)
theorem dJ8_equals_41 : decode cJ8_equals 41 = .ok (.getfield 9, 3) := dk_180 0 9 (dk_at dksJ8_equals_1 19 rfl rfl)
theorem dJ8_equals_44 : decode cJ8_equals 44 = .ok (.invokestatic 541, 3) := dk_184 2 29 (dk_at dksJ8_equals_2 0 rfl rfl)
theorem dJ8_equals_47 : decode cJ8_equals 47 = .ok (.ifCond .eq 7, 3) := dk_153 0 7 (dk_at dksJ8_equals_2 3 rfl rfl)
theorem dJ8_equals_50 : decode cJ8_equals 50 = .ok (.iconst 1, 1) := dk_4 (dk_at dksJ8_equals_2 6 rfl rfl)
theorem dJ8_equals_51 : decode cJ8_equals 51 = .ok (.goto 4, 3) := dk_167 0 4 (dk_at dksJ8_equals_2 7 rfl rfl)
theorem dJ8_equals_54 : decode cJ8_equals 54 = .ok (.iconst 0, 1) := dk_3 (dk_at dksJ8_equals_2 10 rfl rfl)
theorem dJ8_equals_55 : decode cJ8_equals 55 = .ok (.ireturn, 1) := dk_172 (dk_at dksJ8_equals_2 11 rfl rfl)
abbrev cJ8_checkBoundsBeginEnd : ByteArray := prog_42_method_158_code
def yJ8_checkBoundsBeginEnd : MethodName := ⟨RJ8, "checkBoundsBeginEnd", "(III)V"⟩
def dkwJ8_checkBoundsBeginEnd_0 : List UInt8 := [26, 27, 28, 178, 4, 29, 184, 4, 38, 87, 177]
abbrev dktJ8_checkBoundsBeginEnd_0 : List UInt8 := dkwJ8_checkBoundsBeginEnd_0 ++ []
theorem dksJ8_checkBoundsBeginEnd_0 : cJ8_checkBoundsBeginEnd.data.toList.drop 0 = dktJ8_checkBoundsBeginEnd_0 := by decide +kernel
theorem dJ8_checkBoundsBeginEnd_0 : decode cJ8_checkBoundsBeginEnd 0 = .ok (.iload_n 0, 1) := dk_26 (dk_at dksJ8_checkBoundsBeginEnd_0 0 rfl rfl)
theorem dJ8_checkBoundsBeginEnd_1 : decode cJ8_checkBoundsBeginEnd 1 = .ok (.iload_n 1, 1) := dk_27 (dk_at dksJ8_checkBoundsBeginEnd_0 1 rfl rfl)
theorem dJ8_checkBoundsBeginEnd_2 : decode cJ8_checkBoundsBeginEnd 2 = .ok (.iload_n 2, 1) := dk_28 (dk_at dksJ8_checkBoundsBeginEnd_0 2 rfl rfl)
theorem dJ8_checkBoundsBeginEnd_3 : decode cJ8_checkBoundsBeginEnd 3 = .ok (.getstatic 1053, 3) := dk_178 4 29 (dk_at dksJ8_checkBoundsBeginEnd_0 3 rfl rfl)
theorem dJ8_checkBoundsBeginEnd_6 : decode cJ8_checkBoundsBeginEnd 6 = .ok (.invokestatic 1062, 3) := dk_184 4 38 (dk_at dksJ8_checkBoundsBeginEnd_0 6 rfl rfl)
theorem dJ8_checkBoundsBeginEnd_9 : decode cJ8_checkBoundsBeginEnd 9 = .ok (.pop, 1) := dk_87 (dk_at dksJ8_checkBoundsBeginEnd_0 9 rfl rfl)
theorem dJ8_checkBoundsBeginEnd_10 : decode cJ8_checkBoundsBeginEnd 10 = .ok (.return_, 1) := dk_177 (dk_at dksJ8_checkBoundsBeginEnd_0 10 rfl rfl)
abbrev cJ8_length : ByteArray := prog_42_method_54_code
def yJ8_length : MethodName := ⟨RJ8, "length", "()I"⟩
def dkwJ8_length_0 : List UInt8 := [42, 180, 0, 9, 190, 42, 182, 1, 79, 122, 172]
abbrev dktJ8_length_0 : List UInt8 := dkwJ8_length_0 ++ []
theorem dksJ8_length_0 : cJ8_length.data.toList.drop 0 = dktJ8_length_0 := by decide +kernel
theorem dJ8_length_0 : decode cJ8_length 0 = .ok (.aload_n 0, 1) := dk_42 (dk_at dksJ8_length_0 0 rfl rfl)
theorem dJ8_length_1 : decode cJ8_length 1 = .ok (.getfield 9, 3) := dk_180 0 9 (dk_at dksJ8_length_0 1 rfl rfl)
theorem dJ8_length_4 : decode cJ8_length 4 = .ok (.arraylength, 1) := dk_190 (dk_at dksJ8_length_0 4 rfl rfl)
theorem dJ8_length_5 : decode cJ8_length 5 = .ok (.aload_n 0, 1) := dk_42 (dk_at dksJ8_length_0 5 rfl rfl)
theorem dJ8_length_6 : decode cJ8_length 6 = .ok (.invokevirtual 335, 3) := dk_182 1 79 (dk_at dksJ8_length_0 6 rfl rfl)
theorem dJ8_length_9 : decode cJ8_length 9 = .ok (.ishr, 1) := dk_122 (dk_at dksJ8_length_0 9 rfl rfl)
theorem dJ8_length_10 : decode cJ8_length 10 = .ok (.ireturn, 1) := dk_172 (dk_at dksJ8_length_0 10 rfl rfl)
abbrev cJ8_checkBoundsOffCount : ByteArray := prog_42_method_157_code
def yJ8_checkBoundsOffCount : MethodName := ⟨RJ8, "checkBoundsOffCount", "(III)I"⟩
def dkwJ8_checkBoundsOffCount_0 : List UInt8 := [26, 27, 28, 178, 4, 29, 184, 4, 41, 172]
abbrev dktJ8_checkBoundsOffCount_0 : List UInt8 := dkwJ8_checkBoundsOffCount_0 ++ []
theorem dksJ8_checkBoundsOffCount_0 : cJ8_checkBoundsOffCount.data.toList.drop 0 = dktJ8_checkBoundsOffCount_0 := by decide +kernel
theorem dJ8_checkBoundsOffCount_0 : decode cJ8_checkBoundsOffCount 0 = .ok (.iload_n 0, 1) := dk_26 (dk_at dksJ8_checkBoundsOffCount_0 0 rfl rfl)
theorem dJ8_checkBoundsOffCount_1 : decode cJ8_checkBoundsOffCount 1 = .ok (.iload_n 1, 1) := dk_27 (dk_at dksJ8_checkBoundsOffCount_0 1 rfl rfl)
theorem dJ8_checkBoundsOffCount_2 : decode cJ8_checkBoundsOffCount 2 = .ok (.iload_n 2, 1) := dk_28 (dk_at dksJ8_checkBoundsOffCount_0 2 rfl rfl)
theorem dJ8_checkBoundsOffCount_3 : decode cJ8_checkBoundsOffCount 3 = .ok (.getstatic 1053, 3) := dk_178 4 29 (dk_at dksJ8_checkBoundsOffCount_0 3 rfl rfl)
theorem dJ8_checkBoundsOffCount_6 : decode cJ8_checkBoundsOffCount 6 = .ok (.invokestatic 1065, 3) := dk_184 4 41 (dk_at dksJ8_checkBoundsOffCount_0 6 rfl rfl)
theorem dJ8_checkBoundsOffCount_9 : decode cJ8_checkBoundsOffCount 9 = .ok (.ireturn, 1) := dk_172 (dk_at dksJ8_checkBoundsOffCount_0 9 rfl rfl)
abbrev cJ8_getBytes : ByteArray := prog_42_method_147_code
def yJ8_getBytes : MethodName := ⟨RJ8, "getBytes", "([BIB)V"⟩
def dkwJ8_getBytes_1 : List UInt8 := [184, 0, 212, 167, 0, 18, 42, 180, 0, 9, 3, 43, 28, 42, 180, 0, 9, 190, 184, 0, 106, 177]
abbrev dktJ8_getBytes_1 : List UInt8 := dkwJ8_getBytes_1 ++ []
def dkwJ8_getBytes_0 : List UInt8 := [42, 182, 1, 79, 29, 160, 0, 23, 42, 180, 0, 9, 3, 43, 28, 29, 120, 42, 180, 0, 9, 190]
abbrev dktJ8_getBytes_0 : List UInt8 := dkwJ8_getBytes_0 ++ dktJ8_getBytes_1
theorem dksJ8_getBytes_0 : cJ8_getBytes.data.toList.drop 0 = dktJ8_getBytes_0 := by decide +kernel
theorem dksJ8_getBytes_1 : cJ8_getBytes.data.toList.drop 22 = dktJ8_getBytes_1 := dk_seg dksJ8_getBytes_0 22 rfl rfl
theorem dJ8_getBytes_0 : decode cJ8_getBytes 0 = .ok (.aload_n 0, 1) := dk_42 (dk_at dksJ8_getBytes_0 0 rfl rfl)
theorem dJ8_getBytes_1 : decode cJ8_getBytes 1 = .ok (.invokevirtual 335, 3) := dk_182 1 79 (dk_at dksJ8_getBytes_0 1 rfl rfl)
theorem dJ8_getBytes_4 : decode cJ8_getBytes 4 = .ok (.iload_n 3, 1) := dk_29 (dk_at dksJ8_getBytes_0 4 rfl rfl)
theorem dJ8_getBytes_5 : decode cJ8_getBytes 5 = .ok (.if_icmp .ne 23, 3) := dk_160 0 23 (dk_at dksJ8_getBytes_0 5 rfl rfl)
theorem dJ8_getBytes_8 : decode cJ8_getBytes 8 = .ok (.aload_n 0, 1) := dk_42 (dk_at dksJ8_getBytes_0 8 rfl rfl)
theorem dJ8_getBytes_9 : decode cJ8_getBytes 9 = .ok (.getfield 9, 3) := dk_180 0 9 (dk_at dksJ8_getBytes_0 9 rfl rfl)
theorem dJ8_getBytes_12 : decode cJ8_getBytes 12 = .ok (.iconst 0, 1) := dk_3 (dk_at dksJ8_getBytes_0 12 rfl rfl)
theorem dJ8_getBytes_13 : decode cJ8_getBytes 13 = .ok (.aload_n 1, 1) := dk_43 (dk_at dksJ8_getBytes_0 13 rfl rfl)
theorem dJ8_getBytes_14 : decode cJ8_getBytes 14 = .ok (.iload_n 2, 1) := dk_28 (dk_at dksJ8_getBytes_0 14 rfl rfl)
theorem dJ8_getBytes_15 : decode cJ8_getBytes 15 = .ok (.iload_n 3, 1) := dk_29 (dk_at dksJ8_getBytes_0 15 rfl rfl)
theorem dJ8_getBytes_16 : decode cJ8_getBytes 16 = .ok (.ishl, 1) := dk_120 (dk_at dksJ8_getBytes_0 16 rfl rfl)
theorem dJ8_getBytes_17 : decode cJ8_getBytes 17 = .ok (.aload_n 0, 1) := dk_42 (dk_at dksJ8_getBytes_0 17 rfl rfl)
theorem dJ8_getBytes_18 : decode cJ8_getBytes 18 = .ok (.getfield 9, 3) := dk_180 0 9 (dk_at dksJ8_getBytes_0 18 rfl rfl)
theorem dJ8_getBytes_21 : decode cJ8_getBytes 21 = .ok (.arraylength, 1) := dk_190 (dk_at dksJ8_getBytes_0 21 rfl rfl)
theorem dJ8_getBytes_22 : decode cJ8_getBytes 22 = .ok (.invokestatic 212, 3) := dk_184 0 212 (dk_at dksJ8_getBytes_1 0 rfl rfl)
theorem dJ8_getBytes_25 : decode cJ8_getBytes 25 = .ok (.goto 18, 3) := dk_167 0 18 (dk_at dksJ8_getBytes_1 3 rfl rfl)
theorem dJ8_getBytes_28 : decode cJ8_getBytes 28 = .ok (.aload_n 0, 1) := dk_42 (dk_at dksJ8_getBytes_1 6 rfl rfl)
theorem dJ8_getBytes_29 : decode cJ8_getBytes 29 = .ok (.getfield 9, 3) := dk_180 0 9 (dk_at dksJ8_getBytes_1 7 rfl rfl)
theorem dJ8_getBytes_32 : decode cJ8_getBytes 32 = .ok (.iconst 0, 1) := dk_3 (dk_at dksJ8_getBytes_1 10 rfl rfl)
theorem dJ8_getBytes_33 : decode cJ8_getBytes 33 = .ok (.aload_n 1, 1) := dk_43 (dk_at dksJ8_getBytes_1 11 rfl rfl)
theorem dJ8_getBytes_34 : decode cJ8_getBytes 34 = .ok (.iload_n 2, 1) := dk_28 (dk_at dksJ8_getBytes_1 12 rfl rfl)
theorem dJ8_getBytes_35 : decode cJ8_getBytes 35 = .ok (.aload_n 0, 1) := dk_42 (dk_at dksJ8_getBytes_1 13 rfl rfl)
theorem dJ8_getBytes_36 : decode cJ8_getBytes 36 = .ok (.getfield 9, 3) := dk_180 0 9 (dk_at dksJ8_getBytes_1 14 rfl rfl)
theorem dJ8_getBytes_39 : decode cJ8_getBytes 39 = .ok (.arraylength, 1) := dk_190 (dk_at dksJ8_getBytes_1 17 rfl rfl)
theorem dJ8_getBytes_40 : decode cJ8_getBytes 40 = .ok (.invokestatic 106, 3) := dk_184 0 106 (dk_at dksJ8_getBytes_1 18 rfl rfl)
theorem dJ8_getBytes_43 : decode cJ8_getBytes 43 = .ok (.return_, 1) := dk_177 (dk_at dksJ8_getBytes_1 21 rfl rfl)
abbrev cJ8_init : ByteArray := prog_42_method_53_code
def yJ8_init : MethodName := ⟨RJ8, "<init>", "(Ljava/lang/StringBuilder;)V"⟩
def dkwJ8_init_0 : List UInt8 := [42, 43, 1, 183, 1, 233, 177]
abbrev dktJ8_init_0 : List UInt8 := dkwJ8_init_0 ++ []
theorem dksJ8_init_0 : cJ8_init.data.toList.drop 0 = dktJ8_init_0 := by decide +kernel
theorem dJ8_init_0 : decode cJ8_init 0 = .ok (.aload_n 0, 1) := dk_42 (dk_at dksJ8_init_0 0 rfl rfl)
theorem dJ8_init_1 : decode cJ8_init 1 = .ok (.aload_n 1, 1) := dk_43 (dk_at dksJ8_init_0 1 rfl rfl)
theorem dJ8_init_2 : decode cJ8_init 2 = .ok (.aconst_null, 1) := dk_1 (dk_at dksJ8_init_0 2 rfl rfl)
theorem dJ8_init_3 : decode cJ8_init 3 = .ok (.invokespecial 489, 3) := dk_183 1 233 (dk_at dksJ8_init_0 3 rfl rfl)
theorem dJ8_init_6 : decode cJ8_init 6 = .ok (.return_, 1) := dk_177 (dk_at dksJ8_init_0 6 rfl rfl)
abbrev cJ8_init_2 : ByteArray := prog_42_method_150_code
def yJ8_init_2 : MethodName := ⟨RJ8, "<init>", "(Ljava/lang/AbstractStringBuilder;Ljava/lang/Void;)V"⟩
def dkwJ8_init_2_4 : List UInt8 := [181, 0, 9, 177]
abbrev dktJ8_init_2_4 : List UInt8 := dkwJ8_init_2_4 ++ []
def dkwJ8_init_2_3 : List UInt8 := [184, 0, 47, 181, 0, 15, 177, 42, 4, 181, 0, 15, 42, 45, 3, 21, 4, 4, 120, 184, 0, 54]
abbrev dktJ8_init_2_3 : List UInt8 := dkwJ8_init_2_3 ++ dktJ8_init_2_4
def dkwJ8_init_2_2 : List UInt8 := [180, 4, 24, 153, 0, 28, 42, 45, 3, 21, 4, 184, 4, 27, 181, 0, 9, 42, 42, 180, 0, 9, 21, 4]
abbrev dktJ8_init_2_2 : List UInt8 := dkwJ8_init_2_2 ++ dktJ8_init_2_3
def dkwJ8_init_2_1 : List UInt8 := [181, 0, 15, 42, 45, 3, 21, 4, 184, 0, 54, 181, 0, 9, 167, 0, 59, 178, 0, 38, 153, 0, 35, 43]
abbrev dktJ8_init_2_1 : List UInt8 := dkwJ8_init_2_1 ++ dktJ8_init_2_2
def dkwJ8_init_2_0 : List UInt8 := [42, 183, 0, 1, 43, 182, 2, 40, 78, 43, 182, 2, 37, 54, 4, 43, 182, 4, 23, 153, 0, 22, 42, 3]
abbrev dktJ8_init_2_0 : List UInt8 := dkwJ8_init_2_0 ++ dktJ8_init_2_1
theorem dksJ8_init_2_0 : cJ8_init_2.data.toList.drop 0 = dktJ8_init_2_0 := by decide +kernel
theorem dksJ8_init_2_1 : cJ8_init_2.data.toList.drop 24 = dktJ8_init_2_1 := dk_seg dksJ8_init_2_0 24 rfl rfl
theorem dksJ8_init_2_2 : cJ8_init_2.data.toList.drop 48 = dktJ8_init_2_2 := dk_seg dksJ8_init_2_1 24 rfl rfl
theorem dksJ8_init_2_3 : cJ8_init_2.data.toList.drop 72 = dktJ8_init_2_3 := dk_seg dksJ8_init_2_2 24 rfl rfl
theorem dksJ8_init_2_4 : cJ8_init_2.data.toList.drop 94 = dktJ8_init_2_4 := dk_seg dksJ8_init_2_3 22 rfl rfl
theorem dJ8_init_2_0 : decode cJ8_init_2 0 = .ok (.aload_n 0, 1) := dk_42 (dk_at dksJ8_init_2_0 0 rfl rfl)
theorem dJ8_init_2_1 : decode cJ8_init_2 1 = .ok (.invokespecial 1, 3) := dk_183 0 1 (dk_at dksJ8_init_2_0 1 rfl rfl)
theorem dJ8_init_2_4 : decode cJ8_init_2 4 = .ok (.aload_n 1, 1) := dk_43 (dk_at dksJ8_init_2_0 4 rfl rfl)
theorem dJ8_init_2_5 : decode cJ8_init_2 5 = .ok (.invokevirtual 552, 3) := dk_182 2 40 (dk_at dksJ8_init_2_0 5 rfl rfl)
theorem dJ8_init_2_8 : decode cJ8_init_2 8 = .ok (.astore_n 3, 1) := dk_78 (dk_at dksJ8_init_2_0 8 rfl rfl)
theorem dJ8_init_2_9 : decode cJ8_init_2 9 = .ok (.aload_n 1, 1) := dk_43 (dk_at dksJ8_init_2_0 9 rfl rfl)
theorem dJ8_init_2_10 : decode cJ8_init_2 10 = .ok (.invokevirtual 549, 3) := dk_182 2 37 (dk_at dksJ8_init_2_0 10 rfl rfl)
theorem dJ8_init_2_13 : decode cJ8_init_2 13 = .ok (.istore 4, 2) := dk_54 4 (dk_at dksJ8_init_2_0 13 rfl rfl)
theorem dJ8_init_2_15 : decode cJ8_init_2 15 = .ok (.aload_n 1, 1) := dk_43 (dk_at dksJ8_init_2_0 15 rfl rfl)
theorem dJ8_init_2_16 : decode cJ8_init_2 16 = .ok (.invokevirtual 1047, 3) := dk_182 4 23 (dk_at dksJ8_init_2_0 16 rfl rfl)
theorem dJ8_init_2_19 : decode cJ8_init_2 19 = .ok (.ifCond .eq 22, 3) := dk_153 0 22 (dk_at dksJ8_init_2_0 19 rfl rfl)
theorem dJ8_init_2_22 : decode cJ8_init_2 22 = .ok (.aload_n 0, 1) := dk_42 (dk_at dksJ8_init_2_0 22 rfl rfl)
theorem dJ8_init_2_23 : decode cJ8_init_2 23 = .ok (.iconst 0, 1) := dk_3 (dk_at dksJ8_init_2_0 23 rfl rfl)
theorem dJ8_init_2_24 : decode cJ8_init_2 24 = .ok (.putfield 15, 3) := dk_181 0 15 (dk_at dksJ8_init_2_1 0 rfl rfl)
theorem dJ8_init_2_27 : decode cJ8_init_2 27 = .ok (.aload_n 0, 1) := dk_42 (dk_at dksJ8_init_2_1 3 rfl rfl)
theorem dJ8_init_2_28 : decode cJ8_init_2 28 = .ok (.aload_n 3, 1) := dk_45 (dk_at dksJ8_init_2_1 4 rfl rfl)
theorem dJ8_init_2_29 : decode cJ8_init_2 29 = .ok (.iconst 0, 1) := dk_3 (dk_at dksJ8_init_2_1 5 rfl rfl)
theorem dJ8_init_2_30 : decode cJ8_init_2 30 = .ok (.iload 4, 2) := dk_21 4 (dk_at dksJ8_init_2_1 6 rfl rfl)
theorem dJ8_init_2_32 : decode cJ8_init_2 32 = .ok (.invokestatic 54, 3) := dk_184 0 54 (dk_at dksJ8_init_2_1 8 rfl rfl)
theorem dJ8_init_2_35 : decode cJ8_init_2 35 = .ok (.putfield 9, 3) := dk_181 0 9 (dk_at dksJ8_init_2_1 11 rfl rfl)
theorem dJ8_init_2_38 : decode cJ8_init_2 38 = .ok (.goto 59, 3) := dk_167 0 59 (dk_at dksJ8_init_2_1 14 rfl rfl)
theorem dJ8_init_2_41 : decode cJ8_init_2 41 = .ok (.getstatic 38, 3) := dk_178 0 38 (dk_at dksJ8_init_2_1 17 rfl rfl)
theorem dJ8_init_2_44 : decode cJ8_init_2 44 = .ok (.ifCond .eq 35, 3) := dk_153 0 35 (dk_at dksJ8_init_2_1 20 rfl rfl)
theorem dJ8_init_2_47 : decode cJ8_init_2 47 = .ok (.aload_n 1, 1) := dk_43 (dk_at dksJ8_init_2_1 23 rfl rfl)
theorem dJ8_init_2_48 : decode cJ8_init_2 48 = .ok (.getfield 1048, 3) := dk_180 4 24 (dk_at dksJ8_init_2_2 0 rfl rfl)
theorem dJ8_init_2_51 : decode cJ8_init_2 51 = .ok (.ifCond .eq 28, 3) := dk_153 0 28 (dk_at dksJ8_init_2_2 3 rfl rfl)
theorem dJ8_init_2_54 : decode cJ8_init_2 54 = .ok (.aload_n 0, 1) := dk_42 (dk_at dksJ8_init_2_2 6 rfl rfl)
theorem dJ8_init_2_55 : decode cJ8_init_2 55 = .ok (.aload_n 3, 1) := dk_45 (dk_at dksJ8_init_2_2 7 rfl rfl)
theorem dJ8_init_2_56 : decode cJ8_init_2 56 = .ok (.iconst 0, 1) := dk_3 (dk_at dksJ8_init_2_2 8 rfl rfl)
theorem dJ8_init_2_57 : decode cJ8_init_2 57 = .ok (.iload 4, 2) := dk_21 4 (dk_at dksJ8_init_2_2 9 rfl rfl)
theorem dJ8_init_2_59 : decode cJ8_init_2 59 = .ok (.invokestatic 1051, 3) := dk_184 4 27 (dk_at dksJ8_init_2_2 11 rfl rfl)
theorem dJ8_init_2_62 : decode cJ8_init_2 62 = .ok (.putfield 9, 3) := dk_181 0 9 (dk_at dksJ8_init_2_2 14 rfl rfl)
theorem dJ8_init_2_65 : decode cJ8_init_2 65 = .ok (.aload_n 0, 1) := dk_42 (dk_at dksJ8_init_2_2 17 rfl rfl)
theorem dJ8_init_2_66 : decode cJ8_init_2 66 = .ok (.aload_n 0, 1) := dk_42 (dk_at dksJ8_init_2_2 18 rfl rfl)
theorem dJ8_init_2_67 : decode cJ8_init_2 67 = .ok (.getfield 9, 3) := dk_180 0 9 (dk_at dksJ8_init_2_2 19 rfl rfl)
theorem dJ8_init_2_70 : decode cJ8_init_2 70 = .ok (.iload 4, 2) := dk_21 4 (dk_at dksJ8_init_2_2 22 rfl rfl)
theorem dJ8_init_2_72 : decode cJ8_init_2 72 = .ok (.invokestatic 47, 3) := dk_184 0 47 (dk_at dksJ8_init_2_3 0 rfl rfl)
theorem dJ8_init_2_75 : decode cJ8_init_2 75 = .ok (.putfield 15, 3) := dk_181 0 15 (dk_at dksJ8_init_2_3 3 rfl rfl)
theorem dJ8_init_2_78 : decode cJ8_init_2 78 = .ok (.return_, 1) := dk_177 (dk_at dksJ8_init_2_3 6 rfl rfl)
theorem dJ8_init_2_79 : decode cJ8_init_2 79 = .ok (.aload_n 0, 1) := dk_42 (dk_at dksJ8_init_2_3 7 rfl rfl)
theorem dJ8_init_2_80 : decode cJ8_init_2 80 = .ok (.iconst 1, 1) := dk_4 (dk_at dksJ8_init_2_3 8 rfl rfl)
theorem dJ8_init_2_81 : decode cJ8_init_2 81 = .ok (.putfield 15, 3) := dk_181 0 15 (dk_at dksJ8_init_2_3 9 rfl rfl)
theorem dJ8_init_2_84 : decode cJ8_init_2 84 = .ok (.aload_n 0, 1) := dk_42 (dk_at dksJ8_init_2_3 12 rfl rfl)
theorem dJ8_init_2_85 : decode cJ8_init_2 85 = .ok (.aload_n 3, 1) := dk_45 (dk_at dksJ8_init_2_3 13 rfl rfl)
theorem dJ8_init_2_86 : decode cJ8_init_2 86 = .ok (.iconst 0, 1) := dk_3 (dk_at dksJ8_init_2_3 14 rfl rfl)
theorem dJ8_init_2_87 : decode cJ8_init_2 87 = .ok (.iload 4, 2) := dk_21 4 (dk_at dksJ8_init_2_3 15 rfl rfl)
theorem dJ8_init_2_89 : decode cJ8_init_2 89 = .ok (.iconst 1, 1) := dk_4 (dk_at dksJ8_init_2_3 17 rfl rfl)
theorem dJ8_init_2_90 : decode cJ8_init_2 90 = .ok (.ishl, 1) := dk_120 (dk_at dksJ8_init_2_3 18 rfl rfl)
theorem dJ8_init_2_91 : decode cJ8_init_2 91 = .ok (.invokestatic 54, 3) := dk_184 0 54 (dk_at dksJ8_init_2_3 19 rfl rfl)
theorem dJ8_init_2_94 : decode cJ8_init_2 94 = .ok (.putfield 9, 3) := dk_181 0 9 (dk_at dksJ8_init_2_4 0 rfl rfl)
theorem dJ8_init_2_97 : decode cJ8_init_2 97 = .ok (.return_, 1) := dk_177 (dk_at dksJ8_init_2_4 3 rfl rfl)
abbrev cJ8_checkIndex : ByteArray := prog_42_method_155_code
def yJ8_checkIndex : MethodName := ⟨RJ8, "checkIndex", "(II)V"⟩
def dkwJ8_checkIndex_0 : List UInt8 := [26, 27, 178, 4, 29, 184, 4, 35, 87, 177]
abbrev dktJ8_checkIndex_0 : List UInt8 := dkwJ8_checkIndex_0 ++ []
theorem dksJ8_checkIndex_0 : cJ8_checkIndex.data.toList.drop 0 = dktJ8_checkIndex_0 := by decide +kernel
theorem dJ8_checkIndex_0 : decode cJ8_checkIndex 0 = .ok (.iload_n 0, 1) := dk_26 (dk_at dksJ8_checkIndex_0 0 rfl rfl)
theorem dJ8_checkIndex_1 : decode cJ8_checkIndex 1 = .ok (.iload_n 1, 1) := dk_27 (dk_at dksJ8_checkIndex_0 1 rfl rfl)
theorem dJ8_checkIndex_2 : decode cJ8_checkIndex 2 = .ok (.getstatic 1053, 3) := dk_178 4 29 (dk_at dksJ8_checkIndex_0 2 rfl rfl)
theorem dJ8_checkIndex_5 : decode cJ8_checkIndex 5 = .ok (.invokestatic 1059, 3) := dk_184 4 35 (dk_at dksJ8_checkIndex_0 5 rfl rfl)
theorem dJ8_checkIndex_8 : decode cJ8_checkIndex 8 = .ok (.pop, 1) := dk_87 (dk_at dksJ8_checkIndex_0 8 rfl rfl)
theorem dJ8_checkIndex_9 : decode cJ8_checkIndex 9 = .ok (.return_, 1) := dk_177 (dk_at dksJ8_checkIndex_0 9 rfl rfl)
abbrev cJ8_charAt : ByteArray := prog_42_method_56_code
def yJ8_charAt : MethodName := ⟨RJ8, "charAt", "(I)C"⟩
def dkwJ8_charAt_1 : List UInt8 := [172]
abbrev dktJ8_charAt_1 : List UInt8 := dkwJ8_charAt_1 ++ []
def dkwJ8_charAt_0 : List UInt8 := [42, 182, 1, 236, 153, 0, 12, 42, 180, 0, 9, 27, 184, 1, 239, 172, 42, 180, 0, 9, 27, 184, 1, 242]
abbrev dktJ8_charAt_0 : List UInt8 := dkwJ8_charAt_0 ++ dktJ8_charAt_1
theorem dksJ8_charAt_0 : cJ8_charAt.data.toList.drop 0 = dktJ8_charAt_0 := by decide +kernel
theorem dksJ8_charAt_1 : cJ8_charAt.data.toList.drop 24 = dktJ8_charAt_1 := dk_seg dksJ8_charAt_0 24 rfl rfl
theorem dJ8_charAt_0 : decode cJ8_charAt 0 = .ok (.aload_n 0, 1) := dk_42 (dk_at dksJ8_charAt_0 0 rfl rfl)
theorem dJ8_charAt_1 : decode cJ8_charAt 1 = .ok (.invokevirtual 492, 3) := dk_182 1 236 (dk_at dksJ8_charAt_0 1 rfl rfl)
theorem dJ8_charAt_4 : decode cJ8_charAt 4 = .ok (.ifCond .eq 12, 3) := dk_153 0 12 (dk_at dksJ8_charAt_0 4 rfl rfl)
theorem dJ8_charAt_7 : decode cJ8_charAt 7 = .ok (.aload_n 0, 1) := dk_42 (dk_at dksJ8_charAt_0 7 rfl rfl)
theorem dJ8_charAt_8 : decode cJ8_charAt 8 = .ok (.getfield 9, 3) := dk_180 0 9 (dk_at dksJ8_charAt_0 8 rfl rfl)
theorem dJ8_charAt_11 : decode cJ8_charAt 11 = .ok (.iload_n 1, 1) := dk_27 (dk_at dksJ8_charAt_0 11 rfl rfl)
theorem dJ8_charAt_12 : decode cJ8_charAt 12 = .ok (.invokestatic 495, 3) := dk_184 1 239 (dk_at dksJ8_charAt_0 12 rfl rfl)
theorem dJ8_charAt_15 : decode cJ8_charAt 15 = .ok (.ireturn, 1) := dk_172 (dk_at dksJ8_charAt_0 15 rfl rfl)
theorem dJ8_charAt_16 : decode cJ8_charAt 16 = .ok (.aload_n 0, 1) := dk_42 (dk_at dksJ8_charAt_0 16 rfl rfl)
theorem dJ8_charAt_17 : decode cJ8_charAt 17 = .ok (.getfield 9, 3) := dk_180 0 9 (dk_at dksJ8_charAt_0 17 rfl rfl)
theorem dJ8_charAt_20 : decode cJ8_charAt 20 = .ok (.iload_n 1, 1) := dk_27 (dk_at dksJ8_charAt_0 20 rfl rfl)
theorem dJ8_charAt_21 : decode cJ8_charAt 21 = .ok (.invokestatic 498, 3) := dk_184 1 242 (dk_at dksJ8_charAt_0 21 rfl rfl)
theorem dJ8_charAt_24 : decode cJ8_charAt 24 = .ok (.ireturn, 1) := dk_172 (dk_at dksJ8_charAt_1 0 rfl rfl)
theorem q184 : (Jvm.Cond.initialized "java/lang/String") ∈ lw_all := lw_g (lw_at lw_m1 18 rfl) rfl
theorem q316 : (Jvm.Cond.instantiable "java/lang/String" (4 : Nat)) ∈ lw_all := lw_g (lw_at lw_m1 150 rfl) rfl
theorem q318 : (Jvm.Cond.laysFinal "java/lang/String" "java/lang/String" "value" "[B") ∈ lw_all := lw_g (lw_at lw_m1 152 rfl) rfl
theorem q319 : (Jvm.Cond.soleField "java/lang/String" "value") ∈ lw_all := lw_g (lw_at lw_m1 153 rfl) rfl
theorem q320 : (Jvm.Cond.laysFinal "java/lang/String" "java/lang/String" "coder" "B") ∈ lw_all := lw_g (lw_at lw_m1 154 rfl) rfl
theorem q321 : (Jvm.Cond.soleField "java/lang/String" "coder") ∈ lw_all := lw_g (lw_at lw_m1 155 rfl) rfl
theorem q779 : (Jvm.Cond.laysStatic "java/lang/String" "COMPACT_STRINGS" "Z") ∈ lw_tbl := lw_at lw_m3 133 rfl
theorem q795 : (Jvm.Cond.fieldLink "java/lang/String" (1048 : Nat) "java/lang/AbstractStringBuilder" "maybeLatin1" "Z") ∈ lw_all := lw_g (lw_at lw_m3 149 rfl) rfl
theorem q874 : (Jvm.Cond.selects "java/lang/String" ({ cls := "java/lang/Object", name := "hashCode", desc := "()I" } : Jvm.MethodName) ({ cls := "java/lang/String", name := "hashCode", desc := "()I" } : Jvm.MethodName)) ∈ lw_all := lw_g (lw_at lw_m3 228 rfl) rfl
theorem q875 : (Jvm.Cond.instanceMethod ({ cls := "java/lang/String", name := "hashCode", desc := "()I" } : Jvm.MethodName)) ∈ lw_all := lw_g (lw_at lw_m3 229 rfl) rfl
theorem q876 : (Jvm.Cond.code ({ cls := "java/lang/String", name := "hashCode", desc := "()I" } : Jvm.MethodName) prog_42_method_78_code (2 : Nat) (Option.some Jvm.ClassFile.FieldType.int)) ∈ lw_all := lw_g (lw_at lw_m3 230 rfl) rfl
theorem q877 : (Jvm.Cond.methodLink "java/lang/String" (492 : Nat) ({ cls := "java/lang/String", name := "isLatin1", desc := "()Z" } : Jvm.MethodName)) ∈ lw_all := lw_g (lw_at lw_m3 231 rfl) rfl
theorem q878 : (Jvm.Cond.instanceMethod ({ cls := "java/lang/String", name := "isLatin1", desc := "()Z" } : Jvm.MethodName)) ∈ lw_all := lw_g (lw_at lw_m3 232 rfl) rfl
theorem q879 : (Jvm.Cond.selects "java/lang/String" ({ cls := "java/lang/String", name := "isLatin1", desc := "()Z" } : Jvm.MethodName) ({ cls := "java/lang/String", name := "isLatin1", desc := "()Z" } : Jvm.MethodName)) ∈ lw_all := lw_g (lw_at lw_m3 233 rfl) rfl
theorem q880 : (Jvm.Cond.code ({ cls := "java/lang/String", name := "isLatin1", desc := "()Z" } : Jvm.MethodName) prog_42_method_154_code (1 : Nat) (Option.some Jvm.ClassFile.FieldType.boolean)) ∈ lw_all := lw_g (lw_at lw_m3 234 rfl) rfl
theorem q881 : (Jvm.Cond.fieldLink "java/lang/String" (38 : Nat) "java/lang/String" "COMPACT_STRINGS" "Z") ∈ lw_all := lw_g (lw_at lw_m3 235 rfl) rfl
theorem q882 : (Jvm.Cond.methodLink "java/lang/String" (628 : Nat) ({ cls := "java/lang/StringLatin1", name := "hashCode", desc := "([B)I" } : Jvm.MethodName)) ∈ lw_all := lw_g (lw_at lw_m3 236 rfl) rfl
theorem q934 : (Jvm.Cond.methodLink "java/lang/String" (632 : Nat) ({ cls := "java/lang/StringUTF16", name := "hashCode", desc := "([B)I" } : Jvm.MethodName)) ∈ lw_all := lw_g (lw_at lw_m4 48 rfl) rfl
theorem q1032 : (Jvm.Cond.selects "java/lang/String" ({ cls := "java/lang/Object", name := "getClass", desc := "()Ljava/lang/Class;" } : Jvm.MethodName) ({ cls := "java/lang/Object", name := "getClass", desc := "()Ljava/lang/Class;" } : Jvm.MethodName)) ∈ lw_all := lw_g (lw_at lw_m4 146 rfl) rfl
theorem q1064 : (Jvm.Cond.castable "java/lang/String" "java/lang/Comparable") ∈ lw_tbl := lw_at lw_m4 178 rfl
theorem q1065 : (Jvm.Cond.selects "java/lang/String" ({ cls := "java/lang/Comparable", name := "compareTo", desc := "(Ljava/lang/Object;)I" } : Jvm.MethodName) ({ cls := "java/lang/String", name := "compareTo", desc := "(Ljava/lang/Object;)I" } : Jvm.MethodName)) ∈ lw_all := lw_g (lw_at lw_m4 179 rfl) rfl
theorem q1066 : (Jvm.Cond.unhidden "java/lang/String" "compareTo" "(Ljava/lang/Object;)I") ∈ lw_tbl := lw_at lw_m4 180 rfl
theorem q1067 : (Jvm.Cond.instanceMethod ({ cls := "java/lang/String", name := "compareTo", desc := "(Ljava/lang/Object;)I" } : Jvm.MethodName)) ∈ lw_all := lw_g (lw_at lw_m4 181 rfl) rfl
theorem q1068 : (Jvm.Cond.publicMethod ({ cls := "java/lang/String", name := "compareTo", desc := "(Ljava/lang/Object;)I" } : Jvm.MethodName)) ∈ lw_tbl := lw_at lw_m4 182 rfl
theorem q1069 : (Jvm.Cond.code ({ cls := "java/lang/String", name := "compareTo", desc := "(Ljava/lang/Object;)I" } : Jvm.MethodName) prog_42_method_162_code (2 : Nat) (Option.some Jvm.ClassFile.FieldType.int)) ∈ lw_all := lw_g (lw_at lw_m4 183 rfl) rfl
theorem q1070 : (Jvm.Cond.classLink "java/lang/String" (10 : Nat) "java/lang/String") ∈ lw_all := lw_g (lw_at lw_m4 184 rfl) rfl
theorem q1071 : (Jvm.Cond.methodLink "java/lang/String" (1084 : Nat) ({ cls := "java/lang/String", name := "compareTo", desc := "(Ljava/lang/String;)I" } : Jvm.MethodName)) ∈ lw_all := lw_g (lw_at lw_m4 185 rfl) rfl
theorem q1072 : (Jvm.Cond.instanceMethod ({ cls := "java/lang/String", name := "compareTo", desc := "(Ljava/lang/String;)I" } : Jvm.MethodName)) ∈ lw_all := lw_g (lw_at lw_m4 186 rfl) rfl
theorem q1073 : (Jvm.Cond.selects "java/lang/String" ({ cls := "java/lang/String", name := "compareTo", desc := "(Ljava/lang/String;)I" } : Jvm.MethodName) ({ cls := "java/lang/String", name := "compareTo", desc := "(Ljava/lang/String;)I" } : Jvm.MethodName)) ∈ lw_all := lw_g (lw_at lw_m4 187 rfl) rfl
theorem q1074 : (Jvm.Cond.code ({ cls := "java/lang/String", name := "compareTo", desc := "(Ljava/lang/String;)I" } : Jvm.MethodName) prog_42_method_71_code (5 : Nat) (Option.some Jvm.ClassFile.FieldType.int)) ∈ lw_all := lw_g (lw_at lw_m4 188 rfl) rfl
theorem q1075 : (Jvm.Cond.methodLink "java/lang/String" (335 : Nat) ({ cls := "java/lang/String", name := "coder", desc := "()B" } : Jvm.MethodName)) ∈ lw_all := lw_g (lw_at lw_m4 189 rfl) rfl
theorem q1076 : (Jvm.Cond.instanceMethod ({ cls := "java/lang/String", name := "coder", desc := "()B" } : Jvm.MethodName)) ∈ lw_all := lw_g (lw_at lw_m4 190 rfl) rfl
theorem q1077 : (Jvm.Cond.selects "java/lang/String" ({ cls := "java/lang/String", name := "coder", desc := "()B" } : Jvm.MethodName) ({ cls := "java/lang/String", name := "coder", desc := "()B" } : Jvm.MethodName)) ∈ lw_all := lw_g (lw_at lw_m4 191 rfl) rfl
theorem q1078 : (Jvm.Cond.code ({ cls := "java/lang/String", name := "coder", desc := "()B" } : Jvm.MethodName) prog_42_method_152_code (1 : Nat) (Option.some Jvm.ClassFile.FieldType.byte)) ∈ lw_all := lw_g (lw_at lw_m4 192 rfl) rfl
theorem q1079 : (Jvm.Cond.methodLink "java/lang/String" (586 : Nat) ({ cls := "java/lang/StringLatin1", name := "compareTo", desc := "([B[B)I" } : Jvm.MethodName)) ∈ lw_all := lw_g (lw_at lw_m4 193 rfl) rfl
theorem q1193 : (Jvm.Cond.methodLink "java/lang/String" (590 : Nat) ({ cls := "java/lang/StringUTF16", name := "compareTo", desc := "([B[B)I" } : Jvm.MethodName)) ∈ lw_all := lw_g (lw_at lw_m5 67 rfl) rfl
theorem q1200 : (Jvm.Cond.methodLink "java/lang/String" (591 : Nat) ({ cls := "java/lang/StringLatin1", name := "compareToUTF16", desc := "([B[B)I" } : Jvm.MethodName)) ∈ lw_all := lw_g (lw_at lw_m5 74 rfl) rfl
theorem q1211 : (Jvm.Cond.methodLink "java/lang/String" (594 : Nat) ({ cls := "java/lang/StringUTF16", name := "compareToLatin1", desc := "([B[B)I" } : Jvm.MethodName)) ∈ lw_all := lw_g (lw_at lw_m5 85 rfl) rfl
theorem q1242 : (Jvm.Cond.static ({ cls := "java/lang/String", name := "checkOffset", desc := "(II)V" } : Jvm.MethodName)) ∈ lw_all := lw_g (lw_at lw_m5 116 rfl) rfl
theorem q1243 : (Jvm.Cond.code ({ cls := "java/lang/String", name := "checkOffset", desc := "(II)V" } : Jvm.MethodName) prog_42_method_156_code (2 : Nat) (Option.none : Option Jvm.ClassFile.FieldType)) ∈ lw_all := lw_g (lw_at lw_m5 117 rfl) rfl
theorem q1244 : (Jvm.Cond.fieldLink "java/lang/String" (1053 : Nat) "jdk/internal/util/Preconditions" "SIOOBE_FORMATTER" "Ljava/util/function/BiFunction;") ∈ lw_all := lw_g (lw_at lw_m5 118 rfl) rfl
theorem q1246 : (Jvm.Cond.methodLink "java/lang/String" (1062 : Nat) ({ cls := "jdk/internal/util/Preconditions", name := "checkFromToIndex", desc := "(IIILjava/util/function/BiFunction;)I" } : Jvm.MethodName)) ∈ lw_all := lw_g (lw_at lw_m5 120 rfl) rfl
theorem q1308 : (Jvm.Cond.selects "java/lang/String" ({ cls := "java/lang/Object", name := "equals", desc := "(Ljava/lang/Object;)Z" } : Jvm.MethodName) ({ cls := "java/lang/String", name := "equals", desc := "(Ljava/lang/Object;)Z" } : Jvm.MethodName)) ∈ lw_all := lw_g (lw_at lw_m5 182 rfl) rfl
theorem q1309 : (Jvm.Cond.instanceMethod ({ cls := "java/lang/String", name := "equals", desc := "(Ljava/lang/Object;)Z" } : Jvm.MethodName)) ∈ lw_all := lw_g (lw_at lw_m5 183 rfl) rfl
theorem q1310 : (Jvm.Cond.code ({ cls := "java/lang/String", name := "equals", desc := "(Ljava/lang/Object;)Z" } : Jvm.MethodName) prog_42_method_66_code (3 : Nat) (Option.some Jvm.ClassFile.FieldType.boolean)) ∈ lw_all := lw_g (lw_at lw_m5 184 rfl) rfl
theorem q1311 : (Jvm.Cond.methodLink "java/lang/String" (541 : Nat) ({ cls := "java/lang/StringLatin1", name := "equals", desc := "([B[B)Z" } : Jvm.MethodName)) ∈ lw_all := lw_g (lw_at lw_m5 185 rfl) rfl
theorem q1467 : (Jvm.Cond.static ({ cls := "java/lang/String", name := "checkBoundsBeginEnd", desc := "(III)V" } : Jvm.MethodName)) ∈ lw_all := lw_g (lw_at lw_m6 101 rfl) rfl
theorem q1468 : (Jvm.Cond.code ({ cls := "java/lang/String", name := "checkBoundsBeginEnd", desc := "(III)V" } : Jvm.MethodName) prog_42_method_158_code (3 : Nat) (Option.none : Option Jvm.ClassFile.FieldType)) ∈ lw_all := lw_g (lw_at lw_m6 102 rfl) rfl
theorem q1473 : (Jvm.Cond.instanceMethod ({ cls := "java/lang/String", name := "length", desc := "()I" } : Jvm.MethodName)) ∈ lw_all := lw_g (lw_at lw_m6 107 rfl) rfl
theorem q1474 : (Jvm.Cond.selects "java/lang/String" ({ cls := "java/lang/String", name := "length", desc := "()I" } : Jvm.MethodName) ({ cls := "java/lang/String", name := "length", desc := "()I" } : Jvm.MethodName)) ∈ lw_all := lw_g (lw_at lw_m6 108 rfl) rfl
theorem q1475 : (Jvm.Cond.code ({ cls := "java/lang/String", name := "length", desc := "()I" } : Jvm.MethodName) prog_42_method_54_code (1 : Nat) (Option.some Jvm.ClassFile.FieldType.int)) ∈ lw_all := lw_g (lw_at lw_m6 109 rfl) rfl
theorem q1499 : (Jvm.Cond.static ({ cls := "java/lang/String", name := "checkBoundsOffCount", desc := "(III)I" } : Jvm.MethodName)) ∈ lw_all := lw_g (lw_at lw_m6 133 rfl) rfl
theorem q1500 : (Jvm.Cond.code ({ cls := "java/lang/String", name := "checkBoundsOffCount", desc := "(III)I" } : Jvm.MethodName) prog_42_method_157_code (3 : Nat) (Option.some Jvm.ClassFile.FieldType.int)) ∈ lw_all := lw_g (lw_at lw_m6 134 rfl) rfl
theorem q1501 : (Jvm.Cond.methodLink "java/lang/String" (1065 : Nat) ({ cls := "jdk/internal/util/Preconditions", name := "checkFromIndexSize", desc := "(IIILjava/util/function/BiFunction;)I" } : Jvm.MethodName)) ∈ lw_all := lw_g (lw_at lw_m6 135 rfl) rfl
theorem q1505 : (Jvm.Cond.instanceMethod ({ cls := "java/lang/String", name := "getBytes", desc := "([BIB)V" } : Jvm.MethodName)) ∈ lw_all := lw_g (lw_at lw_m6 139 rfl) rfl
theorem q1506 : (Jvm.Cond.selects "java/lang/String" ({ cls := "java/lang/String", name := "getBytes", desc := "([BIB)V" } : Jvm.MethodName) ({ cls := "java/lang/String", name := "getBytes", desc := "([BIB)V" } : Jvm.MethodName)) ∈ lw_all := lw_g (lw_at lw_m6 140 rfl) rfl
theorem q1507 : (Jvm.Cond.code ({ cls := "java/lang/String", name := "getBytes", desc := "([BIB)V" } : Jvm.MethodName) prog_42_method_147_code (4 : Nat) (Option.none : Option Jvm.ClassFile.FieldType)) ∈ lw_all := lw_g (lw_at lw_m6 141 rfl) rfl
theorem q1508 : (Jvm.Cond.methodLink "java/lang/String" (212 : Nat) ({ cls := "java/lang/System", name := "arraycopy", desc := "(Ljava/lang/Object;ILjava/lang/Object;II)V" } : Jvm.MethodName)) ∈ lw_all := lw_g (lw_at lw_m6 142 rfl) rfl
theorem q1509 : (Jvm.Cond.methodLink "java/lang/String" (106 : Nat) ({ cls := "java/lang/StringLatin1", name := "inflate", desc := "([BI[BII)V" } : Jvm.MethodName)) ∈ lw_all := lw_g (lw_at lw_m6 143 rfl) rfl
theorem q1541 : (Jvm.Cond.instanceMethod ({ cls := "java/lang/String", name := "<init>", desc := "(Ljava/lang/StringBuilder;)V" } : Jvm.MethodName)) ∈ lw_all := lw_g (lw_at lw_m6 175 rfl) rfl
theorem q1542 : (Jvm.Cond.code ({ cls := "java/lang/String", name := "<init>", desc := "(Ljava/lang/StringBuilder;)V" } : Jvm.MethodName) prog_42_method_53_code (2 : Nat) (Option.none : Option Jvm.ClassFile.FieldType)) ∈ lw_all := lw_g (lw_at lw_m6 176 rfl) rfl
theorem q1543 : (Jvm.Cond.methodLink "java/lang/String" (489 : Nat) ({ cls := "java/lang/String", name := "<init>", desc := "(Ljava/lang/AbstractStringBuilder;Ljava/lang/Void;)V" } : Jvm.MethodName)) ∈ lw_all := lw_g (lw_at lw_m6 177 rfl) rfl
theorem q1544 : (Jvm.Cond.instanceMethod ({ cls := "java/lang/String", name := "<init>", desc := "(Ljava/lang/AbstractStringBuilder;Ljava/lang/Void;)V" } : Jvm.MethodName)) ∈ lw_all := lw_g (lw_at lw_m6 178 rfl) rfl
theorem q1545 : (Jvm.Cond.code ({ cls := "java/lang/String", name := "<init>", desc := "(Ljava/lang/AbstractStringBuilder;Ljava/lang/Void;)V" } : Jvm.MethodName) prog_42_method_150_code (5 : Nat) (Option.none : Option Jvm.ClassFile.FieldType)) ∈ lw_all := lw_g (lw_at lw_m6 179 rfl) rfl
theorem q1546 : (Jvm.Cond.methodLink "java/lang/String" (1 : Nat) ({ cls := "java/lang/Object", name := "<init>", desc := "()V" } : Jvm.MethodName)) ∈ lw_all := lw_g (lw_at lw_m6 180 rfl) rfl
theorem q1547 : (Jvm.Cond.methodLink "java/lang/String" (552 : Nat) ({ cls := "java/lang/AbstractStringBuilder", name := "getValue", desc := "()[B" } : Jvm.MethodName)) ∈ lw_all := lw_g (lw_at lw_m6 181 rfl) rfl
theorem q1552 : (Jvm.Cond.methodLink "java/lang/String" (549 : Nat) ({ cls := "java/lang/AbstractStringBuilder", name := "length", desc := "()I" } : Jvm.MethodName)) ∈ lw_all := lw_g (lw_at lw_m6 186 rfl) rfl
theorem q1560 : (Jvm.Cond.methodLink "java/lang/String" (1047 : Nat) ({ cls := "java/lang/AbstractStringBuilder", name := "isLatin1", desc := "()Z" } : Jvm.MethodName)) ∈ lw_all := lw_g (lw_at lw_m6 194 rfl) rfl
theorem q1561 : (Jvm.Cond.methodLink "java/lang/String" (54 : Nat) ({ cls := "java/util/Arrays", name := "copyOfRange", desc := "([BII)[B" } : Jvm.MethodName)) ∈ lw_all := lw_g (lw_at lw_m6 195 rfl) rfl
theorem q1570 : (Jvm.Cond.methodLink "java/lang/String" (1051 : Nat) ({ cls := "java/lang/StringUTF16", name := "compress", desc := "([BII)[B" } : Jvm.MethodName)) ∈ lw_all := lw_g (lw_at lw_m6 204 rfl) rfl
theorem q1577 : (Jvm.Cond.methodLink "java/lang/String" (47 : Nat) ({ cls := "java/lang/StringUTF16", name := "coderFromArrayLen", desc := "([BI)B" } : Jvm.MethodName)) ∈ lw_all := lw_g (lw_at lw_m6 211 rfl) rfl
theorem q1580 : (Jvm.Cond.fieldLink "java/lang/String" (9 : Nat) "java/lang/String" "value" "[B") ∈ lw_all := lw_g (lw_at lw_m6 214 rfl) rfl
theorem q1581 : (Jvm.Cond.fieldLink "java/lang/String" (15 : Nat) "java/lang/String" "coder" "B") ∈ lw_all := lw_g (lw_at lw_m6 215 rfl) rfl
theorem q1582 : (Jvm.Cond.fieldLink "java/lang/String" (19 : Nat) "java/lang/String" "hash" "I") ∈ lw_all := lw_g (lw_at lw_m6 216 rfl) rfl
theorem q1583 : (Jvm.Cond.fieldLink "java/lang/String" (23 : Nat) "java/lang/String" "hashIsZero" "Z") ∈ lw_all := lw_g (lw_at lw_m6 217 rfl) rfl
theorem q1584 : (Jvm.Cond.lays "java/lang/String" "java/lang/String" "hash" "I") ∈ lw_all := lw_g (lw_at lw_m6 218 rfl) rfl
theorem q1585 : (Jvm.Cond.soleField "java/lang/String" "hash") ∈ lw_all := lw_g (lw_at lw_m6 219 rfl) rfl
theorem q1586 : (Jvm.Cond.lays "java/lang/String" "java/lang/String" "hashIsZero" "Z") ∈ lw_all := lw_g (lw_at lw_m6 220 rfl) rfl
theorem q1587 : (Jvm.Cond.soleField "java/lang/String" "hashIsZero") ∈ lw_all := lw_g (lw_at lw_m6 221 rfl) rfl
theorem q1588 : (Jvm.Cond.superclass "java/lang/String" "java/lang/Object") ∈ lw_all := lw_g (lw_at lw_m6 222 rfl) rfl
theorem q1637 : (Jvm.Cond.static ({ cls := "java/lang/String", name := "checkIndex", desc := "(II)V" } : Jvm.MethodName)) ∈ lw_all := lw_g (lw_at lw_m7 31 rfl) rfl
theorem q1638 : (Jvm.Cond.code ({ cls := "java/lang/String", name := "checkIndex", desc := "(II)V" } : Jvm.MethodName) prog_42_method_155_code (2 : Nat) (Option.none : Option Jvm.ClassFile.FieldType)) ∈ lw_all := lw_g (lw_at lw_m7 32 rfl) rfl
theorem q1639 : (Jvm.Cond.methodLink "java/lang/String" (1059 : Nat) ({ cls := "jdk/internal/util/Preconditions", name := "checkIndex", desc := "(IILjava/util/function/BiFunction;)I" } : Jvm.MethodName)) ∈ lw_all := lw_g (lw_at lw_m7 33 rfl) rfl
theorem q2854 : (Jvm.Cond.instanceMethod ({ cls := "java/lang/String", name := "charAt", desc := "(I)C" } : Jvm.MethodName)) ∈ lw_all := lw_g (lw_at lw_m12 48 rfl) rfl
theorem q2855 : (Jvm.Cond.selects "java/lang/String" ({ cls := "java/lang/String", name := "charAt", desc := "(I)C" } : Jvm.MethodName) ({ cls := "java/lang/String", name := "charAt", desc := "(I)C" } : Jvm.MethodName)) ∈ lw_all := lw_g (lw_at lw_m12 49 rfl) rfl
theorem q2856 : (Jvm.Cond.code ({ cls := "java/lang/String", name := "charAt", desc := "(I)C" } : Jvm.MethodName) prog_42_method_56_code (2 : Nat) (Option.some Jvm.ClassFile.FieldType.char)) ∈ lw_all := lw_g (lw_at lw_m12 50 rfl) rfl
theorem q2857 : (Jvm.Cond.methodLink "java/lang/String" (495 : Nat) ({ cls := "java/lang/StringLatin1", name := "charAt", desc := "([BI)C" } : Jvm.MethodName)) ∈ lw_all := lw_g (lw_at lw_m12 51 rfl) rfl
theorem q2861 : (Jvm.Cond.methodLink "java/lang/String" (498 : Nat) ({ cls := "java/lang/StringUTF16", name := "charAt", desc := "([BI)C" } : Jvm.MethodName)) ∈ lw_all := lw_g (lw_at lw_m12 55 rfl) rfl
theorem q3509 : (Jvm.Cond.selects "java/lang/String" ({ cls := "java/lang/String", name := "equals", desc := "(Ljava/lang/Object;)Z" } : Jvm.MethodName) ({ cls := "java/lang/String", name := "equals", desc := "(Ljava/lang/Object;)Z" } : Jvm.MethodName)) ∈ lw_all := lw_g (lw_at lw_m14 223 rfl) rfl
theorem q3519 : (Jvm.Cond.castable "java/lang/String" "java/lang/Object") ∈ lw_tbl := lw_at lw_m14 233 rfl
theorem in_J8 : ∀ w ∈ wsJ80, w ∈ lw_all := lw_in wsJ80 [318, 320, 1584, 1586] (by decide +kernel) (by decide +kernel)
/-! java/lang/Number -/
set_option maxRecDepth 100000
def RJ14 : String := "java/lang/Number"
abbrev cJ14_init : ByteArray := prog_40_method_1_code
def yJ14_init : MethodName := ⟨RJ14, "<init>", "()V"⟩
theorem dJ14_init_0 : decode cJ14_init 0 = .ok (.aload_n 0, 1) := by decide +kernel
theorem dJ14_init_1 : decode cJ14_init 1 = .ok (.invokespecial 1, 3) := by decide +kernel
theorem dJ14_init_4 : decode cJ14_init 4 = .ok (.return_, 1) := by decide +kernel
theorem q190 : (Jvm.Cond.initialized "java/lang/Number") ∈ lw_all := lw_g (lw_at lw_m1 24 rfl) rfl
theorem q829 : (Jvm.Cond.instanceMethod ({ cls := "java/lang/Number", name := "<init>", desc := "()V" } : Jvm.MethodName)) ∈ lw_all := lw_g (lw_at lw_m3 183 rfl) rfl
theorem q830 : (Jvm.Cond.code ({ cls := "java/lang/Number", name := "<init>", desc := "()V" } : Jvm.MethodName) prog_40_method_1_code (1 : Nat) (Option.none : Option Jvm.ClassFile.FieldType)) ∈ lw_all := lw_g (lw_at lw_m3 184 rfl) rfl
theorem q831 : (Jvm.Cond.methodLink "java/lang/Number" (1 : Nat) ({ cls := "java/lang/Object", name := "<init>", desc := "()V" } : Jvm.MethodName)) ∈ lw_all := lw_g (lw_at lw_m3 185 rfl) rfl
/-! java/lang/Integer -/
set_option maxRecDepth 100000
def RJ15 : String := "java/lang/Integer"
def TJ15 : u_T := fun k => match k with
  | _ => ("java/lang/Integer", "value", "I", true)
def tyJ15 : Nat → FieldType := fun k => match k with
  | _ => .int
abbrev wsJ150 : List Cond := u_ws RJ15 TJ15 1
theorem nmJ15 : ∀ a, a < 1 → ∀ b, b < 1 → a ≠ b → (TJ15 a).2.1 ≠ (TJ15 b).2.1 := by decide +kernel
theorem tyJ15_ok : ∀ k, k < 1 → parseFieldDescriptor (TJ15 k).2.2.1 = some (tyJ15 k) := by decide +kernel
abbrev cJ15_valueOf : ByteArray := prog_33_method_22_code
def yJ15_valueOf : MethodName := ⟨RJ15, "valueOf", "(I)Ljava/lang/Integer;"⟩
def dkwJ15_valueOf_1 : List UInt8 := [187, 0, 1, 89, 26, 183, 0, 199, 176]
abbrev dktJ15_valueOf_1 : List UInt8 := dkwJ15_valueOf_1 ++ []
def dkwJ15_valueOf_0 : List UInt8 := [26, 16, 128, 161, 0, 20, 26, 178, 0, 191, 163, 0, 13, 178, 0, 195, 26, 17, 0, 128, 96, 50, 176]
abbrev dktJ15_valueOf_0 : List UInt8 := dkwJ15_valueOf_0 ++ dktJ15_valueOf_1
theorem dksJ15_valueOf_0 : cJ15_valueOf.data.toList.drop 0 = dktJ15_valueOf_0 := by decide +kernel
theorem dksJ15_valueOf_1 : cJ15_valueOf.data.toList.drop 23 = dktJ15_valueOf_1 := dk_seg dksJ15_valueOf_0 23 rfl rfl
theorem dJ15_valueOf_0 : decode cJ15_valueOf 0 = .ok (.iload_n 0, 1) := dk_26 (dk_at dksJ15_valueOf_0 0 rfl rfl)
theorem dJ15_valueOf_1 : decode cJ15_valueOf 1 = .ok (.bipush (-128), 2) := dk_16 128 (dk_at dksJ15_valueOf_0 1 rfl rfl)
theorem dJ15_valueOf_3 : decode cJ15_valueOf 3 = .ok (.if_icmp .lt 20, 3) := dk_161 0 20 (dk_at dksJ15_valueOf_0 3 rfl rfl)
theorem dJ15_valueOf_6 : decode cJ15_valueOf 6 = .ok (.iload_n 0, 1) := dk_26 (dk_at dksJ15_valueOf_0 6 rfl rfl)
theorem dJ15_valueOf_7 : decode cJ15_valueOf 7 = .ok (.getstatic 191, 3) := dk_178 0 191 (dk_at dksJ15_valueOf_0 7 rfl rfl)
theorem dJ15_valueOf_10 : decode cJ15_valueOf 10 = .ok (.if_icmp .gt 13, 3) := dk_163 0 13 (dk_at dksJ15_valueOf_0 10 rfl rfl)
theorem dJ15_valueOf_13 : decode cJ15_valueOf 13 = .ok (.getstatic 195, 3) := dk_178 0 195 (dk_at dksJ15_valueOf_0 13 rfl rfl)
theorem dJ15_valueOf_16 : decode cJ15_valueOf 16 = .ok (.iload_n 0, 1) := dk_26 (dk_at dksJ15_valueOf_0 16 rfl rfl)
theorem dJ15_valueOf_17 : decode cJ15_valueOf 17 = .ok (.sipush 128, 3) := dk_17 0 128 (dk_at dksJ15_valueOf_0 17 rfl rfl)
theorem dJ15_valueOf_20 : decode cJ15_valueOf 20 = .ok (.iadd, 1) := dk_96 (dk_at dksJ15_valueOf_0 20 rfl rfl)
theorem dJ15_valueOf_21 : decode cJ15_valueOf 21 = .ok (.aaload, 1) := dk_50 (dk_at dksJ15_valueOf_0 21 rfl rfl)
theorem dJ15_valueOf_22 : decode cJ15_valueOf 22 = .ok (.areturn, 1) := dk_176 (dk_at dksJ15_valueOf_0 22 rfl rfl)
theorem dJ15_valueOf_23 : decode cJ15_valueOf 23 = .ok (.new 1, 3) := dk_187 0 1 (dk_at dksJ15_valueOf_1 0 rfl rfl)
theorem dJ15_valueOf_26 : decode cJ15_valueOf 26 = .ok (.dup, 1) := dk_89 (dk_at dksJ15_valueOf_1 3 rfl rfl)
theorem dJ15_valueOf_27 : decode cJ15_valueOf 27 = .ok (.iload_n 0, 1) := dk_26 (dk_at dksJ15_valueOf_1 4 rfl rfl)
theorem dJ15_valueOf_28 : decode cJ15_valueOf 28 = .ok (.invokespecial 199, 3) := dk_183 0 199 (dk_at dksJ15_valueOf_1 5 rfl rfl)
theorem dJ15_valueOf_31 : decode cJ15_valueOf 31 = .ok (.areturn, 1) := dk_176 (dk_at dksJ15_valueOf_1 8 rfl rfl)
abbrev cJ15_init : ByteArray := prog_33_method_23_code
def yJ15_init : MethodName := ⟨RJ15, "<init>", "(I)V"⟩
def dkwJ15_init_0 : List UInt8 := [42, 183, 0, 202, 42, 27, 181, 0, 205, 177]
abbrev dktJ15_init_0 : List UInt8 := dkwJ15_init_0 ++ []
theorem dksJ15_init_0 : cJ15_init.data.toList.drop 0 = dktJ15_init_0 := by decide +kernel
theorem dJ15_init_0 : decode cJ15_init 0 = .ok (.aload_n 0, 1) := dk_42 (dk_at dksJ15_init_0 0 rfl rfl)
theorem dJ15_init_1 : decode cJ15_init 1 = .ok (.invokespecial 202, 3) := dk_183 0 202 (dk_at dksJ15_init_0 1 rfl rfl)
theorem dJ15_init_4 : decode cJ15_init 4 = .ok (.aload_n 0, 1) := dk_42 (dk_at dksJ15_init_0 4 rfl rfl)
theorem dJ15_init_5 : decode cJ15_init 5 = .ok (.iload_n 1, 1) := dk_27 (dk_at dksJ15_init_0 5 rfl rfl)
theorem dJ15_init_6 : decode cJ15_init 6 = .ok (.putfield 205, 3) := dk_181 0 205 (dk_at dksJ15_init_0 6 rfl rfl)
theorem dJ15_init_9 : decode cJ15_init 9 = .ok (.return_, 1) := dk_177 (dk_at dksJ15_init_0 9 rfl rfl)
abbrev cJ15_hashCode : ByteArray := prog_33_method_32_code
def yJ15_hashCode : MethodName := ⟨RJ15, "hashCode", "()I"⟩
def dkwJ15_hashCode_0 : List UInt8 := [42, 180, 0, 205, 184, 0, 208, 172]
abbrev dktJ15_hashCode_0 : List UInt8 := dkwJ15_hashCode_0 ++ []
theorem dksJ15_hashCode_0 : cJ15_hashCode.data.toList.drop 0 = dktJ15_hashCode_0 := by decide +kernel
theorem dJ15_hashCode_0 : decode cJ15_hashCode 0 = .ok (.aload_n 0, 1) := dk_42 (dk_at dksJ15_hashCode_0 0 rfl rfl)
theorem dJ15_hashCode_1 : decode cJ15_hashCode 1 = .ok (.getfield 205, 3) := dk_180 0 205 (dk_at dksJ15_hashCode_0 1 rfl rfl)
theorem dJ15_hashCode_4 : decode cJ15_hashCode 4 = .ok (.invokestatic 208, 3) := dk_184 0 208 (dk_at dksJ15_hashCode_0 4 rfl rfl)
theorem dJ15_hashCode_7 : decode cJ15_hashCode 7 = .ok (.ireturn, 1) := dk_172 (dk_at dksJ15_hashCode_0 7 rfl rfl)
abbrev cJ15_hashCode_2 : ByteArray := prog_33_method_33_code
def yJ15_hashCode_2 : MethodName := ⟨RJ15, "hashCode", "(I)I"⟩
theorem dJ15_hashCode_2_0 : decode cJ15_hashCode_2 0 = .ok (.iload_n 0, 1) := by decide +kernel
theorem dJ15_hashCode_2_1 : decode cJ15_hashCode_2 1 = .ok (.ireturn, 1) := by decide +kernel
abbrev cJ15_compareTo : ByteArray := prog_33_method_63_code
def yJ15_compareTo : MethodName := ⟨RJ15, "compareTo", "(Ljava/lang/Object;)I"⟩
def dkwJ15_compareTo_0 : List UInt8 := [42, 43, 192, 0, 1, 182, 1, 28, 172]
abbrev dktJ15_compareTo_0 : List UInt8 := dkwJ15_compareTo_0 ++ []
theorem dksJ15_compareTo_0 : cJ15_compareTo.data.toList.drop 0 = dktJ15_compareTo_0 := by decide +kernel
theorem dJ15_compareTo_0 : decode cJ15_compareTo 0 = .ok (.aload_n 0, 1) := dk_42 (dk_at dksJ15_compareTo_0 0 rfl rfl)
theorem dJ15_compareTo_1 : decode cJ15_compareTo 1 = .ok (.aload_n 1, 1) := dk_43 (dk_at dksJ15_compareTo_0 1 rfl rfl)
theorem dJ15_compareTo_2 : decode cJ15_compareTo 2 = .ok (.checkcast 1, 3) := dk_192 0 1 (dk_at dksJ15_compareTo_0 2 rfl rfl)
theorem dJ15_compareTo_5 : decode cJ15_compareTo 5 = .ok (.invokevirtual 284, 3) := dk_182 1 28 (dk_at dksJ15_compareTo_0 5 rfl rfl)
theorem dJ15_compareTo_8 : decode cJ15_compareTo 8 = .ok (.ireturn, 1) := dk_172 (dk_at dksJ15_compareTo_0 8 rfl rfl)
abbrev cJ15_compareTo_2 : ByteArray := prog_33_method_39_code
def yJ15_compareTo_2 : MethodName := ⟨RJ15, "compareTo", "(Ljava/lang/Integer;)I"⟩
def dkwJ15_compareTo_2_0 : List UInt8 := [42, 180, 0, 205, 43, 180, 0, 205, 184, 1, 3, 172]
abbrev dktJ15_compareTo_2_0 : List UInt8 := dkwJ15_compareTo_2_0 ++ []
theorem dksJ15_compareTo_2_0 : cJ15_compareTo_2.data.toList.drop 0 = dktJ15_compareTo_2_0 := by decide +kernel
theorem dJ15_compareTo_2_0 : decode cJ15_compareTo_2 0 = .ok (.aload_n 0, 1) := dk_42 (dk_at dksJ15_compareTo_2_0 0 rfl rfl)
theorem dJ15_compareTo_2_1 : decode cJ15_compareTo_2 1 = .ok (.getfield 205, 3) := dk_180 0 205 (dk_at dksJ15_compareTo_2_0 1 rfl rfl)
theorem dJ15_compareTo_2_4 : decode cJ15_compareTo_2 4 = .ok (.aload_n 1, 1) := dk_43 (dk_at dksJ15_compareTo_2_0 4 rfl rfl)
theorem dJ15_compareTo_2_5 : decode cJ15_compareTo_2 5 = .ok (.getfield 205, 3) := dk_180 0 205 (dk_at dksJ15_compareTo_2_0 5 rfl rfl)
theorem dJ15_compareTo_2_8 : decode cJ15_compareTo_2 8 = .ok (.invokestatic 259, 3) := dk_184 1 3 (dk_at dksJ15_compareTo_2_0 8 rfl rfl)
theorem dJ15_compareTo_2_11 : decode cJ15_compareTo_2 11 = .ok (.ireturn, 1) := dk_172 (dk_at dksJ15_compareTo_2_0 11 rfl rfl)
abbrev cJ15_compare : ByteArray := prog_33_method_40_code
def yJ15_compare : MethodName := ⟨RJ15, "compare", "(II)I"⟩
def dkwJ15_compare_0 : List UInt8 := [26, 27, 162, 0, 7, 2, 167, 0, 13, 26, 27, 160, 0, 7, 3, 167, 0, 4, 4, 172]
abbrev dktJ15_compare_0 : List UInt8 := dkwJ15_compare_0 ++ []
theorem dksJ15_compare_0 : cJ15_compare.data.toList.drop 0 = dktJ15_compare_0 := by decide +kernel
theorem dJ15_compare_0 : decode cJ15_compare 0 = .ok (.iload_n 0, 1) := dk_26 (dk_at dksJ15_compare_0 0 rfl rfl)
theorem dJ15_compare_1 : decode cJ15_compare 1 = .ok (.iload_n 1, 1) := dk_27 (dk_at dksJ15_compare_0 1 rfl rfl)
theorem dJ15_compare_2 : decode cJ15_compare 2 = .ok (.if_icmp .ge 7, 3) := dk_162 0 7 (dk_at dksJ15_compare_0 2 rfl rfl)
theorem dJ15_compare_5 : decode cJ15_compare 5 = .ok (.iconst (-1), 1) := dk_2 (dk_at dksJ15_compare_0 5 rfl rfl)
theorem dJ15_compare_6 : decode cJ15_compare 6 = .ok (.goto 13, 3) := dk_167 0 13 (dk_at dksJ15_compare_0 6 rfl rfl)
theorem dJ15_compare_9 : decode cJ15_compare 9 = .ok (.iload_n 0, 1) := dk_26 (dk_at dksJ15_compare_0 9 rfl rfl)
theorem dJ15_compare_10 : decode cJ15_compare 10 = .ok (.iload_n 1, 1) := dk_27 (dk_at dksJ15_compare_0 10 rfl rfl)
theorem dJ15_compare_11 : decode cJ15_compare 11 = .ok (.if_icmp .ne 7, 3) := dk_160 0 7 (dk_at dksJ15_compare_0 11 rfl rfl)
theorem dJ15_compare_14 : decode cJ15_compare 14 = .ok (.iconst 0, 1) := dk_3 (dk_at dksJ15_compare_0 14 rfl rfl)
theorem dJ15_compare_15 : decode cJ15_compare 15 = .ok (.goto 4, 3) := dk_167 0 4 (dk_at dksJ15_compare_0 15 rfl rfl)
theorem dJ15_compare_18 : decode cJ15_compare 18 = .ok (.iconst 1, 1) := dk_4 (dk_at dksJ15_compare_0 18 rfl rfl)
theorem dJ15_compare_19 : decode cJ15_compare 19 = .ok (.ireturn, 1) := dk_172 (dk_at dksJ15_compare_0 19 rfl rfl)
abbrev cJ15_numberOfLeadingZeros : ByteArray := prog_33_method_47_code
def yJ15_numberOfLeadingZeros : MethodName := ⟨RJ15, "numberOfLeadingZeros", "(I)I"⟩
def dkwJ15_numberOfLeadingZeros_3 : List UInt8 := [5, 124, 59, 27, 26, 4, 124, 100, 172]
abbrev dktJ15_numberOfLeadingZeros_3 : List UInt8 := dkwJ15_numberOfLeadingZeros_3 ++ []
def dkwJ15_numberOfLeadingZeros_2 : List UInt8 := [124, 59, 26, 16, 16, 161, 0, 10, 132, 1, 252, 26, 7, 124, 59, 26, 7, 161, 0, 10, 132, 1, 254, 26]
abbrev dktJ15_numberOfLeadingZeros_2 : List UInt8 := dkwJ15_numberOfLeadingZeros_2 ++ dktJ15_numberOfLeadingZeros_3
def dkwJ15_numberOfLeadingZeros_1 : List UInt8 := [161, 0, 11, 132, 1, 240, 26, 16, 16, 124, 59, 26, 17, 1, 0, 161, 0, 11, 132, 1, 248, 26, 16, 8]
abbrev dktJ15_numberOfLeadingZeros_1 : List UInt8 := dkwJ15_numberOfLeadingZeros_1 ++ dktJ15_numberOfLeadingZeros_2
def dkwJ15_numberOfLeadingZeros_0 : List UInt8 := [26, 157, 0, 14, 26, 154, 0, 8, 16, 32, 167, 0, 4, 3, 172, 16, 31, 60, 26, 19, 1, 8]
abbrev dktJ15_numberOfLeadingZeros_0 : List UInt8 := dkwJ15_numberOfLeadingZeros_0 ++ dktJ15_numberOfLeadingZeros_1
theorem dksJ15_numberOfLeadingZeros_0 : cJ15_numberOfLeadingZeros.data.toList.drop 0 = dktJ15_numberOfLeadingZeros_0 := by decide +kernel
theorem dksJ15_numberOfLeadingZeros_1 : cJ15_numberOfLeadingZeros.data.toList.drop 22 = dktJ15_numberOfLeadingZeros_1 := dk_seg dksJ15_numberOfLeadingZeros_0 22 rfl rfl
theorem dksJ15_numberOfLeadingZeros_2 : cJ15_numberOfLeadingZeros.data.toList.drop 46 = dktJ15_numberOfLeadingZeros_2 := dk_seg dksJ15_numberOfLeadingZeros_1 24 rfl rfl
theorem dksJ15_numberOfLeadingZeros_3 : cJ15_numberOfLeadingZeros.data.toList.drop 70 = dktJ15_numberOfLeadingZeros_3 := dk_seg dksJ15_numberOfLeadingZeros_2 24 rfl rfl
theorem dJ15_numberOfLeadingZeros_0 : decode cJ15_numberOfLeadingZeros 0 = .ok (.iload_n 0, 1) := dk_26 (dk_at dksJ15_numberOfLeadingZeros_0 0 rfl rfl)
theorem dJ15_numberOfLeadingZeros_1 : decode cJ15_numberOfLeadingZeros 1 = .ok (.ifCond .gt 14, 3) := dk_157 0 14 (dk_at dksJ15_numberOfLeadingZeros_0 1 rfl rfl)
theorem dJ15_numberOfLeadingZeros_4 : decode cJ15_numberOfLeadingZeros 4 = .ok (.iload_n 0, 1) := dk_26 (dk_at dksJ15_numberOfLeadingZeros_0 4 rfl rfl)
theorem dJ15_numberOfLeadingZeros_5 : decode cJ15_numberOfLeadingZeros 5 = .ok (.ifCond .ne 8, 3) := dk_154 0 8 (dk_at dksJ15_numberOfLeadingZeros_0 5 rfl rfl)
theorem dJ15_numberOfLeadingZeros_8 : decode cJ15_numberOfLeadingZeros 8 = .ok (.bipush 32, 2) := dk_16 32 (dk_at dksJ15_numberOfLeadingZeros_0 8 rfl rfl)
theorem dJ15_numberOfLeadingZeros_10 : decode cJ15_numberOfLeadingZeros 10 = .ok (.goto 4, 3) := dk_167 0 4 (dk_at dksJ15_numberOfLeadingZeros_0 10 rfl rfl)
theorem dJ15_numberOfLeadingZeros_13 : decode cJ15_numberOfLeadingZeros 13 = .ok (.iconst 0, 1) := dk_3 (dk_at dksJ15_numberOfLeadingZeros_0 13 rfl rfl)
theorem dJ15_numberOfLeadingZeros_14 : decode cJ15_numberOfLeadingZeros 14 = .ok (.ireturn, 1) := dk_172 (dk_at dksJ15_numberOfLeadingZeros_0 14 rfl rfl)
theorem dJ15_numberOfLeadingZeros_15 : decode cJ15_numberOfLeadingZeros 15 = .ok (.bipush 31, 2) := dk_16 31 (dk_at dksJ15_numberOfLeadingZeros_0 15 rfl rfl)
theorem dJ15_numberOfLeadingZeros_17 : decode cJ15_numberOfLeadingZeros 17 = .ok (.istore_n 1, 1) := dk_60 (dk_at dksJ15_numberOfLeadingZeros_0 17 rfl rfl)
theorem dJ15_numberOfLeadingZeros_18 : decode cJ15_numberOfLeadingZeros 18 = .ok (.iload_n 0, 1) := dk_26 (dk_at dksJ15_numberOfLeadingZeros_0 18 rfl rfl)
theorem dJ15_numberOfLeadingZeros_19 : decode cJ15_numberOfLeadingZeros 19 = .ok (.ldc_w 264, 3) := dk_19 1 8 (dk_at dksJ15_numberOfLeadingZeros_0 19 rfl rfl)
theorem dJ15_numberOfLeadingZeros_22 : decode cJ15_numberOfLeadingZeros 22 = .ok (.if_icmp .lt 11, 3) := dk_161 0 11 (dk_at dksJ15_numberOfLeadingZeros_1 0 rfl rfl)
theorem dJ15_numberOfLeadingZeros_25 : decode cJ15_numberOfLeadingZeros 25 = .ok (.iinc 1 (-16), 3) := dk_132 1 240 (dk_at dksJ15_numberOfLeadingZeros_1 3 rfl rfl)
theorem dJ15_numberOfLeadingZeros_28 : decode cJ15_numberOfLeadingZeros 28 = .ok (.iload_n 0, 1) := dk_26 (dk_at dksJ15_numberOfLeadingZeros_1 6 rfl rfl)
theorem dJ15_numberOfLeadingZeros_29 : decode cJ15_numberOfLeadingZeros 29 = .ok (.bipush 16, 2) := dk_16 16 (dk_at dksJ15_numberOfLeadingZeros_1 7 rfl rfl)
theorem dJ15_numberOfLeadingZeros_31 : decode cJ15_numberOfLeadingZeros 31 = .ok (.iushr, 1) := dk_124 (dk_at dksJ15_numberOfLeadingZeros_1 9 rfl rfl)
theorem dJ15_numberOfLeadingZeros_32 : decode cJ15_numberOfLeadingZeros 32 = .ok (.istore_n 0, 1) := dk_59 (dk_at dksJ15_numberOfLeadingZeros_1 10 rfl rfl)
theorem dJ15_numberOfLeadingZeros_33 : decode cJ15_numberOfLeadingZeros 33 = .ok (.iload_n 0, 1) := dk_26 (dk_at dksJ15_numberOfLeadingZeros_1 11 rfl rfl)
theorem dJ15_numberOfLeadingZeros_34 : decode cJ15_numberOfLeadingZeros 34 = .ok (.sipush 256, 3) := dk_17 1 0 (dk_at dksJ15_numberOfLeadingZeros_1 12 rfl rfl)
theorem dJ15_numberOfLeadingZeros_37 : decode cJ15_numberOfLeadingZeros 37 = .ok (.if_icmp .lt 11, 3) := dk_161 0 11 (dk_at dksJ15_numberOfLeadingZeros_1 15 rfl rfl)
theorem dJ15_numberOfLeadingZeros_40 : decode cJ15_numberOfLeadingZeros 40 = .ok (.iinc 1 (-8), 3) := dk_132 1 248 (dk_at dksJ15_numberOfLeadingZeros_1 18 rfl rfl)
theorem dJ15_numberOfLeadingZeros_43 : decode cJ15_numberOfLeadingZeros 43 = .ok (.iload_n 0, 1) := dk_26 (dk_at dksJ15_numberOfLeadingZeros_1 21 rfl rfl)
theorem dJ15_numberOfLeadingZeros_44 : decode cJ15_numberOfLeadingZeros 44 = .ok (.bipush 8, 2) := dk_16 8 (dk_at dksJ15_numberOfLeadingZeros_1 22 rfl rfl)
theorem dJ15_numberOfLeadingZeros_46 : decode cJ15_numberOfLeadingZeros 46 = .ok (.iushr, 1) := dk_124 (dk_at dksJ15_numberOfLeadingZeros_2 0 rfl rfl)
theorem dJ15_numberOfLeadingZeros_47 : decode cJ15_numberOfLeadingZeros 47 = .ok (.istore_n 0, 1) := dk_59 (dk_at dksJ15_numberOfLeadingZeros_2 1 rfl rfl)
theorem dJ15_numberOfLeadingZeros_48 : decode cJ15_numberOfLeadingZeros 48 = .ok (.iload_n 0, 1) := dk_26 (dk_at dksJ15_numberOfLeadingZeros_2 2 rfl rfl)
theorem dJ15_numberOfLeadingZeros_49 : decode cJ15_numberOfLeadingZeros 49 = .ok (.bipush 16, 2) := dk_16 16 (dk_at dksJ15_numberOfLeadingZeros_2 3 rfl rfl)
theorem dJ15_numberOfLeadingZeros_51 : decode cJ15_numberOfLeadingZeros 51 = .ok (.if_icmp .lt 10, 3) := dk_161 0 10 (dk_at dksJ15_numberOfLeadingZeros_2 5 rfl rfl)
theorem dJ15_numberOfLeadingZeros_54 : decode cJ15_numberOfLeadingZeros 54 = .ok (.iinc 1 (-4), 3) := dk_132 1 252 (dk_at dksJ15_numberOfLeadingZeros_2 8 rfl rfl)
theorem dJ15_numberOfLeadingZeros_57 : decode cJ15_numberOfLeadingZeros 57 = .ok (.iload_n 0, 1) := dk_26 (dk_at dksJ15_numberOfLeadingZeros_2 11 rfl rfl)
theorem dJ15_numberOfLeadingZeros_58 : decode cJ15_numberOfLeadingZeros 58 = .ok (.iconst 4, 1) := dk_7 (dk_at dksJ15_numberOfLeadingZeros_2 12 rfl rfl)
theorem dJ15_numberOfLeadingZeros_59 : decode cJ15_numberOfLeadingZeros 59 = .ok (.iushr, 1) := dk_124 (dk_at dksJ15_numberOfLeadingZeros_2 13 rfl rfl)
theorem dJ15_numberOfLeadingZeros_60 : decode cJ15_numberOfLeadingZeros 60 = .ok (.istore_n 0, 1) := dk_59 (dk_at dksJ15_numberOfLeadingZeros_2 14 rfl rfl)
theorem dJ15_numberOfLeadingZeros_61 : decode cJ15_numberOfLeadingZeros 61 = .ok (.iload_n 0, 1) := dk_26 (dk_at dksJ15_numberOfLeadingZeros_2 15 rfl rfl)
theorem dJ15_numberOfLeadingZeros_62 : decode cJ15_numberOfLeadingZeros 62 = .ok (.iconst 4, 1) := dk_7 (dk_at dksJ15_numberOfLeadingZeros_2 16 rfl rfl)
theorem dJ15_numberOfLeadingZeros_63 : decode cJ15_numberOfLeadingZeros 63 = .ok (.if_icmp .lt 10, 3) := dk_161 0 10 (dk_at dksJ15_numberOfLeadingZeros_2 17 rfl rfl)
theorem dJ15_numberOfLeadingZeros_66 : decode cJ15_numberOfLeadingZeros 66 = .ok (.iinc 1 (-2), 3) := dk_132 1 254 (dk_at dksJ15_numberOfLeadingZeros_2 20 rfl rfl)
theorem dJ15_numberOfLeadingZeros_69 : decode cJ15_numberOfLeadingZeros 69 = .ok (.iload_n 0, 1) := dk_26 (dk_at dksJ15_numberOfLeadingZeros_2 23 rfl rfl)
theorem dJ15_numberOfLeadingZeros_70 : decode cJ15_numberOfLeadingZeros 70 = .ok (.iconst 2, 1) := dk_5 (dk_at dksJ15_numberOfLeadingZeros_3 0 rfl rfl)
theorem dJ15_numberOfLeadingZeros_71 : decode cJ15_numberOfLeadingZeros 71 = .ok (.iushr, 1) := dk_124 (dk_at dksJ15_numberOfLeadingZeros_3 1 rfl rfl)
theorem dJ15_numberOfLeadingZeros_72 : decode cJ15_numberOfLeadingZeros 72 = .ok (.istore_n 0, 1) := dk_59 (dk_at dksJ15_numberOfLeadingZeros_3 2 rfl rfl)
theorem dJ15_numberOfLeadingZeros_73 : decode cJ15_numberOfLeadingZeros 73 = .ok (.iload_n 1, 1) := dk_27 (dk_at dksJ15_numberOfLeadingZeros_3 3 rfl rfl)
theorem dJ15_numberOfLeadingZeros_74 : decode cJ15_numberOfLeadingZeros 74 = .ok (.iload_n 0, 1) := dk_26 (dk_at dksJ15_numberOfLeadingZeros_3 4 rfl rfl)
theorem dJ15_numberOfLeadingZeros_75 : decode cJ15_numberOfLeadingZeros 75 = .ok (.iconst 1, 1) := dk_4 (dk_at dksJ15_numberOfLeadingZeros_3 5 rfl rfl)
theorem dJ15_numberOfLeadingZeros_76 : decode cJ15_numberOfLeadingZeros 76 = .ok (.iushr, 1) := dk_124 (dk_at dksJ15_numberOfLeadingZeros_3 6 rfl rfl)
theorem dJ15_numberOfLeadingZeros_77 : decode cJ15_numberOfLeadingZeros 77 = .ok (.isub, 1) := dk_100 (dk_at dksJ15_numberOfLeadingZeros_3 7 rfl rfl)
theorem dJ15_numberOfLeadingZeros_78 : decode cJ15_numberOfLeadingZeros 78 = .ok (.ireturn, 1) := dk_172 (dk_at dksJ15_numberOfLeadingZeros_3 8 rfl rfl)
abbrev cJ15_numberOfTrailingZeros : ByteArray := prog_33_method_48_code
def yJ15_numberOfTrailingZeros : MethodName := ⟨RJ15, "numberOfTrailingZeros", "(I)I"⟩
def dkwJ15_numberOfTrailingZeros_3 : List UInt8 := [5, 124, 59, 27, 26, 4, 124, 96, 172]
abbrev dktJ15_numberOfTrailingZeros_3 : List UInt8 := dkwJ15_numberOfTrailingZeros_3 ++ []
def dkwJ15_numberOfTrailingZeros_2 : List UInt8 := [124, 59, 26, 16, 16, 164, 0, 10, 132, 1, 4, 26, 7, 124, 59, 26, 7, 164, 0, 10, 132, 1, 2, 26]
abbrev dktJ15_numberOfTrailingZeros_2 : List UInt8 := dkwJ15_numberOfTrailingZeros_2 ++ dktJ15_numberOfTrailingZeros_3
def dkwJ15_numberOfTrailingZeros_1 : List UInt8 := [164, 0, 11, 132, 1, 16, 26, 16, 16, 124, 59, 26, 17, 1, 0, 164, 0, 11, 132, 1, 8, 26, 16, 8]
abbrev dktJ15_numberOfTrailingZeros_1 : List UInt8 := dkwJ15_numberOfTrailingZeros_1 ++ dktJ15_numberOfTrailingZeros_2
def dkwJ15_numberOfTrailingZeros_0 : List UInt8 := [26, 2, 130, 26, 4, 100, 126, 59, 26, 157, 0, 8, 26, 16, 32, 126, 172, 4, 60, 26, 19, 1, 8]
abbrev dktJ15_numberOfTrailingZeros_0 : List UInt8 := dkwJ15_numberOfTrailingZeros_0 ++ dktJ15_numberOfTrailingZeros_1
theorem dksJ15_numberOfTrailingZeros_0 : cJ15_numberOfTrailingZeros.data.toList.drop 0 = dktJ15_numberOfTrailingZeros_0 := by decide +kernel
theorem dksJ15_numberOfTrailingZeros_1 : cJ15_numberOfTrailingZeros.data.toList.drop 23 = dktJ15_numberOfTrailingZeros_1 := dk_seg dksJ15_numberOfTrailingZeros_0 23 rfl rfl
theorem dksJ15_numberOfTrailingZeros_2 : cJ15_numberOfTrailingZeros.data.toList.drop 47 = dktJ15_numberOfTrailingZeros_2 := dk_seg dksJ15_numberOfTrailingZeros_1 24 rfl rfl
theorem dksJ15_numberOfTrailingZeros_3 : cJ15_numberOfTrailingZeros.data.toList.drop 71 = dktJ15_numberOfTrailingZeros_3 := dk_seg dksJ15_numberOfTrailingZeros_2 24 rfl rfl
theorem dJ15_numberOfTrailingZeros_0 : decode cJ15_numberOfTrailingZeros 0 = .ok (.iload_n 0, 1) := dk_26 (dk_at dksJ15_numberOfTrailingZeros_0 0 rfl rfl)
theorem dJ15_numberOfTrailingZeros_1 : decode cJ15_numberOfTrailingZeros 1 = .ok (.iconst (-1), 1) := dk_2 (dk_at dksJ15_numberOfTrailingZeros_0 1 rfl rfl)
theorem dJ15_numberOfTrailingZeros_2 : decode cJ15_numberOfTrailingZeros 2 = .ok (.ixor, 1) := dk_130 (dk_at dksJ15_numberOfTrailingZeros_0 2 rfl rfl)
theorem dJ15_numberOfTrailingZeros_3 : decode cJ15_numberOfTrailingZeros 3 = .ok (.iload_n 0, 1) := dk_26 (dk_at dksJ15_numberOfTrailingZeros_0 3 rfl rfl)
theorem dJ15_numberOfTrailingZeros_4 : decode cJ15_numberOfTrailingZeros 4 = .ok (.iconst 1, 1) := dk_4 (dk_at dksJ15_numberOfTrailingZeros_0 4 rfl rfl)
theorem dJ15_numberOfTrailingZeros_5 : decode cJ15_numberOfTrailingZeros 5 = .ok (.isub, 1) := dk_100 (dk_at dksJ15_numberOfTrailingZeros_0 5 rfl rfl)
theorem dJ15_numberOfTrailingZeros_6 : decode cJ15_numberOfTrailingZeros 6 = .ok (.iand, 1) := dk_126 (dk_at dksJ15_numberOfTrailingZeros_0 6 rfl rfl)
theorem dJ15_numberOfTrailingZeros_7 : decode cJ15_numberOfTrailingZeros 7 = .ok (.istore_n 0, 1) := dk_59 (dk_at dksJ15_numberOfTrailingZeros_0 7 rfl rfl)
theorem dJ15_numberOfTrailingZeros_8 : decode cJ15_numberOfTrailingZeros 8 = .ok (.iload_n 0, 1) := dk_26 (dk_at dksJ15_numberOfTrailingZeros_0 8 rfl rfl)
theorem dJ15_numberOfTrailingZeros_9 : decode cJ15_numberOfTrailingZeros 9 = .ok (.ifCond .gt 8, 3) := dk_157 0 8 (dk_at dksJ15_numberOfTrailingZeros_0 9 rfl rfl)
theorem dJ15_numberOfTrailingZeros_12 : decode cJ15_numberOfTrailingZeros 12 = .ok (.iload_n 0, 1) := dk_26 (dk_at dksJ15_numberOfTrailingZeros_0 12 rfl rfl)
theorem dJ15_numberOfTrailingZeros_13 : decode cJ15_numberOfTrailingZeros 13 = .ok (.bipush 32, 2) := dk_16 32 (dk_at dksJ15_numberOfTrailingZeros_0 13 rfl rfl)
theorem dJ15_numberOfTrailingZeros_15 : decode cJ15_numberOfTrailingZeros 15 = .ok (.iand, 1) := dk_126 (dk_at dksJ15_numberOfTrailingZeros_0 15 rfl rfl)
theorem dJ15_numberOfTrailingZeros_16 : decode cJ15_numberOfTrailingZeros 16 = .ok (.ireturn, 1) := dk_172 (dk_at dksJ15_numberOfTrailingZeros_0 16 rfl rfl)
theorem dJ15_numberOfTrailingZeros_17 : decode cJ15_numberOfTrailingZeros 17 = .ok (.iconst 1, 1) := dk_4 (dk_at dksJ15_numberOfTrailingZeros_0 17 rfl rfl)
theorem dJ15_numberOfTrailingZeros_18 : decode cJ15_numberOfTrailingZeros 18 = .ok (.istore_n 1, 1) := dk_60 (dk_at dksJ15_numberOfTrailingZeros_0 18 rfl rfl)
theorem dJ15_numberOfTrailingZeros_19 : decode cJ15_numberOfTrailingZeros 19 = .ok (.iload_n 0, 1) := dk_26 (dk_at dksJ15_numberOfTrailingZeros_0 19 rfl rfl)
theorem dJ15_numberOfTrailingZeros_20 : decode cJ15_numberOfTrailingZeros 20 = .ok (.ldc_w 264, 3) := dk_19 1 8 (dk_at dksJ15_numberOfTrailingZeros_0 20 rfl rfl)
theorem dJ15_numberOfTrailingZeros_23 : decode cJ15_numberOfTrailingZeros 23 = .ok (.if_icmp .le 11, 3) := dk_164 0 11 (dk_at dksJ15_numberOfTrailingZeros_1 0 rfl rfl)
theorem dJ15_numberOfTrailingZeros_26 : decode cJ15_numberOfTrailingZeros 26 = .ok (.iinc 1 16, 3) := dk_132 1 16 (dk_at dksJ15_numberOfTrailingZeros_1 3 rfl rfl)
theorem dJ15_numberOfTrailingZeros_29 : decode cJ15_numberOfTrailingZeros 29 = .ok (.iload_n 0, 1) := dk_26 (dk_at dksJ15_numberOfTrailingZeros_1 6 rfl rfl)
theorem dJ15_numberOfTrailingZeros_30 : decode cJ15_numberOfTrailingZeros 30 = .ok (.bipush 16, 2) := dk_16 16 (dk_at dksJ15_numberOfTrailingZeros_1 7 rfl rfl)
theorem dJ15_numberOfTrailingZeros_32 : decode cJ15_numberOfTrailingZeros 32 = .ok (.iushr, 1) := dk_124 (dk_at dksJ15_numberOfTrailingZeros_1 9 rfl rfl)
theorem dJ15_numberOfTrailingZeros_33 : decode cJ15_numberOfTrailingZeros 33 = .ok (.istore_n 0, 1) := dk_59 (dk_at dksJ15_numberOfTrailingZeros_1 10 rfl rfl)
theorem dJ15_numberOfTrailingZeros_34 : decode cJ15_numberOfTrailingZeros 34 = .ok (.iload_n 0, 1) := dk_26 (dk_at dksJ15_numberOfTrailingZeros_1 11 rfl rfl)
theorem dJ15_numberOfTrailingZeros_35 : decode cJ15_numberOfTrailingZeros 35 = .ok (.sipush 256, 3) := dk_17 1 0 (dk_at dksJ15_numberOfTrailingZeros_1 12 rfl rfl)
theorem dJ15_numberOfTrailingZeros_38 : decode cJ15_numberOfTrailingZeros 38 = .ok (.if_icmp .le 11, 3) := dk_164 0 11 (dk_at dksJ15_numberOfTrailingZeros_1 15 rfl rfl)
theorem dJ15_numberOfTrailingZeros_41 : decode cJ15_numberOfTrailingZeros 41 = .ok (.iinc 1 8, 3) := dk_132 1 8 (dk_at dksJ15_numberOfTrailingZeros_1 18 rfl rfl)
theorem dJ15_numberOfTrailingZeros_44 : decode cJ15_numberOfTrailingZeros 44 = .ok (.iload_n 0, 1) := dk_26 (dk_at dksJ15_numberOfTrailingZeros_1 21 rfl rfl)
theorem dJ15_numberOfTrailingZeros_45 : decode cJ15_numberOfTrailingZeros 45 = .ok (.bipush 8, 2) := dk_16 8 (dk_at dksJ15_numberOfTrailingZeros_1 22 rfl rfl)
theorem dJ15_numberOfTrailingZeros_47 : decode cJ15_numberOfTrailingZeros 47 = .ok (.iushr, 1) := dk_124 (dk_at dksJ15_numberOfTrailingZeros_2 0 rfl rfl)
theorem dJ15_numberOfTrailingZeros_48 : decode cJ15_numberOfTrailingZeros 48 = .ok (.istore_n 0, 1) := dk_59 (dk_at dksJ15_numberOfTrailingZeros_2 1 rfl rfl)
theorem dJ15_numberOfTrailingZeros_49 : decode cJ15_numberOfTrailingZeros 49 = .ok (.iload_n 0, 1) := dk_26 (dk_at dksJ15_numberOfTrailingZeros_2 2 rfl rfl)
theorem dJ15_numberOfTrailingZeros_50 : decode cJ15_numberOfTrailingZeros 50 = .ok (.bipush 16, 2) := dk_16 16 (dk_at dksJ15_numberOfTrailingZeros_2 3 rfl rfl)
theorem dJ15_numberOfTrailingZeros_52 : decode cJ15_numberOfTrailingZeros 52 = .ok (.if_icmp .le 10, 3) := dk_164 0 10 (dk_at dksJ15_numberOfTrailingZeros_2 5 rfl rfl)
theorem dJ15_numberOfTrailingZeros_55 : decode cJ15_numberOfTrailingZeros 55 = .ok (.iinc 1 4, 3) := dk_132 1 4 (dk_at dksJ15_numberOfTrailingZeros_2 8 rfl rfl)
theorem dJ15_numberOfTrailingZeros_58 : decode cJ15_numberOfTrailingZeros 58 = .ok (.iload_n 0, 1) := dk_26 (dk_at dksJ15_numberOfTrailingZeros_2 11 rfl rfl)
theorem dJ15_numberOfTrailingZeros_59 : decode cJ15_numberOfTrailingZeros 59 = .ok (.iconst 4, 1) := dk_7 (dk_at dksJ15_numberOfTrailingZeros_2 12 rfl rfl)
theorem dJ15_numberOfTrailingZeros_60 : decode cJ15_numberOfTrailingZeros 60 = .ok (.iushr, 1) := dk_124 (dk_at dksJ15_numberOfTrailingZeros_2 13 rfl rfl)
theorem dJ15_numberOfTrailingZeros_61 : decode cJ15_numberOfTrailingZeros 61 = .ok (.istore_n 0, 1) := dk_59 (dk_at dksJ15_numberOfTrailingZeros_2 14 rfl rfl)
theorem dJ15_numberOfTrailingZeros_62 : decode cJ15_numberOfTrailingZeros 62 = .ok (.iload_n 0, 1) := dk_26 (dk_at dksJ15_numberOfTrailingZeros_2 15 rfl rfl)
theorem dJ15_numberOfTrailingZeros_63 : decode cJ15_numberOfTrailingZeros 63 = .ok (.iconst 4, 1) := dk_7 (dk_at dksJ15_numberOfTrailingZeros_2 16 rfl rfl)
theorem dJ15_numberOfTrailingZeros_64 : decode cJ15_numberOfTrailingZeros 64 = .ok (.if_icmp .le 10, 3) := dk_164 0 10 (dk_at dksJ15_numberOfTrailingZeros_2 17 rfl rfl)
theorem dJ15_numberOfTrailingZeros_67 : decode cJ15_numberOfTrailingZeros 67 = .ok (.iinc 1 2, 3) := dk_132 1 2 (dk_at dksJ15_numberOfTrailingZeros_2 20 rfl rfl)
theorem dJ15_numberOfTrailingZeros_70 : decode cJ15_numberOfTrailingZeros 70 = .ok (.iload_n 0, 1) := dk_26 (dk_at dksJ15_numberOfTrailingZeros_2 23 rfl rfl)
theorem dJ15_numberOfTrailingZeros_71 : decode cJ15_numberOfTrailingZeros 71 = .ok (.iconst 2, 1) := dk_5 (dk_at dksJ15_numberOfTrailingZeros_3 0 rfl rfl)
theorem dJ15_numberOfTrailingZeros_72 : decode cJ15_numberOfTrailingZeros 72 = .ok (.iushr, 1) := dk_124 (dk_at dksJ15_numberOfTrailingZeros_3 1 rfl rfl)
theorem dJ15_numberOfTrailingZeros_73 : decode cJ15_numberOfTrailingZeros 73 = .ok (.istore_n 0, 1) := dk_59 (dk_at dksJ15_numberOfTrailingZeros_3 2 rfl rfl)
theorem dJ15_numberOfTrailingZeros_74 : decode cJ15_numberOfTrailingZeros 74 = .ok (.iload_n 1, 1) := dk_27 (dk_at dksJ15_numberOfTrailingZeros_3 3 rfl rfl)
theorem dJ15_numberOfTrailingZeros_75 : decode cJ15_numberOfTrailingZeros 75 = .ok (.iload_n 0, 1) := dk_26 (dk_at dksJ15_numberOfTrailingZeros_3 4 rfl rfl)
theorem dJ15_numberOfTrailingZeros_76 : decode cJ15_numberOfTrailingZeros 76 = .ok (.iconst 1, 1) := dk_4 (dk_at dksJ15_numberOfTrailingZeros_3 5 rfl rfl)
theorem dJ15_numberOfTrailingZeros_77 : decode cJ15_numberOfTrailingZeros 77 = .ok (.iushr, 1) := dk_124 (dk_at dksJ15_numberOfTrailingZeros_3 6 rfl rfl)
theorem dJ15_numberOfTrailingZeros_78 : decode cJ15_numberOfTrailingZeros 78 = .ok (.iadd, 1) := dk_96 (dk_at dksJ15_numberOfTrailingZeros_3 7 rfl rfl)
theorem dJ15_numberOfTrailingZeros_79 : decode cJ15_numberOfTrailingZeros 79 = .ok (.ireturn, 1) := dk_172 (dk_at dksJ15_numberOfTrailingZeros_3 8 rfl rfl)
abbrev cJ15_equals : ByteArray := prog_33_method_34_code
def yJ15_equals : MethodName := ⟨RJ15, "equals", "(Ljava/lang/Object;)Z"⟩
def dkwJ15_equals_1 : List UInt8 := [167, 0, 4, 3, 172, 3, 172]
abbrev dktJ15_equals_1 : List UInt8 := dkwJ15_equals_1 ++ []
def dkwJ15_equals_0 : List UInt8 := [43, 193, 0, 1, 153, 0, 23, 42, 180, 0, 205, 43, 192, 0, 1, 182, 0, 211, 160, 0, 7, 4]
abbrev dktJ15_equals_0 : List UInt8 := dkwJ15_equals_0 ++ dktJ15_equals_1
theorem dksJ15_equals_0 : cJ15_equals.data.toList.drop 0 = dktJ15_equals_0 := by decide +kernel
theorem dksJ15_equals_1 : cJ15_equals.data.toList.drop 22 = dktJ15_equals_1 := dk_seg dksJ15_equals_0 22 rfl rfl
theorem dJ15_equals_0 : decode cJ15_equals 0 = .ok (.aload_n 1, 1) := dk_43 (dk_at dksJ15_equals_0 0 rfl rfl)
theorem dJ15_equals_1 : decode cJ15_equals 1 = .ok (.instanceof 1, 3) := dk_193 0 1 (dk_at dksJ15_equals_0 1 rfl rfl)
theorem dJ15_equals_4 : decode cJ15_equals 4 = .ok (.ifCond .eq 23, 3) := dk_153 0 23 (dk_at dksJ15_equals_0 4 rfl rfl)
theorem dJ15_equals_7 : decode cJ15_equals 7 = .ok (.aload_n 0, 1) := dk_42 (dk_at dksJ15_equals_0 7 rfl rfl)
theorem dJ15_equals_8 : decode cJ15_equals 8 = .ok (.getfield 205, 3) := dk_180 0 205 (dk_at dksJ15_equals_0 8 rfl rfl)
theorem dJ15_equals_11 : decode cJ15_equals 11 = .ok (.aload_n 1, 1) := dk_43 (dk_at dksJ15_equals_0 11 rfl rfl)
theorem dJ15_equals_12 : decode cJ15_equals 12 = .ok (.checkcast 1, 3) := dk_192 0 1 (dk_at dksJ15_equals_0 12 rfl rfl)
theorem dJ15_equals_15 : decode cJ15_equals 15 = .ok (.invokevirtual 211, 3) := dk_182 0 211 (dk_at dksJ15_equals_0 15 rfl rfl)
theorem dJ15_equals_18 : decode cJ15_equals 18 = .ok (.if_icmp .ne 7, 3) := dk_160 0 7 (dk_at dksJ15_equals_0 18 rfl rfl)
theorem dJ15_equals_21 : decode cJ15_equals 21 = .ok (.iconst 1, 1) := dk_4 (dk_at dksJ15_equals_0 21 rfl rfl)
theorem dJ15_equals_22 : decode cJ15_equals 22 = .ok (.goto 4, 3) := dk_167 0 4 (dk_at dksJ15_equals_1 0 rfl rfl)
theorem dJ15_equals_25 : decode cJ15_equals 25 = .ok (.iconst 0, 1) := dk_3 (dk_at dksJ15_equals_1 3 rfl rfl)
theorem dJ15_equals_26 : decode cJ15_equals 26 = .ok (.ireturn, 1) := dk_172 (dk_at dksJ15_equals_1 4 rfl rfl)
theorem dJ15_equals_27 : decode cJ15_equals 27 = .ok (.iconst 0, 1) := dk_3 (dk_at dksJ15_equals_1 5 rfl rfl)
theorem dJ15_equals_28 : decode cJ15_equals 28 = .ok (.ireturn, 1) := dk_172 (dk_at dksJ15_equals_1 6 rfl rfl)
abbrev cJ15_intValue : ByteArray := prog_33_method_27_code
def yJ15_intValue : MethodName := ⟨RJ15, "intValue", "()I"⟩
theorem dJ15_intValue_0 : decode cJ15_intValue 0 = .ok (.aload_n 0, 1) := by decide +kernel
theorem dJ15_intValue_1 : decode cJ15_intValue 1 = .ok (.getfield 205, 3) := by decide +kernel
theorem dJ15_intValue_4 : decode cJ15_intValue 4 = .ok (.ireturn, 1) := by decide +kernel
abbrev cJ15_stringSize : ByteArray := prog_33_method_13_code
def yJ15_stringSize : MethodName := ⟨RJ15, "stringSize", "(I)I"⟩
def dkwJ15_stringSize_1 : List UInt8 := [164, 0, 7, 29, 27, 96, 172, 16, 10, 28, 104, 61, 132, 3, 1, 167, 255, 233, 16, 10, 27, 96, 172]
abbrev dktJ15_stringSize_1 : List UInt8 := dkwJ15_stringSize_1 ++ []
def dkwJ15_stringSize_0 : List UInt8 := [4, 60, 26, 155, 0, 8, 3, 60, 26, 116, 59, 16, 246, 61, 4, 62, 29, 16, 10, 162, 0, 23, 26, 28]
abbrev dktJ15_stringSize_0 : List UInt8 := dkwJ15_stringSize_0 ++ dktJ15_stringSize_1
theorem dksJ15_stringSize_0 : cJ15_stringSize.data.toList.drop 0 = dktJ15_stringSize_0 := by decide +kernel
theorem dksJ15_stringSize_1 : cJ15_stringSize.data.toList.drop 24 = dktJ15_stringSize_1 := dk_seg dksJ15_stringSize_0 24 rfl rfl
theorem dJ15_stringSize_0 : decode cJ15_stringSize 0 = .ok (.iconst 1, 1) := dk_4 (dk_at dksJ15_stringSize_0 0 rfl rfl)
theorem dJ15_stringSize_1 : decode cJ15_stringSize 1 = .ok (.istore_n 1, 1) := dk_60 (dk_at dksJ15_stringSize_0 1 rfl rfl)
theorem dJ15_stringSize_2 : decode cJ15_stringSize 2 = .ok (.iload_n 0, 1) := dk_26 (dk_at dksJ15_stringSize_0 2 rfl rfl)
theorem dJ15_stringSize_3 : decode cJ15_stringSize 3 = .ok (.ifCond .lt 8, 3) := dk_155 0 8 (dk_at dksJ15_stringSize_0 3 rfl rfl)
theorem dJ15_stringSize_6 : decode cJ15_stringSize 6 = .ok (.iconst 0, 1) := dk_3 (dk_at dksJ15_stringSize_0 6 rfl rfl)
theorem dJ15_stringSize_7 : decode cJ15_stringSize 7 = .ok (.istore_n 1, 1) := dk_60 (dk_at dksJ15_stringSize_0 7 rfl rfl)
theorem dJ15_stringSize_8 : decode cJ15_stringSize 8 = .ok (.iload_n 0, 1) := dk_26 (dk_at dksJ15_stringSize_0 8 rfl rfl)
theorem dJ15_stringSize_9 : decode cJ15_stringSize 9 = .ok (.ineg, 1) := dk_116 (dk_at dksJ15_stringSize_0 9 rfl rfl)
theorem dJ15_stringSize_10 : decode cJ15_stringSize 10 = .ok (.istore_n 0, 1) := dk_59 (dk_at dksJ15_stringSize_0 10 rfl rfl)
theorem dJ15_stringSize_11 : decode cJ15_stringSize 11 = .ok (.bipush (-10), 2) := dk_16 246 (dk_at dksJ15_stringSize_0 11 rfl rfl)
theorem dJ15_stringSize_13 : decode cJ15_stringSize 13 = .ok (.istore_n 2, 1) := dk_61 (dk_at dksJ15_stringSize_0 13 rfl rfl)
theorem dJ15_stringSize_14 : decode cJ15_stringSize 14 = .ok (.iconst 1, 1) := dk_4 (dk_at dksJ15_stringSize_0 14 rfl rfl)
theorem dJ15_stringSize_15 : decode cJ15_stringSize 15 = .ok (.istore_n 3, 1) := dk_62 (dk_at dksJ15_stringSize_0 15 rfl rfl)
theorem dJ15_stringSize_16 : decode cJ15_stringSize 16 = .ok (.iload_n 3, 1) := dk_29 (dk_at dksJ15_stringSize_0 16 rfl rfl)
theorem dJ15_stringSize_17 : decode cJ15_stringSize 17 = .ok (.bipush 10, 2) := dk_16 10 (dk_at dksJ15_stringSize_0 17 rfl rfl)
theorem dJ15_stringSize_19 : decode cJ15_stringSize 19 = .ok (.if_icmp .ge 23, 3) := dk_162 0 23 (dk_at dksJ15_stringSize_0 19 rfl rfl)
theorem dJ15_stringSize_22 : decode cJ15_stringSize 22 = .ok (.iload_n 0, 1) := dk_26 (dk_at dksJ15_stringSize_0 22 rfl rfl)
theorem dJ15_stringSize_23 : decode cJ15_stringSize 23 = .ok (.iload_n 2, 1) := dk_28 (dk_at dksJ15_stringSize_0 23 rfl rfl)
theorem dJ15_stringSize_24 : decode cJ15_stringSize 24 = .ok (.if_icmp .le 7, 3) := dk_164 0 7 (dk_at dksJ15_stringSize_1 0 rfl rfl)
theorem dJ15_stringSize_27 : decode cJ15_stringSize 27 = .ok (.iload_n 3, 1) := dk_29 (dk_at dksJ15_stringSize_1 3 rfl rfl)
theorem dJ15_stringSize_28 : decode cJ15_stringSize 28 = .ok (.iload_n 1, 1) := dk_27 (dk_at dksJ15_stringSize_1 4 rfl rfl)
theorem dJ15_stringSize_29 : decode cJ15_stringSize 29 = .ok (.iadd, 1) := dk_96 (dk_at dksJ15_stringSize_1 5 rfl rfl)
theorem dJ15_stringSize_30 : decode cJ15_stringSize 30 = .ok (.ireturn, 1) := dk_172 (dk_at dksJ15_stringSize_1 6 rfl rfl)
theorem dJ15_stringSize_31 : decode cJ15_stringSize 31 = .ok (.bipush 10, 2) := dk_16 10 (dk_at dksJ15_stringSize_1 7 rfl rfl)
theorem dJ15_stringSize_33 : decode cJ15_stringSize 33 = .ok (.iload_n 2, 1) := dk_28 (dk_at dksJ15_stringSize_1 9 rfl rfl)
theorem dJ15_stringSize_34 : decode cJ15_stringSize 34 = .ok (.imul, 1) := dk_104 (dk_at dksJ15_stringSize_1 10 rfl rfl)
theorem dJ15_stringSize_35 : decode cJ15_stringSize 35 = .ok (.istore_n 2, 1) := dk_61 (dk_at dksJ15_stringSize_1 11 rfl rfl)
theorem dJ15_stringSize_36 : decode cJ15_stringSize 36 = .ok (.iinc 3 1, 3) := dk_132 3 1 (dk_at dksJ15_stringSize_1 12 rfl rfl)
theorem dJ15_stringSize_39 : decode cJ15_stringSize 39 = .ok (.goto (-23), 3) := dk_167 255 233 (dk_at dksJ15_stringSize_1 15 rfl rfl)
theorem dJ15_stringSize_42 : decode cJ15_stringSize 42 = .ok (.bipush 10, 2) := dk_16 10 (dk_at dksJ15_stringSize_1 18 rfl rfl)
theorem dJ15_stringSize_44 : decode cJ15_stringSize 44 = .ok (.iload_n 1, 1) := dk_27 (dk_at dksJ15_stringSize_1 20 rfl rfl)
theorem dJ15_stringSize_45 : decode cJ15_stringSize 45 = .ok (.iadd, 1) := dk_96 (dk_at dksJ15_stringSize_1 21 rfl rfl)
theorem dJ15_stringSize_46 : decode cJ15_stringSize 46 = .ok (.ireturn, 1) := dk_172 (dk_at dksJ15_stringSize_1 22 rfl rfl)
abbrev cJ15_getChars : ByteArray := prog_33_method_12_code
def yJ15_getChars : MethodName := ⟨RJ15, "getChars", "(II[B)I"⟩
def dkwJ15_getChars_5 : List UInt8 := [16, 45, 84, 21, 5, 172]
abbrev dktJ15_getChars_5 : List UInt8 := dkwJ15_getChars_5 ++ []
def dkwJ15_getChars_4 : List UInt8 := [132, 5, 255, 21, 5, 178, 0, 87, 26, 116, 51, 84, 21, 6, 153, 0, 12, 44, 132, 5, 255, 21, 5]
abbrev dktJ15_getChars_4 : List UInt8 := dkwJ15_getChars_4 ++ dktJ15_getChars_5
def dkwJ15_getChars_3 : List UInt8 := [167, 255, 209, 44, 132, 5, 255, 21, 5, 178, 0, 83, 26, 116, 51, 84, 26, 16, 247, 162, 0, 16, 44]
abbrev dktJ15_getChars_3 : List UInt8 := dkwJ15_getChars_3 ++ dktJ15_getChars_4
def dkwJ15_getChars_2 : List UInt8 := [21, 5, 178, 0, 83, 21, 4, 51, 84, 44, 132, 5, 255, 21, 5, 178, 0, 87, 21, 4, 51, 84]
abbrev dktJ15_getChars_2 : List UInt8 := dkwJ15_getChars_2 ++ dktJ15_getChars_3
def dkwJ15_getChars_1 : List UInt8 := [16, 156, 163, 0, 47, 26, 16, 100, 108, 62, 29, 16, 100, 104, 26, 100, 54, 4, 29, 59, 44, 132, 5, 255]
abbrev dktJ15_getChars_1 : List UInt8 := dkwJ15_getChars_1 ++ dktJ15_getChars_2
def dkwJ15_getChars_0 : List UInt8 := [27, 54, 5, 26, 156, 0, 7, 4, 167, 0, 4, 3, 54, 6, 21, 6, 154, 0, 6, 26, 116, 59, 26]
abbrev dktJ15_getChars_0 : List UInt8 := dkwJ15_getChars_0 ++ dktJ15_getChars_1
theorem dksJ15_getChars_0 : cJ15_getChars.data.toList.drop 0 = dktJ15_getChars_0 := by decide +kernel
theorem dksJ15_getChars_1 : cJ15_getChars.data.toList.drop 23 = dktJ15_getChars_1 := dk_seg dksJ15_getChars_0 23 rfl rfl
theorem dksJ15_getChars_2 : cJ15_getChars.data.toList.drop 47 = dktJ15_getChars_2 := dk_seg dksJ15_getChars_1 24 rfl rfl
theorem dksJ15_getChars_3 : cJ15_getChars.data.toList.drop 69 = dktJ15_getChars_3 := dk_seg dksJ15_getChars_2 22 rfl rfl
theorem dksJ15_getChars_4 : cJ15_getChars.data.toList.drop 92 = dktJ15_getChars_4 := dk_seg dksJ15_getChars_3 23 rfl rfl
theorem dksJ15_getChars_5 : cJ15_getChars.data.toList.drop 115 = dktJ15_getChars_5 := dk_seg dksJ15_getChars_4 23 rfl rfl
theorem dJ15_getChars_0 : decode cJ15_getChars 0 = .ok (.iload_n 1, 1) := dk_27 (dk_at dksJ15_getChars_0 0 rfl rfl)
theorem dJ15_getChars_1 : decode cJ15_getChars 1 = .ok (.istore 5, 2) := dk_54 5 (dk_at dksJ15_getChars_0 1 rfl rfl)
theorem dJ15_getChars_3 : decode cJ15_getChars 3 = .ok (.iload_n 0, 1) := dk_26 (dk_at dksJ15_getChars_0 3 rfl rfl)
theorem dJ15_getChars_4 : decode cJ15_getChars 4 = .ok (.ifCond .ge 7, 3) := dk_156 0 7 (dk_at dksJ15_getChars_0 4 rfl rfl)
theorem dJ15_getChars_7 : decode cJ15_getChars 7 = .ok (.iconst 1, 1) := dk_4 (dk_at dksJ15_getChars_0 7 rfl rfl)
theorem dJ15_getChars_8 : decode cJ15_getChars 8 = .ok (.goto 4, 3) := dk_167 0 4 (dk_at dksJ15_getChars_0 8 rfl rfl)
theorem dJ15_getChars_11 : decode cJ15_getChars 11 = .ok (.iconst 0, 1) := dk_3 (dk_at dksJ15_getChars_0 11 rfl rfl)
theorem dJ15_getChars_12 : decode cJ15_getChars 12 = .ok (.istore 6, 2) := dk_54 6 (dk_at dksJ15_getChars_0 12 rfl rfl)
theorem dJ15_getChars_14 : decode cJ15_getChars 14 = .ok (.iload 6, 2) := dk_21 6 (dk_at dksJ15_getChars_0 14 rfl rfl)
theorem dJ15_getChars_16 : decode cJ15_getChars 16 = .ok (.ifCond .ne 6, 3) := dk_154 0 6 (dk_at dksJ15_getChars_0 16 rfl rfl)
theorem dJ15_getChars_19 : decode cJ15_getChars 19 = .ok (.iload_n 0, 1) := dk_26 (dk_at dksJ15_getChars_0 19 rfl rfl)
theorem dJ15_getChars_20 : decode cJ15_getChars 20 = .ok (.ineg, 1) := dk_116 (dk_at dksJ15_getChars_0 20 rfl rfl)
theorem dJ15_getChars_21 : decode cJ15_getChars 21 = .ok (.istore_n 0, 1) := dk_59 (dk_at dksJ15_getChars_0 21 rfl rfl)
theorem dJ15_getChars_22 : decode cJ15_getChars 22 = .ok (.iload_n 0, 1) := dk_26 (dk_at dksJ15_getChars_0 22 rfl rfl)
theorem dJ15_getChars_23 : decode cJ15_getChars 23 = .ok (.bipush (-100), 2) := dk_16 156 (dk_at dksJ15_getChars_1 0 rfl rfl)
theorem dJ15_getChars_25 : decode cJ15_getChars 25 = .ok (.if_icmp .gt 47, 3) := dk_163 0 47 (dk_at dksJ15_getChars_1 2 rfl rfl)
theorem dJ15_getChars_28 : decode cJ15_getChars 28 = .ok (.iload_n 0, 1) := dk_26 (dk_at dksJ15_getChars_1 5 rfl rfl)
theorem dJ15_getChars_29 : decode cJ15_getChars 29 = .ok (.bipush 100, 2) := dk_16 100 (dk_at dksJ15_getChars_1 6 rfl rfl)
theorem dJ15_getChars_31 : decode cJ15_getChars 31 = .ok (.idiv, 1) := dk_108 (dk_at dksJ15_getChars_1 8 rfl rfl)
theorem dJ15_getChars_32 : decode cJ15_getChars 32 = .ok (.istore_n 3, 1) := dk_62 (dk_at dksJ15_getChars_1 9 rfl rfl)
theorem dJ15_getChars_33 : decode cJ15_getChars 33 = .ok (.iload_n 3, 1) := dk_29 (dk_at dksJ15_getChars_1 10 rfl rfl)
theorem dJ15_getChars_34 : decode cJ15_getChars 34 = .ok (.bipush 100, 2) := dk_16 100 (dk_at dksJ15_getChars_1 11 rfl rfl)
theorem dJ15_getChars_36 : decode cJ15_getChars 36 = .ok (.imul, 1) := dk_104 (dk_at dksJ15_getChars_1 13 rfl rfl)
theorem dJ15_getChars_37 : decode cJ15_getChars 37 = .ok (.iload_n 0, 1) := dk_26 (dk_at dksJ15_getChars_1 14 rfl rfl)
theorem dJ15_getChars_38 : decode cJ15_getChars 38 = .ok (.isub, 1) := dk_100 (dk_at dksJ15_getChars_1 15 rfl rfl)
theorem dJ15_getChars_39 : decode cJ15_getChars 39 = .ok (.istore 4, 2) := dk_54 4 (dk_at dksJ15_getChars_1 16 rfl rfl)
theorem dJ15_getChars_41 : decode cJ15_getChars 41 = .ok (.iload_n 3, 1) := dk_29 (dk_at dksJ15_getChars_1 18 rfl rfl)
theorem dJ15_getChars_42 : decode cJ15_getChars 42 = .ok (.istore_n 0, 1) := dk_59 (dk_at dksJ15_getChars_1 19 rfl rfl)
theorem dJ15_getChars_43 : decode cJ15_getChars 43 = .ok (.aload_n 2, 1) := dk_44 (dk_at dksJ15_getChars_1 20 rfl rfl)
theorem dJ15_getChars_44 : decode cJ15_getChars 44 = .ok (.iinc 5 (-1), 3) := dk_132 5 255 (dk_at dksJ15_getChars_1 21 rfl rfl)
theorem dJ15_getChars_47 : decode cJ15_getChars 47 = .ok (.iload 5, 2) := dk_21 5 (dk_at dksJ15_getChars_2 0 rfl rfl)
theorem dJ15_getChars_49 : decode cJ15_getChars 49 = .ok (.getstatic 83, 3) := dk_178 0 83 (dk_at dksJ15_getChars_2 2 rfl rfl)
theorem dJ15_getChars_52 : decode cJ15_getChars 52 = .ok (.iload 4, 2) := dk_21 4 (dk_at dksJ15_getChars_2 5 rfl rfl)
theorem dJ15_getChars_54 : decode cJ15_getChars 54 = .ok (.baload, 1) := dk_51 (dk_at dksJ15_getChars_2 7 rfl rfl)
theorem dJ15_getChars_55 : decode cJ15_getChars 55 = .ok (.bastore, 1) := dk_84 (dk_at dksJ15_getChars_2 8 rfl rfl)
theorem dJ15_getChars_56 : decode cJ15_getChars 56 = .ok (.aload_n 2, 1) := dk_44 (dk_at dksJ15_getChars_2 9 rfl rfl)
theorem dJ15_getChars_57 : decode cJ15_getChars 57 = .ok (.iinc 5 (-1), 3) := dk_132 5 255 (dk_at dksJ15_getChars_2 10 rfl rfl)
theorem dJ15_getChars_60 : decode cJ15_getChars 60 = .ok (.iload 5, 2) := dk_21 5 (dk_at dksJ15_getChars_2 13 rfl rfl)
theorem dJ15_getChars_62 : decode cJ15_getChars 62 = .ok (.getstatic 87, 3) := dk_178 0 87 (dk_at dksJ15_getChars_2 15 rfl rfl)
theorem dJ15_getChars_65 : decode cJ15_getChars 65 = .ok (.iload 4, 2) := dk_21 4 (dk_at dksJ15_getChars_2 18 rfl rfl)
theorem dJ15_getChars_67 : decode cJ15_getChars 67 = .ok (.baload, 1) := dk_51 (dk_at dksJ15_getChars_2 20 rfl rfl)
theorem dJ15_getChars_68 : decode cJ15_getChars 68 = .ok (.bastore, 1) := dk_84 (dk_at dksJ15_getChars_2 21 rfl rfl)
theorem dJ15_getChars_69 : decode cJ15_getChars 69 = .ok (.goto (-47), 3) := dk_167 255 209 (dk_at dksJ15_getChars_3 0 rfl rfl)
theorem dJ15_getChars_72 : decode cJ15_getChars 72 = .ok (.aload_n 2, 1) := dk_44 (dk_at dksJ15_getChars_3 3 rfl rfl)
theorem dJ15_getChars_73 : decode cJ15_getChars 73 = .ok (.iinc 5 (-1), 3) := dk_132 5 255 (dk_at dksJ15_getChars_3 4 rfl rfl)
theorem dJ15_getChars_76 : decode cJ15_getChars 76 = .ok (.iload 5, 2) := dk_21 5 (dk_at dksJ15_getChars_3 7 rfl rfl)
theorem dJ15_getChars_78 : decode cJ15_getChars 78 = .ok (.getstatic 83, 3) := dk_178 0 83 (dk_at dksJ15_getChars_3 9 rfl rfl)
theorem dJ15_getChars_81 : decode cJ15_getChars 81 = .ok (.iload_n 0, 1) := dk_26 (dk_at dksJ15_getChars_3 12 rfl rfl)
theorem dJ15_getChars_82 : decode cJ15_getChars 82 = .ok (.ineg, 1) := dk_116 (dk_at dksJ15_getChars_3 13 rfl rfl)
theorem dJ15_getChars_83 : decode cJ15_getChars 83 = .ok (.baload, 1) := dk_51 (dk_at dksJ15_getChars_3 14 rfl rfl)
theorem dJ15_getChars_84 : decode cJ15_getChars 84 = .ok (.bastore, 1) := dk_84 (dk_at dksJ15_getChars_3 15 rfl rfl)
theorem dJ15_getChars_85 : decode cJ15_getChars 85 = .ok (.iload_n 0, 1) := dk_26 (dk_at dksJ15_getChars_3 16 rfl rfl)
theorem dJ15_getChars_86 : decode cJ15_getChars 86 = .ok (.bipush (-9), 2) := dk_16 247 (dk_at dksJ15_getChars_3 17 rfl rfl)
theorem dJ15_getChars_88 : decode cJ15_getChars 88 = .ok (.if_icmp .ge 16, 3) := dk_162 0 16 (dk_at dksJ15_getChars_3 19 rfl rfl)
theorem dJ15_getChars_91 : decode cJ15_getChars 91 = .ok (.aload_n 2, 1) := dk_44 (dk_at dksJ15_getChars_3 22 rfl rfl)
theorem dJ15_getChars_92 : decode cJ15_getChars 92 = .ok (.iinc 5 (-1), 3) := dk_132 5 255 (dk_at dksJ15_getChars_4 0 rfl rfl)
theorem dJ15_getChars_95 : decode cJ15_getChars 95 = .ok (.iload 5, 2) := dk_21 5 (dk_at dksJ15_getChars_4 3 rfl rfl)
theorem dJ15_getChars_97 : decode cJ15_getChars 97 = .ok (.getstatic 87, 3) := dk_178 0 87 (dk_at dksJ15_getChars_4 5 rfl rfl)
theorem dJ15_getChars_100 : decode cJ15_getChars 100 = .ok (.iload_n 0, 1) := dk_26 (dk_at dksJ15_getChars_4 8 rfl rfl)
theorem dJ15_getChars_101 : decode cJ15_getChars 101 = .ok (.ineg, 1) := dk_116 (dk_at dksJ15_getChars_4 9 rfl rfl)
theorem dJ15_getChars_102 : decode cJ15_getChars 102 = .ok (.baload, 1) := dk_51 (dk_at dksJ15_getChars_4 10 rfl rfl)
theorem dJ15_getChars_103 : decode cJ15_getChars 103 = .ok (.bastore, 1) := dk_84 (dk_at dksJ15_getChars_4 11 rfl rfl)
theorem dJ15_getChars_104 : decode cJ15_getChars 104 = .ok (.iload 6, 2) := dk_21 6 (dk_at dksJ15_getChars_4 12 rfl rfl)
theorem dJ15_getChars_106 : decode cJ15_getChars 106 = .ok (.ifCond .eq 12, 3) := dk_153 0 12 (dk_at dksJ15_getChars_4 14 rfl rfl)
theorem dJ15_getChars_109 : decode cJ15_getChars 109 = .ok (.aload_n 2, 1) := dk_44 (dk_at dksJ15_getChars_4 17 rfl rfl)
theorem dJ15_getChars_110 : decode cJ15_getChars 110 = .ok (.iinc 5 (-1), 3) := dk_132 5 255 (dk_at dksJ15_getChars_4 18 rfl rfl)
theorem dJ15_getChars_113 : decode cJ15_getChars 113 = .ok (.iload 5, 2) := dk_21 5 (dk_at dksJ15_getChars_4 21 rfl rfl)
theorem dJ15_getChars_115 : decode cJ15_getChars 115 = .ok (.bipush 45, 2) := dk_16 45 (dk_at dksJ15_getChars_5 0 rfl rfl)
theorem dJ15_getChars_117 : decode cJ15_getChars 117 = .ok (.bastore, 1) := dk_84 (dk_at dksJ15_getChars_5 2 rfl rfl)
theorem dJ15_getChars_118 : decode cJ15_getChars 118 = .ok (.iload 5, 2) := dk_21 5 (dk_at dksJ15_getChars_5 3 rfl rfl)
theorem dJ15_getChars_120 : decode cJ15_getChars 120 = .ok (.ireturn, 1) := dk_172 (dk_at dksJ15_getChars_5 5 rfl rfl)
abbrev cJ15_bitCount : ByteArray := prog_33_method_49_code
def yJ15_bitCount : MethodName := ⟨RJ15, "bitCount", "(I)I"⟩
def dkwJ15_bitCount_2 : List UInt8 := [26, 16, 63, 126, 172]
abbrev dktJ15_bitCount_2 : List UInt8 := dkwJ15_bitCount_2 ++ []
def dkwJ15_bitCount_1 : List UInt8 := [26, 26, 7, 124, 96, 19, 1, 11, 126, 59, 26, 26, 16, 8, 124, 96, 59, 26, 26, 16, 16, 124, 96, 59]
abbrev dktJ15_bitCount_1 : List UInt8 := dkwJ15_bitCount_1 ++ dktJ15_bitCount_2
def dkwJ15_bitCount_0 : List UInt8 := [26, 26, 4, 124, 19, 1, 9, 126, 100, 59, 26, 19, 1, 10, 126, 26, 5, 124, 19, 1, 10, 126, 96, 59]
abbrev dktJ15_bitCount_0 : List UInt8 := dkwJ15_bitCount_0 ++ dktJ15_bitCount_1
theorem dksJ15_bitCount_0 : cJ15_bitCount.data.toList.drop 0 = dktJ15_bitCount_0 := by decide +kernel
theorem dksJ15_bitCount_1 : cJ15_bitCount.data.toList.drop 24 = dktJ15_bitCount_1 := dk_seg dksJ15_bitCount_0 24 rfl rfl
theorem dksJ15_bitCount_2 : cJ15_bitCount.data.toList.drop 48 = dktJ15_bitCount_2 := dk_seg dksJ15_bitCount_1 24 rfl rfl
theorem dJ15_bitCount_0 : decode cJ15_bitCount 0 = .ok (.iload_n 0, 1) := dk_26 (dk_at dksJ15_bitCount_0 0 rfl rfl)
theorem dJ15_bitCount_1 : decode cJ15_bitCount 1 = .ok (.iload_n 0, 1) := dk_26 (dk_at dksJ15_bitCount_0 1 rfl rfl)
theorem dJ15_bitCount_2 : decode cJ15_bitCount 2 = .ok (.iconst 1, 1) := dk_4 (dk_at dksJ15_bitCount_0 2 rfl rfl)
theorem dJ15_bitCount_3 : decode cJ15_bitCount 3 = .ok (.iushr, 1) := dk_124 (dk_at dksJ15_bitCount_0 3 rfl rfl)
theorem dJ15_bitCount_4 : decode cJ15_bitCount 4 = .ok (.ldc_w 265, 3) := dk_19 1 9 (dk_at dksJ15_bitCount_0 4 rfl rfl)
theorem dJ15_bitCount_7 : decode cJ15_bitCount 7 = .ok (.iand, 1) := dk_126 (dk_at dksJ15_bitCount_0 7 rfl rfl)
theorem dJ15_bitCount_8 : decode cJ15_bitCount 8 = .ok (.isub, 1) := dk_100 (dk_at dksJ15_bitCount_0 8 rfl rfl)
theorem dJ15_bitCount_9 : decode cJ15_bitCount 9 = .ok (.istore_n 0, 1) := dk_59 (dk_at dksJ15_bitCount_0 9 rfl rfl)
theorem dJ15_bitCount_10 : decode cJ15_bitCount 10 = .ok (.iload_n 0, 1) := dk_26 (dk_at dksJ15_bitCount_0 10 rfl rfl)
theorem dJ15_bitCount_11 : decode cJ15_bitCount 11 = .ok (.ldc_w 266, 3) := dk_19 1 10 (dk_at dksJ15_bitCount_0 11 rfl rfl)
theorem dJ15_bitCount_14 : decode cJ15_bitCount 14 = .ok (.iand, 1) := dk_126 (dk_at dksJ15_bitCount_0 14 rfl rfl)
theorem dJ15_bitCount_15 : decode cJ15_bitCount 15 = .ok (.iload_n 0, 1) := dk_26 (dk_at dksJ15_bitCount_0 15 rfl rfl)
theorem dJ15_bitCount_16 : decode cJ15_bitCount 16 = .ok (.iconst 2, 1) := dk_5 (dk_at dksJ15_bitCount_0 16 rfl rfl)
theorem dJ15_bitCount_17 : decode cJ15_bitCount 17 = .ok (.iushr, 1) := dk_124 (dk_at dksJ15_bitCount_0 17 rfl rfl)
theorem dJ15_bitCount_18 : decode cJ15_bitCount 18 = .ok (.ldc_w 266, 3) := dk_19 1 10 (dk_at dksJ15_bitCount_0 18 rfl rfl)
theorem dJ15_bitCount_21 : decode cJ15_bitCount 21 = .ok (.iand, 1) := dk_126 (dk_at dksJ15_bitCount_0 21 rfl rfl)
theorem dJ15_bitCount_22 : decode cJ15_bitCount 22 = .ok (.iadd, 1) := dk_96 (dk_at dksJ15_bitCount_0 22 rfl rfl)
theorem dJ15_bitCount_23 : decode cJ15_bitCount 23 = .ok (.istore_n 0, 1) := dk_59 (dk_at dksJ15_bitCount_0 23 rfl rfl)
theorem dJ15_bitCount_24 : decode cJ15_bitCount 24 = .ok (.iload_n 0, 1) := dk_26 (dk_at dksJ15_bitCount_1 0 rfl rfl)
theorem dJ15_bitCount_25 : decode cJ15_bitCount 25 = .ok (.iload_n 0, 1) := dk_26 (dk_at dksJ15_bitCount_1 1 rfl rfl)
theorem dJ15_bitCount_26 : decode cJ15_bitCount 26 = .ok (.iconst 4, 1) := dk_7 (dk_at dksJ15_bitCount_1 2 rfl rfl)
theorem dJ15_bitCount_27 : decode cJ15_bitCount 27 = .ok (.iushr, 1) := dk_124 (dk_at dksJ15_bitCount_1 3 rfl rfl)
theorem dJ15_bitCount_28 : decode cJ15_bitCount 28 = .ok (.iadd, 1) := dk_96 (dk_at dksJ15_bitCount_1 4 rfl rfl)
theorem dJ15_bitCount_29 : decode cJ15_bitCount 29 = .ok (.ldc_w 267, 3) := dk_19 1 11 (dk_at dksJ15_bitCount_1 5 rfl rfl)
theorem dJ15_bitCount_32 : decode cJ15_bitCount 32 = .ok (.iand, 1) := dk_126 (dk_at dksJ15_bitCount_1 8 rfl rfl)
theorem dJ15_bitCount_33 : decode cJ15_bitCount 33 = .ok (.istore_n 0, 1) := dk_59 (dk_at dksJ15_bitCount_1 9 rfl rfl)
theorem dJ15_bitCount_34 : decode cJ15_bitCount 34 = .ok (.iload_n 0, 1) := dk_26 (dk_at dksJ15_bitCount_1 10 rfl rfl)
theorem dJ15_bitCount_35 : decode cJ15_bitCount 35 = .ok (.iload_n 0, 1) := dk_26 (dk_at dksJ15_bitCount_1 11 rfl rfl)
theorem dJ15_bitCount_36 : decode cJ15_bitCount 36 = .ok (.bipush 8, 2) := dk_16 8 (dk_at dksJ15_bitCount_1 12 rfl rfl)
theorem dJ15_bitCount_38 : decode cJ15_bitCount 38 = .ok (.iushr, 1) := dk_124 (dk_at dksJ15_bitCount_1 14 rfl rfl)
theorem dJ15_bitCount_39 : decode cJ15_bitCount 39 = .ok (.iadd, 1) := dk_96 (dk_at dksJ15_bitCount_1 15 rfl rfl)
theorem dJ15_bitCount_40 : decode cJ15_bitCount 40 = .ok (.istore_n 0, 1) := dk_59 (dk_at dksJ15_bitCount_1 16 rfl rfl)
theorem dJ15_bitCount_41 : decode cJ15_bitCount 41 = .ok (.iload_n 0, 1) := dk_26 (dk_at dksJ15_bitCount_1 17 rfl rfl)
theorem dJ15_bitCount_42 : decode cJ15_bitCount 42 = .ok (.iload_n 0, 1) := dk_26 (dk_at dksJ15_bitCount_1 18 rfl rfl)
theorem dJ15_bitCount_43 : decode cJ15_bitCount 43 = .ok (.bipush 16, 2) := dk_16 16 (dk_at dksJ15_bitCount_1 19 rfl rfl)
theorem dJ15_bitCount_45 : decode cJ15_bitCount 45 = .ok (.iushr, 1) := dk_124 (dk_at dksJ15_bitCount_1 21 rfl rfl)
theorem dJ15_bitCount_46 : decode cJ15_bitCount 46 = .ok (.iadd, 1) := dk_96 (dk_at dksJ15_bitCount_1 22 rfl rfl)
theorem dJ15_bitCount_47 : decode cJ15_bitCount 47 = .ok (.istore_n 0, 1) := dk_59 (dk_at dksJ15_bitCount_1 23 rfl rfl)
theorem dJ15_bitCount_48 : decode cJ15_bitCount 48 = .ok (.iload_n 0, 1) := dk_26 (dk_at dksJ15_bitCount_2 0 rfl rfl)
theorem dJ15_bitCount_49 : decode cJ15_bitCount 49 = .ok (.bipush 63, 2) := dk_16 63 (dk_at dksJ15_bitCount_2 1 rfl rfl)
theorem dJ15_bitCount_51 : decode cJ15_bitCount 51 = .ok (.iand, 1) := dk_126 (dk_at dksJ15_bitCount_2 3 rfl rfl)
theorem dJ15_bitCount_52 : decode cJ15_bitCount 52 = .ok (.ireturn, 1) := dk_172 (dk_at dksJ15_bitCount_2 4 rfl rfl)
theorem q191 : (Jvm.Cond.initialized "java/lang/Integer") ∈ lw_all := lw_g (lw_at lw_m1 25 rfl) rfl
theorem q817 : (Jvm.Cond.static ({ cls := "java/lang/Integer", name := "valueOf", desc := "(I)Ljava/lang/Integer;" } : Jvm.MethodName)) ∈ lw_all := lw_g (lw_at lw_m3 171 rfl) rfl
theorem q818 : (Jvm.Cond.code ({ cls := "java/lang/Integer", name := "valueOf", desc := "(I)Ljava/lang/Integer;" } : Jvm.MethodName) prog_33_method_22_code (1 : Nat) (Option.some (Jvm.ClassFile.FieldType.object "java/lang/Integer"))) ∈ lw_all := lw_g (lw_at lw_m3 172 rfl) rfl
theorem q819 : (Jvm.Cond.fieldLink "java/lang/Integer" (191 : Nat) "java/lang/Integer$IntegerCache" "high" "I") ∈ lw_all := lw_g (lw_at lw_m3 173 rfl) rfl
theorem q821 : (Jvm.Cond.fieldLink "java/lang/Integer" (195 : Nat) "java/lang/Integer$IntegerCache" "cache" "[Ljava/lang/Integer;") ∈ lw_all := lw_g (lw_at lw_m3 175 rfl) rfl
theorem q823 : (Jvm.Cond.classLink "java/lang/Integer" (1 : Nat) "java/lang/Integer") ∈ lw_all := lw_g (lw_at lw_m3 177 rfl) rfl
theorem q824 : (Jvm.Cond.instantiable "java/lang/Integer" (1 : Nat)) ∈ lw_all := lw_g (lw_at lw_m3 178 rfl) rfl
theorem q825 : (Jvm.Cond.methodLink "java/lang/Integer" (199 : Nat) ({ cls := "java/lang/Integer", name := "<init>", desc := "(I)V" } : Jvm.MethodName)) ∈ lw_all := lw_g (lw_at lw_m3 179 rfl) rfl
theorem q826 : (Jvm.Cond.instanceMethod ({ cls := "java/lang/Integer", name := "<init>", desc := "(I)V" } : Jvm.MethodName)) ∈ lw_all := lw_g (lw_at lw_m3 180 rfl) rfl
theorem q827 : (Jvm.Cond.code ({ cls := "java/lang/Integer", name := "<init>", desc := "(I)V" } : Jvm.MethodName) prog_33_method_23_code (2 : Nat) (Option.none : Option Jvm.ClassFile.FieldType)) ∈ lw_all := lw_g (lw_at lw_m3 181 rfl) rfl
theorem q828 : (Jvm.Cond.methodLink "java/lang/Integer" (202 : Nat) ({ cls := "java/lang/Number", name := "<init>", desc := "()V" } : Jvm.MethodName)) ∈ lw_all := lw_g (lw_at lw_m3 182 rfl) rfl
theorem q832 : (Jvm.Cond.fieldLink "java/lang/Integer" (205 : Nat) "java/lang/Integer" "value" "I") ∈ lw_all := lw_g (lw_at lw_m3 186 rfl) rfl
theorem q833 : (Jvm.Cond.laysFinal "java/lang/Integer" "java/lang/Integer" "value" "I") ∈ lw_all := lw_g (lw_at lw_m3 187 rfl) rfl
theorem q834 : (Jvm.Cond.soleField "java/lang/Integer" "value") ∈ lw_all := lw_g (lw_at lw_m3 188 rfl) rfl
theorem q835 : (Jvm.Cond.superclass "java/lang/Integer" "java/lang/Number") ∈ lw_all := lw_g (lw_at lw_m3 189 rfl) rfl
theorem q866 : (Jvm.Cond.selects "java/lang/Integer" ({ cls := "java/lang/Object", name := "hashCode", desc := "()I" } : Jvm.MethodName) ({ cls := "java/lang/Integer", name := "hashCode", desc := "()I" } : Jvm.MethodName)) ∈ lw_all := lw_g (lw_at lw_m3 220 rfl) rfl
theorem q867 : (Jvm.Cond.instanceMethod ({ cls := "java/lang/Integer", name := "hashCode", desc := "()I" } : Jvm.MethodName)) ∈ lw_all := lw_g (lw_at lw_m3 221 rfl) rfl
theorem q868 : (Jvm.Cond.code ({ cls := "java/lang/Integer", name := "hashCode", desc := "()I" } : Jvm.MethodName) prog_33_method_32_code (1 : Nat) (Option.some Jvm.ClassFile.FieldType.int)) ∈ lw_all := lw_g (lw_at lw_m3 222 rfl) rfl
theorem q869 : (Jvm.Cond.methodLink "java/lang/Integer" (208 : Nat) ({ cls := "java/lang/Integer", name := "hashCode", desc := "(I)I" } : Jvm.MethodName)) ∈ lw_all := lw_g (lw_at lw_m3 223 rfl) rfl
theorem q870 : (Jvm.Cond.static ({ cls := "java/lang/Integer", name := "hashCode", desc := "(I)I" } : Jvm.MethodName)) ∈ lw_all := lw_g (lw_at lw_m3 224 rfl) rfl
theorem q871 : (Jvm.Cond.code ({ cls := "java/lang/Integer", name := "hashCode", desc := "(I)I" } : Jvm.MethodName) prog_33_method_33_code (1 : Nat) (Option.some Jvm.ClassFile.FieldType.int)) ∈ lw_all := lw_g (lw_at lw_m3 225 rfl) rfl
theorem q1029 : (Jvm.Cond.selects "java/lang/Integer" ({ cls := "java/lang/Object", name := "getClass", desc := "()Ljava/lang/Class;" } : Jvm.MethodName) ({ cls := "java/lang/Object", name := "getClass", desc := "()Ljava/lang/Class;" } : Jvm.MethodName)) ∈ lw_all := lw_g (lw_at lw_m4 143 rfl) rfl
theorem q1051 : (Jvm.Cond.castable "java/lang/Integer" "java/lang/Comparable") ∈ lw_tbl := lw_at lw_m4 165 rfl
theorem q1052 : (Jvm.Cond.selects "java/lang/Integer" ({ cls := "java/lang/Comparable", name := "compareTo", desc := "(Ljava/lang/Object;)I" } : Jvm.MethodName) ({ cls := "java/lang/Integer", name := "compareTo", desc := "(Ljava/lang/Object;)I" } : Jvm.MethodName)) ∈ lw_all := lw_g (lw_at lw_m4 166 rfl) rfl
theorem q1053 : (Jvm.Cond.unhidden "java/lang/Integer" "compareTo" "(Ljava/lang/Object;)I") ∈ lw_tbl := lw_at lw_m4 167 rfl
theorem q1054 : (Jvm.Cond.instanceMethod ({ cls := "java/lang/Integer", name := "compareTo", desc := "(Ljava/lang/Object;)I" } : Jvm.MethodName)) ∈ lw_all := lw_g (lw_at lw_m4 168 rfl) rfl
theorem q1055 : (Jvm.Cond.publicMethod ({ cls := "java/lang/Integer", name := "compareTo", desc := "(Ljava/lang/Object;)I" } : Jvm.MethodName)) ∈ lw_tbl := lw_at lw_m4 169 rfl
theorem q1056 : (Jvm.Cond.code ({ cls := "java/lang/Integer", name := "compareTo", desc := "(Ljava/lang/Object;)I" } : Jvm.MethodName) prog_33_method_63_code (2 : Nat) (Option.some Jvm.ClassFile.FieldType.int)) ∈ lw_all := lw_g (lw_at lw_m4 170 rfl) rfl
theorem q1057 : (Jvm.Cond.methodLink "java/lang/Integer" (284 : Nat) ({ cls := "java/lang/Integer", name := "compareTo", desc := "(Ljava/lang/Integer;)I" } : Jvm.MethodName)) ∈ lw_all := lw_g (lw_at lw_m4 171 rfl) rfl
theorem q1058 : (Jvm.Cond.instanceMethod ({ cls := "java/lang/Integer", name := "compareTo", desc := "(Ljava/lang/Integer;)I" } : Jvm.MethodName)) ∈ lw_all := lw_g (lw_at lw_m4 172 rfl) rfl
theorem q1059 : (Jvm.Cond.selects "java/lang/Integer" ({ cls := "java/lang/Integer", name := "compareTo", desc := "(Ljava/lang/Integer;)I" } : Jvm.MethodName) ({ cls := "java/lang/Integer", name := "compareTo", desc := "(Ljava/lang/Integer;)I" } : Jvm.MethodName)) ∈ lw_all := lw_g (lw_at lw_m4 173 rfl) rfl
theorem q1060 : (Jvm.Cond.code ({ cls := "java/lang/Integer", name := "compareTo", desc := "(Ljava/lang/Integer;)I" } : Jvm.MethodName) prog_33_method_39_code (2 : Nat) (Option.some Jvm.ClassFile.FieldType.int)) ∈ lw_all := lw_g (lw_at lw_m4 174 rfl) rfl
theorem q1061 : (Jvm.Cond.methodLink "java/lang/Integer" (259 : Nat) ({ cls := "java/lang/Integer", name := "compare", desc := "(II)I" } : Jvm.MethodName)) ∈ lw_all := lw_g (lw_at lw_m4 175 rfl) rfl
theorem q1062 : (Jvm.Cond.static ({ cls := "java/lang/Integer", name := "compare", desc := "(II)I" } : Jvm.MethodName)) ∈ lw_all := lw_g (lw_at lw_m4 176 rfl) rfl
theorem q1063 : (Jvm.Cond.code ({ cls := "java/lang/Integer", name := "compare", desc := "(II)I" } : Jvm.MethodName) prog_33_method_40_code (2 : Nat) (Option.some Jvm.ClassFile.FieldType.int)) ∈ lw_all := lw_g (lw_at lw_m4 177 rfl) rfl
theorem q1158 : (Jvm.Cond.static ({ cls := "java/lang/Integer", name := "numberOfLeadingZeros", desc := "(I)I" } : Jvm.MethodName)) ∈ lw_all := lw_g (lw_at lw_m5 32 rfl) rfl
theorem q1159 : (Jvm.Cond.code ({ cls := "java/lang/Integer", name := "numberOfLeadingZeros", desc := "(I)I" } : Jvm.MethodName) prog_33_method_47_code (2 : Nat) (Option.some Jvm.ClassFile.FieldType.int)) ∈ lw_all := lw_g (lw_at lw_m5 33 rfl) rfl
theorem q1160 : (Jvm.Cond.constant "java/lang/Integer" (264 : Nat) (65536 : Int32)) ∈ lw_all := lw_g (lw_at lw_m5 34 rfl) rfl
theorem q1167 : (Jvm.Cond.static ({ cls := "java/lang/Integer", name := "numberOfTrailingZeros", desc := "(I)I" } : Jvm.MethodName)) ∈ lw_all := lw_g (lw_at lw_m5 41 rfl) rfl
theorem q1168 : (Jvm.Cond.code ({ cls := "java/lang/Integer", name := "numberOfTrailingZeros", desc := "(I)I" } : Jvm.MethodName) prog_33_method_48_code (2 : Nat) (Option.some Jvm.ClassFile.FieldType.int)) ∈ lw_all := lw_g (lw_at lw_m5 42 rfl) rfl
theorem q1299 : (Jvm.Cond.selects "java/lang/Integer" ({ cls := "java/lang/Object", name := "equals", desc := "(Ljava/lang/Object;)Z" } : Jvm.MethodName) ({ cls := "java/lang/Integer", name := "equals", desc := "(Ljava/lang/Object;)Z" } : Jvm.MethodName)) ∈ lw_all := lw_g (lw_at lw_m5 173 rfl) rfl
theorem q1300 : (Jvm.Cond.instanceMethod ({ cls := "java/lang/Integer", name := "equals", desc := "(Ljava/lang/Object;)Z" } : Jvm.MethodName)) ∈ lw_all := lw_g (lw_at lw_m5 174 rfl) rfl
theorem q1301 : (Jvm.Cond.code ({ cls := "java/lang/Integer", name := "equals", desc := "(Ljava/lang/Object;)Z" } : Jvm.MethodName) prog_33_method_34_code (2 : Nat) (Option.some Jvm.ClassFile.FieldType.boolean)) ∈ lw_all := lw_g (lw_at lw_m5 175 rfl) rfl
theorem q1302 : (Jvm.Cond.methodLink "java/lang/Integer" (211 : Nat) ({ cls := "java/lang/Integer", name := "intValue", desc := "()I" } : Jvm.MethodName)) ∈ lw_all := lw_g (lw_at lw_m5 176 rfl) rfl
theorem q1303 : (Jvm.Cond.instanceMethod ({ cls := "java/lang/Integer", name := "intValue", desc := "()I" } : Jvm.MethodName)) ∈ lw_all := lw_g (lw_at lw_m5 177 rfl) rfl
theorem q1304 : (Jvm.Cond.selects "java/lang/Integer" ({ cls := "java/lang/Integer", name := "intValue", desc := "()I" } : Jvm.MethodName) ({ cls := "java/lang/Integer", name := "intValue", desc := "()I" } : Jvm.MethodName)) ∈ lw_all := lw_g (lw_at lw_m5 178 rfl) rfl
theorem q1305 : (Jvm.Cond.code ({ cls := "java/lang/Integer", name := "intValue", desc := "()I" } : Jvm.MethodName) prog_33_method_27_code (1 : Nat) (Option.some Jvm.ClassFile.FieldType.int)) ∈ lw_all := lw_g (lw_at lw_m5 179 rfl) rfl
theorem q1518 : (Jvm.Cond.static ({ cls := "java/lang/Integer", name := "stringSize", desc := "(I)I" } : Jvm.MethodName)) ∈ lw_all := lw_g (lw_at lw_m6 152 rfl) rfl
theorem q1519 : (Jvm.Cond.code ({ cls := "java/lang/Integer", name := "stringSize", desc := "(I)I" } : Jvm.MethodName) prog_33_method_13_code (4 : Nat) (Option.some Jvm.ClassFile.FieldType.int)) ∈ lw_all := lw_g (lw_at lw_m6 153 rfl) rfl
theorem q1521 : (Jvm.Cond.static ({ cls := "java/lang/Integer", name := "getChars", desc := "(II[B)I" } : Jvm.MethodName)) ∈ lw_all := lw_g (lw_at lw_m6 155 rfl) rfl
theorem q1522 : (Jvm.Cond.code ({ cls := "java/lang/Integer", name := "getChars", desc := "(II[B)I" } : Jvm.MethodName) prog_33_method_12_code (7 : Nat) (Option.some Jvm.ClassFile.FieldType.int)) ∈ lw_all := lw_g (lw_at lw_m6 156 rfl) rfl
theorem q1523 : (Jvm.Cond.fieldLink "java/lang/Integer" (83 : Nat) "java/lang/Integer" "DigitOnes" "[B") ∈ lw_all := lw_g (lw_at lw_m6 157 rfl) rfl
theorem q1524 : (Jvm.Cond.laysStatic "java/lang/Integer" "DigitOnes" "[B") ∈ lw_tbl := lw_at lw_m6 158 rfl
theorem q1525 : (Jvm.Cond.fieldLink "java/lang/Integer" (87 : Nat) "java/lang/Integer" "DigitTens" "[B") ∈ lw_all := lw_g (lw_at lw_m6 159 rfl) rfl
theorem q1526 : (Jvm.Cond.laysStatic "java/lang/Integer" "DigitTens" "[B") ∈ lw_tbl := lw_at lw_m6 160 rfl
theorem q2350 : (Jvm.Cond.static ({ cls := "java/lang/Integer", name := "bitCount", desc := "(I)I" } : Jvm.MethodName)) ∈ lw_all := lw_g (lw_at lw_m10 24 rfl) rfl
theorem q2351 : (Jvm.Cond.code ({ cls := "java/lang/Integer", name := "bitCount", desc := "(I)I" } : Jvm.MethodName) prog_33_method_49_code (1 : Nat) (Option.some Jvm.ClassFile.FieldType.int)) ∈ lw_all := lw_g (lw_at lw_m10 25 rfl) rfl
theorem q2352 : (Jvm.Cond.constant "java/lang/Integer" (265 : Nat) (1431655765 : Int32)) ∈ lw_all := lw_g (lw_at lw_m10 26 rfl) rfl
theorem q2353 : (Jvm.Cond.constant "java/lang/Integer" (266 : Nat) (858993459 : Int32)) ∈ lw_all := lw_g (lw_at lw_m10 27 rfl) rfl
theorem q2354 : (Jvm.Cond.constant "java/lang/Integer" (267 : Nat) (252645135 : Int32)) ∈ lw_all := lw_g (lw_at lw_m10 28 rfl) rfl
theorem q3531 : (Jvm.Cond.castable "java/lang/Integer" "java/lang/Object") ∈ lw_tbl := lw_at lw_m15 5 rfl
theorem in_J15 : ∀ w ∈ wsJ150, w ∈ lw_all := lw_in wsJ150 [833] (by decide +kernel) (by decide +kernel)
/-! java/lang/StringLatin1 -/
set_option maxRecDepth 100000
def RJ16 : String := "java/lang/StringLatin1"
abbrev cJ16_hashCode : ByteArray := prog_45_method_21_code
def yJ16_hashCode : MethodName := ⟨RJ16, "hashCode", "([B)I"⟩
def dkwJ16_hashCode_2 : List UInt8 := [3, 167, 0, 22, 42, 3, 51, 17, 0, 255, 126, 167, 0, 12, 42, 3, 42, 190, 3, 7, 184, 0, 84, 172]
abbrev dktJ16_hashCode_2 : List UInt8 := dkwJ16_hashCode_2 ++ []
def dkwJ16_hashCode_1 : List UInt8 := [171, 0, 0, 0, 0, 40, 0, 0, 0, 2, 0, 0, 0, 0, 0, 0, 0, 26, 0, 0, 0, 1, 0, 0, 0, 30]
abbrev dktJ16_hashCode_1 : List UInt8 := dkwJ16_hashCode_1 ++ dktJ16_hashCode_2
def dkwJ16_hashCode_0 : List UInt8 := [42, 190]
abbrev dktJ16_hashCode_0 : List UInt8 := dkwJ16_hashCode_0 ++ dktJ16_hashCode_1
theorem dksJ16_hashCode_0 : cJ16_hashCode.data.toList.drop 0 = dktJ16_hashCode_0 := by decide +kernel
theorem dksJ16_hashCode_1 : cJ16_hashCode.data.toList.drop 2 = dktJ16_hashCode_1 := dk_seg dksJ16_hashCode_0 2 rfl rfl
theorem dksJ16_hashCode_2 : cJ16_hashCode.data.toList.drop 28 = dktJ16_hashCode_2 := dk_seg dksJ16_hashCode_1 26 rfl rfl
theorem dJ16_hashCode_0 : decode cJ16_hashCode 0 = .ok (.aload_n 0, 1) := dk_42 (dk_at dksJ16_hashCode_0 0 rfl rfl)
theorem dJ16_hashCode_1 : decode cJ16_hashCode 1 = .ok (.arraylength, 1) := dk_190 (dk_at dksJ16_hashCode_0 1 rfl rfl)
theorem dJ16_hashCode_2 : decode cJ16_hashCode 2 = .ok (.lookupswitch 40 #[(0, 26), (1, 30)], 26) := by decide +kernel
theorem dJ16_hashCode_28 : decode cJ16_hashCode 28 = .ok (.iconst 0, 1) := dk_3 (dk_at dksJ16_hashCode_2 0 rfl rfl)
theorem dJ16_hashCode_29 : decode cJ16_hashCode 29 = .ok (.goto 22, 3) := dk_167 0 22 (dk_at dksJ16_hashCode_2 1 rfl rfl)
theorem dJ16_hashCode_32 : decode cJ16_hashCode 32 = .ok (.aload_n 0, 1) := dk_42 (dk_at dksJ16_hashCode_2 4 rfl rfl)
theorem dJ16_hashCode_33 : decode cJ16_hashCode 33 = .ok (.iconst 0, 1) := dk_3 (dk_at dksJ16_hashCode_2 5 rfl rfl)
theorem dJ16_hashCode_34 : decode cJ16_hashCode 34 = .ok (.baload, 1) := dk_51 (dk_at dksJ16_hashCode_2 6 rfl rfl)
theorem dJ16_hashCode_35 : decode cJ16_hashCode 35 = .ok (.sipush 255, 3) := dk_17 0 255 (dk_at dksJ16_hashCode_2 7 rfl rfl)
theorem dJ16_hashCode_38 : decode cJ16_hashCode 38 = .ok (.iand, 1) := dk_126 (dk_at dksJ16_hashCode_2 10 rfl rfl)
theorem dJ16_hashCode_39 : decode cJ16_hashCode 39 = .ok (.goto 12, 3) := dk_167 0 12 (dk_at dksJ16_hashCode_2 11 rfl rfl)
theorem dJ16_hashCode_42 : decode cJ16_hashCode 42 = .ok (.aload_n 0, 1) := dk_42 (dk_at dksJ16_hashCode_2 14 rfl rfl)
theorem dJ16_hashCode_43 : decode cJ16_hashCode 43 = .ok (.iconst 0, 1) := dk_3 (dk_at dksJ16_hashCode_2 15 rfl rfl)
theorem dJ16_hashCode_44 : decode cJ16_hashCode 44 = .ok (.aload_n 0, 1) := dk_42 (dk_at dksJ16_hashCode_2 16 rfl rfl)
theorem dJ16_hashCode_45 : decode cJ16_hashCode 45 = .ok (.arraylength, 1) := dk_190 (dk_at dksJ16_hashCode_2 17 rfl rfl)
theorem dJ16_hashCode_46 : decode cJ16_hashCode 46 = .ok (.iconst 0, 1) := dk_3 (dk_at dksJ16_hashCode_2 18 rfl rfl)
theorem dJ16_hashCode_47 : decode cJ16_hashCode 47 = .ok (.iconst 4, 1) := dk_7 (dk_at dksJ16_hashCode_2 19 rfl rfl)
theorem dJ16_hashCode_48 : decode cJ16_hashCode 48 = .ok (.invokestatic 84, 3) := dk_184 0 84 (dk_at dksJ16_hashCode_2 20 rfl rfl)
theorem dJ16_hashCode_51 : decode cJ16_hashCode 51 = .ok (.ireturn, 1) := dk_172 (dk_at dksJ16_hashCode_2 23 rfl rfl)
abbrev cJ16_compareTo : ByteArray := prog_45_method_14_code
def yJ16_compareTo : MethodName := ⟨RJ16, "compareTo", "([B[B)I"⟩
def dkwJ16_compareTo_0 : List UInt8 := [42, 190, 61, 43, 190, 62, 42, 43, 28, 29, 184, 0, 34, 172]
abbrev dktJ16_compareTo_0 : List UInt8 := dkwJ16_compareTo_0 ++ []
theorem dksJ16_compareTo_0 : cJ16_compareTo.data.toList.drop 0 = dktJ16_compareTo_0 := by decide +kernel
theorem dJ16_compareTo_0 : decode cJ16_compareTo 0 = .ok (.aload_n 0, 1) := dk_42 (dk_at dksJ16_compareTo_0 0 rfl rfl)
theorem dJ16_compareTo_1 : decode cJ16_compareTo 1 = .ok (.arraylength, 1) := dk_190 (dk_at dksJ16_compareTo_0 1 rfl rfl)
theorem dJ16_compareTo_2 : decode cJ16_compareTo 2 = .ok (.istore_n 2, 1) := dk_61 (dk_at dksJ16_compareTo_0 2 rfl rfl)
theorem dJ16_compareTo_3 : decode cJ16_compareTo 3 = .ok (.aload_n 1, 1) := dk_43 (dk_at dksJ16_compareTo_0 3 rfl rfl)
theorem dJ16_compareTo_4 : decode cJ16_compareTo 4 = .ok (.arraylength, 1) := dk_190 (dk_at dksJ16_compareTo_0 4 rfl rfl)
theorem dJ16_compareTo_5 : decode cJ16_compareTo 5 = .ok (.istore_n 3, 1) := dk_62 (dk_at dksJ16_compareTo_0 5 rfl rfl)
theorem dJ16_compareTo_6 : decode cJ16_compareTo 6 = .ok (.aload_n 0, 1) := dk_42 (dk_at dksJ16_compareTo_0 6 rfl rfl)
theorem dJ16_compareTo_7 : decode cJ16_compareTo 7 = .ok (.aload_n 1, 1) := dk_43 (dk_at dksJ16_compareTo_0 7 rfl rfl)
theorem dJ16_compareTo_8 : decode cJ16_compareTo 8 = .ok (.iload_n 2, 1) := dk_28 (dk_at dksJ16_compareTo_0 8 rfl rfl)
theorem dJ16_compareTo_9 : decode cJ16_compareTo 9 = .ok (.iload_n 3, 1) := dk_29 (dk_at dksJ16_compareTo_0 9 rfl rfl)
theorem dJ16_compareTo_10 : decode cJ16_compareTo 10 = .ok (.invokestatic 34, 3) := dk_184 0 34 (dk_at dksJ16_compareTo_0 10 rfl rfl)
theorem dJ16_compareTo_13 : decode cJ16_compareTo 13 = .ok (.ireturn, 1) := dk_172 (dk_at dksJ16_compareTo_0 13 rfl rfl)
abbrev cJ16_compareTo_2 : ByteArray := prog_45_method_15_code
def yJ16_compareTo_2 : MethodName := ⟨RJ16, "compareTo", "([B[BII)I"⟩
def dkwJ16_compareTo_2_1 : List UInt8 := [167, 0, 16, 42, 21, 5, 184, 0, 50, 43, 21, 5, 184, 0, 50, 100, 172]
abbrev dktJ16_compareTo_2_1 : List UInt8 := dkwJ16_compareTo_2_1 ++ []
def dkwJ16_compareTo_2_0 : List UInt8 := [28, 29, 184, 0, 38, 54, 4, 42, 43, 21, 4, 184, 0, 44, 54, 5, 21, 5, 156, 0, 9, 28, 29, 100]
abbrev dktJ16_compareTo_2_0 : List UInt8 := dkwJ16_compareTo_2_0 ++ dktJ16_compareTo_2_1
theorem dksJ16_compareTo_2_0 : cJ16_compareTo_2.data.toList.drop 0 = dktJ16_compareTo_2_0 := by decide +kernel
theorem dksJ16_compareTo_2_1 : cJ16_compareTo_2.data.toList.drop 24 = dktJ16_compareTo_2_1 := dk_seg dksJ16_compareTo_2_0 24 rfl rfl
theorem dJ16_compareTo_2_0 : decode cJ16_compareTo_2 0 = .ok (.iload_n 2, 1) := dk_28 (dk_at dksJ16_compareTo_2_0 0 rfl rfl)
theorem dJ16_compareTo_2_1 : decode cJ16_compareTo_2 1 = .ok (.iload_n 3, 1) := dk_29 (dk_at dksJ16_compareTo_2_0 1 rfl rfl)
theorem dJ16_compareTo_2_2 : decode cJ16_compareTo_2 2 = .ok (.invokestatic 38, 3) := dk_184 0 38 (dk_at dksJ16_compareTo_2_0 2 rfl rfl)
theorem dJ16_compareTo_2_5 : decode cJ16_compareTo_2 5 = .ok (.istore 4, 2) := dk_54 4 (dk_at dksJ16_compareTo_2_0 5 rfl rfl)
theorem dJ16_compareTo_2_7 : decode cJ16_compareTo_2 7 = .ok (.aload_n 0, 1) := dk_42 (dk_at dksJ16_compareTo_2_0 7 rfl rfl)
theorem dJ16_compareTo_2_8 : decode cJ16_compareTo_2 8 = .ok (.aload_n 1, 1) := dk_43 (dk_at dksJ16_compareTo_2_0 8 rfl rfl)
theorem dJ16_compareTo_2_9 : decode cJ16_compareTo_2 9 = .ok (.iload 4, 2) := dk_21 4 (dk_at dksJ16_compareTo_2_0 9 rfl rfl)
theorem dJ16_compareTo_2_11 : decode cJ16_compareTo_2 11 = .ok (.invokestatic 44, 3) := dk_184 0 44 (dk_at dksJ16_compareTo_2_0 11 rfl rfl)
theorem dJ16_compareTo_2_14 : decode cJ16_compareTo_2 14 = .ok (.istore 5, 2) := dk_54 5 (dk_at dksJ16_compareTo_2_0 14 rfl rfl)
theorem dJ16_compareTo_2_16 : decode cJ16_compareTo_2 16 = .ok (.iload 5, 2) := dk_21 5 (dk_at dksJ16_compareTo_2_0 16 rfl rfl)
theorem dJ16_compareTo_2_18 : decode cJ16_compareTo_2 18 = .ok (.ifCond .ge 9, 3) := dk_156 0 9 (dk_at dksJ16_compareTo_2_0 18 rfl rfl)
theorem dJ16_compareTo_2_21 : decode cJ16_compareTo_2 21 = .ok (.iload_n 2, 1) := dk_28 (dk_at dksJ16_compareTo_2_0 21 rfl rfl)
theorem dJ16_compareTo_2_22 : decode cJ16_compareTo_2 22 = .ok (.iload_n 3, 1) := dk_29 (dk_at dksJ16_compareTo_2_0 22 rfl rfl)
theorem dJ16_compareTo_2_23 : decode cJ16_compareTo_2 23 = .ok (.isub, 1) := dk_100 (dk_at dksJ16_compareTo_2_0 23 rfl rfl)
theorem dJ16_compareTo_2_24 : decode cJ16_compareTo_2 24 = .ok (.goto 16, 3) := dk_167 0 16 (dk_at dksJ16_compareTo_2_1 0 rfl rfl)
theorem dJ16_compareTo_2_27 : decode cJ16_compareTo_2 27 = .ok (.aload_n 0, 1) := dk_42 (dk_at dksJ16_compareTo_2_1 3 rfl rfl)
theorem dJ16_compareTo_2_28 : decode cJ16_compareTo_2 28 = .ok (.iload 5, 2) := dk_21 5 (dk_at dksJ16_compareTo_2_1 4 rfl rfl)
theorem dJ16_compareTo_2_30 : decode cJ16_compareTo_2 30 = .ok (.invokestatic 50, 3) := dk_184 0 50 (dk_at dksJ16_compareTo_2_1 6 rfl rfl)
theorem dJ16_compareTo_2_33 : decode cJ16_compareTo_2 33 = .ok (.aload_n 1, 1) := dk_43 (dk_at dksJ16_compareTo_2_1 9 rfl rfl)
theorem dJ16_compareTo_2_34 : decode cJ16_compareTo_2 34 = .ok (.iload 5, 2) := dk_21 5 (dk_at dksJ16_compareTo_2_1 10 rfl rfl)
theorem dJ16_compareTo_2_36 : decode cJ16_compareTo_2 36 = .ok (.invokestatic 50, 3) := dk_184 0 50 (dk_at dksJ16_compareTo_2_1 12 rfl rfl)
theorem dJ16_compareTo_2_39 : decode cJ16_compareTo_2 39 = .ok (.isub, 1) := dk_100 (dk_at dksJ16_compareTo_2_1 15 rfl rfl)
theorem dJ16_compareTo_2_40 : decode cJ16_compareTo_2 40 = .ok (.ireturn, 1) := dk_172 (dk_at dksJ16_compareTo_2_1 16 rfl rfl)
abbrev cJ16_getChar : ByteArray := prog_45_method_44_code
def yJ16_getChar : MethodName := ⟨RJ16, "getChar", "([BI)C"⟩
def dkwJ16_getChar_0 : List UInt8 := [42, 27, 51, 17, 0, 255, 126, 146, 172]
abbrev dktJ16_getChar_0 : List UInt8 := dkwJ16_getChar_0 ++ []
theorem dksJ16_getChar_0 : cJ16_getChar.data.toList.drop 0 = dktJ16_getChar_0 := by decide +kernel
theorem dJ16_getChar_0 : decode cJ16_getChar 0 = .ok (.aload_n 0, 1) := dk_42 (dk_at dksJ16_getChar_0 0 rfl rfl)
theorem dJ16_getChar_1 : decode cJ16_getChar 1 = .ok (.iload_n 1, 1) := dk_27 (dk_at dksJ16_getChar_0 1 rfl rfl)
theorem dJ16_getChar_2 : decode cJ16_getChar 2 = .ok (.baload, 1) := dk_51 (dk_at dksJ16_getChar_0 2 rfl rfl)
theorem dJ16_getChar_3 : decode cJ16_getChar 3 = .ok (.sipush 255, 3) := dk_17 0 255 (dk_at dksJ16_getChar_0 3 rfl rfl)
theorem dJ16_getChar_6 : decode cJ16_getChar 6 = .ok (.iand, 1) := dk_126 (dk_at dksJ16_getChar_0 6 rfl rfl)
theorem dJ16_getChar_7 : decode cJ16_getChar 7 = .ok (.i2c, 1) := dk_146 (dk_at dksJ16_getChar_0 7 rfl rfl)
theorem dJ16_getChar_8 : decode cJ16_getChar 8 = .ok (.ireturn, 1) := dk_172 (dk_at dksJ16_getChar_0 8 rfl rfl)
abbrev cJ16_compareToUTF16 : ByteArray := prog_45_method_16_code
def yJ16_compareToUTF16 : MethodName := ⟨RJ16, "compareToUTF16", "([B[B)I"⟩
def dkwJ16_compareToUTF16_0 : List UInt8 := [42, 184, 0, 54, 61, 43, 184, 0, 58, 62, 42, 43, 28, 29, 184, 0, 59, 172]
abbrev dktJ16_compareToUTF16_0 : List UInt8 := dkwJ16_compareToUTF16_0 ++ []
theorem dksJ16_compareToUTF16_0 : cJ16_compareToUTF16.data.toList.drop 0 = dktJ16_compareToUTF16_0 := by decide +kernel
theorem dJ16_compareToUTF16_0 : decode cJ16_compareToUTF16 0 = .ok (.aload_n 0, 1) := dk_42 (dk_at dksJ16_compareToUTF16_0 0 rfl rfl)
theorem dJ16_compareToUTF16_1 : decode cJ16_compareToUTF16 1 = .ok (.invokestatic 54, 3) := dk_184 0 54 (dk_at dksJ16_compareToUTF16_0 1 rfl rfl)
theorem dJ16_compareToUTF16_4 : decode cJ16_compareToUTF16 4 = .ok (.istore_n 2, 1) := dk_61 (dk_at dksJ16_compareToUTF16_0 4 rfl rfl)
theorem dJ16_compareToUTF16_5 : decode cJ16_compareToUTF16 5 = .ok (.aload_n 1, 1) := dk_43 (dk_at dksJ16_compareToUTF16_0 5 rfl rfl)
theorem dJ16_compareToUTF16_6 : decode cJ16_compareToUTF16 6 = .ok (.invokestatic 58, 3) := dk_184 0 58 (dk_at dksJ16_compareToUTF16_0 6 rfl rfl)
theorem dJ16_compareToUTF16_9 : decode cJ16_compareToUTF16 9 = .ok (.istore_n 3, 1) := dk_62 (dk_at dksJ16_compareToUTF16_0 9 rfl rfl)
theorem dJ16_compareToUTF16_10 : decode cJ16_compareToUTF16 10 = .ok (.aload_n 0, 1) := dk_42 (dk_at dksJ16_compareToUTF16_0 10 rfl rfl)
theorem dJ16_compareToUTF16_11 : decode cJ16_compareToUTF16 11 = .ok (.aload_n 1, 1) := dk_43 (dk_at dksJ16_compareToUTF16_0 11 rfl rfl)
theorem dJ16_compareToUTF16_12 : decode cJ16_compareToUTF16 12 = .ok (.iload_n 2, 1) := dk_28 (dk_at dksJ16_compareToUTF16_0 12 rfl rfl)
theorem dJ16_compareToUTF16_13 : decode cJ16_compareToUTF16 13 = .ok (.iload_n 3, 1) := dk_29 (dk_at dksJ16_compareToUTF16_0 13 rfl rfl)
theorem dJ16_compareToUTF16_14 : decode cJ16_compareToUTF16 14 = .ok (.invokestatic 59, 3) := dk_184 0 59 (dk_at dksJ16_compareToUTF16_0 14 rfl rfl)
theorem dJ16_compareToUTF16_17 : decode cJ16_compareToUTF16 17 = .ok (.ireturn, 1) := dk_172 (dk_at dksJ16_compareToUTF16_0 17 rfl rfl)
abbrev cJ16_length : ByteArray := prog_45_method_5_code
def yJ16_length : MethodName := ⟨RJ16, "length", "([B)I"⟩
theorem dJ16_length_0 : decode cJ16_length 0 = .ok (.aload_n 0, 1) := by decide +kernel
theorem dJ16_length_1 : decode cJ16_length 1 = .ok (.arraylength, 1) := by decide +kernel
theorem dJ16_length_2 : decode cJ16_length 2 = .ok (.ireturn, 1) := by decide +kernel
abbrev cJ16_compareToUTF16Values : ByteArray := prog_45_method_18_code
def yJ16_compareToUTF16Values : MethodName := ⟨RJ16, "compareToUTF16Values", "([B[BII)I"⟩
def dkwJ16_compareToUTF16Values_2 : List UInt8 := [132, 5, 1, 167, 255, 217, 28, 29, 100, 172]
abbrev dktJ16_compareToUTF16Values_2 : List UInt8 := dkwJ16_compareToUTF16Values_2 ++ []
def dkwJ16_compareToUTF16Values_1 : List UInt8 := [54, 6, 43, 21, 5, 184, 0, 65, 54, 7, 21, 6, 21, 7, 159, 0, 9, 21, 6, 21, 7, 100, 172]
abbrev dktJ16_compareToUTF16Values_1 : List UInt8 := dkwJ16_compareToUTF16Values_1 ++ dktJ16_compareToUTF16Values_2
def dkwJ16_compareToUTF16Values_0 : List UInt8 := [28, 29, 184, 0, 38, 54, 4, 3, 54, 5, 21, 5, 21, 4, 162, 0, 38, 42, 21, 5, 184, 0, 50]
abbrev dktJ16_compareToUTF16Values_0 : List UInt8 := dkwJ16_compareToUTF16Values_0 ++ dktJ16_compareToUTF16Values_1
theorem dksJ16_compareToUTF16Values_0 : cJ16_compareToUTF16Values.data.toList.drop 0 = dktJ16_compareToUTF16Values_0 := by decide +kernel
theorem dksJ16_compareToUTF16Values_1 : cJ16_compareToUTF16Values.data.toList.drop 23 = dktJ16_compareToUTF16Values_1 := dk_seg dksJ16_compareToUTF16Values_0 23 rfl rfl
theorem dksJ16_compareToUTF16Values_2 : cJ16_compareToUTF16Values.data.toList.drop 46 = dktJ16_compareToUTF16Values_2 := dk_seg dksJ16_compareToUTF16Values_1 23 rfl rfl
theorem dJ16_compareToUTF16Values_0 : decode cJ16_compareToUTF16Values 0 = .ok (.iload_n 2, 1) := dk_28 (dk_at dksJ16_compareToUTF16Values_0 0 rfl rfl)
theorem dJ16_compareToUTF16Values_1 : decode cJ16_compareToUTF16Values 1 = .ok (.iload_n 3, 1) := dk_29 (dk_at dksJ16_compareToUTF16Values_0 1 rfl rfl)
theorem dJ16_compareToUTF16Values_2 : decode cJ16_compareToUTF16Values 2 = .ok (.invokestatic 38, 3) := dk_184 0 38 (dk_at dksJ16_compareToUTF16Values_0 2 rfl rfl)
theorem dJ16_compareToUTF16Values_5 : decode cJ16_compareToUTF16Values 5 = .ok (.istore 4, 2) := dk_54 4 (dk_at dksJ16_compareToUTF16Values_0 5 rfl rfl)
theorem dJ16_compareToUTF16Values_7 : decode cJ16_compareToUTF16Values 7 = .ok (.iconst 0, 1) := dk_3 (dk_at dksJ16_compareToUTF16Values_0 7 rfl rfl)
theorem dJ16_compareToUTF16Values_8 : decode cJ16_compareToUTF16Values 8 = .ok (.istore 5, 2) := dk_54 5 (dk_at dksJ16_compareToUTF16Values_0 8 rfl rfl)
theorem dJ16_compareToUTF16Values_10 : decode cJ16_compareToUTF16Values 10 = .ok (.iload 5, 2) := dk_21 5 (dk_at dksJ16_compareToUTF16Values_0 10 rfl rfl)
theorem dJ16_compareToUTF16Values_12 : decode cJ16_compareToUTF16Values 12 = .ok (.iload 4, 2) := dk_21 4 (dk_at dksJ16_compareToUTF16Values_0 12 rfl rfl)
theorem dJ16_compareToUTF16Values_14 : decode cJ16_compareToUTF16Values 14 = .ok (.if_icmp .ge 38, 3) := dk_162 0 38 (dk_at dksJ16_compareToUTF16Values_0 14 rfl rfl)
theorem dJ16_compareToUTF16Values_17 : decode cJ16_compareToUTF16Values 17 = .ok (.aload_n 0, 1) := dk_42 (dk_at dksJ16_compareToUTF16Values_0 17 rfl rfl)
theorem dJ16_compareToUTF16Values_18 : decode cJ16_compareToUTF16Values 18 = .ok (.iload 5, 2) := dk_21 5 (dk_at dksJ16_compareToUTF16Values_0 18 rfl rfl)
theorem dJ16_compareToUTF16Values_20 : decode cJ16_compareToUTF16Values 20 = .ok (.invokestatic 50, 3) := dk_184 0 50 (dk_at dksJ16_compareToUTF16Values_0 20 rfl rfl)
theorem dJ16_compareToUTF16Values_23 : decode cJ16_compareToUTF16Values 23 = .ok (.istore 6, 2) := dk_54 6 (dk_at dksJ16_compareToUTF16Values_1 0 rfl rfl)
theorem dJ16_compareToUTF16Values_25 : decode cJ16_compareToUTF16Values 25 = .ok (.aload_n 1, 1) := dk_43 (dk_at dksJ16_compareToUTF16Values_1 2 rfl rfl)
theorem dJ16_compareToUTF16Values_26 : decode cJ16_compareToUTF16Values 26 = .ok (.iload 5, 2) := dk_21 5 (dk_at dksJ16_compareToUTF16Values_1 3 rfl rfl)
theorem dJ16_compareToUTF16Values_28 : decode cJ16_compareToUTF16Values 28 = .ok (.invokestatic 65, 3) := dk_184 0 65 (dk_at dksJ16_compareToUTF16Values_1 5 rfl rfl)
theorem dJ16_compareToUTF16Values_31 : decode cJ16_compareToUTF16Values 31 = .ok (.istore 7, 2) := dk_54 7 (dk_at dksJ16_compareToUTF16Values_1 8 rfl rfl)
theorem dJ16_compareToUTF16Values_33 : decode cJ16_compareToUTF16Values 33 = .ok (.iload 6, 2) := dk_21 6 (dk_at dksJ16_compareToUTF16Values_1 10 rfl rfl)
theorem dJ16_compareToUTF16Values_35 : decode cJ16_compareToUTF16Values 35 = .ok (.iload 7, 2) := dk_21 7 (dk_at dksJ16_compareToUTF16Values_1 12 rfl rfl)
theorem dJ16_compareToUTF16Values_37 : decode cJ16_compareToUTF16Values 37 = .ok (.if_icmp .eq 9, 3) := dk_159 0 9 (dk_at dksJ16_compareToUTF16Values_1 14 rfl rfl)
theorem dJ16_compareToUTF16Values_40 : decode cJ16_compareToUTF16Values 40 = .ok (.iload 6, 2) := dk_21 6 (dk_at dksJ16_compareToUTF16Values_1 17 rfl rfl)
theorem dJ16_compareToUTF16Values_42 : decode cJ16_compareToUTF16Values 42 = .ok (.iload 7, 2) := dk_21 7 (dk_at dksJ16_compareToUTF16Values_1 19 rfl rfl)
theorem dJ16_compareToUTF16Values_44 : decode cJ16_compareToUTF16Values 44 = .ok (.isub, 1) := dk_100 (dk_at dksJ16_compareToUTF16Values_1 21 rfl rfl)
theorem dJ16_compareToUTF16Values_45 : decode cJ16_compareToUTF16Values 45 = .ok (.ireturn, 1) := dk_172 (dk_at dksJ16_compareToUTF16Values_1 22 rfl rfl)
theorem dJ16_compareToUTF16Values_46 : decode cJ16_compareToUTF16Values 46 = .ok (.iinc 5 1, 3) := dk_132 5 1 (dk_at dksJ16_compareToUTF16Values_2 0 rfl rfl)
theorem dJ16_compareToUTF16Values_49 : decode cJ16_compareToUTF16Values 49 = .ok (.goto (-39), 3) := dk_167 255 217 (dk_at dksJ16_compareToUTF16Values_2 3 rfl rfl)
theorem dJ16_compareToUTF16Values_52 : decode cJ16_compareToUTF16Values 52 = .ok (.iload_n 2, 1) := dk_28 (dk_at dksJ16_compareToUTF16Values_2 6 rfl rfl)
theorem dJ16_compareToUTF16Values_53 : decode cJ16_compareToUTF16Values 53 = .ok (.iload_n 3, 1) := dk_29 (dk_at dksJ16_compareToUTF16Values_2 7 rfl rfl)
theorem dJ16_compareToUTF16Values_54 : decode cJ16_compareToUTF16Values 54 = .ok (.isub, 1) := dk_100 (dk_at dksJ16_compareToUTF16Values_2 8 rfl rfl)
theorem dJ16_compareToUTF16Values_55 : decode cJ16_compareToUTF16Values 55 = .ok (.ireturn, 1) := dk_172 (dk_at dksJ16_compareToUTF16Values_2 9 rfl rfl)
abbrev cJ16_compareToUTF16_2 : ByteArray := prog_45_method_17_code
def yJ16_compareToUTF16_2 : MethodName := ⟨RJ16, "compareToUTF16", "([B[BII)I"⟩
def dkwJ16_compareToUTF16_2_0 : List UInt8 := [28, 42, 184, 0, 54, 184, 0, 62, 29, 43, 184, 0, 58, 184, 0, 62, 42, 43, 28, 29, 184, 0, 59, 172]
abbrev dktJ16_compareToUTF16_2_0 : List UInt8 := dkwJ16_compareToUTF16_2_0 ++ []
theorem dksJ16_compareToUTF16_2_0 : cJ16_compareToUTF16_2.data.toList.drop 0 = dktJ16_compareToUTF16_2_0 := by decide +kernel
theorem dJ16_compareToUTF16_2_0 : decode cJ16_compareToUTF16_2 0 = .ok (.iload_n 2, 1) := dk_28 (dk_at dksJ16_compareToUTF16_2_0 0 rfl rfl)
theorem dJ16_compareToUTF16_2_1 : decode cJ16_compareToUTF16_2 1 = .ok (.aload_n 0, 1) := dk_42 (dk_at dksJ16_compareToUTF16_2_0 1 rfl rfl)
theorem dJ16_compareToUTF16_2_2 : decode cJ16_compareToUTF16_2 2 = .ok (.invokestatic 54, 3) := dk_184 0 54 (dk_at dksJ16_compareToUTF16_2_0 2 rfl rfl)
theorem dJ16_compareToUTF16_2_5 : decode cJ16_compareToUTF16_2 5 = .ok (.invokestatic 62, 3) := dk_184 0 62 (dk_at dksJ16_compareToUTF16_2_0 5 rfl rfl)
theorem dJ16_compareToUTF16_2_8 : decode cJ16_compareToUTF16_2 8 = .ok (.iload_n 3, 1) := dk_29 (dk_at dksJ16_compareToUTF16_2_0 8 rfl rfl)
theorem dJ16_compareToUTF16_2_9 : decode cJ16_compareToUTF16_2 9 = .ok (.aload_n 1, 1) := dk_43 (dk_at dksJ16_compareToUTF16_2_0 9 rfl rfl)
theorem dJ16_compareToUTF16_2_10 : decode cJ16_compareToUTF16_2 10 = .ok (.invokestatic 58, 3) := dk_184 0 58 (dk_at dksJ16_compareToUTF16_2_0 10 rfl rfl)
theorem dJ16_compareToUTF16_2_13 : decode cJ16_compareToUTF16_2 13 = .ok (.invokestatic 62, 3) := dk_184 0 62 (dk_at dksJ16_compareToUTF16_2_0 13 rfl rfl)
theorem dJ16_compareToUTF16_2_16 : decode cJ16_compareToUTF16_2 16 = .ok (.aload_n 0, 1) := dk_42 (dk_at dksJ16_compareToUTF16_2_0 16 rfl rfl)
theorem dJ16_compareToUTF16_2_17 : decode cJ16_compareToUTF16_2 17 = .ok (.aload_n 1, 1) := dk_43 (dk_at dksJ16_compareToUTF16_2_0 17 rfl rfl)
theorem dJ16_compareToUTF16_2_18 : decode cJ16_compareToUTF16_2 18 = .ok (.iload_n 2, 1) := dk_28 (dk_at dksJ16_compareToUTF16_2_0 18 rfl rfl)
theorem dJ16_compareToUTF16_2_19 : decode cJ16_compareToUTF16_2 19 = .ok (.iload_n 3, 1) := dk_29 (dk_at dksJ16_compareToUTF16_2_0 19 rfl rfl)
theorem dJ16_compareToUTF16_2_20 : decode cJ16_compareToUTF16_2 20 = .ok (.invokestatic 59, 3) := dk_184 0 59 (dk_at dksJ16_compareToUTF16_2_0 20 rfl rfl)
theorem dJ16_compareToUTF16_2_23 : decode cJ16_compareToUTF16_2 23 = .ok (.ireturn, 1) := dk_172 (dk_at dksJ16_compareToUTF16_2_0 23 rfl rfl)
abbrev cJ16_equals : ByteArray := prog_45_method_13_code
def yJ16_equals : MethodName := ⟨RJ16, "equals", "([B[B)Z"⟩
def dkwJ16_equals_1 : List UInt8 := [3, 172, 132, 2, 1, 167, 255, 236, 4, 172, 3, 172]
abbrev dktJ16_equals_1 : List UInt8 := dkwJ16_equals_1 ++ []
def dkwJ16_equals_0 : List UInt8 := [42, 190, 43, 190, 160, 0, 30, 3, 61, 28, 42, 190, 162, 0, 20, 42, 28, 51, 43, 28, 51, 159, 0, 5]
abbrev dktJ16_equals_0 : List UInt8 := dkwJ16_equals_0 ++ dktJ16_equals_1
theorem dksJ16_equals_0 : cJ16_equals.data.toList.drop 0 = dktJ16_equals_0 := by decide +kernel
theorem dksJ16_equals_1 : cJ16_equals.data.toList.drop 24 = dktJ16_equals_1 := dk_seg dksJ16_equals_0 24 rfl rfl
theorem dJ16_equals_0 : decode cJ16_equals 0 = .ok (.aload_n 0, 1) := dk_42 (dk_at dksJ16_equals_0 0 rfl rfl)
theorem dJ16_equals_1 : decode cJ16_equals 1 = .ok (.arraylength, 1) := dk_190 (dk_at dksJ16_equals_0 1 rfl rfl)
theorem dJ16_equals_2 : decode cJ16_equals 2 = .ok (.aload_n 1, 1) := dk_43 (dk_at dksJ16_equals_0 2 rfl rfl)
theorem dJ16_equals_3 : decode cJ16_equals 3 = .ok (.arraylength, 1) := dk_190 (dk_at dksJ16_equals_0 3 rfl rfl)
theorem dJ16_equals_4 : decode cJ16_equals 4 = .ok (.if_icmp .ne 30, 3) := dk_160 0 30 (dk_at dksJ16_equals_0 4 rfl rfl)
theorem dJ16_equals_7 : decode cJ16_equals 7 = .ok (.iconst 0, 1) := dk_3 (dk_at dksJ16_equals_0 7 rfl rfl)
theorem dJ16_equals_8 : decode cJ16_equals 8 = .ok (.istore_n 2, 1) := dk_61 (dk_at dksJ16_equals_0 8 rfl rfl)
theorem dJ16_equals_9 : decode cJ16_equals 9 = .ok (.iload_n 2, 1) := dk_28 (dk_at dksJ16_equals_0 9 rfl rfl)
theorem dJ16_equals_10 : decode cJ16_equals 10 = .ok (.aload_n 0, 1) := dk_42 (dk_at dksJ16_equals_0 10 rfl rfl)
theorem dJ16_equals_11 : decode cJ16_equals 11 = .ok (.arraylength, 1) := dk_190 (dk_at dksJ16_equals_0 11 rfl rfl)
theorem dJ16_equals_12 : decode cJ16_equals 12 = .ok (.if_icmp .ge 20, 3) := dk_162 0 20 (dk_at dksJ16_equals_0 12 rfl rfl)
theorem dJ16_equals_15 : decode cJ16_equals 15 = .ok (.aload_n 0, 1) := dk_42 (dk_at dksJ16_equals_0 15 rfl rfl)
theorem dJ16_equals_16 : decode cJ16_equals 16 = .ok (.iload_n 2, 1) := dk_28 (dk_at dksJ16_equals_0 16 rfl rfl)
theorem dJ16_equals_17 : decode cJ16_equals 17 = .ok (.baload, 1) := dk_51 (dk_at dksJ16_equals_0 17 rfl rfl)
theorem dJ16_equals_18 : decode cJ16_equals 18 = .ok (.aload_n 1, 1) := dk_43 (dk_at dksJ16_equals_0 18 rfl rfl)
theorem dJ16_equals_19 : decode cJ16_equals 19 = .ok (.iload_n 2, 1) := dk_28 (dk_at dksJ16_equals_0 19 rfl rfl)
theorem dJ16_equals_20 : decode cJ16_equals 20 = .ok (.baload, 1) := dk_51 (dk_at dksJ16_equals_0 20 rfl rfl)
theorem dJ16_equals_21 : decode cJ16_equals 21 = .ok (.if_icmp .eq 5, 3) := dk_159 0 5 (dk_at dksJ16_equals_0 21 rfl rfl)
theorem dJ16_equals_24 : decode cJ16_equals 24 = .ok (.iconst 0, 1) := dk_3 (dk_at dksJ16_equals_1 0 rfl rfl)
theorem dJ16_equals_25 : decode cJ16_equals 25 = .ok (.ireturn, 1) := dk_172 (dk_at dksJ16_equals_1 1 rfl rfl)
theorem dJ16_equals_26 : decode cJ16_equals 26 = .ok (.iinc 2 1, 3) := dk_132 2 1 (dk_at dksJ16_equals_1 2 rfl rfl)
theorem dJ16_equals_29 : decode cJ16_equals 29 = .ok (.goto (-20), 3) := dk_167 255 236 (dk_at dksJ16_equals_1 5 rfl rfl)
theorem dJ16_equals_32 : decode cJ16_equals 32 = .ok (.iconst 1, 1) := dk_4 (dk_at dksJ16_equals_1 8 rfl rfl)
theorem dJ16_equals_33 : decode cJ16_equals 33 = .ok (.ireturn, 1) := dk_172 (dk_at dksJ16_equals_1 9 rfl rfl)
theorem dJ16_equals_34 : decode cJ16_equals 34 = .ok (.iconst 0, 1) := dk_3 (dk_at dksJ16_equals_1 10 rfl rfl)
theorem dJ16_equals_35 : decode cJ16_equals 35 = .ok (.ireturn, 1) := dk_172 (dk_at dksJ16_equals_1 11 rfl rfl)
abbrev cJ16_inflate : ByteArray := prog_45_method_50_code
def yJ16_inflate : MethodName := ⟨RJ16, "inflate", "([BI[BII)V"⟩
def dkwJ16_inflate_0 : List UInt8 := [42, 27, 44, 29, 21, 4, 184, 0, 240, 177]
abbrev dktJ16_inflate_0 : List UInt8 := dkwJ16_inflate_0 ++ []
theorem dksJ16_inflate_0 : cJ16_inflate.data.toList.drop 0 = dktJ16_inflate_0 := by decide +kernel
theorem dJ16_inflate_0 : decode cJ16_inflate 0 = .ok (.aload_n 0, 1) := dk_42 (dk_at dksJ16_inflate_0 0 rfl rfl)
theorem dJ16_inflate_1 : decode cJ16_inflate 1 = .ok (.iload_n 1, 1) := dk_27 (dk_at dksJ16_inflate_0 1 rfl rfl)
theorem dJ16_inflate_2 : decode cJ16_inflate 2 = .ok (.aload_n 2, 1) := dk_44 (dk_at dksJ16_inflate_0 2 rfl rfl)
theorem dJ16_inflate_3 : decode cJ16_inflate 3 = .ok (.iload_n 3, 1) := dk_29 (dk_at dksJ16_inflate_0 3 rfl rfl)
theorem dJ16_inflate_4 : decode cJ16_inflate 4 = .ok (.iload 4, 2) := dk_21 4 (dk_at dksJ16_inflate_0 4 rfl rfl)
theorem dJ16_inflate_6 : decode cJ16_inflate 6 = .ok (.invokestatic 240, 3) := dk_184 0 240 (dk_at dksJ16_inflate_0 6 rfl rfl)
theorem dJ16_inflate_9 : decode cJ16_inflate 9 = .ok (.return_, 1) := dk_177 (dk_at dksJ16_inflate_0 9 rfl rfl)
abbrev cJ16_fillNull : ByteArray := prog_45_method_48_code
def yJ16_fillNull : MethodName := ⟨RJ16, "fillNull", "([BII)V"⟩
def dkwJ16_fillNull_0 : List UInt8 := [42, 27, 28, 3, 184, 0, 236, 177]
abbrev dktJ16_fillNull_0 : List UInt8 := dkwJ16_fillNull_0 ++ []
theorem dksJ16_fillNull_0 : cJ16_fillNull.data.toList.drop 0 = dktJ16_fillNull_0 := by decide +kernel
theorem dJ16_fillNull_0 : decode cJ16_fillNull 0 = .ok (.aload_n 0, 1) := dk_42 (dk_at dksJ16_fillNull_0 0 rfl rfl)
theorem dJ16_fillNull_1 : decode cJ16_fillNull 1 = .ok (.iload_n 1, 1) := dk_27 (dk_at dksJ16_fillNull_0 1 rfl rfl)
theorem dJ16_fillNull_2 : decode cJ16_fillNull 2 = .ok (.iload_n 2, 1) := dk_28 (dk_at dksJ16_fillNull_0 2 rfl rfl)
theorem dJ16_fillNull_3 : decode cJ16_fillNull 3 = .ok (.iconst 0, 1) := dk_3 (dk_at dksJ16_fillNull_0 3 rfl rfl)
theorem dJ16_fillNull_4 : decode cJ16_fillNull 4 = .ok (.invokestatic 236, 3) := dk_184 0 236 (dk_at dksJ16_fillNull_0 4 rfl rfl)
theorem dJ16_fillNull_7 : decode cJ16_fillNull 7 = .ok (.return_, 1) := dk_177 (dk_at dksJ16_fillNull_0 7 rfl rfl)
abbrev cJ16_canEncode : ByteArray := prog_45_method_3_code
def yJ16_canEncode : MethodName := ⟨RJ16, "canEncode", "(C)Z"⟩
def dkwJ16_canEncode_0 : List UInt8 := [26, 17, 0, 255, 163, 0, 7, 4, 167, 0, 4, 3, 172]
abbrev dktJ16_canEncode_0 : List UInt8 := dkwJ16_canEncode_0 ++ []
theorem dksJ16_canEncode_0 : cJ16_canEncode.data.toList.drop 0 = dktJ16_canEncode_0 := by decide +kernel
theorem dJ16_canEncode_0 : decode cJ16_canEncode 0 = .ok (.iload_n 0, 1) := dk_26 (dk_at dksJ16_canEncode_0 0 rfl rfl)
theorem dJ16_canEncode_1 : decode cJ16_canEncode 1 = .ok (.sipush 255, 3) := dk_17 0 255 (dk_at dksJ16_canEncode_0 1 rfl rfl)
theorem dJ16_canEncode_4 : decode cJ16_canEncode 4 = .ok (.if_icmp .gt 7, 3) := dk_163 0 7 (dk_at dksJ16_canEncode_0 4 rfl rfl)
theorem dJ16_canEncode_7 : decode cJ16_canEncode 7 = .ok (.iconst 1, 1) := dk_4 (dk_at dksJ16_canEncode_0 7 rfl rfl)
theorem dJ16_canEncode_8 : decode cJ16_canEncode 8 = .ok (.goto 4, 3) := dk_167 0 4 (dk_at dksJ16_canEncode_0 8 rfl rfl)
theorem dJ16_canEncode_11 : decode cJ16_canEncode 11 = .ok (.iconst 0, 1) := dk_3 (dk_at dksJ16_canEncode_0 11 rfl rfl)
theorem dJ16_canEncode_12 : decode cJ16_canEncode 12 = .ok (.ireturn, 1) := dk_172 (dk_at dksJ16_canEncode_0 12 rfl rfl)
abbrev cJ16_charAt : ByteArray := prog_45_method_2_code
def yJ16_charAt : MethodName := ⟨RJ16, "charAt", "([BI)C"⟩
def dkwJ16_charAt_0 : List UInt8 := [27, 42, 190, 184, 0, 9, 42, 27, 51, 17, 0, 255, 126, 146, 172]
abbrev dktJ16_charAt_0 : List UInt8 := dkwJ16_charAt_0 ++ []
theorem dksJ16_charAt_0 : cJ16_charAt.data.toList.drop 0 = dktJ16_charAt_0 := by decide +kernel
theorem dJ16_charAt_0 : decode cJ16_charAt 0 = .ok (.iload_n 1, 1) := dk_27 (dk_at dksJ16_charAt_0 0 rfl rfl)
theorem dJ16_charAt_1 : decode cJ16_charAt 1 = .ok (.aload_n 0, 1) := dk_42 (dk_at dksJ16_charAt_0 1 rfl rfl)
theorem dJ16_charAt_2 : decode cJ16_charAt 2 = .ok (.arraylength, 1) := dk_190 (dk_at dksJ16_charAt_0 2 rfl rfl)
theorem dJ16_charAt_3 : decode cJ16_charAt 3 = .ok (.invokestatic 9, 3) := dk_184 0 9 (dk_at dksJ16_charAt_0 3 rfl rfl)
theorem dJ16_charAt_6 : decode cJ16_charAt 6 = .ok (.aload_n 0, 1) := dk_42 (dk_at dksJ16_charAt_0 6 rfl rfl)
theorem dJ16_charAt_7 : decode cJ16_charAt 7 = .ok (.iload_n 1, 1) := dk_27 (dk_at dksJ16_charAt_0 7 rfl rfl)
theorem dJ16_charAt_8 : decode cJ16_charAt 8 = .ok (.baload, 1) := dk_51 (dk_at dksJ16_charAt_0 8 rfl rfl)
theorem dJ16_charAt_9 : decode cJ16_charAt 9 = .ok (.sipush 255, 3) := dk_17 0 255 (dk_at dksJ16_charAt_0 9 rfl rfl)
theorem dJ16_charAt_12 : decode cJ16_charAt 12 = .ok (.iand, 1) := dk_126 (dk_at dksJ16_charAt_0 12 rfl rfl)
theorem dJ16_charAt_13 : decode cJ16_charAt 13 = .ok (.i2c, 1) := dk_146 (dk_at dksJ16_charAt_0 13 rfl rfl)
theorem dJ16_charAt_14 : decode cJ16_charAt 14 = .ok (.ireturn, 1) := dk_172 (dk_at dksJ16_charAt_0 14 rfl rfl)
theorem q193 : (Jvm.Cond.initialized "java/lang/StringLatin1") ∈ lw_all := lw_g (lw_at lw_m1 27 rfl) rfl
theorem q883 : (Jvm.Cond.static ({ cls := "java/lang/StringLatin1", name := "hashCode", desc := "([B)I" } : Jvm.MethodName)) ∈ lw_all := lw_g (lw_at lw_m3 237 rfl) rfl
theorem q884 : (Jvm.Cond.code ({ cls := "java/lang/StringLatin1", name := "hashCode", desc := "([B)I" } : Jvm.MethodName) prog_45_method_21_code (1 : Nat) (Option.some Jvm.ClassFile.FieldType.int)) ∈ lw_all := lw_g (lw_at lw_m3 238 rfl) rfl
theorem q885 : (Jvm.Cond.methodLink "java/lang/StringLatin1" (84 : Nat) ({ cls := "jdk/internal/util/ArraysSupport", name := "vectorizedHashCode", desc := "(Ljava/lang/Object;IIII)I" } : Jvm.MethodName)) ∈ lw_all := lw_g (lw_at lw_m3 239 rfl) rfl
theorem q1080 : (Jvm.Cond.static ({ cls := "java/lang/StringLatin1", name := "compareTo", desc := "([B[B)I" } : Jvm.MethodName)) ∈ lw_all := lw_g (lw_at lw_m4 194 rfl) rfl
theorem q1081 : (Jvm.Cond.code ({ cls := "java/lang/StringLatin1", name := "compareTo", desc := "([B[B)I" } : Jvm.MethodName) prog_45_method_14_code (4 : Nat) (Option.some Jvm.ClassFile.FieldType.int)) ∈ lw_all := lw_g (lw_at lw_m4 195 rfl) rfl
theorem q1082 : (Jvm.Cond.methodLink "java/lang/StringLatin1" (34 : Nat) ({ cls := "java/lang/StringLatin1", name := "compareTo", desc := "([B[BII)I" } : Jvm.MethodName)) ∈ lw_all := lw_g (lw_at lw_m4 196 rfl) rfl
theorem q1083 : (Jvm.Cond.static ({ cls := "java/lang/StringLatin1", name := "compareTo", desc := "([B[BII)I" } : Jvm.MethodName)) ∈ lw_all := lw_g (lw_at lw_m4 197 rfl) rfl
theorem q1084 : (Jvm.Cond.code ({ cls := "java/lang/StringLatin1", name := "compareTo", desc := "([B[BII)I" } : Jvm.MethodName) prog_45_method_15_code (6 : Nat) (Option.some Jvm.ClassFile.FieldType.int)) ∈ lw_all := lw_g (lw_at lw_m4 198 rfl) rfl
theorem q1085 : (Jvm.Cond.methodLink "java/lang/StringLatin1" (38 : Nat) ({ cls := "java/lang/Math", name := "min", desc := "(II)I" } : Jvm.MethodName)) ∈ lw_all := lw_g (lw_at lw_m4 199 rfl) rfl
theorem q1086 : (Jvm.Cond.methodLink "java/lang/StringLatin1" (44 : Nat) ({ cls := "jdk/internal/util/ArraysSupport", name := "mismatch", desc := "([B[BI)I" } : Jvm.MethodName)) ∈ lw_all := lw_g (lw_at lw_m4 200 rfl) rfl
theorem q1190 : (Jvm.Cond.methodLink "java/lang/StringLatin1" (50 : Nat) ({ cls := "java/lang/StringLatin1", name := "getChar", desc := "([BI)C" } : Jvm.MethodName)) ∈ lw_all := lw_g (lw_at lw_m5 64 rfl) rfl
theorem q1191 : (Jvm.Cond.static ({ cls := "java/lang/StringLatin1", name := "getChar", desc := "([BI)C" } : Jvm.MethodName)) ∈ lw_all := lw_g (lw_at lw_m5 65 rfl) rfl
theorem q1192 : (Jvm.Cond.code ({ cls := "java/lang/StringLatin1", name := "getChar", desc := "([BI)C" } : Jvm.MethodName) prog_45_method_44_code (2 : Nat) (Option.some Jvm.ClassFile.FieldType.char)) ∈ lw_all := lw_g (lw_at lw_m5 66 rfl) rfl
theorem q1201 : (Jvm.Cond.static ({ cls := "java/lang/StringLatin1", name := "compareToUTF16", desc := "([B[B)I" } : Jvm.MethodName)) ∈ lw_all := lw_g (lw_at lw_m5 75 rfl) rfl
theorem q1202 : (Jvm.Cond.code ({ cls := "java/lang/StringLatin1", name := "compareToUTF16", desc := "([B[B)I" } : Jvm.MethodName) prog_45_method_16_code (4 : Nat) (Option.some Jvm.ClassFile.FieldType.int)) ∈ lw_all := lw_g (lw_at lw_m5 76 rfl) rfl
theorem q1203 : (Jvm.Cond.methodLink "java/lang/StringLatin1" (54 : Nat) ({ cls := "java/lang/StringLatin1", name := "length", desc := "([B)I" } : Jvm.MethodName)) ∈ lw_all := lw_g (lw_at lw_m5 77 rfl) rfl
theorem q1204 : (Jvm.Cond.static ({ cls := "java/lang/StringLatin1", name := "length", desc := "([B)I" } : Jvm.MethodName)) ∈ lw_all := lw_g (lw_at lw_m5 78 rfl) rfl
theorem q1205 : (Jvm.Cond.code ({ cls := "java/lang/StringLatin1", name := "length", desc := "([B)I" } : Jvm.MethodName) prog_45_method_5_code (1 : Nat) (Option.some Jvm.ClassFile.FieldType.int)) ∈ lw_all := lw_g (lw_at lw_m5 79 rfl) rfl
theorem q1206 : (Jvm.Cond.methodLink "java/lang/StringLatin1" (58 : Nat) ({ cls := "java/lang/StringUTF16", name := "length", desc := "([B)I" } : Jvm.MethodName)) ∈ lw_all := lw_g (lw_at lw_m5 80 rfl) rfl
theorem q1207 : (Jvm.Cond.methodLink "java/lang/StringLatin1" (59 : Nat) ({ cls := "java/lang/StringLatin1", name := "compareToUTF16Values", desc := "([B[BII)I" } : Jvm.MethodName)) ∈ lw_all := lw_g (lw_at lw_m5 81 rfl) rfl
theorem q1208 : (Jvm.Cond.static ({ cls := "java/lang/StringLatin1", name := "compareToUTF16Values", desc := "([B[BII)I" } : Jvm.MethodName)) ∈ lw_all := lw_g (lw_at lw_m5 82 rfl) rfl
theorem q1209 : (Jvm.Cond.code ({ cls := "java/lang/StringLatin1", name := "compareToUTF16Values", desc := "([B[BII)I" } : Jvm.MethodName) prog_45_method_18_code (8 : Nat) (Option.some Jvm.ClassFile.FieldType.int)) ∈ lw_all := lw_g (lw_at lw_m5 83 rfl) rfl
theorem q1210 : (Jvm.Cond.methodLink "java/lang/StringLatin1" (65 : Nat) ({ cls := "java/lang/StringUTF16", name := "getChar", desc := "([BI)C" } : Jvm.MethodName)) ∈ lw_all := lw_g (lw_at lw_m5 84 rfl) rfl
theorem q1250 : (Jvm.Cond.static ({ cls := "java/lang/StringLatin1", name := "compareToUTF16", desc := "([B[BII)I" } : Jvm.MethodName)) ∈ lw_all := lw_g (lw_at lw_m5 124 rfl) rfl
theorem q1251 : (Jvm.Cond.code ({ cls := "java/lang/StringLatin1", name := "compareToUTF16", desc := "([B[BII)I" } : Jvm.MethodName) prog_45_method_17_code (4 : Nat) (Option.some Jvm.ClassFile.FieldType.int)) ∈ lw_all := lw_g (lw_at lw_m5 125 rfl) rfl
theorem q1252 : (Jvm.Cond.methodLink "java/lang/StringLatin1" (62 : Nat) ({ cls := "java/lang/String", name := "checkOffset", desc := "(II)V" } : Jvm.MethodName)) ∈ lw_all := lw_g (lw_at lw_m5 126 rfl) rfl
theorem q1312 : (Jvm.Cond.static ({ cls := "java/lang/StringLatin1", name := "equals", desc := "([B[B)Z" } : Jvm.MethodName)) ∈ lw_all := lw_g (lw_at lw_m5 186 rfl) rfl
theorem q1313 : (Jvm.Cond.code ({ cls := "java/lang/StringLatin1", name := "equals", desc := "([B[B)Z" } : Jvm.MethodName) prog_45_method_13_code (3 : Nat) (Option.some Jvm.ClassFile.FieldType.boolean)) ∈ lw_all := lw_g (lw_at lw_m5 187 rfl) rfl
theorem q1490 : (Jvm.Cond.static ({ cls := "java/lang/StringLatin1", name := "inflate", desc := "([BI[BII)V" } : Jvm.MethodName)) ∈ lw_all := lw_g (lw_at lw_m6 124 rfl) rfl
theorem q1491 : (Jvm.Cond.code ({ cls := "java/lang/StringLatin1", name := "inflate", desc := "([BI[BII)V" } : Jvm.MethodName) prog_45_method_50_code (5 : Nat) (Option.none : Option Jvm.ClassFile.FieldType)) ∈ lw_all := lw_g (lw_at lw_m6 125 rfl) rfl
theorem q1492 : (Jvm.Cond.methodLink "java/lang/StringLatin1" (240 : Nat) ({ cls := "java/lang/StringUTF16", name := "inflate", desc := "([BI[BII)V" } : Jvm.MethodName)) ∈ lw_all := lw_g (lw_at lw_m6 126 rfl) rfl
theorem q1598 : (Jvm.Cond.static ({ cls := "java/lang/StringLatin1", name := "fillNull", desc := "([BII)V" } : Jvm.MethodName)) ∈ lw_all := lw_g (lw_at lw_m6 232 rfl) rfl
theorem q1599 : (Jvm.Cond.code ({ cls := "java/lang/StringLatin1", name := "fillNull", desc := "([BII)V" } : Jvm.MethodName) prog_45_method_48_code (3 : Nat) (Option.none : Option Jvm.ClassFile.FieldType)) ∈ lw_all := lw_g (lw_at lw_m6 233 rfl) rfl
theorem q1600 : (Jvm.Cond.methodLink "java/lang/StringLatin1" (236 : Nat) ({ cls := "java/util/Arrays", name := "fill", desc := "([BIIB)V" } : Jvm.MethodName)) ∈ lw_all := lw_g (lw_at lw_m6 234 rfl) rfl
theorem q1628 : (Jvm.Cond.static ({ cls := "java/lang/StringLatin1", name := "canEncode", desc := "(C)Z" } : Jvm.MethodName)) ∈ lw_all := lw_g (lw_at lw_m7 22 rfl) rfl
theorem q1629 : (Jvm.Cond.code ({ cls := "java/lang/StringLatin1", name := "canEncode", desc := "(C)Z" } : Jvm.MethodName) prog_45_method_3_code (1 : Nat) (Option.some Jvm.ClassFile.FieldType.boolean)) ∈ lw_all := lw_g (lw_at lw_m7 23 rfl) rfl
theorem q2858 : (Jvm.Cond.static ({ cls := "java/lang/StringLatin1", name := "charAt", desc := "([BI)C" } : Jvm.MethodName)) ∈ lw_all := lw_g (lw_at lw_m12 52 rfl) rfl
theorem q2859 : (Jvm.Cond.code ({ cls := "java/lang/StringLatin1", name := "charAt", desc := "([BI)C" } : Jvm.MethodName) prog_45_method_2_code (2 : Nat) (Option.some Jvm.ClassFile.FieldType.char)) ∈ lw_all := lw_g (lw_at lw_m12 53 rfl) rfl
theorem q2860 : (Jvm.Cond.methodLink "java/lang/StringLatin1" (9 : Nat) ({ cls := "java/lang/String", name := "checkIndex", desc := "(II)V" } : Jvm.MethodName)) ∈ lw_all := lw_g (lw_at lw_m12 54 rfl) rfl
/-! jdk/internal/util/ArraysSupport -/
set_option maxRecDepth 100000
def RJ17 : String := "jdk/internal/util/ArraysSupport"
abbrev cJ17_vectorizedHashCode : ByteArray := prog_74_method_4_code
def yJ17_vectorizedHashCode : MethodName := ⟨RJ17, "vectorizedHashCode", "(Ljava/lang/Object;IIII)I"⟩
def dkwJ17_vectorizedHashCode_6 : List UInt8 := [183, 0, 91, 18, 92, 182, 0, 94, 21, 4, 182, 0, 98, 182, 0, 101, 183, 0, 105, 191, 172]
abbrev dktJ17_vectorizedHashCode_6 : List UInt8 := dkwJ17_vectorizedHashCode_6 ++ []
def dkwJ17_vectorizedHashCode_5 : List UInt8 := [167, 0, 44, 29, 42, 192, 0, 82, 27, 28, 184, 0, 84, 167, 0, 31, 187, 0, 87, 89, 187, 0, 89, 89]
abbrev dktJ17_vectorizedHashCode_5 : List UInt8 := dkwJ17_vectorizedHashCode_5 ++ dktJ17_vectorizedHashCode_6
def dkwJ17_vectorizedHashCode_4 : List UInt8 := [29, 42, 192, 0, 60, 27, 28, 184, 0, 75, 167, 0, 57, 29, 42, 192, 0, 77, 27, 28, 184, 0, 79]
abbrev dktJ17_vectorizedHashCode_4 : List UInt8 := dkwJ17_vectorizedHashCode_4 ++ dktJ17_vectorizedHashCode_5
def dkwJ17_vectorizedHashCode_3 : List UInt8 := [192, 0, 60, 27, 28, 184, 0, 66, 167, 0, 83, 29, 42, 192, 0, 69, 27, 28, 184, 0, 71, 167, 0, 70]
abbrev dktJ17_vectorizedHashCode_3 : List UInt8 := dkwJ17_vectorizedHashCode_3 ++ dktJ17_vectorizedHashCode_4
def dkwJ17_vectorizedHashCode_2 : List UInt8 := [29, 42, 192, 0, 60, 27, 28, 184, 0, 62, 167, 0, 103, 42, 193, 0, 60, 153, 0, 16, 29, 42]
abbrev dktJ17_vectorizedHashCode_2 : List UInt8 := dkwJ17_vectorizedHashCode_2 ++ dktJ17_vectorizedHashCode_3
def dkwJ17_vectorizedHashCode_1 : List UInt8 := [170, 0, 0, 0, 0, 127, 0, 0, 0, 4, 0, 0, 0, 10, 0, 0, 0, 42, 0, 0, 0, 55, 0, 0, 0, 127, 0, 0, 0, 127, 0, 0, 0, 88, 0, 0, 0, 101, 0, 0, 0, 114]
abbrev dktJ17_vectorizedHashCode_1 : List UInt8 := dkwJ17_vectorizedHashCode_1 ++ dktJ17_vectorizedHashCode_2
def dkwJ17_vectorizedHashCode_0 : List UInt8 := [21, 4]
abbrev dktJ17_vectorizedHashCode_0 : List UInt8 := dkwJ17_vectorizedHashCode_0 ++ dktJ17_vectorizedHashCode_1
theorem dksJ17_vectorizedHashCode_0 : cJ17_vectorizedHashCode.data.toList.drop 0 = dktJ17_vectorizedHashCode_0 := by decide +kernel
theorem dksJ17_vectorizedHashCode_1 : cJ17_vectorizedHashCode.data.toList.drop 2 = dktJ17_vectorizedHashCode_1 := dk_seg dksJ17_vectorizedHashCode_0 2 rfl rfl
theorem dksJ17_vectorizedHashCode_2 : cJ17_vectorizedHashCode.data.toList.drop 44 = dktJ17_vectorizedHashCode_2 := dk_seg dksJ17_vectorizedHashCode_1 42 rfl rfl
theorem dksJ17_vectorizedHashCode_3 : cJ17_vectorizedHashCode.data.toList.drop 66 = dktJ17_vectorizedHashCode_3 := dk_seg dksJ17_vectorizedHashCode_2 22 rfl rfl
theorem dksJ17_vectorizedHashCode_4 : cJ17_vectorizedHashCode.data.toList.drop 90 = dktJ17_vectorizedHashCode_4 := dk_seg dksJ17_vectorizedHashCode_3 24 rfl rfl
theorem dksJ17_vectorizedHashCode_5 : cJ17_vectorizedHashCode.data.toList.drop 113 = dktJ17_vectorizedHashCode_5 := dk_seg dksJ17_vectorizedHashCode_4 23 rfl rfl
theorem dksJ17_vectorizedHashCode_6 : cJ17_vectorizedHashCode.data.toList.drop 137 = dktJ17_vectorizedHashCode_6 := dk_seg dksJ17_vectorizedHashCode_5 24 rfl rfl
theorem dJ17_vectorizedHashCode_0 : decode cJ17_vectorizedHashCode 0 = .ok (.iload 4, 2) := dk_21 4 (dk_at dksJ17_vectorizedHashCode_0 0 rfl rfl)
theorem dJ17_vectorizedHashCode_2 : decode cJ17_vectorizedHashCode 2 = .ok (.tableswitch 127 4 10 #[42, 55, 127, 127, 88, 101, 114], 42) := by decide +kernel
theorem dJ17_vectorizedHashCode_44 : decode cJ17_vectorizedHashCode 44 = .ok (.iload_n 3, 1) := dk_29 (dk_at dksJ17_vectorizedHashCode_2 0 rfl rfl)
theorem dJ17_vectorizedHashCode_45 : decode cJ17_vectorizedHashCode 45 = .ok (.aload_n 0, 1) := dk_42 (dk_at dksJ17_vectorizedHashCode_2 1 rfl rfl)
theorem dJ17_vectorizedHashCode_46 : decode cJ17_vectorizedHashCode 46 = .ok (.checkcast 60, 3) := dk_192 0 60 (dk_at dksJ17_vectorizedHashCode_2 2 rfl rfl)
theorem dJ17_vectorizedHashCode_49 : decode cJ17_vectorizedHashCode 49 = .ok (.iload_n 1, 1) := dk_27 (dk_at dksJ17_vectorizedHashCode_2 5 rfl rfl)
theorem dJ17_vectorizedHashCode_50 : decode cJ17_vectorizedHashCode 50 = .ok (.iload_n 2, 1) := dk_28 (dk_at dksJ17_vectorizedHashCode_2 6 rfl rfl)
theorem dJ17_vectorizedHashCode_51 : decode cJ17_vectorizedHashCode 51 = .ok (.invokestatic 62, 3) := dk_184 0 62 (dk_at dksJ17_vectorizedHashCode_2 7 rfl rfl)
theorem dJ17_vectorizedHashCode_54 : decode cJ17_vectorizedHashCode 54 = .ok (.goto 103, 3) := dk_167 0 103 (dk_at dksJ17_vectorizedHashCode_2 10 rfl rfl)
theorem dJ17_vectorizedHashCode_57 : decode cJ17_vectorizedHashCode 57 = .ok (.aload_n 0, 1) := dk_42 (dk_at dksJ17_vectorizedHashCode_2 13 rfl rfl)
theorem dJ17_vectorizedHashCode_58 : decode cJ17_vectorizedHashCode 58 = .ok (.instanceof 60, 3) := dk_193 0 60 (dk_at dksJ17_vectorizedHashCode_2 14 rfl rfl)
theorem dJ17_vectorizedHashCode_61 : decode cJ17_vectorizedHashCode 61 = .ok (.ifCond .eq 16, 3) := dk_153 0 16 (dk_at dksJ17_vectorizedHashCode_2 17 rfl rfl)
theorem dJ17_vectorizedHashCode_64 : decode cJ17_vectorizedHashCode 64 = .ok (.iload_n 3, 1) := dk_29 (dk_at dksJ17_vectorizedHashCode_2 20 rfl rfl)
theorem dJ17_vectorizedHashCode_65 : decode cJ17_vectorizedHashCode 65 = .ok (.aload_n 0, 1) := dk_42 (dk_at dksJ17_vectorizedHashCode_2 21 rfl rfl)
theorem dJ17_vectorizedHashCode_66 : decode cJ17_vectorizedHashCode 66 = .ok (.checkcast 60, 3) := dk_192 0 60 (dk_at dksJ17_vectorizedHashCode_3 0 rfl rfl)
theorem dJ17_vectorizedHashCode_69 : decode cJ17_vectorizedHashCode 69 = .ok (.iload_n 1, 1) := dk_27 (dk_at dksJ17_vectorizedHashCode_3 3 rfl rfl)
theorem dJ17_vectorizedHashCode_70 : decode cJ17_vectorizedHashCode 70 = .ok (.iload_n 2, 1) := dk_28 (dk_at dksJ17_vectorizedHashCode_3 4 rfl rfl)
theorem dJ17_vectorizedHashCode_71 : decode cJ17_vectorizedHashCode 71 = .ok (.invokestatic 66, 3) := dk_184 0 66 (dk_at dksJ17_vectorizedHashCode_3 5 rfl rfl)
theorem dJ17_vectorizedHashCode_74 : decode cJ17_vectorizedHashCode 74 = .ok (.goto 83, 3) := dk_167 0 83 (dk_at dksJ17_vectorizedHashCode_3 8 rfl rfl)
theorem dJ17_vectorizedHashCode_77 : decode cJ17_vectorizedHashCode 77 = .ok (.iload_n 3, 1) := dk_29 (dk_at dksJ17_vectorizedHashCode_3 11 rfl rfl)
theorem dJ17_vectorizedHashCode_78 : decode cJ17_vectorizedHashCode 78 = .ok (.aload_n 0, 1) := dk_42 (dk_at dksJ17_vectorizedHashCode_3 12 rfl rfl)
theorem dJ17_vectorizedHashCode_79 : decode cJ17_vectorizedHashCode 79 = .ok (.checkcast 69, 3) := dk_192 0 69 (dk_at dksJ17_vectorizedHashCode_3 13 rfl rfl)
theorem dJ17_vectorizedHashCode_82 : decode cJ17_vectorizedHashCode 82 = .ok (.iload_n 1, 1) := dk_27 (dk_at dksJ17_vectorizedHashCode_3 16 rfl rfl)
theorem dJ17_vectorizedHashCode_83 : decode cJ17_vectorizedHashCode 83 = .ok (.iload_n 2, 1) := dk_28 (dk_at dksJ17_vectorizedHashCode_3 17 rfl rfl)
theorem dJ17_vectorizedHashCode_84 : decode cJ17_vectorizedHashCode 84 = .ok (.invokestatic 71, 3) := dk_184 0 71 (dk_at dksJ17_vectorizedHashCode_3 18 rfl rfl)
theorem dJ17_vectorizedHashCode_87 : decode cJ17_vectorizedHashCode 87 = .ok (.goto 70, 3) := dk_167 0 70 (dk_at dksJ17_vectorizedHashCode_3 21 rfl rfl)
theorem dJ17_vectorizedHashCode_90 : decode cJ17_vectorizedHashCode 90 = .ok (.iload_n 3, 1) := dk_29 (dk_at dksJ17_vectorizedHashCode_4 0 rfl rfl)
theorem dJ17_vectorizedHashCode_91 : decode cJ17_vectorizedHashCode 91 = .ok (.aload_n 0, 1) := dk_42 (dk_at dksJ17_vectorizedHashCode_4 1 rfl rfl)
theorem dJ17_vectorizedHashCode_92 : decode cJ17_vectorizedHashCode 92 = .ok (.checkcast 60, 3) := dk_192 0 60 (dk_at dksJ17_vectorizedHashCode_4 2 rfl rfl)
theorem dJ17_vectorizedHashCode_95 : decode cJ17_vectorizedHashCode 95 = .ok (.iload_n 1, 1) := dk_27 (dk_at dksJ17_vectorizedHashCode_4 5 rfl rfl)
theorem dJ17_vectorizedHashCode_96 : decode cJ17_vectorizedHashCode 96 = .ok (.iload_n 2, 1) := dk_28 (dk_at dksJ17_vectorizedHashCode_4 6 rfl rfl)
theorem dJ17_vectorizedHashCode_97 : decode cJ17_vectorizedHashCode 97 = .ok (.invokestatic 75, 3) := dk_184 0 75 (dk_at dksJ17_vectorizedHashCode_4 7 rfl rfl)
theorem dJ17_vectorizedHashCode_100 : decode cJ17_vectorizedHashCode 100 = .ok (.goto 57, 3) := dk_167 0 57 (dk_at dksJ17_vectorizedHashCode_4 10 rfl rfl)
theorem dJ17_vectorizedHashCode_103 : decode cJ17_vectorizedHashCode 103 = .ok (.iload_n 3, 1) := dk_29 (dk_at dksJ17_vectorizedHashCode_4 13 rfl rfl)
theorem dJ17_vectorizedHashCode_104 : decode cJ17_vectorizedHashCode 104 = .ok (.aload_n 0, 1) := dk_42 (dk_at dksJ17_vectorizedHashCode_4 14 rfl rfl)
theorem dJ17_vectorizedHashCode_105 : decode cJ17_vectorizedHashCode 105 = .ok (.checkcast 77, 3) := dk_192 0 77 (dk_at dksJ17_vectorizedHashCode_4 15 rfl rfl)
theorem dJ17_vectorizedHashCode_108 : decode cJ17_vectorizedHashCode 108 = .ok (.iload_n 1, 1) := dk_27 (dk_at dksJ17_vectorizedHashCode_4 18 rfl rfl)
theorem dJ17_vectorizedHashCode_109 : decode cJ17_vectorizedHashCode 109 = .ok (.iload_n 2, 1) := dk_28 (dk_at dksJ17_vectorizedHashCode_4 19 rfl rfl)
theorem dJ17_vectorizedHashCode_110 : decode cJ17_vectorizedHashCode 110 = .ok (.invokestatic 79, 3) := dk_184 0 79 (dk_at dksJ17_vectorizedHashCode_4 20 rfl rfl)
theorem dJ17_vectorizedHashCode_113 : decode cJ17_vectorizedHashCode 113 = .ok (.goto 44, 3) := dk_167 0 44 (dk_at dksJ17_vectorizedHashCode_5 0 rfl rfl)
theorem dJ17_vectorizedHashCode_116 : decode cJ17_vectorizedHashCode 116 = .ok (.iload_n 3, 1) := dk_29 (dk_at dksJ17_vectorizedHashCode_5 3 rfl rfl)
theorem dJ17_vectorizedHashCode_117 : decode cJ17_vectorizedHashCode 117 = .ok (.aload_n 0, 1) := dk_42 (dk_at dksJ17_vectorizedHashCode_5 4 rfl rfl)
theorem dJ17_vectorizedHashCode_118 : decode cJ17_vectorizedHashCode 118 = .ok (.checkcast 82, 3) := dk_192 0 82 (dk_at dksJ17_vectorizedHashCode_5 5 rfl rfl)
theorem dJ17_vectorizedHashCode_121 : decode cJ17_vectorizedHashCode 121 = .ok (.iload_n 1, 1) := dk_27 (dk_at dksJ17_vectorizedHashCode_5 8 rfl rfl)
theorem dJ17_vectorizedHashCode_122 : decode cJ17_vectorizedHashCode 122 = .ok (.iload_n 2, 1) := dk_28 (dk_at dksJ17_vectorizedHashCode_5 9 rfl rfl)
theorem dJ17_vectorizedHashCode_123 : decode cJ17_vectorizedHashCode 123 = .ok (.invokestatic 84, 3) := dk_184 0 84 (dk_at dksJ17_vectorizedHashCode_5 10 rfl rfl)
theorem dJ17_vectorizedHashCode_126 : decode cJ17_vectorizedHashCode 126 = .ok (.goto 31, 3) := dk_167 0 31 (dk_at dksJ17_vectorizedHashCode_5 13 rfl rfl)
theorem dJ17_vectorizedHashCode_129 : decode cJ17_vectorizedHashCode 129 = .ok (.new 87, 3) := dk_187 0 87 (dk_at dksJ17_vectorizedHashCode_5 16 rfl rfl)
theorem dJ17_vectorizedHashCode_132 : decode cJ17_vectorizedHashCode 132 = .ok (.dup, 1) := dk_89 (dk_at dksJ17_vectorizedHashCode_5 19 rfl rfl)
theorem dJ17_vectorizedHashCode_133 : decode cJ17_vectorizedHashCode 133 = .ok (.new 89, 3) := dk_187 0 89 (dk_at dksJ17_vectorizedHashCode_5 20 rfl rfl)
theorem dJ17_vectorizedHashCode_136 : decode cJ17_vectorizedHashCode 136 = .ok (.dup, 1) := dk_89 (dk_at dksJ17_vectorizedHashCode_5 23 rfl rfl)
theorem dJ17_vectorizedHashCode_137 : decode cJ17_vectorizedHashCode 137 = .ok (.invokespecial 91, 3) := dk_183 0 91 (dk_at dksJ17_vectorizedHashCode_6 0 rfl rfl)
theorem dJ17_vectorizedHashCode_140 : decode cJ17_vectorizedHashCode 140 = .ok (.ldc 92, 2) := dk_18 92 (dk_at dksJ17_vectorizedHashCode_6 3 rfl rfl)
theorem dJ17_vectorizedHashCode_142 : decode cJ17_vectorizedHashCode 142 = .ok (.invokevirtual 94, 3) := dk_182 0 94 (dk_at dksJ17_vectorizedHashCode_6 5 rfl rfl)
theorem dJ17_vectorizedHashCode_145 : decode cJ17_vectorizedHashCode 145 = .ok (.iload 4, 2) := dk_21 4 (dk_at dksJ17_vectorizedHashCode_6 8 rfl rfl)
theorem dJ17_vectorizedHashCode_147 : decode cJ17_vectorizedHashCode 147 = .ok (.invokevirtual 98, 3) := dk_182 0 98 (dk_at dksJ17_vectorizedHashCode_6 10 rfl rfl)
theorem dJ17_vectorizedHashCode_150 : decode cJ17_vectorizedHashCode 150 = .ok (.invokevirtual 101, 3) := dk_182 0 101 (dk_at dksJ17_vectorizedHashCode_6 13 rfl rfl)
theorem dJ17_vectorizedHashCode_153 : decode cJ17_vectorizedHashCode 153 = .ok (.invokespecial 105, 3) := dk_183 0 105 (dk_at dksJ17_vectorizedHashCode_6 16 rfl rfl)
theorem dJ17_vectorizedHashCode_156 : decode cJ17_vectorizedHashCode 156 = .ok (.athrow, 1) := dk_191 (dk_at dksJ17_vectorizedHashCode_6 19 rfl rfl)
theorem dJ17_vectorizedHashCode_157 : decode cJ17_vectorizedHashCode 157 = .ok (.ireturn, 1) := dk_172 (dk_at dksJ17_vectorizedHashCode_6 20 rfl rfl)
abbrev cJ17_signedHashCode : ByteArray := prog_74_method_5_code
def yJ17_signedHashCode : MethodName := ⟨RJ17, "signedHashCode", "(I[BII)I"⟩
def dkwJ17_signedHashCode_1 : List UInt8 := [17, 0, 255, 126, 96, 59, 132, 5, 1, 167, 255, 232, 26, 172]
abbrev dktJ17_signedHashCode_1 : List UInt8 := dkwJ17_signedHashCode_1 ++ []
def dkwJ17_signedHashCode_0 : List UInt8 := [28, 29, 96, 54, 4, 28, 54, 5, 21, 5, 21, 4, 162, 0, 23, 16, 31, 26, 104, 43, 21, 5, 51]
abbrev dktJ17_signedHashCode_0 : List UInt8 := dkwJ17_signedHashCode_0 ++ dktJ17_signedHashCode_1
theorem dksJ17_signedHashCode_0 : cJ17_signedHashCode.data.toList.drop 0 = dktJ17_signedHashCode_0 := by decide +kernel
theorem dksJ17_signedHashCode_1 : cJ17_signedHashCode.data.toList.drop 23 = dktJ17_signedHashCode_1 := dk_seg dksJ17_signedHashCode_0 23 rfl rfl
theorem dJ17_signedHashCode_0 : decode cJ17_signedHashCode 0 = .ok (.iload_n 2, 1) := dk_28 (dk_at dksJ17_signedHashCode_0 0 rfl rfl)
theorem dJ17_signedHashCode_1 : decode cJ17_signedHashCode 1 = .ok (.iload_n 3, 1) := dk_29 (dk_at dksJ17_signedHashCode_0 1 rfl rfl)
theorem dJ17_signedHashCode_2 : decode cJ17_signedHashCode 2 = .ok (.iadd, 1) := dk_96 (dk_at dksJ17_signedHashCode_0 2 rfl rfl)
theorem dJ17_signedHashCode_3 : decode cJ17_signedHashCode 3 = .ok (.istore 4, 2) := dk_54 4 (dk_at dksJ17_signedHashCode_0 3 rfl rfl)
theorem dJ17_signedHashCode_5 : decode cJ17_signedHashCode 5 = .ok (.iload_n 2, 1) := dk_28 (dk_at dksJ17_signedHashCode_0 5 rfl rfl)
theorem dJ17_signedHashCode_6 : decode cJ17_signedHashCode 6 = .ok (.istore 5, 2) := dk_54 5 (dk_at dksJ17_signedHashCode_0 6 rfl rfl)
theorem dJ17_signedHashCode_8 : decode cJ17_signedHashCode 8 = .ok (.iload 5, 2) := dk_21 5 (dk_at dksJ17_signedHashCode_0 8 rfl rfl)
theorem dJ17_signedHashCode_10 : decode cJ17_signedHashCode 10 = .ok (.iload 4, 2) := dk_21 4 (dk_at dksJ17_signedHashCode_0 10 rfl rfl)
theorem dJ17_signedHashCode_12 : decode cJ17_signedHashCode 12 = .ok (.if_icmp .ge 23, 3) := dk_162 0 23 (dk_at dksJ17_signedHashCode_0 12 rfl rfl)
theorem dJ17_signedHashCode_15 : decode cJ17_signedHashCode 15 = .ok (.bipush 31, 2) := dk_16 31 (dk_at dksJ17_signedHashCode_0 15 rfl rfl)
theorem dJ17_signedHashCode_17 : decode cJ17_signedHashCode 17 = .ok (.iload_n 0, 1) := dk_26 (dk_at dksJ17_signedHashCode_0 17 rfl rfl)
theorem dJ17_signedHashCode_18 : decode cJ17_signedHashCode 18 = .ok (.imul, 1) := dk_104 (dk_at dksJ17_signedHashCode_0 18 rfl rfl)
theorem dJ17_signedHashCode_19 : decode cJ17_signedHashCode 19 = .ok (.aload_n 1, 1) := dk_43 (dk_at dksJ17_signedHashCode_0 19 rfl rfl)
theorem dJ17_signedHashCode_20 : decode cJ17_signedHashCode 20 = .ok (.iload 5, 2) := dk_21 5 (dk_at dksJ17_signedHashCode_0 20 rfl rfl)
theorem dJ17_signedHashCode_22 : decode cJ17_signedHashCode 22 = .ok (.baload, 1) := dk_51 (dk_at dksJ17_signedHashCode_0 22 rfl rfl)
theorem dJ17_signedHashCode_23 : decode cJ17_signedHashCode 23 = .ok (.sipush 255, 3) := dk_17 0 255 (dk_at dksJ17_signedHashCode_1 0 rfl rfl)
theorem dJ17_signedHashCode_26 : decode cJ17_signedHashCode 26 = .ok (.iand, 1) := dk_126 (dk_at dksJ17_signedHashCode_1 3 rfl rfl)
theorem dJ17_signedHashCode_27 : decode cJ17_signedHashCode 27 = .ok (.iadd, 1) := dk_96 (dk_at dksJ17_signedHashCode_1 4 rfl rfl)
theorem dJ17_signedHashCode_28 : decode cJ17_signedHashCode 28 = .ok (.istore_n 0, 1) := dk_59 (dk_at dksJ17_signedHashCode_1 5 rfl rfl)
theorem dJ17_signedHashCode_29 : decode cJ17_signedHashCode 29 = .ok (.iinc 5 1, 3) := dk_132 5 1 (dk_at dksJ17_signedHashCode_1 6 rfl rfl)
theorem dJ17_signedHashCode_32 : decode cJ17_signedHashCode 32 = .ok (.goto (-24), 3) := dk_167 255 232 (dk_at dksJ17_signedHashCode_1 9 rfl rfl)
theorem dJ17_signedHashCode_35 : decode cJ17_signedHashCode 35 = .ok (.iload_n 0, 1) := dk_26 (dk_at dksJ17_signedHashCode_1 12 rfl rfl)
theorem dJ17_signedHashCode_36 : decode cJ17_signedHashCode 36 = .ok (.ireturn, 1) := dk_172 (dk_at dksJ17_signedHashCode_1 13 rfl rfl)
abbrev cJ17_utf16hashCode : ByteArray := prog_74_method_10_code
def yJ17_utf16hashCode : MethodName := ⟨RJ17, "utf16hashCode", "(I[BII)I"⟩
def dkwJ17_utf16hashCode_1 : List UInt8 := [21, 5, 185, 0, 110, 3, 0, 96, 59, 132, 5, 1, 167, 255, 229, 26, 172]
abbrev dktJ17_utf16hashCode_1 : List UInt8 := dkwJ17_utf16hashCode_1 ++ []
def dkwJ17_utf16hashCode_0 : List UInt8 := [28, 29, 96, 54, 4, 28, 54, 5, 21, 5, 21, 4, 162, 0, 26, 16, 31, 26, 104, 178, 0, 106, 43]
abbrev dktJ17_utf16hashCode_0 : List UInt8 := dkwJ17_utf16hashCode_0 ++ dktJ17_utf16hashCode_1
theorem dksJ17_utf16hashCode_0 : cJ17_utf16hashCode.data.toList.drop 0 = dktJ17_utf16hashCode_0 := by decide +kernel
theorem dksJ17_utf16hashCode_1 : cJ17_utf16hashCode.data.toList.drop 23 = dktJ17_utf16hashCode_1 := dk_seg dksJ17_utf16hashCode_0 23 rfl rfl
theorem dJ17_utf16hashCode_0 : decode cJ17_utf16hashCode 0 = .ok (.iload_n 2, 1) := dk_28 (dk_at dksJ17_utf16hashCode_0 0 rfl rfl)
theorem dJ17_utf16hashCode_1 : decode cJ17_utf16hashCode 1 = .ok (.iload_n 3, 1) := dk_29 (dk_at dksJ17_utf16hashCode_0 1 rfl rfl)
theorem dJ17_utf16hashCode_2 : decode cJ17_utf16hashCode 2 = .ok (.iadd, 1) := dk_96 (dk_at dksJ17_utf16hashCode_0 2 rfl rfl)
theorem dJ17_utf16hashCode_3 : decode cJ17_utf16hashCode 3 = .ok (.istore 4, 2) := dk_54 4 (dk_at dksJ17_utf16hashCode_0 3 rfl rfl)
theorem dJ17_utf16hashCode_5 : decode cJ17_utf16hashCode 5 = .ok (.iload_n 2, 1) := dk_28 (dk_at dksJ17_utf16hashCode_0 5 rfl rfl)
theorem dJ17_utf16hashCode_6 : decode cJ17_utf16hashCode 6 = .ok (.istore 5, 2) := dk_54 5 (dk_at dksJ17_utf16hashCode_0 6 rfl rfl)
theorem dJ17_utf16hashCode_8 : decode cJ17_utf16hashCode 8 = .ok (.iload 5, 2) := dk_21 5 (dk_at dksJ17_utf16hashCode_0 8 rfl rfl)
theorem dJ17_utf16hashCode_10 : decode cJ17_utf16hashCode 10 = .ok (.iload 4, 2) := dk_21 4 (dk_at dksJ17_utf16hashCode_0 10 rfl rfl)
theorem dJ17_utf16hashCode_12 : decode cJ17_utf16hashCode 12 = .ok (.if_icmp .ge 26, 3) := dk_162 0 26 (dk_at dksJ17_utf16hashCode_0 12 rfl rfl)
theorem dJ17_utf16hashCode_15 : decode cJ17_utf16hashCode 15 = .ok (.bipush 31, 2) := dk_16 31 (dk_at dksJ17_utf16hashCode_0 15 rfl rfl)
theorem dJ17_utf16hashCode_17 : decode cJ17_utf16hashCode 17 = .ok (.iload_n 0, 1) := dk_26 (dk_at dksJ17_utf16hashCode_0 17 rfl rfl)
theorem dJ17_utf16hashCode_18 : decode cJ17_utf16hashCode 18 = .ok (.imul, 1) := dk_104 (dk_at dksJ17_utf16hashCode_0 18 rfl rfl)
theorem dJ17_utf16hashCode_19 : decode cJ17_utf16hashCode 19 = .ok (.getstatic 106, 3) := dk_178 0 106 (dk_at dksJ17_utf16hashCode_0 19 rfl rfl)
theorem dJ17_utf16hashCode_22 : decode cJ17_utf16hashCode 22 = .ok (.aload_n 1, 1) := dk_43 (dk_at dksJ17_utf16hashCode_0 22 rfl rfl)
theorem dJ17_utf16hashCode_23 : decode cJ17_utf16hashCode 23 = .ok (.iload 5, 2) := dk_21 5 (dk_at dksJ17_utf16hashCode_1 0 rfl rfl)
theorem dJ17_utf16hashCode_25 : decode cJ17_utf16hashCode 25 = .ok (.invokeinterface 110 3, 5) := by decide +kernel
theorem dJ17_utf16hashCode_30 : decode cJ17_utf16hashCode 30 = .ok (.iadd, 1) := dk_96 (dk_at dksJ17_utf16hashCode_1 7 rfl rfl)
theorem dJ17_utf16hashCode_31 : decode cJ17_utf16hashCode 31 = .ok (.istore_n 0, 1) := dk_59 (dk_at dksJ17_utf16hashCode_1 8 rfl rfl)
theorem dJ17_utf16hashCode_32 : decode cJ17_utf16hashCode 32 = .ok (.iinc 5 1, 3) := dk_132 5 1 (dk_at dksJ17_utf16hashCode_1 9 rfl rfl)
theorem dJ17_utf16hashCode_35 : decode cJ17_utf16hashCode 35 = .ok (.goto (-27), 3) := dk_167 255 229 (dk_at dksJ17_utf16hashCode_1 12 rfl rfl)
theorem dJ17_utf16hashCode_38 : decode cJ17_utf16hashCode 38 = .ok (.iload_n 0, 1) := dk_26 (dk_at dksJ17_utf16hashCode_1 15 rfl rfl)
theorem dJ17_utf16hashCode_39 : decode cJ17_utf16hashCode 39 = .ok (.ireturn, 1) := dk_172 (dk_at dksJ17_utf16hashCode_1 16 rfl rfl)
abbrev cJ17_hashCode : ByteArray := prog_74_method_7_code
def yJ17_hashCode : MethodName := ⟨RJ17, "hashCode", "(I[CII)I"⟩
def dkwJ17_hashCode_1 : List UInt8 := [59, 132, 5, 1, 167, 255, 236, 26, 172]
abbrev dktJ17_hashCode_1 : List UInt8 := dkwJ17_hashCode_1 ++ []
def dkwJ17_hashCode_0 : List UInt8 := [28, 29, 96, 54, 4, 28, 54, 5, 21, 5, 21, 4, 162, 0, 19, 16, 31, 26, 104, 43, 21, 5, 52, 96]
abbrev dktJ17_hashCode_0 : List UInt8 := dkwJ17_hashCode_0 ++ dktJ17_hashCode_1
theorem dksJ17_hashCode_0 : cJ17_hashCode.data.toList.drop 0 = dktJ17_hashCode_0 := by decide +kernel
theorem dksJ17_hashCode_1 : cJ17_hashCode.data.toList.drop 24 = dktJ17_hashCode_1 := dk_seg dksJ17_hashCode_0 24 rfl rfl
theorem dJ17_hashCode_0 : decode cJ17_hashCode 0 = .ok (.iload_n 2, 1) := dk_28 (dk_at dksJ17_hashCode_0 0 rfl rfl)
theorem dJ17_hashCode_1 : decode cJ17_hashCode 1 = .ok (.iload_n 3, 1) := dk_29 (dk_at dksJ17_hashCode_0 1 rfl rfl)
theorem dJ17_hashCode_2 : decode cJ17_hashCode 2 = .ok (.iadd, 1) := dk_96 (dk_at dksJ17_hashCode_0 2 rfl rfl)
theorem dJ17_hashCode_3 : decode cJ17_hashCode 3 = .ok (.istore 4, 2) := dk_54 4 (dk_at dksJ17_hashCode_0 3 rfl rfl)
theorem dJ17_hashCode_5 : decode cJ17_hashCode 5 = .ok (.iload_n 2, 1) := dk_28 (dk_at dksJ17_hashCode_0 5 rfl rfl)
theorem dJ17_hashCode_6 : decode cJ17_hashCode 6 = .ok (.istore 5, 2) := dk_54 5 (dk_at dksJ17_hashCode_0 6 rfl rfl)
theorem dJ17_hashCode_8 : decode cJ17_hashCode 8 = .ok (.iload 5, 2) := dk_21 5 (dk_at dksJ17_hashCode_0 8 rfl rfl)
theorem dJ17_hashCode_10 : decode cJ17_hashCode 10 = .ok (.iload 4, 2) := dk_21 4 (dk_at dksJ17_hashCode_0 10 rfl rfl)
theorem dJ17_hashCode_12 : decode cJ17_hashCode 12 = .ok (.if_icmp .ge 19, 3) := dk_162 0 19 (dk_at dksJ17_hashCode_0 12 rfl rfl)
theorem dJ17_hashCode_15 : decode cJ17_hashCode 15 = .ok (.bipush 31, 2) := dk_16 31 (dk_at dksJ17_hashCode_0 15 rfl rfl)
theorem dJ17_hashCode_17 : decode cJ17_hashCode 17 = .ok (.iload_n 0, 1) := dk_26 (dk_at dksJ17_hashCode_0 17 rfl rfl)
theorem dJ17_hashCode_18 : decode cJ17_hashCode 18 = .ok (.imul, 1) := dk_104 (dk_at dksJ17_hashCode_0 18 rfl rfl)
theorem dJ17_hashCode_19 : decode cJ17_hashCode 19 = .ok (.aload_n 1, 1) := dk_43 (dk_at dksJ17_hashCode_0 19 rfl rfl)
theorem dJ17_hashCode_20 : decode cJ17_hashCode 20 = .ok (.iload 5, 2) := dk_21 5 (dk_at dksJ17_hashCode_0 20 rfl rfl)
theorem dJ17_hashCode_22 : decode cJ17_hashCode 22 = .ok (.caload, 1) := dk_52 (dk_at dksJ17_hashCode_0 22 rfl rfl)
theorem dJ17_hashCode_23 : decode cJ17_hashCode 23 = .ok (.iadd, 1) := dk_96 (dk_at dksJ17_hashCode_0 23 rfl rfl)
theorem dJ17_hashCode_24 : decode cJ17_hashCode 24 = .ok (.istore_n 0, 1) := dk_59 (dk_at dksJ17_hashCode_1 0 rfl rfl)
theorem dJ17_hashCode_25 : decode cJ17_hashCode 25 = .ok (.iinc 5 1, 3) := dk_132 5 1 (dk_at dksJ17_hashCode_1 1 rfl rfl)
theorem dJ17_hashCode_28 : decode cJ17_hashCode 28 = .ok (.goto (-20), 3) := dk_167 255 236 (dk_at dksJ17_hashCode_1 4 rfl rfl)
theorem dJ17_hashCode_31 : decode cJ17_hashCode 31 = .ok (.iload_n 0, 1) := dk_26 (dk_at dksJ17_hashCode_1 7 rfl rfl)
theorem dJ17_hashCode_32 : decode cJ17_hashCode 32 = .ok (.ireturn, 1) := dk_172 (dk_at dksJ17_hashCode_1 8 rfl rfl)
abbrev cJ17_hashCode_2 : ByteArray := prog_74_method_6_code
def yJ17_hashCode_2 : MethodName := ⟨RJ17, "hashCode", "(I[BII)I"⟩
def dkwJ17_hashCode_2_1 : List UInt8 := [59, 132, 5, 1, 167, 255, 236, 26, 172]
abbrev dktJ17_hashCode_2_1 : List UInt8 := dkwJ17_hashCode_2_1 ++ []
def dkwJ17_hashCode_2_0 : List UInt8 := [28, 29, 96, 54, 4, 28, 54, 5, 21, 5, 21, 4, 162, 0, 19, 16, 31, 26, 104, 43, 21, 5, 51, 96]
abbrev dktJ17_hashCode_2_0 : List UInt8 := dkwJ17_hashCode_2_0 ++ dktJ17_hashCode_2_1
theorem dksJ17_hashCode_2_0 : cJ17_hashCode_2.data.toList.drop 0 = dktJ17_hashCode_2_0 := by decide +kernel
theorem dksJ17_hashCode_2_1 : cJ17_hashCode_2.data.toList.drop 24 = dktJ17_hashCode_2_1 := dk_seg dksJ17_hashCode_2_0 24 rfl rfl
theorem dJ17_hashCode_2_0 : decode cJ17_hashCode_2 0 = .ok (.iload_n 2, 1) := dk_28 (dk_at dksJ17_hashCode_2_0 0 rfl rfl)
theorem dJ17_hashCode_2_1 : decode cJ17_hashCode_2 1 = .ok (.iload_n 3, 1) := dk_29 (dk_at dksJ17_hashCode_2_0 1 rfl rfl)
theorem dJ17_hashCode_2_2 : decode cJ17_hashCode_2 2 = .ok (.iadd, 1) := dk_96 (dk_at dksJ17_hashCode_2_0 2 rfl rfl)
theorem dJ17_hashCode_2_3 : decode cJ17_hashCode_2 3 = .ok (.istore 4, 2) := dk_54 4 (dk_at dksJ17_hashCode_2_0 3 rfl rfl)
theorem dJ17_hashCode_2_5 : decode cJ17_hashCode_2 5 = .ok (.iload_n 2, 1) := dk_28 (dk_at dksJ17_hashCode_2_0 5 rfl rfl)
theorem dJ17_hashCode_2_6 : decode cJ17_hashCode_2 6 = .ok (.istore 5, 2) := dk_54 5 (dk_at dksJ17_hashCode_2_0 6 rfl rfl)
theorem dJ17_hashCode_2_8 : decode cJ17_hashCode_2 8 = .ok (.iload 5, 2) := dk_21 5 (dk_at dksJ17_hashCode_2_0 8 rfl rfl)
theorem dJ17_hashCode_2_10 : decode cJ17_hashCode_2 10 = .ok (.iload 4, 2) := dk_21 4 (dk_at dksJ17_hashCode_2_0 10 rfl rfl)
theorem dJ17_hashCode_2_12 : decode cJ17_hashCode_2 12 = .ok (.if_icmp .ge 19, 3) := dk_162 0 19 (dk_at dksJ17_hashCode_2_0 12 rfl rfl)
theorem dJ17_hashCode_2_15 : decode cJ17_hashCode_2 15 = .ok (.bipush 31, 2) := dk_16 31 (dk_at dksJ17_hashCode_2_0 15 rfl rfl)
theorem dJ17_hashCode_2_17 : decode cJ17_hashCode_2 17 = .ok (.iload_n 0, 1) := dk_26 (dk_at dksJ17_hashCode_2_0 17 rfl rfl)
theorem dJ17_hashCode_2_18 : decode cJ17_hashCode_2 18 = .ok (.imul, 1) := dk_104 (dk_at dksJ17_hashCode_2_0 18 rfl rfl)
theorem dJ17_hashCode_2_19 : decode cJ17_hashCode_2 19 = .ok (.aload_n 1, 1) := dk_43 (dk_at dksJ17_hashCode_2_0 19 rfl rfl)
theorem dJ17_hashCode_2_20 : decode cJ17_hashCode_2 20 = .ok (.iload 5, 2) := dk_21 5 (dk_at dksJ17_hashCode_2_0 20 rfl rfl)
theorem dJ17_hashCode_2_22 : decode cJ17_hashCode_2 22 = .ok (.baload, 1) := dk_51 (dk_at dksJ17_hashCode_2_0 22 rfl rfl)
theorem dJ17_hashCode_2_23 : decode cJ17_hashCode_2 23 = .ok (.iadd, 1) := dk_96 (dk_at dksJ17_hashCode_2_0 23 rfl rfl)
theorem dJ17_hashCode_2_24 : decode cJ17_hashCode_2 24 = .ok (.istore_n 0, 1) := dk_59 (dk_at dksJ17_hashCode_2_1 0 rfl rfl)
theorem dJ17_hashCode_2_25 : decode cJ17_hashCode_2 25 = .ok (.iinc 5 1, 3) := dk_132 5 1 (dk_at dksJ17_hashCode_2_1 1 rfl rfl)
theorem dJ17_hashCode_2_28 : decode cJ17_hashCode_2 28 = .ok (.goto (-20), 3) := dk_167 255 236 (dk_at dksJ17_hashCode_2_1 4 rfl rfl)
theorem dJ17_hashCode_2_31 : decode cJ17_hashCode_2 31 = .ok (.iload_n 0, 1) := dk_26 (dk_at dksJ17_hashCode_2_1 7 rfl rfl)
theorem dJ17_hashCode_2_32 : decode cJ17_hashCode_2 32 = .ok (.ireturn, 1) := dk_172 (dk_at dksJ17_hashCode_2_1 8 rfl rfl)
abbrev cJ17_hashCode_3 : ByteArray := prog_74_method_8_code
def yJ17_hashCode_3 : MethodName := ⟨RJ17, "hashCode", "(I[SII)I"⟩
def dkwJ17_hashCode_3_1 : List UInt8 := [59, 132, 5, 1, 167, 255, 236, 26, 172]
abbrev dktJ17_hashCode_3_1 : List UInt8 := dkwJ17_hashCode_3_1 ++ []
def dkwJ17_hashCode_3_0 : List UInt8 := [28, 29, 96, 54, 4, 28, 54, 5, 21, 5, 21, 4, 162, 0, 19, 16, 31, 26, 104, 43, 21, 5, 53, 96]
abbrev dktJ17_hashCode_3_0 : List UInt8 := dkwJ17_hashCode_3_0 ++ dktJ17_hashCode_3_1
theorem dksJ17_hashCode_3_0 : cJ17_hashCode_3.data.toList.drop 0 = dktJ17_hashCode_3_0 := by decide +kernel
theorem dksJ17_hashCode_3_1 : cJ17_hashCode_3.data.toList.drop 24 = dktJ17_hashCode_3_1 := dk_seg dksJ17_hashCode_3_0 24 rfl rfl
theorem dJ17_hashCode_3_0 : decode cJ17_hashCode_3 0 = .ok (.iload_n 2, 1) := dk_28 (dk_at dksJ17_hashCode_3_0 0 rfl rfl)
theorem dJ17_hashCode_3_1 : decode cJ17_hashCode_3 1 = .ok (.iload_n 3, 1) := dk_29 (dk_at dksJ17_hashCode_3_0 1 rfl rfl)
theorem dJ17_hashCode_3_2 : decode cJ17_hashCode_3 2 = .ok (.iadd, 1) := dk_96 (dk_at dksJ17_hashCode_3_0 2 rfl rfl)
theorem dJ17_hashCode_3_3 : decode cJ17_hashCode_3 3 = .ok (.istore 4, 2) := dk_54 4 (dk_at dksJ17_hashCode_3_0 3 rfl rfl)
theorem dJ17_hashCode_3_5 : decode cJ17_hashCode_3 5 = .ok (.iload_n 2, 1) := dk_28 (dk_at dksJ17_hashCode_3_0 5 rfl rfl)
theorem dJ17_hashCode_3_6 : decode cJ17_hashCode_3 6 = .ok (.istore 5, 2) := dk_54 5 (dk_at dksJ17_hashCode_3_0 6 rfl rfl)
theorem dJ17_hashCode_3_8 : decode cJ17_hashCode_3 8 = .ok (.iload 5, 2) := dk_21 5 (dk_at dksJ17_hashCode_3_0 8 rfl rfl)
theorem dJ17_hashCode_3_10 : decode cJ17_hashCode_3 10 = .ok (.iload 4, 2) := dk_21 4 (dk_at dksJ17_hashCode_3_0 10 rfl rfl)
theorem dJ17_hashCode_3_12 : decode cJ17_hashCode_3 12 = .ok (.if_icmp .ge 19, 3) := dk_162 0 19 (dk_at dksJ17_hashCode_3_0 12 rfl rfl)
theorem dJ17_hashCode_3_15 : decode cJ17_hashCode_3 15 = .ok (.bipush 31, 2) := dk_16 31 (dk_at dksJ17_hashCode_3_0 15 rfl rfl)
theorem dJ17_hashCode_3_17 : decode cJ17_hashCode_3 17 = .ok (.iload_n 0, 1) := dk_26 (dk_at dksJ17_hashCode_3_0 17 rfl rfl)
theorem dJ17_hashCode_3_18 : decode cJ17_hashCode_3 18 = .ok (.imul, 1) := dk_104 (dk_at dksJ17_hashCode_3_0 18 rfl rfl)
theorem dJ17_hashCode_3_19 : decode cJ17_hashCode_3 19 = .ok (.aload_n 1, 1) := dk_43 (dk_at dksJ17_hashCode_3_0 19 rfl rfl)
theorem dJ17_hashCode_3_20 : decode cJ17_hashCode_3 20 = .ok (.iload 5, 2) := dk_21 5 (dk_at dksJ17_hashCode_3_0 20 rfl rfl)
theorem dJ17_hashCode_3_22 : decode cJ17_hashCode_3 22 = .ok (.saload, 1) := dk_53 (dk_at dksJ17_hashCode_3_0 22 rfl rfl)
theorem dJ17_hashCode_3_23 : decode cJ17_hashCode_3 23 = .ok (.iadd, 1) := dk_96 (dk_at dksJ17_hashCode_3_0 23 rfl rfl)
theorem dJ17_hashCode_3_24 : decode cJ17_hashCode_3 24 = .ok (.istore_n 0, 1) := dk_59 (dk_at dksJ17_hashCode_3_1 0 rfl rfl)
theorem dJ17_hashCode_3_25 : decode cJ17_hashCode_3 25 = .ok (.iinc 5 1, 3) := dk_132 5 1 (dk_at dksJ17_hashCode_3_1 1 rfl rfl)
theorem dJ17_hashCode_3_28 : decode cJ17_hashCode_3 28 = .ok (.goto (-20), 3) := dk_167 255 236 (dk_at dksJ17_hashCode_3_1 4 rfl rfl)
theorem dJ17_hashCode_3_31 : decode cJ17_hashCode_3 31 = .ok (.iload_n 0, 1) := dk_26 (dk_at dksJ17_hashCode_3_1 7 rfl rfl)
theorem dJ17_hashCode_3_32 : decode cJ17_hashCode_3 32 = .ok (.ireturn, 1) := dk_172 (dk_at dksJ17_hashCode_3_1 8 rfl rfl)
abbrev cJ17_hashCode_4 : ByteArray := prog_74_method_9_code
def yJ17_hashCode_4 : MethodName := ⟨RJ17, "hashCode", "(I[III)I"⟩
def dkwJ17_hashCode_4_1 : List UInt8 := [59, 132, 5, 1, 167, 255, 236, 26, 172]
abbrev dktJ17_hashCode_4_1 : List UInt8 := dkwJ17_hashCode_4_1 ++ []
def dkwJ17_hashCode_4_0 : List UInt8 := [28, 29, 96, 54, 4, 28, 54, 5, 21, 5, 21, 4, 162, 0, 19, 16, 31, 26, 104, 43, 21, 5, 46, 96]
abbrev dktJ17_hashCode_4_0 : List UInt8 := dkwJ17_hashCode_4_0 ++ dktJ17_hashCode_4_1
theorem dksJ17_hashCode_4_0 : cJ17_hashCode_4.data.toList.drop 0 = dktJ17_hashCode_4_0 := by decide +kernel
theorem dksJ17_hashCode_4_1 : cJ17_hashCode_4.data.toList.drop 24 = dktJ17_hashCode_4_1 := dk_seg dksJ17_hashCode_4_0 24 rfl rfl
theorem dJ17_hashCode_4_0 : decode cJ17_hashCode_4 0 = .ok (.iload_n 2, 1) := dk_28 (dk_at dksJ17_hashCode_4_0 0 rfl rfl)
theorem dJ17_hashCode_4_1 : decode cJ17_hashCode_4 1 = .ok (.iload_n 3, 1) := dk_29 (dk_at dksJ17_hashCode_4_0 1 rfl rfl)
theorem dJ17_hashCode_4_2 : decode cJ17_hashCode_4 2 = .ok (.iadd, 1) := dk_96 (dk_at dksJ17_hashCode_4_0 2 rfl rfl)
theorem dJ17_hashCode_4_3 : decode cJ17_hashCode_4 3 = .ok (.istore 4, 2) := dk_54 4 (dk_at dksJ17_hashCode_4_0 3 rfl rfl)
theorem dJ17_hashCode_4_5 : decode cJ17_hashCode_4 5 = .ok (.iload_n 2, 1) := dk_28 (dk_at dksJ17_hashCode_4_0 5 rfl rfl)
theorem dJ17_hashCode_4_6 : decode cJ17_hashCode_4 6 = .ok (.istore 5, 2) := dk_54 5 (dk_at dksJ17_hashCode_4_0 6 rfl rfl)
theorem dJ17_hashCode_4_8 : decode cJ17_hashCode_4 8 = .ok (.iload 5, 2) := dk_21 5 (dk_at dksJ17_hashCode_4_0 8 rfl rfl)
theorem dJ17_hashCode_4_10 : decode cJ17_hashCode_4 10 = .ok (.iload 4, 2) := dk_21 4 (dk_at dksJ17_hashCode_4_0 10 rfl rfl)
theorem dJ17_hashCode_4_12 : decode cJ17_hashCode_4 12 = .ok (.if_icmp .ge 19, 3) := dk_162 0 19 (dk_at dksJ17_hashCode_4_0 12 rfl rfl)
theorem dJ17_hashCode_4_15 : decode cJ17_hashCode_4 15 = .ok (.bipush 31, 2) := dk_16 31 (dk_at dksJ17_hashCode_4_0 15 rfl rfl)
theorem dJ17_hashCode_4_17 : decode cJ17_hashCode_4 17 = .ok (.iload_n 0, 1) := dk_26 (dk_at dksJ17_hashCode_4_0 17 rfl rfl)
theorem dJ17_hashCode_4_18 : decode cJ17_hashCode_4 18 = .ok (.imul, 1) := dk_104 (dk_at dksJ17_hashCode_4_0 18 rfl rfl)
theorem dJ17_hashCode_4_19 : decode cJ17_hashCode_4 19 = .ok (.aload_n 1, 1) := dk_43 (dk_at dksJ17_hashCode_4_0 19 rfl rfl)
theorem dJ17_hashCode_4_20 : decode cJ17_hashCode_4 20 = .ok (.iload 5, 2) := dk_21 5 (dk_at dksJ17_hashCode_4_0 20 rfl rfl)
theorem dJ17_hashCode_4_22 : decode cJ17_hashCode_4 22 = .ok (.iaload, 1) := dk_46 (dk_at dksJ17_hashCode_4_0 22 rfl rfl)
theorem dJ17_hashCode_4_23 : decode cJ17_hashCode_4 23 = .ok (.iadd, 1) := dk_96 (dk_at dksJ17_hashCode_4_0 23 rfl rfl)
theorem dJ17_hashCode_4_24 : decode cJ17_hashCode_4 24 = .ok (.istore_n 0, 1) := dk_59 (dk_at dksJ17_hashCode_4_1 0 rfl rfl)
theorem dJ17_hashCode_4_25 : decode cJ17_hashCode_4 25 = .ok (.iinc 5 1, 3) := dk_132 5 1 (dk_at dksJ17_hashCode_4_1 1 rfl rfl)
theorem dJ17_hashCode_4_28 : decode cJ17_hashCode_4 28 = .ok (.goto (-20), 3) := dk_167 255 236 (dk_at dksJ17_hashCode_4_1 4 rfl rfl)
theorem dJ17_hashCode_4_31 : decode cJ17_hashCode_4 31 = .ok (.iload_n 0, 1) := dk_26 (dk_at dksJ17_hashCode_4_1 7 rfl rfl)
theorem dJ17_hashCode_4_32 : decode cJ17_hashCode_4 32 = .ok (.ireturn, 1) := dk_172 (dk_at dksJ17_hashCode_4_1 8 rfl rfl)
abbrev cJ17_mismatch : ByteArray := prog_74_method_13_code
def yJ17_mismatch : MethodName := ⟨RJ17, "mismatch", "([B[BI)I"⟩
def dkwJ17_mismatch_3 : List UInt8 := [172]
abbrev dktJ17_mismatch_3 : List UInt8 := dkwJ17_mismatch_3 ++ []
def dkwJ17_mismatch_2 : List UInt8 := [62, 29, 28, 162, 0, 20, 42, 29, 51, 43, 29, 51, 159, 0, 5, 29, 172, 132, 3, 1, 167, 255, 237, 2]
abbrev dktJ17_mismatch_2 : List UInt8 := dkwJ17_mismatch_2 ++ dktJ17_mismatch_3
def dkwJ17_mismatch_1 : List UInt8 := [43, 178, 0, 126, 133, 28, 178, 0, 129, 184, 0, 122, 62, 29, 155, 0, 5, 29, 172, 28, 29, 2, 130, 100]
abbrev dktJ17_mismatch_1 : List UInt8 := dkwJ17_mismatch_1 ++ dktJ17_mismatch_2
def dkwJ17_mismatch_0 : List UInt8 := [3, 62, 28, 16, 7, 164, 0, 44, 42, 3, 51, 43, 3, 51, 159, 0, 5, 3, 172, 42, 178, 0, 126, 133]
abbrev dktJ17_mismatch_0 : List UInt8 := dkwJ17_mismatch_0 ++ dktJ17_mismatch_1
theorem dksJ17_mismatch_0 : cJ17_mismatch.data.toList.drop 0 = dktJ17_mismatch_0 := by decide +kernel
theorem dksJ17_mismatch_1 : cJ17_mismatch.data.toList.drop 24 = dktJ17_mismatch_1 := dk_seg dksJ17_mismatch_0 24 rfl rfl
theorem dksJ17_mismatch_2 : cJ17_mismatch.data.toList.drop 48 = dktJ17_mismatch_2 := dk_seg dksJ17_mismatch_1 24 rfl rfl
theorem dksJ17_mismatch_3 : cJ17_mismatch.data.toList.drop 72 = dktJ17_mismatch_3 := dk_seg dksJ17_mismatch_2 24 rfl rfl
theorem dJ17_mismatch_0 : decode cJ17_mismatch 0 = .ok (.iconst 0, 1) := dk_3 (dk_at dksJ17_mismatch_0 0 rfl rfl)
theorem dJ17_mismatch_1 : decode cJ17_mismatch 1 = .ok (.istore_n 3, 1) := dk_62 (dk_at dksJ17_mismatch_0 1 rfl rfl)
theorem dJ17_mismatch_2 : decode cJ17_mismatch 2 = .ok (.iload_n 2, 1) := dk_28 (dk_at dksJ17_mismatch_0 2 rfl rfl)
theorem dJ17_mismatch_3 : decode cJ17_mismatch 3 = .ok (.bipush 7, 2) := dk_16 7 (dk_at dksJ17_mismatch_0 3 rfl rfl)
theorem dJ17_mismatch_5 : decode cJ17_mismatch 5 = .ok (.if_icmp .le 44, 3) := dk_164 0 44 (dk_at dksJ17_mismatch_0 5 rfl rfl)
theorem dJ17_mismatch_8 : decode cJ17_mismatch 8 = .ok (.aload_n 0, 1) := dk_42 (dk_at dksJ17_mismatch_0 8 rfl rfl)
theorem dJ17_mismatch_9 : decode cJ17_mismatch 9 = .ok (.iconst 0, 1) := dk_3 (dk_at dksJ17_mismatch_0 9 rfl rfl)
theorem dJ17_mismatch_10 : decode cJ17_mismatch 10 = .ok (.baload, 1) := dk_51 (dk_at dksJ17_mismatch_0 10 rfl rfl)
theorem dJ17_mismatch_11 : decode cJ17_mismatch 11 = .ok (.aload_n 1, 1) := dk_43 (dk_at dksJ17_mismatch_0 11 rfl rfl)
theorem dJ17_mismatch_12 : decode cJ17_mismatch 12 = .ok (.iconst 0, 1) := dk_3 (dk_at dksJ17_mismatch_0 12 rfl rfl)
theorem dJ17_mismatch_13 : decode cJ17_mismatch 13 = .ok (.baload, 1) := dk_51 (dk_at dksJ17_mismatch_0 13 rfl rfl)
theorem dJ17_mismatch_14 : decode cJ17_mismatch 14 = .ok (.if_icmp .eq 5, 3) := dk_159 0 5 (dk_at dksJ17_mismatch_0 14 rfl rfl)
theorem dJ17_mismatch_17 : decode cJ17_mismatch 17 = .ok (.iconst 0, 1) := dk_3 (dk_at dksJ17_mismatch_0 17 rfl rfl)
theorem dJ17_mismatch_18 : decode cJ17_mismatch 18 = .ok (.ireturn, 1) := dk_172 (dk_at dksJ17_mismatch_0 18 rfl rfl)
theorem dJ17_mismatch_19 : decode cJ17_mismatch 19 = .ok (.aload_n 0, 1) := dk_42 (dk_at dksJ17_mismatch_0 19 rfl rfl)
theorem dJ17_mismatch_20 : decode cJ17_mismatch 20 = .ok (.getstatic 126, 3) := dk_178 0 126 (dk_at dksJ17_mismatch_0 20 rfl rfl)
theorem dJ17_mismatch_23 : decode cJ17_mismatch 23 = .ok (.i2l, 1) := dk_133 (dk_at dksJ17_mismatch_0 23 rfl rfl)
theorem dJ17_mismatch_24 : decode cJ17_mismatch 24 = .ok (.aload_n 1, 1) := dk_43 (dk_at dksJ17_mismatch_1 0 rfl rfl)
theorem dJ17_mismatch_25 : decode cJ17_mismatch 25 = .ok (.getstatic 126, 3) := dk_178 0 126 (dk_at dksJ17_mismatch_1 1 rfl rfl)
theorem dJ17_mismatch_28 : decode cJ17_mismatch 28 = .ok (.i2l, 1) := dk_133 (dk_at dksJ17_mismatch_1 4 rfl rfl)
theorem dJ17_mismatch_29 : decode cJ17_mismatch 29 = .ok (.iload_n 2, 1) := dk_28 (dk_at dksJ17_mismatch_1 5 rfl rfl)
theorem dJ17_mismatch_30 : decode cJ17_mismatch 30 = .ok (.getstatic 129, 3) := dk_178 0 129 (dk_at dksJ17_mismatch_1 6 rfl rfl)
theorem dJ17_mismatch_33 : decode cJ17_mismatch 33 = .ok (.invokestatic 122, 3) := dk_184 0 122 (dk_at dksJ17_mismatch_1 9 rfl rfl)
theorem dJ17_mismatch_36 : decode cJ17_mismatch 36 = .ok (.istore_n 3, 1) := dk_62 (dk_at dksJ17_mismatch_1 12 rfl rfl)
theorem dJ17_mismatch_37 : decode cJ17_mismatch 37 = .ok (.iload_n 3, 1) := dk_29 (dk_at dksJ17_mismatch_1 13 rfl rfl)
theorem dJ17_mismatch_38 : decode cJ17_mismatch 38 = .ok (.ifCond .lt 5, 3) := dk_155 0 5 (dk_at dksJ17_mismatch_1 14 rfl rfl)
theorem dJ17_mismatch_41 : decode cJ17_mismatch 41 = .ok (.iload_n 3, 1) := dk_29 (dk_at dksJ17_mismatch_1 17 rfl rfl)
theorem dJ17_mismatch_42 : decode cJ17_mismatch 42 = .ok (.ireturn, 1) := dk_172 (dk_at dksJ17_mismatch_1 18 rfl rfl)
theorem dJ17_mismatch_43 : decode cJ17_mismatch 43 = .ok (.iload_n 2, 1) := dk_28 (dk_at dksJ17_mismatch_1 19 rfl rfl)
theorem dJ17_mismatch_44 : decode cJ17_mismatch 44 = .ok (.iload_n 3, 1) := dk_29 (dk_at dksJ17_mismatch_1 20 rfl rfl)
theorem dJ17_mismatch_45 : decode cJ17_mismatch 45 = .ok (.iconst (-1), 1) := dk_2 (dk_at dksJ17_mismatch_1 21 rfl rfl)
theorem dJ17_mismatch_46 : decode cJ17_mismatch 46 = .ok (.ixor, 1) := dk_130 (dk_at dksJ17_mismatch_1 22 rfl rfl)
theorem dJ17_mismatch_47 : decode cJ17_mismatch 47 = .ok (.isub, 1) := dk_100 (dk_at dksJ17_mismatch_1 23 rfl rfl)
theorem dJ17_mismatch_48 : decode cJ17_mismatch 48 = .ok (.istore_n 3, 1) := dk_62 (dk_at dksJ17_mismatch_2 0 rfl rfl)
theorem dJ17_mismatch_49 : decode cJ17_mismatch 49 = .ok (.iload_n 3, 1) := dk_29 (dk_at dksJ17_mismatch_2 1 rfl rfl)
theorem dJ17_mismatch_50 : decode cJ17_mismatch 50 = .ok (.iload_n 2, 1) := dk_28 (dk_at dksJ17_mismatch_2 2 rfl rfl)
theorem dJ17_mismatch_51 : decode cJ17_mismatch 51 = .ok (.if_icmp .ge 20, 3) := dk_162 0 20 (dk_at dksJ17_mismatch_2 3 rfl rfl)
theorem dJ17_mismatch_54 : decode cJ17_mismatch 54 = .ok (.aload_n 0, 1) := dk_42 (dk_at dksJ17_mismatch_2 6 rfl rfl)
theorem dJ17_mismatch_55 : decode cJ17_mismatch 55 = .ok (.iload_n 3, 1) := dk_29 (dk_at dksJ17_mismatch_2 7 rfl rfl)
theorem dJ17_mismatch_56 : decode cJ17_mismatch 56 = .ok (.baload, 1) := dk_51 (dk_at dksJ17_mismatch_2 8 rfl rfl)
theorem dJ17_mismatch_57 : decode cJ17_mismatch 57 = .ok (.aload_n 1, 1) := dk_43 (dk_at dksJ17_mismatch_2 9 rfl rfl)
theorem dJ17_mismatch_58 : decode cJ17_mismatch 58 = .ok (.iload_n 3, 1) := dk_29 (dk_at dksJ17_mismatch_2 10 rfl rfl)
theorem dJ17_mismatch_59 : decode cJ17_mismatch 59 = .ok (.baload, 1) := dk_51 (dk_at dksJ17_mismatch_2 11 rfl rfl)
theorem dJ17_mismatch_60 : decode cJ17_mismatch 60 = .ok (.if_icmp .eq 5, 3) := dk_159 0 5 (dk_at dksJ17_mismatch_2 12 rfl rfl)
theorem dJ17_mismatch_63 : decode cJ17_mismatch 63 = .ok (.iload_n 3, 1) := dk_29 (dk_at dksJ17_mismatch_2 15 rfl rfl)
theorem dJ17_mismatch_64 : decode cJ17_mismatch 64 = .ok (.ireturn, 1) := dk_172 (dk_at dksJ17_mismatch_2 16 rfl rfl)
theorem dJ17_mismatch_65 : decode cJ17_mismatch 65 = .ok (.iinc 3 1, 3) := dk_132 3 1 (dk_at dksJ17_mismatch_2 17 rfl rfl)
theorem dJ17_mismatch_68 : decode cJ17_mismatch 68 = .ok (.goto (-19), 3) := dk_167 255 237 (dk_at dksJ17_mismatch_2 20 rfl rfl)
theorem dJ17_mismatch_71 : decode cJ17_mismatch 71 = .ok (.iconst (-1), 1) := dk_2 (dk_at dksJ17_mismatch_2 23 rfl rfl)
theorem dJ17_mismatch_72 : decode cJ17_mismatch 72 = .ok (.ireturn, 1) := dk_172 (dk_at dksJ17_mismatch_3 0 rfl rfl)
abbrev cJ17_vectorizedMismatch : ByteArray := prog_74_method_3_code
def yJ17_vectorizedMismatch : MethodName := ⟨RJ17, "vectorizedMismatch", "(Ljava/lang/Object;JLjava/lang/Object;JII)I"⟩
def dkwJ17_vectorizedMismatch_11 : List UInt8 := [54, 10, 21, 10, 2, 130, 172, 21, 10, 2, 130, 172]
abbrev dktJ17_vectorizedMismatch_11 : List UInt8 := dkwJ17_vectorizedMismatch_11 ++ []
def dkwJ17_vectorizedMismatch_10 : List UInt8 := [178, 0, 46, 21, 7, 96, 122, 54, 17, 21, 9, 21, 8, 120, 21, 17, 96, 172, 21, 10, 21, 11, 100]
abbrev dktJ17_vectorizedMismatch_10 : List UInt8 := dkwJ17_vectorizedMismatch_10 ++ dktJ17_vectorizedMismatch_11
def dkwJ17_vectorizedMismatch_9 : List UInt8 := [153, 0, 18, 21, 16, 184, 0, 58, 178, 0, 46, 21, 7, 96, 122, 167, 0, 15, 21, 16, 184, 0, 11]
abbrev dktJ17_vectorizedMismatch_9 : List UInt8 := dkwJ17_vectorizedMismatch_9 ++ dktJ17_vectorizedMismatch_10
def dkwJ17_vectorizedMismatch_8 : List UInt8 := [182, 0, 54, 54, 15, 21, 14, 21, 15, 159, 0, 54, 21, 14, 21, 15, 130, 54, 16, 178, 0, 36]
abbrev dktJ17_vectorizedMismatch_8 : List UInt8 := dkwJ17_vectorizedMismatch_8 ++ dktJ17_vectorizedMismatch_9
def dkwJ17_vectorizedMismatch_7 : List UInt8 := [55, 12, 178, 0, 26, 42, 31, 22, 12, 97, 182, 0, 54, 54, 14, 178, 0, 26, 45, 22, 4, 22, 12, 97]
abbrev dktJ17_vectorizedMismatch_7 : List UInt8 := dkwJ17_vectorizedMismatch_7 ++ dktJ17_vectorizedMismatch_8
def dkwJ17_vectorizedMismatch_6 : List UInt8 := [4, 178, 0, 51, 21, 7, 100, 120, 54, 11, 21, 10, 21, 11, 161, 0, 104, 21, 9, 133, 178, 0, 20, 121]
abbrev dktJ17_vectorizedMismatch_6 : List UInt8 := dkwJ17_vectorizedMismatch_6 ++ dktJ17_vectorizedMismatch_7
def dkwJ17_vectorizedMismatch_5 : List UInt8 := [132, 9, 1, 167, 255, 148, 21, 6, 21, 9, 21, 8, 120, 100, 54, 10, 21, 7, 178, 0, 51, 162, 0, 126]
abbrev dktJ17_vectorizedMismatch_5 : List UInt8 := dkwJ17_vectorizedMismatch_5 ++ dktJ17_vectorizedMismatch_6
def dkwJ17_vectorizedMismatch_4 : List UInt8 := [22, 16, 184, 0, 49, 178, 0, 46, 21, 7, 96, 122, 54, 18, 21, 9, 21, 8, 120, 21, 18, 96, 172]
abbrev dktJ17_vectorizedMismatch_4 : List UInt8 := dkwJ17_vectorizedMismatch_4 ++ dktJ17_vectorizedMismatch_5
def dkwJ17_vectorizedMismatch_3 : List UInt8 := [55, 16, 178, 0, 36, 153, 0, 18, 22, 16, 184, 0, 40, 178, 0, 46, 21, 7, 96, 122, 167, 0, 15]
abbrev dktJ17_vectorizedMismatch_3 : List UInt8 := dkwJ17_vectorizedMismatch_3 ++ dktJ17_vectorizedMismatch_4
def dkwJ17_vectorizedMismatch_2 : List UInt8 := [22, 4, 22, 10, 97, 182, 0, 30, 55, 14, 22, 12, 22, 14, 148, 153, 0, 54, 22, 12, 22, 14, 131]
abbrev dktJ17_vectorizedMismatch_2 : List UInt8 := dkwJ17_vectorizedMismatch_2 ++ dktJ17_vectorizedMismatch_3
def dkwJ17_vectorizedMismatch_1 : List UInt8 := [178, 0, 20, 121, 55, 10, 178, 0, 26, 42, 31, 22, 10, 97, 182, 0, 30, 55, 12, 178, 0, 26, 45]
abbrev dktJ17_vectorizedMismatch_1 : List UInt8 := dkwJ17_vectorizedMismatch_1 ++ dktJ17_vectorizedMismatch_2
def dkwJ17_vectorizedMismatch_0 : List UInt8 := [178, 0, 20, 21, 7, 100, 54, 8, 3, 54, 9, 21, 9, 21, 6, 21, 8, 122, 162, 0, 104, 21, 9, 133]
abbrev dktJ17_vectorizedMismatch_0 : List UInt8 := dkwJ17_vectorizedMismatch_0 ++ dktJ17_vectorizedMismatch_1
theorem dksJ17_vectorizedMismatch_0 : cJ17_vectorizedMismatch.data.toList.drop 0 = dktJ17_vectorizedMismatch_0 := by decide +kernel
theorem dksJ17_vectorizedMismatch_1 : cJ17_vectorizedMismatch.data.toList.drop 24 = dktJ17_vectorizedMismatch_1 := dk_seg dksJ17_vectorizedMismatch_0 24 rfl rfl
theorem dksJ17_vectorizedMismatch_2 : cJ17_vectorizedMismatch.data.toList.drop 47 = dktJ17_vectorizedMismatch_2 := dk_seg dksJ17_vectorizedMismatch_1 23 rfl rfl
theorem dksJ17_vectorizedMismatch_3 : cJ17_vectorizedMismatch.data.toList.drop 70 = dktJ17_vectorizedMismatch_3 := dk_seg dksJ17_vectorizedMismatch_2 23 rfl rfl
theorem dksJ17_vectorizedMismatch_4 : cJ17_vectorizedMismatch.data.toList.drop 93 = dktJ17_vectorizedMismatch_4 := dk_seg dksJ17_vectorizedMismatch_3 23 rfl rfl
theorem dksJ17_vectorizedMismatch_5 : cJ17_vectorizedMismatch.data.toList.drop 116 = dktJ17_vectorizedMismatch_5 := dk_seg dksJ17_vectorizedMismatch_4 23 rfl rfl
theorem dksJ17_vectorizedMismatch_6 : cJ17_vectorizedMismatch.data.toList.drop 140 = dktJ17_vectorizedMismatch_6 := dk_seg dksJ17_vectorizedMismatch_5 24 rfl rfl
theorem dksJ17_vectorizedMismatch_7 : cJ17_vectorizedMismatch.data.toList.drop 164 = dktJ17_vectorizedMismatch_7 := dk_seg dksJ17_vectorizedMismatch_6 24 rfl rfl
theorem dksJ17_vectorizedMismatch_8 : cJ17_vectorizedMismatch.data.toList.drop 188 = dktJ17_vectorizedMismatch_8 := dk_seg dksJ17_vectorizedMismatch_7 24 rfl rfl
theorem dksJ17_vectorizedMismatch_9 : cJ17_vectorizedMismatch.data.toList.drop 210 = dktJ17_vectorizedMismatch_9 := dk_seg dksJ17_vectorizedMismatch_8 22 rfl rfl
theorem dksJ17_vectorizedMismatch_10 : cJ17_vectorizedMismatch.data.toList.drop 233 = dktJ17_vectorizedMismatch_10 := dk_seg dksJ17_vectorizedMismatch_9 23 rfl rfl
theorem dksJ17_vectorizedMismatch_11 : cJ17_vectorizedMismatch.data.toList.drop 256 = dktJ17_vectorizedMismatch_11 := dk_seg dksJ17_vectorizedMismatch_10 23 rfl rfl
theorem dJ17_vectorizedMismatch_0 : decode cJ17_vectorizedMismatch 0 = .ok (.getstatic 20, 3) := dk_178 0 20 (dk_at dksJ17_vectorizedMismatch_0 0 rfl rfl)
theorem dJ17_vectorizedMismatch_3 : decode cJ17_vectorizedMismatch 3 = .ok (.iload 7, 2) := dk_21 7 (dk_at dksJ17_vectorizedMismatch_0 3 rfl rfl)
theorem dJ17_vectorizedMismatch_5 : decode cJ17_vectorizedMismatch 5 = .ok (.isub, 1) := dk_100 (dk_at dksJ17_vectorizedMismatch_0 5 rfl rfl)
theorem dJ17_vectorizedMismatch_6 : decode cJ17_vectorizedMismatch 6 = .ok (.istore 8, 2) := dk_54 8 (dk_at dksJ17_vectorizedMismatch_0 6 rfl rfl)
theorem dJ17_vectorizedMismatch_8 : decode cJ17_vectorizedMismatch 8 = .ok (.iconst 0, 1) := dk_3 (dk_at dksJ17_vectorizedMismatch_0 8 rfl rfl)
theorem dJ17_vectorizedMismatch_9 : decode cJ17_vectorizedMismatch 9 = .ok (.istore 9, 2) := dk_54 9 (dk_at dksJ17_vectorizedMismatch_0 9 rfl rfl)
theorem dJ17_vectorizedMismatch_11 : decode cJ17_vectorizedMismatch 11 = .ok (.iload 9, 2) := dk_21 9 (dk_at dksJ17_vectorizedMismatch_0 11 rfl rfl)
theorem dJ17_vectorizedMismatch_13 : decode cJ17_vectorizedMismatch 13 = .ok (.iload 6, 2) := dk_21 6 (dk_at dksJ17_vectorizedMismatch_0 13 rfl rfl)
theorem dJ17_vectorizedMismatch_15 : decode cJ17_vectorizedMismatch 15 = .ok (.iload 8, 2) := dk_21 8 (dk_at dksJ17_vectorizedMismatch_0 15 rfl rfl)
theorem dJ17_vectorizedMismatch_17 : decode cJ17_vectorizedMismatch 17 = .ok (.ishr, 1) := dk_122 (dk_at dksJ17_vectorizedMismatch_0 17 rfl rfl)
theorem dJ17_vectorizedMismatch_18 : decode cJ17_vectorizedMismatch 18 = .ok (.if_icmp .ge 104, 3) := dk_162 0 104 (dk_at dksJ17_vectorizedMismatch_0 18 rfl rfl)
theorem dJ17_vectorizedMismatch_21 : decode cJ17_vectorizedMismatch 21 = .ok (.iload 9, 2) := dk_21 9 (dk_at dksJ17_vectorizedMismatch_0 21 rfl rfl)
theorem dJ17_vectorizedMismatch_23 : decode cJ17_vectorizedMismatch 23 = .ok (.i2l, 1) := dk_133 (dk_at dksJ17_vectorizedMismatch_0 23 rfl rfl)
theorem dJ17_vectorizedMismatch_24 : decode cJ17_vectorizedMismatch 24 = .ok (.getstatic 20, 3) := dk_178 0 20 (dk_at dksJ17_vectorizedMismatch_1 0 rfl rfl)
theorem dJ17_vectorizedMismatch_27 : decode cJ17_vectorizedMismatch 27 = .ok (.lshl, 1) := dk_121 (dk_at dksJ17_vectorizedMismatch_1 3 rfl rfl)
theorem dJ17_vectorizedMismatch_28 : decode cJ17_vectorizedMismatch 28 = .ok (.lstore 10, 2) := dk_55 10 (dk_at dksJ17_vectorizedMismatch_1 4 rfl rfl)
theorem dJ17_vectorizedMismatch_30 : decode cJ17_vectorizedMismatch 30 = .ok (.getstatic 26, 3) := dk_178 0 26 (dk_at dksJ17_vectorizedMismatch_1 6 rfl rfl)
theorem dJ17_vectorizedMismatch_33 : decode cJ17_vectorizedMismatch 33 = .ok (.aload_n 0, 1) := dk_42 (dk_at dksJ17_vectorizedMismatch_1 9 rfl rfl)
theorem dJ17_vectorizedMismatch_34 : decode cJ17_vectorizedMismatch 34 = .ok (.lload_n 1, 1) := dk_31 (dk_at dksJ17_vectorizedMismatch_1 10 rfl rfl)
theorem dJ17_vectorizedMismatch_35 : decode cJ17_vectorizedMismatch 35 = .ok (.lload 10, 2) := dk_22 10 (dk_at dksJ17_vectorizedMismatch_1 11 rfl rfl)
theorem dJ17_vectorizedMismatch_37 : decode cJ17_vectorizedMismatch 37 = .ok (.ladd, 1) := dk_97 (dk_at dksJ17_vectorizedMismatch_1 13 rfl rfl)
theorem dJ17_vectorizedMismatch_38 : decode cJ17_vectorizedMismatch 38 = .ok (.invokevirtual 30, 3) := dk_182 0 30 (dk_at dksJ17_vectorizedMismatch_1 14 rfl rfl)
theorem dJ17_vectorizedMismatch_41 : decode cJ17_vectorizedMismatch 41 = .ok (.lstore 12, 2) := dk_55 12 (dk_at dksJ17_vectorizedMismatch_1 17 rfl rfl)
theorem dJ17_vectorizedMismatch_43 : decode cJ17_vectorizedMismatch 43 = .ok (.getstatic 26, 3) := dk_178 0 26 (dk_at dksJ17_vectorizedMismatch_1 19 rfl rfl)
theorem dJ17_vectorizedMismatch_46 : decode cJ17_vectorizedMismatch 46 = .ok (.aload_n 3, 1) := dk_45 (dk_at dksJ17_vectorizedMismatch_1 22 rfl rfl)
theorem dJ17_vectorizedMismatch_47 : decode cJ17_vectorizedMismatch 47 = .ok (.lload 4, 2) := dk_22 4 (dk_at dksJ17_vectorizedMismatch_2 0 rfl rfl)
theorem dJ17_vectorizedMismatch_49 : decode cJ17_vectorizedMismatch 49 = .ok (.lload 10, 2) := dk_22 10 (dk_at dksJ17_vectorizedMismatch_2 2 rfl rfl)
theorem dJ17_vectorizedMismatch_51 : decode cJ17_vectorizedMismatch 51 = .ok (.ladd, 1) := dk_97 (dk_at dksJ17_vectorizedMismatch_2 4 rfl rfl)
theorem dJ17_vectorizedMismatch_52 : decode cJ17_vectorizedMismatch 52 = .ok (.invokevirtual 30, 3) := dk_182 0 30 (dk_at dksJ17_vectorizedMismatch_2 5 rfl rfl)
theorem dJ17_vectorizedMismatch_55 : decode cJ17_vectorizedMismatch 55 = .ok (.lstore 14, 2) := dk_55 14 (dk_at dksJ17_vectorizedMismatch_2 8 rfl rfl)
theorem dJ17_vectorizedMismatch_57 : decode cJ17_vectorizedMismatch 57 = .ok (.lload 12, 2) := dk_22 12 (dk_at dksJ17_vectorizedMismatch_2 10 rfl rfl)
theorem dJ17_vectorizedMismatch_59 : decode cJ17_vectorizedMismatch 59 = .ok (.lload 14, 2) := dk_22 14 (dk_at dksJ17_vectorizedMismatch_2 12 rfl rfl)
theorem dJ17_vectorizedMismatch_61 : decode cJ17_vectorizedMismatch 61 = .ok (.lcmp, 1) := dk_148 (dk_at dksJ17_vectorizedMismatch_2 14 rfl rfl)
theorem dJ17_vectorizedMismatch_62 : decode cJ17_vectorizedMismatch 62 = .ok (.ifCond .eq 54, 3) := dk_153 0 54 (dk_at dksJ17_vectorizedMismatch_2 15 rfl rfl)
theorem dJ17_vectorizedMismatch_65 : decode cJ17_vectorizedMismatch 65 = .ok (.lload 12, 2) := dk_22 12 (dk_at dksJ17_vectorizedMismatch_2 18 rfl rfl)
theorem dJ17_vectorizedMismatch_67 : decode cJ17_vectorizedMismatch 67 = .ok (.lload 14, 2) := dk_22 14 (dk_at dksJ17_vectorizedMismatch_2 20 rfl rfl)
theorem dJ17_vectorizedMismatch_69 : decode cJ17_vectorizedMismatch 69 = .ok (.lxor, 1) := dk_131 (dk_at dksJ17_vectorizedMismatch_2 22 rfl rfl)
theorem dJ17_vectorizedMismatch_70 : decode cJ17_vectorizedMismatch 70 = .ok (.lstore 16, 2) := dk_55 16 (dk_at dksJ17_vectorizedMismatch_3 0 rfl rfl)
theorem dJ17_vectorizedMismatch_72 : decode cJ17_vectorizedMismatch 72 = .ok (.getstatic 36, 3) := dk_178 0 36 (dk_at dksJ17_vectorizedMismatch_3 2 rfl rfl)
theorem dJ17_vectorizedMismatch_75 : decode cJ17_vectorizedMismatch 75 = .ok (.ifCond .eq 18, 3) := dk_153 0 18 (dk_at dksJ17_vectorizedMismatch_3 5 rfl rfl)
theorem dJ17_vectorizedMismatch_78 : decode cJ17_vectorizedMismatch 78 = .ok (.lload 16, 2) := dk_22 16 (dk_at dksJ17_vectorizedMismatch_3 8 rfl rfl)
theorem dJ17_vectorizedMismatch_80 : decode cJ17_vectorizedMismatch 80 = .ok (.invokestatic 40, 3) := dk_184 0 40 (dk_at dksJ17_vectorizedMismatch_3 10 rfl rfl)
theorem dJ17_vectorizedMismatch_83 : decode cJ17_vectorizedMismatch 83 = .ok (.getstatic 46, 3) := dk_178 0 46 (dk_at dksJ17_vectorizedMismatch_3 13 rfl rfl)
theorem dJ17_vectorizedMismatch_86 : decode cJ17_vectorizedMismatch 86 = .ok (.iload 7, 2) := dk_21 7 (dk_at dksJ17_vectorizedMismatch_3 16 rfl rfl)
theorem dJ17_vectorizedMismatch_88 : decode cJ17_vectorizedMismatch 88 = .ok (.iadd, 1) := dk_96 (dk_at dksJ17_vectorizedMismatch_3 18 rfl rfl)
theorem dJ17_vectorizedMismatch_89 : decode cJ17_vectorizedMismatch 89 = .ok (.ishr, 1) := dk_122 (dk_at dksJ17_vectorizedMismatch_3 19 rfl rfl)
theorem dJ17_vectorizedMismatch_90 : decode cJ17_vectorizedMismatch 90 = .ok (.goto 15, 3) := dk_167 0 15 (dk_at dksJ17_vectorizedMismatch_3 20 rfl rfl)
theorem dJ17_vectorizedMismatch_93 : decode cJ17_vectorizedMismatch 93 = .ok (.lload 16, 2) := dk_22 16 (dk_at dksJ17_vectorizedMismatch_4 0 rfl rfl)
theorem dJ17_vectorizedMismatch_95 : decode cJ17_vectorizedMismatch 95 = .ok (.invokestatic 49, 3) := dk_184 0 49 (dk_at dksJ17_vectorizedMismatch_4 2 rfl rfl)
theorem dJ17_vectorizedMismatch_98 : decode cJ17_vectorizedMismatch 98 = .ok (.getstatic 46, 3) := dk_178 0 46 (dk_at dksJ17_vectorizedMismatch_4 5 rfl rfl)
theorem dJ17_vectorizedMismatch_101 : decode cJ17_vectorizedMismatch 101 = .ok (.iload 7, 2) := dk_21 7 (dk_at dksJ17_vectorizedMismatch_4 8 rfl rfl)
theorem dJ17_vectorizedMismatch_103 : decode cJ17_vectorizedMismatch 103 = .ok (.iadd, 1) := dk_96 (dk_at dksJ17_vectorizedMismatch_4 10 rfl rfl)
theorem dJ17_vectorizedMismatch_104 : decode cJ17_vectorizedMismatch 104 = .ok (.ishr, 1) := dk_122 (dk_at dksJ17_vectorizedMismatch_4 11 rfl rfl)
theorem dJ17_vectorizedMismatch_105 : decode cJ17_vectorizedMismatch 105 = .ok (.istore 18, 2) := dk_54 18 (dk_at dksJ17_vectorizedMismatch_4 12 rfl rfl)
theorem dJ17_vectorizedMismatch_107 : decode cJ17_vectorizedMismatch 107 = .ok (.iload 9, 2) := dk_21 9 (dk_at dksJ17_vectorizedMismatch_4 14 rfl rfl)
theorem dJ17_vectorizedMismatch_109 : decode cJ17_vectorizedMismatch 109 = .ok (.iload 8, 2) := dk_21 8 (dk_at dksJ17_vectorizedMismatch_4 16 rfl rfl)
theorem dJ17_vectorizedMismatch_111 : decode cJ17_vectorizedMismatch 111 = .ok (.ishl, 1) := dk_120 (dk_at dksJ17_vectorizedMismatch_4 18 rfl rfl)
theorem dJ17_vectorizedMismatch_112 : decode cJ17_vectorizedMismatch 112 = .ok (.iload 18, 2) := dk_21 18 (dk_at dksJ17_vectorizedMismatch_4 19 rfl rfl)
theorem dJ17_vectorizedMismatch_114 : decode cJ17_vectorizedMismatch 114 = .ok (.iadd, 1) := dk_96 (dk_at dksJ17_vectorizedMismatch_4 21 rfl rfl)
theorem dJ17_vectorizedMismatch_115 : decode cJ17_vectorizedMismatch 115 = .ok (.ireturn, 1) := dk_172 (dk_at dksJ17_vectorizedMismatch_4 22 rfl rfl)
theorem dJ17_vectorizedMismatch_116 : decode cJ17_vectorizedMismatch 116 = .ok (.iinc 9 1, 3) := dk_132 9 1 (dk_at dksJ17_vectorizedMismatch_5 0 rfl rfl)
theorem dJ17_vectorizedMismatch_119 : decode cJ17_vectorizedMismatch 119 = .ok (.goto (-108), 3) := dk_167 255 148 (dk_at dksJ17_vectorizedMismatch_5 3 rfl rfl)
theorem dJ17_vectorizedMismatch_122 : decode cJ17_vectorizedMismatch 122 = .ok (.iload 6, 2) := dk_21 6 (dk_at dksJ17_vectorizedMismatch_5 6 rfl rfl)
theorem dJ17_vectorizedMismatch_124 : decode cJ17_vectorizedMismatch 124 = .ok (.iload 9, 2) := dk_21 9 (dk_at dksJ17_vectorizedMismatch_5 8 rfl rfl)
theorem dJ17_vectorizedMismatch_126 : decode cJ17_vectorizedMismatch 126 = .ok (.iload 8, 2) := dk_21 8 (dk_at dksJ17_vectorizedMismatch_5 10 rfl rfl)
theorem dJ17_vectorizedMismatch_128 : decode cJ17_vectorizedMismatch 128 = .ok (.ishl, 1) := dk_120 (dk_at dksJ17_vectorizedMismatch_5 12 rfl rfl)
theorem dJ17_vectorizedMismatch_129 : decode cJ17_vectorizedMismatch 129 = .ok (.isub, 1) := dk_100 (dk_at dksJ17_vectorizedMismatch_5 13 rfl rfl)
theorem dJ17_vectorizedMismatch_130 : decode cJ17_vectorizedMismatch 130 = .ok (.istore 10, 2) := dk_54 10 (dk_at dksJ17_vectorizedMismatch_5 14 rfl rfl)
theorem dJ17_vectorizedMismatch_132 : decode cJ17_vectorizedMismatch 132 = .ok (.iload 7, 2) := dk_21 7 (dk_at dksJ17_vectorizedMismatch_5 16 rfl rfl)
theorem dJ17_vectorizedMismatch_134 : decode cJ17_vectorizedMismatch 134 = .ok (.getstatic 51, 3) := dk_178 0 51 (dk_at dksJ17_vectorizedMismatch_5 18 rfl rfl)
theorem dJ17_vectorizedMismatch_137 : decode cJ17_vectorizedMismatch 137 = .ok (.if_icmp .ge 126, 3) := dk_162 0 126 (dk_at dksJ17_vectorizedMismatch_5 21 rfl rfl)
theorem dJ17_vectorizedMismatch_140 : decode cJ17_vectorizedMismatch 140 = .ok (.iconst 1, 1) := dk_4 (dk_at dksJ17_vectorizedMismatch_6 0 rfl rfl)
theorem dJ17_vectorizedMismatch_141 : decode cJ17_vectorizedMismatch 141 = .ok (.getstatic 51, 3) := dk_178 0 51 (dk_at dksJ17_vectorizedMismatch_6 1 rfl rfl)
theorem dJ17_vectorizedMismatch_144 : decode cJ17_vectorizedMismatch 144 = .ok (.iload 7, 2) := dk_21 7 (dk_at dksJ17_vectorizedMismatch_6 4 rfl rfl)
theorem dJ17_vectorizedMismatch_146 : decode cJ17_vectorizedMismatch 146 = .ok (.isub, 1) := dk_100 (dk_at dksJ17_vectorizedMismatch_6 6 rfl rfl)
theorem dJ17_vectorizedMismatch_147 : decode cJ17_vectorizedMismatch 147 = .ok (.ishl, 1) := dk_120 (dk_at dksJ17_vectorizedMismatch_6 7 rfl rfl)
theorem dJ17_vectorizedMismatch_148 : decode cJ17_vectorizedMismatch 148 = .ok (.istore 11, 2) := dk_54 11 (dk_at dksJ17_vectorizedMismatch_6 8 rfl rfl)
theorem dJ17_vectorizedMismatch_150 : decode cJ17_vectorizedMismatch 150 = .ok (.iload 10, 2) := dk_21 10 (dk_at dksJ17_vectorizedMismatch_6 10 rfl rfl)
theorem dJ17_vectorizedMismatch_152 : decode cJ17_vectorizedMismatch 152 = .ok (.iload 11, 2) := dk_21 11 (dk_at dksJ17_vectorizedMismatch_6 12 rfl rfl)
theorem dJ17_vectorizedMismatch_154 : decode cJ17_vectorizedMismatch 154 = .ok (.if_icmp .lt 104, 3) := dk_161 0 104 (dk_at dksJ17_vectorizedMismatch_6 14 rfl rfl)
theorem dJ17_vectorizedMismatch_157 : decode cJ17_vectorizedMismatch 157 = .ok (.iload 9, 2) := dk_21 9 (dk_at dksJ17_vectorizedMismatch_6 17 rfl rfl)
theorem dJ17_vectorizedMismatch_159 : decode cJ17_vectorizedMismatch 159 = .ok (.i2l, 1) := dk_133 (dk_at dksJ17_vectorizedMismatch_6 19 rfl rfl)
theorem dJ17_vectorizedMismatch_160 : decode cJ17_vectorizedMismatch 160 = .ok (.getstatic 20, 3) := dk_178 0 20 (dk_at dksJ17_vectorizedMismatch_6 20 rfl rfl)
theorem dJ17_vectorizedMismatch_163 : decode cJ17_vectorizedMismatch 163 = .ok (.lshl, 1) := dk_121 (dk_at dksJ17_vectorizedMismatch_6 23 rfl rfl)
theorem dJ17_vectorizedMismatch_164 : decode cJ17_vectorizedMismatch 164 = .ok (.lstore 12, 2) := dk_55 12 (dk_at dksJ17_vectorizedMismatch_7 0 rfl rfl)
theorem dJ17_vectorizedMismatch_166 : decode cJ17_vectorizedMismatch 166 = .ok (.getstatic 26, 3) := dk_178 0 26 (dk_at dksJ17_vectorizedMismatch_7 2 rfl rfl)
theorem dJ17_vectorizedMismatch_169 : decode cJ17_vectorizedMismatch 169 = .ok (.aload_n 0, 1) := dk_42 (dk_at dksJ17_vectorizedMismatch_7 5 rfl rfl)
theorem dJ17_vectorizedMismatch_170 : decode cJ17_vectorizedMismatch 170 = .ok (.lload_n 1, 1) := dk_31 (dk_at dksJ17_vectorizedMismatch_7 6 rfl rfl)
theorem dJ17_vectorizedMismatch_171 : decode cJ17_vectorizedMismatch 171 = .ok (.lload 12, 2) := dk_22 12 (dk_at dksJ17_vectorizedMismatch_7 7 rfl rfl)
theorem dJ17_vectorizedMismatch_173 : decode cJ17_vectorizedMismatch 173 = .ok (.ladd, 1) := dk_97 (dk_at dksJ17_vectorizedMismatch_7 9 rfl rfl)
theorem dJ17_vectorizedMismatch_174 : decode cJ17_vectorizedMismatch 174 = .ok (.invokevirtual 54, 3) := dk_182 0 54 (dk_at dksJ17_vectorizedMismatch_7 10 rfl rfl)
theorem dJ17_vectorizedMismatch_177 : decode cJ17_vectorizedMismatch 177 = .ok (.istore 14, 2) := dk_54 14 (dk_at dksJ17_vectorizedMismatch_7 13 rfl rfl)
theorem dJ17_vectorizedMismatch_179 : decode cJ17_vectorizedMismatch 179 = .ok (.getstatic 26, 3) := dk_178 0 26 (dk_at dksJ17_vectorizedMismatch_7 15 rfl rfl)
theorem dJ17_vectorizedMismatch_182 : decode cJ17_vectorizedMismatch 182 = .ok (.aload_n 3, 1) := dk_45 (dk_at dksJ17_vectorizedMismatch_7 18 rfl rfl)
theorem dJ17_vectorizedMismatch_183 : decode cJ17_vectorizedMismatch 183 = .ok (.lload 4, 2) := dk_22 4 (dk_at dksJ17_vectorizedMismatch_7 19 rfl rfl)
theorem dJ17_vectorizedMismatch_185 : decode cJ17_vectorizedMismatch 185 = .ok (.lload 12, 2) := dk_22 12 (dk_at dksJ17_vectorizedMismatch_7 21 rfl rfl)
theorem dJ17_vectorizedMismatch_187 : decode cJ17_vectorizedMismatch 187 = .ok (.ladd, 1) := dk_97 (dk_at dksJ17_vectorizedMismatch_7 23 rfl rfl)
theorem dJ17_vectorizedMismatch_188 : decode cJ17_vectorizedMismatch 188 = .ok (.invokevirtual 54, 3) := dk_182 0 54 (dk_at dksJ17_vectorizedMismatch_8 0 rfl rfl)
theorem dJ17_vectorizedMismatch_191 : decode cJ17_vectorizedMismatch 191 = .ok (.istore 15, 2) := dk_54 15 (dk_at dksJ17_vectorizedMismatch_8 3 rfl rfl)
theorem dJ17_vectorizedMismatch_193 : decode cJ17_vectorizedMismatch 193 = .ok (.iload 14, 2) := dk_21 14 (dk_at dksJ17_vectorizedMismatch_8 5 rfl rfl)
theorem dJ17_vectorizedMismatch_195 : decode cJ17_vectorizedMismatch 195 = .ok (.iload 15, 2) := dk_21 15 (dk_at dksJ17_vectorizedMismatch_8 7 rfl rfl)
theorem dJ17_vectorizedMismatch_197 : decode cJ17_vectorizedMismatch 197 = .ok (.if_icmp .eq 54, 3) := dk_159 0 54 (dk_at dksJ17_vectorizedMismatch_8 9 rfl rfl)
theorem dJ17_vectorizedMismatch_200 : decode cJ17_vectorizedMismatch 200 = .ok (.iload 14, 2) := dk_21 14 (dk_at dksJ17_vectorizedMismatch_8 12 rfl rfl)
theorem dJ17_vectorizedMismatch_202 : decode cJ17_vectorizedMismatch 202 = .ok (.iload 15, 2) := dk_21 15 (dk_at dksJ17_vectorizedMismatch_8 14 rfl rfl)
theorem dJ17_vectorizedMismatch_204 : decode cJ17_vectorizedMismatch 204 = .ok (.ixor, 1) := dk_130 (dk_at dksJ17_vectorizedMismatch_8 16 rfl rfl)
theorem dJ17_vectorizedMismatch_205 : decode cJ17_vectorizedMismatch 205 = .ok (.istore 16, 2) := dk_54 16 (dk_at dksJ17_vectorizedMismatch_8 17 rfl rfl)
theorem dJ17_vectorizedMismatch_207 : decode cJ17_vectorizedMismatch 207 = .ok (.getstatic 36, 3) := dk_178 0 36 (dk_at dksJ17_vectorizedMismatch_8 19 rfl rfl)
theorem dJ17_vectorizedMismatch_210 : decode cJ17_vectorizedMismatch 210 = .ok (.ifCond .eq 18, 3) := dk_153 0 18 (dk_at dksJ17_vectorizedMismatch_9 0 rfl rfl)
theorem dJ17_vectorizedMismatch_213 : decode cJ17_vectorizedMismatch 213 = .ok (.iload 16, 2) := dk_21 16 (dk_at dksJ17_vectorizedMismatch_9 3 rfl rfl)
theorem dJ17_vectorizedMismatch_215 : decode cJ17_vectorizedMismatch 215 = .ok (.invokestatic 58, 3) := dk_184 0 58 (dk_at dksJ17_vectorizedMismatch_9 5 rfl rfl)
theorem dJ17_vectorizedMismatch_218 : decode cJ17_vectorizedMismatch 218 = .ok (.getstatic 46, 3) := dk_178 0 46 (dk_at dksJ17_vectorizedMismatch_9 8 rfl rfl)
theorem dJ17_vectorizedMismatch_221 : decode cJ17_vectorizedMismatch 221 = .ok (.iload 7, 2) := dk_21 7 (dk_at dksJ17_vectorizedMismatch_9 11 rfl rfl)
theorem dJ17_vectorizedMismatch_223 : decode cJ17_vectorizedMismatch 223 = .ok (.iadd, 1) := dk_96 (dk_at dksJ17_vectorizedMismatch_9 13 rfl rfl)
theorem dJ17_vectorizedMismatch_224 : decode cJ17_vectorizedMismatch 224 = .ok (.ishr, 1) := dk_122 (dk_at dksJ17_vectorizedMismatch_9 14 rfl rfl)
theorem dJ17_vectorizedMismatch_225 : decode cJ17_vectorizedMismatch 225 = .ok (.goto 15, 3) := dk_167 0 15 (dk_at dksJ17_vectorizedMismatch_9 15 rfl rfl)
theorem dJ17_vectorizedMismatch_228 : decode cJ17_vectorizedMismatch 228 = .ok (.iload 16, 2) := dk_21 16 (dk_at dksJ17_vectorizedMismatch_9 18 rfl rfl)
theorem dJ17_vectorizedMismatch_230 : decode cJ17_vectorizedMismatch 230 = .ok (.invokestatic 11, 3) := dk_184 0 11 (dk_at dksJ17_vectorizedMismatch_9 20 rfl rfl)
theorem dJ17_vectorizedMismatch_233 : decode cJ17_vectorizedMismatch 233 = .ok (.getstatic 46, 3) := dk_178 0 46 (dk_at dksJ17_vectorizedMismatch_10 0 rfl rfl)
theorem dJ17_vectorizedMismatch_236 : decode cJ17_vectorizedMismatch 236 = .ok (.iload 7, 2) := dk_21 7 (dk_at dksJ17_vectorizedMismatch_10 3 rfl rfl)
theorem dJ17_vectorizedMismatch_238 : decode cJ17_vectorizedMismatch 238 = .ok (.iadd, 1) := dk_96 (dk_at dksJ17_vectorizedMismatch_10 5 rfl rfl)
theorem dJ17_vectorizedMismatch_239 : decode cJ17_vectorizedMismatch 239 = .ok (.ishr, 1) := dk_122 (dk_at dksJ17_vectorizedMismatch_10 6 rfl rfl)
theorem dJ17_vectorizedMismatch_240 : decode cJ17_vectorizedMismatch 240 = .ok (.istore 17, 2) := dk_54 17 (dk_at dksJ17_vectorizedMismatch_10 7 rfl rfl)
theorem dJ17_vectorizedMismatch_242 : decode cJ17_vectorizedMismatch 242 = .ok (.iload 9, 2) := dk_21 9 (dk_at dksJ17_vectorizedMismatch_10 9 rfl rfl)
theorem dJ17_vectorizedMismatch_244 : decode cJ17_vectorizedMismatch 244 = .ok (.iload 8, 2) := dk_21 8 (dk_at dksJ17_vectorizedMismatch_10 11 rfl rfl)
theorem dJ17_vectorizedMismatch_246 : decode cJ17_vectorizedMismatch 246 = .ok (.ishl, 1) := dk_120 (dk_at dksJ17_vectorizedMismatch_10 13 rfl rfl)
theorem dJ17_vectorizedMismatch_247 : decode cJ17_vectorizedMismatch 247 = .ok (.iload 17, 2) := dk_21 17 (dk_at dksJ17_vectorizedMismatch_10 14 rfl rfl)
theorem dJ17_vectorizedMismatch_249 : decode cJ17_vectorizedMismatch 249 = .ok (.iadd, 1) := dk_96 (dk_at dksJ17_vectorizedMismatch_10 16 rfl rfl)
theorem dJ17_vectorizedMismatch_250 : decode cJ17_vectorizedMismatch 250 = .ok (.ireturn, 1) := dk_172 (dk_at dksJ17_vectorizedMismatch_10 17 rfl rfl)
theorem dJ17_vectorizedMismatch_251 : decode cJ17_vectorizedMismatch 251 = .ok (.iload 10, 2) := dk_21 10 (dk_at dksJ17_vectorizedMismatch_10 18 rfl rfl)
theorem dJ17_vectorizedMismatch_253 : decode cJ17_vectorizedMismatch 253 = .ok (.iload 11, 2) := dk_21 11 (dk_at dksJ17_vectorizedMismatch_10 20 rfl rfl)
theorem dJ17_vectorizedMismatch_255 : decode cJ17_vectorizedMismatch 255 = .ok (.isub, 1) := dk_100 (dk_at dksJ17_vectorizedMismatch_10 22 rfl rfl)
theorem dJ17_vectorizedMismatch_256 : decode cJ17_vectorizedMismatch 256 = .ok (.istore 10, 2) := dk_54 10 (dk_at dksJ17_vectorizedMismatch_11 0 rfl rfl)
theorem dJ17_vectorizedMismatch_258 : decode cJ17_vectorizedMismatch 258 = .ok (.iload 10, 2) := dk_21 10 (dk_at dksJ17_vectorizedMismatch_11 2 rfl rfl)
theorem dJ17_vectorizedMismatch_260 : decode cJ17_vectorizedMismatch 260 = .ok (.iconst (-1), 1) := dk_2 (dk_at dksJ17_vectorizedMismatch_11 4 rfl rfl)
theorem dJ17_vectorizedMismatch_261 : decode cJ17_vectorizedMismatch 261 = .ok (.ixor, 1) := dk_130 (dk_at dksJ17_vectorizedMismatch_11 5 rfl rfl)
theorem dJ17_vectorizedMismatch_262 : decode cJ17_vectorizedMismatch 262 = .ok (.ireturn, 1) := dk_172 (dk_at dksJ17_vectorizedMismatch_11 6 rfl rfl)
theorem dJ17_vectorizedMismatch_263 : decode cJ17_vectorizedMismatch 263 = .ok (.iload 10, 2) := dk_21 10 (dk_at dksJ17_vectorizedMismatch_11 7 rfl rfl)
theorem dJ17_vectorizedMismatch_265 : decode cJ17_vectorizedMismatch 265 = .ok (.iconst (-1), 1) := dk_2 (dk_at dksJ17_vectorizedMismatch_11 9 rfl rfl)
theorem dJ17_vectorizedMismatch_266 : decode cJ17_vectorizedMismatch 266 = .ok (.ixor, 1) := dk_130 (dk_at dksJ17_vectorizedMismatch_11 10 rfl rfl)
theorem dJ17_vectorizedMismatch_267 : decode cJ17_vectorizedMismatch 267 = .ok (.ireturn, 1) := dk_172 (dk_at dksJ17_vectorizedMismatch_11 11 rfl rfl)
abbrev cJ17_newLength : ByteArray := prog_74_method_27_code
def yJ17_newLength : MethodName := ⟨RJ17, "newLength", "(III)I"⟩
def dkwJ17_newLength_1 : List UInt8 := [184, 0, 201, 172]
abbrev dktJ17_newLength_1 : List UInt8 := dkwJ17_newLength_1 ++ []
def dkwJ17_newLength_0 : List UInt8 := [26, 27, 28, 184, 0, 194, 96, 62, 3, 29, 162, 0, 11, 29, 18, 200, 163, 0, 5, 29, 172, 26, 27]
abbrev dktJ17_newLength_0 : List UInt8 := dkwJ17_newLength_0 ++ dktJ17_newLength_1
theorem dksJ17_newLength_0 : cJ17_newLength.data.toList.drop 0 = dktJ17_newLength_0 := by decide +kernel
theorem dksJ17_newLength_1 : cJ17_newLength.data.toList.drop 23 = dktJ17_newLength_1 := dk_seg dksJ17_newLength_0 23 rfl rfl
theorem dJ17_newLength_0 : decode cJ17_newLength 0 = .ok (.iload_n 0, 1) := dk_26 (dk_at dksJ17_newLength_0 0 rfl rfl)
theorem dJ17_newLength_1 : decode cJ17_newLength 1 = .ok (.iload_n 1, 1) := dk_27 (dk_at dksJ17_newLength_0 1 rfl rfl)
theorem dJ17_newLength_2 : decode cJ17_newLength 2 = .ok (.iload_n 2, 1) := dk_28 (dk_at dksJ17_newLength_0 2 rfl rfl)
theorem dJ17_newLength_3 : decode cJ17_newLength 3 = .ok (.invokestatic 194, 3) := dk_184 0 194 (dk_at dksJ17_newLength_0 3 rfl rfl)
theorem dJ17_newLength_6 : decode cJ17_newLength 6 = .ok (.iadd, 1) := dk_96 (dk_at dksJ17_newLength_0 6 rfl rfl)
theorem dJ17_newLength_7 : decode cJ17_newLength 7 = .ok (.istore_n 3, 1) := dk_62 (dk_at dksJ17_newLength_0 7 rfl rfl)
theorem dJ17_newLength_8 : decode cJ17_newLength 8 = .ok (.iconst 0, 1) := dk_3 (dk_at dksJ17_newLength_0 8 rfl rfl)
theorem dJ17_newLength_9 : decode cJ17_newLength 9 = .ok (.iload_n 3, 1) := dk_29 (dk_at dksJ17_newLength_0 9 rfl rfl)
theorem dJ17_newLength_10 : decode cJ17_newLength 10 = .ok (.if_icmp .ge 11, 3) := dk_162 0 11 (dk_at dksJ17_newLength_0 10 rfl rfl)
theorem dJ17_newLength_13 : decode cJ17_newLength 13 = .ok (.iload_n 3, 1) := dk_29 (dk_at dksJ17_newLength_0 13 rfl rfl)
theorem dJ17_newLength_14 : decode cJ17_newLength 14 = .ok (.ldc 200, 2) := dk_18 200 (dk_at dksJ17_newLength_0 14 rfl rfl)
theorem dJ17_newLength_16 : decode cJ17_newLength 16 = .ok (.if_icmp .gt 5, 3) := dk_163 0 5 (dk_at dksJ17_newLength_0 16 rfl rfl)
theorem dJ17_newLength_19 : decode cJ17_newLength 19 = .ok (.iload_n 3, 1) := dk_29 (dk_at dksJ17_newLength_0 19 rfl rfl)
theorem dJ17_newLength_20 : decode cJ17_newLength 20 = .ok (.ireturn, 1) := dk_172 (dk_at dksJ17_newLength_0 20 rfl rfl)
theorem dJ17_newLength_21 : decode cJ17_newLength 21 = .ok (.iload_n 0, 1) := dk_26 (dk_at dksJ17_newLength_0 21 rfl rfl)
theorem dJ17_newLength_22 : decode cJ17_newLength 22 = .ok (.iload_n 1, 1) := dk_27 (dk_at dksJ17_newLength_0 22 rfl rfl)
theorem dJ17_newLength_23 : decode cJ17_newLength 23 = .ok (.invokestatic 201, 3) := dk_184 0 201 (dk_at dksJ17_newLength_1 0 rfl rfl)
theorem dJ17_newLength_26 : decode cJ17_newLength 26 = .ok (.ireturn, 1) := dk_172 (dk_at dksJ17_newLength_1 3 rfl rfl)
abbrev cJ17_hugeLength : ByteArray := prog_74_method_28_code
def yJ17_hugeLength : MethodName := ⟨RJ17, "hugeLength", "(II)I"⟩
def dkwJ17_hugeLength_2 : List UInt8 := [191, 28, 18, 200, 163, 0, 6, 18, 200, 172, 28, 172]
abbrev dktJ17_hugeLength_2 : List UInt8 := dkwJ17_hugeLength_2 ++ []
def dkwJ17_hugeLength_1 : List UInt8 := [26, 182, 0, 98, 18, 208, 182, 0, 94, 27, 182, 0, 98, 18, 210, 182, 0, 94, 182, 0, 101, 183, 0, 212]
abbrev dktJ17_hugeLength_1 : List UInt8 := dkwJ17_hugeLength_1 ++ dktJ17_hugeLength_2
def dkwJ17_hugeLength_0 : List UInt8 := [26, 27, 96, 61, 28, 156, 0, 44, 187, 0, 204, 89, 187, 0, 89, 89, 183, 0, 91, 18, 206, 182, 0, 94]
abbrev dktJ17_hugeLength_0 : List UInt8 := dkwJ17_hugeLength_0 ++ dktJ17_hugeLength_1
theorem dksJ17_hugeLength_0 : cJ17_hugeLength.data.toList.drop 0 = dktJ17_hugeLength_0 := by decide +kernel
theorem dksJ17_hugeLength_1 : cJ17_hugeLength.data.toList.drop 24 = dktJ17_hugeLength_1 := dk_seg dksJ17_hugeLength_0 24 rfl rfl
theorem dksJ17_hugeLength_2 : cJ17_hugeLength.data.toList.drop 48 = dktJ17_hugeLength_2 := dk_seg dksJ17_hugeLength_1 24 rfl rfl
theorem dJ17_hugeLength_0 : decode cJ17_hugeLength 0 = .ok (.iload_n 0, 1) := dk_26 (dk_at dksJ17_hugeLength_0 0 rfl rfl)
theorem dJ17_hugeLength_1 : decode cJ17_hugeLength 1 = .ok (.iload_n 1, 1) := dk_27 (dk_at dksJ17_hugeLength_0 1 rfl rfl)
theorem dJ17_hugeLength_2 : decode cJ17_hugeLength 2 = .ok (.iadd, 1) := dk_96 (dk_at dksJ17_hugeLength_0 2 rfl rfl)
theorem dJ17_hugeLength_3 : decode cJ17_hugeLength 3 = .ok (.istore_n 2, 1) := dk_61 (dk_at dksJ17_hugeLength_0 3 rfl rfl)
theorem dJ17_hugeLength_4 : decode cJ17_hugeLength 4 = .ok (.iload_n 2, 1) := dk_28 (dk_at dksJ17_hugeLength_0 4 rfl rfl)
theorem dJ17_hugeLength_5 : decode cJ17_hugeLength 5 = .ok (.ifCond .ge 44, 3) := dk_156 0 44 (dk_at dksJ17_hugeLength_0 5 rfl rfl)
theorem dJ17_hugeLength_8 : decode cJ17_hugeLength 8 = .ok (.new 204, 3) := dk_187 0 204 (dk_at dksJ17_hugeLength_0 8 rfl rfl)
theorem dJ17_hugeLength_11 : decode cJ17_hugeLength 11 = .ok (.dup, 1) := dk_89 (dk_at dksJ17_hugeLength_0 11 rfl rfl)
theorem dJ17_hugeLength_12 : decode cJ17_hugeLength 12 = .ok (.new 89, 3) := dk_187 0 89 (dk_at dksJ17_hugeLength_0 12 rfl rfl)
theorem dJ17_hugeLength_15 : decode cJ17_hugeLength 15 = .ok (.dup, 1) := dk_89 (dk_at dksJ17_hugeLength_0 15 rfl rfl)
theorem dJ17_hugeLength_16 : decode cJ17_hugeLength 16 = .ok (.invokespecial 91, 3) := dk_183 0 91 (dk_at dksJ17_hugeLength_0 16 rfl rfl)
theorem dJ17_hugeLength_19 : decode cJ17_hugeLength 19 = .ok (.ldc 206, 2) := dk_18 206 (dk_at dksJ17_hugeLength_0 19 rfl rfl)
theorem dJ17_hugeLength_21 : decode cJ17_hugeLength 21 = .ok (.invokevirtual 94, 3) := dk_182 0 94 (dk_at dksJ17_hugeLength_0 21 rfl rfl)
theorem dJ17_hugeLength_24 : decode cJ17_hugeLength 24 = .ok (.iload_n 0, 1) := dk_26 (dk_at dksJ17_hugeLength_1 0 rfl rfl)
theorem dJ17_hugeLength_25 : decode cJ17_hugeLength 25 = .ok (.invokevirtual 98, 3) := dk_182 0 98 (dk_at dksJ17_hugeLength_1 1 rfl rfl)
theorem dJ17_hugeLength_28 : decode cJ17_hugeLength 28 = .ok (.ldc 208, 2) := dk_18 208 (dk_at dksJ17_hugeLength_1 4 rfl rfl)
theorem dJ17_hugeLength_30 : decode cJ17_hugeLength 30 = .ok (.invokevirtual 94, 3) := dk_182 0 94 (dk_at dksJ17_hugeLength_1 6 rfl rfl)
theorem dJ17_hugeLength_33 : decode cJ17_hugeLength 33 = .ok (.iload_n 1, 1) := dk_27 (dk_at dksJ17_hugeLength_1 9 rfl rfl)
theorem dJ17_hugeLength_34 : decode cJ17_hugeLength 34 = .ok (.invokevirtual 98, 3) := dk_182 0 98 (dk_at dksJ17_hugeLength_1 10 rfl rfl)
theorem dJ17_hugeLength_37 : decode cJ17_hugeLength 37 = .ok (.ldc 210, 2) := dk_18 210 (dk_at dksJ17_hugeLength_1 13 rfl rfl)
theorem dJ17_hugeLength_39 : decode cJ17_hugeLength 39 = .ok (.invokevirtual 94, 3) := dk_182 0 94 (dk_at dksJ17_hugeLength_1 15 rfl rfl)
theorem dJ17_hugeLength_42 : decode cJ17_hugeLength 42 = .ok (.invokevirtual 101, 3) := dk_182 0 101 (dk_at dksJ17_hugeLength_1 18 rfl rfl)
theorem dJ17_hugeLength_45 : decode cJ17_hugeLength 45 = .ok (.invokespecial 212, 3) := dk_183 0 212 (dk_at dksJ17_hugeLength_1 21 rfl rfl)
theorem dJ17_hugeLength_48 : decode cJ17_hugeLength 48 = .ok (.athrow, 1) := dk_191 (dk_at dksJ17_hugeLength_2 0 rfl rfl)
theorem dJ17_hugeLength_49 : decode cJ17_hugeLength 49 = .ok (.iload_n 2, 1) := dk_28 (dk_at dksJ17_hugeLength_2 1 rfl rfl)
theorem dJ17_hugeLength_50 : decode cJ17_hugeLength 50 = .ok (.ldc 200, 2) := dk_18 200 (dk_at dksJ17_hugeLength_2 2 rfl rfl)
theorem dJ17_hugeLength_52 : decode cJ17_hugeLength 52 = .ok (.if_icmp .gt 6, 3) := dk_163 0 6 (dk_at dksJ17_hugeLength_2 4 rfl rfl)
theorem dJ17_hugeLength_55 : decode cJ17_hugeLength 55 = .ok (.ldc 200, 2) := dk_18 200 (dk_at dksJ17_hugeLength_2 7 rfl rfl)
theorem dJ17_hugeLength_57 : decode cJ17_hugeLength 57 = .ok (.ireturn, 1) := dk_172 (dk_at dksJ17_hugeLength_2 9 rfl rfl)
theorem dJ17_hugeLength_58 : decode cJ17_hugeLength 58 = .ok (.iload_n 2, 1) := dk_28 (dk_at dksJ17_hugeLength_2 10 rfl rfl)
theorem dJ17_hugeLength_59 : decode cJ17_hugeLength 59 = .ok (.ireturn, 1) := dk_172 (dk_at dksJ17_hugeLength_2 11 rfl rfl)
theorem q194 : (Jvm.Cond.initialized "jdk/internal/util/ArraysSupport") ∈ lw_all := lw_g (lw_at lw_m1 28 rfl) rfl
theorem q886 : (Jvm.Cond.static ({ cls := "jdk/internal/util/ArraysSupport", name := "vectorizedHashCode", desc := "(Ljava/lang/Object;IIII)I" } : Jvm.MethodName)) ∈ lw_all := lw_g (lw_at lw_m4 0 rfl) rfl
theorem q887 : (Jvm.Cond.code ({ cls := "jdk/internal/util/ArraysSupport", name := "vectorizedHashCode", desc := "(Ljava/lang/Object;IIII)I" } : Jvm.MethodName) prog_74_method_4_code (5 : Nat) (Option.some Jvm.ClassFile.FieldType.int)) ∈ lw_all := lw_g (lw_at lw_m4 1 rfl) rfl
theorem q888 : (Jvm.Cond.classLink "jdk/internal/util/ArraysSupport" (60 : Nat) "[B") ∈ lw_all := lw_g (lw_at lw_m4 2 rfl) rfl
theorem q889 : (Jvm.Cond.methodLink "jdk/internal/util/ArraysSupport" (62 : Nat) ({ cls := "jdk/internal/util/ArraysSupport", name := "signedHashCode", desc := "(I[BII)I" } : Jvm.MethodName)) ∈ lw_all := lw_g (lw_at lw_m4 3 rfl) rfl
theorem q890 : (Jvm.Cond.static ({ cls := "jdk/internal/util/ArraysSupport", name := "signedHashCode", desc := "(I[BII)I" } : Jvm.MethodName)) ∈ lw_all := lw_g (lw_at lw_m4 4 rfl) rfl
theorem q891 : (Jvm.Cond.code ({ cls := "jdk/internal/util/ArraysSupport", name := "signedHashCode", desc := "(I[BII)I" } : Jvm.MethodName) prog_74_method_5_code (6 : Nat) (Option.some Jvm.ClassFile.FieldType.int)) ∈ lw_all := lw_g (lw_at lw_m4 5 rfl) rfl
theorem q892 : (Jvm.Cond.methodLink "jdk/internal/util/ArraysSupport" (66 : Nat) ({ cls := "jdk/internal/util/ArraysSupport", name := "utf16hashCode", desc := "(I[BII)I" } : Jvm.MethodName)) ∈ lw_all := lw_g (lw_at lw_m4 6 rfl) rfl
theorem q893 : (Jvm.Cond.static ({ cls := "jdk/internal/util/ArraysSupport", name := "utf16hashCode", desc := "(I[BII)I" } : Jvm.MethodName)) ∈ lw_all := lw_g (lw_at lw_m4 7 rfl) rfl
theorem q894 : (Jvm.Cond.code ({ cls := "jdk/internal/util/ArraysSupport", name := "utf16hashCode", desc := "(I[BII)I" } : Jvm.MethodName) prog_74_method_10_code (6 : Nat) (Option.some Jvm.ClassFile.FieldType.int)) ∈ lw_all := lw_g (lw_at lw_m4 8 rfl) rfl
theorem q895 : (Jvm.Cond.fieldLink "jdk/internal/util/ArraysSupport" (106 : Nat) "jdk/internal/util/ArraysSupport" "JLA" "Ljdk/internal/access/JavaLangAccess;") ∈ lw_all := lw_g (lw_at lw_m4 9 rfl) rfl
theorem q896 : (Jvm.Cond.laysStatic "jdk/internal/util/ArraysSupport" "JLA" "Ljdk/internal/access/JavaLangAccess;") ∈ lw_tbl := lw_at lw_m4 10 rfl
theorem q897 : (Jvm.Cond.interfaceEntry "jdk/internal/util/ArraysSupport" (110 : Nat)) ∈ lw_tbl := lw_at lw_m4 11 rfl
theorem q898 : (Jvm.Cond.methodLink "jdk/internal/util/ArraysSupport" (110 : Nat) ({ cls := "jdk/internal/access/JavaLangAccess", name := "getUTF16Char", desc := "([BI)C" } : Jvm.MethodName)) ∈ lw_all := lw_g (lw_at lw_m4 12 rfl) rfl
theorem q919 : (Jvm.Cond.classLink "jdk/internal/util/ArraysSupport" (69 : Nat) "[C") ∈ lw_all := lw_g (lw_at lw_m4 33 rfl) rfl
theorem q920 : (Jvm.Cond.methodLink "jdk/internal/util/ArraysSupport" (71 : Nat) ({ cls := "jdk/internal/util/ArraysSupport", name := "hashCode", desc := "(I[CII)I" } : Jvm.MethodName)) ∈ lw_all := lw_g (lw_at lw_m4 34 rfl) rfl
theorem q921 : (Jvm.Cond.static ({ cls := "jdk/internal/util/ArraysSupport", name := "hashCode", desc := "(I[CII)I" } : Jvm.MethodName)) ∈ lw_all := lw_g (lw_at lw_m4 35 rfl) rfl
theorem q922 : (Jvm.Cond.code ({ cls := "jdk/internal/util/ArraysSupport", name := "hashCode", desc := "(I[CII)I" } : Jvm.MethodName) prog_74_method_7_code (6 : Nat) (Option.some Jvm.ClassFile.FieldType.int)) ∈ lw_all := lw_g (lw_at lw_m4 36 rfl) rfl
theorem q923 : (Jvm.Cond.methodLink "jdk/internal/util/ArraysSupport" (75 : Nat) ({ cls := "jdk/internal/util/ArraysSupport", name := "hashCode", desc := "(I[BII)I" } : Jvm.MethodName)) ∈ lw_all := lw_g (lw_at lw_m4 37 rfl) rfl
theorem q924 : (Jvm.Cond.static ({ cls := "jdk/internal/util/ArraysSupport", name := "hashCode", desc := "(I[BII)I" } : Jvm.MethodName)) ∈ lw_all := lw_g (lw_at lw_m4 38 rfl) rfl
theorem q925 : (Jvm.Cond.code ({ cls := "jdk/internal/util/ArraysSupport", name := "hashCode", desc := "(I[BII)I" } : Jvm.MethodName) prog_74_method_6_code (6 : Nat) (Option.some Jvm.ClassFile.FieldType.int)) ∈ lw_all := lw_g (lw_at lw_m4 39 rfl) rfl
theorem q926 : (Jvm.Cond.classLink "jdk/internal/util/ArraysSupport" (77 : Nat) "[S") ∈ lw_all := lw_g (lw_at lw_m4 40 rfl) rfl
theorem q927 : (Jvm.Cond.methodLink "jdk/internal/util/ArraysSupport" (79 : Nat) ({ cls := "jdk/internal/util/ArraysSupport", name := "hashCode", desc := "(I[SII)I" } : Jvm.MethodName)) ∈ lw_all := lw_g (lw_at lw_m4 41 rfl) rfl
theorem q928 : (Jvm.Cond.static ({ cls := "jdk/internal/util/ArraysSupport", name := "hashCode", desc := "(I[SII)I" } : Jvm.MethodName)) ∈ lw_all := lw_g (lw_at lw_m4 42 rfl) rfl
theorem q929 : (Jvm.Cond.code ({ cls := "jdk/internal/util/ArraysSupport", name := "hashCode", desc := "(I[SII)I" } : Jvm.MethodName) prog_74_method_8_code (6 : Nat) (Option.some Jvm.ClassFile.FieldType.int)) ∈ lw_all := lw_g (lw_at lw_m4 43 rfl) rfl
theorem q930 : (Jvm.Cond.classLink "jdk/internal/util/ArraysSupport" (82 : Nat) "[I") ∈ lw_all := lw_g (lw_at lw_m4 44 rfl) rfl
theorem q931 : (Jvm.Cond.methodLink "jdk/internal/util/ArraysSupport" (84 : Nat) ({ cls := "jdk/internal/util/ArraysSupport", name := "hashCode", desc := "(I[III)I" } : Jvm.MethodName)) ∈ lw_all := lw_g (lw_at lw_m4 45 rfl) rfl
theorem q932 : (Jvm.Cond.static ({ cls := "jdk/internal/util/ArraysSupport", name := "hashCode", desc := "(I[III)I" } : Jvm.MethodName)) ∈ lw_all := lw_g (lw_at lw_m4 46 rfl) rfl
theorem q933 : (Jvm.Cond.code ({ cls := "jdk/internal/util/ArraysSupport", name := "hashCode", desc := "(I[III)I" } : Jvm.MethodName) prog_74_method_9_code (6 : Nat) (Option.some Jvm.ClassFile.FieldType.int)) ∈ lw_all := lw_g (lw_at lw_m4 47 rfl) rfl
theorem q1087 : (Jvm.Cond.static ({ cls := "jdk/internal/util/ArraysSupport", name := "mismatch", desc := "([B[BI)I" } : Jvm.MethodName)) ∈ lw_all := lw_g (lw_at lw_m4 201 rfl) rfl
theorem q1088 : (Jvm.Cond.code ({ cls := "jdk/internal/util/ArraysSupport", name := "mismatch", desc := "([B[BI)I" } : Jvm.MethodName) prog_74_method_13_code (4 : Nat) (Option.some Jvm.ClassFile.FieldType.int)) ∈ lw_all := lw_g (lw_at lw_m4 202 rfl) rfl
theorem q1089 : (Jvm.Cond.fieldLink "jdk/internal/util/ArraysSupport" (126 : Nat) "jdk/internal/misc/Unsafe" "ARRAY_BYTE_BASE_OFFSET" "I") ∈ lw_all := lw_g (lw_at lw_m4 203 rfl) rfl
theorem q1091 : (Jvm.Cond.fieldLink "jdk/internal/util/ArraysSupport" (129 : Nat) "jdk/internal/util/ArraysSupport" "LOG2_ARRAY_BYTE_INDEX_SCALE" "I") ∈ lw_all := lw_g (lw_at lw_m4 205 rfl) rfl
theorem q1092 : (Jvm.Cond.laysStatic "jdk/internal/util/ArraysSupport" "LOG2_ARRAY_BYTE_INDEX_SCALE" "I") ∈ lw_tbl := lw_at lw_m4 206 rfl
theorem q1093 : (Jvm.Cond.methodLink "jdk/internal/util/ArraysSupport" (122 : Nat) ({ cls := "jdk/internal/util/ArraysSupport", name := "vectorizedMismatch", desc := "(Ljava/lang/Object;JLjava/lang/Object;JII)I" } : Jvm.MethodName)) ∈ lw_all := lw_g (lw_at lw_m4 207 rfl) rfl
theorem q1094 : (Jvm.Cond.static ({ cls := "jdk/internal/util/ArraysSupport", name := "vectorizedMismatch", desc := "(Ljava/lang/Object;JLjava/lang/Object;JII)I" } : Jvm.MethodName)) ∈ lw_all := lw_g (lw_at lw_m4 208 rfl) rfl
theorem q1095 : (Jvm.Cond.code ({ cls := "jdk/internal/util/ArraysSupport", name := "vectorizedMismatch", desc := "(Ljava/lang/Object;JLjava/lang/Object;JII)I" } : Jvm.MethodName) prog_74_method_3_code (19 : Nat) (Option.some Jvm.ClassFile.FieldType.int)) ∈ lw_all := lw_g (lw_at lw_m4 209 rfl) rfl
theorem q1096 : (Jvm.Cond.fieldLink "jdk/internal/util/ArraysSupport" (20 : Nat) "jdk/internal/util/ArraysSupport" "LOG2_ARRAY_LONG_INDEX_SCALE" "I") ∈ lw_all := lw_g (lw_at lw_m4 210 rfl) rfl
theorem q1097 : (Jvm.Cond.laysStatic "jdk/internal/util/ArraysSupport" "LOG2_ARRAY_LONG_INDEX_SCALE" "I") ∈ lw_tbl := lw_at lw_m4 211 rfl
theorem q1098 : (Jvm.Cond.fieldLink "jdk/internal/util/ArraysSupport" (26 : Nat) "jdk/internal/util/ArraysSupport" "U" "Ljdk/internal/misc/Unsafe;") ∈ lw_all := lw_g (lw_at lw_m4 212 rfl) rfl
theorem q1099 : (Jvm.Cond.laysStatic "jdk/internal/util/ArraysSupport" "U" "Ljdk/internal/misc/Unsafe;") ∈ lw_tbl := lw_at lw_m4 213 rfl
theorem q1100 : (Jvm.Cond.methodLink "jdk/internal/util/ArraysSupport" (30 : Nat) ({ cls := "jdk/internal/misc/Unsafe", name := "getLongUnaligned", desc := "(Ljava/lang/Object;J)J" } : Jvm.MethodName)) ∈ lw_all := lw_g (lw_at lw_m4 214 rfl) rfl
theorem q1152 : (Jvm.Cond.fieldLink "jdk/internal/util/ArraysSupport" (36 : Nat) "jdk/internal/util/ArraysSupport" "BIG_ENDIAN" "Z") ∈ lw_all := lw_g (lw_at lw_m5 26 rfl) rfl
theorem q1153 : (Jvm.Cond.laysStatic "jdk/internal/util/ArraysSupport" "BIG_ENDIAN" "Z") ∈ lw_tbl := lw_at lw_m5 27 rfl
theorem q1154 : (Jvm.Cond.methodLink "jdk/internal/util/ArraysSupport" (40 : Nat) ({ cls := "java/lang/Long", name := "numberOfLeadingZeros", desc := "(J)I" } : Jvm.MethodName)) ∈ lw_all := lw_g (lw_at lw_m5 28 rfl) rfl
theorem q1161 : (Jvm.Cond.fieldLink "jdk/internal/util/ArraysSupport" (46 : Nat) "jdk/internal/util/ArraysSupport" "LOG2_BYTE_BIT_SIZE" "I") ∈ lw_all := lw_g (lw_at lw_m5 35 rfl) rfl
theorem q1162 : (Jvm.Cond.laysStatic "jdk/internal/util/ArraysSupport" "LOG2_BYTE_BIT_SIZE" "I") ∈ lw_tbl := lw_at lw_m5 36 rfl
theorem q1163 : (Jvm.Cond.methodLink "jdk/internal/util/ArraysSupport" (49 : Nat) ({ cls := "java/lang/Long", name := "numberOfTrailingZeros", desc := "(J)I" } : Jvm.MethodName)) ∈ lw_all := lw_g (lw_at lw_m5 37 rfl) rfl
theorem q1169 : (Jvm.Cond.fieldLink "jdk/internal/util/ArraysSupport" (51 : Nat) "jdk/internal/util/ArraysSupport" "LOG2_ARRAY_INT_INDEX_SCALE" "I") ∈ lw_all := lw_g (lw_at lw_m5 43 rfl) rfl
theorem q1170 : (Jvm.Cond.laysStatic "jdk/internal/util/ArraysSupport" "LOG2_ARRAY_INT_INDEX_SCALE" "I") ∈ lw_tbl := lw_at lw_m5 44 rfl
theorem q1171 : (Jvm.Cond.methodLink "jdk/internal/util/ArraysSupport" (54 : Nat) ({ cls := "jdk/internal/misc/Unsafe", name := "getIntUnaligned", desc := "(Ljava/lang/Object;J)I" } : Jvm.MethodName)) ∈ lw_all := lw_g (lw_at lw_m5 45 rfl) rfl
theorem q1188 : (Jvm.Cond.methodLink "jdk/internal/util/ArraysSupport" (58 : Nat) ({ cls := "java/lang/Integer", name := "numberOfLeadingZeros", desc := "(I)I" } : Jvm.MethodName)) ∈ lw_all := lw_g (lw_at lw_m5 62 rfl) rfl
theorem q1189 : (Jvm.Cond.methodLink "jdk/internal/util/ArraysSupport" (11 : Nat) ({ cls := "java/lang/Integer", name := "numberOfTrailingZeros", desc := "(I)I" } : Jvm.MethodName)) ∈ lw_all := lw_g (lw_at lw_m5 63 rfl) rfl
theorem q1440 : (Jvm.Cond.static ({ cls := "jdk/internal/util/ArraysSupport", name := "newLength", desc := "(III)I" } : Jvm.MethodName)) ∈ lw_all := lw_g (lw_at lw_m6 74 rfl) rfl
theorem q1441 : (Jvm.Cond.code ({ cls := "jdk/internal/util/ArraysSupport", name := "newLength", desc := "(III)I" } : Jvm.MethodName) prog_74_method_27_code (4 : Nat) (Option.some Jvm.ClassFile.FieldType.int)) ∈ lw_all := lw_g (lw_at lw_m6 75 rfl) rfl
theorem q1442 : (Jvm.Cond.methodLink "jdk/internal/util/ArraysSupport" (194 : Nat) ({ cls := "java/lang/Math", name := "max", desc := "(II)I" } : Jvm.MethodName)) ∈ lw_all := lw_g (lw_at lw_m6 76 rfl) rfl
theorem q1443 : (Jvm.Cond.constant "jdk/internal/util/ArraysSupport" (200 : Nat) (2147483639 : Int32)) ∈ lw_all := lw_g (lw_at lw_m6 77 rfl) rfl
theorem q1444 : (Jvm.Cond.methodLink "jdk/internal/util/ArraysSupport" (201 : Nat) ({ cls := "jdk/internal/util/ArraysSupport", name := "hugeLength", desc := "(II)I" } : Jvm.MethodName)) ∈ lw_all := lw_g (lw_at lw_m6 78 rfl) rfl
theorem q1445 : (Jvm.Cond.static ({ cls := "jdk/internal/util/ArraysSupport", name := "hugeLength", desc := "(II)I" } : Jvm.MethodName)) ∈ lw_all := lw_g (lw_at lw_m6 79 rfl) rfl
theorem q1446 : (Jvm.Cond.code ({ cls := "jdk/internal/util/ArraysSupport", name := "hugeLength", desc := "(II)I" } : Jvm.MethodName) prog_74_method_28_code (3 : Nat) (Option.some Jvm.ClassFile.FieldType.int)) ∈ lw_all := lw_g (lw_at lw_m6 80 rfl) rfl
/-! java/util/HashMap$Node -/
set_option maxRecDepth 100000
def RJ18 : String := "java/util/HashMap$Node"
def TJ18 : u_T := fun k => match k with
  | 0 => ("java/util/HashMap$Node", "hash", "I", true)
  | 1 => ("java/util/HashMap$Node", "key", "Ljava/lang/Object;", true)
  | 2 => ("java/util/HashMap$Node", "value", "Ljava/lang/Object;", false)
  | _ => ("java/util/HashMap$Node", "next", "Ljava/util/HashMap$Node;", false)
def tyJ18 : Nat → FieldType := fun k => match k with
  | 0 => .int
  | 1 => .object "java/lang/Object"
  | 2 => .object "java/lang/Object"
  | _ => .object "java/util/HashMap$Node"
abbrev wsJ180 : List Cond := u_ws RJ18 TJ18 4
theorem nmJ18 : ∀ a, a < 4 → ∀ b, b < 4 → a ≠ b → (TJ18 a).2.1 ≠ (TJ18 b).2.1 := by decide +kernel
theorem tyJ18_ok : ∀ k, k < 4 → parseFieldDescriptor (TJ18 k).2.2.1 = some (tyJ18 k) := by decide +kernel
abbrev cJ18_init : ByteArray := prog_60_method_1_code
def yJ18_init : MethodName := ⟨RJ18, "<init>", "(ILjava/lang/Object;Ljava/lang/Object;Ljava/util/HashMap$Node;)V"⟩
def dkwJ18_init_1 : List UInt8 := [181, 0, 20, 177]
abbrev dktJ18_init_1 : List UInt8 := dkwJ18_init_1 ++ []
def dkwJ18_init_0 : List UInt8 := [42, 183, 0, 1, 42, 27, 181, 0, 7, 42, 44, 181, 0, 13, 42, 45, 181, 0, 17, 42, 25, 4]
abbrev dktJ18_init_0 : List UInt8 := dkwJ18_init_0 ++ dktJ18_init_1
theorem dksJ18_init_0 : cJ18_init.data.toList.drop 0 = dktJ18_init_0 := by decide +kernel
theorem dksJ18_init_1 : cJ18_init.data.toList.drop 22 = dktJ18_init_1 := dk_seg dksJ18_init_0 22 rfl rfl
theorem dJ18_init_0 : decode cJ18_init 0 = .ok (.aload_n 0, 1) := dk_42 (dk_at dksJ18_init_0 0 rfl rfl)
theorem dJ18_init_1 : decode cJ18_init 1 = .ok (.invokespecial 1, 3) := dk_183 0 1 (dk_at dksJ18_init_0 1 rfl rfl)
theorem dJ18_init_4 : decode cJ18_init 4 = .ok (.aload_n 0, 1) := dk_42 (dk_at dksJ18_init_0 4 rfl rfl)
theorem dJ18_init_5 : decode cJ18_init 5 = .ok (.iload_n 1, 1) := dk_27 (dk_at dksJ18_init_0 5 rfl rfl)
theorem dJ18_init_6 : decode cJ18_init 6 = .ok (.putfield 7, 3) := dk_181 0 7 (dk_at dksJ18_init_0 6 rfl rfl)
theorem dJ18_init_9 : decode cJ18_init 9 = .ok (.aload_n 0, 1) := dk_42 (dk_at dksJ18_init_0 9 rfl rfl)
theorem dJ18_init_10 : decode cJ18_init 10 = .ok (.aload_n 2, 1) := dk_44 (dk_at dksJ18_init_0 10 rfl rfl)
theorem dJ18_init_11 : decode cJ18_init 11 = .ok (.putfield 13, 3) := dk_181 0 13 (dk_at dksJ18_init_0 11 rfl rfl)
theorem dJ18_init_14 : decode cJ18_init 14 = .ok (.aload_n 0, 1) := dk_42 (dk_at dksJ18_init_0 14 rfl rfl)
theorem dJ18_init_15 : decode cJ18_init 15 = .ok (.aload_n 3, 1) := dk_45 (dk_at dksJ18_init_0 15 rfl rfl)
theorem dJ18_init_16 : decode cJ18_init 16 = .ok (.putfield 17, 3) := dk_181 0 17 (dk_at dksJ18_init_0 16 rfl rfl)
theorem dJ18_init_19 : decode cJ18_init 19 = .ok (.aload_n 0, 1) := dk_42 (dk_at dksJ18_init_0 19 rfl rfl)
theorem dJ18_init_20 : decode cJ18_init 20 = .ok (.aload 4, 2) := dk_25 4 (dk_at dksJ18_init_0 20 rfl rfl)
theorem dJ18_init_22 : decode cJ18_init 22 = .ok (.putfield 20, 3) := dk_181 0 20 (dk_at dksJ18_init_1 0 rfl rfl)
theorem dJ18_init_25 : decode cJ18_init 25 = .ok (.return_, 1) := dk_177 (dk_at dksJ18_init_1 3 rfl rfl)
theorem q195 : (Jvm.Cond.initialized "java/util/HashMap$Node") ∈ lw_all := lw_g (lw_at lw_m1 29 rfl) rfl
theorem q971 : (Jvm.Cond.instantiable "java/util/HashMap$Node" (4 : Nat)) ∈ lw_all := lw_g (lw_at lw_m4 85 rfl) rfl
theorem q973 : (Jvm.Cond.instanceMethod ({ cls := "java/util/HashMap$Node", name := "<init>", desc := "(ILjava/lang/Object;Ljava/lang/Object;Ljava/util/HashMap$Node;)V" } : Jvm.MethodName)) ∈ lw_all := lw_g (lw_at lw_m4 87 rfl) rfl
theorem q974 : (Jvm.Cond.code ({ cls := "java/util/HashMap$Node", name := "<init>", desc := "(ILjava/lang/Object;Ljava/lang/Object;Ljava/util/HashMap$Node;)V" } : Jvm.MethodName) prog_60_method_1_code (5 : Nat) (Option.none : Option Jvm.ClassFile.FieldType)) ∈ lw_all := lw_g (lw_at lw_m4 88 rfl) rfl
theorem q975 : (Jvm.Cond.methodLink "java/util/HashMap$Node" (1 : Nat) ({ cls := "java/lang/Object", name := "<init>", desc := "()V" } : Jvm.MethodName)) ∈ lw_all := lw_g (lw_at lw_m4 89 rfl) rfl
theorem q976 : (Jvm.Cond.fieldLink "java/util/HashMap$Node" (7 : Nat) "java/util/HashMap$Node" "hash" "I") ∈ lw_all := lw_g (lw_at lw_m4 90 rfl) rfl
theorem q980 : (Jvm.Cond.fieldLink "java/util/HashMap$Node" (13 : Nat) "java/util/HashMap$Node" "key" "Ljava/lang/Object;") ∈ lw_all := lw_g (lw_at lw_m4 94 rfl) rfl
theorem q984 : (Jvm.Cond.fieldLink "java/util/HashMap$Node" (17 : Nat) "java/util/HashMap$Node" "value" "Ljava/lang/Object;") ∈ lw_all := lw_g (lw_at lw_m4 98 rfl) rfl
theorem q986 : (Jvm.Cond.fieldLink "java/util/HashMap$Node" (20 : Nat) "java/util/HashMap$Node" "next" "Ljava/util/HashMap$Node;") ∈ lw_all := lw_g (lw_at lw_m4 100 rfl) rfl
theorem q992 : (Jvm.Cond.laysFinal "java/util/HashMap$Node" "java/util/HashMap$Node" "hash" "I") ∈ lw_all := lw_g (lw_at lw_m4 106 rfl) rfl
theorem q993 : (Jvm.Cond.soleField "java/util/HashMap$Node" "hash") ∈ lw_all := lw_g (lw_at lw_m4 107 rfl) rfl
theorem q994 : (Jvm.Cond.laysFinal "java/util/HashMap$Node" "java/util/HashMap$Node" "key" "Ljava/lang/Object;") ∈ lw_all := lw_g (lw_at lw_m4 108 rfl) rfl
theorem q995 : (Jvm.Cond.soleField "java/util/HashMap$Node" "key") ∈ lw_all := lw_g (lw_at lw_m4 109 rfl) rfl
theorem q996 : (Jvm.Cond.lays "java/util/HashMap$Node" "java/util/HashMap$Node" "value" "Ljava/lang/Object;") ∈ lw_all := lw_g (lw_at lw_m4 110 rfl) rfl
theorem q997 : (Jvm.Cond.soleField "java/util/HashMap$Node" "value") ∈ lw_all := lw_g (lw_at lw_m4 111 rfl) rfl
theorem q998 : (Jvm.Cond.lays "java/util/HashMap$Node" "java/util/HashMap$Node" "next" "Ljava/util/HashMap$Node;") ∈ lw_all := lw_g (lw_at lw_m4 112 rfl) rfl
theorem q999 : (Jvm.Cond.soleField "java/util/HashMap$Node" "next") ∈ lw_all := lw_g (lw_at lw_m4 113 rfl) rfl
theorem q1000 : (Jvm.Cond.superclass "java/util/HashMap$Node" "java/lang/Object") ∈ lw_all := lw_g (lw_at lw_m4 114 rfl) rfl
theorem q1038 : (Jvm.Cond.selects "java/util/HashMap$Node" ({ cls := "java/lang/Object", name := "getClass", desc := "()Ljava/lang/Class;" } : Jvm.MethodName) ({ cls := "java/lang/Object", name := "getClass", desc := "()Ljava/lang/Class;" } : Jvm.MethodName)) ∈ lw_all := lw_g (lw_at lw_m4 152 rfl) rfl
theorem q3520 : (Jvm.Cond.castable "java/util/HashMap$Node" "java/lang/Object") ∈ lw_tbl := lw_at lw_m14 234 rfl
theorem in_J18 : ∀ w ∈ wsJ180, w ∈ lw_all := lw_in wsJ180 [992, 994, 996, 998] (by decide +kernel) (by decide +kernel)
/-! jdk/internal/util/Preconditions -/
set_option maxRecDepth 100000
def RJ21 : String := "jdk/internal/util/Preconditions"
abbrev cJ21_checkFromToIndex : ByteArray := prog_75_method_12_code
def yJ21_checkFromToIndex : MethodName := ⟨RJ21, "checkFromToIndex", "(IIILjava/util/function/BiFunction;)I"⟩
def dkwJ21_checkFromToIndex_0 : List UInt8 := [26, 155, 0, 13, 26, 27, 163, 0, 8, 27, 28, 164, 0, 11, 45, 26, 27, 28, 184, 0, 99, 191, 26, 172]
abbrev dktJ21_checkFromToIndex_0 : List UInt8 := dkwJ21_checkFromToIndex_0 ++ []
theorem dksJ21_checkFromToIndex_0 : cJ21_checkFromToIndex.data.toList.drop 0 = dktJ21_checkFromToIndex_0 := by decide +kernel
theorem dJ21_checkFromToIndex_0 : decode cJ21_checkFromToIndex 0 = .ok (.iload_n 0, 1) := dk_26 (dk_at dksJ21_checkFromToIndex_0 0 rfl rfl)
theorem dJ21_checkFromToIndex_1 : decode cJ21_checkFromToIndex 1 = .ok (.ifCond .lt 13, 3) := dk_155 0 13 (dk_at dksJ21_checkFromToIndex_0 1 rfl rfl)
theorem dJ21_checkFromToIndex_4 : decode cJ21_checkFromToIndex 4 = .ok (.iload_n 0, 1) := dk_26 (dk_at dksJ21_checkFromToIndex_0 4 rfl rfl)
theorem dJ21_checkFromToIndex_5 : decode cJ21_checkFromToIndex 5 = .ok (.iload_n 1, 1) := dk_27 (dk_at dksJ21_checkFromToIndex_0 5 rfl rfl)
theorem dJ21_checkFromToIndex_6 : decode cJ21_checkFromToIndex 6 = .ok (.if_icmp .gt 8, 3) := dk_163 0 8 (dk_at dksJ21_checkFromToIndex_0 6 rfl rfl)
theorem dJ21_checkFromToIndex_9 : decode cJ21_checkFromToIndex 9 = .ok (.iload_n 1, 1) := dk_27 (dk_at dksJ21_checkFromToIndex_0 9 rfl rfl)
theorem dJ21_checkFromToIndex_10 : decode cJ21_checkFromToIndex 10 = .ok (.iload_n 2, 1) := dk_28 (dk_at dksJ21_checkFromToIndex_0 10 rfl rfl)
theorem dJ21_checkFromToIndex_11 : decode cJ21_checkFromToIndex 11 = .ok (.if_icmp .le 11, 3) := dk_164 0 11 (dk_at dksJ21_checkFromToIndex_0 11 rfl rfl)
theorem dJ21_checkFromToIndex_14 : decode cJ21_checkFromToIndex 14 = .ok (.aload_n 3, 1) := dk_45 (dk_at dksJ21_checkFromToIndex_0 14 rfl rfl)
theorem dJ21_checkFromToIndex_15 : decode cJ21_checkFromToIndex 15 = .ok (.iload_n 0, 1) := dk_26 (dk_at dksJ21_checkFromToIndex_0 15 rfl rfl)
theorem dJ21_checkFromToIndex_16 : decode cJ21_checkFromToIndex 16 = .ok (.iload_n 1, 1) := dk_27 (dk_at dksJ21_checkFromToIndex_0 16 rfl rfl)
theorem dJ21_checkFromToIndex_17 : decode cJ21_checkFromToIndex 17 = .ok (.iload_n 2, 1) := dk_28 (dk_at dksJ21_checkFromToIndex_0 17 rfl rfl)
theorem dJ21_checkFromToIndex_18 : decode cJ21_checkFromToIndex 18 = .ok (.invokestatic 99, 3) := dk_184 0 99 (dk_at dksJ21_checkFromToIndex_0 18 rfl rfl)
theorem dJ21_checkFromToIndex_21 : decode cJ21_checkFromToIndex 21 = .ok (.athrow, 1) := dk_191 (dk_at dksJ21_checkFromToIndex_0 21 rfl rfl)
theorem dJ21_checkFromToIndex_22 : decode cJ21_checkFromToIndex 22 = .ok (.iload_n 0, 1) := dk_26 (dk_at dksJ21_checkFromToIndex_0 22 rfl rfl)
theorem dJ21_checkFromToIndex_23 : decode cJ21_checkFromToIndex 23 = .ok (.ireturn, 1) := dk_172 (dk_at dksJ21_checkFromToIndex_0 23 rfl rfl)
abbrev cJ21_checkFromIndexSize : ByteArray := prog_75_method_13_code
def yJ21_checkFromIndexSize : MethodName := ⟨RJ21, "checkFromIndexSize", "(IIILjava/util/function/BiFunction;)I"⟩
def dkwJ21_checkFromIndexSize_1 : List UInt8 := [172]
abbrev dktJ21_checkFromIndexSize_1 : List UInt8 := dkwJ21_checkFromIndexSize_1 ++ []
def dkwJ21_checkFromIndexSize_0 : List UInt8 := [28, 26, 128, 27, 128, 155, 0, 10, 27, 28, 26, 100, 164, 0, 11, 45, 26, 27, 28, 184, 0, 103, 191, 26]
abbrev dktJ21_checkFromIndexSize_0 : List UInt8 := dkwJ21_checkFromIndexSize_0 ++ dktJ21_checkFromIndexSize_1
theorem dksJ21_checkFromIndexSize_0 : cJ21_checkFromIndexSize.data.toList.drop 0 = dktJ21_checkFromIndexSize_0 := by decide +kernel
theorem dksJ21_checkFromIndexSize_1 : cJ21_checkFromIndexSize.data.toList.drop 24 = dktJ21_checkFromIndexSize_1 := dk_seg dksJ21_checkFromIndexSize_0 24 rfl rfl
theorem dJ21_checkFromIndexSize_0 : decode cJ21_checkFromIndexSize 0 = .ok (.iload_n 2, 1) := dk_28 (dk_at dksJ21_checkFromIndexSize_0 0 rfl rfl)
theorem dJ21_checkFromIndexSize_1 : decode cJ21_checkFromIndexSize 1 = .ok (.iload_n 0, 1) := dk_26 (dk_at dksJ21_checkFromIndexSize_0 1 rfl rfl)
theorem dJ21_checkFromIndexSize_2 : decode cJ21_checkFromIndexSize 2 = .ok (.ior, 1) := dk_128 (dk_at dksJ21_checkFromIndexSize_0 2 rfl rfl)
theorem dJ21_checkFromIndexSize_3 : decode cJ21_checkFromIndexSize 3 = .ok (.iload_n 1, 1) := dk_27 (dk_at dksJ21_checkFromIndexSize_0 3 rfl rfl)
theorem dJ21_checkFromIndexSize_4 : decode cJ21_checkFromIndexSize 4 = .ok (.ior, 1) := dk_128 (dk_at dksJ21_checkFromIndexSize_0 4 rfl rfl)
theorem dJ21_checkFromIndexSize_5 : decode cJ21_checkFromIndexSize 5 = .ok (.ifCond .lt 10, 3) := dk_155 0 10 (dk_at dksJ21_checkFromIndexSize_0 5 rfl rfl)
theorem dJ21_checkFromIndexSize_8 : decode cJ21_checkFromIndexSize 8 = .ok (.iload_n 1, 1) := dk_27 (dk_at dksJ21_checkFromIndexSize_0 8 rfl rfl)
theorem dJ21_checkFromIndexSize_9 : decode cJ21_checkFromIndexSize 9 = .ok (.iload_n 2, 1) := dk_28 (dk_at dksJ21_checkFromIndexSize_0 9 rfl rfl)
theorem dJ21_checkFromIndexSize_10 : decode cJ21_checkFromIndexSize 10 = .ok (.iload_n 0, 1) := dk_26 (dk_at dksJ21_checkFromIndexSize_0 10 rfl rfl)
theorem dJ21_checkFromIndexSize_11 : decode cJ21_checkFromIndexSize 11 = .ok (.isub, 1) := dk_100 (dk_at dksJ21_checkFromIndexSize_0 11 rfl rfl)
theorem dJ21_checkFromIndexSize_12 : decode cJ21_checkFromIndexSize 12 = .ok (.if_icmp .le 11, 3) := dk_164 0 11 (dk_at dksJ21_checkFromIndexSize_0 12 rfl rfl)
theorem dJ21_checkFromIndexSize_15 : decode cJ21_checkFromIndexSize 15 = .ok (.aload_n 3, 1) := dk_45 (dk_at dksJ21_checkFromIndexSize_0 15 rfl rfl)
theorem dJ21_checkFromIndexSize_16 : decode cJ21_checkFromIndexSize 16 = .ok (.iload_n 0, 1) := dk_26 (dk_at dksJ21_checkFromIndexSize_0 16 rfl rfl)
theorem dJ21_checkFromIndexSize_17 : decode cJ21_checkFromIndexSize 17 = .ok (.iload_n 1, 1) := dk_27 (dk_at dksJ21_checkFromIndexSize_0 17 rfl rfl)
theorem dJ21_checkFromIndexSize_18 : decode cJ21_checkFromIndexSize 18 = .ok (.iload_n 2, 1) := dk_28 (dk_at dksJ21_checkFromIndexSize_0 18 rfl rfl)
theorem dJ21_checkFromIndexSize_19 : decode cJ21_checkFromIndexSize 19 = .ok (.invokestatic 103, 3) := dk_184 0 103 (dk_at dksJ21_checkFromIndexSize_0 19 rfl rfl)
theorem dJ21_checkFromIndexSize_22 : decode cJ21_checkFromIndexSize 22 = .ok (.athrow, 1) := dk_191 (dk_at dksJ21_checkFromIndexSize_0 22 rfl rfl)
theorem dJ21_checkFromIndexSize_23 : decode cJ21_checkFromIndexSize 23 = .ok (.iload_n 0, 1) := dk_26 (dk_at dksJ21_checkFromIndexSize_0 23 rfl rfl)
theorem dJ21_checkFromIndexSize_24 : decode cJ21_checkFromIndexSize 24 = .ok (.ireturn, 1) := dk_172 (dk_at dksJ21_checkFromIndexSize_1 0 rfl rfl)
abbrev cJ21_checkIndex : ByteArray := prog_75_method_11_code
def yJ21_checkIndex : MethodName := ⟨RJ21, "checkIndex", "(IILjava/util/function/BiFunction;)I"⟩
def dkwJ21_checkIndex_0 : List UInt8 := [26, 155, 0, 8, 26, 27, 161, 0, 10, 44, 26, 27, 184, 0, 95, 191, 26, 172]
abbrev dktJ21_checkIndex_0 : List UInt8 := dkwJ21_checkIndex_0 ++ []
theorem dksJ21_checkIndex_0 : cJ21_checkIndex.data.toList.drop 0 = dktJ21_checkIndex_0 := by decide +kernel
theorem dJ21_checkIndex_0 : decode cJ21_checkIndex 0 = .ok (.iload_n 0, 1) := dk_26 (dk_at dksJ21_checkIndex_0 0 rfl rfl)
theorem dJ21_checkIndex_1 : decode cJ21_checkIndex 1 = .ok (.ifCond .lt 8, 3) := dk_155 0 8 (dk_at dksJ21_checkIndex_0 1 rfl rfl)
theorem dJ21_checkIndex_4 : decode cJ21_checkIndex 4 = .ok (.iload_n 0, 1) := dk_26 (dk_at dksJ21_checkIndex_0 4 rfl rfl)
theorem dJ21_checkIndex_5 : decode cJ21_checkIndex 5 = .ok (.iload_n 1, 1) := dk_27 (dk_at dksJ21_checkIndex_0 5 rfl rfl)
theorem dJ21_checkIndex_6 : decode cJ21_checkIndex 6 = .ok (.if_icmp .lt 10, 3) := dk_161 0 10 (dk_at dksJ21_checkIndex_0 6 rfl rfl)
theorem dJ21_checkIndex_9 : decode cJ21_checkIndex 9 = .ok (.aload_n 2, 1) := dk_44 (dk_at dksJ21_checkIndex_0 9 rfl rfl)
theorem dJ21_checkIndex_10 : decode cJ21_checkIndex 10 = .ok (.iload_n 0, 1) := dk_26 (dk_at dksJ21_checkIndex_0 10 rfl rfl)
theorem dJ21_checkIndex_11 : decode cJ21_checkIndex 11 = .ok (.iload_n 1, 1) := dk_27 (dk_at dksJ21_checkIndex_0 11 rfl rfl)
theorem dJ21_checkIndex_12 : decode cJ21_checkIndex 12 = .ok (.invokestatic 95, 3) := dk_184 0 95 (dk_at dksJ21_checkIndex_0 12 rfl rfl)
theorem dJ21_checkIndex_15 : decode cJ21_checkIndex 15 = .ok (.athrow, 1) := dk_191 (dk_at dksJ21_checkIndex_0 15 rfl rfl)
theorem dJ21_checkIndex_16 : decode cJ21_checkIndex 16 = .ok (.iload_n 0, 1) := dk_26 (dk_at dksJ21_checkIndex_0 16 rfl rfl)
theorem dJ21_checkIndex_17 : decode cJ21_checkIndex 17 = .ok (.ireturn, 1) := dk_172 (dk_at dksJ21_checkIndex_0 17 rfl rfl)
theorem q199 : (Jvm.Cond.initialized "jdk/internal/util/Preconditions") ∈ lw_all := lw_g (lw_at lw_m1 33 rfl) rfl
theorem q1245 : (Jvm.Cond.laysStatic "jdk/internal/util/Preconditions" "SIOOBE_FORMATTER" "Ljava/util/function/BiFunction;") ∈ lw_tbl := lw_at lw_m5 119 rfl
theorem q1247 : (Jvm.Cond.static ({ cls := "jdk/internal/util/Preconditions", name := "checkFromToIndex", desc := "(IIILjava/util/function/BiFunction;)I" } : Jvm.MethodName)) ∈ lw_all := lw_g (lw_at lw_m5 121 rfl) rfl
theorem q1248 : (Jvm.Cond.code ({ cls := "jdk/internal/util/Preconditions", name := "checkFromToIndex", desc := "(IIILjava/util/function/BiFunction;)I" } : Jvm.MethodName) prog_75_method_12_code (4 : Nat) (Option.some Jvm.ClassFile.FieldType.int)) ∈ lw_all := lw_g (lw_at lw_m5 122 rfl) rfl
theorem q1502 : (Jvm.Cond.static ({ cls := "jdk/internal/util/Preconditions", name := "checkFromIndexSize", desc := "(IIILjava/util/function/BiFunction;)I" } : Jvm.MethodName)) ∈ lw_all := lw_g (lw_at lw_m6 136 rfl) rfl
theorem q1503 : (Jvm.Cond.code ({ cls := "jdk/internal/util/Preconditions", name := "checkFromIndexSize", desc := "(IIILjava/util/function/BiFunction;)I" } : Jvm.MethodName) prog_75_method_13_code (4 : Nat) (Option.some Jvm.ClassFile.FieldType.int)) ∈ lw_all := lw_g (lw_at lw_m6 137 rfl) rfl
theorem q1640 : (Jvm.Cond.static ({ cls := "jdk/internal/util/Preconditions", name := "checkIndex", desc := "(IILjava/util/function/BiFunction;)I" } : Jvm.MethodName)) ∈ lw_all := lw_g (lw_at lw_m7 34 rfl) rfl
theorem q1641 : (Jvm.Cond.code ({ cls := "jdk/internal/util/Preconditions", name := "checkIndex", desc := "(IILjava/util/function/BiFunction;)I" } : Jvm.MethodName) prog_75_method_11_code (3 : Nat) (Option.some Jvm.ClassFile.FieldType.int)) ∈ lw_all := lw_g (lw_at lw_m7 35 rfl) rfl
/-! java/util/LinkedHashMap$Entry -/
set_option maxRecDepth 100000
def RJ22 : String := "java/util/LinkedHashMap$Entry"
abbrev cJ22_init : ByteArray := prog_63_method_1_code
def yJ22_init : MethodName := ⟨RJ22, "<init>", "(ILjava/lang/Object;Ljava/lang/Object;Ljava/util/HashMap$Node;)V"⟩
def dkwJ22_init_0 : List UInt8 := [42, 27, 44, 45, 25, 4, 183, 0, 1, 177]
abbrev dktJ22_init_0 : List UInt8 := dkwJ22_init_0 ++ []
theorem dksJ22_init_0 : cJ22_init.data.toList.drop 0 = dktJ22_init_0 := by decide +kernel
theorem dJ22_init_0 : decode cJ22_init 0 = .ok (.aload_n 0, 1) := dk_42 (dk_at dksJ22_init_0 0 rfl rfl)
theorem dJ22_init_1 : decode cJ22_init 1 = .ok (.iload_n 1, 1) := dk_27 (dk_at dksJ22_init_0 1 rfl rfl)
theorem dJ22_init_2 : decode cJ22_init 2 = .ok (.aload_n 2, 1) := dk_44 (dk_at dksJ22_init_0 2 rfl rfl)
theorem dJ22_init_3 : decode cJ22_init 3 = .ok (.aload_n 3, 1) := dk_45 (dk_at dksJ22_init_0 3 rfl rfl)
theorem dJ22_init_4 : decode cJ22_init 4 = .ok (.aload 4, 2) := dk_25 4 (dk_at dksJ22_init_0 4 rfl rfl)
theorem dJ22_init_6 : decode cJ22_init 6 = .ok (.invokespecial 1, 3) := dk_183 0 1 (dk_at dksJ22_init_0 6 rfl rfl)
theorem dJ22_init_9 : decode cJ22_init 9 = .ok (.return_, 1) := dk_177 (dk_at dksJ22_init_0 9 rfl rfl)
theorem q200 : (Jvm.Cond.initialized "java/util/LinkedHashMap$Entry") ∈ lw_all := lw_g (lw_at lw_m1 34 rfl) rfl
theorem q1341 : (Jvm.Cond.instanceMethod ({ cls := "java/util/LinkedHashMap$Entry", name := "<init>", desc := "(ILjava/lang/Object;Ljava/lang/Object;Ljava/util/HashMap$Node;)V" } : Jvm.MethodName)) ∈ lw_all := lw_g (lw_at lw_m5 215 rfl) rfl
theorem q1342 : (Jvm.Cond.code ({ cls := "java/util/LinkedHashMap$Entry", name := "<init>", desc := "(ILjava/lang/Object;Ljava/lang/Object;Ljava/util/HashMap$Node;)V" } : Jvm.MethodName) prog_63_method_1_code (5 : Nat) (Option.none : Option Jvm.ClassFile.FieldType)) ∈ lw_all := lw_g (lw_at lw_m5 216 rfl) rfl
theorem q1343 : (Jvm.Cond.methodLink "java/util/LinkedHashMap$Entry" (1 : Nat) ({ cls := "java/util/HashMap$Node", name := "<init>", desc := "(ILjava/lang/Object;Ljava/lang/Object;Ljava/util/HashMap$Node;)V" } : Jvm.MethodName)) ∈ lw_all := lw_g (lw_at lw_m5 217 rfl) rfl
theorem q1361 : (Jvm.Cond.soleField "java/util/LinkedHashMap$Entry" "before") ∈ lw_all := lw_g (lw_at lw_m5 235 rfl) rfl
theorem q1363 : (Jvm.Cond.soleField "java/util/LinkedHashMap$Entry" "after") ∈ lw_all := lw_g (lw_at lw_m5 237 rfl) rfl
/-! java/util/HashMap$TreeNode -/
set_option maxRecDepth 100000
def RJ23 : String := "java/util/HashMap$TreeNode"
def TJ23 : u_T := fun k => match k with
  | 0 => ("java/util/LinkedHashMap$Entry", "before", "Ljava/util/LinkedHashMap$Entry;", false)
  | 1 => ("java/util/LinkedHashMap$Entry", "after", "Ljava/util/LinkedHashMap$Entry;", false)
  | 2 => ("java/util/HashMap$Node", "hash", "I", true)
  | 3 => ("java/util/HashMap$Node", "key", "Ljava/lang/Object;", true)
  | 4 => ("java/util/HashMap$Node", "value", "Ljava/lang/Object;", false)
  | 5 => ("java/util/HashMap$Node", "next", "Ljava/util/HashMap$Node;", false)
  | 6 => ("java/util/HashMap$TreeNode", "parent", "Ljava/util/HashMap$TreeNode;", false)
  | 7 => ("java/util/HashMap$TreeNode", "left", "Ljava/util/HashMap$TreeNode;", false)
  | 8 => ("java/util/HashMap$TreeNode", "right", "Ljava/util/HashMap$TreeNode;", false)
  | 9 => ("java/util/HashMap$TreeNode", "prev", "Ljava/util/HashMap$TreeNode;", false)
  | _ => ("java/util/HashMap$TreeNode", "red", "Z", false)
def tyJ23 : Nat → FieldType := fun k => match k with
  | 0 => .object "java/util/LinkedHashMap$Entry"
  | 1 => .object "java/util/LinkedHashMap$Entry"
  | 2 => .int
  | 3 => .object "java/lang/Object"
  | 4 => .object "java/lang/Object"
  | 5 => .object "java/util/HashMap$Node"
  | 6 => .object "java/util/HashMap$TreeNode"
  | 7 => .object "java/util/HashMap$TreeNode"
  | 8 => .object "java/util/HashMap$TreeNode"
  | 9 => .object "java/util/HashMap$TreeNode"
  | _ => .boolean
abbrev wsJ230 : List Cond := u_ws RJ23 TJ23 11
theorem nmJ23 : ∀ a, a < 11 → ∀ b, b < 11 → a ≠ b → (TJ23 a).2.1 ≠ (TJ23 b).2.1 := by decide +kernel
theorem tyJ23_ok : ∀ k, k < 11 → parseFieldDescriptor (TJ23 k).2.2.1 = some (tyJ23 k) := by decide +kernel
abbrev cJ23_split : ByteArray := prog_61_method_11_code
def yJ23_split : MethodName := ⟨RJ23, "split", "(Ljava/util/HashMap;[Ljava/util/HashMap$Node;II)V"⟩
def dkwJ23_split_9 : List UInt8 := [198, 0, 9, 25, 8, 44, 182, 0, 126, 177]
abbrev dktJ23_split_9 : List UInt8 := dkwJ23_split_9 ++ []
def dkwJ23_split_8 : List UInt8 := [21, 4, 96, 25, 8, 43, 182, 0, 119, 83, 167, 0, 22, 44, 29, 21, 4, 96, 25, 8, 83, 25, 6]
abbrev dktJ23_split_8 : List UInt8 := dkwJ23_split_8 ++ dktJ23_split_9
def dkwJ23_split_7 : List UInt8 := [198, 0, 9, 25, 6, 44, 182, 0, 126, 25, 8, 198, 0, 44, 21, 11, 16, 6, 163, 0, 18, 44, 29]
abbrev dktJ23_split_7 : List UInt8 := dkwJ23_split_7 ++ dktJ23_split_8
def dkwJ23_split_6 : List UInt8 := [163, 0, 15, 44, 29, 25, 6, 43, 182, 0, 119, 83, 167, 0, 19, 44, 29, 25, 6, 83, 25, 8]
abbrev dktJ23_split_6 : List UInt8 := dkwJ23_split_6 ++ dktJ23_split_7
def dkwJ23_split_5 : List UInt8 := [25, 12, 58, 9, 132, 11, 1, 25, 13, 58, 12, 167, 255, 153, 25, 6, 198, 0, 38, 21, 10, 16, 6]
abbrev dktJ23_split_5 : List UInt8 := dkwJ23_split_5 ++ dktJ23_split_6
def dkwJ23_split_4 : List UInt8 := [25, 9, 90, 181, 0, 19, 199, 0, 10, 25, 12, 58, 8, 167, 0, 10, 25, 9, 25, 12, 181, 0, 22]
abbrev dktJ23_split_4 : List UInt8 := dkwJ23_split_4 ++ dktJ23_split_5
def dkwJ23_split_3 : List UInt8 := [58, 6, 167, 0, 10, 25, 7, 25, 12, 181, 0, 22, 25, 12, 58, 7, 132, 10, 1, 167, 0, 35, 25, 12]
abbrev dktJ23_split_3 : List UInt8 := dkwJ23_split_3 ++ dktJ23_split_4
def dkwJ23_split_2 : List UInt8 := [25, 12, 180, 0, 15, 21, 4, 126, 154, 0, 38, 25, 12, 25, 7, 90, 181, 0, 19, 199, 0, 10, 25, 12]
abbrev dktJ23_split_2 : List UInt8 := dkwJ23_split_2 ++ dktJ23_split_3
def dkwJ23_split_1 : List UInt8 := [58, 12, 25, 12, 198, 0, 104, 25, 12, 180, 0, 22, 192, 0, 10, 58, 13, 25, 12, 1, 181, 0, 22]
abbrev dktJ23_split_1 : List UInt8 := dkwJ23_split_1 ++ dktJ23_split_2
def dkwJ23_split_0 : List UInt8 := [42, 58, 5, 1, 58, 6, 1, 58, 7, 1, 58, 8, 1, 58, 9, 3, 54, 10, 3, 54, 11, 25, 5]
abbrev dktJ23_split_0 : List UInt8 := dkwJ23_split_0 ++ dktJ23_split_1
theorem dksJ23_split_0 : cJ23_split.data.toList.drop 0 = dktJ23_split_0 := by decide +kernel
theorem dksJ23_split_1 : cJ23_split.data.toList.drop 23 = dktJ23_split_1 := dk_seg dksJ23_split_0 23 rfl rfl
theorem dksJ23_split_2 : cJ23_split.data.toList.drop 46 = dktJ23_split_2 := dk_seg dksJ23_split_1 23 rfl rfl
theorem dksJ23_split_3 : cJ23_split.data.toList.drop 70 = dktJ23_split_3 := dk_seg dksJ23_split_2 24 rfl rfl
theorem dksJ23_split_4 : cJ23_split.data.toList.drop 94 = dktJ23_split_4 := dk_seg dksJ23_split_3 24 rfl rfl
theorem dksJ23_split_5 : cJ23_split.data.toList.drop 117 = dktJ23_split_5 := dk_seg dksJ23_split_4 23 rfl rfl
theorem dksJ23_split_6 : cJ23_split.data.toList.drop 140 = dktJ23_split_6 := dk_seg dksJ23_split_5 23 rfl rfl
theorem dksJ23_split_7 : cJ23_split.data.toList.drop 162 = dktJ23_split_7 := dk_seg dksJ23_split_6 22 rfl rfl
theorem dksJ23_split_8 : cJ23_split.data.toList.drop 185 = dktJ23_split_8 := dk_seg dksJ23_split_7 23 rfl rfl
theorem dksJ23_split_9 : cJ23_split.data.toList.drop 208 = dktJ23_split_9 := dk_seg dksJ23_split_8 23 rfl rfl
theorem dJ23_split_0 : decode cJ23_split 0 = .ok (.aload_n 0, 1) := dk_42 (dk_at dksJ23_split_0 0 rfl rfl)
theorem dJ23_split_1 : decode cJ23_split 1 = .ok (.astore 5, 2) := dk_58 5 (dk_at dksJ23_split_0 1 rfl rfl)
theorem dJ23_split_3 : decode cJ23_split 3 = .ok (.aconst_null, 1) := dk_1 (dk_at dksJ23_split_0 3 rfl rfl)
theorem dJ23_split_4 : decode cJ23_split 4 = .ok (.astore 6, 2) := dk_58 6 (dk_at dksJ23_split_0 4 rfl rfl)
theorem dJ23_split_6 : decode cJ23_split 6 = .ok (.aconst_null, 1) := dk_1 (dk_at dksJ23_split_0 6 rfl rfl)
theorem dJ23_split_7 : decode cJ23_split 7 = .ok (.astore 7, 2) := dk_58 7 (dk_at dksJ23_split_0 7 rfl rfl)
theorem dJ23_split_9 : decode cJ23_split 9 = .ok (.aconst_null, 1) := dk_1 (dk_at dksJ23_split_0 9 rfl rfl)
theorem dJ23_split_10 : decode cJ23_split 10 = .ok (.astore 8, 2) := dk_58 8 (dk_at dksJ23_split_0 10 rfl rfl)
theorem dJ23_split_12 : decode cJ23_split 12 = .ok (.aconst_null, 1) := dk_1 (dk_at dksJ23_split_0 12 rfl rfl)
theorem dJ23_split_13 : decode cJ23_split 13 = .ok (.astore 9, 2) := dk_58 9 (dk_at dksJ23_split_0 13 rfl rfl)
theorem dJ23_split_15 : decode cJ23_split 15 = .ok (.iconst 0, 1) := dk_3 (dk_at dksJ23_split_0 15 rfl rfl)
theorem dJ23_split_16 : decode cJ23_split 16 = .ok (.istore 10, 2) := dk_54 10 (dk_at dksJ23_split_0 16 rfl rfl)
theorem dJ23_split_18 : decode cJ23_split 18 = .ok (.iconst 0, 1) := dk_3 (dk_at dksJ23_split_0 18 rfl rfl)
theorem dJ23_split_19 : decode cJ23_split 19 = .ok (.istore 11, 2) := dk_54 11 (dk_at dksJ23_split_0 19 rfl rfl)
theorem dJ23_split_21 : decode cJ23_split 21 = .ok (.aload 5, 2) := dk_25 5 (dk_at dksJ23_split_0 21 rfl rfl)
theorem dJ23_split_23 : decode cJ23_split 23 = .ok (.astore 12, 2) := dk_58 12 (dk_at dksJ23_split_1 0 rfl rfl)
theorem dJ23_split_25 : decode cJ23_split 25 = .ok (.aload 12, 2) := dk_25 12 (dk_at dksJ23_split_1 2 rfl rfl)
theorem dJ23_split_27 : decode cJ23_split 27 = .ok (.ifnull 104, 3) := dk_198 0 104 (dk_at dksJ23_split_1 4 rfl rfl)
theorem dJ23_split_30 : decode cJ23_split 30 = .ok (.aload 12, 2) := dk_25 12 (dk_at dksJ23_split_1 7 rfl rfl)
theorem dJ23_split_32 : decode cJ23_split 32 = .ok (.getfield 22, 3) := dk_180 0 22 (dk_at dksJ23_split_1 9 rfl rfl)
theorem dJ23_split_35 : decode cJ23_split 35 = .ok (.checkcast 10, 3) := dk_192 0 10 (dk_at dksJ23_split_1 12 rfl rfl)
theorem dJ23_split_38 : decode cJ23_split 38 = .ok (.astore 13, 2) := dk_58 13 (dk_at dksJ23_split_1 15 rfl rfl)
theorem dJ23_split_40 : decode cJ23_split 40 = .ok (.aload 12, 2) := dk_25 12 (dk_at dksJ23_split_1 17 rfl rfl)
theorem dJ23_split_42 : decode cJ23_split 42 = .ok (.aconst_null, 1) := dk_1 (dk_at dksJ23_split_1 19 rfl rfl)
theorem dJ23_split_43 : decode cJ23_split 43 = .ok (.putfield 22, 3) := dk_181 0 22 (dk_at dksJ23_split_1 20 rfl rfl)
theorem dJ23_split_46 : decode cJ23_split 46 = .ok (.aload 12, 2) := dk_25 12 (dk_at dksJ23_split_2 0 rfl rfl)
theorem dJ23_split_48 : decode cJ23_split 48 = .ok (.getfield 15, 3) := dk_180 0 15 (dk_at dksJ23_split_2 2 rfl rfl)
theorem dJ23_split_51 : decode cJ23_split 51 = .ok (.iload 4, 2) := dk_21 4 (dk_at dksJ23_split_2 5 rfl rfl)
theorem dJ23_split_53 : decode cJ23_split 53 = .ok (.iand, 1) := dk_126 (dk_at dksJ23_split_2 7 rfl rfl)
theorem dJ23_split_54 : decode cJ23_split 54 = .ok (.ifCond .ne 38, 3) := dk_154 0 38 (dk_at dksJ23_split_2 8 rfl rfl)
theorem dJ23_split_57 : decode cJ23_split 57 = .ok (.aload 12, 2) := dk_25 12 (dk_at dksJ23_split_2 11 rfl rfl)
theorem dJ23_split_59 : decode cJ23_split 59 = .ok (.aload 7, 2) := dk_25 7 (dk_at dksJ23_split_2 13 rfl rfl)
theorem dJ23_split_61 : decode cJ23_split 61 = .ok (.dup_x1, 1) := dk_90 (dk_at dksJ23_split_2 15 rfl rfl)
theorem dJ23_split_62 : decode cJ23_split 62 = .ok (.putfield 19, 3) := dk_181 0 19 (dk_at dksJ23_split_2 16 rfl rfl)
theorem dJ23_split_65 : decode cJ23_split 65 = .ok (.ifnonnull 10, 3) := dk_199 0 10 (dk_at dksJ23_split_2 19 rfl rfl)
theorem dJ23_split_68 : decode cJ23_split 68 = .ok (.aload 12, 2) := dk_25 12 (dk_at dksJ23_split_2 22 rfl rfl)
theorem dJ23_split_70 : decode cJ23_split 70 = .ok (.astore 6, 2) := dk_58 6 (dk_at dksJ23_split_3 0 rfl rfl)
theorem dJ23_split_72 : decode cJ23_split 72 = .ok (.goto 10, 3) := dk_167 0 10 (dk_at dksJ23_split_3 2 rfl rfl)
theorem dJ23_split_75 : decode cJ23_split 75 = .ok (.aload 7, 2) := dk_25 7 (dk_at dksJ23_split_3 5 rfl rfl)
theorem dJ23_split_77 : decode cJ23_split 77 = .ok (.aload 12, 2) := dk_25 12 (dk_at dksJ23_split_3 7 rfl rfl)
theorem dJ23_split_79 : decode cJ23_split 79 = .ok (.putfield 22, 3) := dk_181 0 22 (dk_at dksJ23_split_3 9 rfl rfl)
theorem dJ23_split_82 : decode cJ23_split 82 = .ok (.aload 12, 2) := dk_25 12 (dk_at dksJ23_split_3 12 rfl rfl)
theorem dJ23_split_84 : decode cJ23_split 84 = .ok (.astore 7, 2) := dk_58 7 (dk_at dksJ23_split_3 14 rfl rfl)
theorem dJ23_split_86 : decode cJ23_split 86 = .ok (.iinc 10 1, 3) := dk_132 10 1 (dk_at dksJ23_split_3 16 rfl rfl)
theorem dJ23_split_89 : decode cJ23_split 89 = .ok (.goto 35, 3) := dk_167 0 35 (dk_at dksJ23_split_3 19 rfl rfl)
theorem dJ23_split_92 : decode cJ23_split 92 = .ok (.aload 12, 2) := dk_25 12 (dk_at dksJ23_split_3 22 rfl rfl)
theorem dJ23_split_94 : decode cJ23_split 94 = .ok (.aload 9, 2) := dk_25 9 (dk_at dksJ23_split_4 0 rfl rfl)
theorem dJ23_split_96 : decode cJ23_split 96 = .ok (.dup_x1, 1) := dk_90 (dk_at dksJ23_split_4 2 rfl rfl)
theorem dJ23_split_97 : decode cJ23_split 97 = .ok (.putfield 19, 3) := dk_181 0 19 (dk_at dksJ23_split_4 3 rfl rfl)
theorem dJ23_split_100 : decode cJ23_split 100 = .ok (.ifnonnull 10, 3) := dk_199 0 10 (dk_at dksJ23_split_4 6 rfl rfl)
theorem dJ23_split_103 : decode cJ23_split 103 = .ok (.aload 12, 2) := dk_25 12 (dk_at dksJ23_split_4 9 rfl rfl)
theorem dJ23_split_105 : decode cJ23_split 105 = .ok (.astore 8, 2) := dk_58 8 (dk_at dksJ23_split_4 11 rfl rfl)
theorem dJ23_split_107 : decode cJ23_split 107 = .ok (.goto 10, 3) := dk_167 0 10 (dk_at dksJ23_split_4 13 rfl rfl)
theorem dJ23_split_110 : decode cJ23_split 110 = .ok (.aload 9, 2) := dk_25 9 (dk_at dksJ23_split_4 16 rfl rfl)
theorem dJ23_split_112 : decode cJ23_split 112 = .ok (.aload 12, 2) := dk_25 12 (dk_at dksJ23_split_4 18 rfl rfl)
theorem dJ23_split_114 : decode cJ23_split 114 = .ok (.putfield 22, 3) := dk_181 0 22 (dk_at dksJ23_split_4 20 rfl rfl)
theorem dJ23_split_117 : decode cJ23_split 117 = .ok (.aload 12, 2) := dk_25 12 (dk_at dksJ23_split_5 0 rfl rfl)
theorem dJ23_split_119 : decode cJ23_split 119 = .ok (.astore 9, 2) := dk_58 9 (dk_at dksJ23_split_5 2 rfl rfl)
theorem dJ23_split_121 : decode cJ23_split 121 = .ok (.iinc 11 1, 3) := dk_132 11 1 (dk_at dksJ23_split_5 4 rfl rfl)
theorem dJ23_split_124 : decode cJ23_split 124 = .ok (.aload 13, 2) := dk_25 13 (dk_at dksJ23_split_5 7 rfl rfl)
theorem dJ23_split_126 : decode cJ23_split 126 = .ok (.astore 12, 2) := dk_58 12 (dk_at dksJ23_split_5 9 rfl rfl)
theorem dJ23_split_128 : decode cJ23_split 128 = .ok (.goto (-103), 3) := dk_167 255 153 (dk_at dksJ23_split_5 11 rfl rfl)
theorem dJ23_split_131 : decode cJ23_split 131 = .ok (.aload 6, 2) := dk_25 6 (dk_at dksJ23_split_5 14 rfl rfl)
theorem dJ23_split_133 : decode cJ23_split 133 = .ok (.ifnull 38, 3) := dk_198 0 38 (dk_at dksJ23_split_5 16 rfl rfl)
theorem dJ23_split_136 : decode cJ23_split 136 = .ok (.iload 10, 2) := dk_21 10 (dk_at dksJ23_split_5 19 rfl rfl)
theorem dJ23_split_138 : decode cJ23_split 138 = .ok (.bipush 6, 2) := dk_16 6 (dk_at dksJ23_split_5 21 rfl rfl)
theorem dJ23_split_140 : decode cJ23_split 140 = .ok (.if_icmp .gt 15, 3) := dk_163 0 15 (dk_at dksJ23_split_6 0 rfl rfl)
theorem dJ23_split_143 : decode cJ23_split 143 = .ok (.aload_n 2, 1) := dk_44 (dk_at dksJ23_split_6 3 rfl rfl)
theorem dJ23_split_144 : decode cJ23_split 144 = .ok (.iload_n 3, 1) := dk_29 (dk_at dksJ23_split_6 4 rfl rfl)
theorem dJ23_split_145 : decode cJ23_split 145 = .ok (.aload 6, 2) := dk_25 6 (dk_at dksJ23_split_6 5 rfl rfl)
theorem dJ23_split_147 : decode cJ23_split 147 = .ok (.aload_n 1, 1) := dk_43 (dk_at dksJ23_split_6 7 rfl rfl)
theorem dJ23_split_148 : decode cJ23_split 148 = .ok (.invokevirtual 119, 3) := dk_182 0 119 (dk_at dksJ23_split_6 8 rfl rfl)
theorem dJ23_split_151 : decode cJ23_split 151 = .ok (.aastore, 1) := dk_83 (dk_at dksJ23_split_6 11 rfl rfl)
theorem dJ23_split_152 : decode cJ23_split 152 = .ok (.goto 19, 3) := dk_167 0 19 (dk_at dksJ23_split_6 12 rfl rfl)
theorem dJ23_split_155 : decode cJ23_split 155 = .ok (.aload_n 2, 1) := dk_44 (dk_at dksJ23_split_6 15 rfl rfl)
theorem dJ23_split_156 : decode cJ23_split 156 = .ok (.iload_n 3, 1) := dk_29 (dk_at dksJ23_split_6 16 rfl rfl)
theorem dJ23_split_157 : decode cJ23_split 157 = .ok (.aload 6, 2) := dk_25 6 (dk_at dksJ23_split_6 17 rfl rfl)
theorem dJ23_split_159 : decode cJ23_split 159 = .ok (.aastore, 1) := dk_83 (dk_at dksJ23_split_6 19 rfl rfl)
theorem dJ23_split_160 : decode cJ23_split 160 = .ok (.aload 8, 2) := dk_25 8 (dk_at dksJ23_split_6 20 rfl rfl)
theorem dJ23_split_162 : decode cJ23_split 162 = .ok (.ifnull 9, 3) := dk_198 0 9 (dk_at dksJ23_split_7 0 rfl rfl)
theorem dJ23_split_165 : decode cJ23_split 165 = .ok (.aload 6, 2) := dk_25 6 (dk_at dksJ23_split_7 3 rfl rfl)
theorem dJ23_split_167 : decode cJ23_split 167 = .ok (.aload_n 2, 1) := dk_44 (dk_at dksJ23_split_7 5 rfl rfl)
theorem dJ23_split_168 : decode cJ23_split 168 = .ok (.invokevirtual 126, 3) := dk_182 0 126 (dk_at dksJ23_split_7 6 rfl rfl)
theorem dJ23_split_171 : decode cJ23_split 171 = .ok (.aload 8, 2) := dk_25 8 (dk_at dksJ23_split_7 9 rfl rfl)
theorem dJ23_split_173 : decode cJ23_split 173 = .ok (.ifnull 44, 3) := dk_198 0 44 (dk_at dksJ23_split_7 11 rfl rfl)
theorem dJ23_split_176 : decode cJ23_split 176 = .ok (.iload 11, 2) := dk_21 11 (dk_at dksJ23_split_7 14 rfl rfl)
theorem dJ23_split_178 : decode cJ23_split 178 = .ok (.bipush 6, 2) := dk_16 6 (dk_at dksJ23_split_7 16 rfl rfl)
theorem dJ23_split_180 : decode cJ23_split 180 = .ok (.if_icmp .gt 18, 3) := dk_163 0 18 (dk_at dksJ23_split_7 18 rfl rfl)
theorem dJ23_split_183 : decode cJ23_split 183 = .ok (.aload_n 2, 1) := dk_44 (dk_at dksJ23_split_7 21 rfl rfl)
theorem dJ23_split_184 : decode cJ23_split 184 = .ok (.iload_n 3, 1) := dk_29 (dk_at dksJ23_split_7 22 rfl rfl)
theorem dJ23_split_185 : decode cJ23_split 185 = .ok (.iload 4, 2) := dk_21 4 (dk_at dksJ23_split_8 0 rfl rfl)
theorem dJ23_split_187 : decode cJ23_split 187 = .ok (.iadd, 1) := dk_96 (dk_at dksJ23_split_8 2 rfl rfl)
theorem dJ23_split_188 : decode cJ23_split 188 = .ok (.aload 8, 2) := dk_25 8 (dk_at dksJ23_split_8 3 rfl rfl)
theorem dJ23_split_190 : decode cJ23_split 190 = .ok (.aload_n 1, 1) := dk_43 (dk_at dksJ23_split_8 5 rfl rfl)
theorem dJ23_split_191 : decode cJ23_split 191 = .ok (.invokevirtual 119, 3) := dk_182 0 119 (dk_at dksJ23_split_8 6 rfl rfl)
theorem dJ23_split_194 : decode cJ23_split 194 = .ok (.aastore, 1) := dk_83 (dk_at dksJ23_split_8 9 rfl rfl)
theorem dJ23_split_195 : decode cJ23_split 195 = .ok (.goto 22, 3) := dk_167 0 22 (dk_at dksJ23_split_8 10 rfl rfl)
theorem dJ23_split_198 : decode cJ23_split 198 = .ok (.aload_n 2, 1) := dk_44 (dk_at dksJ23_split_8 13 rfl rfl)
theorem dJ23_split_199 : decode cJ23_split 199 = .ok (.iload_n 3, 1) := dk_29 (dk_at dksJ23_split_8 14 rfl rfl)
theorem dJ23_split_200 : decode cJ23_split 200 = .ok (.iload 4, 2) := dk_21 4 (dk_at dksJ23_split_8 15 rfl rfl)
theorem dJ23_split_202 : decode cJ23_split 202 = .ok (.iadd, 1) := dk_96 (dk_at dksJ23_split_8 17 rfl rfl)
theorem dJ23_split_203 : decode cJ23_split 203 = .ok (.aload 8, 2) := dk_25 8 (dk_at dksJ23_split_8 18 rfl rfl)
theorem dJ23_split_205 : decode cJ23_split 205 = .ok (.aastore, 1) := dk_83 (dk_at dksJ23_split_8 20 rfl rfl)
theorem dJ23_split_206 : decode cJ23_split 206 = .ok (.aload 6, 2) := dk_25 6 (dk_at dksJ23_split_8 21 rfl rfl)
theorem dJ23_split_208 : decode cJ23_split 208 = .ok (.ifnull 9, 3) := dk_198 0 9 (dk_at dksJ23_split_9 0 rfl rfl)
theorem dJ23_split_211 : decode cJ23_split 211 = .ok (.aload 8, 2) := dk_25 8 (dk_at dksJ23_split_9 3 rfl rfl)
theorem dJ23_split_213 : decode cJ23_split 213 = .ok (.aload_n 2, 1) := dk_44 (dk_at dksJ23_split_9 5 rfl rfl)
theorem dJ23_split_214 : decode cJ23_split 214 = .ok (.invokevirtual 126, 3) := dk_182 0 126 (dk_at dksJ23_split_9 6 rfl rfl)
theorem dJ23_split_217 : decode cJ23_split 217 = .ok (.return_, 1) := dk_177 (dk_at dksJ23_split_9 9 rfl rfl)
abbrev cJ23_untreeify : ByteArray := prog_61_method_8_code
def yJ23_untreeify : MethodName := ⟨RJ23, "untreeify", "(Ljava/util/HashMap;)Ljava/util/HashMap$Node;"⟩
def dkwJ23_untreeify_2 : List UInt8 := [58, 4, 167, 255, 216, 44, 176]
abbrev dktJ23_untreeify_2 : List UInt8 := dkwJ23_untreeify_2 ++ []
def dkwJ23_untreeify_1 : List UInt8 := [199, 0, 9, 25, 5, 77, 167, 0, 9, 45, 25, 5, 181, 0, 112, 25, 5, 78, 25, 4, 180, 0, 112]
abbrev dktJ23_untreeify_1 : List UInt8 := dkwJ23_untreeify_1 ++ dktJ23_untreeify_2
def dkwJ23_untreeify_0 : List UInt8 := [1, 77, 1, 78, 42, 58, 4, 25, 4, 198, 0, 41, 43, 25, 4, 1, 182, 0, 108, 58, 5, 45]
abbrev dktJ23_untreeify_0 : List UInt8 := dkwJ23_untreeify_0 ++ dktJ23_untreeify_1
theorem dksJ23_untreeify_0 : cJ23_untreeify.data.toList.drop 0 = dktJ23_untreeify_0 := by decide +kernel
theorem dksJ23_untreeify_1 : cJ23_untreeify.data.toList.drop 22 = dktJ23_untreeify_1 := dk_seg dksJ23_untreeify_0 22 rfl rfl
theorem dksJ23_untreeify_2 : cJ23_untreeify.data.toList.drop 45 = dktJ23_untreeify_2 := dk_seg dksJ23_untreeify_1 23 rfl rfl
theorem dJ23_untreeify_0 : decode cJ23_untreeify 0 = .ok (.aconst_null, 1) := dk_1 (dk_at dksJ23_untreeify_0 0 rfl rfl)
theorem dJ23_untreeify_1 : decode cJ23_untreeify 1 = .ok (.astore_n 2, 1) := dk_77 (dk_at dksJ23_untreeify_0 1 rfl rfl)
theorem dJ23_untreeify_2 : decode cJ23_untreeify 2 = .ok (.aconst_null, 1) := dk_1 (dk_at dksJ23_untreeify_0 2 rfl rfl)
theorem dJ23_untreeify_3 : decode cJ23_untreeify 3 = .ok (.astore_n 3, 1) := dk_78 (dk_at dksJ23_untreeify_0 3 rfl rfl)
theorem dJ23_untreeify_4 : decode cJ23_untreeify 4 = .ok (.aload_n 0, 1) := dk_42 (dk_at dksJ23_untreeify_0 4 rfl rfl)
theorem dJ23_untreeify_5 : decode cJ23_untreeify 5 = .ok (.astore 4, 2) := dk_58 4 (dk_at dksJ23_untreeify_0 5 rfl rfl)
theorem dJ23_untreeify_7 : decode cJ23_untreeify 7 = .ok (.aload 4, 2) := dk_25 4 (dk_at dksJ23_untreeify_0 7 rfl rfl)
theorem dJ23_untreeify_9 : decode cJ23_untreeify 9 = .ok (.ifnull 41, 3) := dk_198 0 41 (dk_at dksJ23_untreeify_0 9 rfl rfl)
theorem dJ23_untreeify_12 : decode cJ23_untreeify 12 = .ok (.aload_n 1, 1) := dk_43 (dk_at dksJ23_untreeify_0 12 rfl rfl)
theorem dJ23_untreeify_13 : decode cJ23_untreeify 13 = .ok (.aload 4, 2) := dk_25 4 (dk_at dksJ23_untreeify_0 13 rfl rfl)
theorem dJ23_untreeify_15 : decode cJ23_untreeify 15 = .ok (.aconst_null, 1) := dk_1 (dk_at dksJ23_untreeify_0 15 rfl rfl)
theorem dJ23_untreeify_16 : decode cJ23_untreeify 16 = .ok (.invokevirtual 108, 3) := dk_182 0 108 (dk_at dksJ23_untreeify_0 16 rfl rfl)
theorem dJ23_untreeify_19 : decode cJ23_untreeify 19 = .ok (.astore 5, 2) := dk_58 5 (dk_at dksJ23_untreeify_0 19 rfl rfl)
theorem dJ23_untreeify_21 : decode cJ23_untreeify 21 = .ok (.aload_n 3, 1) := dk_45 (dk_at dksJ23_untreeify_0 21 rfl rfl)
theorem dJ23_untreeify_22 : decode cJ23_untreeify 22 = .ok (.ifnonnull 9, 3) := dk_199 0 9 (dk_at dksJ23_untreeify_1 0 rfl rfl)
theorem dJ23_untreeify_25 : decode cJ23_untreeify 25 = .ok (.aload 5, 2) := dk_25 5 (dk_at dksJ23_untreeify_1 3 rfl rfl)
theorem dJ23_untreeify_27 : decode cJ23_untreeify 27 = .ok (.astore_n 2, 1) := dk_77 (dk_at dksJ23_untreeify_1 5 rfl rfl)
theorem dJ23_untreeify_28 : decode cJ23_untreeify 28 = .ok (.goto 9, 3) := dk_167 0 9 (dk_at dksJ23_untreeify_1 6 rfl rfl)
theorem dJ23_untreeify_31 : decode cJ23_untreeify 31 = .ok (.aload_n 3, 1) := dk_45 (dk_at dksJ23_untreeify_1 9 rfl rfl)
theorem dJ23_untreeify_32 : decode cJ23_untreeify 32 = .ok (.aload 5, 2) := dk_25 5 (dk_at dksJ23_untreeify_1 10 rfl rfl)
theorem dJ23_untreeify_34 : decode cJ23_untreeify 34 = .ok (.putfield 112, 3) := dk_181 0 112 (dk_at dksJ23_untreeify_1 12 rfl rfl)
theorem dJ23_untreeify_37 : decode cJ23_untreeify 37 = .ok (.aload 5, 2) := dk_25 5 (dk_at dksJ23_untreeify_1 15 rfl rfl)
theorem dJ23_untreeify_39 : decode cJ23_untreeify 39 = .ok (.astore_n 3, 1) := dk_78 (dk_at dksJ23_untreeify_1 17 rfl rfl)
theorem dJ23_untreeify_40 : decode cJ23_untreeify 40 = .ok (.aload 4, 2) := dk_25 4 (dk_at dksJ23_untreeify_1 18 rfl rfl)
theorem dJ23_untreeify_42 : decode cJ23_untreeify 42 = .ok (.getfield 112, 3) := dk_180 0 112 (dk_at dksJ23_untreeify_1 20 rfl rfl)
theorem dJ23_untreeify_45 : decode cJ23_untreeify 45 = .ok (.astore 4, 2) := dk_58 4 (dk_at dksJ23_untreeify_2 0 rfl rfl)
theorem dJ23_untreeify_47 : decode cJ23_untreeify 47 = .ok (.goto (-40), 3) := dk_167 255 216 (dk_at dksJ23_untreeify_2 2 rfl rfl)
theorem dJ23_untreeify_50 : decode cJ23_untreeify 50 = .ok (.aload_n 2, 1) := dk_44 (dk_at dksJ23_untreeify_2 5 rfl rfl)
theorem dJ23_untreeify_51 : decode cJ23_untreeify 51 = .ok (.areturn, 1) := dk_176 (dk_at dksJ23_untreeify_2 6 rfl rfl)
abbrev cJ23_treeify : ByteArray := prog_61_method_7_code
def yJ23_treeify : MethodName := ⟨RJ23, "treeify", "([Ljava/util/HashMap$Node;)V"⟩
def dkwJ23_treeify_9 : List UInt8 := [25, 4, 78, 167, 255, 48, 43, 44, 184, 0, 104, 177]
abbrev dktJ23_treeify_9 : List UInt8 := dkwJ23_treeify_9 ++ []
def dkwJ23_treeify_8 : List UInt8 := [181, 0, 39, 167, 0, 9, 25, 12, 45, 181, 0, 42, 44, 45, 184, 0, 100, 77, 167, 0, 6, 167, 255, 114]
abbrev dktJ23_treeify_8 : List UInt8 := dkwJ23_treeify_8 ++ dktJ23_treeify_9
def dkwJ23_treeify_7 : List UInt8 := [180, 0, 42, 89, 58, 8, 199, 0, 38, 45, 25, 12, 181, 0, 9, 21, 9, 157, 0, 12, 25, 12, 45]
abbrev dktJ23_treeify_7 : List UInt8 := dkwJ23_treeify_7 ++ dktJ23_treeify_8
def dkwJ23_treeify_6 : List UInt8 := [184, 0, 96, 54, 9, 25, 8, 58, 12, 21, 9, 157, 0, 11, 25, 8, 180, 0, 39, 167, 0, 8, 25, 8]
abbrev dktJ23_treeify_6 : List UInt8 := dkwJ23_treeify_6 ++ dktJ23_treeify_7
def dkwJ23_treeify_5 : List UInt8 := [198, 0, 18, 25, 7, 25, 5, 25, 11, 184, 0, 59, 89, 54, 9, 154, 0, 12, 25, 5, 25, 11]
abbrev dktJ23_treeify_5 : List UInt8 := dkwJ23_treeify_5 ++ dktJ23_treeify_6
def dkwJ23_treeify_4 : List UInt8 := [162, 0, 9, 4, 54, 9, 167, 0, 43, 25, 7, 199, 0, 14, 25, 5, 184, 0, 55, 89, 58, 7]
abbrev dktJ23_treeify_4 : List UInt8 := dkwJ23_treeify_4 ++ dktJ23_treeify_5
def dkwJ23_treeify_3 : List UInt8 := [25, 8, 180, 0, 15, 89, 54, 10, 21, 6, 164, 0, 9, 2, 54, 9, 167, 0, 56, 21, 10, 21, 6]
abbrev dktJ23_treeify_3 : List UInt8 := dkwJ23_treeify_3 ++ dktJ23_treeify_4
def dkwJ23_treeify_2 : List UInt8 := [180, 0, 45, 58, 5, 45, 180, 0, 15, 54, 6, 1, 58, 7, 44, 58, 8, 25, 8, 180, 0, 45, 58, 11]
abbrev dktJ23_treeify_2 : List UInt8 := dkwJ23_treeify_2 ++ dktJ23_treeify_3
def dkwJ23_treeify_1 : List UInt8 := [181, 0, 39, 44, 199, 0, 18, 45, 1, 181, 0, 9, 45, 3, 181, 0, 93, 45, 77, 167, 0, 166, 45]
abbrev dktJ23_treeify_1 : List UInt8 := dkwJ23_treeify_1 ++ dktJ23_treeify_2
def dkwJ23_treeify_0 : List UInt8 := [1, 77, 42, 78, 45, 198, 0, 210, 45, 180, 0, 22, 192, 0, 10, 58, 4, 45, 45, 1, 90, 181, 0, 42]
abbrev dktJ23_treeify_0 : List UInt8 := dkwJ23_treeify_0 ++ dktJ23_treeify_1
theorem dksJ23_treeify_0 : cJ23_treeify.data.toList.drop 0 = dktJ23_treeify_0 := by decide +kernel
theorem dksJ23_treeify_1 : cJ23_treeify.data.toList.drop 24 = dktJ23_treeify_1 := dk_seg dksJ23_treeify_0 24 rfl rfl
theorem dksJ23_treeify_2 : cJ23_treeify.data.toList.drop 47 = dktJ23_treeify_2 := dk_seg dksJ23_treeify_1 23 rfl rfl
theorem dksJ23_treeify_3 : cJ23_treeify.data.toList.drop 71 = dktJ23_treeify_3 := dk_seg dksJ23_treeify_2 24 rfl rfl
theorem dksJ23_treeify_4 : cJ23_treeify.data.toList.drop 94 = dktJ23_treeify_4 := dk_seg dksJ23_treeify_3 23 rfl rfl
theorem dksJ23_treeify_5 : cJ23_treeify.data.toList.drop 116 = dktJ23_treeify_5 := dk_seg dksJ23_treeify_4 22 rfl rfl
theorem dksJ23_treeify_6 : cJ23_treeify.data.toList.drop 138 = dktJ23_treeify_6 := dk_seg dksJ23_treeify_5 22 rfl rfl
theorem dksJ23_treeify_7 : cJ23_treeify.data.toList.drop 162 = dktJ23_treeify_7 := dk_seg dksJ23_treeify_6 24 rfl rfl
theorem dksJ23_treeify_8 : cJ23_treeify.data.toList.drop 185 = dktJ23_treeify_8 := dk_seg dksJ23_treeify_7 23 rfl rfl
theorem dksJ23_treeify_9 : cJ23_treeify.data.toList.drop 209 = dktJ23_treeify_9 := dk_seg dksJ23_treeify_8 24 rfl rfl
theorem dJ23_treeify_0 : decode cJ23_treeify 0 = .ok (.aconst_null, 1) := dk_1 (dk_at dksJ23_treeify_0 0 rfl rfl)
theorem dJ23_treeify_1 : decode cJ23_treeify 1 = .ok (.astore_n 2, 1) := dk_77 (dk_at dksJ23_treeify_0 1 rfl rfl)
theorem dJ23_treeify_2 : decode cJ23_treeify 2 = .ok (.aload_n 0, 1) := dk_42 (dk_at dksJ23_treeify_0 2 rfl rfl)
theorem dJ23_treeify_3 : decode cJ23_treeify 3 = .ok (.astore_n 3, 1) := dk_78 (dk_at dksJ23_treeify_0 3 rfl rfl)
theorem dJ23_treeify_4 : decode cJ23_treeify 4 = .ok (.aload_n 3, 1) := dk_45 (dk_at dksJ23_treeify_0 4 rfl rfl)
theorem dJ23_treeify_5 : decode cJ23_treeify 5 = .ok (.ifnull 210, 3) := dk_198 0 210 (dk_at dksJ23_treeify_0 5 rfl rfl)
theorem dJ23_treeify_8 : decode cJ23_treeify 8 = .ok (.aload_n 3, 1) := dk_45 (dk_at dksJ23_treeify_0 8 rfl rfl)
theorem dJ23_treeify_9 : decode cJ23_treeify 9 = .ok (.getfield 22, 3) := dk_180 0 22 (dk_at dksJ23_treeify_0 9 rfl rfl)
theorem dJ23_treeify_12 : decode cJ23_treeify 12 = .ok (.checkcast 10, 3) := dk_192 0 10 (dk_at dksJ23_treeify_0 12 rfl rfl)
theorem dJ23_treeify_15 : decode cJ23_treeify 15 = .ok (.astore 4, 2) := dk_58 4 (dk_at dksJ23_treeify_0 15 rfl rfl)
theorem dJ23_treeify_17 : decode cJ23_treeify 17 = .ok (.aload_n 3, 1) := dk_45 (dk_at dksJ23_treeify_0 17 rfl rfl)
theorem dJ23_treeify_18 : decode cJ23_treeify 18 = .ok (.aload_n 3, 1) := dk_45 (dk_at dksJ23_treeify_0 18 rfl rfl)
theorem dJ23_treeify_19 : decode cJ23_treeify 19 = .ok (.aconst_null, 1) := dk_1 (dk_at dksJ23_treeify_0 19 rfl rfl)
theorem dJ23_treeify_20 : decode cJ23_treeify 20 = .ok (.dup_x1, 1) := dk_90 (dk_at dksJ23_treeify_0 20 rfl rfl)
theorem dJ23_treeify_21 : decode cJ23_treeify 21 = .ok (.putfield 42, 3) := dk_181 0 42 (dk_at dksJ23_treeify_0 21 rfl rfl)
theorem dJ23_treeify_24 : decode cJ23_treeify 24 = .ok (.putfield 39, 3) := dk_181 0 39 (dk_at dksJ23_treeify_1 0 rfl rfl)
theorem dJ23_treeify_27 : decode cJ23_treeify 27 = .ok (.aload_n 2, 1) := dk_44 (dk_at dksJ23_treeify_1 3 rfl rfl)
theorem dJ23_treeify_28 : decode cJ23_treeify 28 = .ok (.ifnonnull 18, 3) := dk_199 0 18 (dk_at dksJ23_treeify_1 4 rfl rfl)
theorem dJ23_treeify_31 : decode cJ23_treeify 31 = .ok (.aload_n 3, 1) := dk_45 (dk_at dksJ23_treeify_1 7 rfl rfl)
theorem dJ23_treeify_32 : decode cJ23_treeify 32 = .ok (.aconst_null, 1) := dk_1 (dk_at dksJ23_treeify_1 8 rfl rfl)
theorem dJ23_treeify_33 : decode cJ23_treeify 33 = .ok (.putfield 9, 3) := dk_181 0 9 (dk_at dksJ23_treeify_1 9 rfl rfl)
theorem dJ23_treeify_36 : decode cJ23_treeify 36 = .ok (.aload_n 3, 1) := dk_45 (dk_at dksJ23_treeify_1 12 rfl rfl)
theorem dJ23_treeify_37 : decode cJ23_treeify 37 = .ok (.iconst 0, 1) := dk_3 (dk_at dksJ23_treeify_1 13 rfl rfl)
theorem dJ23_treeify_38 : decode cJ23_treeify 38 = .ok (.putfield 93, 3) := dk_181 0 93 (dk_at dksJ23_treeify_1 14 rfl rfl)
theorem dJ23_treeify_41 : decode cJ23_treeify 41 = .ok (.aload_n 3, 1) := dk_45 (dk_at dksJ23_treeify_1 17 rfl rfl)
theorem dJ23_treeify_42 : decode cJ23_treeify 42 = .ok (.astore_n 2, 1) := dk_77 (dk_at dksJ23_treeify_1 18 rfl rfl)
theorem dJ23_treeify_43 : decode cJ23_treeify 43 = .ok (.goto 166, 3) := dk_167 0 166 (dk_at dksJ23_treeify_1 19 rfl rfl)
theorem dJ23_treeify_46 : decode cJ23_treeify 46 = .ok (.aload_n 3, 1) := dk_45 (dk_at dksJ23_treeify_1 22 rfl rfl)
theorem dJ23_treeify_47 : decode cJ23_treeify 47 = .ok (.getfield 45, 3) := dk_180 0 45 (dk_at dksJ23_treeify_2 0 rfl rfl)
theorem dJ23_treeify_50 : decode cJ23_treeify 50 = .ok (.astore 5, 2) := dk_58 5 (dk_at dksJ23_treeify_2 3 rfl rfl)
theorem dJ23_treeify_52 : decode cJ23_treeify 52 = .ok (.aload_n 3, 1) := dk_45 (dk_at dksJ23_treeify_2 5 rfl rfl)
theorem dJ23_treeify_53 : decode cJ23_treeify 53 = .ok (.getfield 15, 3) := dk_180 0 15 (dk_at dksJ23_treeify_2 6 rfl rfl)
theorem dJ23_treeify_56 : decode cJ23_treeify 56 = .ok (.istore 6, 2) := dk_54 6 (dk_at dksJ23_treeify_2 9 rfl rfl)
theorem dJ23_treeify_58 : decode cJ23_treeify 58 = .ok (.aconst_null, 1) := dk_1 (dk_at dksJ23_treeify_2 11 rfl rfl)
theorem dJ23_treeify_59 : decode cJ23_treeify 59 = .ok (.astore 7, 2) := dk_58 7 (dk_at dksJ23_treeify_2 12 rfl rfl)
theorem dJ23_treeify_61 : decode cJ23_treeify 61 = .ok (.aload_n 2, 1) := dk_44 (dk_at dksJ23_treeify_2 14 rfl rfl)
theorem dJ23_treeify_62 : decode cJ23_treeify 62 = .ok (.astore 8, 2) := dk_58 8 (dk_at dksJ23_treeify_2 15 rfl rfl)
theorem dJ23_treeify_64 : decode cJ23_treeify 64 = .ok (.aload 8, 2) := dk_25 8 (dk_at dksJ23_treeify_2 17 rfl rfl)
theorem dJ23_treeify_66 : decode cJ23_treeify 66 = .ok (.getfield 45, 3) := dk_180 0 45 (dk_at dksJ23_treeify_2 19 rfl rfl)
theorem dJ23_treeify_69 : decode cJ23_treeify 69 = .ok (.astore 11, 2) := dk_58 11 (dk_at dksJ23_treeify_2 22 rfl rfl)
theorem dJ23_treeify_71 : decode cJ23_treeify 71 = .ok (.aload 8, 2) := dk_25 8 (dk_at dksJ23_treeify_3 0 rfl rfl)
theorem dJ23_treeify_73 : decode cJ23_treeify 73 = .ok (.getfield 15, 3) := dk_180 0 15 (dk_at dksJ23_treeify_3 2 rfl rfl)
theorem dJ23_treeify_76 : decode cJ23_treeify 76 = .ok (.dup, 1) := dk_89 (dk_at dksJ23_treeify_3 5 rfl rfl)
theorem dJ23_treeify_77 : decode cJ23_treeify 77 = .ok (.istore 10, 2) := dk_54 10 (dk_at dksJ23_treeify_3 6 rfl rfl)
theorem dJ23_treeify_79 : decode cJ23_treeify 79 = .ok (.iload 6, 2) := dk_21 6 (dk_at dksJ23_treeify_3 8 rfl rfl)
theorem dJ23_treeify_81 : decode cJ23_treeify 81 = .ok (.if_icmp .le 9, 3) := dk_164 0 9 (dk_at dksJ23_treeify_3 10 rfl rfl)
theorem dJ23_treeify_84 : decode cJ23_treeify 84 = .ok (.iconst (-1), 1) := dk_2 (dk_at dksJ23_treeify_3 13 rfl rfl)
theorem dJ23_treeify_85 : decode cJ23_treeify 85 = .ok (.istore 9, 2) := dk_54 9 (dk_at dksJ23_treeify_3 14 rfl rfl)
theorem dJ23_treeify_87 : decode cJ23_treeify 87 = .ok (.goto 56, 3) := dk_167 0 56 (dk_at dksJ23_treeify_3 16 rfl rfl)
theorem dJ23_treeify_90 : decode cJ23_treeify 90 = .ok (.iload 10, 2) := dk_21 10 (dk_at dksJ23_treeify_3 19 rfl rfl)
theorem dJ23_treeify_92 : decode cJ23_treeify 92 = .ok (.iload 6, 2) := dk_21 6 (dk_at dksJ23_treeify_3 21 rfl rfl)
theorem dJ23_treeify_94 : decode cJ23_treeify 94 = .ok (.if_icmp .ge 9, 3) := dk_162 0 9 (dk_at dksJ23_treeify_4 0 rfl rfl)
theorem dJ23_treeify_97 : decode cJ23_treeify 97 = .ok (.iconst 1, 1) := dk_4 (dk_at dksJ23_treeify_4 3 rfl rfl)
theorem dJ23_treeify_98 : decode cJ23_treeify 98 = .ok (.istore 9, 2) := dk_54 9 (dk_at dksJ23_treeify_4 4 rfl rfl)
theorem dJ23_treeify_100 : decode cJ23_treeify 100 = .ok (.goto 43, 3) := dk_167 0 43 (dk_at dksJ23_treeify_4 6 rfl rfl)
theorem dJ23_treeify_103 : decode cJ23_treeify 103 = .ok (.aload 7, 2) := dk_25 7 (dk_at dksJ23_treeify_4 9 rfl rfl)
theorem dJ23_treeify_105 : decode cJ23_treeify 105 = .ok (.ifnonnull 14, 3) := dk_199 0 14 (dk_at dksJ23_treeify_4 11 rfl rfl)
theorem dJ23_treeify_108 : decode cJ23_treeify 108 = .ok (.aload 5, 2) := dk_25 5 (dk_at dksJ23_treeify_4 14 rfl rfl)
theorem dJ23_treeify_110 : decode cJ23_treeify 110 = .ok (.invokestatic 55, 3) := dk_184 0 55 (dk_at dksJ23_treeify_4 16 rfl rfl)
theorem dJ23_treeify_113 : decode cJ23_treeify 113 = .ok (.dup, 1) := dk_89 (dk_at dksJ23_treeify_4 19 rfl rfl)
theorem dJ23_treeify_114 : decode cJ23_treeify 114 = .ok (.astore 7, 2) := dk_58 7 (dk_at dksJ23_treeify_4 20 rfl rfl)
theorem dJ23_treeify_116 : decode cJ23_treeify 116 = .ok (.ifnull 18, 3) := dk_198 0 18 (dk_at dksJ23_treeify_5 0 rfl rfl)
theorem dJ23_treeify_119 : decode cJ23_treeify 119 = .ok (.aload 7, 2) := dk_25 7 (dk_at dksJ23_treeify_5 3 rfl rfl)
theorem dJ23_treeify_121 : decode cJ23_treeify 121 = .ok (.aload 5, 2) := dk_25 5 (dk_at dksJ23_treeify_5 5 rfl rfl)
theorem dJ23_treeify_123 : decode cJ23_treeify 123 = .ok (.aload 11, 2) := dk_25 11 (dk_at dksJ23_treeify_5 7 rfl rfl)
theorem dJ23_treeify_125 : decode cJ23_treeify 125 = .ok (.invokestatic 59, 3) := dk_184 0 59 (dk_at dksJ23_treeify_5 9 rfl rfl)
theorem dJ23_treeify_128 : decode cJ23_treeify 128 = .ok (.dup, 1) := dk_89 (dk_at dksJ23_treeify_5 12 rfl rfl)
theorem dJ23_treeify_129 : decode cJ23_treeify 129 = .ok (.istore 9, 2) := dk_54 9 (dk_at dksJ23_treeify_5 13 rfl rfl)
theorem dJ23_treeify_131 : decode cJ23_treeify 131 = .ok (.ifCond .ne 12, 3) := dk_154 0 12 (dk_at dksJ23_treeify_5 15 rfl rfl)
theorem dJ23_treeify_134 : decode cJ23_treeify 134 = .ok (.aload 5, 2) := dk_25 5 (dk_at dksJ23_treeify_5 18 rfl rfl)
theorem dJ23_treeify_136 : decode cJ23_treeify 136 = .ok (.aload 11, 2) := dk_25 11 (dk_at dksJ23_treeify_5 20 rfl rfl)
theorem dJ23_treeify_138 : decode cJ23_treeify 138 = .ok (.invokestatic 96, 3) := dk_184 0 96 (dk_at dksJ23_treeify_6 0 rfl rfl)
theorem dJ23_treeify_141 : decode cJ23_treeify 141 = .ok (.istore 9, 2) := dk_54 9 (dk_at dksJ23_treeify_6 3 rfl rfl)
theorem dJ23_treeify_143 : decode cJ23_treeify 143 = .ok (.aload 8, 2) := dk_25 8 (dk_at dksJ23_treeify_6 5 rfl rfl)
theorem dJ23_treeify_145 : decode cJ23_treeify 145 = .ok (.astore 12, 2) := dk_58 12 (dk_at dksJ23_treeify_6 7 rfl rfl)
theorem dJ23_treeify_147 : decode cJ23_treeify 147 = .ok (.iload 9, 2) := dk_21 9 (dk_at dksJ23_treeify_6 9 rfl rfl)
theorem dJ23_treeify_149 : decode cJ23_treeify 149 = .ok (.ifCond .gt 11, 3) := dk_157 0 11 (dk_at dksJ23_treeify_6 11 rfl rfl)
theorem dJ23_treeify_152 : decode cJ23_treeify 152 = .ok (.aload 8, 2) := dk_25 8 (dk_at dksJ23_treeify_6 14 rfl rfl)
theorem dJ23_treeify_154 : decode cJ23_treeify 154 = .ok (.getfield 39, 3) := dk_180 0 39 (dk_at dksJ23_treeify_6 16 rfl rfl)
theorem dJ23_treeify_157 : decode cJ23_treeify 157 = .ok (.goto 8, 3) := dk_167 0 8 (dk_at dksJ23_treeify_6 19 rfl rfl)
theorem dJ23_treeify_160 : decode cJ23_treeify 160 = .ok (.aload 8, 2) := dk_25 8 (dk_at dksJ23_treeify_6 22 rfl rfl)
theorem dJ23_treeify_162 : decode cJ23_treeify 162 = .ok (.getfield 42, 3) := dk_180 0 42 (dk_at dksJ23_treeify_7 0 rfl rfl)
theorem dJ23_treeify_165 : decode cJ23_treeify 165 = .ok (.dup, 1) := dk_89 (dk_at dksJ23_treeify_7 3 rfl rfl)
theorem dJ23_treeify_166 : decode cJ23_treeify 166 = .ok (.astore 8, 2) := dk_58 8 (dk_at dksJ23_treeify_7 4 rfl rfl)
theorem dJ23_treeify_168 : decode cJ23_treeify 168 = .ok (.ifnonnull 38, 3) := dk_199 0 38 (dk_at dksJ23_treeify_7 6 rfl rfl)
theorem dJ23_treeify_171 : decode cJ23_treeify 171 = .ok (.aload_n 3, 1) := dk_45 (dk_at dksJ23_treeify_7 9 rfl rfl)
theorem dJ23_treeify_172 : decode cJ23_treeify 172 = .ok (.aload 12, 2) := dk_25 12 (dk_at dksJ23_treeify_7 10 rfl rfl)
theorem dJ23_treeify_174 : decode cJ23_treeify 174 = .ok (.putfield 9, 3) := dk_181 0 9 (dk_at dksJ23_treeify_7 12 rfl rfl)
theorem dJ23_treeify_177 : decode cJ23_treeify 177 = .ok (.iload 9, 2) := dk_21 9 (dk_at dksJ23_treeify_7 15 rfl rfl)
theorem dJ23_treeify_179 : decode cJ23_treeify 179 = .ok (.ifCond .gt 12, 3) := dk_157 0 12 (dk_at dksJ23_treeify_7 17 rfl rfl)
theorem dJ23_treeify_182 : decode cJ23_treeify 182 = .ok (.aload 12, 2) := dk_25 12 (dk_at dksJ23_treeify_7 20 rfl rfl)
theorem dJ23_treeify_184 : decode cJ23_treeify 184 = .ok (.aload_n 3, 1) := dk_45 (dk_at dksJ23_treeify_7 22 rfl rfl)
theorem dJ23_treeify_185 : decode cJ23_treeify 185 = .ok (.putfield 39, 3) := dk_181 0 39 (dk_at dksJ23_treeify_8 0 rfl rfl)
theorem dJ23_treeify_188 : decode cJ23_treeify 188 = .ok (.goto 9, 3) := dk_167 0 9 (dk_at dksJ23_treeify_8 3 rfl rfl)
theorem dJ23_treeify_191 : decode cJ23_treeify 191 = .ok (.aload 12, 2) := dk_25 12 (dk_at dksJ23_treeify_8 6 rfl rfl)
theorem dJ23_treeify_193 : decode cJ23_treeify 193 = .ok (.aload_n 3, 1) := dk_45 (dk_at dksJ23_treeify_8 8 rfl rfl)
theorem dJ23_treeify_194 : decode cJ23_treeify 194 = .ok (.putfield 42, 3) := dk_181 0 42 (dk_at dksJ23_treeify_8 9 rfl rfl)
theorem dJ23_treeify_197 : decode cJ23_treeify 197 = .ok (.aload_n 2, 1) := dk_44 (dk_at dksJ23_treeify_8 12 rfl rfl)
theorem dJ23_treeify_198 : decode cJ23_treeify 198 = .ok (.aload_n 3, 1) := dk_45 (dk_at dksJ23_treeify_8 13 rfl rfl)
theorem dJ23_treeify_199 : decode cJ23_treeify 199 = .ok (.invokestatic 100, 3) := dk_184 0 100 (dk_at dksJ23_treeify_8 14 rfl rfl)
theorem dJ23_treeify_202 : decode cJ23_treeify 202 = .ok (.astore_n 2, 1) := dk_77 (dk_at dksJ23_treeify_8 17 rfl rfl)
theorem dJ23_treeify_203 : decode cJ23_treeify 203 = .ok (.goto 6, 3) := dk_167 0 6 (dk_at dksJ23_treeify_8 18 rfl rfl)
theorem dJ23_treeify_206 : decode cJ23_treeify 206 = .ok (.goto (-142), 3) := dk_167 255 114 (dk_at dksJ23_treeify_8 21 rfl rfl)
theorem dJ23_treeify_209 : decode cJ23_treeify 209 = .ok (.aload 4, 2) := dk_25 4 (dk_at dksJ23_treeify_9 0 rfl rfl)
theorem dJ23_treeify_211 : decode cJ23_treeify 211 = .ok (.astore_n 3, 1) := dk_78 (dk_at dksJ23_treeify_9 2 rfl rfl)
theorem dJ23_treeify_212 : decode cJ23_treeify 212 = .ok (.goto (-208), 3) := dk_167 255 48 (dk_at dksJ23_treeify_9 3 rfl rfl)
theorem dJ23_treeify_215 : decode cJ23_treeify 215 = .ok (.aload_n 1, 1) := dk_43 (dk_at dksJ23_treeify_9 6 rfl rfl)
theorem dJ23_treeify_216 : decode cJ23_treeify 216 = .ok (.aload_n 2, 1) := dk_44 (dk_at dksJ23_treeify_9 7 rfl rfl)
theorem dJ23_treeify_217 : decode cJ23_treeify 217 = .ok (.invokestatic 104, 3) := dk_184 0 104 (dk_at dksJ23_treeify_9 8 rfl rfl)
theorem dJ23_treeify_220 : decode cJ23_treeify 220 = .ok (.return_, 1) := dk_177 (dk_at dksJ23_treeify_9 11 rfl rfl)
abbrev cJ23_balanceInsertion : ByteArray := prog_61_method_14_code
def yJ23_balanceInsertion : MethodName := ⟨RJ23, "balanceInsertion", "(Ljava/util/HashMap$TreeNode;Ljava/util/HashMap$TreeNode;)Ljava/util/HashMap$TreeNode;"⟩
def dkwJ23_balanceInsertion_10 : List UInt8 := [198, 255, 33, 45, 4, 181, 0, 93, 42, 45, 184, 0, 130, 75, 167, 255, 19]
abbrev dktJ23_balanceInsertion_10 : List UInt8 := dkwJ23_balanceInsertion_10 ++ []
def dkwJ23_balanceInsertion_9 : List UInt8 := [199, 0, 7, 1, 167, 0, 7, 44, 180, 0, 9, 78, 44, 198, 255, 42, 44, 3, 181, 0, 93, 45]
abbrev dktJ23_balanceInsertion_9 : List UInt8 := dkwJ23_balanceInsertion_9 ++ dktJ23_balanceInsertion_10
def dkwJ23_balanceInsertion_8 : List UInt8 := [43, 44, 180, 0, 39, 166, 0, 29, 42, 44, 89, 76, 184, 0, 133, 75, 43, 180, 0, 9, 89, 77]
abbrev dktJ23_balanceInsertion_8 : List UInt8 := dkwJ23_balanceInsertion_8 ++ dktJ23_balanceInsertion_9
def dkwJ23_balanceInsertion_7 : List UInt8 := [153, 0, 24, 25, 4, 3, 181, 0, 93, 44, 3, 181, 0, 93, 45, 4, 181, 0, 93, 45, 76, 167, 255, 80]
abbrev dktJ23_balanceInsertion_7 : List UInt8 := dkwJ23_balanceInsertion_7 ++ dktJ23_balanceInsertion_8
def dkwJ23_balanceInsertion_6 : List UInt8 := [181, 0, 93, 42, 45, 184, 0, 133, 75, 167, 255, 114, 25, 4, 198, 0, 32, 25, 4, 180, 0, 93]
abbrev dktJ23_balanceInsertion_6 : List UInt8 := dkwJ23_balanceInsertion_6 ++ dktJ23_balanceInsertion_7
def dkwJ23_balanceInsertion_5 : List UInt8 := [167, 0, 7, 44, 180, 0, 9, 78, 44, 198, 255, 137, 44, 3, 181, 0, 93, 45, 198, 255, 128, 45, 4]
abbrev dktJ23_balanceInsertion_5 : List UInt8 := dkwJ23_balanceInsertion_5 ++ dktJ23_balanceInsertion_6
def dkwJ23_balanceInsertion_4 : List UInt8 := [180, 0, 42, 166, 0, 29, 42, 44, 89, 76, 184, 0, 130, 75, 43, 180, 0, 9, 89, 77, 199, 0, 7, 1]
abbrev dktJ23_balanceInsertion_4 : List UInt8 := dkwJ23_balanceInsertion_4 ++ dktJ23_balanceInsertion_5
def dkwJ23_balanceInsertion_3 : List UInt8 := [25, 5, 3, 181, 0, 93, 44, 3, 181, 0, 93, 45, 4, 181, 0, 93, 45, 76, 167, 255, 175, 43, 44]
abbrev dktJ23_balanceInsertion_3 : List UInt8 := dkwJ23_balanceInsertion_3 ++ dktJ23_balanceInsertion_4
def dkwJ23_balanceInsertion_2 : List UInt8 := [58, 4, 166, 0, 103, 45, 180, 0, 42, 89, 58, 5, 198, 0, 32, 25, 5, 180, 0, 93, 153, 0, 24]
abbrev dktJ23_balanceInsertion_2 : List UInt8 := dkwJ23_balanceInsertion_2 ++ dktJ23_balanceInsertion_3
def dkwJ23_balanceInsertion_1 : List UInt8 := [180, 0, 93, 153, 0, 12, 44, 180, 0, 9, 89, 78, 199, 0, 5, 42, 176, 44, 45, 180, 0, 39, 89]
abbrev dktJ23_balanceInsertion_1 : List UInt8 := dkwJ23_balanceInsertion_1 ++ dktJ23_balanceInsertion_2
def dkwJ23_balanceInsertion_0 : List UInt8 := [43, 4, 181, 0, 93, 43, 180, 0, 9, 89, 77, 199, 0, 10, 43, 3, 181, 0, 93, 43, 176, 44]
abbrev dktJ23_balanceInsertion_0 : List UInt8 := dkwJ23_balanceInsertion_0 ++ dktJ23_balanceInsertion_1
theorem dksJ23_balanceInsertion_0 : cJ23_balanceInsertion.data.toList.drop 0 = dktJ23_balanceInsertion_0 := by decide +kernel
theorem dksJ23_balanceInsertion_1 : cJ23_balanceInsertion.data.toList.drop 22 = dktJ23_balanceInsertion_1 := dk_seg dksJ23_balanceInsertion_0 22 rfl rfl
theorem dksJ23_balanceInsertion_2 : cJ23_balanceInsertion.data.toList.drop 45 = dktJ23_balanceInsertion_2 := dk_seg dksJ23_balanceInsertion_1 23 rfl rfl
theorem dksJ23_balanceInsertion_3 : cJ23_balanceInsertion.data.toList.drop 68 = dktJ23_balanceInsertion_3 := dk_seg dksJ23_balanceInsertion_2 23 rfl rfl
theorem dksJ23_balanceInsertion_4 : cJ23_balanceInsertion.data.toList.drop 91 = dktJ23_balanceInsertion_4 := dk_seg dksJ23_balanceInsertion_3 23 rfl rfl
theorem dksJ23_balanceInsertion_5 : cJ23_balanceInsertion.data.toList.drop 115 = dktJ23_balanceInsertion_5 := dk_seg dksJ23_balanceInsertion_4 24 rfl rfl
theorem dksJ23_balanceInsertion_6 : cJ23_balanceInsertion.data.toList.drop 138 = dktJ23_balanceInsertion_6 := dk_seg dksJ23_balanceInsertion_5 23 rfl rfl
theorem dksJ23_balanceInsertion_7 : cJ23_balanceInsertion.data.toList.drop 160 = dktJ23_balanceInsertion_7 := dk_seg dksJ23_balanceInsertion_6 22 rfl rfl
theorem dksJ23_balanceInsertion_8 : cJ23_balanceInsertion.data.toList.drop 184 = dktJ23_balanceInsertion_8 := dk_seg dksJ23_balanceInsertion_7 24 rfl rfl
theorem dksJ23_balanceInsertion_9 : cJ23_balanceInsertion.data.toList.drop 206 = dktJ23_balanceInsertion_9 := dk_seg dksJ23_balanceInsertion_8 22 rfl rfl
theorem dksJ23_balanceInsertion_10 : cJ23_balanceInsertion.data.toList.drop 228 = dktJ23_balanceInsertion_10 := dk_seg dksJ23_balanceInsertion_9 22 rfl rfl
theorem dJ23_balanceInsertion_0 : decode cJ23_balanceInsertion 0 = .ok (.aload_n 1, 1) := dk_43 (dk_at dksJ23_balanceInsertion_0 0 rfl rfl)
theorem dJ23_balanceInsertion_1 : decode cJ23_balanceInsertion 1 = .ok (.iconst 1, 1) := dk_4 (dk_at dksJ23_balanceInsertion_0 1 rfl rfl)
theorem dJ23_balanceInsertion_2 : decode cJ23_balanceInsertion 2 = .ok (.putfield 93, 3) := dk_181 0 93 (dk_at dksJ23_balanceInsertion_0 2 rfl rfl)
theorem dJ23_balanceInsertion_5 : decode cJ23_balanceInsertion 5 = .ok (.aload_n 1, 1) := dk_43 (dk_at dksJ23_balanceInsertion_0 5 rfl rfl)
theorem dJ23_balanceInsertion_6 : decode cJ23_balanceInsertion 6 = .ok (.getfield 9, 3) := dk_180 0 9 (dk_at dksJ23_balanceInsertion_0 6 rfl rfl)
theorem dJ23_balanceInsertion_9 : decode cJ23_balanceInsertion 9 = .ok (.dup, 1) := dk_89 (dk_at dksJ23_balanceInsertion_0 9 rfl rfl)
theorem dJ23_balanceInsertion_10 : decode cJ23_balanceInsertion 10 = .ok (.astore_n 2, 1) := dk_77 (dk_at dksJ23_balanceInsertion_0 10 rfl rfl)
theorem dJ23_balanceInsertion_11 : decode cJ23_balanceInsertion 11 = .ok (.ifnonnull 10, 3) := dk_199 0 10 (dk_at dksJ23_balanceInsertion_0 11 rfl rfl)
theorem dJ23_balanceInsertion_14 : decode cJ23_balanceInsertion 14 = .ok (.aload_n 1, 1) := dk_43 (dk_at dksJ23_balanceInsertion_0 14 rfl rfl)
theorem dJ23_balanceInsertion_15 : decode cJ23_balanceInsertion 15 = .ok (.iconst 0, 1) := dk_3 (dk_at dksJ23_balanceInsertion_0 15 rfl rfl)
theorem dJ23_balanceInsertion_16 : decode cJ23_balanceInsertion 16 = .ok (.putfield 93, 3) := dk_181 0 93 (dk_at dksJ23_balanceInsertion_0 16 rfl rfl)
theorem dJ23_balanceInsertion_19 : decode cJ23_balanceInsertion 19 = .ok (.aload_n 1, 1) := dk_43 (dk_at dksJ23_balanceInsertion_0 19 rfl rfl)
theorem dJ23_balanceInsertion_20 : decode cJ23_balanceInsertion 20 = .ok (.areturn, 1) := dk_176 (dk_at dksJ23_balanceInsertion_0 20 rfl rfl)
theorem dJ23_balanceInsertion_21 : decode cJ23_balanceInsertion 21 = .ok (.aload_n 2, 1) := dk_44 (dk_at dksJ23_balanceInsertion_0 21 rfl rfl)
theorem dJ23_balanceInsertion_22 : decode cJ23_balanceInsertion 22 = .ok (.getfield 93, 3) := dk_180 0 93 (dk_at dksJ23_balanceInsertion_1 0 rfl rfl)
theorem dJ23_balanceInsertion_25 : decode cJ23_balanceInsertion 25 = .ok (.ifCond .eq 12, 3) := dk_153 0 12 (dk_at dksJ23_balanceInsertion_1 3 rfl rfl)
theorem dJ23_balanceInsertion_28 : decode cJ23_balanceInsertion 28 = .ok (.aload_n 2, 1) := dk_44 (dk_at dksJ23_balanceInsertion_1 6 rfl rfl)
theorem dJ23_balanceInsertion_29 : decode cJ23_balanceInsertion 29 = .ok (.getfield 9, 3) := dk_180 0 9 (dk_at dksJ23_balanceInsertion_1 7 rfl rfl)
theorem dJ23_balanceInsertion_32 : decode cJ23_balanceInsertion 32 = .ok (.dup, 1) := dk_89 (dk_at dksJ23_balanceInsertion_1 10 rfl rfl)
theorem dJ23_balanceInsertion_33 : decode cJ23_balanceInsertion 33 = .ok (.astore_n 3, 1) := dk_78 (dk_at dksJ23_balanceInsertion_1 11 rfl rfl)
theorem dJ23_balanceInsertion_34 : decode cJ23_balanceInsertion 34 = .ok (.ifnonnull 5, 3) := dk_199 0 5 (dk_at dksJ23_balanceInsertion_1 12 rfl rfl)
theorem dJ23_balanceInsertion_37 : decode cJ23_balanceInsertion 37 = .ok (.aload_n 0, 1) := dk_42 (dk_at dksJ23_balanceInsertion_1 15 rfl rfl)
theorem dJ23_balanceInsertion_38 : decode cJ23_balanceInsertion 38 = .ok (.areturn, 1) := dk_176 (dk_at dksJ23_balanceInsertion_1 16 rfl rfl)
theorem dJ23_balanceInsertion_39 : decode cJ23_balanceInsertion 39 = .ok (.aload_n 2, 1) := dk_44 (dk_at dksJ23_balanceInsertion_1 17 rfl rfl)
theorem dJ23_balanceInsertion_40 : decode cJ23_balanceInsertion 40 = .ok (.aload_n 3, 1) := dk_45 (dk_at dksJ23_balanceInsertion_1 18 rfl rfl)
theorem dJ23_balanceInsertion_41 : decode cJ23_balanceInsertion 41 = .ok (.getfield 39, 3) := dk_180 0 39 (dk_at dksJ23_balanceInsertion_1 19 rfl rfl)
theorem dJ23_balanceInsertion_44 : decode cJ23_balanceInsertion 44 = .ok (.dup, 1) := dk_89 (dk_at dksJ23_balanceInsertion_1 22 rfl rfl)
theorem dJ23_balanceInsertion_45 : decode cJ23_balanceInsertion 45 = .ok (.astore 4, 2) := dk_58 4 (dk_at dksJ23_balanceInsertion_2 0 rfl rfl)
theorem dJ23_balanceInsertion_47 : decode cJ23_balanceInsertion 47 = .ok (.if_acmp .ne 103, 3) := dk_166 0 103 (dk_at dksJ23_balanceInsertion_2 2 rfl rfl)
theorem dJ23_balanceInsertion_50 : decode cJ23_balanceInsertion 50 = .ok (.aload_n 3, 1) := dk_45 (dk_at dksJ23_balanceInsertion_2 5 rfl rfl)
theorem dJ23_balanceInsertion_51 : decode cJ23_balanceInsertion 51 = .ok (.getfield 42, 3) := dk_180 0 42 (dk_at dksJ23_balanceInsertion_2 6 rfl rfl)
theorem dJ23_balanceInsertion_54 : decode cJ23_balanceInsertion 54 = .ok (.dup, 1) := dk_89 (dk_at dksJ23_balanceInsertion_2 9 rfl rfl)
theorem dJ23_balanceInsertion_55 : decode cJ23_balanceInsertion 55 = .ok (.astore 5, 2) := dk_58 5 (dk_at dksJ23_balanceInsertion_2 10 rfl rfl)
theorem dJ23_balanceInsertion_57 : decode cJ23_balanceInsertion 57 = .ok (.ifnull 32, 3) := dk_198 0 32 (dk_at dksJ23_balanceInsertion_2 12 rfl rfl)
theorem dJ23_balanceInsertion_60 : decode cJ23_balanceInsertion 60 = .ok (.aload 5, 2) := dk_25 5 (dk_at dksJ23_balanceInsertion_2 15 rfl rfl)
theorem dJ23_balanceInsertion_62 : decode cJ23_balanceInsertion 62 = .ok (.getfield 93, 3) := dk_180 0 93 (dk_at dksJ23_balanceInsertion_2 17 rfl rfl)
theorem dJ23_balanceInsertion_65 : decode cJ23_balanceInsertion 65 = .ok (.ifCond .eq 24, 3) := dk_153 0 24 (dk_at dksJ23_balanceInsertion_2 20 rfl rfl)
theorem dJ23_balanceInsertion_68 : decode cJ23_balanceInsertion 68 = .ok (.aload 5, 2) := dk_25 5 (dk_at dksJ23_balanceInsertion_3 0 rfl rfl)
theorem dJ23_balanceInsertion_70 : decode cJ23_balanceInsertion 70 = .ok (.iconst 0, 1) := dk_3 (dk_at dksJ23_balanceInsertion_3 2 rfl rfl)
theorem dJ23_balanceInsertion_71 : decode cJ23_balanceInsertion 71 = .ok (.putfield 93, 3) := dk_181 0 93 (dk_at dksJ23_balanceInsertion_3 3 rfl rfl)
theorem dJ23_balanceInsertion_74 : decode cJ23_balanceInsertion 74 = .ok (.aload_n 2, 1) := dk_44 (dk_at dksJ23_balanceInsertion_3 6 rfl rfl)
theorem dJ23_balanceInsertion_75 : decode cJ23_balanceInsertion 75 = .ok (.iconst 0, 1) := dk_3 (dk_at dksJ23_balanceInsertion_3 7 rfl rfl)
theorem dJ23_balanceInsertion_76 : decode cJ23_balanceInsertion 76 = .ok (.putfield 93, 3) := dk_181 0 93 (dk_at dksJ23_balanceInsertion_3 8 rfl rfl)
theorem dJ23_balanceInsertion_79 : decode cJ23_balanceInsertion 79 = .ok (.aload_n 3, 1) := dk_45 (dk_at dksJ23_balanceInsertion_3 11 rfl rfl)
theorem dJ23_balanceInsertion_80 : decode cJ23_balanceInsertion 80 = .ok (.iconst 1, 1) := dk_4 (dk_at dksJ23_balanceInsertion_3 12 rfl rfl)
theorem dJ23_balanceInsertion_81 : decode cJ23_balanceInsertion 81 = .ok (.putfield 93, 3) := dk_181 0 93 (dk_at dksJ23_balanceInsertion_3 13 rfl rfl)
theorem dJ23_balanceInsertion_84 : decode cJ23_balanceInsertion 84 = .ok (.aload_n 3, 1) := dk_45 (dk_at dksJ23_balanceInsertion_3 16 rfl rfl)
theorem dJ23_balanceInsertion_85 : decode cJ23_balanceInsertion 85 = .ok (.astore_n 1, 1) := dk_76 (dk_at dksJ23_balanceInsertion_3 17 rfl rfl)
theorem dJ23_balanceInsertion_86 : decode cJ23_balanceInsertion 86 = .ok (.goto (-81), 3) := dk_167 255 175 (dk_at dksJ23_balanceInsertion_3 18 rfl rfl)
theorem dJ23_balanceInsertion_89 : decode cJ23_balanceInsertion 89 = .ok (.aload_n 1, 1) := dk_43 (dk_at dksJ23_balanceInsertion_3 21 rfl rfl)
theorem dJ23_balanceInsertion_90 : decode cJ23_balanceInsertion 90 = .ok (.aload_n 2, 1) := dk_44 (dk_at dksJ23_balanceInsertion_3 22 rfl rfl)
theorem dJ23_balanceInsertion_91 : decode cJ23_balanceInsertion 91 = .ok (.getfield 42, 3) := dk_180 0 42 (dk_at dksJ23_balanceInsertion_4 0 rfl rfl)
theorem dJ23_balanceInsertion_94 : decode cJ23_balanceInsertion 94 = .ok (.if_acmp .ne 29, 3) := dk_166 0 29 (dk_at dksJ23_balanceInsertion_4 3 rfl rfl)
theorem dJ23_balanceInsertion_97 : decode cJ23_balanceInsertion 97 = .ok (.aload_n 0, 1) := dk_42 (dk_at dksJ23_balanceInsertion_4 6 rfl rfl)
theorem dJ23_balanceInsertion_98 : decode cJ23_balanceInsertion 98 = .ok (.aload_n 2, 1) := dk_44 (dk_at dksJ23_balanceInsertion_4 7 rfl rfl)
theorem dJ23_balanceInsertion_99 : decode cJ23_balanceInsertion 99 = .ok (.dup, 1) := dk_89 (dk_at dksJ23_balanceInsertion_4 8 rfl rfl)
theorem dJ23_balanceInsertion_100 : decode cJ23_balanceInsertion 100 = .ok (.astore_n 1, 1) := dk_76 (dk_at dksJ23_balanceInsertion_4 9 rfl rfl)
theorem dJ23_balanceInsertion_101 : decode cJ23_balanceInsertion 101 = .ok (.invokestatic 130, 3) := dk_184 0 130 (dk_at dksJ23_balanceInsertion_4 10 rfl rfl)
theorem dJ23_balanceInsertion_104 : decode cJ23_balanceInsertion 104 = .ok (.astore_n 0, 1) := dk_75 (dk_at dksJ23_balanceInsertion_4 13 rfl rfl)
theorem dJ23_balanceInsertion_105 : decode cJ23_balanceInsertion 105 = .ok (.aload_n 1, 1) := dk_43 (dk_at dksJ23_balanceInsertion_4 14 rfl rfl)
theorem dJ23_balanceInsertion_106 : decode cJ23_balanceInsertion 106 = .ok (.getfield 9, 3) := dk_180 0 9 (dk_at dksJ23_balanceInsertion_4 15 rfl rfl)
theorem dJ23_balanceInsertion_109 : decode cJ23_balanceInsertion 109 = .ok (.dup, 1) := dk_89 (dk_at dksJ23_balanceInsertion_4 18 rfl rfl)
theorem dJ23_balanceInsertion_110 : decode cJ23_balanceInsertion 110 = .ok (.astore_n 2, 1) := dk_77 (dk_at dksJ23_balanceInsertion_4 19 rfl rfl)
theorem dJ23_balanceInsertion_111 : decode cJ23_balanceInsertion 111 = .ok (.ifnonnull 7, 3) := dk_199 0 7 (dk_at dksJ23_balanceInsertion_4 20 rfl rfl)
theorem dJ23_balanceInsertion_114 : decode cJ23_balanceInsertion 114 = .ok (.aconst_null, 1) := dk_1 (dk_at dksJ23_balanceInsertion_4 23 rfl rfl)
theorem dJ23_balanceInsertion_115 : decode cJ23_balanceInsertion 115 = .ok (.goto 7, 3) := dk_167 0 7 (dk_at dksJ23_balanceInsertion_5 0 rfl rfl)
theorem dJ23_balanceInsertion_118 : decode cJ23_balanceInsertion 118 = .ok (.aload_n 2, 1) := dk_44 (dk_at dksJ23_balanceInsertion_5 3 rfl rfl)
theorem dJ23_balanceInsertion_119 : decode cJ23_balanceInsertion 119 = .ok (.getfield 9, 3) := dk_180 0 9 (dk_at dksJ23_balanceInsertion_5 4 rfl rfl)
theorem dJ23_balanceInsertion_122 : decode cJ23_balanceInsertion 122 = .ok (.astore_n 3, 1) := dk_78 (dk_at dksJ23_balanceInsertion_5 7 rfl rfl)
theorem dJ23_balanceInsertion_123 : decode cJ23_balanceInsertion 123 = .ok (.aload_n 2, 1) := dk_44 (dk_at dksJ23_balanceInsertion_5 8 rfl rfl)
theorem dJ23_balanceInsertion_124 : decode cJ23_balanceInsertion 124 = .ok (.ifnull (-119), 3) := dk_198 255 137 (dk_at dksJ23_balanceInsertion_5 9 rfl rfl)
theorem dJ23_balanceInsertion_127 : decode cJ23_balanceInsertion 127 = .ok (.aload_n 2, 1) := dk_44 (dk_at dksJ23_balanceInsertion_5 12 rfl rfl)
theorem dJ23_balanceInsertion_128 : decode cJ23_balanceInsertion 128 = .ok (.iconst 0, 1) := dk_3 (dk_at dksJ23_balanceInsertion_5 13 rfl rfl)
theorem dJ23_balanceInsertion_129 : decode cJ23_balanceInsertion 129 = .ok (.putfield 93, 3) := dk_181 0 93 (dk_at dksJ23_balanceInsertion_5 14 rfl rfl)
theorem dJ23_balanceInsertion_132 : decode cJ23_balanceInsertion 132 = .ok (.aload_n 3, 1) := dk_45 (dk_at dksJ23_balanceInsertion_5 17 rfl rfl)
theorem dJ23_balanceInsertion_133 : decode cJ23_balanceInsertion 133 = .ok (.ifnull (-128), 3) := dk_198 255 128 (dk_at dksJ23_balanceInsertion_5 18 rfl rfl)
theorem dJ23_balanceInsertion_136 : decode cJ23_balanceInsertion 136 = .ok (.aload_n 3, 1) := dk_45 (dk_at dksJ23_balanceInsertion_5 21 rfl rfl)
theorem dJ23_balanceInsertion_137 : decode cJ23_balanceInsertion 137 = .ok (.iconst 1, 1) := dk_4 (dk_at dksJ23_balanceInsertion_5 22 rfl rfl)
theorem dJ23_balanceInsertion_138 : decode cJ23_balanceInsertion 138 = .ok (.putfield 93, 3) := dk_181 0 93 (dk_at dksJ23_balanceInsertion_6 0 rfl rfl)
theorem dJ23_balanceInsertion_141 : decode cJ23_balanceInsertion 141 = .ok (.aload_n 0, 1) := dk_42 (dk_at dksJ23_balanceInsertion_6 3 rfl rfl)
theorem dJ23_balanceInsertion_142 : decode cJ23_balanceInsertion 142 = .ok (.aload_n 3, 1) := dk_45 (dk_at dksJ23_balanceInsertion_6 4 rfl rfl)
theorem dJ23_balanceInsertion_143 : decode cJ23_balanceInsertion 143 = .ok (.invokestatic 133, 3) := dk_184 0 133 (dk_at dksJ23_balanceInsertion_6 5 rfl rfl)
theorem dJ23_balanceInsertion_146 : decode cJ23_balanceInsertion 146 = .ok (.astore_n 0, 1) := dk_75 (dk_at dksJ23_balanceInsertion_6 8 rfl rfl)
theorem dJ23_balanceInsertion_147 : decode cJ23_balanceInsertion 147 = .ok (.goto (-142), 3) := dk_167 255 114 (dk_at dksJ23_balanceInsertion_6 9 rfl rfl)
theorem dJ23_balanceInsertion_150 : decode cJ23_balanceInsertion 150 = .ok (.aload 4, 2) := dk_25 4 (dk_at dksJ23_balanceInsertion_6 12 rfl rfl)
theorem dJ23_balanceInsertion_152 : decode cJ23_balanceInsertion 152 = .ok (.ifnull 32, 3) := dk_198 0 32 (dk_at dksJ23_balanceInsertion_6 14 rfl rfl)
theorem dJ23_balanceInsertion_155 : decode cJ23_balanceInsertion 155 = .ok (.aload 4, 2) := dk_25 4 (dk_at dksJ23_balanceInsertion_6 17 rfl rfl)
theorem dJ23_balanceInsertion_157 : decode cJ23_balanceInsertion 157 = .ok (.getfield 93, 3) := dk_180 0 93 (dk_at dksJ23_balanceInsertion_6 19 rfl rfl)
theorem dJ23_balanceInsertion_160 : decode cJ23_balanceInsertion 160 = .ok (.ifCond .eq 24, 3) := dk_153 0 24 (dk_at dksJ23_balanceInsertion_7 0 rfl rfl)
theorem dJ23_balanceInsertion_163 : decode cJ23_balanceInsertion 163 = .ok (.aload 4, 2) := dk_25 4 (dk_at dksJ23_balanceInsertion_7 3 rfl rfl)
theorem dJ23_balanceInsertion_165 : decode cJ23_balanceInsertion 165 = .ok (.iconst 0, 1) := dk_3 (dk_at dksJ23_balanceInsertion_7 5 rfl rfl)
theorem dJ23_balanceInsertion_166 : decode cJ23_balanceInsertion 166 = .ok (.putfield 93, 3) := dk_181 0 93 (dk_at dksJ23_balanceInsertion_7 6 rfl rfl)
theorem dJ23_balanceInsertion_169 : decode cJ23_balanceInsertion 169 = .ok (.aload_n 2, 1) := dk_44 (dk_at dksJ23_balanceInsertion_7 9 rfl rfl)
theorem dJ23_balanceInsertion_170 : decode cJ23_balanceInsertion 170 = .ok (.iconst 0, 1) := dk_3 (dk_at dksJ23_balanceInsertion_7 10 rfl rfl)
theorem dJ23_balanceInsertion_171 : decode cJ23_balanceInsertion 171 = .ok (.putfield 93, 3) := dk_181 0 93 (dk_at dksJ23_balanceInsertion_7 11 rfl rfl)
theorem dJ23_balanceInsertion_174 : decode cJ23_balanceInsertion 174 = .ok (.aload_n 3, 1) := dk_45 (dk_at dksJ23_balanceInsertion_7 14 rfl rfl)
theorem dJ23_balanceInsertion_175 : decode cJ23_balanceInsertion 175 = .ok (.iconst 1, 1) := dk_4 (dk_at dksJ23_balanceInsertion_7 15 rfl rfl)
theorem dJ23_balanceInsertion_176 : decode cJ23_balanceInsertion 176 = .ok (.putfield 93, 3) := dk_181 0 93 (dk_at dksJ23_balanceInsertion_7 16 rfl rfl)
theorem dJ23_balanceInsertion_179 : decode cJ23_balanceInsertion 179 = .ok (.aload_n 3, 1) := dk_45 (dk_at dksJ23_balanceInsertion_7 19 rfl rfl)
theorem dJ23_balanceInsertion_180 : decode cJ23_balanceInsertion 180 = .ok (.astore_n 1, 1) := dk_76 (dk_at dksJ23_balanceInsertion_7 20 rfl rfl)
theorem dJ23_balanceInsertion_181 : decode cJ23_balanceInsertion 181 = .ok (.goto (-176), 3) := dk_167 255 80 (dk_at dksJ23_balanceInsertion_7 21 rfl rfl)
theorem dJ23_balanceInsertion_184 : decode cJ23_balanceInsertion 184 = .ok (.aload_n 1, 1) := dk_43 (dk_at dksJ23_balanceInsertion_8 0 rfl rfl)
theorem dJ23_balanceInsertion_185 : decode cJ23_balanceInsertion 185 = .ok (.aload_n 2, 1) := dk_44 (dk_at dksJ23_balanceInsertion_8 1 rfl rfl)
theorem dJ23_balanceInsertion_186 : decode cJ23_balanceInsertion 186 = .ok (.getfield 39, 3) := dk_180 0 39 (dk_at dksJ23_balanceInsertion_8 2 rfl rfl)
theorem dJ23_balanceInsertion_189 : decode cJ23_balanceInsertion 189 = .ok (.if_acmp .ne 29, 3) := dk_166 0 29 (dk_at dksJ23_balanceInsertion_8 5 rfl rfl)
theorem dJ23_balanceInsertion_192 : decode cJ23_balanceInsertion 192 = .ok (.aload_n 0, 1) := dk_42 (dk_at dksJ23_balanceInsertion_8 8 rfl rfl)
theorem dJ23_balanceInsertion_193 : decode cJ23_balanceInsertion 193 = .ok (.aload_n 2, 1) := dk_44 (dk_at dksJ23_balanceInsertion_8 9 rfl rfl)
theorem dJ23_balanceInsertion_194 : decode cJ23_balanceInsertion 194 = .ok (.dup, 1) := dk_89 (dk_at dksJ23_balanceInsertion_8 10 rfl rfl)
theorem dJ23_balanceInsertion_195 : decode cJ23_balanceInsertion 195 = .ok (.astore_n 1, 1) := dk_76 (dk_at dksJ23_balanceInsertion_8 11 rfl rfl)
theorem dJ23_balanceInsertion_196 : decode cJ23_balanceInsertion 196 = .ok (.invokestatic 133, 3) := dk_184 0 133 (dk_at dksJ23_balanceInsertion_8 12 rfl rfl)
theorem dJ23_balanceInsertion_199 : decode cJ23_balanceInsertion 199 = .ok (.astore_n 0, 1) := dk_75 (dk_at dksJ23_balanceInsertion_8 15 rfl rfl)
theorem dJ23_balanceInsertion_200 : decode cJ23_balanceInsertion 200 = .ok (.aload_n 1, 1) := dk_43 (dk_at dksJ23_balanceInsertion_8 16 rfl rfl)
theorem dJ23_balanceInsertion_201 : decode cJ23_balanceInsertion 201 = .ok (.getfield 9, 3) := dk_180 0 9 (dk_at dksJ23_balanceInsertion_8 17 rfl rfl)
theorem dJ23_balanceInsertion_204 : decode cJ23_balanceInsertion 204 = .ok (.dup, 1) := dk_89 (dk_at dksJ23_balanceInsertion_8 20 rfl rfl)
theorem dJ23_balanceInsertion_205 : decode cJ23_balanceInsertion 205 = .ok (.astore_n 2, 1) := dk_77 (dk_at dksJ23_balanceInsertion_8 21 rfl rfl)
theorem dJ23_balanceInsertion_206 : decode cJ23_balanceInsertion 206 = .ok (.ifnonnull 7, 3) := dk_199 0 7 (dk_at dksJ23_balanceInsertion_9 0 rfl rfl)
theorem dJ23_balanceInsertion_209 : decode cJ23_balanceInsertion 209 = .ok (.aconst_null, 1) := dk_1 (dk_at dksJ23_balanceInsertion_9 3 rfl rfl)
theorem dJ23_balanceInsertion_210 : decode cJ23_balanceInsertion 210 = .ok (.goto 7, 3) := dk_167 0 7 (dk_at dksJ23_balanceInsertion_9 4 rfl rfl)
theorem dJ23_balanceInsertion_213 : decode cJ23_balanceInsertion 213 = .ok (.aload_n 2, 1) := dk_44 (dk_at dksJ23_balanceInsertion_9 7 rfl rfl)
theorem dJ23_balanceInsertion_214 : decode cJ23_balanceInsertion 214 = .ok (.getfield 9, 3) := dk_180 0 9 (dk_at dksJ23_balanceInsertion_9 8 rfl rfl)
theorem dJ23_balanceInsertion_217 : decode cJ23_balanceInsertion 217 = .ok (.astore_n 3, 1) := dk_78 (dk_at dksJ23_balanceInsertion_9 11 rfl rfl)
theorem dJ23_balanceInsertion_218 : decode cJ23_balanceInsertion 218 = .ok (.aload_n 2, 1) := dk_44 (dk_at dksJ23_balanceInsertion_9 12 rfl rfl)
theorem dJ23_balanceInsertion_219 : decode cJ23_balanceInsertion 219 = .ok (.ifnull (-214), 3) := dk_198 255 42 (dk_at dksJ23_balanceInsertion_9 13 rfl rfl)
theorem dJ23_balanceInsertion_222 : decode cJ23_balanceInsertion 222 = .ok (.aload_n 2, 1) := dk_44 (dk_at dksJ23_balanceInsertion_9 16 rfl rfl)
theorem dJ23_balanceInsertion_223 : decode cJ23_balanceInsertion 223 = .ok (.iconst 0, 1) := dk_3 (dk_at dksJ23_balanceInsertion_9 17 rfl rfl)
theorem dJ23_balanceInsertion_224 : decode cJ23_balanceInsertion 224 = .ok (.putfield 93, 3) := dk_181 0 93 (dk_at dksJ23_balanceInsertion_9 18 rfl rfl)
theorem dJ23_balanceInsertion_227 : decode cJ23_balanceInsertion 227 = .ok (.aload_n 3, 1) := dk_45 (dk_at dksJ23_balanceInsertion_9 21 rfl rfl)
theorem dJ23_balanceInsertion_228 : decode cJ23_balanceInsertion 228 = .ok (.ifnull (-223), 3) := dk_198 255 33 (dk_at dksJ23_balanceInsertion_10 0 rfl rfl)
theorem dJ23_balanceInsertion_231 : decode cJ23_balanceInsertion 231 = .ok (.aload_n 3, 1) := dk_45 (dk_at dksJ23_balanceInsertion_10 3 rfl rfl)
theorem dJ23_balanceInsertion_232 : decode cJ23_balanceInsertion 232 = .ok (.iconst 1, 1) := dk_4 (dk_at dksJ23_balanceInsertion_10 4 rfl rfl)
theorem dJ23_balanceInsertion_233 : decode cJ23_balanceInsertion 233 = .ok (.putfield 93, 3) := dk_181 0 93 (dk_at dksJ23_balanceInsertion_10 5 rfl rfl)
theorem dJ23_balanceInsertion_236 : decode cJ23_balanceInsertion 236 = .ok (.aload_n 0, 1) := dk_42 (dk_at dksJ23_balanceInsertion_10 8 rfl rfl)
theorem dJ23_balanceInsertion_237 : decode cJ23_balanceInsertion 237 = .ok (.aload_n 3, 1) := dk_45 (dk_at dksJ23_balanceInsertion_10 9 rfl rfl)
theorem dJ23_balanceInsertion_238 : decode cJ23_balanceInsertion 238 = .ok (.invokestatic 130, 3) := dk_184 0 130 (dk_at dksJ23_balanceInsertion_10 10 rfl rfl)
theorem dJ23_balanceInsertion_241 : decode cJ23_balanceInsertion 241 = .ok (.astore_n 0, 1) := dk_75 (dk_at dksJ23_balanceInsertion_10 13 rfl rfl)
theorem dJ23_balanceInsertion_242 : decode cJ23_balanceInsertion 242 = .ok (.goto (-237), 3) := dk_167 255 19 (dk_at dksJ23_balanceInsertion_10 14 rfl rfl)
abbrev cJ23_rotateLeft : ByteArray := prog_61_method_12_code
def yJ23_rotateLeft : MethodName := ⟨RJ23, "rotateLeft", "(Ljava/util/HashMap$TreeNode;Ljava/util/HashMap$TreeNode;)Ljava/util/HashMap$TreeNode;"⟩
def dkwJ23_rotateLeft_3 : List UInt8 := [181, 0, 39, 167, 0, 8, 45, 44, 181, 0, 42, 44, 43, 181, 0, 39, 43, 44, 181, 0, 9, 42, 176]
abbrev dktJ23_rotateLeft_3 : List UInt8 := dkwJ23_rotateLeft_3 ++ []
def dkwJ23_rotateLeft_2 : List UInt8 := [199, 0, 13, 44, 89, 75, 3, 181, 0, 93, 167, 0, 24, 45, 180, 0, 39, 43, 166, 0, 11, 45, 44]
abbrev dktJ23_rotateLeft_2 : List UInt8 := dkwJ23_rotateLeft_2 ++ dktJ23_rotateLeft_3
def dkwJ23_rotateLeft_1 : List UInt8 := [58, 4, 198, 0, 9, 25, 4, 43, 181, 0, 9, 44, 43, 180, 0, 9, 90, 181, 0, 9, 89, 78]
abbrev dktJ23_rotateLeft_1 : List UInt8 := dkwJ23_rotateLeft_1 ++ dktJ23_rotateLeft_2
def dkwJ23_rotateLeft_0 : List UInt8 := [43, 198, 0, 88, 43, 180, 0, 42, 89, 77, 198, 0, 79, 43, 44, 180, 0, 39, 90, 181, 0, 42, 89]
abbrev dktJ23_rotateLeft_0 : List UInt8 := dkwJ23_rotateLeft_0 ++ dktJ23_rotateLeft_1
theorem dksJ23_rotateLeft_0 : cJ23_rotateLeft.data.toList.drop 0 = dktJ23_rotateLeft_0 := by decide +kernel
theorem dksJ23_rotateLeft_1 : cJ23_rotateLeft.data.toList.drop 23 = dktJ23_rotateLeft_1 := dk_seg dksJ23_rotateLeft_0 23 rfl rfl
theorem dksJ23_rotateLeft_2 : cJ23_rotateLeft.data.toList.drop 45 = dktJ23_rotateLeft_2 := dk_seg dksJ23_rotateLeft_1 22 rfl rfl
theorem dksJ23_rotateLeft_3 : cJ23_rotateLeft.data.toList.drop 68 = dktJ23_rotateLeft_3 := dk_seg dksJ23_rotateLeft_2 23 rfl rfl
theorem dJ23_rotateLeft_0 : decode cJ23_rotateLeft 0 = .ok (.aload_n 1, 1) := dk_43 (dk_at dksJ23_rotateLeft_0 0 rfl rfl)
theorem dJ23_rotateLeft_1 : decode cJ23_rotateLeft 1 = .ok (.ifnull 88, 3) := dk_198 0 88 (dk_at dksJ23_rotateLeft_0 1 rfl rfl)
theorem dJ23_rotateLeft_4 : decode cJ23_rotateLeft 4 = .ok (.aload_n 1, 1) := dk_43 (dk_at dksJ23_rotateLeft_0 4 rfl rfl)
theorem dJ23_rotateLeft_5 : decode cJ23_rotateLeft 5 = .ok (.getfield 42, 3) := dk_180 0 42 (dk_at dksJ23_rotateLeft_0 5 rfl rfl)
theorem dJ23_rotateLeft_8 : decode cJ23_rotateLeft 8 = .ok (.dup, 1) := dk_89 (dk_at dksJ23_rotateLeft_0 8 rfl rfl)
theorem dJ23_rotateLeft_9 : decode cJ23_rotateLeft 9 = .ok (.astore_n 2, 1) := dk_77 (dk_at dksJ23_rotateLeft_0 9 rfl rfl)
theorem dJ23_rotateLeft_10 : decode cJ23_rotateLeft 10 = .ok (.ifnull 79, 3) := dk_198 0 79 (dk_at dksJ23_rotateLeft_0 10 rfl rfl)
theorem dJ23_rotateLeft_13 : decode cJ23_rotateLeft 13 = .ok (.aload_n 1, 1) := dk_43 (dk_at dksJ23_rotateLeft_0 13 rfl rfl)
theorem dJ23_rotateLeft_14 : decode cJ23_rotateLeft 14 = .ok (.aload_n 2, 1) := dk_44 (dk_at dksJ23_rotateLeft_0 14 rfl rfl)
theorem dJ23_rotateLeft_15 : decode cJ23_rotateLeft 15 = .ok (.getfield 39, 3) := dk_180 0 39 (dk_at dksJ23_rotateLeft_0 15 rfl rfl)
theorem dJ23_rotateLeft_18 : decode cJ23_rotateLeft 18 = .ok (.dup_x1, 1) := dk_90 (dk_at dksJ23_rotateLeft_0 18 rfl rfl)
theorem dJ23_rotateLeft_19 : decode cJ23_rotateLeft 19 = .ok (.putfield 42, 3) := dk_181 0 42 (dk_at dksJ23_rotateLeft_0 19 rfl rfl)
theorem dJ23_rotateLeft_22 : decode cJ23_rotateLeft 22 = .ok (.dup, 1) := dk_89 (dk_at dksJ23_rotateLeft_0 22 rfl rfl)
theorem dJ23_rotateLeft_23 : decode cJ23_rotateLeft 23 = .ok (.astore 4, 2) := dk_58 4 (dk_at dksJ23_rotateLeft_1 0 rfl rfl)
theorem dJ23_rotateLeft_25 : decode cJ23_rotateLeft 25 = .ok (.ifnull 9, 3) := dk_198 0 9 (dk_at dksJ23_rotateLeft_1 2 rfl rfl)
theorem dJ23_rotateLeft_28 : decode cJ23_rotateLeft 28 = .ok (.aload 4, 2) := dk_25 4 (dk_at dksJ23_rotateLeft_1 5 rfl rfl)
theorem dJ23_rotateLeft_30 : decode cJ23_rotateLeft 30 = .ok (.aload_n 1, 1) := dk_43 (dk_at dksJ23_rotateLeft_1 7 rfl rfl)
theorem dJ23_rotateLeft_31 : decode cJ23_rotateLeft 31 = .ok (.putfield 9, 3) := dk_181 0 9 (dk_at dksJ23_rotateLeft_1 8 rfl rfl)
theorem dJ23_rotateLeft_34 : decode cJ23_rotateLeft 34 = .ok (.aload_n 2, 1) := dk_44 (dk_at dksJ23_rotateLeft_1 11 rfl rfl)
theorem dJ23_rotateLeft_35 : decode cJ23_rotateLeft 35 = .ok (.aload_n 1, 1) := dk_43 (dk_at dksJ23_rotateLeft_1 12 rfl rfl)
theorem dJ23_rotateLeft_36 : decode cJ23_rotateLeft 36 = .ok (.getfield 9, 3) := dk_180 0 9 (dk_at dksJ23_rotateLeft_1 13 rfl rfl)
theorem dJ23_rotateLeft_39 : decode cJ23_rotateLeft 39 = .ok (.dup_x1, 1) := dk_90 (dk_at dksJ23_rotateLeft_1 16 rfl rfl)
theorem dJ23_rotateLeft_40 : decode cJ23_rotateLeft 40 = .ok (.putfield 9, 3) := dk_181 0 9 (dk_at dksJ23_rotateLeft_1 17 rfl rfl)
theorem dJ23_rotateLeft_43 : decode cJ23_rotateLeft 43 = .ok (.dup, 1) := dk_89 (dk_at dksJ23_rotateLeft_1 20 rfl rfl)
theorem dJ23_rotateLeft_44 : decode cJ23_rotateLeft 44 = .ok (.astore_n 3, 1) := dk_78 (dk_at dksJ23_rotateLeft_1 21 rfl rfl)
theorem dJ23_rotateLeft_45 : decode cJ23_rotateLeft 45 = .ok (.ifnonnull 13, 3) := dk_199 0 13 (dk_at dksJ23_rotateLeft_2 0 rfl rfl)
theorem dJ23_rotateLeft_48 : decode cJ23_rotateLeft 48 = .ok (.aload_n 2, 1) := dk_44 (dk_at dksJ23_rotateLeft_2 3 rfl rfl)
theorem dJ23_rotateLeft_49 : decode cJ23_rotateLeft 49 = .ok (.dup, 1) := dk_89 (dk_at dksJ23_rotateLeft_2 4 rfl rfl)
theorem dJ23_rotateLeft_50 : decode cJ23_rotateLeft 50 = .ok (.astore_n 0, 1) := dk_75 (dk_at dksJ23_rotateLeft_2 5 rfl rfl)
theorem dJ23_rotateLeft_51 : decode cJ23_rotateLeft 51 = .ok (.iconst 0, 1) := dk_3 (dk_at dksJ23_rotateLeft_2 6 rfl rfl)
theorem dJ23_rotateLeft_52 : decode cJ23_rotateLeft 52 = .ok (.putfield 93, 3) := dk_181 0 93 (dk_at dksJ23_rotateLeft_2 7 rfl rfl)
theorem dJ23_rotateLeft_55 : decode cJ23_rotateLeft 55 = .ok (.goto 24, 3) := dk_167 0 24 (dk_at dksJ23_rotateLeft_2 10 rfl rfl)
theorem dJ23_rotateLeft_58 : decode cJ23_rotateLeft 58 = .ok (.aload_n 3, 1) := dk_45 (dk_at dksJ23_rotateLeft_2 13 rfl rfl)
theorem dJ23_rotateLeft_59 : decode cJ23_rotateLeft 59 = .ok (.getfield 39, 3) := dk_180 0 39 (dk_at dksJ23_rotateLeft_2 14 rfl rfl)
theorem dJ23_rotateLeft_62 : decode cJ23_rotateLeft 62 = .ok (.aload_n 1, 1) := dk_43 (dk_at dksJ23_rotateLeft_2 17 rfl rfl)
theorem dJ23_rotateLeft_63 : decode cJ23_rotateLeft 63 = .ok (.if_acmp .ne 11, 3) := dk_166 0 11 (dk_at dksJ23_rotateLeft_2 18 rfl rfl)
theorem dJ23_rotateLeft_66 : decode cJ23_rotateLeft 66 = .ok (.aload_n 3, 1) := dk_45 (dk_at dksJ23_rotateLeft_2 21 rfl rfl)
theorem dJ23_rotateLeft_67 : decode cJ23_rotateLeft 67 = .ok (.aload_n 2, 1) := dk_44 (dk_at dksJ23_rotateLeft_2 22 rfl rfl)
theorem dJ23_rotateLeft_68 : decode cJ23_rotateLeft 68 = .ok (.putfield 39, 3) := dk_181 0 39 (dk_at dksJ23_rotateLeft_3 0 rfl rfl)
theorem dJ23_rotateLeft_71 : decode cJ23_rotateLeft 71 = .ok (.goto 8, 3) := dk_167 0 8 (dk_at dksJ23_rotateLeft_3 3 rfl rfl)
theorem dJ23_rotateLeft_74 : decode cJ23_rotateLeft 74 = .ok (.aload_n 3, 1) := dk_45 (dk_at dksJ23_rotateLeft_3 6 rfl rfl)
theorem dJ23_rotateLeft_75 : decode cJ23_rotateLeft 75 = .ok (.aload_n 2, 1) := dk_44 (dk_at dksJ23_rotateLeft_3 7 rfl rfl)
theorem dJ23_rotateLeft_76 : decode cJ23_rotateLeft 76 = .ok (.putfield 42, 3) := dk_181 0 42 (dk_at dksJ23_rotateLeft_3 8 rfl rfl)
theorem dJ23_rotateLeft_79 : decode cJ23_rotateLeft 79 = .ok (.aload_n 2, 1) := dk_44 (dk_at dksJ23_rotateLeft_3 11 rfl rfl)
theorem dJ23_rotateLeft_80 : decode cJ23_rotateLeft 80 = .ok (.aload_n 1, 1) := dk_43 (dk_at dksJ23_rotateLeft_3 12 rfl rfl)
theorem dJ23_rotateLeft_81 : decode cJ23_rotateLeft 81 = .ok (.putfield 39, 3) := dk_181 0 39 (dk_at dksJ23_rotateLeft_3 13 rfl rfl)
theorem dJ23_rotateLeft_84 : decode cJ23_rotateLeft 84 = .ok (.aload_n 1, 1) := dk_43 (dk_at dksJ23_rotateLeft_3 16 rfl rfl)
theorem dJ23_rotateLeft_85 : decode cJ23_rotateLeft 85 = .ok (.aload_n 2, 1) := dk_44 (dk_at dksJ23_rotateLeft_3 17 rfl rfl)
theorem dJ23_rotateLeft_86 : decode cJ23_rotateLeft 86 = .ok (.putfield 9, 3) := dk_181 0 9 (dk_at dksJ23_rotateLeft_3 18 rfl rfl)
theorem dJ23_rotateLeft_89 : decode cJ23_rotateLeft 89 = .ok (.aload_n 0, 1) := dk_42 (dk_at dksJ23_rotateLeft_3 21 rfl rfl)
theorem dJ23_rotateLeft_90 : decode cJ23_rotateLeft 90 = .ok (.areturn, 1) := dk_176 (dk_at dksJ23_rotateLeft_3 22 rfl rfl)
abbrev cJ23_rotateRight : ByteArray := prog_61_method_13_code
def yJ23_rotateRight : MethodName := ⟨RJ23, "rotateRight", "(Ljava/util/HashMap$TreeNode;Ljava/util/HashMap$TreeNode;)Ljava/util/HashMap$TreeNode;"⟩
def dkwJ23_rotateRight_3 : List UInt8 := [181, 0, 42, 167, 0, 8, 45, 44, 181, 0, 39, 44, 43, 181, 0, 42, 43, 44, 181, 0, 9, 42, 176]
abbrev dktJ23_rotateRight_3 : List UInt8 := dkwJ23_rotateRight_3 ++ []
def dkwJ23_rotateRight_2 : List UInt8 := [199, 0, 13, 44, 89, 75, 3, 181, 0, 93, 167, 0, 24, 45, 180, 0, 42, 43, 166, 0, 11, 45, 44]
abbrev dktJ23_rotateRight_2 : List UInt8 := dkwJ23_rotateRight_2 ++ dktJ23_rotateRight_3
def dkwJ23_rotateRight_1 : List UInt8 := [58, 4, 198, 0, 9, 25, 4, 43, 181, 0, 9, 44, 43, 180, 0, 9, 90, 181, 0, 9, 89, 78]
abbrev dktJ23_rotateRight_1 : List UInt8 := dkwJ23_rotateRight_1 ++ dktJ23_rotateRight_2
def dkwJ23_rotateRight_0 : List UInt8 := [43, 198, 0, 88, 43, 180, 0, 39, 89, 77, 198, 0, 79, 43, 44, 180, 0, 42, 90, 181, 0, 39, 89]
abbrev dktJ23_rotateRight_0 : List UInt8 := dkwJ23_rotateRight_0 ++ dktJ23_rotateRight_1
theorem dksJ23_rotateRight_0 : cJ23_rotateRight.data.toList.drop 0 = dktJ23_rotateRight_0 := by decide +kernel
theorem dksJ23_rotateRight_1 : cJ23_rotateRight.data.toList.drop 23 = dktJ23_rotateRight_1 := dk_seg dksJ23_rotateRight_0 23 rfl rfl
theorem dksJ23_rotateRight_2 : cJ23_rotateRight.data.toList.drop 45 = dktJ23_rotateRight_2 := dk_seg dksJ23_rotateRight_1 22 rfl rfl
theorem dksJ23_rotateRight_3 : cJ23_rotateRight.data.toList.drop 68 = dktJ23_rotateRight_3 := dk_seg dksJ23_rotateRight_2 23 rfl rfl
theorem dJ23_rotateRight_0 : decode cJ23_rotateRight 0 = .ok (.aload_n 1, 1) := dk_43 (dk_at dksJ23_rotateRight_0 0 rfl rfl)
theorem dJ23_rotateRight_1 : decode cJ23_rotateRight 1 = .ok (.ifnull 88, 3) := dk_198 0 88 (dk_at dksJ23_rotateRight_0 1 rfl rfl)
theorem dJ23_rotateRight_4 : decode cJ23_rotateRight 4 = .ok (.aload_n 1, 1) := dk_43 (dk_at dksJ23_rotateRight_0 4 rfl rfl)
theorem dJ23_rotateRight_5 : decode cJ23_rotateRight 5 = .ok (.getfield 39, 3) := dk_180 0 39 (dk_at dksJ23_rotateRight_0 5 rfl rfl)
theorem dJ23_rotateRight_8 : decode cJ23_rotateRight 8 = .ok (.dup, 1) := dk_89 (dk_at dksJ23_rotateRight_0 8 rfl rfl)
theorem dJ23_rotateRight_9 : decode cJ23_rotateRight 9 = .ok (.astore_n 2, 1) := dk_77 (dk_at dksJ23_rotateRight_0 9 rfl rfl)
theorem dJ23_rotateRight_10 : decode cJ23_rotateRight 10 = .ok (.ifnull 79, 3) := dk_198 0 79 (dk_at dksJ23_rotateRight_0 10 rfl rfl)
theorem dJ23_rotateRight_13 : decode cJ23_rotateRight 13 = .ok (.aload_n 1, 1) := dk_43 (dk_at dksJ23_rotateRight_0 13 rfl rfl)
theorem dJ23_rotateRight_14 : decode cJ23_rotateRight 14 = .ok (.aload_n 2, 1) := dk_44 (dk_at dksJ23_rotateRight_0 14 rfl rfl)
theorem dJ23_rotateRight_15 : decode cJ23_rotateRight 15 = .ok (.getfield 42, 3) := dk_180 0 42 (dk_at dksJ23_rotateRight_0 15 rfl rfl)
theorem dJ23_rotateRight_18 : decode cJ23_rotateRight 18 = .ok (.dup_x1, 1) := dk_90 (dk_at dksJ23_rotateRight_0 18 rfl rfl)
theorem dJ23_rotateRight_19 : decode cJ23_rotateRight 19 = .ok (.putfield 39, 3) := dk_181 0 39 (dk_at dksJ23_rotateRight_0 19 rfl rfl)
theorem dJ23_rotateRight_22 : decode cJ23_rotateRight 22 = .ok (.dup, 1) := dk_89 (dk_at dksJ23_rotateRight_0 22 rfl rfl)
theorem dJ23_rotateRight_23 : decode cJ23_rotateRight 23 = .ok (.astore 4, 2) := dk_58 4 (dk_at dksJ23_rotateRight_1 0 rfl rfl)
theorem dJ23_rotateRight_25 : decode cJ23_rotateRight 25 = .ok (.ifnull 9, 3) := dk_198 0 9 (dk_at dksJ23_rotateRight_1 2 rfl rfl)
theorem dJ23_rotateRight_28 : decode cJ23_rotateRight 28 = .ok (.aload 4, 2) := dk_25 4 (dk_at dksJ23_rotateRight_1 5 rfl rfl)
theorem dJ23_rotateRight_30 : decode cJ23_rotateRight 30 = .ok (.aload_n 1, 1) := dk_43 (dk_at dksJ23_rotateRight_1 7 rfl rfl)
theorem dJ23_rotateRight_31 : decode cJ23_rotateRight 31 = .ok (.putfield 9, 3) := dk_181 0 9 (dk_at dksJ23_rotateRight_1 8 rfl rfl)
theorem dJ23_rotateRight_34 : decode cJ23_rotateRight 34 = .ok (.aload_n 2, 1) := dk_44 (dk_at dksJ23_rotateRight_1 11 rfl rfl)
theorem dJ23_rotateRight_35 : decode cJ23_rotateRight 35 = .ok (.aload_n 1, 1) := dk_43 (dk_at dksJ23_rotateRight_1 12 rfl rfl)
theorem dJ23_rotateRight_36 : decode cJ23_rotateRight 36 = .ok (.getfield 9, 3) := dk_180 0 9 (dk_at dksJ23_rotateRight_1 13 rfl rfl)
theorem dJ23_rotateRight_39 : decode cJ23_rotateRight 39 = .ok (.dup_x1, 1) := dk_90 (dk_at dksJ23_rotateRight_1 16 rfl rfl)
theorem dJ23_rotateRight_40 : decode cJ23_rotateRight 40 = .ok (.putfield 9, 3) := dk_181 0 9 (dk_at dksJ23_rotateRight_1 17 rfl rfl)
theorem dJ23_rotateRight_43 : decode cJ23_rotateRight 43 = .ok (.dup, 1) := dk_89 (dk_at dksJ23_rotateRight_1 20 rfl rfl)
theorem dJ23_rotateRight_44 : decode cJ23_rotateRight 44 = .ok (.astore_n 3, 1) := dk_78 (dk_at dksJ23_rotateRight_1 21 rfl rfl)
theorem dJ23_rotateRight_45 : decode cJ23_rotateRight 45 = .ok (.ifnonnull 13, 3) := dk_199 0 13 (dk_at dksJ23_rotateRight_2 0 rfl rfl)
theorem dJ23_rotateRight_48 : decode cJ23_rotateRight 48 = .ok (.aload_n 2, 1) := dk_44 (dk_at dksJ23_rotateRight_2 3 rfl rfl)
theorem dJ23_rotateRight_49 : decode cJ23_rotateRight 49 = .ok (.dup, 1) := dk_89 (dk_at dksJ23_rotateRight_2 4 rfl rfl)
theorem dJ23_rotateRight_50 : decode cJ23_rotateRight 50 = .ok (.astore_n 0, 1) := dk_75 (dk_at dksJ23_rotateRight_2 5 rfl rfl)
theorem dJ23_rotateRight_51 : decode cJ23_rotateRight 51 = .ok (.iconst 0, 1) := dk_3 (dk_at dksJ23_rotateRight_2 6 rfl rfl)
theorem dJ23_rotateRight_52 : decode cJ23_rotateRight 52 = .ok (.putfield 93, 3) := dk_181 0 93 (dk_at dksJ23_rotateRight_2 7 rfl rfl)
theorem dJ23_rotateRight_55 : decode cJ23_rotateRight 55 = .ok (.goto 24, 3) := dk_167 0 24 (dk_at dksJ23_rotateRight_2 10 rfl rfl)
theorem dJ23_rotateRight_58 : decode cJ23_rotateRight 58 = .ok (.aload_n 3, 1) := dk_45 (dk_at dksJ23_rotateRight_2 13 rfl rfl)
theorem dJ23_rotateRight_59 : decode cJ23_rotateRight 59 = .ok (.getfield 42, 3) := dk_180 0 42 (dk_at dksJ23_rotateRight_2 14 rfl rfl)
theorem dJ23_rotateRight_62 : decode cJ23_rotateRight 62 = .ok (.aload_n 1, 1) := dk_43 (dk_at dksJ23_rotateRight_2 17 rfl rfl)
theorem dJ23_rotateRight_63 : decode cJ23_rotateRight 63 = .ok (.if_acmp .ne 11, 3) := dk_166 0 11 (dk_at dksJ23_rotateRight_2 18 rfl rfl)
theorem dJ23_rotateRight_66 : decode cJ23_rotateRight 66 = .ok (.aload_n 3, 1) := dk_45 (dk_at dksJ23_rotateRight_2 21 rfl rfl)
theorem dJ23_rotateRight_67 : decode cJ23_rotateRight 67 = .ok (.aload_n 2, 1) := dk_44 (dk_at dksJ23_rotateRight_2 22 rfl rfl)
theorem dJ23_rotateRight_68 : decode cJ23_rotateRight 68 = .ok (.putfield 42, 3) := dk_181 0 42 (dk_at dksJ23_rotateRight_3 0 rfl rfl)
theorem dJ23_rotateRight_71 : decode cJ23_rotateRight 71 = .ok (.goto 8, 3) := dk_167 0 8 (dk_at dksJ23_rotateRight_3 3 rfl rfl)
theorem dJ23_rotateRight_74 : decode cJ23_rotateRight 74 = .ok (.aload_n 3, 1) := dk_45 (dk_at dksJ23_rotateRight_3 6 rfl rfl)
theorem dJ23_rotateRight_75 : decode cJ23_rotateRight 75 = .ok (.aload_n 2, 1) := dk_44 (dk_at dksJ23_rotateRight_3 7 rfl rfl)
theorem dJ23_rotateRight_76 : decode cJ23_rotateRight 76 = .ok (.putfield 39, 3) := dk_181 0 39 (dk_at dksJ23_rotateRight_3 8 rfl rfl)
theorem dJ23_rotateRight_79 : decode cJ23_rotateRight 79 = .ok (.aload_n 2, 1) := dk_44 (dk_at dksJ23_rotateRight_3 11 rfl rfl)
theorem dJ23_rotateRight_80 : decode cJ23_rotateRight 80 = .ok (.aload_n 1, 1) := dk_43 (dk_at dksJ23_rotateRight_3 12 rfl rfl)
theorem dJ23_rotateRight_81 : decode cJ23_rotateRight 81 = .ok (.putfield 42, 3) := dk_181 0 42 (dk_at dksJ23_rotateRight_3 13 rfl rfl)
theorem dJ23_rotateRight_84 : decode cJ23_rotateRight 84 = .ok (.aload_n 1, 1) := dk_43 (dk_at dksJ23_rotateRight_3 16 rfl rfl)
theorem dJ23_rotateRight_85 : decode cJ23_rotateRight 85 = .ok (.aload_n 2, 1) := dk_44 (dk_at dksJ23_rotateRight_3 17 rfl rfl)
theorem dJ23_rotateRight_86 : decode cJ23_rotateRight 86 = .ok (.putfield 9, 3) := dk_181 0 9 (dk_at dksJ23_rotateRight_3 18 rfl rfl)
theorem dJ23_rotateRight_89 : decode cJ23_rotateRight 89 = .ok (.aload_n 0, 1) := dk_42 (dk_at dksJ23_rotateRight_3 21 rfl rfl)
theorem dJ23_rotateRight_90 : decode cJ23_rotateRight 90 = .ok (.areturn, 1) := dk_176 (dk_at dksJ23_rotateRight_3 22 rfl rfl)
abbrev cJ23_moveRootToFront : ByteArray := prog_61_method_3_code
def yJ23_moveRootToFront : MethodName := ⟨RJ23, "moveRootToFront", "([Ljava/util/HashMap$Node;Ljava/util/HashMap$TreeNode;)V"⟩
def dkwJ23_moveRootToFront_5 : List UInt8 := [89, 183, 0, 36, 191, 177]
abbrev dktJ23_moveRootToFront_5 : List UInt8 := dkwJ23_moveRootToFront_5 ++ []
def dkwJ23_moveRootToFront_4 : List UInt8 := [181, 0, 22, 43, 1, 181, 0, 19, 178, 0, 26, 154, 0, 18, 43, 184, 0, 30, 154, 0, 11, 187, 0, 34]
abbrev dktJ23_moveRootToFront_4 : List UInt8 := dkwJ23_moveRootToFront_4 ++ dktJ23_moveRootToFront_5
def dkwJ23_moveRootToFront_3 : List UInt8 := [198, 0, 10, 25, 6, 25, 5, 181, 0, 22, 25, 4, 198, 0, 9, 25, 4, 43, 181, 0, 19, 43, 25, 4]
abbrev dktJ23_moveRootToFront_3 : List UInt8 := dkwJ23_moveRootToFront_3 ++ dktJ23_moveRootToFront_4
def dkwJ23_moveRootToFront_2 : List UInt8 := [43, 180, 0, 22, 89, 58, 5, 198, 0, 13, 25, 5, 192, 0, 10, 25, 6, 181, 0, 19, 25, 6]
abbrev dktJ23_moveRootToFront_2 : List UInt8 := dkwJ23_moveRootToFront_2 ++ dktJ23_moveRootToFront_3
def dkwJ23_moveRootToFront_1 : List UInt8 := [42, 29, 50, 192, 0, 10, 58, 4, 43, 25, 4, 165, 0, 67, 42, 29, 43, 83, 43, 180, 0, 19, 58, 6]
abbrev dktJ23_moveRootToFront_1 : List UInt8 := dkwJ23_moveRootToFront_1 ++ dktJ23_moveRootToFront_2
def dkwJ23_moveRootToFront_0 : List UInt8 := [43, 198, 0, 122, 42, 198, 0, 118, 42, 190, 89, 61, 158, 0, 111, 28, 4, 100, 43, 180, 0, 15, 126, 62]
abbrev dktJ23_moveRootToFront_0 : List UInt8 := dkwJ23_moveRootToFront_0 ++ dktJ23_moveRootToFront_1
theorem dksJ23_moveRootToFront_0 : cJ23_moveRootToFront.data.toList.drop 0 = dktJ23_moveRootToFront_0 := by decide +kernel
theorem dksJ23_moveRootToFront_1 : cJ23_moveRootToFront.data.toList.drop 24 = dktJ23_moveRootToFront_1 := dk_seg dksJ23_moveRootToFront_0 24 rfl rfl
theorem dksJ23_moveRootToFront_2 : cJ23_moveRootToFront.data.toList.drop 48 = dktJ23_moveRootToFront_2 := dk_seg dksJ23_moveRootToFront_1 24 rfl rfl
theorem dksJ23_moveRootToFront_3 : cJ23_moveRootToFront.data.toList.drop 70 = dktJ23_moveRootToFront_3 := dk_seg dksJ23_moveRootToFront_2 22 rfl rfl
theorem dksJ23_moveRootToFront_4 : cJ23_moveRootToFront.data.toList.drop 94 = dktJ23_moveRootToFront_4 := dk_seg dksJ23_moveRootToFront_3 24 rfl rfl
theorem dksJ23_moveRootToFront_5 : cJ23_moveRootToFront.data.toList.drop 118 = dktJ23_moveRootToFront_5 := dk_seg dksJ23_moveRootToFront_4 24 rfl rfl
theorem dJ23_moveRootToFront_0 : decode cJ23_moveRootToFront 0 = .ok (.aload_n 1, 1) := dk_43 (dk_at dksJ23_moveRootToFront_0 0 rfl rfl)
theorem dJ23_moveRootToFront_1 : decode cJ23_moveRootToFront 1 = .ok (.ifnull 122, 3) := dk_198 0 122 (dk_at dksJ23_moveRootToFront_0 1 rfl rfl)
theorem dJ23_moveRootToFront_4 : decode cJ23_moveRootToFront 4 = .ok (.aload_n 0, 1) := dk_42 (dk_at dksJ23_moveRootToFront_0 4 rfl rfl)
theorem dJ23_moveRootToFront_5 : decode cJ23_moveRootToFront 5 = .ok (.ifnull 118, 3) := dk_198 0 118 (dk_at dksJ23_moveRootToFront_0 5 rfl rfl)
theorem dJ23_moveRootToFront_8 : decode cJ23_moveRootToFront 8 = .ok (.aload_n 0, 1) := dk_42 (dk_at dksJ23_moveRootToFront_0 8 rfl rfl)
theorem dJ23_moveRootToFront_9 : decode cJ23_moveRootToFront 9 = .ok (.arraylength, 1) := dk_190 (dk_at dksJ23_moveRootToFront_0 9 rfl rfl)
theorem dJ23_moveRootToFront_10 : decode cJ23_moveRootToFront 10 = .ok (.dup, 1) := dk_89 (dk_at dksJ23_moveRootToFront_0 10 rfl rfl)
theorem dJ23_moveRootToFront_11 : decode cJ23_moveRootToFront 11 = .ok (.istore_n 2, 1) := dk_61 (dk_at dksJ23_moveRootToFront_0 11 rfl rfl)
theorem dJ23_moveRootToFront_12 : decode cJ23_moveRootToFront 12 = .ok (.ifCond .le 111, 3) := dk_158 0 111 (dk_at dksJ23_moveRootToFront_0 12 rfl rfl)
theorem dJ23_moveRootToFront_15 : decode cJ23_moveRootToFront 15 = .ok (.iload_n 2, 1) := dk_28 (dk_at dksJ23_moveRootToFront_0 15 rfl rfl)
theorem dJ23_moveRootToFront_16 : decode cJ23_moveRootToFront 16 = .ok (.iconst 1, 1) := dk_4 (dk_at dksJ23_moveRootToFront_0 16 rfl rfl)
theorem dJ23_moveRootToFront_17 : decode cJ23_moveRootToFront 17 = .ok (.isub, 1) := dk_100 (dk_at dksJ23_moveRootToFront_0 17 rfl rfl)
theorem dJ23_moveRootToFront_18 : decode cJ23_moveRootToFront 18 = .ok (.aload_n 1, 1) := dk_43 (dk_at dksJ23_moveRootToFront_0 18 rfl rfl)
theorem dJ23_moveRootToFront_19 : decode cJ23_moveRootToFront 19 = .ok (.getfield 15, 3) := dk_180 0 15 (dk_at dksJ23_moveRootToFront_0 19 rfl rfl)
theorem dJ23_moveRootToFront_22 : decode cJ23_moveRootToFront 22 = .ok (.iand, 1) := dk_126 (dk_at dksJ23_moveRootToFront_0 22 rfl rfl)
theorem dJ23_moveRootToFront_23 : decode cJ23_moveRootToFront 23 = .ok (.istore_n 3, 1) := dk_62 (dk_at dksJ23_moveRootToFront_0 23 rfl rfl)
theorem dJ23_moveRootToFront_24 : decode cJ23_moveRootToFront 24 = .ok (.aload_n 0, 1) := dk_42 (dk_at dksJ23_moveRootToFront_1 0 rfl rfl)
theorem dJ23_moveRootToFront_25 : decode cJ23_moveRootToFront 25 = .ok (.iload_n 3, 1) := dk_29 (dk_at dksJ23_moveRootToFront_1 1 rfl rfl)
theorem dJ23_moveRootToFront_26 : decode cJ23_moveRootToFront 26 = .ok (.aaload, 1) := dk_50 (dk_at dksJ23_moveRootToFront_1 2 rfl rfl)
theorem dJ23_moveRootToFront_27 : decode cJ23_moveRootToFront 27 = .ok (.checkcast 10, 3) := dk_192 0 10 (dk_at dksJ23_moveRootToFront_1 3 rfl rfl)
theorem dJ23_moveRootToFront_30 : decode cJ23_moveRootToFront 30 = .ok (.astore 4, 2) := dk_58 4 (dk_at dksJ23_moveRootToFront_1 6 rfl rfl)
theorem dJ23_moveRootToFront_32 : decode cJ23_moveRootToFront 32 = .ok (.aload_n 1, 1) := dk_43 (dk_at dksJ23_moveRootToFront_1 8 rfl rfl)
theorem dJ23_moveRootToFront_33 : decode cJ23_moveRootToFront 33 = .ok (.aload 4, 2) := dk_25 4 (dk_at dksJ23_moveRootToFront_1 9 rfl rfl)
theorem dJ23_moveRootToFront_35 : decode cJ23_moveRootToFront 35 = .ok (.if_acmp .eq 67, 3) := dk_165 0 67 (dk_at dksJ23_moveRootToFront_1 11 rfl rfl)
theorem dJ23_moveRootToFront_38 : decode cJ23_moveRootToFront 38 = .ok (.aload_n 0, 1) := dk_42 (dk_at dksJ23_moveRootToFront_1 14 rfl rfl)
theorem dJ23_moveRootToFront_39 : decode cJ23_moveRootToFront 39 = .ok (.iload_n 3, 1) := dk_29 (dk_at dksJ23_moveRootToFront_1 15 rfl rfl)
theorem dJ23_moveRootToFront_40 : decode cJ23_moveRootToFront 40 = .ok (.aload_n 1, 1) := dk_43 (dk_at dksJ23_moveRootToFront_1 16 rfl rfl)
theorem dJ23_moveRootToFront_41 : decode cJ23_moveRootToFront 41 = .ok (.aastore, 1) := dk_83 (dk_at dksJ23_moveRootToFront_1 17 rfl rfl)
theorem dJ23_moveRootToFront_42 : decode cJ23_moveRootToFront 42 = .ok (.aload_n 1, 1) := dk_43 (dk_at dksJ23_moveRootToFront_1 18 rfl rfl)
theorem dJ23_moveRootToFront_43 : decode cJ23_moveRootToFront 43 = .ok (.getfield 19, 3) := dk_180 0 19 (dk_at dksJ23_moveRootToFront_1 19 rfl rfl)
theorem dJ23_moveRootToFront_46 : decode cJ23_moveRootToFront 46 = .ok (.astore 6, 2) := dk_58 6 (dk_at dksJ23_moveRootToFront_1 22 rfl rfl)
theorem dJ23_moveRootToFront_48 : decode cJ23_moveRootToFront 48 = .ok (.aload_n 1, 1) := dk_43 (dk_at dksJ23_moveRootToFront_2 0 rfl rfl)
theorem dJ23_moveRootToFront_49 : decode cJ23_moveRootToFront 49 = .ok (.getfield 22, 3) := dk_180 0 22 (dk_at dksJ23_moveRootToFront_2 1 rfl rfl)
theorem dJ23_moveRootToFront_52 : decode cJ23_moveRootToFront 52 = .ok (.dup, 1) := dk_89 (dk_at dksJ23_moveRootToFront_2 4 rfl rfl)
theorem dJ23_moveRootToFront_53 : decode cJ23_moveRootToFront 53 = .ok (.astore 5, 2) := dk_58 5 (dk_at dksJ23_moveRootToFront_2 5 rfl rfl)
theorem dJ23_moveRootToFront_55 : decode cJ23_moveRootToFront 55 = .ok (.ifnull 13, 3) := dk_198 0 13 (dk_at dksJ23_moveRootToFront_2 7 rfl rfl)
theorem dJ23_moveRootToFront_58 : decode cJ23_moveRootToFront 58 = .ok (.aload 5, 2) := dk_25 5 (dk_at dksJ23_moveRootToFront_2 10 rfl rfl)
theorem dJ23_moveRootToFront_60 : decode cJ23_moveRootToFront 60 = .ok (.checkcast 10, 3) := dk_192 0 10 (dk_at dksJ23_moveRootToFront_2 12 rfl rfl)
theorem dJ23_moveRootToFront_63 : decode cJ23_moveRootToFront 63 = .ok (.aload 6, 2) := dk_25 6 (dk_at dksJ23_moveRootToFront_2 15 rfl rfl)
theorem dJ23_moveRootToFront_65 : decode cJ23_moveRootToFront 65 = .ok (.putfield 19, 3) := dk_181 0 19 (dk_at dksJ23_moveRootToFront_2 17 rfl rfl)
theorem dJ23_moveRootToFront_68 : decode cJ23_moveRootToFront 68 = .ok (.aload 6, 2) := dk_25 6 (dk_at dksJ23_moveRootToFront_2 20 rfl rfl)
theorem dJ23_moveRootToFront_70 : decode cJ23_moveRootToFront 70 = .ok (.ifnull 10, 3) := dk_198 0 10 (dk_at dksJ23_moveRootToFront_3 0 rfl rfl)
theorem dJ23_moveRootToFront_73 : decode cJ23_moveRootToFront 73 = .ok (.aload 6, 2) := dk_25 6 (dk_at dksJ23_moveRootToFront_3 3 rfl rfl)
theorem dJ23_moveRootToFront_75 : decode cJ23_moveRootToFront 75 = .ok (.aload 5, 2) := dk_25 5 (dk_at dksJ23_moveRootToFront_3 5 rfl rfl)
theorem dJ23_moveRootToFront_77 : decode cJ23_moveRootToFront 77 = .ok (.putfield 22, 3) := dk_181 0 22 (dk_at dksJ23_moveRootToFront_3 7 rfl rfl)
theorem dJ23_moveRootToFront_80 : decode cJ23_moveRootToFront 80 = .ok (.aload 4, 2) := dk_25 4 (dk_at dksJ23_moveRootToFront_3 10 rfl rfl)
theorem dJ23_moveRootToFront_82 : decode cJ23_moveRootToFront 82 = .ok (.ifnull 9, 3) := dk_198 0 9 (dk_at dksJ23_moveRootToFront_3 12 rfl rfl)
theorem dJ23_moveRootToFront_85 : decode cJ23_moveRootToFront 85 = .ok (.aload 4, 2) := dk_25 4 (dk_at dksJ23_moveRootToFront_3 15 rfl rfl)
theorem dJ23_moveRootToFront_87 : decode cJ23_moveRootToFront 87 = .ok (.aload_n 1, 1) := dk_43 (dk_at dksJ23_moveRootToFront_3 17 rfl rfl)
theorem dJ23_moveRootToFront_88 : decode cJ23_moveRootToFront 88 = .ok (.putfield 19, 3) := dk_181 0 19 (dk_at dksJ23_moveRootToFront_3 18 rfl rfl)
theorem dJ23_moveRootToFront_91 : decode cJ23_moveRootToFront 91 = .ok (.aload_n 1, 1) := dk_43 (dk_at dksJ23_moveRootToFront_3 21 rfl rfl)
theorem dJ23_moveRootToFront_92 : decode cJ23_moveRootToFront 92 = .ok (.aload 4, 2) := dk_25 4 (dk_at dksJ23_moveRootToFront_3 22 rfl rfl)
theorem dJ23_moveRootToFront_94 : decode cJ23_moveRootToFront 94 = .ok (.putfield 22, 3) := dk_181 0 22 (dk_at dksJ23_moveRootToFront_4 0 rfl rfl)
theorem dJ23_moveRootToFront_97 : decode cJ23_moveRootToFront 97 = .ok (.aload_n 1, 1) := dk_43 (dk_at dksJ23_moveRootToFront_4 3 rfl rfl)
theorem dJ23_moveRootToFront_98 : decode cJ23_moveRootToFront 98 = .ok (.aconst_null, 1) := dk_1 (dk_at dksJ23_moveRootToFront_4 4 rfl rfl)
theorem dJ23_moveRootToFront_99 : decode cJ23_moveRootToFront 99 = .ok (.putfield 19, 3) := dk_181 0 19 (dk_at dksJ23_moveRootToFront_4 5 rfl rfl)
theorem dJ23_moveRootToFront_102 : decode cJ23_moveRootToFront 102 = .ok (.getstatic 26, 3) := dk_178 0 26 (dk_at dksJ23_moveRootToFront_4 8 rfl rfl)
theorem dJ23_moveRootToFront_105 : decode cJ23_moveRootToFront 105 = .ok (.ifCond .ne 18, 3) := dk_154 0 18 (dk_at dksJ23_moveRootToFront_4 11 rfl rfl)
theorem dJ23_moveRootToFront_108 : decode cJ23_moveRootToFront 108 = .ok (.aload_n 1, 1) := dk_43 (dk_at dksJ23_moveRootToFront_4 14 rfl rfl)
theorem dJ23_moveRootToFront_109 : decode cJ23_moveRootToFront 109 = .ok (.invokestatic 30, 3) := dk_184 0 30 (dk_at dksJ23_moveRootToFront_4 15 rfl rfl)
theorem dJ23_moveRootToFront_112 : decode cJ23_moveRootToFront 112 = .ok (.ifCond .ne 11, 3) := dk_154 0 11 (dk_at dksJ23_moveRootToFront_4 18 rfl rfl)
theorem dJ23_moveRootToFront_115 : decode cJ23_moveRootToFront 115 = .ok (.new 34, 3) := dk_187 0 34 (dk_at dksJ23_moveRootToFront_4 21 rfl rfl)
theorem dJ23_moveRootToFront_118 : decode cJ23_moveRootToFront 118 = .ok (.dup, 1) := dk_89 (dk_at dksJ23_moveRootToFront_5 0 rfl rfl)
theorem dJ23_moveRootToFront_119 : decode cJ23_moveRootToFront 119 = .ok (.invokespecial 36, 3) := dk_183 0 36 (dk_at dksJ23_moveRootToFront_5 1 rfl rfl)
theorem dJ23_moveRootToFront_122 : decode cJ23_moveRootToFront 122 = .ok (.athrow, 1) := dk_191 (dk_at dksJ23_moveRootToFront_5 4 rfl rfl)
theorem dJ23_moveRootToFront_123 : decode cJ23_moveRootToFront 123 = .ok (.return_, 1) := dk_177 (dk_at dksJ23_moveRootToFront_5 5 rfl rfl)
abbrev cJ23_putTreeVal : ByteArray := prog_61_method_9_code
def yJ23_putTreeVal : MethodName := ⟨RJ23, "putTreeVal", "(Ljava/util/HashMap;[Ljava/util/HashMap$Node;ILjava/lang/Object;Ljava/lang/Object;)Ljava/util/HashMap$TreeNode;"⟩
def dkwJ23_putTreeVal_13 : List UInt8 := [184, 0, 100, 184, 0, 104, 1, 176, 167, 254, 228]
abbrev dktJ23_putTreeVal_13 : List UInt8 := dkwJ23_putTreeVal_13 ++ []
def dkwJ23_putTreeVal_12 : List UInt8 := [181, 0, 9, 25, 14, 198, 0, 13, 25, 14, 192, 0, 10, 25, 15, 181, 0, 19, 44, 25, 8, 25, 15]
abbrev dktJ23_putTreeVal_12 : List UInt8 := dkwJ23_putTreeVal_12 ++ dktJ23_putTreeVal_13
def dkwJ23_putTreeVal_11 : List UInt8 := [25, 15, 181, 0, 42, 25, 13, 25, 15, 181, 0, 22, 25, 15, 25, 15, 25, 13, 90, 181, 0, 19]
abbrev dktJ23_putTreeVal_11 : List UInt8 := dkwJ23_putTreeVal_11 ++ dktJ23_putTreeVal_12
def dkwJ23_putTreeVal_10 : List UInt8 := [25, 14, 182, 0, 115, 58, 15, 21, 10, 157, 0, 13, 25, 13, 25, 15, 181, 0, 39, 167, 0, 10, 25, 13]
abbrev dktJ23_putTreeVal_10 : List UInt8 := dkwJ23_putTreeVal_10 ++ dktJ23_putTreeVal_11
def dkwJ23_putTreeVal_9 : List UInt8 := [25, 9, 180, 0, 42, 89, 58, 9, 199, 0, 93, 25, 13, 180, 0, 22, 58, 14, 43, 29, 25, 4, 25, 5]
abbrev dktJ23_putTreeVal_9 : List UInt8 := dkwJ23_putTreeVal_9 ++ dktJ23_putTreeVal_10
def dkwJ23_putTreeVal_8 : List UInt8 := [25, 12, 184, 0, 96, 54, 10, 25, 9, 58, 13, 21, 10, 157, 0, 11, 25, 9, 180, 0, 39, 167, 0, 8]
abbrev dktJ23_putTreeVal_8 : List UInt8 := dkwJ23_putTreeVal_8 ++ dktJ23_putTreeVal_9
def dkwJ23_putTreeVal_7 : List UInt8 := [198, 0, 22, 25, 14, 29, 25, 4, 25, 6, 182, 0, 63, 89, 58, 13, 198, 0, 6, 25, 13, 176, 25, 4]
abbrev dktJ23_putTreeVal_7 : List UInt8 := dkwJ23_putTreeVal_7 ++ dktJ23_putTreeVal_8
def dkwJ23_putTreeVal_6 : List UInt8 := [29, 25, 4, 25, 6, 182, 0, 63, 89, 58, 13, 199, 0, 30, 25, 9, 180, 0, 42, 89, 58, 14]
abbrev dktJ23_putTreeVal_6 : List UInt8 := dkwJ23_putTreeVal_6 ++ dktJ23_putTreeVal_7
def dkwJ23_putTreeVal_5 : List UInt8 := [154, 0, 77, 21, 7, 154, 0, 63, 4, 54, 7, 25, 9, 180, 0, 39, 89, 58, 14, 198, 0, 19, 25, 14]
abbrev dktJ23_putTreeVal_5 : List UInt8 := dkwJ23_putTreeVal_5 ++ dktJ23_putTreeVal_6
def dkwJ23_putTreeVal_4 : List UInt8 := [25, 4, 184, 0, 55, 89, 58, 6, 198, 0, 18, 25, 6, 25, 4, 25, 12, 184, 0, 59, 89, 54, 10]
abbrev dktJ23_putTreeVal_4 : List UInt8 := dkwJ23_putTreeVal_4 ++ dktJ23_putTreeVal_5
def dkwJ23_putTreeVal_3 : List UInt8 := [25, 4, 198, 0, 16, 25, 4, 25, 12, 182, 0, 49, 153, 0, 6, 25, 9, 176, 25, 6, 199, 0, 14]
abbrev dktJ23_putTreeVal_3 : List UInt8 := dkwJ23_putTreeVal_3 ++ dktJ23_putTreeVal_4
def dkwJ23_putTreeVal_2 : List UInt8 := [29, 162, 0, 9, 4, 54, 10, 167, 0, 139, 25, 9, 180, 0, 45, 89, 58, 12, 25, 4, 165, 0, 18]
abbrev dktJ23_putTreeVal_2 : List UInt8 := dkwJ23_putTreeVal_2 ++ dktJ23_putTreeVal_3
def dkwJ23_putTreeVal_1 : List UInt8 := [25, 8, 58, 9, 25, 9, 180, 0, 15, 89, 54, 11, 29, 164, 0, 9, 2, 54, 10, 167, 0, 151, 21, 11]
abbrev dktJ23_putTreeVal_1 : List UInt8 := dkwJ23_putTreeVal_1 ++ dktJ23_putTreeVal_2
def dkwJ23_putTreeVal_0 : List UInt8 := [1, 58, 6, 3, 54, 7, 42, 180, 0, 9, 198, 0, 10, 42, 182, 0, 67, 167, 0, 4, 42, 58, 8]
abbrev dktJ23_putTreeVal_0 : List UInt8 := dkwJ23_putTreeVal_0 ++ dktJ23_putTreeVal_1
theorem dksJ23_putTreeVal_0 : cJ23_putTreeVal.data.toList.drop 0 = dktJ23_putTreeVal_0 := by decide +kernel
theorem dksJ23_putTreeVal_1 : cJ23_putTreeVal.data.toList.drop 23 = dktJ23_putTreeVal_1 := dk_seg dksJ23_putTreeVal_0 23 rfl rfl
theorem dksJ23_putTreeVal_2 : cJ23_putTreeVal.data.toList.drop 47 = dktJ23_putTreeVal_2 := dk_seg dksJ23_putTreeVal_1 24 rfl rfl
theorem dksJ23_putTreeVal_3 : cJ23_putTreeVal.data.toList.drop 70 = dktJ23_putTreeVal_3 := dk_seg dksJ23_putTreeVal_2 23 rfl rfl
theorem dksJ23_putTreeVal_4 : cJ23_putTreeVal.data.toList.drop 93 = dktJ23_putTreeVal_4 := dk_seg dksJ23_putTreeVal_3 23 rfl rfl
theorem dksJ23_putTreeVal_5 : cJ23_putTreeVal.data.toList.drop 116 = dktJ23_putTreeVal_5 := dk_seg dksJ23_putTreeVal_4 23 rfl rfl
theorem dksJ23_putTreeVal_6 : cJ23_putTreeVal.data.toList.drop 140 = dktJ23_putTreeVal_6 := dk_seg dksJ23_putTreeVal_5 24 rfl rfl
theorem dksJ23_putTreeVal_7 : cJ23_putTreeVal.data.toList.drop 162 = dktJ23_putTreeVal_7 := dk_seg dksJ23_putTreeVal_6 22 rfl rfl
theorem dksJ23_putTreeVal_8 : cJ23_putTreeVal.data.toList.drop 186 = dktJ23_putTreeVal_8 := dk_seg dksJ23_putTreeVal_7 24 rfl rfl
theorem dksJ23_putTreeVal_9 : cJ23_putTreeVal.data.toList.drop 210 = dktJ23_putTreeVal_9 := dk_seg dksJ23_putTreeVal_8 24 rfl rfl
theorem dksJ23_putTreeVal_10 : cJ23_putTreeVal.data.toList.drop 234 = dktJ23_putTreeVal_10 := dk_seg dksJ23_putTreeVal_9 24 rfl rfl
theorem dksJ23_putTreeVal_11 : cJ23_putTreeVal.data.toList.drop 258 = dktJ23_putTreeVal_11 := dk_seg dksJ23_putTreeVal_10 24 rfl rfl
theorem dksJ23_putTreeVal_12 : cJ23_putTreeVal.data.toList.drop 280 = dktJ23_putTreeVal_12 := dk_seg dksJ23_putTreeVal_11 22 rfl rfl
theorem dksJ23_putTreeVal_13 : cJ23_putTreeVal.data.toList.drop 303 = dktJ23_putTreeVal_13 := dk_seg dksJ23_putTreeVal_12 23 rfl rfl
theorem dJ23_putTreeVal_0 : decode cJ23_putTreeVal 0 = .ok (.aconst_null, 1) := dk_1 (dk_at dksJ23_putTreeVal_0 0 rfl rfl)
theorem dJ23_putTreeVal_1 : decode cJ23_putTreeVal 1 = .ok (.astore 6, 2) := dk_58 6 (dk_at dksJ23_putTreeVal_0 1 rfl rfl)
theorem dJ23_putTreeVal_3 : decode cJ23_putTreeVal 3 = .ok (.iconst 0, 1) := dk_3 (dk_at dksJ23_putTreeVal_0 3 rfl rfl)
theorem dJ23_putTreeVal_4 : decode cJ23_putTreeVal 4 = .ok (.istore 7, 2) := dk_54 7 (dk_at dksJ23_putTreeVal_0 4 rfl rfl)
theorem dJ23_putTreeVal_6 : decode cJ23_putTreeVal 6 = .ok (.aload_n 0, 1) := dk_42 (dk_at dksJ23_putTreeVal_0 6 rfl rfl)
theorem dJ23_putTreeVal_7 : decode cJ23_putTreeVal 7 = .ok (.getfield 9, 3) := dk_180 0 9 (dk_at dksJ23_putTreeVal_0 7 rfl rfl)
theorem dJ23_putTreeVal_10 : decode cJ23_putTreeVal 10 = .ok (.ifnull 10, 3) := dk_198 0 10 (dk_at dksJ23_putTreeVal_0 10 rfl rfl)
theorem dJ23_putTreeVal_13 : decode cJ23_putTreeVal 13 = .ok (.aload_n 0, 1) := dk_42 (dk_at dksJ23_putTreeVal_0 13 rfl rfl)
theorem dJ23_putTreeVal_14 : decode cJ23_putTreeVal 14 = .ok (.invokevirtual 67, 3) := dk_182 0 67 (dk_at dksJ23_putTreeVal_0 14 rfl rfl)
theorem dJ23_putTreeVal_17 : decode cJ23_putTreeVal 17 = .ok (.goto 4, 3) := dk_167 0 4 (dk_at dksJ23_putTreeVal_0 17 rfl rfl)
theorem dJ23_putTreeVal_20 : decode cJ23_putTreeVal 20 = .ok (.aload_n 0, 1) := dk_42 (dk_at dksJ23_putTreeVal_0 20 rfl rfl)
theorem dJ23_putTreeVal_21 : decode cJ23_putTreeVal 21 = .ok (.astore 8, 2) := dk_58 8 (dk_at dksJ23_putTreeVal_0 21 rfl rfl)
theorem dJ23_putTreeVal_23 : decode cJ23_putTreeVal 23 = .ok (.aload 8, 2) := dk_25 8 (dk_at dksJ23_putTreeVal_1 0 rfl rfl)
theorem dJ23_putTreeVal_25 : decode cJ23_putTreeVal 25 = .ok (.astore 9, 2) := dk_58 9 (dk_at dksJ23_putTreeVal_1 2 rfl rfl)
theorem dJ23_putTreeVal_27 : decode cJ23_putTreeVal 27 = .ok (.aload 9, 2) := dk_25 9 (dk_at dksJ23_putTreeVal_1 4 rfl rfl)
theorem dJ23_putTreeVal_29 : decode cJ23_putTreeVal 29 = .ok (.getfield 15, 3) := dk_180 0 15 (dk_at dksJ23_putTreeVal_1 6 rfl rfl)
theorem dJ23_putTreeVal_32 : decode cJ23_putTreeVal 32 = .ok (.dup, 1) := dk_89 (dk_at dksJ23_putTreeVal_1 9 rfl rfl)
theorem dJ23_putTreeVal_33 : decode cJ23_putTreeVal 33 = .ok (.istore 11, 2) := dk_54 11 (dk_at dksJ23_putTreeVal_1 10 rfl rfl)
theorem dJ23_putTreeVal_35 : decode cJ23_putTreeVal 35 = .ok (.iload_n 3, 1) := dk_29 (dk_at dksJ23_putTreeVal_1 12 rfl rfl)
theorem dJ23_putTreeVal_36 : decode cJ23_putTreeVal 36 = .ok (.if_icmp .le 9, 3) := dk_164 0 9 (dk_at dksJ23_putTreeVal_1 13 rfl rfl)
theorem dJ23_putTreeVal_39 : decode cJ23_putTreeVal 39 = .ok (.iconst (-1), 1) := dk_2 (dk_at dksJ23_putTreeVal_1 16 rfl rfl)
theorem dJ23_putTreeVal_40 : decode cJ23_putTreeVal 40 = .ok (.istore 10, 2) := dk_54 10 (dk_at dksJ23_putTreeVal_1 17 rfl rfl)
theorem dJ23_putTreeVal_42 : decode cJ23_putTreeVal 42 = .ok (.goto 151, 3) := dk_167 0 151 (dk_at dksJ23_putTreeVal_1 19 rfl rfl)
theorem dJ23_putTreeVal_45 : decode cJ23_putTreeVal 45 = .ok (.iload 11, 2) := dk_21 11 (dk_at dksJ23_putTreeVal_1 22 rfl rfl)
theorem dJ23_putTreeVal_47 : decode cJ23_putTreeVal 47 = .ok (.iload_n 3, 1) := dk_29 (dk_at dksJ23_putTreeVal_2 0 rfl rfl)
theorem dJ23_putTreeVal_48 : decode cJ23_putTreeVal 48 = .ok (.if_icmp .ge 9, 3) := dk_162 0 9 (dk_at dksJ23_putTreeVal_2 1 rfl rfl)
theorem dJ23_putTreeVal_51 : decode cJ23_putTreeVal 51 = .ok (.iconst 1, 1) := dk_4 (dk_at dksJ23_putTreeVal_2 4 rfl rfl)
theorem dJ23_putTreeVal_52 : decode cJ23_putTreeVal 52 = .ok (.istore 10, 2) := dk_54 10 (dk_at dksJ23_putTreeVal_2 5 rfl rfl)
theorem dJ23_putTreeVal_54 : decode cJ23_putTreeVal 54 = .ok (.goto 139, 3) := dk_167 0 139 (dk_at dksJ23_putTreeVal_2 7 rfl rfl)
theorem dJ23_putTreeVal_57 : decode cJ23_putTreeVal 57 = .ok (.aload 9, 2) := dk_25 9 (dk_at dksJ23_putTreeVal_2 10 rfl rfl)
theorem dJ23_putTreeVal_59 : decode cJ23_putTreeVal 59 = .ok (.getfield 45, 3) := dk_180 0 45 (dk_at dksJ23_putTreeVal_2 12 rfl rfl)
theorem dJ23_putTreeVal_62 : decode cJ23_putTreeVal 62 = .ok (.dup, 1) := dk_89 (dk_at dksJ23_putTreeVal_2 15 rfl rfl)
theorem dJ23_putTreeVal_63 : decode cJ23_putTreeVal 63 = .ok (.astore 12, 2) := dk_58 12 (dk_at dksJ23_putTreeVal_2 16 rfl rfl)
theorem dJ23_putTreeVal_65 : decode cJ23_putTreeVal 65 = .ok (.aload 4, 2) := dk_25 4 (dk_at dksJ23_putTreeVal_2 18 rfl rfl)
theorem dJ23_putTreeVal_67 : decode cJ23_putTreeVal 67 = .ok (.if_acmp .eq 18, 3) := dk_165 0 18 (dk_at dksJ23_putTreeVal_2 20 rfl rfl)
theorem dJ23_putTreeVal_70 : decode cJ23_putTreeVal 70 = .ok (.aload 4, 2) := dk_25 4 (dk_at dksJ23_putTreeVal_3 0 rfl rfl)
theorem dJ23_putTreeVal_72 : decode cJ23_putTreeVal 72 = .ok (.ifnull 16, 3) := dk_198 0 16 (dk_at dksJ23_putTreeVal_3 2 rfl rfl)
theorem dJ23_putTreeVal_75 : decode cJ23_putTreeVal 75 = .ok (.aload 4, 2) := dk_25 4 (dk_at dksJ23_putTreeVal_3 5 rfl rfl)
theorem dJ23_putTreeVal_77 : decode cJ23_putTreeVal 77 = .ok (.aload 12, 2) := dk_25 12 (dk_at dksJ23_putTreeVal_3 7 rfl rfl)
theorem dJ23_putTreeVal_79 : decode cJ23_putTreeVal 79 = .ok (.invokevirtual 49, 3) := dk_182 0 49 (dk_at dksJ23_putTreeVal_3 9 rfl rfl)
theorem dJ23_putTreeVal_82 : decode cJ23_putTreeVal 82 = .ok (.ifCond .eq 6, 3) := dk_153 0 6 (dk_at dksJ23_putTreeVal_3 12 rfl rfl)
theorem dJ23_putTreeVal_85 : decode cJ23_putTreeVal 85 = .ok (.aload 9, 2) := dk_25 9 (dk_at dksJ23_putTreeVal_3 15 rfl rfl)
theorem dJ23_putTreeVal_87 : decode cJ23_putTreeVal 87 = .ok (.areturn, 1) := dk_176 (dk_at dksJ23_putTreeVal_3 17 rfl rfl)
theorem dJ23_putTreeVal_88 : decode cJ23_putTreeVal 88 = .ok (.aload 6, 2) := dk_25 6 (dk_at dksJ23_putTreeVal_3 18 rfl rfl)
theorem dJ23_putTreeVal_90 : decode cJ23_putTreeVal 90 = .ok (.ifnonnull 14, 3) := dk_199 0 14 (dk_at dksJ23_putTreeVal_3 20 rfl rfl)
theorem dJ23_putTreeVal_93 : decode cJ23_putTreeVal 93 = .ok (.aload 4, 2) := dk_25 4 (dk_at dksJ23_putTreeVal_4 0 rfl rfl)
theorem dJ23_putTreeVal_95 : decode cJ23_putTreeVal 95 = .ok (.invokestatic 55, 3) := dk_184 0 55 (dk_at dksJ23_putTreeVal_4 2 rfl rfl)
theorem dJ23_putTreeVal_98 : decode cJ23_putTreeVal 98 = .ok (.dup, 1) := dk_89 (dk_at dksJ23_putTreeVal_4 5 rfl rfl)
theorem dJ23_putTreeVal_99 : decode cJ23_putTreeVal 99 = .ok (.astore 6, 2) := dk_58 6 (dk_at dksJ23_putTreeVal_4 6 rfl rfl)
theorem dJ23_putTreeVal_101 : decode cJ23_putTreeVal 101 = .ok (.ifnull 18, 3) := dk_198 0 18 (dk_at dksJ23_putTreeVal_4 8 rfl rfl)
theorem dJ23_putTreeVal_104 : decode cJ23_putTreeVal 104 = .ok (.aload 6, 2) := dk_25 6 (dk_at dksJ23_putTreeVal_4 11 rfl rfl)
theorem dJ23_putTreeVal_106 : decode cJ23_putTreeVal 106 = .ok (.aload 4, 2) := dk_25 4 (dk_at dksJ23_putTreeVal_4 13 rfl rfl)
theorem dJ23_putTreeVal_108 : decode cJ23_putTreeVal 108 = .ok (.aload 12, 2) := dk_25 12 (dk_at dksJ23_putTreeVal_4 15 rfl rfl)
theorem dJ23_putTreeVal_110 : decode cJ23_putTreeVal 110 = .ok (.invokestatic 59, 3) := dk_184 0 59 (dk_at dksJ23_putTreeVal_4 17 rfl rfl)
theorem dJ23_putTreeVal_113 : decode cJ23_putTreeVal 113 = .ok (.dup, 1) := dk_89 (dk_at dksJ23_putTreeVal_4 20 rfl rfl)
theorem dJ23_putTreeVal_114 : decode cJ23_putTreeVal 114 = .ok (.istore 10, 2) := dk_54 10 (dk_at dksJ23_putTreeVal_4 21 rfl rfl)
theorem dJ23_putTreeVal_116 : decode cJ23_putTreeVal 116 = .ok (.ifCond .ne 77, 3) := dk_154 0 77 (dk_at dksJ23_putTreeVal_5 0 rfl rfl)
theorem dJ23_putTreeVal_119 : decode cJ23_putTreeVal 119 = .ok (.iload 7, 2) := dk_21 7 (dk_at dksJ23_putTreeVal_5 3 rfl rfl)
theorem dJ23_putTreeVal_121 : decode cJ23_putTreeVal 121 = .ok (.ifCond .ne 63, 3) := dk_154 0 63 (dk_at dksJ23_putTreeVal_5 5 rfl rfl)
theorem dJ23_putTreeVal_124 : decode cJ23_putTreeVal 124 = .ok (.iconst 1, 1) := dk_4 (dk_at dksJ23_putTreeVal_5 8 rfl rfl)
theorem dJ23_putTreeVal_125 : decode cJ23_putTreeVal 125 = .ok (.istore 7, 2) := dk_54 7 (dk_at dksJ23_putTreeVal_5 9 rfl rfl)
theorem dJ23_putTreeVal_127 : decode cJ23_putTreeVal 127 = .ok (.aload 9, 2) := dk_25 9 (dk_at dksJ23_putTreeVal_5 11 rfl rfl)
theorem dJ23_putTreeVal_129 : decode cJ23_putTreeVal 129 = .ok (.getfield 39, 3) := dk_180 0 39 (dk_at dksJ23_putTreeVal_5 13 rfl rfl)
theorem dJ23_putTreeVal_132 : decode cJ23_putTreeVal 132 = .ok (.dup, 1) := dk_89 (dk_at dksJ23_putTreeVal_5 16 rfl rfl)
theorem dJ23_putTreeVal_133 : decode cJ23_putTreeVal 133 = .ok (.astore 14, 2) := dk_58 14 (dk_at dksJ23_putTreeVal_5 17 rfl rfl)
theorem dJ23_putTreeVal_135 : decode cJ23_putTreeVal 135 = .ok (.ifnull 19, 3) := dk_198 0 19 (dk_at dksJ23_putTreeVal_5 19 rfl rfl)
theorem dJ23_putTreeVal_138 : decode cJ23_putTreeVal 138 = .ok (.aload 14, 2) := dk_25 14 (dk_at dksJ23_putTreeVal_5 22 rfl rfl)
theorem dJ23_putTreeVal_140 : decode cJ23_putTreeVal 140 = .ok (.iload_n 3, 1) := dk_29 (dk_at dksJ23_putTreeVal_6 0 rfl rfl)
theorem dJ23_putTreeVal_141 : decode cJ23_putTreeVal 141 = .ok (.aload 4, 2) := dk_25 4 (dk_at dksJ23_putTreeVal_6 1 rfl rfl)
theorem dJ23_putTreeVal_143 : decode cJ23_putTreeVal 143 = .ok (.aload 6, 2) := dk_25 6 (dk_at dksJ23_putTreeVal_6 3 rfl rfl)
theorem dJ23_putTreeVal_145 : decode cJ23_putTreeVal 145 = .ok (.invokevirtual 63, 3) := dk_182 0 63 (dk_at dksJ23_putTreeVal_6 5 rfl rfl)
theorem dJ23_putTreeVal_148 : decode cJ23_putTreeVal 148 = .ok (.dup, 1) := dk_89 (dk_at dksJ23_putTreeVal_6 8 rfl rfl)
theorem dJ23_putTreeVal_149 : decode cJ23_putTreeVal 149 = .ok (.astore 13, 2) := dk_58 13 (dk_at dksJ23_putTreeVal_6 9 rfl rfl)
theorem dJ23_putTreeVal_151 : decode cJ23_putTreeVal 151 = .ok (.ifnonnull 30, 3) := dk_199 0 30 (dk_at dksJ23_putTreeVal_6 11 rfl rfl)
theorem dJ23_putTreeVal_154 : decode cJ23_putTreeVal 154 = .ok (.aload 9, 2) := dk_25 9 (dk_at dksJ23_putTreeVal_6 14 rfl rfl)
theorem dJ23_putTreeVal_156 : decode cJ23_putTreeVal 156 = .ok (.getfield 42, 3) := dk_180 0 42 (dk_at dksJ23_putTreeVal_6 16 rfl rfl)
theorem dJ23_putTreeVal_159 : decode cJ23_putTreeVal 159 = .ok (.dup, 1) := dk_89 (dk_at dksJ23_putTreeVal_6 19 rfl rfl)
theorem dJ23_putTreeVal_160 : decode cJ23_putTreeVal 160 = .ok (.astore 14, 2) := dk_58 14 (dk_at dksJ23_putTreeVal_6 20 rfl rfl)
theorem dJ23_putTreeVal_162 : decode cJ23_putTreeVal 162 = .ok (.ifnull 22, 3) := dk_198 0 22 (dk_at dksJ23_putTreeVal_7 0 rfl rfl)
theorem dJ23_putTreeVal_165 : decode cJ23_putTreeVal 165 = .ok (.aload 14, 2) := dk_25 14 (dk_at dksJ23_putTreeVal_7 3 rfl rfl)
theorem dJ23_putTreeVal_167 : decode cJ23_putTreeVal 167 = .ok (.iload_n 3, 1) := dk_29 (dk_at dksJ23_putTreeVal_7 5 rfl rfl)
theorem dJ23_putTreeVal_168 : decode cJ23_putTreeVal 168 = .ok (.aload 4, 2) := dk_25 4 (dk_at dksJ23_putTreeVal_7 6 rfl rfl)
theorem dJ23_putTreeVal_170 : decode cJ23_putTreeVal 170 = .ok (.aload 6, 2) := dk_25 6 (dk_at dksJ23_putTreeVal_7 8 rfl rfl)
theorem dJ23_putTreeVal_172 : decode cJ23_putTreeVal 172 = .ok (.invokevirtual 63, 3) := dk_182 0 63 (dk_at dksJ23_putTreeVal_7 10 rfl rfl)
theorem dJ23_putTreeVal_175 : decode cJ23_putTreeVal 175 = .ok (.dup, 1) := dk_89 (dk_at dksJ23_putTreeVal_7 13 rfl rfl)
theorem dJ23_putTreeVal_176 : decode cJ23_putTreeVal 176 = .ok (.astore 13, 2) := dk_58 13 (dk_at dksJ23_putTreeVal_7 14 rfl rfl)
theorem dJ23_putTreeVal_178 : decode cJ23_putTreeVal 178 = .ok (.ifnull 6, 3) := dk_198 0 6 (dk_at dksJ23_putTreeVal_7 16 rfl rfl)
theorem dJ23_putTreeVal_181 : decode cJ23_putTreeVal 181 = .ok (.aload 13, 2) := dk_25 13 (dk_at dksJ23_putTreeVal_7 19 rfl rfl)
theorem dJ23_putTreeVal_183 : decode cJ23_putTreeVal 183 = .ok (.areturn, 1) := dk_176 (dk_at dksJ23_putTreeVal_7 21 rfl rfl)
theorem dJ23_putTreeVal_184 : decode cJ23_putTreeVal 184 = .ok (.aload 4, 2) := dk_25 4 (dk_at dksJ23_putTreeVal_7 22 rfl rfl)
theorem dJ23_putTreeVal_186 : decode cJ23_putTreeVal 186 = .ok (.aload 12, 2) := dk_25 12 (dk_at dksJ23_putTreeVal_8 0 rfl rfl)
theorem dJ23_putTreeVal_188 : decode cJ23_putTreeVal 188 = .ok (.invokestatic 96, 3) := dk_184 0 96 (dk_at dksJ23_putTreeVal_8 2 rfl rfl)
theorem dJ23_putTreeVal_191 : decode cJ23_putTreeVal 191 = .ok (.istore 10, 2) := dk_54 10 (dk_at dksJ23_putTreeVal_8 5 rfl rfl)
theorem dJ23_putTreeVal_193 : decode cJ23_putTreeVal 193 = .ok (.aload 9, 2) := dk_25 9 (dk_at dksJ23_putTreeVal_8 7 rfl rfl)
theorem dJ23_putTreeVal_195 : decode cJ23_putTreeVal 195 = .ok (.astore 13, 2) := dk_58 13 (dk_at dksJ23_putTreeVal_8 9 rfl rfl)
theorem dJ23_putTreeVal_197 : decode cJ23_putTreeVal 197 = .ok (.iload 10, 2) := dk_21 10 (dk_at dksJ23_putTreeVal_8 11 rfl rfl)
theorem dJ23_putTreeVal_199 : decode cJ23_putTreeVal 199 = .ok (.ifCond .gt 11, 3) := dk_157 0 11 (dk_at dksJ23_putTreeVal_8 13 rfl rfl)
theorem dJ23_putTreeVal_202 : decode cJ23_putTreeVal 202 = .ok (.aload 9, 2) := dk_25 9 (dk_at dksJ23_putTreeVal_8 16 rfl rfl)
theorem dJ23_putTreeVal_204 : decode cJ23_putTreeVal 204 = .ok (.getfield 39, 3) := dk_180 0 39 (dk_at dksJ23_putTreeVal_8 18 rfl rfl)
theorem dJ23_putTreeVal_207 : decode cJ23_putTreeVal 207 = .ok (.goto 8, 3) := dk_167 0 8 (dk_at dksJ23_putTreeVal_8 21 rfl rfl)
theorem dJ23_putTreeVal_210 : decode cJ23_putTreeVal 210 = .ok (.aload 9, 2) := dk_25 9 (dk_at dksJ23_putTreeVal_9 0 rfl rfl)
theorem dJ23_putTreeVal_212 : decode cJ23_putTreeVal 212 = .ok (.getfield 42, 3) := dk_180 0 42 (dk_at dksJ23_putTreeVal_9 2 rfl rfl)
theorem dJ23_putTreeVal_215 : decode cJ23_putTreeVal 215 = .ok (.dup, 1) := dk_89 (dk_at dksJ23_putTreeVal_9 5 rfl rfl)
theorem dJ23_putTreeVal_216 : decode cJ23_putTreeVal 216 = .ok (.astore 9, 2) := dk_58 9 (dk_at dksJ23_putTreeVal_9 6 rfl rfl)
theorem dJ23_putTreeVal_218 : decode cJ23_putTreeVal 218 = .ok (.ifnonnull 93, 3) := dk_199 0 93 (dk_at dksJ23_putTreeVal_9 8 rfl rfl)
theorem dJ23_putTreeVal_221 : decode cJ23_putTreeVal 221 = .ok (.aload 13, 2) := dk_25 13 (dk_at dksJ23_putTreeVal_9 11 rfl rfl)
theorem dJ23_putTreeVal_223 : decode cJ23_putTreeVal 223 = .ok (.getfield 22, 3) := dk_180 0 22 (dk_at dksJ23_putTreeVal_9 13 rfl rfl)
theorem dJ23_putTreeVal_226 : decode cJ23_putTreeVal 226 = .ok (.astore 14, 2) := dk_58 14 (dk_at dksJ23_putTreeVal_9 16 rfl rfl)
theorem dJ23_putTreeVal_228 : decode cJ23_putTreeVal 228 = .ok (.aload_n 1, 1) := dk_43 (dk_at dksJ23_putTreeVal_9 18 rfl rfl)
theorem dJ23_putTreeVal_229 : decode cJ23_putTreeVal 229 = .ok (.iload_n 3, 1) := dk_29 (dk_at dksJ23_putTreeVal_9 19 rfl rfl)
theorem dJ23_putTreeVal_230 : decode cJ23_putTreeVal 230 = .ok (.aload 4, 2) := dk_25 4 (dk_at dksJ23_putTreeVal_9 20 rfl rfl)
theorem dJ23_putTreeVal_232 : decode cJ23_putTreeVal 232 = .ok (.aload 5, 2) := dk_25 5 (dk_at dksJ23_putTreeVal_9 22 rfl rfl)
theorem dJ23_putTreeVal_234 : decode cJ23_putTreeVal 234 = .ok (.aload 14, 2) := dk_25 14 (dk_at dksJ23_putTreeVal_10 0 rfl rfl)
theorem dJ23_putTreeVal_236 : decode cJ23_putTreeVal 236 = .ok (.invokevirtual 115, 3) := dk_182 0 115 (dk_at dksJ23_putTreeVal_10 2 rfl rfl)
theorem dJ23_putTreeVal_239 : decode cJ23_putTreeVal 239 = .ok (.astore 15, 2) := dk_58 15 (dk_at dksJ23_putTreeVal_10 5 rfl rfl)
theorem dJ23_putTreeVal_241 : decode cJ23_putTreeVal 241 = .ok (.iload 10, 2) := dk_21 10 (dk_at dksJ23_putTreeVal_10 7 rfl rfl)
theorem dJ23_putTreeVal_243 : decode cJ23_putTreeVal 243 = .ok (.ifCond .gt 13, 3) := dk_157 0 13 (dk_at dksJ23_putTreeVal_10 9 rfl rfl)
theorem dJ23_putTreeVal_246 : decode cJ23_putTreeVal 246 = .ok (.aload 13, 2) := dk_25 13 (dk_at dksJ23_putTreeVal_10 12 rfl rfl)
theorem dJ23_putTreeVal_248 : decode cJ23_putTreeVal 248 = .ok (.aload 15, 2) := dk_25 15 (dk_at dksJ23_putTreeVal_10 14 rfl rfl)
theorem dJ23_putTreeVal_250 : decode cJ23_putTreeVal 250 = .ok (.putfield 39, 3) := dk_181 0 39 (dk_at dksJ23_putTreeVal_10 16 rfl rfl)
theorem dJ23_putTreeVal_253 : decode cJ23_putTreeVal 253 = .ok (.goto 10, 3) := dk_167 0 10 (dk_at dksJ23_putTreeVal_10 19 rfl rfl)
theorem dJ23_putTreeVal_256 : decode cJ23_putTreeVal 256 = .ok (.aload 13, 2) := dk_25 13 (dk_at dksJ23_putTreeVal_10 22 rfl rfl)
theorem dJ23_putTreeVal_258 : decode cJ23_putTreeVal 258 = .ok (.aload 15, 2) := dk_25 15 (dk_at dksJ23_putTreeVal_11 0 rfl rfl)
theorem dJ23_putTreeVal_260 : decode cJ23_putTreeVal 260 = .ok (.putfield 42, 3) := dk_181 0 42 (dk_at dksJ23_putTreeVal_11 2 rfl rfl)
theorem dJ23_putTreeVal_263 : decode cJ23_putTreeVal 263 = .ok (.aload 13, 2) := dk_25 13 (dk_at dksJ23_putTreeVal_11 5 rfl rfl)
theorem dJ23_putTreeVal_265 : decode cJ23_putTreeVal 265 = .ok (.aload 15, 2) := dk_25 15 (dk_at dksJ23_putTreeVal_11 7 rfl rfl)
theorem dJ23_putTreeVal_267 : decode cJ23_putTreeVal 267 = .ok (.putfield 22, 3) := dk_181 0 22 (dk_at dksJ23_putTreeVal_11 9 rfl rfl)
theorem dJ23_putTreeVal_270 : decode cJ23_putTreeVal 270 = .ok (.aload 15, 2) := dk_25 15 (dk_at dksJ23_putTreeVal_11 12 rfl rfl)
theorem dJ23_putTreeVal_272 : decode cJ23_putTreeVal 272 = .ok (.aload 15, 2) := dk_25 15 (dk_at dksJ23_putTreeVal_11 14 rfl rfl)
theorem dJ23_putTreeVal_274 : decode cJ23_putTreeVal 274 = .ok (.aload 13, 2) := dk_25 13 (dk_at dksJ23_putTreeVal_11 16 rfl rfl)
theorem dJ23_putTreeVal_276 : decode cJ23_putTreeVal 276 = .ok (.dup_x1, 1) := dk_90 (dk_at dksJ23_putTreeVal_11 18 rfl rfl)
theorem dJ23_putTreeVal_277 : decode cJ23_putTreeVal 277 = .ok (.putfield 19, 3) := dk_181 0 19 (dk_at dksJ23_putTreeVal_11 19 rfl rfl)
theorem dJ23_putTreeVal_280 : decode cJ23_putTreeVal 280 = .ok (.putfield 9, 3) := dk_181 0 9 (dk_at dksJ23_putTreeVal_12 0 rfl rfl)
theorem dJ23_putTreeVal_283 : decode cJ23_putTreeVal 283 = .ok (.aload 14, 2) := dk_25 14 (dk_at dksJ23_putTreeVal_12 3 rfl rfl)
theorem dJ23_putTreeVal_285 : decode cJ23_putTreeVal 285 = .ok (.ifnull 13, 3) := dk_198 0 13 (dk_at dksJ23_putTreeVal_12 5 rfl rfl)
theorem dJ23_putTreeVal_288 : decode cJ23_putTreeVal 288 = .ok (.aload 14, 2) := dk_25 14 (dk_at dksJ23_putTreeVal_12 8 rfl rfl)
theorem dJ23_putTreeVal_290 : decode cJ23_putTreeVal 290 = .ok (.checkcast 10, 3) := dk_192 0 10 (dk_at dksJ23_putTreeVal_12 10 rfl rfl)
theorem dJ23_putTreeVal_293 : decode cJ23_putTreeVal 293 = .ok (.aload 15, 2) := dk_25 15 (dk_at dksJ23_putTreeVal_12 13 rfl rfl)
theorem dJ23_putTreeVal_295 : decode cJ23_putTreeVal 295 = .ok (.putfield 19, 3) := dk_181 0 19 (dk_at dksJ23_putTreeVal_12 15 rfl rfl)
theorem dJ23_putTreeVal_298 : decode cJ23_putTreeVal 298 = .ok (.aload_n 2, 1) := dk_44 (dk_at dksJ23_putTreeVal_12 18 rfl rfl)
theorem dJ23_putTreeVal_299 : decode cJ23_putTreeVal 299 = .ok (.aload 8, 2) := dk_25 8 (dk_at dksJ23_putTreeVal_12 19 rfl rfl)
theorem dJ23_putTreeVal_301 : decode cJ23_putTreeVal 301 = .ok (.aload 15, 2) := dk_25 15 (dk_at dksJ23_putTreeVal_12 21 rfl rfl)
theorem dJ23_putTreeVal_303 : decode cJ23_putTreeVal 303 = .ok (.invokestatic 100, 3) := dk_184 0 100 (dk_at dksJ23_putTreeVal_13 0 rfl rfl)
theorem dJ23_putTreeVal_306 : decode cJ23_putTreeVal 306 = .ok (.invokestatic 104, 3) := dk_184 0 104 (dk_at dksJ23_putTreeVal_13 3 rfl rfl)
theorem dJ23_putTreeVal_309 : decode cJ23_putTreeVal 309 = .ok (.aconst_null, 1) := dk_1 (dk_at dksJ23_putTreeVal_13 6 rfl rfl)
theorem dJ23_putTreeVal_310 : decode cJ23_putTreeVal 310 = .ok (.areturn, 1) := dk_176 (dk_at dksJ23_putTreeVal_13 7 rfl rfl)
theorem dJ23_putTreeVal_311 : decode cJ23_putTreeVal 311 = .ok (.goto (-284), 3) := dk_167 254 228 (dk_at dksJ23_putTreeVal_13 8 rfl rfl)
abbrev cJ23_root : ByteArray := prog_61_method_2_code
def yJ23_root : MethodName := ⟨RJ23, "root", "()Ljava/util/HashMap$TreeNode;"⟩
def dkwJ23_root_0 : List UInt8 := [42, 76, 43, 180, 0, 9, 89, 77, 199, 0, 5, 43, 176, 44, 76, 167, 255, 243]
abbrev dktJ23_root_0 : List UInt8 := dkwJ23_root_0 ++ []
theorem dksJ23_root_0 : cJ23_root.data.toList.drop 0 = dktJ23_root_0 := by decide +kernel
theorem dJ23_root_0 : decode cJ23_root 0 = .ok (.aload_n 0, 1) := dk_42 (dk_at dksJ23_root_0 0 rfl rfl)
theorem dJ23_root_1 : decode cJ23_root 1 = .ok (.astore_n 1, 1) := dk_76 (dk_at dksJ23_root_0 1 rfl rfl)
theorem dJ23_root_2 : decode cJ23_root 2 = .ok (.aload_n 1, 1) := dk_43 (dk_at dksJ23_root_0 2 rfl rfl)
theorem dJ23_root_3 : decode cJ23_root 3 = .ok (.getfield 9, 3) := dk_180 0 9 (dk_at dksJ23_root_0 3 rfl rfl)
theorem dJ23_root_6 : decode cJ23_root 6 = .ok (.dup, 1) := dk_89 (dk_at dksJ23_root_0 6 rfl rfl)
theorem dJ23_root_7 : decode cJ23_root 7 = .ok (.astore_n 2, 1) := dk_77 (dk_at dksJ23_root_0 7 rfl rfl)
theorem dJ23_root_8 : decode cJ23_root 8 = .ok (.ifnonnull 5, 3) := dk_199 0 5 (dk_at dksJ23_root_0 8 rfl rfl)
theorem dJ23_root_11 : decode cJ23_root 11 = .ok (.aload_n 1, 1) := dk_43 (dk_at dksJ23_root_0 11 rfl rfl)
theorem dJ23_root_12 : decode cJ23_root 12 = .ok (.areturn, 1) := dk_176 (dk_at dksJ23_root_0 12 rfl rfl)
theorem dJ23_root_13 : decode cJ23_root 13 = .ok (.aload_n 2, 1) := dk_44 (dk_at dksJ23_root_0 13 rfl rfl)
theorem dJ23_root_14 : decode cJ23_root 14 = .ok (.astore_n 1, 1) := dk_76 (dk_at dksJ23_root_0 14 rfl rfl)
theorem dJ23_root_15 : decode cJ23_root 15 = .ok (.goto (-13), 3) := dk_167 255 243 (dk_at dksJ23_root_0 15 rfl rfl)
abbrev cJ23_find : ByteArray := prog_61_method_4_code
def yJ23_find : MethodName := ⟨RJ23, "find", "(ILjava/lang/Object;Ljava/lang/Class;)Ljava/util/HashMap$TreeNode;"⟩
def dkwJ23_find_7 : List UInt8 := [58, 4, 25, 4, 199, 255, 92, 1, 176]
abbrev dktJ23_find_7 : List UInt8 := dkwJ23_find_7 ++ []
def dkwJ23_find_6 : List UInt8 := [58, 4, 167, 0, 24, 25, 9, 27, 44, 45, 182, 0, 63, 89, 58, 10, 198, 0, 6, 25, 10, 176, 25, 8]
abbrev dktJ23_find_6 : List UInt8 := dkwJ23_find_6 ++ dktJ23_find_7
def dkwJ23_find_5 : List UInt8 := [44, 25, 7, 184, 0, 59, 89, 54, 6, 153, 0, 20, 21, 6, 156, 0, 8, 25, 8, 167, 0, 5, 25, 9]
abbrev dktJ23_find_5 : List UInt8 := dkwJ23_find_5 ++ dktJ23_find_6
def dkwJ23_find_4 : List UInt8 := [199, 0, 10, 25, 8, 58, 4, 167, 0, 67, 45, 199, 0, 12, 44, 184, 0, 55, 89, 78, 198, 0, 33, 45]
abbrev dktJ23_find_4 : List UInt8 := dkwJ23_find_4 ++ dktJ23_find_5
def dkwJ23_find_3 : List UInt8 := [182, 0, 49, 153, 0, 6, 25, 4, 176, 25, 8, 199, 0, 10, 25, 9, 58, 4, 167, 0, 79, 25, 9]
abbrev dktJ23_find_3 : List UInt8 := dkwJ23_find_3 ++ dktJ23_find_4
def dkwJ23_find_2 : List UInt8 := [167, 0, 119, 25, 4, 180, 0, 45, 89, 58, 7, 44, 165, 0, 16, 44, 198, 0, 15, 44, 25, 7]
abbrev dktJ23_find_2 : List UInt8 := dkwJ23_find_2 ++ dktJ23_find_3
def dkwJ23_find_1 : List UInt8 := [54, 5, 27, 164, 0, 10, 25, 8, 58, 4, 167, 0, 132, 21, 5, 27, 162, 0, 10, 25, 9, 58, 4]
abbrev dktJ23_find_1 : List UInt8 := dkwJ23_find_1 ++ dktJ23_find_2
def dkwJ23_find_0 : List UInt8 := [42, 58, 4, 25, 4, 180, 0, 39, 58, 8, 25, 4, 180, 0, 42, 58, 9, 25, 4, 180, 0, 15, 89]
abbrev dktJ23_find_0 : List UInt8 := dkwJ23_find_0 ++ dktJ23_find_1
theorem dksJ23_find_0 : cJ23_find.data.toList.drop 0 = dktJ23_find_0 := by decide +kernel
theorem dksJ23_find_1 : cJ23_find.data.toList.drop 23 = dktJ23_find_1 := dk_seg dksJ23_find_0 23 rfl rfl
theorem dksJ23_find_2 : cJ23_find.data.toList.drop 46 = dktJ23_find_2 := dk_seg dksJ23_find_1 23 rfl rfl
theorem dksJ23_find_3 : cJ23_find.data.toList.drop 68 = dktJ23_find_3 := dk_seg dksJ23_find_2 22 rfl rfl
theorem dksJ23_find_4 : cJ23_find.data.toList.drop 91 = dktJ23_find_4 := dk_seg dksJ23_find_3 23 rfl rfl
theorem dksJ23_find_5 : cJ23_find.data.toList.drop 115 = dktJ23_find_5 := dk_seg dksJ23_find_4 24 rfl rfl
theorem dksJ23_find_6 : cJ23_find.data.toList.drop 139 = dktJ23_find_6 := dk_seg dksJ23_find_5 24 rfl rfl
theorem dksJ23_find_7 : cJ23_find.data.toList.drop 163 = dktJ23_find_7 := dk_seg dksJ23_find_6 24 rfl rfl
theorem dJ23_find_0 : decode cJ23_find 0 = .ok (.aload_n 0, 1) := dk_42 (dk_at dksJ23_find_0 0 rfl rfl)
theorem dJ23_find_1 : decode cJ23_find 1 = .ok (.astore 4, 2) := dk_58 4 (dk_at dksJ23_find_0 1 rfl rfl)
theorem dJ23_find_3 : decode cJ23_find 3 = .ok (.aload 4, 2) := dk_25 4 (dk_at dksJ23_find_0 3 rfl rfl)
theorem dJ23_find_5 : decode cJ23_find 5 = .ok (.getfield 39, 3) := dk_180 0 39 (dk_at dksJ23_find_0 5 rfl rfl)
theorem dJ23_find_8 : decode cJ23_find 8 = .ok (.astore 8, 2) := dk_58 8 (dk_at dksJ23_find_0 8 rfl rfl)
theorem dJ23_find_10 : decode cJ23_find 10 = .ok (.aload 4, 2) := dk_25 4 (dk_at dksJ23_find_0 10 rfl rfl)
theorem dJ23_find_12 : decode cJ23_find 12 = .ok (.getfield 42, 3) := dk_180 0 42 (dk_at dksJ23_find_0 12 rfl rfl)
theorem dJ23_find_15 : decode cJ23_find 15 = .ok (.astore 9, 2) := dk_58 9 (dk_at dksJ23_find_0 15 rfl rfl)
theorem dJ23_find_17 : decode cJ23_find 17 = .ok (.aload 4, 2) := dk_25 4 (dk_at dksJ23_find_0 17 rfl rfl)
theorem dJ23_find_19 : decode cJ23_find 19 = .ok (.getfield 15, 3) := dk_180 0 15 (dk_at dksJ23_find_0 19 rfl rfl)
theorem dJ23_find_22 : decode cJ23_find 22 = .ok (.dup, 1) := dk_89 (dk_at dksJ23_find_0 22 rfl rfl)
theorem dJ23_find_23 : decode cJ23_find 23 = .ok (.istore 5, 2) := dk_54 5 (dk_at dksJ23_find_1 0 rfl rfl)
theorem dJ23_find_25 : decode cJ23_find 25 = .ok (.iload_n 1, 1) := dk_27 (dk_at dksJ23_find_1 2 rfl rfl)
theorem dJ23_find_26 : decode cJ23_find 26 = .ok (.if_icmp .le 10, 3) := dk_164 0 10 (dk_at dksJ23_find_1 3 rfl rfl)
theorem dJ23_find_29 : decode cJ23_find 29 = .ok (.aload 8, 2) := dk_25 8 (dk_at dksJ23_find_1 6 rfl rfl)
theorem dJ23_find_31 : decode cJ23_find 31 = .ok (.astore 4, 2) := dk_58 4 (dk_at dksJ23_find_1 8 rfl rfl)
theorem dJ23_find_33 : decode cJ23_find 33 = .ok (.goto 132, 3) := dk_167 0 132 (dk_at dksJ23_find_1 10 rfl rfl)
theorem dJ23_find_36 : decode cJ23_find 36 = .ok (.iload 5, 2) := dk_21 5 (dk_at dksJ23_find_1 13 rfl rfl)
theorem dJ23_find_38 : decode cJ23_find 38 = .ok (.iload_n 1, 1) := dk_27 (dk_at dksJ23_find_1 15 rfl rfl)
theorem dJ23_find_39 : decode cJ23_find 39 = .ok (.if_icmp .ge 10, 3) := dk_162 0 10 (dk_at dksJ23_find_1 16 rfl rfl)
theorem dJ23_find_42 : decode cJ23_find 42 = .ok (.aload 9, 2) := dk_25 9 (dk_at dksJ23_find_1 19 rfl rfl)
theorem dJ23_find_44 : decode cJ23_find 44 = .ok (.astore 4, 2) := dk_58 4 (dk_at dksJ23_find_1 21 rfl rfl)
theorem dJ23_find_46 : decode cJ23_find 46 = .ok (.goto 119, 3) := dk_167 0 119 (dk_at dksJ23_find_2 0 rfl rfl)
theorem dJ23_find_49 : decode cJ23_find 49 = .ok (.aload 4, 2) := dk_25 4 (dk_at dksJ23_find_2 3 rfl rfl)
theorem dJ23_find_51 : decode cJ23_find 51 = .ok (.getfield 45, 3) := dk_180 0 45 (dk_at dksJ23_find_2 5 rfl rfl)
theorem dJ23_find_54 : decode cJ23_find 54 = .ok (.dup, 1) := dk_89 (dk_at dksJ23_find_2 8 rfl rfl)
theorem dJ23_find_55 : decode cJ23_find 55 = .ok (.astore 7, 2) := dk_58 7 (dk_at dksJ23_find_2 9 rfl rfl)
theorem dJ23_find_57 : decode cJ23_find 57 = .ok (.aload_n 2, 1) := dk_44 (dk_at dksJ23_find_2 11 rfl rfl)
theorem dJ23_find_58 : decode cJ23_find 58 = .ok (.if_acmp .eq 16, 3) := dk_165 0 16 (dk_at dksJ23_find_2 12 rfl rfl)
theorem dJ23_find_61 : decode cJ23_find 61 = .ok (.aload_n 2, 1) := dk_44 (dk_at dksJ23_find_2 15 rfl rfl)
theorem dJ23_find_62 : decode cJ23_find 62 = .ok (.ifnull 15, 3) := dk_198 0 15 (dk_at dksJ23_find_2 16 rfl rfl)
theorem dJ23_find_65 : decode cJ23_find 65 = .ok (.aload_n 2, 1) := dk_44 (dk_at dksJ23_find_2 19 rfl rfl)
theorem dJ23_find_66 : decode cJ23_find 66 = .ok (.aload 7, 2) := dk_25 7 (dk_at dksJ23_find_2 20 rfl rfl)
theorem dJ23_find_68 : decode cJ23_find 68 = .ok (.invokevirtual 49, 3) := dk_182 0 49 (dk_at dksJ23_find_3 0 rfl rfl)
theorem dJ23_find_71 : decode cJ23_find 71 = .ok (.ifCond .eq 6, 3) := dk_153 0 6 (dk_at dksJ23_find_3 3 rfl rfl)
theorem dJ23_find_74 : decode cJ23_find 74 = .ok (.aload 4, 2) := dk_25 4 (dk_at dksJ23_find_3 6 rfl rfl)
theorem dJ23_find_76 : decode cJ23_find 76 = .ok (.areturn, 1) := dk_176 (dk_at dksJ23_find_3 8 rfl rfl)
theorem dJ23_find_77 : decode cJ23_find 77 = .ok (.aload 8, 2) := dk_25 8 (dk_at dksJ23_find_3 9 rfl rfl)
theorem dJ23_find_79 : decode cJ23_find 79 = .ok (.ifnonnull 10, 3) := dk_199 0 10 (dk_at dksJ23_find_3 11 rfl rfl)
theorem dJ23_find_82 : decode cJ23_find 82 = .ok (.aload 9, 2) := dk_25 9 (dk_at dksJ23_find_3 14 rfl rfl)
theorem dJ23_find_84 : decode cJ23_find 84 = .ok (.astore 4, 2) := dk_58 4 (dk_at dksJ23_find_3 16 rfl rfl)
theorem dJ23_find_86 : decode cJ23_find 86 = .ok (.goto 79, 3) := dk_167 0 79 (dk_at dksJ23_find_3 18 rfl rfl)
theorem dJ23_find_89 : decode cJ23_find 89 = .ok (.aload 9, 2) := dk_25 9 (dk_at dksJ23_find_3 21 rfl rfl)
theorem dJ23_find_91 : decode cJ23_find 91 = .ok (.ifnonnull 10, 3) := dk_199 0 10 (dk_at dksJ23_find_4 0 rfl rfl)
theorem dJ23_find_94 : decode cJ23_find 94 = .ok (.aload 8, 2) := dk_25 8 (dk_at dksJ23_find_4 3 rfl rfl)
theorem dJ23_find_96 : decode cJ23_find 96 = .ok (.astore 4, 2) := dk_58 4 (dk_at dksJ23_find_4 5 rfl rfl)
theorem dJ23_find_98 : decode cJ23_find 98 = .ok (.goto 67, 3) := dk_167 0 67 (dk_at dksJ23_find_4 7 rfl rfl)
theorem dJ23_find_101 : decode cJ23_find 101 = .ok (.aload_n 3, 1) := dk_45 (dk_at dksJ23_find_4 10 rfl rfl)
theorem dJ23_find_102 : decode cJ23_find 102 = .ok (.ifnonnull 12, 3) := dk_199 0 12 (dk_at dksJ23_find_4 11 rfl rfl)
theorem dJ23_find_105 : decode cJ23_find 105 = .ok (.aload_n 2, 1) := dk_44 (dk_at dksJ23_find_4 14 rfl rfl)
theorem dJ23_find_106 : decode cJ23_find 106 = .ok (.invokestatic 55, 3) := dk_184 0 55 (dk_at dksJ23_find_4 15 rfl rfl)
theorem dJ23_find_109 : decode cJ23_find 109 = .ok (.dup, 1) := dk_89 (dk_at dksJ23_find_4 18 rfl rfl)
theorem dJ23_find_110 : decode cJ23_find 110 = .ok (.astore_n 3, 1) := dk_78 (dk_at dksJ23_find_4 19 rfl rfl)
theorem dJ23_find_111 : decode cJ23_find 111 = .ok (.ifnull 33, 3) := dk_198 0 33 (dk_at dksJ23_find_4 20 rfl rfl)
theorem dJ23_find_114 : decode cJ23_find 114 = .ok (.aload_n 3, 1) := dk_45 (dk_at dksJ23_find_4 23 rfl rfl)
theorem dJ23_find_115 : decode cJ23_find 115 = .ok (.aload_n 2, 1) := dk_44 (dk_at dksJ23_find_5 0 rfl rfl)
theorem dJ23_find_116 : decode cJ23_find 116 = .ok (.aload 7, 2) := dk_25 7 (dk_at dksJ23_find_5 1 rfl rfl)
theorem dJ23_find_118 : decode cJ23_find 118 = .ok (.invokestatic 59, 3) := dk_184 0 59 (dk_at dksJ23_find_5 3 rfl rfl)
theorem dJ23_find_121 : decode cJ23_find 121 = .ok (.dup, 1) := dk_89 (dk_at dksJ23_find_5 6 rfl rfl)
theorem dJ23_find_122 : decode cJ23_find 122 = .ok (.istore 6, 2) := dk_54 6 (dk_at dksJ23_find_5 7 rfl rfl)
theorem dJ23_find_124 : decode cJ23_find 124 = .ok (.ifCond .eq 20, 3) := dk_153 0 20 (dk_at dksJ23_find_5 9 rfl rfl)
theorem dJ23_find_127 : decode cJ23_find 127 = .ok (.iload 6, 2) := dk_21 6 (dk_at dksJ23_find_5 12 rfl rfl)
theorem dJ23_find_129 : decode cJ23_find 129 = .ok (.ifCond .ge 8, 3) := dk_156 0 8 (dk_at dksJ23_find_5 14 rfl rfl)
theorem dJ23_find_132 : decode cJ23_find 132 = .ok (.aload 8, 2) := dk_25 8 (dk_at dksJ23_find_5 17 rfl rfl)
theorem dJ23_find_134 : decode cJ23_find 134 = .ok (.goto 5, 3) := dk_167 0 5 (dk_at dksJ23_find_5 19 rfl rfl)
theorem dJ23_find_137 : decode cJ23_find 137 = .ok (.aload 9, 2) := dk_25 9 (dk_at dksJ23_find_5 22 rfl rfl)
theorem dJ23_find_139 : decode cJ23_find 139 = .ok (.astore 4, 2) := dk_58 4 (dk_at dksJ23_find_6 0 rfl rfl)
theorem dJ23_find_141 : decode cJ23_find 141 = .ok (.goto 24, 3) := dk_167 0 24 (dk_at dksJ23_find_6 2 rfl rfl)
theorem dJ23_find_144 : decode cJ23_find 144 = .ok (.aload 9, 2) := dk_25 9 (dk_at dksJ23_find_6 5 rfl rfl)
theorem dJ23_find_146 : decode cJ23_find 146 = .ok (.iload_n 1, 1) := dk_27 (dk_at dksJ23_find_6 7 rfl rfl)
theorem dJ23_find_147 : decode cJ23_find 147 = .ok (.aload_n 2, 1) := dk_44 (dk_at dksJ23_find_6 8 rfl rfl)
theorem dJ23_find_148 : decode cJ23_find 148 = .ok (.aload_n 3, 1) := dk_45 (dk_at dksJ23_find_6 9 rfl rfl)
theorem dJ23_find_149 : decode cJ23_find 149 = .ok (.invokevirtual 63, 3) := dk_182 0 63 (dk_at dksJ23_find_6 10 rfl rfl)
theorem dJ23_find_152 : decode cJ23_find 152 = .ok (.dup, 1) := dk_89 (dk_at dksJ23_find_6 13 rfl rfl)
theorem dJ23_find_153 : decode cJ23_find 153 = .ok (.astore 10, 2) := dk_58 10 (dk_at dksJ23_find_6 14 rfl rfl)
theorem dJ23_find_155 : decode cJ23_find 155 = .ok (.ifnull 6, 3) := dk_198 0 6 (dk_at dksJ23_find_6 16 rfl rfl)
theorem dJ23_find_158 : decode cJ23_find 158 = .ok (.aload 10, 2) := dk_25 10 (dk_at dksJ23_find_6 19 rfl rfl)
theorem dJ23_find_160 : decode cJ23_find 160 = .ok (.areturn, 1) := dk_176 (dk_at dksJ23_find_6 21 rfl rfl)
theorem dJ23_find_161 : decode cJ23_find 161 = .ok (.aload 8, 2) := dk_25 8 (dk_at dksJ23_find_6 22 rfl rfl)
theorem dJ23_find_163 : decode cJ23_find 163 = .ok (.astore 4, 2) := dk_58 4 (dk_at dksJ23_find_7 0 rfl rfl)
theorem dJ23_find_165 : decode cJ23_find 165 = .ok (.aload 4, 2) := dk_25 4 (dk_at dksJ23_find_7 2 rfl rfl)
theorem dJ23_find_167 : decode cJ23_find 167 = .ok (.ifnonnull (-164), 3) := dk_199 255 92 (dk_at dksJ23_find_7 4 rfl rfl)
theorem dJ23_find_170 : decode cJ23_find 170 = .ok (.aconst_null, 1) := dk_1 (dk_at dksJ23_find_7 7 rfl rfl)
theorem dJ23_find_171 : decode cJ23_find 171 = .ok (.areturn, 1) := dk_176 (dk_at dksJ23_find_7 8 rfl rfl)
abbrev cJ23_init : ByteArray := prog_61_method_1_code
def yJ23_init : MethodName := ⟨RJ23, "<init>", "(ILjava/lang/Object;Ljava/lang/Object;Ljava/util/HashMap$Node;)V"⟩
def dkwJ23_init_0 : List UInt8 := [42, 27, 44, 45, 25, 4, 183, 0, 3, 177]
abbrev dktJ23_init_0 : List UInt8 := dkwJ23_init_0 ++ []
theorem dksJ23_init_0 : cJ23_init.data.toList.drop 0 = dktJ23_init_0 := by decide +kernel
theorem dJ23_init_0 : decode cJ23_init 0 = .ok (.aload_n 0, 1) := dk_42 (dk_at dksJ23_init_0 0 rfl rfl)
theorem dJ23_init_1 : decode cJ23_init 1 = .ok (.iload_n 1, 1) := dk_27 (dk_at dksJ23_init_0 1 rfl rfl)
theorem dJ23_init_2 : decode cJ23_init 2 = .ok (.aload_n 2, 1) := dk_44 (dk_at dksJ23_init_0 2 rfl rfl)
theorem dJ23_init_3 : decode cJ23_init 3 = .ok (.aload_n 3, 1) := dk_45 (dk_at dksJ23_init_0 3 rfl rfl)
theorem dJ23_init_4 : decode cJ23_init 4 = .ok (.aload 4, 2) := dk_25 4 (dk_at dksJ23_init_0 4 rfl rfl)
theorem dJ23_init_6 : decode cJ23_init 6 = .ok (.invokespecial 3, 3) := dk_183 0 3 (dk_at dksJ23_init_0 6 rfl rfl)
theorem dJ23_init_9 : decode cJ23_init 9 = .ok (.return_, 1) := dk_177 (dk_at dksJ23_init_0 9 rfl rfl)
abbrev cJ23_getTreeNode : ByteArray := prog_61_method_5_code
def yJ23_getTreeNode : MethodName := ⟨RJ23, "getTreeNode", "(ILjava/lang/Object;)Ljava/util/HashMap$TreeNode;"⟩
def dkwJ23_getTreeNode_0 : List UInt8 := [42, 180, 0, 9, 198, 0, 10, 42, 182, 0, 67, 167, 0, 4, 42, 27, 44, 1, 182, 0, 63, 176]
abbrev dktJ23_getTreeNode_0 : List UInt8 := dkwJ23_getTreeNode_0 ++ []
theorem dksJ23_getTreeNode_0 : cJ23_getTreeNode.data.toList.drop 0 = dktJ23_getTreeNode_0 := by decide +kernel
theorem dJ23_getTreeNode_0 : decode cJ23_getTreeNode 0 = .ok (.aload_n 0, 1) := dk_42 (dk_at dksJ23_getTreeNode_0 0 rfl rfl)
theorem dJ23_getTreeNode_1 : decode cJ23_getTreeNode 1 = .ok (.getfield 9, 3) := dk_180 0 9 (dk_at dksJ23_getTreeNode_0 1 rfl rfl)
theorem dJ23_getTreeNode_4 : decode cJ23_getTreeNode 4 = .ok (.ifnull 10, 3) := dk_198 0 10 (dk_at dksJ23_getTreeNode_0 4 rfl rfl)
theorem dJ23_getTreeNode_7 : decode cJ23_getTreeNode 7 = .ok (.aload_n 0, 1) := dk_42 (dk_at dksJ23_getTreeNode_0 7 rfl rfl)
theorem dJ23_getTreeNode_8 : decode cJ23_getTreeNode 8 = .ok (.invokevirtual 67, 3) := dk_182 0 67 (dk_at dksJ23_getTreeNode_0 8 rfl rfl)
theorem dJ23_getTreeNode_11 : decode cJ23_getTreeNode 11 = .ok (.goto 4, 3) := dk_167 0 4 (dk_at dksJ23_getTreeNode_0 11 rfl rfl)
theorem dJ23_getTreeNode_14 : decode cJ23_getTreeNode 14 = .ok (.aload_n 0, 1) := dk_42 (dk_at dksJ23_getTreeNode_0 14 rfl rfl)
theorem dJ23_getTreeNode_15 : decode cJ23_getTreeNode 15 = .ok (.iload_n 1, 1) := dk_27 (dk_at dksJ23_getTreeNode_0 15 rfl rfl)
theorem dJ23_getTreeNode_16 : decode cJ23_getTreeNode 16 = .ok (.aload_n 2, 1) := dk_44 (dk_at dksJ23_getTreeNode_0 16 rfl rfl)
theorem dJ23_getTreeNode_17 : decode cJ23_getTreeNode 17 = .ok (.aconst_null, 1) := dk_1 (dk_at dksJ23_getTreeNode_0 17 rfl rfl)
theorem dJ23_getTreeNode_18 : decode cJ23_getTreeNode 18 = .ok (.invokevirtual 63, 3) := dk_182 0 63 (dk_at dksJ23_getTreeNode_0 18 rfl rfl)
theorem dJ23_getTreeNode_21 : decode cJ23_getTreeNode 21 = .ok (.areturn, 1) := dk_176 (dk_at dksJ23_getTreeNode_0 21 rfl rfl)
theorem q201 : (Jvm.Cond.initialized "java/util/HashMap$TreeNode") ∈ lw_all := lw_g (lw_at lw_m1 35 rfl) rfl
theorem q959 : (Jvm.Cond.instanceMethod ({ cls := "java/util/HashMap$TreeNode", name := "split", desc := "(Ljava/util/HashMap;[Ljava/util/HashMap$Node;II)V" } : Jvm.MethodName)) ∈ lw_all := lw_g (lw_at lw_m4 73 rfl) rfl
theorem q960 : (Jvm.Cond.selects "java/util/HashMap$TreeNode" ({ cls := "java/util/HashMap$TreeNode", name := "split", desc := "(Ljava/util/HashMap;[Ljava/util/HashMap$Node;II)V" } : Jvm.MethodName) ({ cls := "java/util/HashMap$TreeNode", name := "split", desc := "(Ljava/util/HashMap;[Ljava/util/HashMap$Node;II)V" } : Jvm.MethodName)) ∈ lw_all := lw_g (lw_at lw_m4 74 rfl) rfl
theorem q961 : (Jvm.Cond.code ({ cls := "java/util/HashMap$TreeNode", name := "split", desc := "(Ljava/util/HashMap;[Ljava/util/HashMap$Node;II)V" } : Jvm.MethodName) prog_61_method_11_code (14 : Nat) (Option.none : Option Jvm.ClassFile.FieldType)) ∈ lw_all := lw_g (lw_at lw_m4 75 rfl) rfl
theorem q962 : (Jvm.Cond.classLink "java/util/HashMap$TreeNode" (10 : Nat) "java/util/HashMap$TreeNode") ∈ lw_all := lw_g (lw_at lw_m4 76 rfl) rfl
theorem q963 : (Jvm.Cond.methodLink "java/util/HashMap$TreeNode" (119 : Nat) ({ cls := "java/util/HashMap$TreeNode", name := "untreeify", desc := "(Ljava/util/HashMap;)Ljava/util/HashMap$Node;" } : Jvm.MethodName)) ∈ lw_all := lw_g (lw_at lw_m4 77 rfl) rfl
theorem q964 : (Jvm.Cond.instanceMethod ({ cls := "java/util/HashMap$TreeNode", name := "untreeify", desc := "(Ljava/util/HashMap;)Ljava/util/HashMap$Node;" } : Jvm.MethodName)) ∈ lw_all := lw_g (lw_at lw_m4 78 rfl) rfl
theorem q965 : (Jvm.Cond.selects "java/util/HashMap$TreeNode" ({ cls := "java/util/HashMap$TreeNode", name := "untreeify", desc := "(Ljava/util/HashMap;)Ljava/util/HashMap$Node;" } : Jvm.MethodName) ({ cls := "java/util/HashMap$TreeNode", name := "untreeify", desc := "(Ljava/util/HashMap;)Ljava/util/HashMap$Node;" } : Jvm.MethodName)) ∈ lw_all := lw_g (lw_at lw_m4 79 rfl) rfl
theorem q966 : (Jvm.Cond.code ({ cls := "java/util/HashMap$TreeNode", name := "untreeify", desc := "(Ljava/util/HashMap;)Ljava/util/HashMap$Node;" } : Jvm.MethodName) prog_61_method_8_code (6 : Nat) (Option.some (Jvm.ClassFile.FieldType.object "java/util/HashMap$Node"))) ∈ lw_all := lw_g (lw_at lw_m4 80 rfl) rfl
theorem q967 : (Jvm.Cond.methodLink "java/util/HashMap$TreeNode" (108 : Nat) ({ cls := "java/util/HashMap", name := "replacementNode", desc := "(Ljava/util/HashMap$Node;Ljava/util/HashMap$Node;)Ljava/util/HashMap$Node;" } : Jvm.MethodName)) ∈ lw_all := lw_g (lw_at lw_m4 81 rfl) rfl
theorem q977 : (Jvm.Cond.fieldLink "java/util/HashMap$TreeNode" (15 : Nat) "java/util/HashMap$TreeNode" "hash" "I") ∈ lw_all := lw_g (lw_at lw_m4 91 rfl) rfl
theorem q978 : (Jvm.Cond.sameField "java/util/HashMap$TreeNode" "java/util/HashMap$Node" "hash" "I") ∈ lw_all := lw_g (lw_at lw_m4 92 rfl) rfl
theorem q981 : (Jvm.Cond.fieldLink "java/util/HashMap$TreeNode" (45 : Nat) "java/util/HashMap$TreeNode" "key" "Ljava/lang/Object;") ∈ lw_all := lw_g (lw_at lw_m4 95 rfl) rfl
theorem q982 : (Jvm.Cond.sameField "java/util/HashMap$TreeNode" "java/util/HashMap$Node" "key" "Ljava/lang/Object;") ∈ lw_all := lw_g (lw_at lw_m4 96 rfl) rfl
theorem q987 : (Jvm.Cond.fieldLink "java/util/HashMap$TreeNode" (22 : Nat) "java/util/HashMap$TreeNode" "next" "Ljava/util/HashMap$Node;") ∈ lw_all := lw_g (lw_at lw_m4 101 rfl) rfl
theorem q988 : (Jvm.Cond.sameField "java/util/HashMap$TreeNode" "java/util/HashMap$Node" "next" "Ljava/util/HashMap$Node;") ∈ lw_all := lw_g (lw_at lw_m4 102 rfl) rfl
theorem q989 : (Jvm.Cond.fieldLink "java/util/HashMap$TreeNode" (112 : Nat) "java/util/HashMap$Node" "next" "Ljava/util/HashMap$Node;") ∈ lw_all := lw_g (lw_at lw_m4 103 rfl) rfl
theorem q1001 : (Jvm.Cond.methodLink "java/util/HashMap$TreeNode" (126 : Nat) ({ cls := "java/util/HashMap$TreeNode", name := "treeify", desc := "([Ljava/util/HashMap$Node;)V" } : Jvm.MethodName)) ∈ lw_all := lw_g (lw_at lw_m4 115 rfl) rfl
theorem q1002 : (Jvm.Cond.instanceMethod ({ cls := "java/util/HashMap$TreeNode", name := "treeify", desc := "([Ljava/util/HashMap$Node;)V" } : Jvm.MethodName)) ∈ lw_all := lw_g (lw_at lw_m4 116 rfl) rfl
theorem q1003 : (Jvm.Cond.selects "java/util/HashMap$TreeNode" ({ cls := "java/util/HashMap$TreeNode", name := "treeify", desc := "([Ljava/util/HashMap$Node;)V" } : Jvm.MethodName) ({ cls := "java/util/HashMap$TreeNode", name := "treeify", desc := "([Ljava/util/HashMap$Node;)V" } : Jvm.MethodName)) ∈ lw_all := lw_g (lw_at lw_m4 117 rfl) rfl
theorem q1004 : (Jvm.Cond.code ({ cls := "java/util/HashMap$TreeNode", name := "treeify", desc := "([Ljava/util/HashMap$Node;)V" } : Jvm.MethodName) prog_61_method_7_code (13 : Nat) (Option.none : Option Jvm.ClassFile.FieldType)) ∈ lw_all := lw_g (lw_at lw_m4 118 rfl) rfl
theorem q1005 : (Jvm.Cond.methodLink "java/util/HashMap$TreeNode" (55 : Nat) ({ cls := "java/util/HashMap", name := "comparableClassFor", desc := "(Ljava/lang/Object;)Ljava/lang/Class;" } : Jvm.MethodName)) ∈ lw_all := lw_g (lw_at lw_m4 119 rfl) rfl
theorem q1039 : (Jvm.Cond.selects "java/util/HashMap$TreeNode" ({ cls := "java/lang/Object", name := "getClass", desc := "()Ljava/lang/Class;" } : Jvm.MethodName) ({ cls := "java/lang/Object", name := "getClass", desc := "()Ljava/lang/Class;" } : Jvm.MethodName)) ∈ lw_all := lw_g (lw_at lw_m4 153 rfl) rfl
theorem q1044 : (Jvm.Cond.methodLink "java/util/HashMap$TreeNode" (59 : Nat) ({ cls := "java/util/HashMap", name := "compareComparables", desc := "(Ljava/lang/Class;Ljava/lang/Object;Ljava/lang/Object;)I" } : Jvm.MethodName)) ∈ lw_all := lw_g (lw_at lw_m4 158 rfl) rfl
theorem q1257 : (Jvm.Cond.methodLink "java/util/HashMap$TreeNode" (100 : Nat) ({ cls := "java/util/HashMap$TreeNode", name := "balanceInsertion", desc := "(Ljava/util/HashMap$TreeNode;Ljava/util/HashMap$TreeNode;)Ljava/util/HashMap$TreeNode;" } : Jvm.MethodName)) ∈ lw_all := lw_g (lw_at lw_m5 131 rfl) rfl
theorem q1258 : (Jvm.Cond.static ({ cls := "java/util/HashMap$TreeNode", name := "balanceInsertion", desc := "(Ljava/util/HashMap$TreeNode;Ljava/util/HashMap$TreeNode;)Ljava/util/HashMap$TreeNode;" } : Jvm.MethodName)) ∈ lw_all := lw_g (lw_at lw_m5 132 rfl) rfl
theorem q1259 : (Jvm.Cond.code ({ cls := "java/util/HashMap$TreeNode", name := "balanceInsertion", desc := "(Ljava/util/HashMap$TreeNode;Ljava/util/HashMap$TreeNode;)Ljava/util/HashMap$TreeNode;" } : Jvm.MethodName) prog_61_method_14_code (6 : Nat) (Option.some (Jvm.ClassFile.FieldType.object "java/util/HashMap$TreeNode"))) ∈ lw_all := lw_g (lw_at lw_m5 133 rfl) rfl
theorem q1260 : (Jvm.Cond.methodLink "java/util/HashMap$TreeNode" (130 : Nat) ({ cls := "java/util/HashMap$TreeNode", name := "rotateLeft", desc := "(Ljava/util/HashMap$TreeNode;Ljava/util/HashMap$TreeNode;)Ljava/util/HashMap$TreeNode;" } : Jvm.MethodName)) ∈ lw_all := lw_g (lw_at lw_m5 134 rfl) rfl
theorem q1261 : (Jvm.Cond.static ({ cls := "java/util/HashMap$TreeNode", name := "rotateLeft", desc := "(Ljava/util/HashMap$TreeNode;Ljava/util/HashMap$TreeNode;)Ljava/util/HashMap$TreeNode;" } : Jvm.MethodName)) ∈ lw_all := lw_g (lw_at lw_m5 135 rfl) rfl
theorem q1262 : (Jvm.Cond.code ({ cls := "java/util/HashMap$TreeNode", name := "rotateLeft", desc := "(Ljava/util/HashMap$TreeNode;Ljava/util/HashMap$TreeNode;)Ljava/util/HashMap$TreeNode;" } : Jvm.MethodName) prog_61_method_12_code (5 : Nat) (Option.some (Jvm.ClassFile.FieldType.object "java/util/HashMap$TreeNode"))) ∈ lw_all := lw_g (lw_at lw_m5 136 rfl) rfl
theorem q1263 : (Jvm.Cond.methodLink "java/util/HashMap$TreeNode" (133 : Nat) ({ cls := "java/util/HashMap$TreeNode", name := "rotateRight", desc := "(Ljava/util/HashMap$TreeNode;Ljava/util/HashMap$TreeNode;)Ljava/util/HashMap$TreeNode;" } : Jvm.MethodName)) ∈ lw_all := lw_g (lw_at lw_m5 137 rfl) rfl
theorem q1264 : (Jvm.Cond.static ({ cls := "java/util/HashMap$TreeNode", name := "rotateRight", desc := "(Ljava/util/HashMap$TreeNode;Ljava/util/HashMap$TreeNode;)Ljava/util/HashMap$TreeNode;" } : Jvm.MethodName)) ∈ lw_all := lw_g (lw_at lw_m5 138 rfl) rfl
theorem q1265 : (Jvm.Cond.code ({ cls := "java/util/HashMap$TreeNode", name := "rotateRight", desc := "(Ljava/util/HashMap$TreeNode;Ljava/util/HashMap$TreeNode;)Ljava/util/HashMap$TreeNode;" } : Jvm.MethodName) prog_61_method_13_code (5 : Nat) (Option.some (Jvm.ClassFile.FieldType.object "java/util/HashMap$TreeNode"))) ∈ lw_all := lw_g (lw_at lw_m5 139 rfl) rfl
theorem q1266 : (Jvm.Cond.methodLink "java/util/HashMap$TreeNode" (104 : Nat) ({ cls := "java/util/HashMap$TreeNode", name := "moveRootToFront", desc := "([Ljava/util/HashMap$Node;Ljava/util/HashMap$TreeNode;)V" } : Jvm.MethodName)) ∈ lw_all := lw_g (lw_at lw_m5 140 rfl) rfl
theorem q1267 : (Jvm.Cond.static ({ cls := "java/util/HashMap$TreeNode", name := "moveRootToFront", desc := "([Ljava/util/HashMap$Node;Ljava/util/HashMap$TreeNode;)V" } : Jvm.MethodName)) ∈ lw_all := lw_g (lw_at lw_m5 141 rfl) rfl
theorem q1268 : (Jvm.Cond.code ({ cls := "java/util/HashMap$TreeNode", name := "moveRootToFront", desc := "([Ljava/util/HashMap$Node;Ljava/util/HashMap$TreeNode;)V" } : Jvm.MethodName) prog_61_method_3_code (7 : Nat) (Option.none : Option Jvm.ClassFile.FieldType)) ∈ lw_all := lw_g (lw_at lw_m5 142 rfl) rfl
theorem q1269 : (Jvm.Cond.fieldLink "java/util/HashMap$TreeNode" (26 : Nat) "java/util/HashMap$TreeNode" "$assertionsDisabled" "Z") ∈ lw_all := lw_g (lw_at lw_m5 143 rfl) rfl
theorem q1270 : (Jvm.Cond.laysStatic "java/util/HashMap$TreeNode" "$assertionsDisabled" "Z") ∈ lw_tbl := lw_at lw_m5 144 rfl
theorem q1320 : (Jvm.Cond.instanceMethod ({ cls := "java/util/HashMap$TreeNode", name := "putTreeVal", desc := "(Ljava/util/HashMap;[Ljava/util/HashMap$Node;ILjava/lang/Object;Ljava/lang/Object;)Ljava/util/HashMap$TreeNode;" } : Jvm.MethodName)) ∈ lw_all := lw_g (lw_at lw_m5 194 rfl) rfl
theorem q1321 : (Jvm.Cond.selects "java/util/HashMap$TreeNode" ({ cls := "java/util/HashMap$TreeNode", name := "putTreeVal", desc := "(Ljava/util/HashMap;[Ljava/util/HashMap$Node;ILjava/lang/Object;Ljava/lang/Object;)Ljava/util/HashMap$TreeNode;" } : Jvm.MethodName) ({ cls := "java/util/HashMap$TreeNode", name := "putTreeVal", desc := "(Ljava/util/HashMap;[Ljava/util/HashMap$Node;ILjava/lang/Object;Ljava/lang/Object;)Ljava/util/HashMap$TreeNode;" } : Jvm.MethodName)) ∈ lw_all := lw_g (lw_at lw_m5 195 rfl) rfl
theorem q1322 : (Jvm.Cond.code ({ cls := "java/util/HashMap$TreeNode", name := "putTreeVal", desc := "(Ljava/util/HashMap;[Ljava/util/HashMap$Node;ILjava/lang/Object;Ljava/lang/Object;)Ljava/util/HashMap$TreeNode;" } : Jvm.MethodName) prog_61_method_9_code (16 : Nat) (Option.some (Jvm.ClassFile.FieldType.object "java/util/HashMap$TreeNode"))) ∈ lw_all := lw_g (lw_at lw_m5 196 rfl) rfl
theorem q1323 : (Jvm.Cond.methodLink "java/util/HashMap$TreeNode" (67 : Nat) ({ cls := "java/util/HashMap$TreeNode", name := "root", desc := "()Ljava/util/HashMap$TreeNode;" } : Jvm.MethodName)) ∈ lw_all := lw_g (lw_at lw_m5 197 rfl) rfl
theorem q1324 : (Jvm.Cond.instanceMethod ({ cls := "java/util/HashMap$TreeNode", name := "root", desc := "()Ljava/util/HashMap$TreeNode;" } : Jvm.MethodName)) ∈ lw_all := lw_g (lw_at lw_m5 198 rfl) rfl
theorem q1325 : (Jvm.Cond.selects "java/util/HashMap$TreeNode" ({ cls := "java/util/HashMap$TreeNode", name := "root", desc := "()Ljava/util/HashMap$TreeNode;" } : Jvm.MethodName) ({ cls := "java/util/HashMap$TreeNode", name := "root", desc := "()Ljava/util/HashMap$TreeNode;" } : Jvm.MethodName)) ∈ lw_all := lw_g (lw_at lw_m5 199 rfl) rfl
theorem q1326 : (Jvm.Cond.code ({ cls := "java/util/HashMap$TreeNode", name := "root", desc := "()Ljava/util/HashMap$TreeNode;" } : Jvm.MethodName) prog_61_method_2_code (3 : Nat) (Option.some (Jvm.ClassFile.FieldType.object "java/util/HashMap$TreeNode"))) ∈ lw_all := lw_g (lw_at lw_m5 200 rfl) rfl
theorem q1327 : (Jvm.Cond.methodLink "java/util/HashMap$TreeNode" (49 : Nat) ({ cls := "java/lang/Object", name := "equals", desc := "(Ljava/lang/Object;)Z" } : Jvm.MethodName)) ∈ lw_all := lw_g (lw_at lw_m5 201 rfl) rfl
theorem q1328 : (Jvm.Cond.methodLink "java/util/HashMap$TreeNode" (63 : Nat) ({ cls := "java/util/HashMap$TreeNode", name := "find", desc := "(ILjava/lang/Object;Ljava/lang/Class;)Ljava/util/HashMap$TreeNode;" } : Jvm.MethodName)) ∈ lw_all := lw_g (lw_at lw_m5 202 rfl) rfl
theorem q1329 : (Jvm.Cond.instanceMethod ({ cls := "java/util/HashMap$TreeNode", name := "find", desc := "(ILjava/lang/Object;Ljava/lang/Class;)Ljava/util/HashMap$TreeNode;" } : Jvm.MethodName)) ∈ lw_all := lw_g (lw_at lw_m5 203 rfl) rfl
theorem q1330 : (Jvm.Cond.selects "java/util/HashMap$TreeNode" ({ cls := "java/util/HashMap$TreeNode", name := "find", desc := "(ILjava/lang/Object;Ljava/lang/Class;)Ljava/util/HashMap$TreeNode;" } : Jvm.MethodName) ({ cls := "java/util/HashMap$TreeNode", name := "find", desc := "(ILjava/lang/Object;Ljava/lang/Class;)Ljava/util/HashMap$TreeNode;" } : Jvm.MethodName)) ∈ lw_all := lw_g (lw_at lw_m5 204 rfl) rfl
theorem q1331 : (Jvm.Cond.code ({ cls := "java/util/HashMap$TreeNode", name := "find", desc := "(ILjava/lang/Object;Ljava/lang/Class;)Ljava/util/HashMap$TreeNode;" } : Jvm.MethodName) prog_61_method_4_code (11 : Nat) (Option.some (Jvm.ClassFile.FieldType.object "java/util/HashMap$TreeNode"))) ∈ lw_all := lw_g (lw_at lw_m5 205 rfl) rfl
theorem q1332 : (Jvm.Cond.methodLink "java/util/HashMap$TreeNode" (115 : Nat) ({ cls := "java/util/HashMap", name := "newTreeNode", desc := "(ILjava/lang/Object;Ljava/lang/Object;Ljava/util/HashMap$Node;)Ljava/util/HashMap$TreeNode;" } : Jvm.MethodName)) ∈ lw_all := lw_g (lw_at lw_m5 206 rfl) rfl
theorem q1336 : (Jvm.Cond.instantiable "java/util/HashMap$TreeNode" (11 : Nat)) ∈ lw_all := lw_g (lw_at lw_m5 210 rfl) rfl
theorem q1338 : (Jvm.Cond.instanceMethod ({ cls := "java/util/HashMap$TreeNode", name := "<init>", desc := "(ILjava/lang/Object;Ljava/lang/Object;Ljava/util/HashMap$Node;)V" } : Jvm.MethodName)) ∈ lw_all := lw_g (lw_at lw_m5 212 rfl) rfl
theorem q1339 : (Jvm.Cond.code ({ cls := "java/util/HashMap$TreeNode", name := "<init>", desc := "(ILjava/lang/Object;Ljava/lang/Object;Ljava/util/HashMap$Node;)V" } : Jvm.MethodName) prog_61_method_1_code (5 : Nat) (Option.none : Option Jvm.ClassFile.FieldType)) ∈ lw_all := lw_g (lw_at lw_m5 213 rfl) rfl
theorem q1340 : (Jvm.Cond.methodLink "java/util/HashMap$TreeNode" (3 : Nat) ({ cls := "java/util/LinkedHashMap$Entry", name := "<init>", desc := "(ILjava/lang/Object;Ljava/lang/Object;Ljava/util/HashMap$Node;)V" } : Jvm.MethodName)) ∈ lw_all := lw_g (lw_at lw_m5 214 rfl) rfl
theorem q1344 : (Jvm.Cond.fieldLink "java/util/HashMap$TreeNode" (9 : Nat) "java/util/HashMap$TreeNode" "parent" "Ljava/util/HashMap$TreeNode;") ∈ lw_all := lw_g (lw_at lw_m5 218 rfl) rfl
theorem q1345 : (Jvm.Cond.fieldLink "java/util/HashMap$TreeNode" (39 : Nat) "java/util/HashMap$TreeNode" "left" "Ljava/util/HashMap$TreeNode;") ∈ lw_all := lw_g (lw_at lw_m5 219 rfl) rfl
theorem q1346 : (Jvm.Cond.fieldLink "java/util/HashMap$TreeNode" (42 : Nat) "java/util/HashMap$TreeNode" "right" "Ljava/util/HashMap$TreeNode;") ∈ lw_all := lw_g (lw_at lw_m5 220 rfl) rfl
theorem q1347 : (Jvm.Cond.fieldLink "java/util/HashMap$TreeNode" (19 : Nat) "java/util/HashMap$TreeNode" "prev" "Ljava/util/HashMap$TreeNode;") ∈ lw_all := lw_g (lw_at lw_m5 221 rfl) rfl
theorem q1349 : (Jvm.Cond.fieldLink "java/util/HashMap$TreeNode" (93 : Nat) "java/util/HashMap$TreeNode" "red" "Z") ∈ lw_all := lw_g (lw_at lw_m5 223 rfl) rfl
theorem q1350 : (Jvm.Cond.lays "java/util/HashMap$TreeNode" "java/util/HashMap$TreeNode" "parent" "Ljava/util/HashMap$TreeNode;") ∈ lw_all := lw_g (lw_at lw_m5 224 rfl) rfl
theorem q1351 : (Jvm.Cond.soleField "java/util/HashMap$TreeNode" "parent") ∈ lw_all := lw_g (lw_at lw_m5 225 rfl) rfl
theorem q1352 : (Jvm.Cond.lays "java/util/HashMap$TreeNode" "java/util/HashMap$TreeNode" "left" "Ljava/util/HashMap$TreeNode;") ∈ lw_all := lw_g (lw_at lw_m5 226 rfl) rfl
theorem q1353 : (Jvm.Cond.soleField "java/util/HashMap$TreeNode" "left") ∈ lw_all := lw_g (lw_at lw_m5 227 rfl) rfl
theorem q1354 : (Jvm.Cond.lays "java/util/HashMap$TreeNode" "java/util/HashMap$TreeNode" "right" "Ljava/util/HashMap$TreeNode;") ∈ lw_all := lw_g (lw_at lw_m5 228 rfl) rfl
theorem q1355 : (Jvm.Cond.soleField "java/util/HashMap$TreeNode" "right") ∈ lw_all := lw_g (lw_at lw_m5 229 rfl) rfl
theorem q1356 : (Jvm.Cond.lays "java/util/HashMap$TreeNode" "java/util/HashMap$TreeNode" "prev" "Ljava/util/HashMap$TreeNode;") ∈ lw_all := lw_g (lw_at lw_m5 230 rfl) rfl
theorem q1357 : (Jvm.Cond.soleField "java/util/HashMap$TreeNode" "prev") ∈ lw_all := lw_g (lw_at lw_m5 231 rfl) rfl
theorem q1358 : (Jvm.Cond.lays "java/util/HashMap$TreeNode" "java/util/HashMap$TreeNode" "red" "Z") ∈ lw_all := lw_g (lw_at lw_m5 232 rfl) rfl
theorem q1359 : (Jvm.Cond.soleField "java/util/HashMap$TreeNode" "red") ∈ lw_all := lw_g (lw_at lw_m5 233 rfl) rfl
theorem q1360 : (Jvm.Cond.lays "java/util/HashMap$TreeNode" "java/util/LinkedHashMap$Entry" "before" "Ljava/util/LinkedHashMap$Entry;") ∈ lw_all := lw_g (lw_at lw_m5 234 rfl) rfl
theorem q1362 : (Jvm.Cond.lays "java/util/HashMap$TreeNode" "java/util/LinkedHashMap$Entry" "after" "Ljava/util/LinkedHashMap$Entry;") ∈ lw_all := lw_g (lw_at lw_m5 236 rfl) rfl
theorem q1364 : (Jvm.Cond.laysFinal "java/util/HashMap$TreeNode" "java/util/HashMap$Node" "hash" "I") ∈ lw_all := lw_g (lw_at lw_m5 238 rfl) rfl
theorem q1365 : (Jvm.Cond.laysFinal "java/util/HashMap$TreeNode" "java/util/HashMap$Node" "key" "Ljava/lang/Object;") ∈ lw_all := lw_g (lw_at lw_m5 239 rfl) rfl
theorem q1366 : (Jvm.Cond.lays "java/util/HashMap$TreeNode" "java/util/HashMap$Node" "value" "Ljava/lang/Object;") ∈ lw_all := lw_g (lw_at lw_m6 0 rfl) rfl
theorem q1367 : (Jvm.Cond.lays "java/util/HashMap$TreeNode" "java/util/HashMap$Node" "next" "Ljava/util/HashMap$Node;") ∈ lw_all := lw_g (lw_at lw_m6 1 rfl) rfl
theorem q1368 : (Jvm.Cond.superclass "java/util/HashMap$TreeNode" "java/util/LinkedHashMap$Entry") ∈ lw_all := lw_g (lw_at lw_m6 2 rfl) rfl
theorem q1760 : (Jvm.Cond.instanceMethod ({ cls := "java/util/HashMap$TreeNode", name := "getTreeNode", desc := "(ILjava/lang/Object;)Ljava/util/HashMap$TreeNode;" } : Jvm.MethodName)) ∈ lw_all := lw_g (lw_at lw_m7 154 rfl) rfl
theorem q1761 : (Jvm.Cond.selects "java/util/HashMap$TreeNode" ({ cls := "java/util/HashMap$TreeNode", name := "getTreeNode", desc := "(ILjava/lang/Object;)Ljava/util/HashMap$TreeNode;" } : Jvm.MethodName) ({ cls := "java/util/HashMap$TreeNode", name := "getTreeNode", desc := "(ILjava/lang/Object;)Ljava/util/HashMap$TreeNode;" } : Jvm.MethodName)) ∈ lw_all := lw_g (lw_at lw_m7 155 rfl) rfl
theorem q1762 : (Jvm.Cond.code ({ cls := "java/util/HashMap$TreeNode", name := "getTreeNode", desc := "(ILjava/lang/Object;)Ljava/util/HashMap$TreeNode;" } : Jvm.MethodName) prog_61_method_5_code (3 : Nat) (Option.some (Jvm.ClassFile.FieldType.object "java/util/HashMap$TreeNode"))) ∈ lw_all := lw_g (lw_at lw_m7 156 rfl) rfl
theorem q3534 : (Jvm.Cond.castable "java/util/HashMap$TreeNode" "java/lang/Object") ∈ lw_tbl := lw_at lw_m15 8 rfl
theorem q3545 : (Jvm.Cond.castable "java/util/HashMap$TreeNode" "java/util/HashMap$Node") ∈ lw_tbl := lw_at lw_m15 19 rfl
theorem in_J23 : ∀ w ∈ wsJ230, w ∈ lw_all := lw_in wsJ230 [1360, 1362, 1364, 1365, 1366, 1367, 1350, 1352, 1354, 1356, 1358] (by decide +kernel) (by decide +kernel)
/-! java/util/Arrays -/
set_option maxRecDepth 100000
def RJ26 : String := "java/util/Arrays"
abbrev cJ26_copyOf : ByteArray := prog_57_method_121_code
def yJ26_copyOf : MethodName := ⟨RJ26, "copyOf", "([BI)[B"⟩
def dkwJ26_copyOf_1 : List UInt8 := [27, 184, 1, 48, 184, 0, 150, 44, 176]
abbrev dktJ26_copyOf_1 : List UInt8 := dkwJ26_copyOf_1 ++ []
def dkwJ26_copyOf_0 : List UInt8 := [27, 42, 190, 160, 0, 11, 42, 182, 1, 54, 192, 1, 55, 176, 27, 188, 8, 77, 42, 3, 44, 3, 42, 190]
abbrev dktJ26_copyOf_0 : List UInt8 := dkwJ26_copyOf_0 ++ dktJ26_copyOf_1
theorem dksJ26_copyOf_0 : cJ26_copyOf.data.toList.drop 0 = dktJ26_copyOf_0 := by decide +kernel
theorem dksJ26_copyOf_1 : cJ26_copyOf.data.toList.drop 24 = dktJ26_copyOf_1 := dk_seg dksJ26_copyOf_0 24 rfl rfl
theorem dJ26_copyOf_0 : decode cJ26_copyOf 0 = .ok (.iload_n 1, 1) := dk_27 (dk_at dksJ26_copyOf_0 0 rfl rfl)
theorem dJ26_copyOf_1 : decode cJ26_copyOf 1 = .ok (.aload_n 0, 1) := dk_42 (dk_at dksJ26_copyOf_0 1 rfl rfl)
theorem dJ26_copyOf_2 : decode cJ26_copyOf 2 = .ok (.arraylength, 1) := dk_190 (dk_at dksJ26_copyOf_0 2 rfl rfl)
theorem dJ26_copyOf_3 : decode cJ26_copyOf 3 = .ok (.if_icmp .ne 11, 3) := dk_160 0 11 (dk_at dksJ26_copyOf_0 3 rfl rfl)
theorem dJ26_copyOf_6 : decode cJ26_copyOf 6 = .ok (.aload_n 0, 1) := dk_42 (dk_at dksJ26_copyOf_0 6 rfl rfl)
theorem dJ26_copyOf_7 : decode cJ26_copyOf 7 = .ok (.invokevirtual 310, 3) := dk_182 1 54 (dk_at dksJ26_copyOf_0 7 rfl rfl)
theorem dJ26_copyOf_10 : decode cJ26_copyOf 10 = .ok (.checkcast 311, 3) := dk_192 1 55 (dk_at dksJ26_copyOf_0 10 rfl rfl)
theorem dJ26_copyOf_13 : decode cJ26_copyOf 13 = .ok (.areturn, 1) := dk_176 (dk_at dksJ26_copyOf_0 13 rfl rfl)
theorem dJ26_copyOf_14 : decode cJ26_copyOf 14 = .ok (.iload_n 1, 1) := dk_27 (dk_at dksJ26_copyOf_0 14 rfl rfl)
theorem dJ26_copyOf_15 : decode cJ26_copyOf 15 = .ok (.newarray .byte, 2) := dk_188_8 (dk_at dksJ26_copyOf_0 15 rfl rfl)
theorem dJ26_copyOf_17 : decode cJ26_copyOf 17 = .ok (.astore_n 2, 1) := dk_77 (dk_at dksJ26_copyOf_0 17 rfl rfl)
theorem dJ26_copyOf_18 : decode cJ26_copyOf 18 = .ok (.aload_n 0, 1) := dk_42 (dk_at dksJ26_copyOf_0 18 rfl rfl)
theorem dJ26_copyOf_19 : decode cJ26_copyOf 19 = .ok (.iconst 0, 1) := dk_3 (dk_at dksJ26_copyOf_0 19 rfl rfl)
theorem dJ26_copyOf_20 : decode cJ26_copyOf 20 = .ok (.aload_n 2, 1) := dk_44 (dk_at dksJ26_copyOf_0 20 rfl rfl)
theorem dJ26_copyOf_21 : decode cJ26_copyOf 21 = .ok (.iconst 0, 1) := dk_3 (dk_at dksJ26_copyOf_0 21 rfl rfl)
theorem dJ26_copyOf_22 : decode cJ26_copyOf 22 = .ok (.aload_n 0, 1) := dk_42 (dk_at dksJ26_copyOf_0 22 rfl rfl)
theorem dJ26_copyOf_23 : decode cJ26_copyOf 23 = .ok (.arraylength, 1) := dk_190 (dk_at dksJ26_copyOf_0 23 rfl rfl)
theorem dJ26_copyOf_24 : decode cJ26_copyOf 24 = .ok (.iload_n 1, 1) := dk_27 (dk_at dksJ26_copyOf_1 0 rfl rfl)
theorem dJ26_copyOf_25 : decode cJ26_copyOf 25 = .ok (.invokestatic 304, 3) := dk_184 1 48 (dk_at dksJ26_copyOf_1 1 rfl rfl)
theorem dJ26_copyOf_28 : decode cJ26_copyOf 28 = .ok (.invokestatic 150, 3) := dk_184 0 150 (dk_at dksJ26_copyOf_1 4 rfl rfl)
theorem dJ26_copyOf_31 : decode cJ26_copyOf 31 = .ok (.aload_n 2, 1) := dk_44 (dk_at dksJ26_copyOf_1 7 rfl rfl)
theorem dJ26_copyOf_32 : decode cJ26_copyOf 32 = .ok (.areturn, 1) := dk_176 (dk_at dksJ26_copyOf_1 8 rfl rfl)
abbrev cJ26_copyOfRange : ByteArray := prog_57_method_132_code
def yJ26_copyOfRange : MethodName := ⟨RJ26, "copyOfRange", "([BII)[B"⟩
def dkwJ26_copyOfRange_1 : List UInt8 := [176]
abbrev dktJ26_copyOfRange_1 : List UInt8 := dkwJ26_copyOfRange_1 ++ []
def dkwJ26_copyOfRange_0 : List UInt8 := [27, 154, 0, 9, 28, 42, 190, 159, 0, 10, 42, 27, 28, 184, 1, 83, 176, 42, 182, 1, 54, 192, 1, 55]
abbrev dktJ26_copyOfRange_0 : List UInt8 := dkwJ26_copyOfRange_0 ++ dktJ26_copyOfRange_1
theorem dksJ26_copyOfRange_0 : cJ26_copyOfRange.data.toList.drop 0 = dktJ26_copyOfRange_0 := by decide +kernel
theorem dksJ26_copyOfRange_1 : cJ26_copyOfRange.data.toList.drop 24 = dktJ26_copyOfRange_1 := dk_seg dksJ26_copyOfRange_0 24 rfl rfl
theorem dJ26_copyOfRange_0 : decode cJ26_copyOfRange 0 = .ok (.iload_n 1, 1) := dk_27 (dk_at dksJ26_copyOfRange_0 0 rfl rfl)
theorem dJ26_copyOfRange_1 : decode cJ26_copyOfRange 1 = .ok (.ifCond .ne 9, 3) := dk_154 0 9 (dk_at dksJ26_copyOfRange_0 1 rfl rfl)
theorem dJ26_copyOfRange_4 : decode cJ26_copyOfRange 4 = .ok (.iload_n 2, 1) := dk_28 (dk_at dksJ26_copyOfRange_0 4 rfl rfl)
theorem dJ26_copyOfRange_5 : decode cJ26_copyOfRange 5 = .ok (.aload_n 0, 1) := dk_42 (dk_at dksJ26_copyOfRange_0 5 rfl rfl)
theorem dJ26_copyOfRange_6 : decode cJ26_copyOfRange 6 = .ok (.arraylength, 1) := dk_190 (dk_at dksJ26_copyOfRange_0 6 rfl rfl)
theorem dJ26_copyOfRange_7 : decode cJ26_copyOfRange 7 = .ok (.if_icmp .eq 10, 3) := dk_159 0 10 (dk_at dksJ26_copyOfRange_0 7 rfl rfl)
theorem dJ26_copyOfRange_10 : decode cJ26_copyOfRange 10 = .ok (.aload_n 0, 1) := dk_42 (dk_at dksJ26_copyOfRange_0 10 rfl rfl)
theorem dJ26_copyOfRange_11 : decode cJ26_copyOfRange 11 = .ok (.iload_n 1, 1) := dk_27 (dk_at dksJ26_copyOfRange_0 11 rfl rfl)
theorem dJ26_copyOfRange_12 : decode cJ26_copyOfRange 12 = .ok (.iload_n 2, 1) := dk_28 (dk_at dksJ26_copyOfRange_0 12 rfl rfl)
theorem dJ26_copyOfRange_13 : decode cJ26_copyOfRange 13 = .ok (.invokestatic 339, 3) := dk_184 1 83 (dk_at dksJ26_copyOfRange_0 13 rfl rfl)
theorem dJ26_copyOfRange_16 : decode cJ26_copyOfRange 16 = .ok (.areturn, 1) := dk_176 (dk_at dksJ26_copyOfRange_0 16 rfl rfl)
theorem dJ26_copyOfRange_17 : decode cJ26_copyOfRange 17 = .ok (.aload_n 0, 1) := dk_42 (dk_at dksJ26_copyOfRange_0 17 rfl rfl)
theorem dJ26_copyOfRange_18 : decode cJ26_copyOfRange 18 = .ok (.invokevirtual 310, 3) := dk_182 1 54 (dk_at dksJ26_copyOfRange_0 18 rfl rfl)
theorem dJ26_copyOfRange_21 : decode cJ26_copyOfRange 21 = .ok (.checkcast 311, 3) := dk_192 1 55 (dk_at dksJ26_copyOfRange_0 21 rfl rfl)
theorem dJ26_copyOfRange_24 : decode cJ26_copyOfRange 24 = .ok (.areturn, 1) := dk_176 (dk_at dksJ26_copyOfRange_1 0 rfl rfl)
abbrev cJ26_copyOfRangeByte : ByteArray := prog_57_method_133_code
def yJ26_copyOfRangeByte : MethodName := ⟨RJ26, "copyOfRangeByte", "([BII)[B"⟩
def dkwJ26_copyOfRangeByte_1 : List UInt8 := [184, 1, 48, 184, 0, 150, 25, 4, 176]
abbrev dktJ26_copyOfRangeByte_1 : List UInt8 := dkwJ26_copyOfRangeByte_1 ++ []
def dkwJ26_copyOfRangeByte_0 : List UInt8 := [27, 28, 184, 1, 87, 28, 27, 100, 62, 29, 188, 8, 58, 4, 42, 27, 25, 4, 3, 42, 190, 27, 100, 29]
abbrev dktJ26_copyOfRangeByte_0 : List UInt8 := dkwJ26_copyOfRangeByte_0 ++ dktJ26_copyOfRangeByte_1
theorem dksJ26_copyOfRangeByte_0 : cJ26_copyOfRangeByte.data.toList.drop 0 = dktJ26_copyOfRangeByte_0 := by decide +kernel
theorem dksJ26_copyOfRangeByte_1 : cJ26_copyOfRangeByte.data.toList.drop 24 = dktJ26_copyOfRangeByte_1 := dk_seg dksJ26_copyOfRangeByte_0 24 rfl rfl
theorem dJ26_copyOfRangeByte_0 : decode cJ26_copyOfRangeByte 0 = .ok (.iload_n 1, 1) := dk_27 (dk_at dksJ26_copyOfRangeByte_0 0 rfl rfl)
theorem dJ26_copyOfRangeByte_1 : decode cJ26_copyOfRangeByte 1 = .ok (.iload_n 2, 1) := dk_28 (dk_at dksJ26_copyOfRangeByte_0 1 rfl rfl)
theorem dJ26_copyOfRangeByte_2 : decode cJ26_copyOfRangeByte 2 = .ok (.invokestatic 343, 3) := dk_184 1 87 (dk_at dksJ26_copyOfRangeByte_0 2 rfl rfl)
theorem dJ26_copyOfRangeByte_5 : decode cJ26_copyOfRangeByte 5 = .ok (.iload_n 2, 1) := dk_28 (dk_at dksJ26_copyOfRangeByte_0 5 rfl rfl)
theorem dJ26_copyOfRangeByte_6 : decode cJ26_copyOfRangeByte 6 = .ok (.iload_n 1, 1) := dk_27 (dk_at dksJ26_copyOfRangeByte_0 6 rfl rfl)
theorem dJ26_copyOfRangeByte_7 : decode cJ26_copyOfRangeByte 7 = .ok (.isub, 1) := dk_100 (dk_at dksJ26_copyOfRangeByte_0 7 rfl rfl)
theorem dJ26_copyOfRangeByte_8 : decode cJ26_copyOfRangeByte 8 = .ok (.istore_n 3, 1) := dk_62 (dk_at dksJ26_copyOfRangeByte_0 8 rfl rfl)
theorem dJ26_copyOfRangeByte_9 : decode cJ26_copyOfRangeByte 9 = .ok (.iload_n 3, 1) := dk_29 (dk_at dksJ26_copyOfRangeByte_0 9 rfl rfl)
theorem dJ26_copyOfRangeByte_10 : decode cJ26_copyOfRangeByte 10 = .ok (.newarray .byte, 2) := dk_188_8 (dk_at dksJ26_copyOfRangeByte_0 10 rfl rfl)
theorem dJ26_copyOfRangeByte_12 : decode cJ26_copyOfRangeByte 12 = .ok (.astore 4, 2) := dk_58 4 (dk_at dksJ26_copyOfRangeByte_0 12 rfl rfl)
theorem dJ26_copyOfRangeByte_14 : decode cJ26_copyOfRangeByte 14 = .ok (.aload_n 0, 1) := dk_42 (dk_at dksJ26_copyOfRangeByte_0 14 rfl rfl)
theorem dJ26_copyOfRangeByte_15 : decode cJ26_copyOfRangeByte 15 = .ok (.iload_n 1, 1) := dk_27 (dk_at dksJ26_copyOfRangeByte_0 15 rfl rfl)
theorem dJ26_copyOfRangeByte_16 : decode cJ26_copyOfRangeByte 16 = .ok (.aload 4, 2) := dk_25 4 (dk_at dksJ26_copyOfRangeByte_0 16 rfl rfl)
theorem dJ26_copyOfRangeByte_18 : decode cJ26_copyOfRangeByte 18 = .ok (.iconst 0, 1) := dk_3 (dk_at dksJ26_copyOfRangeByte_0 18 rfl rfl)
theorem dJ26_copyOfRangeByte_19 : decode cJ26_copyOfRangeByte 19 = .ok (.aload_n 0, 1) := dk_42 (dk_at dksJ26_copyOfRangeByte_0 19 rfl rfl)
theorem dJ26_copyOfRangeByte_20 : decode cJ26_copyOfRangeByte 20 = .ok (.arraylength, 1) := dk_190 (dk_at dksJ26_copyOfRangeByte_0 20 rfl rfl)
theorem dJ26_copyOfRangeByte_21 : decode cJ26_copyOfRangeByte 21 = .ok (.iload_n 1, 1) := dk_27 (dk_at dksJ26_copyOfRangeByte_0 21 rfl rfl)
theorem dJ26_copyOfRangeByte_22 : decode cJ26_copyOfRangeByte 22 = .ok (.isub, 1) := dk_100 (dk_at dksJ26_copyOfRangeByte_0 22 rfl rfl)
theorem dJ26_copyOfRangeByte_23 : decode cJ26_copyOfRangeByte 23 = .ok (.iload_n 3, 1) := dk_29 (dk_at dksJ26_copyOfRangeByte_0 23 rfl rfl)
theorem dJ26_copyOfRangeByte_24 : decode cJ26_copyOfRangeByte 24 = .ok (.invokestatic 304, 3) := dk_184 1 48 (dk_at dksJ26_copyOfRangeByte_1 0 rfl rfl)
theorem dJ26_copyOfRangeByte_27 : decode cJ26_copyOfRangeByte 27 = .ok (.invokestatic 150, 3) := dk_184 0 150 (dk_at dksJ26_copyOfRangeByte_1 3 rfl rfl)
theorem dJ26_copyOfRangeByte_30 : decode cJ26_copyOfRangeByte 30 = .ok (.aload 4, 2) := dk_25 4 (dk_at dksJ26_copyOfRangeByte_1 6 rfl rfl)
theorem dJ26_copyOfRangeByte_32 : decode cJ26_copyOfRangeByte 32 = .ok (.areturn, 1) := dk_176 (dk_at dksJ26_copyOfRangeByte_1 8 rfl rfl)
abbrev cJ26_checkLength : ByteArray := prog_57_method_131_code
def yJ26_checkLength : MethodName := ⟨RJ26, "checkLength", "(II)V"⟩
def dkwJ26_checkLength_1 : List UInt8 := [182, 0, 50, 27, 182, 0, 54, 182, 0, 61, 183, 0, 65, 191, 177]
abbrev dktJ26_checkLength_1 : List UInt8 := dkwJ26_checkLength_1 ++ []
def dkwJ26_checkLength_0 : List UInt8 := [27, 26, 162, 0, 35, 187, 0, 43, 89, 187, 0, 45, 89, 183, 0, 47, 26, 182, 0, 54, 19, 1, 81]
abbrev dktJ26_checkLength_0 : List UInt8 := dkwJ26_checkLength_0 ++ dktJ26_checkLength_1
theorem dksJ26_checkLength_0 : cJ26_checkLength.data.toList.drop 0 = dktJ26_checkLength_0 := by decide +kernel
theorem dksJ26_checkLength_1 : cJ26_checkLength.data.toList.drop 23 = dktJ26_checkLength_1 := dk_seg dksJ26_checkLength_0 23 rfl rfl
theorem dJ26_checkLength_0 : decode cJ26_checkLength 0 = .ok (.iload_n 1, 1) := dk_27 (dk_at dksJ26_checkLength_0 0 rfl rfl)
theorem dJ26_checkLength_1 : decode cJ26_checkLength 1 = .ok (.iload_n 0, 1) := dk_26 (dk_at dksJ26_checkLength_0 1 rfl rfl)
theorem dJ26_checkLength_2 : decode cJ26_checkLength 2 = .ok (.if_icmp .ge 35, 3) := dk_162 0 35 (dk_at dksJ26_checkLength_0 2 rfl rfl)
theorem dJ26_checkLength_5 : decode cJ26_checkLength 5 = .ok (.new 43, 3) := dk_187 0 43 (dk_at dksJ26_checkLength_0 5 rfl rfl)
theorem dJ26_checkLength_8 : decode cJ26_checkLength 8 = .ok (.dup, 1) := dk_89 (dk_at dksJ26_checkLength_0 8 rfl rfl)
theorem dJ26_checkLength_9 : decode cJ26_checkLength 9 = .ok (.new 45, 3) := dk_187 0 45 (dk_at dksJ26_checkLength_0 9 rfl rfl)
theorem dJ26_checkLength_12 : decode cJ26_checkLength 12 = .ok (.dup, 1) := dk_89 (dk_at dksJ26_checkLength_0 12 rfl rfl)
theorem dJ26_checkLength_13 : decode cJ26_checkLength 13 = .ok (.invokespecial 47, 3) := dk_183 0 47 (dk_at dksJ26_checkLength_0 13 rfl rfl)
theorem dJ26_checkLength_16 : decode cJ26_checkLength 16 = .ok (.iload_n 0, 1) := dk_26 (dk_at dksJ26_checkLength_0 16 rfl rfl)
theorem dJ26_checkLength_17 : decode cJ26_checkLength 17 = .ok (.invokevirtual 54, 3) := dk_182 0 54 (dk_at dksJ26_checkLength_0 17 rfl rfl)
theorem dJ26_checkLength_20 : decode cJ26_checkLength 20 = .ok (.ldc_w 337, 3) := dk_19 1 81 (dk_at dksJ26_checkLength_0 20 rfl rfl)
theorem dJ26_checkLength_23 : decode cJ26_checkLength 23 = .ok (.invokevirtual 50, 3) := dk_182 0 50 (dk_at dksJ26_checkLength_1 0 rfl rfl)
theorem dJ26_checkLength_26 : decode cJ26_checkLength 26 = .ok (.iload_n 1, 1) := dk_27 (dk_at dksJ26_checkLength_1 3 rfl rfl)
theorem dJ26_checkLength_27 : decode cJ26_checkLength 27 = .ok (.invokevirtual 54, 3) := dk_182 0 54 (dk_at dksJ26_checkLength_1 4 rfl rfl)
theorem dJ26_checkLength_30 : decode cJ26_checkLength 30 = .ok (.invokevirtual 61, 3) := dk_182 0 61 (dk_at dksJ26_checkLength_1 7 rfl rfl)
theorem dJ26_checkLength_33 : decode cJ26_checkLength 33 = .ok (.invokespecial 65, 3) := dk_183 0 65 (dk_at dksJ26_checkLength_1 10 rfl rfl)
theorem dJ26_checkLength_36 : decode cJ26_checkLength 36 = .ok (.athrow, 1) := dk_191 (dk_at dksJ26_checkLength_1 13 rfl rfl)
theorem dJ26_checkLength_37 : decode cJ26_checkLength 37 = .ok (.return_, 1) := dk_177 (dk_at dksJ26_checkLength_1 14 rfl rfl)
abbrev cJ26_fill : ByteArray := prog_57_method_110_code
def yJ26_fill : MethodName := ⟨RJ26, "fill", "([BIIB)V"⟩
def dkwJ26_fill_1 : List UInt8 := [167, 255, 242, 177]
abbrev dktJ26_fill_1 : List UInt8 := dkwJ26_fill_1 ++ []
def dkwJ26_fill_0 : List UInt8 := [42, 190, 27, 28, 184, 0, 13, 27, 54, 4, 21, 4, 28, 162, 0, 14, 42, 21, 4, 29, 84, 132, 4, 1]
abbrev dktJ26_fill_0 : List UInt8 := dkwJ26_fill_0 ++ dktJ26_fill_1
theorem dksJ26_fill_0 : cJ26_fill.data.toList.drop 0 = dktJ26_fill_0 := by decide +kernel
theorem dksJ26_fill_1 : cJ26_fill.data.toList.drop 24 = dktJ26_fill_1 := dk_seg dksJ26_fill_0 24 rfl rfl
theorem dJ26_fill_0 : decode cJ26_fill 0 = .ok (.aload_n 0, 1) := dk_42 (dk_at dksJ26_fill_0 0 rfl rfl)
theorem dJ26_fill_1 : decode cJ26_fill 1 = .ok (.arraylength, 1) := dk_190 (dk_at dksJ26_fill_0 1 rfl rfl)
theorem dJ26_fill_2 : decode cJ26_fill 2 = .ok (.iload_n 1, 1) := dk_27 (dk_at dksJ26_fill_0 2 rfl rfl)
theorem dJ26_fill_3 : decode cJ26_fill 3 = .ok (.iload_n 2, 1) := dk_28 (dk_at dksJ26_fill_0 3 rfl rfl)
theorem dJ26_fill_4 : decode cJ26_fill 4 = .ok (.invokestatic 13, 3) := dk_184 0 13 (dk_at dksJ26_fill_0 4 rfl rfl)
theorem dJ26_fill_7 : decode cJ26_fill 7 = .ok (.iload_n 1, 1) := dk_27 (dk_at dksJ26_fill_0 7 rfl rfl)
theorem dJ26_fill_8 : decode cJ26_fill 8 = .ok (.istore 4, 2) := dk_54 4 (dk_at dksJ26_fill_0 8 rfl rfl)
theorem dJ26_fill_10 : decode cJ26_fill 10 = .ok (.iload 4, 2) := dk_21 4 (dk_at dksJ26_fill_0 10 rfl rfl)
theorem dJ26_fill_12 : decode cJ26_fill 12 = .ok (.iload_n 2, 1) := dk_28 (dk_at dksJ26_fill_0 12 rfl rfl)
theorem dJ26_fill_13 : decode cJ26_fill 13 = .ok (.if_icmp .ge 14, 3) := dk_162 0 14 (dk_at dksJ26_fill_0 13 rfl rfl)
theorem dJ26_fill_16 : decode cJ26_fill 16 = .ok (.aload_n 0, 1) := dk_42 (dk_at dksJ26_fill_0 16 rfl rfl)
theorem dJ26_fill_17 : decode cJ26_fill 17 = .ok (.iload 4, 2) := dk_21 4 (dk_at dksJ26_fill_0 17 rfl rfl)
theorem dJ26_fill_19 : decode cJ26_fill 19 = .ok (.iload_n 3, 1) := dk_29 (dk_at dksJ26_fill_0 19 rfl rfl)
theorem dJ26_fill_20 : decode cJ26_fill 20 = .ok (.bastore, 1) := dk_84 (dk_at dksJ26_fill_0 20 rfl rfl)
theorem dJ26_fill_21 : decode cJ26_fill 21 = .ok (.iinc 4 1, 3) := dk_132 4 1 (dk_at dksJ26_fill_0 21 rfl rfl)
theorem dJ26_fill_24 : decode cJ26_fill 24 = .ok (.goto (-14), 3) := dk_167 255 242 (dk_at dksJ26_fill_1 0 rfl rfl)
theorem dJ26_fill_27 : decode cJ26_fill 27 = .ok (.return_, 1) := dk_177 (dk_at dksJ26_fill_1 3 rfl rfl)
abbrev cJ26_rangeCheck : ByteArray := prog_57_method_30_code
def yJ26_rangeCheck : MethodName := ⟨RJ26, "rangeCheck", "(III)V"⟩
def dkwJ26_rangeCheck_3 : List UInt8 := [183, 0, 70, 191, 177]
abbrev dktJ26_rangeCheck_3 : List UInt8 := dkwJ26_rangeCheck_3 ++ []
def dkwJ26_rangeCheck_2 : List UInt8 := [27, 156, 0, 12, 187, 0, 68, 89, 27, 183, 0, 70, 191, 28, 26, 164, 0, 12, 187, 0, 68, 89, 28]
abbrev dktJ26_rangeCheck_2 : List UInt8 := dkwJ26_rangeCheck_2 ++ dktJ26_rangeCheck_3
def dkwJ26_rangeCheck_1 : List UInt8 := [182, 0, 54, 18, 57, 182, 0, 50, 28, 182, 0, 54, 18, 59, 182, 0, 50, 182, 0, 61, 183, 0, 65, 191]
abbrev dktJ26_rangeCheck_1 : List UInt8 := dkwJ26_rangeCheck_1 ++ dktJ26_rangeCheck_2
def dkwJ26_rangeCheck_0 : List UInt8 := [27, 28, 164, 0, 44, 187, 0, 43, 89, 187, 0, 45, 89, 183, 0, 47, 18, 48, 182, 0, 50, 27]
abbrev dktJ26_rangeCheck_0 : List UInt8 := dkwJ26_rangeCheck_0 ++ dktJ26_rangeCheck_1
theorem dksJ26_rangeCheck_0 : cJ26_rangeCheck.data.toList.drop 0 = dktJ26_rangeCheck_0 := by decide +kernel
theorem dksJ26_rangeCheck_1 : cJ26_rangeCheck.data.toList.drop 22 = dktJ26_rangeCheck_1 := dk_seg dksJ26_rangeCheck_0 22 rfl rfl
theorem dksJ26_rangeCheck_2 : cJ26_rangeCheck.data.toList.drop 46 = dktJ26_rangeCheck_2 := dk_seg dksJ26_rangeCheck_1 24 rfl rfl
theorem dksJ26_rangeCheck_3 : cJ26_rangeCheck.data.toList.drop 69 = dktJ26_rangeCheck_3 := dk_seg dksJ26_rangeCheck_2 23 rfl rfl
theorem dJ26_rangeCheck_0 : decode cJ26_rangeCheck 0 = .ok (.iload_n 1, 1) := dk_27 (dk_at dksJ26_rangeCheck_0 0 rfl rfl)
theorem dJ26_rangeCheck_1 : decode cJ26_rangeCheck 1 = .ok (.iload_n 2, 1) := dk_28 (dk_at dksJ26_rangeCheck_0 1 rfl rfl)
theorem dJ26_rangeCheck_2 : decode cJ26_rangeCheck 2 = .ok (.if_icmp .le 44, 3) := dk_164 0 44 (dk_at dksJ26_rangeCheck_0 2 rfl rfl)
theorem dJ26_rangeCheck_5 : decode cJ26_rangeCheck 5 = .ok (.new 43, 3) := dk_187 0 43 (dk_at dksJ26_rangeCheck_0 5 rfl rfl)
theorem dJ26_rangeCheck_8 : decode cJ26_rangeCheck 8 = .ok (.dup, 1) := dk_89 (dk_at dksJ26_rangeCheck_0 8 rfl rfl)
theorem dJ26_rangeCheck_9 : decode cJ26_rangeCheck 9 = .ok (.new 45, 3) := dk_187 0 45 (dk_at dksJ26_rangeCheck_0 9 rfl rfl)
theorem dJ26_rangeCheck_12 : decode cJ26_rangeCheck 12 = .ok (.dup, 1) := dk_89 (dk_at dksJ26_rangeCheck_0 12 rfl rfl)
theorem dJ26_rangeCheck_13 : decode cJ26_rangeCheck 13 = .ok (.invokespecial 47, 3) := dk_183 0 47 (dk_at dksJ26_rangeCheck_0 13 rfl rfl)
theorem dJ26_rangeCheck_16 : decode cJ26_rangeCheck 16 = .ok (.ldc 48, 2) := dk_18 48 (dk_at dksJ26_rangeCheck_0 16 rfl rfl)
theorem dJ26_rangeCheck_18 : decode cJ26_rangeCheck 18 = .ok (.invokevirtual 50, 3) := dk_182 0 50 (dk_at dksJ26_rangeCheck_0 18 rfl rfl)
theorem dJ26_rangeCheck_21 : decode cJ26_rangeCheck 21 = .ok (.iload_n 1, 1) := dk_27 (dk_at dksJ26_rangeCheck_0 21 rfl rfl)
theorem dJ26_rangeCheck_22 : decode cJ26_rangeCheck 22 = .ok (.invokevirtual 54, 3) := dk_182 0 54 (dk_at dksJ26_rangeCheck_1 0 rfl rfl)
theorem dJ26_rangeCheck_25 : decode cJ26_rangeCheck 25 = .ok (.ldc 57, 2) := dk_18 57 (dk_at dksJ26_rangeCheck_1 3 rfl rfl)
theorem dJ26_rangeCheck_27 : decode cJ26_rangeCheck 27 = .ok (.invokevirtual 50, 3) := dk_182 0 50 (dk_at dksJ26_rangeCheck_1 5 rfl rfl)
theorem dJ26_rangeCheck_30 : decode cJ26_rangeCheck 30 = .ok (.iload_n 2, 1) := dk_28 (dk_at dksJ26_rangeCheck_1 8 rfl rfl)
theorem dJ26_rangeCheck_31 : decode cJ26_rangeCheck 31 = .ok (.invokevirtual 54, 3) := dk_182 0 54 (dk_at dksJ26_rangeCheck_1 9 rfl rfl)
theorem dJ26_rangeCheck_34 : decode cJ26_rangeCheck 34 = .ok (.ldc 59, 2) := dk_18 59 (dk_at dksJ26_rangeCheck_1 12 rfl rfl)
theorem dJ26_rangeCheck_36 : decode cJ26_rangeCheck 36 = .ok (.invokevirtual 50, 3) := dk_182 0 50 (dk_at dksJ26_rangeCheck_1 14 rfl rfl)
theorem dJ26_rangeCheck_39 : decode cJ26_rangeCheck 39 = .ok (.invokevirtual 61, 3) := dk_182 0 61 (dk_at dksJ26_rangeCheck_1 17 rfl rfl)
theorem dJ26_rangeCheck_42 : decode cJ26_rangeCheck 42 = .ok (.invokespecial 65, 3) := dk_183 0 65 (dk_at dksJ26_rangeCheck_1 20 rfl rfl)
theorem dJ26_rangeCheck_45 : decode cJ26_rangeCheck 45 = .ok (.athrow, 1) := dk_191 (dk_at dksJ26_rangeCheck_1 23 rfl rfl)
theorem dJ26_rangeCheck_46 : decode cJ26_rangeCheck 46 = .ok (.iload_n 1, 1) := dk_27 (dk_at dksJ26_rangeCheck_2 0 rfl rfl)
theorem dJ26_rangeCheck_47 : decode cJ26_rangeCheck 47 = .ok (.ifCond .ge 12, 3) := dk_156 0 12 (dk_at dksJ26_rangeCheck_2 1 rfl rfl)
theorem dJ26_rangeCheck_50 : decode cJ26_rangeCheck 50 = .ok (.new 68, 3) := dk_187 0 68 (dk_at dksJ26_rangeCheck_2 4 rfl rfl)
theorem dJ26_rangeCheck_53 : decode cJ26_rangeCheck 53 = .ok (.dup, 1) := dk_89 (dk_at dksJ26_rangeCheck_2 7 rfl rfl)
theorem dJ26_rangeCheck_54 : decode cJ26_rangeCheck 54 = .ok (.iload_n 1, 1) := dk_27 (dk_at dksJ26_rangeCheck_2 8 rfl rfl)
theorem dJ26_rangeCheck_55 : decode cJ26_rangeCheck 55 = .ok (.invokespecial 70, 3) := dk_183 0 70 (dk_at dksJ26_rangeCheck_2 9 rfl rfl)
theorem dJ26_rangeCheck_58 : decode cJ26_rangeCheck 58 = .ok (.athrow, 1) := dk_191 (dk_at dksJ26_rangeCheck_2 12 rfl rfl)
theorem dJ26_rangeCheck_59 : decode cJ26_rangeCheck 59 = .ok (.iload_n 2, 1) := dk_28 (dk_at dksJ26_rangeCheck_2 13 rfl rfl)
theorem dJ26_rangeCheck_60 : decode cJ26_rangeCheck 60 = .ok (.iload_n 0, 1) := dk_26 (dk_at dksJ26_rangeCheck_2 14 rfl rfl)
theorem dJ26_rangeCheck_61 : decode cJ26_rangeCheck 61 = .ok (.if_icmp .le 12, 3) := dk_164 0 12 (dk_at dksJ26_rangeCheck_2 15 rfl rfl)
theorem dJ26_rangeCheck_64 : decode cJ26_rangeCheck 64 = .ok (.new 68, 3) := dk_187 0 68 (dk_at dksJ26_rangeCheck_2 18 rfl rfl)
theorem dJ26_rangeCheck_67 : decode cJ26_rangeCheck 67 = .ok (.dup, 1) := dk_89 (dk_at dksJ26_rangeCheck_2 21 rfl rfl)
theorem dJ26_rangeCheck_68 : decode cJ26_rangeCheck 68 = .ok (.iload_n 2, 1) := dk_28 (dk_at dksJ26_rangeCheck_2 22 rfl rfl)
theorem dJ26_rangeCheck_69 : decode cJ26_rangeCheck 69 = .ok (.invokespecial 70, 3) := dk_183 0 70 (dk_at dksJ26_rangeCheck_3 0 rfl rfl)
theorem dJ26_rangeCheck_72 : decode cJ26_rangeCheck 72 = .ok (.athrow, 1) := dk_191 (dk_at dksJ26_rangeCheck_3 3 rfl rfl)
theorem dJ26_rangeCheck_73 : decode cJ26_rangeCheck 73 = .ok (.return_, 1) := dk_177 (dk_at dksJ26_rangeCheck_3 4 rfl rfl)
abbrev cJ26_copyOf_2 : ByteArray := prog_57_method_119_code
def yJ26_copyOf_2 : MethodName := ⟨RJ26, "copyOf", "([Ljava/lang/Object;I)[Ljava/lang/Object;"⟩
def dkwJ26_copyOf_2_0 : List UInt8 := [42, 27, 42, 182, 0, 86, 184, 1, 44, 176]
abbrev dktJ26_copyOf_2_0 : List UInt8 := dkwJ26_copyOf_2_0 ++ []
theorem dksJ26_copyOf_2_0 : cJ26_copyOf_2.data.toList.drop 0 = dktJ26_copyOf_2_0 := by decide +kernel
theorem dJ26_copyOf_2_0 : decode cJ26_copyOf_2 0 = .ok (.aload_n 0, 1) := dk_42 (dk_at dksJ26_copyOf_2_0 0 rfl rfl)
theorem dJ26_copyOf_2_1 : decode cJ26_copyOf_2 1 = .ok (.iload_n 1, 1) := dk_27 (dk_at dksJ26_copyOf_2_0 1 rfl rfl)
theorem dJ26_copyOf_2_2 : decode cJ26_copyOf_2 2 = .ok (.aload_n 0, 1) := dk_42 (dk_at dksJ26_copyOf_2_0 2 rfl rfl)
theorem dJ26_copyOf_2_3 : decode cJ26_copyOf_2 3 = .ok (.invokevirtual 86, 3) := dk_182 0 86 (dk_at dksJ26_copyOf_2_0 3 rfl rfl)
theorem dJ26_copyOf_2_6 : decode cJ26_copyOf_2 6 = .ok (.invokestatic 300, 3) := dk_184 1 44 (dk_at dksJ26_copyOf_2_0 6 rfl rfl)
theorem dJ26_copyOf_2_9 : decode cJ26_copyOf_2 9 = .ok (.areturn, 1) := dk_176 (dk_at dksJ26_copyOf_2_0 9 rfl rfl)
abbrev cJ26_copyOf_3 : ByteArray := prog_57_method_120_code
def yJ26_copyOf_3 : MethodName := ⟨RJ26, "copyOf", "([Ljava/lang/Object;ILjava/lang/Class;)[Ljava/lang/Object;"⟩
def dkwJ26_copyOf_3_1 : List UInt8 := [78, 42, 3, 45, 3, 42, 190, 27, 184, 1, 48, 184, 0, 150, 45, 176]
abbrev dktJ26_copyOf_3_1 : List UInt8 := dkwJ26_copyOf_3_1 ++ []
def dkwJ26_copyOf_3_0 : List UInt8 := [44, 18, 110, 166, 0, 10, 27, 189, 0, 2, 167, 0, 14, 44, 182, 0, 90, 27, 184, 0, 95, 192, 0, 110]
abbrev dktJ26_copyOf_3_0 : List UInt8 := dkwJ26_copyOf_3_0 ++ dktJ26_copyOf_3_1
theorem dksJ26_copyOf_3_0 : cJ26_copyOf_3.data.toList.drop 0 = dktJ26_copyOf_3_0 := by decide +kernel
theorem dksJ26_copyOf_3_1 : cJ26_copyOf_3.data.toList.drop 24 = dktJ26_copyOf_3_1 := dk_seg dksJ26_copyOf_3_0 24 rfl rfl
theorem dJ26_copyOf_3_0 : decode cJ26_copyOf_3 0 = .ok (.aload_n 2, 1) := dk_44 (dk_at dksJ26_copyOf_3_0 0 rfl rfl)
theorem dJ26_copyOf_3_1 : decode cJ26_copyOf_3 1 = .ok (.ldc 110, 2) := dk_18 110 (dk_at dksJ26_copyOf_3_0 1 rfl rfl)
theorem dJ26_copyOf_3_3 : decode cJ26_copyOf_3 3 = .ok (.if_acmp .ne 10, 3) := dk_166 0 10 (dk_at dksJ26_copyOf_3_0 3 rfl rfl)
theorem dJ26_copyOf_3_6 : decode cJ26_copyOf_3 6 = .ok (.iload_n 1, 1) := dk_27 (dk_at dksJ26_copyOf_3_0 6 rfl rfl)
theorem dJ26_copyOf_3_7 : decode cJ26_copyOf_3 7 = .ok (.anewarray 2, 3) := dk_189 0 2 (dk_at dksJ26_copyOf_3_0 7 rfl rfl)
theorem dJ26_copyOf_3_10 : decode cJ26_copyOf_3 10 = .ok (.goto 14, 3) := dk_167 0 14 (dk_at dksJ26_copyOf_3_0 10 rfl rfl)
theorem dJ26_copyOf_3_13 : decode cJ26_copyOf_3 13 = .ok (.aload_n 2, 1) := dk_44 (dk_at dksJ26_copyOf_3_0 13 rfl rfl)
theorem dJ26_copyOf_3_14 : decode cJ26_copyOf_3 14 = .ok (.invokevirtual 90, 3) := dk_182 0 90 (dk_at dksJ26_copyOf_3_0 14 rfl rfl)
theorem dJ26_copyOf_3_17 : decode cJ26_copyOf_3 17 = .ok (.iload_n 1, 1) := dk_27 (dk_at dksJ26_copyOf_3_0 17 rfl rfl)
theorem dJ26_copyOf_3_18 : decode cJ26_copyOf_3 18 = .ok (.invokestatic 95, 3) := dk_184 0 95 (dk_at dksJ26_copyOf_3_0 18 rfl rfl)
theorem dJ26_copyOf_3_21 : decode cJ26_copyOf_3 21 = .ok (.checkcast 110, 3) := dk_192 0 110 (dk_at dksJ26_copyOf_3_0 21 rfl rfl)
theorem dJ26_copyOf_3_24 : decode cJ26_copyOf_3 24 = .ok (.astore_n 3, 1) := dk_78 (dk_at dksJ26_copyOf_3_1 0 rfl rfl)
theorem dJ26_copyOf_3_25 : decode cJ26_copyOf_3 25 = .ok (.aload_n 0, 1) := dk_42 (dk_at dksJ26_copyOf_3_1 1 rfl rfl)
theorem dJ26_copyOf_3_26 : decode cJ26_copyOf_3 26 = .ok (.iconst 0, 1) := dk_3 (dk_at dksJ26_copyOf_3_1 2 rfl rfl)
theorem dJ26_copyOf_3_27 : decode cJ26_copyOf_3 27 = .ok (.aload_n 3, 1) := dk_45 (dk_at dksJ26_copyOf_3_1 3 rfl rfl)
theorem dJ26_copyOf_3_28 : decode cJ26_copyOf_3 28 = .ok (.iconst 0, 1) := dk_3 (dk_at dksJ26_copyOf_3_1 4 rfl rfl)
theorem dJ26_copyOf_3_29 : decode cJ26_copyOf_3 29 = .ok (.aload_n 0, 1) := dk_42 (dk_at dksJ26_copyOf_3_1 5 rfl rfl)
theorem dJ26_copyOf_3_30 : decode cJ26_copyOf_3 30 = .ok (.arraylength, 1) := dk_190 (dk_at dksJ26_copyOf_3_1 6 rfl rfl)
theorem dJ26_copyOf_3_31 : decode cJ26_copyOf_3 31 = .ok (.iload_n 1, 1) := dk_27 (dk_at dksJ26_copyOf_3_1 7 rfl rfl)
theorem dJ26_copyOf_3_32 : decode cJ26_copyOf_3 32 = .ok (.invokestatic 304, 3) := dk_184 1 48 (dk_at dksJ26_copyOf_3_1 8 rfl rfl)
theorem dJ26_copyOf_3_35 : decode cJ26_copyOf_3 35 = .ok (.invokestatic 150, 3) := dk_184 0 150 (dk_at dksJ26_copyOf_3_1 11 rfl rfl)
theorem dJ26_copyOf_3_38 : decode cJ26_copyOf_3 38 = .ok (.aload_n 3, 1) := dk_45 (dk_at dksJ26_copyOf_3_1 14 rfl rfl)
theorem dJ26_copyOf_3_39 : decode cJ26_copyOf_3 39 = .ok (.areturn, 1) := dk_176 (dk_at dksJ26_copyOf_3_1 15 rfl rfl)
abbrev cJ26_fill_2 : ByteArray := prog_57_method_103_code
def yJ26_fill_2 : MethodName := ⟨RJ26, "fill", "([II)V"⟩
def dkwJ26_fill_2_0 : List UInt8 := [3, 61, 42, 190, 62, 28, 29, 162, 0, 13, 42, 28, 27, 79, 132, 2, 1, 167, 255, 244, 177]
abbrev dktJ26_fill_2_0 : List UInt8 := dkwJ26_fill_2_0 ++ []
theorem dksJ26_fill_2_0 : cJ26_fill_2.data.toList.drop 0 = dktJ26_fill_2_0 := by decide +kernel
theorem dJ26_fill_2_0 : decode cJ26_fill_2 0 = .ok (.iconst 0, 1) := dk_3 (dk_at dksJ26_fill_2_0 0 rfl rfl)
theorem dJ26_fill_2_1 : decode cJ26_fill_2 1 = .ok (.istore_n 2, 1) := dk_61 (dk_at dksJ26_fill_2_0 1 rfl rfl)
theorem dJ26_fill_2_2 : decode cJ26_fill_2 2 = .ok (.aload_n 0, 1) := dk_42 (dk_at dksJ26_fill_2_0 2 rfl rfl)
theorem dJ26_fill_2_3 : decode cJ26_fill_2 3 = .ok (.arraylength, 1) := dk_190 (dk_at dksJ26_fill_2_0 3 rfl rfl)
theorem dJ26_fill_2_4 : decode cJ26_fill_2 4 = .ok (.istore_n 3, 1) := dk_62 (dk_at dksJ26_fill_2_0 4 rfl rfl)
theorem dJ26_fill_2_5 : decode cJ26_fill_2 5 = .ok (.iload_n 2, 1) := dk_28 (dk_at dksJ26_fill_2_0 5 rfl rfl)
theorem dJ26_fill_2_6 : decode cJ26_fill_2 6 = .ok (.iload_n 3, 1) := dk_29 (dk_at dksJ26_fill_2_0 6 rfl rfl)
theorem dJ26_fill_2_7 : decode cJ26_fill_2 7 = .ok (.if_icmp .ge 13, 3) := dk_162 0 13 (dk_at dksJ26_fill_2_0 7 rfl rfl)
theorem dJ26_fill_2_10 : decode cJ26_fill_2 10 = .ok (.aload_n 0, 1) := dk_42 (dk_at dksJ26_fill_2_0 10 rfl rfl)
theorem dJ26_fill_2_11 : decode cJ26_fill_2 11 = .ok (.iload_n 2, 1) := dk_28 (dk_at dksJ26_fill_2_0 11 rfl rfl)
theorem dJ26_fill_2_12 : decode cJ26_fill_2 12 = .ok (.iload_n 1, 1) := dk_27 (dk_at dksJ26_fill_2_0 12 rfl rfl)
theorem dJ26_fill_2_13 : decode cJ26_fill_2 13 = .ok (.iastore, 1) := dk_79 (dk_at dksJ26_fill_2_0 13 rfl rfl)
theorem dJ26_fill_2_14 : decode cJ26_fill_2 14 = .ok (.iinc 2 1, 3) := dk_132 2 1 (dk_at dksJ26_fill_2_0 14 rfl rfl)
theorem dJ26_fill_2_17 : decode cJ26_fill_2 17 = .ok (.goto (-12), 3) := dk_167 255 244 (dk_at dksJ26_fill_2_0 17 rfl rfl)
theorem dJ26_fill_2_20 : decode cJ26_fill_2 20 = .ok (.return_, 1) := dk_177 (dk_at dksJ26_fill_2_0 20 rfl rfl)
theorem q204 : (Jvm.Cond.initialized "java/util/Arrays") ∈ lw_all := lw_g (lw_at lw_m1 38 rfl) rfl
theorem q1449 : (Jvm.Cond.static ({ cls := "java/util/Arrays", name := "copyOf", desc := "([BI)[B" } : Jvm.MethodName)) ∈ lw_all := lw_g (lw_at lw_m6 83 rfl) rfl
theorem q1450 : (Jvm.Cond.code ({ cls := "java/util/Arrays", name := "copyOf", desc := "([BI)[B" } : Jvm.MethodName) prog_57_method_121_code (3 : Nat) (Option.some (Jvm.ClassFile.FieldType.array Jvm.ClassFile.FieldType.byte))) ∈ lw_all := lw_g (lw_at lw_m6 84 rfl) rfl
theorem q1451 : (Jvm.Cond.methodLink "java/util/Arrays" (310 : Nat) ({ cls := "[B", name := "clone", desc := "()Ljava/lang/Object;" } : Jvm.MethodName)) ∈ lw_all := lw_g (lw_at lw_m6 85 rfl) rfl
theorem q1457 : (Jvm.Cond.classLink "java/util/Arrays" (311 : Nat) "[B") ∈ lw_all := lw_g (lw_at lw_m6 91 rfl) rfl
theorem q1458 : (Jvm.Cond.methodLink "java/util/Arrays" (304 : Nat) ({ cls := "java/lang/Math", name := "min", desc := "(II)I" } : Jvm.MethodName)) ∈ lw_all := lw_g (lw_at lw_m6 92 rfl) rfl
theorem q1459 : (Jvm.Cond.methodLink "java/util/Arrays" (150 : Nat) ({ cls := "java/lang/System", name := "arraycopy", desc := "(Ljava/lang/Object;ILjava/lang/Object;II)V" } : Jvm.MethodName)) ∈ lw_all := lw_g (lw_at lw_m6 93 rfl) rfl
theorem q1562 : (Jvm.Cond.static ({ cls := "java/util/Arrays", name := "copyOfRange", desc := "([BII)[B" } : Jvm.MethodName)) ∈ lw_all := lw_g (lw_at lw_m6 196 rfl) rfl
theorem q1563 : (Jvm.Cond.code ({ cls := "java/util/Arrays", name := "copyOfRange", desc := "([BII)[B" } : Jvm.MethodName) prog_57_method_132_code (3 : Nat) (Option.some (Jvm.ClassFile.FieldType.array Jvm.ClassFile.FieldType.byte))) ∈ lw_all := lw_g (lw_at lw_m6 197 rfl) rfl
theorem q1564 : (Jvm.Cond.methodLink "java/util/Arrays" (339 : Nat) ({ cls := "java/util/Arrays", name := "copyOfRangeByte", desc := "([BII)[B" } : Jvm.MethodName)) ∈ lw_all := lw_g (lw_at lw_m6 198 rfl) rfl
theorem q1565 : (Jvm.Cond.static ({ cls := "java/util/Arrays", name := "copyOfRangeByte", desc := "([BII)[B" } : Jvm.MethodName)) ∈ lw_all := lw_g (lw_at lw_m6 199 rfl) rfl
theorem q1566 : (Jvm.Cond.code ({ cls := "java/util/Arrays", name := "copyOfRangeByte", desc := "([BII)[B" } : Jvm.MethodName) prog_57_method_133_code (5 : Nat) (Option.some (Jvm.ClassFile.FieldType.array Jvm.ClassFile.FieldType.byte))) ∈ lw_all := lw_g (lw_at lw_m6 200 rfl) rfl
theorem q1567 : (Jvm.Cond.methodLink "java/util/Arrays" (343 : Nat) ({ cls := "java/util/Arrays", name := "checkLength", desc := "(II)V" } : Jvm.MethodName)) ∈ lw_all := lw_g (lw_at lw_m6 201 rfl) rfl
theorem q1568 : (Jvm.Cond.static ({ cls := "java/util/Arrays", name := "checkLength", desc := "(II)V" } : Jvm.MethodName)) ∈ lw_all := lw_g (lw_at lw_m6 202 rfl) rfl
theorem q1569 : (Jvm.Cond.code ({ cls := "java/util/Arrays", name := "checkLength", desc := "(II)V" } : Jvm.MethodName) prog_57_method_131_code (2 : Nat) (Option.none : Option Jvm.ClassFile.FieldType)) ∈ lw_all := lw_g (lw_at lw_m6 203 rfl) rfl
theorem q1601 : (Jvm.Cond.static ({ cls := "java/util/Arrays", name := "fill", desc := "([BIIB)V" } : Jvm.MethodName)) ∈ lw_all := lw_g (lw_at lw_m6 235 rfl) rfl
theorem q1602 : (Jvm.Cond.code ({ cls := "java/util/Arrays", name := "fill", desc := "([BIIB)V" } : Jvm.MethodName) prog_57_method_110_code (5 : Nat) (Option.none : Option Jvm.ClassFile.FieldType)) ∈ lw_all := lw_g (lw_at lw_m6 236 rfl) rfl
theorem q1603 : (Jvm.Cond.methodLink "java/util/Arrays" (13 : Nat) ({ cls := "java/util/Arrays", name := "rangeCheck", desc := "(III)V" } : Jvm.MethodName)) ∈ lw_all := lw_g (lw_at lw_m6 237 rfl) rfl
theorem q1604 : (Jvm.Cond.static ({ cls := "java/util/Arrays", name := "rangeCheck", desc := "(III)V" } : Jvm.MethodName)) ∈ lw_all := lw_g (lw_at lw_m6 238 rfl) rfl
theorem q1605 : (Jvm.Cond.code ({ cls := "java/util/Arrays", name := "rangeCheck", desc := "(III)V" } : Jvm.MethodName) prog_57_method_30_code (3 : Nat) (Option.none : Option Jvm.ClassFile.FieldType)) ∈ lw_all := lw_g (lw_at lw_m6 239 rfl) rfl
theorem q1606 : (Jvm.Cond.classLink "java/util/Arrays" (68 : Nat) "java/lang/ArrayIndexOutOfBoundsException") ∈ lw_all := lw_g (lw_at lw_m7 0 rfl) rfl
theorem q1607 : (Jvm.Cond.methodLink "java/util/Arrays" (70 : Nat) ({ cls := "java/lang/ArrayIndexOutOfBoundsException", name := "<init>", desc := "(I)V" } : Jvm.MethodName)) ∈ lw_all := lw_g (lw_at lw_m7 1 rfl) rfl
theorem q1825 : (Jvm.Cond.static ({ cls := "java/util/Arrays", name := "copyOf", desc := "([Ljava/lang/Object;I)[Ljava/lang/Object;" } : Jvm.MethodName)) ∈ lw_all := lw_g (lw_at lw_m7 219 rfl) rfl
theorem q1826 : (Jvm.Cond.code ({ cls := "java/util/Arrays", name := "copyOf", desc := "([Ljava/lang/Object;I)[Ljava/lang/Object;" } : Jvm.MethodName) prog_57_method_119_code (2 : Nat) (Option.some (Jvm.ClassFile.FieldType.array (Jvm.ClassFile.FieldType.object "java/lang/Object")))) ∈ lw_all := lw_g (lw_at lw_m7 220 rfl) rfl
theorem q1827 : (Jvm.Cond.methodLink "java/util/Arrays" (86 : Nat) ({ cls := "java/lang/Object", name := "getClass", desc := "()Ljava/lang/Class;" } : Jvm.MethodName)) ∈ lw_all := lw_g (lw_at lw_m7 221 rfl) rfl
theorem q1828 : (Jvm.Cond.methodLink "java/util/Arrays" (300 : Nat) ({ cls := "java/util/Arrays", name := "copyOf", desc := "([Ljava/lang/Object;ILjava/lang/Class;)[Ljava/lang/Object;" } : Jvm.MethodName)) ∈ lw_all := lw_g (lw_at lw_m7 222 rfl) rfl
theorem q1829 : (Jvm.Cond.static ({ cls := "java/util/Arrays", name := "copyOf", desc := "([Ljava/lang/Object;ILjava/lang/Class;)[Ljava/lang/Object;" } : Jvm.MethodName)) ∈ lw_all := lw_g (lw_at lw_m7 223 rfl) rfl
theorem q1830 : (Jvm.Cond.code ({ cls := "java/util/Arrays", name := "copyOf", desc := "([Ljava/lang/Object;ILjava/lang/Class;)[Ljava/lang/Object;" } : Jvm.MethodName) prog_57_method_120_code (4 : Nat) (Option.some (Jvm.ClassFile.FieldType.array (Jvm.ClassFile.FieldType.object "java/lang/Object")))) ∈ lw_all := lw_g (lw_at lw_m7 224 rfl) rfl
theorem q1831 : (Jvm.Cond.classLink "java/util/Arrays" (110 : Nat) "[Ljava/lang/Object;") ∈ lw_all := lw_g (lw_at lw_m7 225 rfl) rfl
theorem q1832 : (Jvm.Cond.classLink "java/util/Arrays" (2 : Nat) "java/lang/Object") ∈ lw_all := lw_g (lw_at lw_m7 226 rfl) rfl
theorem q2000 : (Jvm.Cond.static ({ cls := "java/util/Arrays", name := "fill", desc := "([II)V" } : Jvm.MethodName)) ∈ lw_all := lw_g (lw_at lw_m8 154 rfl) rfl
theorem q2001 : (Jvm.Cond.code ({ cls := "java/util/Arrays", name := "fill", desc := "([II)V" } : Jvm.MethodName) prog_57_method_103_code (4 : Nat) (Option.none : Option Jvm.ClassFile.FieldType)) ∈ lw_all := lw_g (lw_at lw_m8 155 rfl) rfl
/-! java/util/Objects -/
set_option maxRecDepth 100000
def RJ28 : String := "java/util/Objects"
abbrev cJ28_checkIndex : ByteArray := prog_67_method_17_code
def yJ28_checkIndex : MethodName := ⟨RJ28, "checkIndex", "(II)I"⟩
def dkwJ28_checkIndex_0 : List UInt8 := [26, 27, 1, 184, 0, 105, 172]
abbrev dktJ28_checkIndex_0 : List UInt8 := dkwJ28_checkIndex_0 ++ []
theorem dksJ28_checkIndex_0 : cJ28_checkIndex.data.toList.drop 0 = dktJ28_checkIndex_0 := by decide +kernel
theorem dJ28_checkIndex_0 : decode cJ28_checkIndex 0 = .ok (.iload_n 0, 1) := dk_26 (dk_at dksJ28_checkIndex_0 0 rfl rfl)
theorem dJ28_checkIndex_1 : decode cJ28_checkIndex 1 = .ok (.iload_n 1, 1) := dk_27 (dk_at dksJ28_checkIndex_0 1 rfl rfl)
theorem dJ28_checkIndex_2 : decode cJ28_checkIndex 2 = .ok (.aconst_null, 1) := dk_1 (dk_at dksJ28_checkIndex_0 2 rfl rfl)
theorem dJ28_checkIndex_3 : decode cJ28_checkIndex 3 = .ok (.invokestatic 105, 3) := dk_184 0 105 (dk_at dksJ28_checkIndex_0 3 rfl rfl)
theorem dJ28_checkIndex_6 : decode cJ28_checkIndex 6 = .ok (.ireturn, 1) := dk_172 (dk_at dksJ28_checkIndex_0 6 rfl rfl)
theorem q210 : (Jvm.Cond.initialized "java/util/Objects") ∈ lw_all := lw_g (lw_at lw_m1 44 rfl) rfl
theorem q1860 : (Jvm.Cond.static ({ cls := "java/util/Objects", name := "checkIndex", desc := "(II)I" } : Jvm.MethodName)) ∈ lw_all := lw_g (lw_at lw_m8 14 rfl) rfl
theorem q1861 : (Jvm.Cond.code ({ cls := "java/util/Objects", name := "checkIndex", desc := "(II)I" } : Jvm.MethodName) prog_67_method_17_code (2 : Nat) (Option.some Jvm.ClassFile.FieldType.int)) ∈ lw_all := lw_g (lw_at lw_m8 15 rfl) rfl
theorem q1862 : (Jvm.Cond.methodLink "java/util/Objects" (105 : Nat) ({ cls := "jdk/internal/util/Preconditions", name := "checkIndex", desc := "(IILjava/util/function/BiFunction;)I" } : Jvm.MethodName)) ∈ lw_all := lw_g (lw_at lw_m8 16 rfl) rfl
/-! java/util/AbstractSet -/
set_option maxRecDepth 100000
def RJ29 : String := "java/util/AbstractSet"
abbrev cJ29_init : ByteArray := prog_55_method_1_code
def yJ29_init : MethodName := ⟨RJ29, "<init>", "()V"⟩
theorem dJ29_init_0 : decode cJ29_init 0 = .ok (.aload_n 0, 1) := by decide +kernel
theorem dJ29_init_1 : decode cJ29_init 1 = .ok (.invokespecial 1, 3) := by decide +kernel
theorem dJ29_init_4 : decode cJ29_init 4 = .ok (.return_, 1) := by decide +kernel
theorem q212 : (Jvm.Cond.initialized "java/util/AbstractSet") ∈ lw_all := lw_g (lw_at lw_m1 46 rfl) rfl
theorem q2222 : (Jvm.Cond.instanceMethod ({ cls := "java/util/AbstractSet", name := "<init>", desc := "()V" } : Jvm.MethodName)) ∈ lw_all := lw_g (lw_at lw_m9 136 rfl) rfl
theorem q2223 : (Jvm.Cond.code ({ cls := "java/util/AbstractSet", name := "<init>", desc := "()V" } : Jvm.MethodName) prog_55_method_1_code (1 : Nat) (Option.none : Option Jvm.ClassFile.FieldType)) ∈ lw_all := lw_g (lw_at lw_m9 137 rfl) rfl
theorem q2224 : (Jvm.Cond.methodLink "java/util/AbstractSet" (1 : Nat) ({ cls := "java/util/AbstractCollection", name := "<init>", desc := "()V" } : Jvm.MethodName)) ∈ lw_all := lw_g (lw_at lw_m9 138 rfl) rfl
/-! java/util/HashSet -/
set_option maxRecDepth 100000
def RJ30 : String := "java/util/HashSet"
def TJ30 : u_T := fun k => match k with
  | _ => ("java/util/HashSet", "map", "Ljava/util/HashMap;", false)
def tyJ30 : Nat → FieldType := fun k => match k with
  | _ => .object "java/util/HashMap"
abbrev wsJ300 : List Cond := u_ws RJ30 TJ30 1
theorem nmJ30 : ∀ a, a < 1 → ∀ b, b < 1 → a ≠ b → (TJ30 a).2.1 ≠ (TJ30 b).2.1 := by decide +kernel
theorem tyJ30_ok : ∀ k, k < 1 → parseFieldDescriptor (TJ30 k).2.2.1 = some (tyJ30 k) := by decide +kernel
abbrev cJ30_init : ByteArray := prog_62_method_1_code
def yJ30_init : MethodName := ⟨RJ30, "<init>", "()V"⟩
def dkwJ30_init_0 : List UInt8 := [42, 183, 0, 1, 42, 187, 0, 7, 89, 183, 0, 9, 181, 0, 10, 177]
abbrev dktJ30_init_0 : List UInt8 := dkwJ30_init_0 ++ []
theorem dksJ30_init_0 : cJ30_init.data.toList.drop 0 = dktJ30_init_0 := by decide +kernel
theorem dJ30_init_0 : decode cJ30_init 0 = .ok (.aload_n 0, 1) := dk_42 (dk_at dksJ30_init_0 0 rfl rfl)
theorem dJ30_init_1 : decode cJ30_init 1 = .ok (.invokespecial 1, 3) := dk_183 0 1 (dk_at dksJ30_init_0 1 rfl rfl)
theorem dJ30_init_4 : decode cJ30_init 4 = .ok (.aload_n 0, 1) := dk_42 (dk_at dksJ30_init_0 4 rfl rfl)
theorem dJ30_init_5 : decode cJ30_init 5 = .ok (.new 7, 3) := dk_187 0 7 (dk_at dksJ30_init_0 5 rfl rfl)
theorem dJ30_init_8 : decode cJ30_init 8 = .ok (.dup, 1) := dk_89 (dk_at dksJ30_init_0 8 rfl rfl)
theorem dJ30_init_9 : decode cJ30_init 9 = .ok (.invokespecial 9, 3) := dk_183 0 9 (dk_at dksJ30_init_0 9 rfl rfl)
theorem dJ30_init_12 : decode cJ30_init 12 = .ok (.putfield 10, 3) := dk_181 0 10 (dk_at dksJ30_init_0 12 rfl rfl)
theorem dJ30_init_15 : decode cJ30_init 15 = .ok (.return_, 1) := dk_177 (dk_at dksJ30_init_0 15 rfl rfl)
abbrev cJ30_add : ByteArray := prog_62_method_10_code
def yJ30_add : MethodName := ⟨RJ30, "add", "(Ljava/lang/Object;)Z"⟩
def dkwJ30_add_0 : List UInt8 := [42, 180, 0, 10, 43, 178, 0, 64, 182, 0, 68, 199, 0, 7, 4, 167, 0, 4, 3, 172]
abbrev dktJ30_add_0 : List UInt8 := dkwJ30_add_0 ++ []
theorem dksJ30_add_0 : cJ30_add.data.toList.drop 0 = dktJ30_add_0 := by decide +kernel
theorem dJ30_add_0 : decode cJ30_add 0 = .ok (.aload_n 0, 1) := dk_42 (dk_at dksJ30_add_0 0 rfl rfl)
theorem dJ30_add_1 : decode cJ30_add 1 = .ok (.getfield 10, 3) := dk_180 0 10 (dk_at dksJ30_add_0 1 rfl rfl)
theorem dJ30_add_4 : decode cJ30_add 4 = .ok (.aload_n 1, 1) := dk_43 (dk_at dksJ30_add_0 4 rfl rfl)
theorem dJ30_add_5 : decode cJ30_add 5 = .ok (.getstatic 64, 3) := dk_178 0 64 (dk_at dksJ30_add_0 5 rfl rfl)
theorem dJ30_add_8 : decode cJ30_add 8 = .ok (.invokevirtual 68, 3) := dk_182 0 68 (dk_at dksJ30_add_0 8 rfl rfl)
theorem dJ30_add_11 : decode cJ30_add 11 = .ok (.ifnonnull 7, 3) := dk_199 0 7 (dk_at dksJ30_add_0 11 rfl rfl)
theorem dJ30_add_14 : decode cJ30_add 14 = .ok (.iconst 1, 1) := dk_4 (dk_at dksJ30_add_0 14 rfl rfl)
theorem dJ30_add_15 : decode cJ30_add 15 = .ok (.goto 4, 3) := dk_167 0 4 (dk_at dksJ30_add_0 15 rfl rfl)
theorem dJ30_add_18 : decode cJ30_add 18 = .ok (.iconst 0, 1) := dk_3 (dk_at dksJ30_add_0 18 rfl rfl)
theorem dJ30_add_19 : decode cJ30_add 19 = .ok (.ireturn, 1) := dk_172 (dk_at dksJ30_add_0 19 rfl rfl)
abbrev cJ30_size : ByteArray := prog_62_method_7_code
def yJ30_size : MethodName := ⟨RJ30, "size", "()I"⟩
def dkwJ30_size_0 : List UInt8 := [42, 180, 0, 10, 182, 0, 55, 172]
abbrev dktJ30_size_0 : List UInt8 := dkwJ30_size_0 ++ []
theorem dksJ30_size_0 : cJ30_size.data.toList.drop 0 = dktJ30_size_0 := by decide +kernel
theorem dJ30_size_0 : decode cJ30_size 0 = .ok (.aload_n 0, 1) := dk_42 (dk_at dksJ30_size_0 0 rfl rfl)
theorem dJ30_size_1 : decode cJ30_size 1 = .ok (.getfield 10, 3) := dk_180 0 10 (dk_at dksJ30_size_0 1 rfl rfl)
theorem dJ30_size_4 : decode cJ30_size 4 = .ok (.invokevirtual 55, 3) := dk_182 0 55 (dk_at dksJ30_size_0 4 rfl rfl)
theorem dJ30_size_7 : decode cJ30_size 7 = .ok (.ireturn, 1) := dk_172 (dk_at dksJ30_size_0 7 rfl rfl)
abbrev cJ30_toArray : ByteArray := prog_62_method_17_code
def yJ30_toArray : MethodName := ⟨RJ30, "toArray", "()[Ljava/lang/Object;"⟩
def dkwJ30_toArray_0 : List UInt8 := [42, 180, 0, 10, 42, 180, 0, 10, 182, 0, 55, 189, 0, 80, 182, 0, 209, 176]
abbrev dktJ30_toArray_0 : List UInt8 := dkwJ30_toArray_0 ++ []
theorem dksJ30_toArray_0 : cJ30_toArray.data.toList.drop 0 = dktJ30_toArray_0 := by decide +kernel
theorem dJ30_toArray_0 : decode cJ30_toArray 0 = .ok (.aload_n 0, 1) := dk_42 (dk_at dksJ30_toArray_0 0 rfl rfl)
theorem dJ30_toArray_1 : decode cJ30_toArray 1 = .ok (.getfield 10, 3) := dk_180 0 10 (dk_at dksJ30_toArray_0 1 rfl rfl)
theorem dJ30_toArray_4 : decode cJ30_toArray 4 = .ok (.aload_n 0, 1) := dk_42 (dk_at dksJ30_toArray_0 4 rfl rfl)
theorem dJ30_toArray_5 : decode cJ30_toArray 5 = .ok (.getfield 10, 3) := dk_180 0 10 (dk_at dksJ30_toArray_0 5 rfl rfl)
theorem dJ30_toArray_8 : decode cJ30_toArray 8 = .ok (.invokevirtual 55, 3) := dk_182 0 55 (dk_at dksJ30_toArray_0 8 rfl rfl)
theorem dJ30_toArray_11 : decode cJ30_toArray 11 = .ok (.anewarray 80, 3) := dk_189 0 80 (dk_at dksJ30_toArray_0 11 rfl rfl)
theorem dJ30_toArray_14 : decode cJ30_toArray 14 = .ok (.invokevirtual 209, 3) := dk_182 0 209 (dk_at dksJ30_toArray_0 14 rfl rfl)
theorem dJ30_toArray_17 : decode cJ30_toArray 17 = .ok (.areturn, 1) := dk_176 (dk_at dksJ30_toArray_0 17 rfl rfl)
theorem q213 : (Jvm.Cond.initialized "java/util/HashSet") ∈ lw_all := lw_g (lw_at lw_m1 47 rfl) rfl
theorem q1040 : (Jvm.Cond.selects "java/util/HashSet" ({ cls := "java/lang/Object", name := "getClass", desc := "()Ljava/lang/Class;" } : Jvm.MethodName) ({ cls := "java/lang/Object", name := "getClass", desc := "()Ljava/lang/Class;" } : Jvm.MethodName)) ∈ lw_all := lw_g (lw_at lw_m4 154 rfl) rfl
theorem q2217 : (Jvm.Cond.instantiable "java/util/HashSet" (1 : Nat)) ∈ lw_all := lw_g (lw_at lw_m9 131 rfl) rfl
theorem q2219 : (Jvm.Cond.instanceMethod ({ cls := "java/util/HashSet", name := "<init>", desc := "()V" } : Jvm.MethodName)) ∈ lw_all := lw_g (lw_at lw_m9 133 rfl) rfl
theorem q2220 : (Jvm.Cond.code ({ cls := "java/util/HashSet", name := "<init>", desc := "()V" } : Jvm.MethodName) prog_62_method_1_code (1 : Nat) (Option.none : Option Jvm.ClassFile.FieldType)) ∈ lw_all := lw_g (lw_at lw_m9 134 rfl) rfl
theorem q2221 : (Jvm.Cond.methodLink "java/util/HashSet" (1 : Nat) ({ cls := "java/util/AbstractSet", name := "<init>", desc := "()V" } : Jvm.MethodName)) ∈ lw_all := lw_g (lw_at lw_m9 135 rfl) rfl
theorem q2225 : (Jvm.Cond.classLink "java/util/HashSet" (7 : Nat) "java/util/HashMap") ∈ lw_all := lw_g (lw_at lw_m9 139 rfl) rfl
theorem q2226 : (Jvm.Cond.methodLink "java/util/HashSet" (9 : Nat) ({ cls := "java/util/HashMap", name := "<init>", desc := "()V" } : Jvm.MethodName)) ∈ lw_all := lw_g (lw_at lw_m9 140 rfl) rfl
theorem q2227 : (Jvm.Cond.fieldLink "java/util/HashSet" (10 : Nat) "java/util/HashSet" "map" "Ljava/util/HashMap;") ∈ lw_all := lw_g (lw_at lw_m9 141 rfl) rfl
theorem q2228 : (Jvm.Cond.lays "java/util/HashSet" "java/util/HashSet" "map" "Ljava/util/HashMap;") ∈ lw_all := lw_g (lw_at lw_m9 142 rfl) rfl
theorem q2229 : (Jvm.Cond.soleField "java/util/HashSet" "map") ∈ lw_all := lw_g (lw_at lw_m9 143 rfl) rfl
theorem q2230 : (Jvm.Cond.superclass "java/util/HashSet" "java/util/AbstractSet") ∈ lw_all := lw_g (lw_at lw_m9 144 rfl) rfl
theorem q2249 : (Jvm.Cond.instanceMethod ({ cls := "java/util/HashSet", name := "add", desc := "(Ljava/lang/Object;)Z" } : Jvm.MethodName)) ∈ lw_all := lw_g (lw_at lw_m9 163 rfl) rfl
theorem q2250 : (Jvm.Cond.selects "java/util/HashSet" ({ cls := "java/util/HashSet", name := "add", desc := "(Ljava/lang/Object;)Z" } : Jvm.MethodName) ({ cls := "java/util/HashSet", name := "add", desc := "(Ljava/lang/Object;)Z" } : Jvm.MethodName)) ∈ lw_all := lw_g (lw_at lw_m9 164 rfl) rfl
theorem q2251 : (Jvm.Cond.code ({ cls := "java/util/HashSet", name := "add", desc := "(Ljava/lang/Object;)Z" } : Jvm.MethodName) prog_62_method_10_code (2 : Nat) (Option.some Jvm.ClassFile.FieldType.boolean)) ∈ lw_all := lw_g (lw_at lw_m9 165 rfl) rfl
theorem q2252 : (Jvm.Cond.fieldLink "java/util/HashSet" (64 : Nat) "java/util/HashSet" "PRESENT" "Ljava/lang/Object;") ∈ lw_all := lw_g (lw_at lw_m9 166 rfl) rfl
theorem q2253 : (Jvm.Cond.laysStatic "java/util/HashSet" "PRESENT" "Ljava/lang/Object;") ∈ lw_tbl := lw_at lw_m9 167 rfl
theorem q2254 : (Jvm.Cond.methodLink "java/util/HashSet" (68 : Nat) ({ cls := "java/util/HashMap", name := "put", desc := "(Ljava/lang/Object;Ljava/lang/Object;)Ljava/lang/Object;" } : Jvm.MethodName)) ∈ lw_all := lw_g (lw_at lw_m9 168 rfl) rfl
theorem q2256 : (Jvm.Cond.instanceMethod ({ cls := "java/util/HashSet", name := "size", desc := "()I" } : Jvm.MethodName)) ∈ lw_all := lw_g (lw_at lw_m9 170 rfl) rfl
theorem q2257 : (Jvm.Cond.selects "java/util/HashSet" ({ cls := "java/util/HashSet", name := "size", desc := "()I" } : Jvm.MethodName) ({ cls := "java/util/HashSet", name := "size", desc := "()I" } : Jvm.MethodName)) ∈ lw_all := lw_g (lw_at lw_m9 171 rfl) rfl
theorem q2258 : (Jvm.Cond.code ({ cls := "java/util/HashSet", name := "size", desc := "()I" } : Jvm.MethodName) prog_62_method_7_code (1 : Nat) (Option.some Jvm.ClassFile.FieldType.int)) ∈ lw_all := lw_g (lw_at lw_m9 172 rfl) rfl
theorem q2259 : (Jvm.Cond.methodLink "java/util/HashSet" (55 : Nat) ({ cls := "java/util/HashMap", name := "size", desc := "()I" } : Jvm.MethodName)) ∈ lw_all := lw_g (lw_at lw_m9 173 rfl) rfl
theorem q2637 : (Jvm.Cond.castable "java/util/HashSet" "java/util/Collection") ∈ lw_tbl := lw_at lw_m11 71 rfl
theorem q2638 : (Jvm.Cond.selects "java/util/HashSet" ({ cls := "java/util/Collection", name := "toArray", desc := "()[Ljava/lang/Object;" } : Jvm.MethodName) ({ cls := "java/util/HashSet", name := "toArray", desc := "()[Ljava/lang/Object;" } : Jvm.MethodName)) ∈ lw_all := lw_g (lw_at lw_m11 72 rfl) rfl
theorem q2639 : (Jvm.Cond.unhidden "java/util/HashSet" "toArray" "()[Ljava/lang/Object;") ∈ lw_tbl := lw_at lw_m11 73 rfl
theorem q2640 : (Jvm.Cond.instanceMethod ({ cls := "java/util/HashSet", name := "toArray", desc := "()[Ljava/lang/Object;" } : Jvm.MethodName)) ∈ lw_all := lw_g (lw_at lw_m11 74 rfl) rfl
theorem q2641 : (Jvm.Cond.publicMethod ({ cls := "java/util/HashSet", name := "toArray", desc := "()[Ljava/lang/Object;" } : Jvm.MethodName)) ∈ lw_tbl := lw_at lw_m11 75 rfl
theorem q2642 : (Jvm.Cond.code ({ cls := "java/util/HashSet", name := "toArray", desc := "()[Ljava/lang/Object;" } : Jvm.MethodName) prog_62_method_17_code (1 : Nat) (Option.some (Jvm.ClassFile.FieldType.array (Jvm.ClassFile.FieldType.object "java/lang/Object")))) ∈ lw_all := lw_g (lw_at lw_m11 76 rfl) rfl
theorem q2643 : (Jvm.Cond.classLink "java/util/HashSet" (80 : Nat) "java/lang/Object") ∈ lw_all := lw_g (lw_at lw_m11 77 rfl) rfl
theorem q2644 : (Jvm.Cond.methodLink "java/util/HashSet" (209 : Nat) ({ cls := "java/util/HashMap", name := "keysToArray", desc := "([Ljava/lang/Object;)[Ljava/lang/Object;" } : Jvm.MethodName)) ∈ lw_all := lw_g (lw_at lw_m11 78 rfl) rfl
theorem q3539 : (Jvm.Cond.castable "java/util/HashSet" "java/lang/Object") ∈ lw_tbl := lw_at lw_m15 13 rfl
theorem in_J30 : ∀ w ∈ wsJ300, w ∈ lw_all := lw_in wsJ300 [2228] (by decide +kernel) (by decide +kernel)
/-! java/lang/Object -/
set_option maxRecDepth 100000
def RJ33 : String := "java/lang/Object"
abbrev cJ33_init : ByteArray := object_method_1_code
def yJ33_init : MethodName := ⟨RJ33, "<init>", "()V"⟩
theorem dJ33_init_0 : decode cJ33_init 0 = .ok (.return_, 1) := by decide +kernel
abbrev cJ33_equals : ByteArray := object_method_4_code
def yJ33_equals : MethodName := ⟨RJ33, "equals", "(Ljava/lang/Object;)Z"⟩
def dkwJ33_equals_0 : List UInt8 := [42, 43, 166, 0, 7, 4, 167, 0, 4, 3, 172]
abbrev dktJ33_equals_0 : List UInt8 := dkwJ33_equals_0 ++ []
theorem dksJ33_equals_0 : cJ33_equals.data.toList.drop 0 = dktJ33_equals_0 := by decide +kernel
theorem dJ33_equals_0 : decode cJ33_equals 0 = .ok (.aload_n 0, 1) := dk_42 (dk_at dksJ33_equals_0 0 rfl rfl)
theorem dJ33_equals_1 : decode cJ33_equals 1 = .ok (.aload_n 1, 1) := dk_43 (dk_at dksJ33_equals_0 1 rfl rfl)
theorem dJ33_equals_2 : decode cJ33_equals 2 = .ok (.if_acmp .ne 7, 3) := dk_166 0 7 (dk_at dksJ33_equals_0 2 rfl rfl)
theorem dJ33_equals_5 : decode cJ33_equals 5 = .ok (.iconst 1, 1) := dk_4 (dk_at dksJ33_equals_0 5 rfl rfl)
theorem dJ33_equals_6 : decode cJ33_equals 6 = .ok (.goto 4, 3) := dk_167 0 4 (dk_at dksJ33_equals_0 6 rfl rfl)
theorem dJ33_equals_9 : decode cJ33_equals 9 = .ok (.iconst 0, 1) := dk_3 (dk_at dksJ33_equals_0 9 rfl rfl)
theorem dJ33_equals_10 : decode cJ33_equals 10 = .ok (.ireturn, 1) := dk_172 (dk_at dksJ33_equals_0 10 rfl rfl)
theorem q247 : (Jvm.Cond.instanceMethod ({ cls := "java/lang/Object", name := "<init>", desc := "()V" } : Jvm.MethodName)) ∈ lw_all := lw_g (lw_at lw_m1 81 rfl) rfl
theorem q248 : (Jvm.Cond.code ({ cls := "java/lang/Object", name := "<init>", desc := "()V" } : Jvm.MethodName) object_method_1_code (1 : Nat) (Option.none : Option Jvm.ClassFile.FieldType)) ∈ lw_all := lw_g (lw_at lw_m1 82 rfl) rfl
theorem q843 : (Jvm.Cond.declares ({ cls := "java/lang/Object", name := "hashCode", desc := "()I" } : Jvm.MethodName)) ∈ lw_tbl := lw_at lw_m3 197 rfl
theorem q845 : (Jvm.Cond.instanceMethod ({ cls := "java/lang/Object", name := "hashCode", desc := "()I" } : Jvm.MethodName)) ∈ lw_all := lw_g (lw_at lw_m3 199 rfl) rfl
theorem q846 : (Jvm.Cond.sameMethod "java/lang/Object" "java/lang/Object" "hashCode" "()I") ∈ lw_all := lw_g (lw_at lw_m3 200 rfl) rfl
theorem q943 : (Jvm.Cond.native ({ cls := "java/lang/Object", name := "hashCode", desc := "()I" } : Jvm.MethodName)) ∈ lw_all := lw_g (lw_at lw_m4 57 rfl) rfl
theorem q1010 : (Jvm.Cond.instanceMethod ({ cls := "java/lang/Object", name := "getClass", desc := "()Ljava/lang/Class;" } : Jvm.MethodName)) ∈ lw_all := lw_g (lw_at lw_m4 124 rfl) rfl
theorem q1011 : (Jvm.Cond.sameMethod "java/lang/Object" "java/lang/Object" "getClass" "()Ljava/lang/Class;") ∈ lw_all := lw_g (lw_at lw_m4 125 rfl) rfl
theorem q1042 : (Jvm.Cond.native ({ cls := "java/lang/Object", name := "getClass", desc := "()Ljava/lang/Class;" } : Jvm.MethodName)) ∈ lw_all := lw_g (lw_at lw_m4 156 rfl) rfl
theorem q1275 : (Jvm.Cond.declares ({ cls := "java/lang/Object", name := "equals", desc := "(Ljava/lang/Object;)Z" } : Jvm.MethodName)) ∈ lw_tbl := lw_at lw_m5 149 rfl
theorem q1277 : (Jvm.Cond.instanceMethod ({ cls := "java/lang/Object", name := "equals", desc := "(Ljava/lang/Object;)Z" } : Jvm.MethodName)) ∈ lw_all := lw_g (lw_at lw_m5 151 rfl) rfl
theorem q1278 : (Jvm.Cond.sameMethod "java/lang/Object" "java/lang/Object" "equals" "(Ljava/lang/Object;)Z") ∈ lw_all := lw_g (lw_at lw_m5 152 rfl) rfl
theorem q1318 : (Jvm.Cond.code ({ cls := "java/lang/Object", name := "equals", desc := "(Ljava/lang/Object;)Z" } : Jvm.MethodName) object_method_4_code (2 : Nat) (Option.some Jvm.ClassFile.FieldType.boolean)) ∈ lw_all := lw_g (lw_at lw_m5 192 rfl) rfl
theorem q1453 : (Jvm.Cond.native ({ cls := "java/lang/Object", name := "clone", desc := "()Ljava/lang/Object;" } : Jvm.MethodName)) ∈ lw_all := lw_g (lw_at lw_m6 87 rfl) rfl
theorem q1454 : (Jvm.Cond.instanceMethod ({ cls := "java/lang/Object", name := "clone", desc := "()Ljava/lang/Object;" } : Jvm.MethodName)) ∈ lw_all := lw_g (lw_at lw_m6 88 rfl) rfl
theorem q3510 : (Jvm.Cond.initialized "java/lang/Object") ∈ lw_all := lw_g (lw_at lw_m14 224 rfl) rfl
theorem q3513 : (Jvm.Cond.selects "java/lang/Object" ({ cls := "java/lang/Object", name := "equals", desc := "(Ljava/lang/Object;)Z" } : Jvm.MethodName) ({ cls := "java/lang/Object", name := "equals", desc := "(Ljava/lang/Object;)Z" } : Jvm.MethodName)) ∈ lw_all := lw_g (lw_at lw_m14 227 rfl) rfl
theorem q3548 : (Jvm.Cond.declares ({ cls := "java/lang/Object", name := "getClass", desc := "()Ljava/lang/Class;" } : Jvm.MethodName)) ∈ lw_tbl := lw_at lw_m15 22 rfl
theorem q3563 : (Jvm.Cond.instantiable "java/lang/Object" (0 : Nat)) ∈ lw_all := lw_g (lw_at lw_m15 37 rfl) rfl
theorem q1049 : (Jvm.Cond.interfaceMethod "java/lang/Comparable" "java/lang/Comparable" "compareTo" "(Ljava/lang/Object;)I") ∈ lw_tbl := lw_at lw_m4 163 rfl
set_option maxRecDepth 100000
theorem q1050 : (Jvm.Cond.declares ({ cls := "java/lang/Comparable", name := "compareTo", desc := "(Ljava/lang/Object;)I" } : Jvm.MethodName)) ∈ lw_tbl := lw_at lw_m4 164 rfl
theorem q192 : (Jvm.Cond.initialized "java/lang/Integer$IntegerCache") ∈ lw_all := lw_g (lw_at lw_m1 26 rfl) rfl
set_option maxRecDepth 100000
theorem q820 : (Jvm.Cond.laysStatic "java/lang/Integer$IntegerCache" "high" "I") ∈ lw_tbl := lw_at lw_m3 174 rfl
theorem q822 : (Jvm.Cond.laysStatic "java/lang/Integer$IntegerCache" "cache" "[Ljava/lang/Integer;") ∈ lw_tbl := lw_at lw_m3 176 rfl
theorem q205 : (Jvm.Cond.initialized "java/lang/System") ∈ lw_all := lw_g (lw_at lw_m1 39 rfl) rfl
set_option maxRecDepth 100000
theorem q418 : (Jvm.Cond.static ({ cls := "java/lang/System", name := "arraycopy", desc := "(Ljava/lang/Object;ILjava/lang/Object;II)V" } : Jvm.MethodName)) ∈ lw_all := lw_g (lw_at lw_m2 12 rfl) rfl
theorem q419 : (Jvm.Cond.native ({ cls := "java/lang/System", name := "arraycopy", desc := "(Ljava/lang/Object;ILjava/lang/Object;II)V" } : Jvm.MethodName)) ∈ lw_all := lw_g (lw_at lw_m2 13 rfl) rfl
theorem q2629 : (Jvm.Cond.interfaceMethod "java/util/Collection" "java/util/Collection" "toArray" "()[Ljava/lang/Object;") ∈ lw_tbl := lw_at lw_m11 63 rfl
set_option maxRecDepth 100000
theorem q2630 : (Jvm.Cond.declares ({ cls := "java/util/Collection", name := "toArray", desc := "()[Ljava/lang/Object;" } : Jvm.MethodName)) ∈ lw_tbl := lw_at lw_m11 64 rfl
theorem q1768 : (Jvm.Cond.interfaceMethod "java/util/List" "java/util/List" "size" "()I") ∈ lw_tbl := lw_at lw_m7 162 rfl
set_option maxRecDepth 100000
theorem q1769 : (Jvm.Cond.declares ({ cls := "java/util/List", name := "size", desc := "()I" } : Jvm.MethodName)) ∈ lw_tbl := lw_at lw_m7 163 rfl
theorem q1804 : (Jvm.Cond.interfaceMethod "java/util/List" "java/util/List" "add" "(Ljava/lang/Object;)Z") ∈ lw_tbl := lw_at lw_m7 198 rfl
theorem q1805 : (Jvm.Cond.declares ({ cls := "java/util/List", name := "add", desc := "(Ljava/lang/Object;)Z" } : Jvm.MethodName)) ∈ lw_tbl := lw_at lw_m7 199 rfl
theorem q1852 : (Jvm.Cond.interfaceMethod "java/util/List" "java/util/List" "get" "(I)Ljava/lang/Object;") ∈ lw_tbl := lw_at lw_m8 6 rfl
theorem q1853 : (Jvm.Cond.declares ({ cls := "java/util/List", name := "get", desc := "(I)Ljava/lang/Object;" } : Jvm.MethodName)) ∈ lw_tbl := lw_at lw_m8 7 rfl
theorem q2566 : (Jvm.Cond.interfaceMethod "java/util/List" "java/util/List" "isEmpty" "()Z") ∈ lw_tbl := lw_at lw_m11 0 rfl
theorem q2567 : (Jvm.Cond.declares ({ cls := "java/util/List", name := "isEmpty", desc := "()Z" } : Jvm.MethodName)) ∈ lw_tbl := lw_at lw_m11 1 rfl
theorem q2579 : (Jvm.Cond.interfaceMethod "java/util/List" "java/util/List" "remove" "(I)Ljava/lang/Object;") ∈ lw_tbl := lw_at lw_m11 13 rfl
theorem q2580 : (Jvm.Cond.declares ({ cls := "java/util/List", name := "remove", desc := "(I)Ljava/lang/Object;" } : Jvm.MethodName)) ∈ lw_tbl := lw_at lw_m11 14 rfl
theorem q2620 : (Jvm.Cond.interfaceMethod "java/util/List" "java/util/List" "addAll" "(Ljava/util/Collection;)Z") ∈ lw_tbl := lw_at lw_m11 54 rfl
theorem q2621 : (Jvm.Cond.declares ({ cls := "java/util/List", name := "addAll", desc := "(Ljava/util/Collection;)Z" } : Jvm.MethodName)) ∈ lw_tbl := lw_at lw_m11 55 rfl
