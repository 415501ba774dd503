/-! MergeJudge$Slot -/
set_option maxRecDepth 100000
def RX1 : String := "MergeJudge$Slot"
def TX1 : u_T := fun k => match k with
  | _ => ("MergeJudge$Slot", "held", "Ljava/lang/Object;", false)
def tyX1 : Nat → FieldType := fun k => match k with
  | _ => .object "java/lang/Object"
abbrev wsX10 : List Cond := u_ws RX1 TX1 1
theorem nmX1 : ∀ a, a < 1 → ∀ b, b < 1 → a ≠ b → (TX1 a).2.1 ≠ (TX1 b).2.1 := by decide +kernel
theorem tyX1_ok : ∀ k, k < 1 → parseFieldDescriptor (TX1 k).2.2.1 = some (tyX1 k) := by decide +kernel
abbrev cX1_begins : ByteArray := prog_16_method_2_code
def yX1_begins : MethodName := ⟨RX1, "begins", "(II)Z"⟩
def dkwX1_begins_3 : List UInt8 := [181, 0, 9, 167, 0, 10, 42, 28, 188, 11, 181, 0, 9, 167, 0, 6, 78, 3, 172, 4, 172]
abbrev dktX1_begins_3 : List UInt8 := dkwX1_begins_3 ++ []
def dkwX1_begins_2 : List UInt8 := [42, 28, 188, 8, 181, 0, 9, 167, 0, 30, 42, 28, 188, 9, 181, 0, 9, 167, 0, 20, 42, 28, 188, 10]
abbrev dktX1_begins_2 : List UInt8 := dkwX1_begins_2 ++ dktX1_begins_3
def dkwX1_begins_1 : List UInt8 := [170, 0, 0, 0, 0, 0, 57, 0, 0, 0, 0, 0, 0, 0, 2, 0, 0, 0, 27, 0, 0, 0, 37, 0, 0, 0, 47]
abbrev dktX1_begins_1 : List UInt8 := dkwX1_begins_1 ++ dktX1_begins_2
def dkwX1_begins_0 : List UInt8 := [27]
abbrev dktX1_begins_0 : List UInt8 := dkwX1_begins_0 ++ dktX1_begins_1
theorem dksX1_begins_0 : cX1_begins.data.toList.drop 0 = dktX1_begins_0 := by decide +kernel
theorem dksX1_begins_1 : cX1_begins.data.toList.drop 1 = dktX1_begins_1 := dk_seg dksX1_begins_0 1 rfl rfl
theorem dksX1_begins_2 : cX1_begins.data.toList.drop 28 = dktX1_begins_2 := dk_seg dksX1_begins_1 27 rfl rfl
theorem dksX1_begins_3 : cX1_begins.data.toList.drop 52 = dktX1_begins_3 := dk_seg dksX1_begins_2 24 rfl rfl
theorem dX1_begins_0 : decode cX1_begins 0 = .ok (.iload_n 1, 1) := dk_27 (dk_at dksX1_begins_0 0 rfl rfl)
theorem dX1_begins_1 : decode cX1_begins 1 = .ok (.tableswitch 57 0 2 #[27, 37, 47], 27) := by decide +kernel
theorem dX1_begins_28 : decode cX1_begins 28 = .ok (.aload_n 0, 1) := dk_42 (dk_at dksX1_begins_2 0 rfl rfl)
theorem dX1_begins_29 : decode cX1_begins 29 = .ok (.iload_n 2, 1) := dk_28 (dk_at dksX1_begins_2 1 rfl rfl)
theorem dX1_begins_30 : decode cX1_begins 30 = .ok (.newarray .byte, 2) := dk_188_8 (dk_at dksX1_begins_2 2 rfl rfl)
theorem dX1_begins_32 : decode cX1_begins 32 = .ok (.putfield 9, 3) := dk_181 0 9 (dk_at dksX1_begins_2 4 rfl rfl)
theorem dX1_begins_35 : decode cX1_begins 35 = .ok (.goto 30, 3) := dk_167 0 30 (dk_at dksX1_begins_2 7 rfl rfl)
theorem dX1_begins_38 : decode cX1_begins 38 = .ok (.aload_n 0, 1) := dk_42 (dk_at dksX1_begins_2 10 rfl rfl)
theorem dX1_begins_39 : decode cX1_begins 39 = .ok (.iload_n 2, 1) := dk_28 (dk_at dksX1_begins_2 11 rfl rfl)
theorem dX1_begins_40 : decode cX1_begins 40 = .ok (.newarray .short, 2) := dk_188_9 (dk_at dksX1_begins_2 12 rfl rfl)
theorem dX1_begins_42 : decode cX1_begins 42 = .ok (.putfield 9, 3) := dk_181 0 9 (dk_at dksX1_begins_2 14 rfl rfl)
theorem dX1_begins_45 : decode cX1_begins 45 = .ok (.goto 20, 3) := dk_167 0 20 (dk_at dksX1_begins_2 17 rfl rfl)
theorem dX1_begins_48 : decode cX1_begins 48 = .ok (.aload_n 0, 1) := dk_42 (dk_at dksX1_begins_2 20 rfl rfl)
theorem dX1_begins_49 : decode cX1_begins 49 = .ok (.iload_n 2, 1) := dk_28 (dk_at dksX1_begins_2 21 rfl rfl)
theorem dX1_begins_50 : decode cX1_begins 50 = .ok (.newarray .int, 2) := dk_188_10 (dk_at dksX1_begins_2 22 rfl rfl)
theorem dX1_begins_52 : decode cX1_begins 52 = .ok (.putfield 9, 3) := dk_181 0 9 (dk_at dksX1_begins_3 0 rfl rfl)
theorem dX1_begins_55 : decode cX1_begins 55 = .ok (.goto 10, 3) := dk_167 0 10 (dk_at dksX1_begins_3 3 rfl rfl)
theorem dX1_begins_58 : decode cX1_begins 58 = .ok (.aload_n 0, 1) := dk_42 (dk_at dksX1_begins_3 6 rfl rfl)
theorem dX1_begins_59 : decode cX1_begins 59 = .ok (.iload_n 2, 1) := dk_28 (dk_at dksX1_begins_3 7 rfl rfl)
theorem dX1_begins_60 : decode cX1_begins 60 = .ok (.newarray .long, 2) := dk_188_11 (dk_at dksX1_begins_3 8 rfl rfl)
theorem dX1_begins_62 : decode cX1_begins 62 = .ok (.putfield 9, 3) := dk_181 0 9 (dk_at dksX1_begins_3 10 rfl rfl)
theorem dX1_begins_65 : decode cX1_begins 65 = .ok (.goto 6, 3) := dk_167 0 6 (dk_at dksX1_begins_3 13 rfl rfl)
theorem dX1_begins_68 : decode cX1_begins 68 = .ok (.astore_n 3, 1) := dk_78 (dk_at dksX1_begins_3 16 rfl rfl)
theorem dX1_begins_69 : decode cX1_begins 69 = .ok (.iconst 0, 1) := dk_3 (dk_at dksX1_begins_3 17 rfl rfl)
theorem dX1_begins_70 : decode cX1_begins 70 = .ok (.ireturn, 1) := dk_172 (dk_at dksX1_begins_3 18 rfl rfl)
theorem dX1_begins_71 : decode cX1_begins 71 = .ok (.iconst 1, 1) := dk_4 (dk_at dksX1_begins_3 19 rfl rfl)
theorem dX1_begins_72 : decode cX1_begins 72 = .ok (.ireturn, 1) := dk_172 (dk_at dksX1_begins_3 20 rfl rfl)
abbrev cX1_puts : ByteArray := prog_16_method_5_code
def yX1_puts : MethodName := ⟨RX1, "puts", "(IJ)I"⟩
def dkwX1_puts_0 : List UInt8 := [42, 27, 32, 182, 0, 25, 167, 0, 13, 58, 4, 16, 250, 172, 58, 4, 16, 249, 172, 3, 172]
abbrev dktX1_puts_0 : List UInt8 := dkwX1_puts_0 ++ []
theorem dksX1_puts_0 : cX1_puts.data.toList.drop 0 = dktX1_puts_0 := by decide +kernel
theorem dX1_puts_0 : decode cX1_puts 0 = .ok (.aload_n 0, 1) := dk_42 (dk_at dksX1_puts_0 0 rfl rfl)
theorem dX1_puts_1 : decode cX1_puts 1 = .ok (.iload_n 1, 1) := dk_27 (dk_at dksX1_puts_0 1 rfl rfl)
theorem dX1_puts_2 : decode cX1_puts 2 = .ok (.lload_n 2, 1) := dk_32 (dk_at dksX1_puts_0 2 rfl rfl)
theorem dX1_puts_3 : decode cX1_puts 3 = .ok (.invokevirtual 25, 3) := dk_182 0 25 (dk_at dksX1_puts_0 3 rfl rfl)
theorem dX1_puts_6 : decode cX1_puts 6 = .ok (.goto 13, 3) := dk_167 0 13 (dk_at dksX1_puts_0 6 rfl rfl)
theorem dX1_puts_9 : decode cX1_puts 9 = .ok (.astore 4, 2) := dk_58 4 (dk_at dksX1_puts_0 9 rfl rfl)
theorem dX1_puts_11 : decode cX1_puts 11 = .ok (.bipush (-6), 2) := dk_16 250 (dk_at dksX1_puts_0 11 rfl rfl)
theorem dX1_puts_13 : decode cX1_puts 13 = .ok (.ireturn, 1) := dk_172 (dk_at dksX1_puts_0 13 rfl rfl)
theorem dX1_puts_14 : decode cX1_puts 14 = .ok (.astore 4, 2) := dk_58 4 (dk_at dksX1_puts_0 14 rfl rfl)
theorem dX1_puts_16 : decode cX1_puts 16 = .ok (.bipush (-7), 2) := dk_16 249 (dk_at dksX1_puts_0 16 rfl rfl)
theorem dX1_puts_18 : decode cX1_puts 18 = .ok (.ireturn, 1) := dk_172 (dk_at dksX1_puts_0 18 rfl rfl)
theorem dX1_puts_19 : decode cX1_puts 19 = .ok (.iconst 0, 1) := dk_3 (dk_at dksX1_puts_0 19 rfl rfl)
theorem dX1_puts_20 : decode cX1_puts 20 = .ok (.ireturn, 1) := dk_172 (dk_at dksX1_puts_0 20 rfl rfl)
abbrev cX1_put : ByteArray := prog_16_method_6_code
def yX1_put : MethodName := ⟨RX1, "put", "(IJ)V"⟩
def dkwX1_put_2 : List UInt8 := [25, 4, 27, 32, 136, 147, 86, 167, 0, 9, 42, 27, 32, 182, 0, 33, 177]
abbrev dktX1_put_2 : List UInt8 := dkwX1_put_2 ++ []
def dkwX1_put_1 : List UInt8 := [145, 84, 167, 0, 38, 42, 180, 0, 9, 193, 0, 19, 153, 0, 22, 42, 180, 0, 9, 192, 0, 19, 58, 4]
abbrev dktX1_put_1 : List UInt8 := dkwX1_put_1 ++ dktX1_put_2
def dkwX1_put_0 : List UInt8 := [42, 180, 0, 9, 193, 0, 17, 153, 0, 22, 42, 180, 0, 9, 192, 0, 17, 58, 4, 25, 4, 27, 32, 136]
abbrev dktX1_put_0 : List UInt8 := dkwX1_put_0 ++ dktX1_put_1
theorem dksX1_put_0 : cX1_put.data.toList.drop 0 = dktX1_put_0 := by decide +kernel
theorem dksX1_put_1 : cX1_put.data.toList.drop 24 = dktX1_put_1 := dk_seg dksX1_put_0 24 rfl rfl
theorem dksX1_put_2 : cX1_put.data.toList.drop 48 = dktX1_put_2 := dk_seg dksX1_put_1 24 rfl rfl
theorem dX1_put_0 : decode cX1_put 0 = .ok (.aload_n 0, 1) := dk_42 (dk_at dksX1_put_0 0 rfl rfl)
theorem dX1_put_1 : decode cX1_put 1 = .ok (.getfield 9, 3) := dk_180 0 9 (dk_at dksX1_put_0 1 rfl rfl)
theorem dX1_put_4 : decode cX1_put 4 = .ok (.instanceof 17, 3) := dk_193 0 17 (dk_at dksX1_put_0 4 rfl rfl)
theorem dX1_put_7 : decode cX1_put 7 = .ok (.ifCond .eq 22, 3) := dk_153 0 22 (dk_at dksX1_put_0 7 rfl rfl)
theorem dX1_put_10 : decode cX1_put 10 = .ok (.aload_n 0, 1) := dk_42 (dk_at dksX1_put_0 10 rfl rfl)
theorem dX1_put_11 : decode cX1_put 11 = .ok (.getfield 9, 3) := dk_180 0 9 (dk_at dksX1_put_0 11 rfl rfl)
theorem dX1_put_14 : decode cX1_put 14 = .ok (.checkcast 17, 3) := dk_192 0 17 (dk_at dksX1_put_0 14 rfl rfl)
theorem dX1_put_17 : decode cX1_put 17 = .ok (.astore 4, 2) := dk_58 4 (dk_at dksX1_put_0 17 rfl rfl)
theorem dX1_put_19 : decode cX1_put 19 = .ok (.aload 4, 2) := dk_25 4 (dk_at dksX1_put_0 19 rfl rfl)
theorem dX1_put_21 : decode cX1_put 21 = .ok (.iload_n 1, 1) := dk_27 (dk_at dksX1_put_0 21 rfl rfl)
theorem dX1_put_22 : decode cX1_put 22 = .ok (.lload_n 2, 1) := dk_32 (dk_at dksX1_put_0 22 rfl rfl)
theorem dX1_put_23 : decode cX1_put 23 = .ok (.l2i, 1) := dk_136 (dk_at dksX1_put_0 23 rfl rfl)
theorem dX1_put_24 : decode cX1_put 24 = .ok (.i2b, 1) := dk_145 (dk_at dksX1_put_1 0 rfl rfl)
theorem dX1_put_25 : decode cX1_put 25 = .ok (.bastore, 1) := dk_84 (dk_at dksX1_put_1 1 rfl rfl)
theorem dX1_put_26 : decode cX1_put 26 = .ok (.goto 38, 3) := dk_167 0 38 (dk_at dksX1_put_1 2 rfl rfl)
theorem dX1_put_29 : decode cX1_put 29 = .ok (.aload_n 0, 1) := dk_42 (dk_at dksX1_put_1 5 rfl rfl)
theorem dX1_put_30 : decode cX1_put 30 = .ok (.getfield 9, 3) := dk_180 0 9 (dk_at dksX1_put_1 6 rfl rfl)
theorem dX1_put_33 : decode cX1_put 33 = .ok (.instanceof 19, 3) := dk_193 0 19 (dk_at dksX1_put_1 9 rfl rfl)
theorem dX1_put_36 : decode cX1_put 36 = .ok (.ifCond .eq 22, 3) := dk_153 0 22 (dk_at dksX1_put_1 12 rfl rfl)
theorem dX1_put_39 : decode cX1_put 39 = .ok (.aload_n 0, 1) := dk_42 (dk_at dksX1_put_1 15 rfl rfl)
theorem dX1_put_40 : decode cX1_put 40 = .ok (.getfield 9, 3) := dk_180 0 9 (dk_at dksX1_put_1 16 rfl rfl)
theorem dX1_put_43 : decode cX1_put 43 = .ok (.checkcast 19, 3) := dk_192 0 19 (dk_at dksX1_put_1 19 rfl rfl)
theorem dX1_put_46 : decode cX1_put 46 = .ok (.astore 4, 2) := dk_58 4 (dk_at dksX1_put_1 22 rfl rfl)
theorem dX1_put_48 : decode cX1_put 48 = .ok (.aload 4, 2) := dk_25 4 (dk_at dksX1_put_2 0 rfl rfl)
theorem dX1_put_50 : decode cX1_put 50 = .ok (.iload_n 1, 1) := dk_27 (dk_at dksX1_put_2 2 rfl rfl)
theorem dX1_put_51 : decode cX1_put 51 = .ok (.lload_n 2, 1) := dk_32 (dk_at dksX1_put_2 3 rfl rfl)
theorem dX1_put_52 : decode cX1_put 52 = .ok (.l2i, 1) := dk_136 (dk_at dksX1_put_2 4 rfl rfl)
theorem dX1_put_53 : decode cX1_put 53 = .ok (.i2s, 1) := dk_147 (dk_at dksX1_put_2 5 rfl rfl)
theorem dX1_put_54 : decode cX1_put 54 = .ok (.sastore, 1) := dk_86 (dk_at dksX1_put_2 6 rfl rfl)
theorem dX1_put_55 : decode cX1_put 55 = .ok (.goto 9, 3) := dk_167 0 9 (dk_at dksX1_put_2 7 rfl rfl)
theorem dX1_put_58 : decode cX1_put 58 = .ok (.aload_n 0, 1) := dk_42 (dk_at dksX1_put_2 10 rfl rfl)
theorem dX1_put_59 : decode cX1_put 59 = .ok (.iload_n 1, 1) := dk_27 (dk_at dksX1_put_2 11 rfl rfl)
theorem dX1_put_60 : decode cX1_put 60 = .ok (.lload_n 2, 1) := dk_32 (dk_at dksX1_put_2 12 rfl rfl)
theorem dX1_put_61 : decode cX1_put 61 = .ok (.invokevirtual 33, 3) := dk_182 0 33 (dk_at dksX1_put_2 13 rfl rfl)
theorem dX1_put_64 : decode cX1_put 64 = .ok (.return_, 1) := dk_177 (dk_at dksX1_put_2 16 rfl rfl)
abbrev cX1_putWider : ByteArray := prog_16_method_7_code
def yX1_putWider : MethodName := ⟨RX1, "putWider", "(IJ)V"⟩
def dkwX1_putWider_1 : List UInt8 := [192, 0, 23, 58, 5, 25, 5, 27, 32, 80, 177]
abbrev dktX1_putWider_1 : List UInt8 := dkwX1_putWider_1 ++ []
def dkwX1_putWider_0 : List UInt8 := [42, 180, 0, 9, 192, 0, 21, 58, 4, 25, 4, 27, 32, 136, 79, 167, 0, 19, 58, 4, 42, 180, 0, 9]
abbrev dktX1_putWider_0 : List UInt8 := dkwX1_putWider_0 ++ dktX1_putWider_1
theorem dksX1_putWider_0 : cX1_putWider.data.toList.drop 0 = dktX1_putWider_0 := by decide +kernel
theorem dksX1_putWider_1 : cX1_putWider.data.toList.drop 24 = dktX1_putWider_1 := dk_seg dksX1_putWider_0 24 rfl rfl
theorem dX1_putWider_0 : decode cX1_putWider 0 = .ok (.aload_n 0, 1) := dk_42 (dk_at dksX1_putWider_0 0 rfl rfl)
theorem dX1_putWider_1 : decode cX1_putWider 1 = .ok (.getfield 9, 3) := dk_180 0 9 (dk_at dksX1_putWider_0 1 rfl rfl)
theorem dX1_putWider_4 : decode cX1_putWider 4 = .ok (.checkcast 21, 3) := dk_192 0 21 (dk_at dksX1_putWider_0 4 rfl rfl)
theorem dX1_putWider_7 : decode cX1_putWider 7 = .ok (.astore 4, 2) := dk_58 4 (dk_at dksX1_putWider_0 7 rfl rfl)
theorem dX1_putWider_9 : decode cX1_putWider 9 = .ok (.aload 4, 2) := dk_25 4 (dk_at dksX1_putWider_0 9 rfl rfl)
theorem dX1_putWider_11 : decode cX1_putWider 11 = .ok (.iload_n 1, 1) := dk_27 (dk_at dksX1_putWider_0 11 rfl rfl)
theorem dX1_putWider_12 : decode cX1_putWider 12 = .ok (.lload_n 2, 1) := dk_32 (dk_at dksX1_putWider_0 12 rfl rfl)
theorem dX1_putWider_13 : decode cX1_putWider 13 = .ok (.l2i, 1) := dk_136 (dk_at dksX1_putWider_0 13 rfl rfl)
theorem dX1_putWider_14 : decode cX1_putWider 14 = .ok (.iastore, 1) := dk_79 (dk_at dksX1_putWider_0 14 rfl rfl)
theorem dX1_putWider_15 : decode cX1_putWider 15 = .ok (.goto 19, 3) := dk_167 0 19 (dk_at dksX1_putWider_0 15 rfl rfl)
theorem dX1_putWider_18 : decode cX1_putWider 18 = .ok (.astore 4, 2) := dk_58 4 (dk_at dksX1_putWider_0 18 rfl rfl)
theorem dX1_putWider_20 : decode cX1_putWider 20 = .ok (.aload_n 0, 1) := dk_42 (dk_at dksX1_putWider_0 20 rfl rfl)
theorem dX1_putWider_21 : decode cX1_putWider 21 = .ok (.getfield 9, 3) := dk_180 0 9 (dk_at dksX1_putWider_0 21 rfl rfl)
theorem dX1_putWider_24 : decode cX1_putWider 24 = .ok (.checkcast 23, 3) := dk_192 0 23 (dk_at dksX1_putWider_1 0 rfl rfl)
theorem dX1_putWider_27 : decode cX1_putWider 27 = .ok (.astore 5, 2) := dk_58 5 (dk_at dksX1_putWider_1 3 rfl rfl)
theorem dX1_putWider_29 : decode cX1_putWider 29 = .ok (.aload 5, 2) := dk_25 5 (dk_at dksX1_putWider_1 5 rfl rfl)
theorem dX1_putWider_31 : decode cX1_putWider 31 = .ok (.iload_n 1, 1) := dk_27 (dk_at dksX1_putWider_1 7 rfl rfl)
theorem dX1_putWider_32 : decode cX1_putWider 32 = .ok (.lload_n 2, 1) := dk_32 (dk_at dksX1_putWider_1 8 rfl rfl)
theorem dX1_putWider_33 : decode cX1_putWider 33 = .ok (.lastore, 1) := dk_80 (dk_at dksX1_putWider_1 9 rfl rfl)
theorem dX1_putWider_34 : decode cX1_putWider 34 = .ok (.return_, 1) := dk_177 (dk_at dksX1_putWider_1 10 rfl rfl)
abbrev cX1_pastes : ByteArray := prog_16_method_9_code
def yX1_pastes : MethodName := ⟨RX1, "pastes", "(ILMergeJudge$Slot;II)I"⟩
def dkwX1_pastes_2 : List UInt8 := [167, 0, 8, 58, 5, 16, 249, 172, 3, 172]
abbrev dktX1_pastes_2 : List UInt8 := dkwX1_pastes_2 ++ []
def dkwX1_pastes_1 : List UInt8 := [182, 0, 38, 159, 0, 6, 16, 248, 172, 42, 180, 0, 9, 27, 44, 180, 0, 9, 29, 21, 4, 184, 0, 42]
abbrev dktX1_pastes_1 : List UInt8 := dkwX1_pastes_1 ++ dktX1_pastes_2
def dkwX1_pastes_0 : List UInt8 := [42, 180, 0, 9, 198, 0, 10, 44, 180, 0, 9, 199, 0, 6, 16, 250, 172, 42, 182, 0, 38, 44]
abbrev dktX1_pastes_0 : List UInt8 := dkwX1_pastes_0 ++ dktX1_pastes_1
theorem dksX1_pastes_0 : cX1_pastes.data.toList.drop 0 = dktX1_pastes_0 := by decide +kernel
theorem dksX1_pastes_1 : cX1_pastes.data.toList.drop 22 = dktX1_pastes_1 := dk_seg dksX1_pastes_0 22 rfl rfl
theorem dksX1_pastes_2 : cX1_pastes.data.toList.drop 46 = dktX1_pastes_2 := dk_seg dksX1_pastes_1 24 rfl rfl
theorem dX1_pastes_0 : decode cX1_pastes 0 = .ok (.aload_n 0, 1) := dk_42 (dk_at dksX1_pastes_0 0 rfl rfl)
theorem dX1_pastes_1 : decode cX1_pastes 1 = .ok (.getfield 9, 3) := dk_180 0 9 (dk_at dksX1_pastes_0 1 rfl rfl)
theorem dX1_pastes_4 : decode cX1_pastes 4 = .ok (.ifnull 10, 3) := dk_198 0 10 (dk_at dksX1_pastes_0 4 rfl rfl)
theorem dX1_pastes_7 : decode cX1_pastes 7 = .ok (.aload_n 2, 1) := dk_44 (dk_at dksX1_pastes_0 7 rfl rfl)
theorem dX1_pastes_8 : decode cX1_pastes 8 = .ok (.getfield 9, 3) := dk_180 0 9 (dk_at dksX1_pastes_0 8 rfl rfl)
theorem dX1_pastes_11 : decode cX1_pastes 11 = .ok (.ifnonnull 6, 3) := dk_199 0 6 (dk_at dksX1_pastes_0 11 rfl rfl)
theorem dX1_pastes_14 : decode cX1_pastes 14 = .ok (.bipush (-6), 2) := dk_16 250 (dk_at dksX1_pastes_0 14 rfl rfl)
theorem dX1_pastes_16 : decode cX1_pastes 16 = .ok (.ireturn, 1) := dk_172 (dk_at dksX1_pastes_0 16 rfl rfl)
theorem dX1_pastes_17 : decode cX1_pastes 17 = .ok (.aload_n 0, 1) := dk_42 (dk_at dksX1_pastes_0 17 rfl rfl)
theorem dX1_pastes_18 : decode cX1_pastes 18 = .ok (.invokevirtual 38, 3) := dk_182 0 38 (dk_at dksX1_pastes_0 18 rfl rfl)
theorem dX1_pastes_21 : decode cX1_pastes 21 = .ok (.aload_n 2, 1) := dk_44 (dk_at dksX1_pastes_0 21 rfl rfl)
theorem dX1_pastes_22 : decode cX1_pastes 22 = .ok (.invokevirtual 38, 3) := dk_182 0 38 (dk_at dksX1_pastes_1 0 rfl rfl)
theorem dX1_pastes_25 : decode cX1_pastes 25 = .ok (.if_icmp .eq 6, 3) := dk_159 0 6 (dk_at dksX1_pastes_1 3 rfl rfl)
theorem dX1_pastes_28 : decode cX1_pastes 28 = .ok (.bipush (-8), 2) := dk_16 248 (dk_at dksX1_pastes_1 6 rfl rfl)
theorem dX1_pastes_30 : decode cX1_pastes 30 = .ok (.ireturn, 1) := dk_172 (dk_at dksX1_pastes_1 8 rfl rfl)
theorem dX1_pastes_31 : decode cX1_pastes 31 = .ok (.aload_n 0, 1) := dk_42 (dk_at dksX1_pastes_1 9 rfl rfl)
theorem dX1_pastes_32 : decode cX1_pastes 32 = .ok (.getfield 9, 3) := dk_180 0 9 (dk_at dksX1_pastes_1 10 rfl rfl)
theorem dX1_pastes_35 : decode cX1_pastes 35 = .ok (.iload_n 1, 1) := dk_27 (dk_at dksX1_pastes_1 13 rfl rfl)
theorem dX1_pastes_36 : decode cX1_pastes 36 = .ok (.aload_n 2, 1) := dk_44 (dk_at dksX1_pastes_1 14 rfl rfl)
theorem dX1_pastes_37 : decode cX1_pastes 37 = .ok (.getfield 9, 3) := dk_180 0 9 (dk_at dksX1_pastes_1 15 rfl rfl)
theorem dX1_pastes_40 : decode cX1_pastes 40 = .ok (.iload_n 3, 1) := dk_29 (dk_at dksX1_pastes_1 18 rfl rfl)
theorem dX1_pastes_41 : decode cX1_pastes 41 = .ok (.iload 4, 2) := dk_21 4 (dk_at dksX1_pastes_1 19 rfl rfl)
theorem dX1_pastes_43 : decode cX1_pastes 43 = .ok (.invokestatic 42, 3) := dk_184 0 42 (dk_at dksX1_pastes_1 21 rfl rfl)
theorem dX1_pastes_46 : decode cX1_pastes 46 = .ok (.goto 8, 3) := dk_167 0 8 (dk_at dksX1_pastes_2 0 rfl rfl)
theorem dX1_pastes_49 : decode cX1_pastes 49 = .ok (.astore 5, 2) := dk_58 5 (dk_at dksX1_pastes_2 3 rfl rfl)
theorem dX1_pastes_51 : decode cX1_pastes 51 = .ok (.bipush (-7), 2) := dk_16 249 (dk_at dksX1_pastes_2 5 rfl rfl)
theorem dX1_pastes_53 : decode cX1_pastes 53 = .ok (.ireturn, 1) := dk_172 (dk_at dksX1_pastes_2 7 rfl rfl)
theorem dX1_pastes_54 : decode cX1_pastes 54 = .ok (.iconst 0, 1) := dk_3 (dk_at dksX1_pastes_2 8 rfl rfl)
theorem dX1_pastes_55 : decode cX1_pastes 55 = .ok (.ireturn, 1) := dk_172 (dk_at dksX1_pastes_2 9 rfl rfl)
abbrev cX1_width : ByteArray := prog_16_method_8_code
def yX1_width : MethodName := ⟨RX1, "width", "()I"⟩
def dkwX1_width_1 : List UInt8 := [4, 167, 0, 18, 42, 180, 0, 9, 193, 0, 21, 153, 0, 7, 5, 167, 0, 4, 6, 172]
abbrev dktX1_width_1 : List UInt8 := dkwX1_width_1 ++ []
def dkwX1_width_0 : List UInt8 := [42, 180, 0, 9, 193, 0, 17, 153, 0, 7, 3, 167, 0, 32, 42, 180, 0, 9, 193, 0, 19, 153, 0, 7]
abbrev dktX1_width_0 : List UInt8 := dkwX1_width_0 ++ dktX1_width_1
theorem dksX1_width_0 : cX1_width.data.toList.drop 0 = dktX1_width_0 := by decide +kernel
theorem dksX1_width_1 : cX1_width.data.toList.drop 24 = dktX1_width_1 := dk_seg dksX1_width_0 24 rfl rfl
theorem dX1_width_0 : decode cX1_width 0 = .ok (.aload_n 0, 1) := dk_42 (dk_at dksX1_width_0 0 rfl rfl)
theorem dX1_width_1 : decode cX1_width 1 = .ok (.getfield 9, 3) := dk_180 0 9 (dk_at dksX1_width_0 1 rfl rfl)
theorem dX1_width_4 : decode cX1_width 4 = .ok (.instanceof 17, 3) := dk_193 0 17 (dk_at dksX1_width_0 4 rfl rfl)
theorem dX1_width_7 : decode cX1_width 7 = .ok (.ifCond .eq 7, 3) := dk_153 0 7 (dk_at dksX1_width_0 7 rfl rfl)
theorem dX1_width_10 : decode cX1_width 10 = .ok (.iconst 0, 1) := dk_3 (dk_at dksX1_width_0 10 rfl rfl)
theorem dX1_width_11 : decode cX1_width 11 = .ok (.goto 32, 3) := dk_167 0 32 (dk_at dksX1_width_0 11 rfl rfl)
theorem dX1_width_14 : decode cX1_width 14 = .ok (.aload_n 0, 1) := dk_42 (dk_at dksX1_width_0 14 rfl rfl)
theorem dX1_width_15 : decode cX1_width 15 = .ok (.getfield 9, 3) := dk_180 0 9 (dk_at dksX1_width_0 15 rfl rfl)
theorem dX1_width_18 : decode cX1_width 18 = .ok (.instanceof 19, 3) := dk_193 0 19 (dk_at dksX1_width_0 18 rfl rfl)
theorem dX1_width_21 : decode cX1_width 21 = .ok (.ifCond .eq 7, 3) := dk_153 0 7 (dk_at dksX1_width_0 21 rfl rfl)
theorem dX1_width_24 : decode cX1_width 24 = .ok (.iconst 1, 1) := dk_4 (dk_at dksX1_width_1 0 rfl rfl)
theorem dX1_width_25 : decode cX1_width 25 = .ok (.goto 18, 3) := dk_167 0 18 (dk_at dksX1_width_1 1 rfl rfl)
theorem dX1_width_28 : decode cX1_width 28 = .ok (.aload_n 0, 1) := dk_42 (dk_at dksX1_width_1 4 rfl rfl)
theorem dX1_width_29 : decode cX1_width 29 = .ok (.getfield 9, 3) := dk_180 0 9 (dk_at dksX1_width_1 5 rfl rfl)
theorem dX1_width_32 : decode cX1_width 32 = .ok (.instanceof 21, 3) := dk_193 0 21 (dk_at dksX1_width_1 8 rfl rfl)
theorem dX1_width_35 : decode cX1_width 35 = .ok (.ifCond .eq 7, 3) := dk_153 0 7 (dk_at dksX1_width_1 11 rfl rfl)
theorem dX1_width_38 : decode cX1_width 38 = .ok (.iconst 2, 1) := dk_5 (dk_at dksX1_width_1 14 rfl rfl)
theorem dX1_width_39 : decode cX1_width 39 = .ok (.goto 4, 3) := dk_167 0 4 (dk_at dksX1_width_1 15 rfl rfl)
theorem dX1_width_42 : decode cX1_width 42 = .ok (.iconst 3, 1) := dk_6 (dk_at dksX1_width_1 18 rfl rfl)
theorem dX1_width_43 : decode cX1_width 43 = .ok (.ireturn, 1) := dk_172 (dk_at dksX1_width_1 19 rfl rfl)
abbrev cX1_init : ByteArray := prog_16_method_1_code
def yX1_init : MethodName := ⟨RX1, "<init>", "()V"⟩
theorem dX1_init_0 : decode cX1_init 0 = .ok (.aload_n 0, 1) := by decide +kernel
theorem dX1_init_1 : decode cX1_init 1 = .ok (.invokespecial 3, 3) := by decide +kernel
theorem dX1_init_4 : decode cX1_init 4 = .ok (.return_, 1) := by decide +kernel
abbrev cX1_many : ByteArray := prog_16_method_3_code
def yX1_many : MethodName := ⟨RX1, "many", "()I"⟩
def dkwX1_many_2 : List UInt8 := [153, 0, 14, 42, 180, 0, 9, 192, 0, 21, 190, 167, 0, 11, 42, 180, 0, 9, 192, 0, 23, 190, 172]
abbrev dktX1_many_2 : List UInt8 := dkwX1_many_2 ++ []
def dkwX1_many_1 : List UInt8 := [193, 0, 19, 153, 0, 12, 42, 180, 0, 9, 192, 0, 19, 190, 172, 42, 180, 0, 9, 193, 0, 21]
abbrev dktX1_many_1 : List UInt8 := dkwX1_many_1 ++ dktX1_many_2
def dkwX1_many_0 : List UInt8 := [42, 180, 0, 9, 193, 0, 17, 153, 0, 12, 42, 180, 0, 9, 192, 0, 17, 190, 172, 42, 180, 0, 9]
abbrev dktX1_many_0 : List UInt8 := dkwX1_many_0 ++ dktX1_many_1
theorem dksX1_many_0 : cX1_many.data.toList.drop 0 = dktX1_many_0 := by decide +kernel
theorem dksX1_many_1 : cX1_many.data.toList.drop 23 = dktX1_many_1 := dk_seg dksX1_many_0 23 rfl rfl
theorem dksX1_many_2 : cX1_many.data.toList.drop 45 = dktX1_many_2 := dk_seg dksX1_many_1 22 rfl rfl
theorem dX1_many_0 : decode cX1_many 0 = .ok (.aload_n 0, 1) := dk_42 (dk_at dksX1_many_0 0 rfl rfl)
theorem dX1_many_1 : decode cX1_many 1 = .ok (.getfield 9, 3) := dk_180 0 9 (dk_at dksX1_many_0 1 rfl rfl)
theorem dX1_many_4 : decode cX1_many 4 = .ok (.instanceof 17, 3) := dk_193 0 17 (dk_at dksX1_many_0 4 rfl rfl)
theorem dX1_many_7 : decode cX1_many 7 = .ok (.ifCond .eq 12, 3) := dk_153 0 12 (dk_at dksX1_many_0 7 rfl rfl)
theorem dX1_many_10 : decode cX1_many 10 = .ok (.aload_n 0, 1) := dk_42 (dk_at dksX1_many_0 10 rfl rfl)
theorem dX1_many_11 : decode cX1_many 11 = .ok (.getfield 9, 3) := dk_180 0 9 (dk_at dksX1_many_0 11 rfl rfl)
theorem dX1_many_14 : decode cX1_many 14 = .ok (.checkcast 17, 3) := dk_192 0 17 (dk_at dksX1_many_0 14 rfl rfl)
theorem dX1_many_17 : decode cX1_many 17 = .ok (.arraylength, 1) := dk_190 (dk_at dksX1_many_0 17 rfl rfl)
theorem dX1_many_18 : decode cX1_many 18 = .ok (.ireturn, 1) := dk_172 (dk_at dksX1_many_0 18 rfl rfl)
theorem dX1_many_19 : decode cX1_many 19 = .ok (.aload_n 0, 1) := dk_42 (dk_at dksX1_many_0 19 rfl rfl)
theorem dX1_many_20 : decode cX1_many 20 = .ok (.getfield 9, 3) := dk_180 0 9 (dk_at dksX1_many_0 20 rfl rfl)
theorem dX1_many_23 : decode cX1_many 23 = .ok (.instanceof 19, 3) := dk_193 0 19 (dk_at dksX1_many_1 0 rfl rfl)
theorem dX1_many_26 : decode cX1_many 26 = .ok (.ifCond .eq 12, 3) := dk_153 0 12 (dk_at dksX1_many_1 3 rfl rfl)
theorem dX1_many_29 : decode cX1_many 29 = .ok (.aload_n 0, 1) := dk_42 (dk_at dksX1_many_1 6 rfl rfl)
theorem dX1_many_30 : decode cX1_many 30 = .ok (.getfield 9, 3) := dk_180 0 9 (dk_at dksX1_many_1 7 rfl rfl)
theorem dX1_many_33 : decode cX1_many 33 = .ok (.checkcast 19, 3) := dk_192 0 19 (dk_at dksX1_many_1 10 rfl rfl)
theorem dX1_many_36 : decode cX1_many 36 = .ok (.arraylength, 1) := dk_190 (dk_at dksX1_many_1 13 rfl rfl)
theorem dX1_many_37 : decode cX1_many 37 = .ok (.ireturn, 1) := dk_172 (dk_at dksX1_many_1 14 rfl rfl)
theorem dX1_many_38 : decode cX1_many 38 = .ok (.aload_n 0, 1) := dk_42 (dk_at dksX1_many_1 15 rfl rfl)
theorem dX1_many_39 : decode cX1_many 39 = .ok (.getfield 9, 3) := dk_180 0 9 (dk_at dksX1_many_1 16 rfl rfl)
theorem dX1_many_42 : decode cX1_many 42 = .ok (.instanceof 21, 3) := dk_193 0 21 (dk_at dksX1_many_1 19 rfl rfl)
theorem dX1_many_45 : decode cX1_many 45 = .ok (.ifCond .eq 14, 3) := dk_153 0 14 (dk_at dksX1_many_2 0 rfl rfl)
theorem dX1_many_48 : decode cX1_many 48 = .ok (.aload_n 0, 1) := dk_42 (dk_at dksX1_many_2 3 rfl rfl)
theorem dX1_many_49 : decode cX1_many 49 = .ok (.getfield 9, 3) := dk_180 0 9 (dk_at dksX1_many_2 4 rfl rfl)
theorem dX1_many_52 : decode cX1_many 52 = .ok (.checkcast 21, 3) := dk_192 0 21 (dk_at dksX1_many_2 7 rfl rfl)
theorem dX1_many_55 : decode cX1_many 55 = .ok (.arraylength, 1) := dk_190 (dk_at dksX1_many_2 10 rfl rfl)
theorem dX1_many_56 : decode cX1_many 56 = .ok (.goto 11, 3) := dk_167 0 11 (dk_at dksX1_many_2 11 rfl rfl)
theorem dX1_many_59 : decode cX1_many 59 = .ok (.aload_n 0, 1) := dk_42 (dk_at dksX1_many_2 14 rfl rfl)
theorem dX1_many_60 : decode cX1_many 60 = .ok (.getfield 9, 3) := dk_180 0 9 (dk_at dksX1_many_2 15 rfl rfl)
theorem dX1_many_63 : decode cX1_many 63 = .ok (.checkcast 23, 3) := dk_192 0 23 (dk_at dksX1_many_2 18 rfl rfl)
theorem dX1_many_66 : decode cX1_many 66 = .ok (.arraylength, 1) := dk_190 (dk_at dksX1_many_2 21 rfl rfl)
theorem dX1_many_67 : decode cX1_many 67 = .ok (.ireturn, 1) := dk_172 (dk_at dksX1_many_2 22 rfl rfl)
abbrev cX1_number : ByteArray := prog_16_method_4_code
def yX1_number : MethodName := ⟨RX1, "number", "(I)J"⟩
def dkwX1_number_3 : List UInt8 := [192, 0, 23, 27, 47, 173]
abbrev dktX1_number_3 : List UInt8 := dkwX1_number_3 ++ []
def dkwX1_number_2 : List UInt8 := [193, 0, 21, 153, 0, 16, 42, 180, 0, 9, 192, 0, 21, 27, 46, 133, 167, 0, 12, 42, 180, 0, 9]
abbrev dktX1_number_2 : List UInt8 := dkwX1_number_2 ++ dktX1_number_3
def dkwX1_number_1 : List UInt8 := [180, 0, 9, 193, 0, 19, 153, 0, 14, 42, 180, 0, 9, 192, 0, 19, 27, 53, 133, 173, 42, 180, 0, 9]
abbrev dktX1_number_1 : List UInt8 := dkwX1_number_1 ++ dktX1_number_2
def dkwX1_number_0 : List UInt8 := [42, 180, 0, 9, 193, 0, 17, 153, 0, 14, 42, 180, 0, 9, 192, 0, 17, 27, 51, 133, 173, 42]
abbrev dktX1_number_0 : List UInt8 := dkwX1_number_0 ++ dktX1_number_1
theorem dksX1_number_0 : cX1_number.data.toList.drop 0 = dktX1_number_0 := by decide +kernel
theorem dksX1_number_1 : cX1_number.data.toList.drop 22 = dktX1_number_1 := dk_seg dksX1_number_0 22 rfl rfl
theorem dksX1_number_2 : cX1_number.data.toList.drop 46 = dktX1_number_2 := dk_seg dksX1_number_1 24 rfl rfl
theorem dksX1_number_3 : cX1_number.data.toList.drop 69 = dktX1_number_3 := dk_seg dksX1_number_2 23 rfl rfl
theorem dX1_number_0 : decode cX1_number 0 = .ok (.aload_n 0, 1) := dk_42 (dk_at dksX1_number_0 0 rfl rfl)
theorem dX1_number_1 : decode cX1_number 1 = .ok (.getfield 9, 3) := dk_180 0 9 (dk_at dksX1_number_0 1 rfl rfl)
theorem dX1_number_4 : decode cX1_number 4 = .ok (.instanceof 17, 3) := dk_193 0 17 (dk_at dksX1_number_0 4 rfl rfl)
theorem dX1_number_7 : decode cX1_number 7 = .ok (.ifCond .eq 14, 3) := dk_153 0 14 (dk_at dksX1_number_0 7 rfl rfl)
theorem dX1_number_10 : decode cX1_number 10 = .ok (.aload_n 0, 1) := dk_42 (dk_at dksX1_number_0 10 rfl rfl)
theorem dX1_number_11 : decode cX1_number 11 = .ok (.getfield 9, 3) := dk_180 0 9 (dk_at dksX1_number_0 11 rfl rfl)
theorem dX1_number_14 : decode cX1_number 14 = .ok (.checkcast 17, 3) := dk_192 0 17 (dk_at dksX1_number_0 14 rfl rfl)
theorem dX1_number_17 : decode cX1_number 17 = .ok (.iload_n 1, 1) := dk_27 (dk_at dksX1_number_0 17 rfl rfl)
theorem dX1_number_18 : decode cX1_number 18 = .ok (.baload, 1) := dk_51 (dk_at dksX1_number_0 18 rfl rfl)
theorem dX1_number_19 : decode cX1_number 19 = .ok (.i2l, 1) := dk_133 (dk_at dksX1_number_0 19 rfl rfl)
theorem dX1_number_20 : decode cX1_number 20 = .ok (.lreturn, 1) := dk_173 (dk_at dksX1_number_0 20 rfl rfl)
theorem dX1_number_21 : decode cX1_number 21 = .ok (.aload_n 0, 1) := dk_42 (dk_at dksX1_number_0 21 rfl rfl)
theorem dX1_number_22 : decode cX1_number 22 = .ok (.getfield 9, 3) := dk_180 0 9 (dk_at dksX1_number_1 0 rfl rfl)
theorem dX1_number_25 : decode cX1_number 25 = .ok (.instanceof 19, 3) := dk_193 0 19 (dk_at dksX1_number_1 3 rfl rfl)
theorem dX1_number_28 : decode cX1_number 28 = .ok (.ifCond .eq 14, 3) := dk_153 0 14 (dk_at dksX1_number_1 6 rfl rfl)
theorem dX1_number_31 : decode cX1_number 31 = .ok (.aload_n 0, 1) := dk_42 (dk_at dksX1_number_1 9 rfl rfl)
theorem dX1_number_32 : decode cX1_number 32 = .ok (.getfield 9, 3) := dk_180 0 9 (dk_at dksX1_number_1 10 rfl rfl)
theorem dX1_number_35 : decode cX1_number 35 = .ok (.checkcast 19, 3) := dk_192 0 19 (dk_at dksX1_number_1 13 rfl rfl)
theorem dX1_number_38 : decode cX1_number 38 = .ok (.iload_n 1, 1) := dk_27 (dk_at dksX1_number_1 16 rfl rfl)
theorem dX1_number_39 : decode cX1_number 39 = .ok (.saload, 1) := dk_53 (dk_at dksX1_number_1 17 rfl rfl)
theorem dX1_number_40 : decode cX1_number 40 = .ok (.i2l, 1) := dk_133 (dk_at dksX1_number_1 18 rfl rfl)
theorem dX1_number_41 : decode cX1_number 41 = .ok (.lreturn, 1) := dk_173 (dk_at dksX1_number_1 19 rfl rfl)
theorem dX1_number_42 : decode cX1_number 42 = .ok (.aload_n 0, 1) := dk_42 (dk_at dksX1_number_1 20 rfl rfl)
theorem dX1_number_43 : decode cX1_number 43 = .ok (.getfield 9, 3) := dk_180 0 9 (dk_at dksX1_number_1 21 rfl rfl)
theorem dX1_number_46 : decode cX1_number 46 = .ok (.instanceof 21, 3) := dk_193 0 21 (dk_at dksX1_number_2 0 rfl rfl)
theorem dX1_number_49 : decode cX1_number 49 = .ok (.ifCond .eq 16, 3) := dk_153 0 16 (dk_at dksX1_number_2 3 rfl rfl)
theorem dX1_number_52 : decode cX1_number 52 = .ok (.aload_n 0, 1) := dk_42 (dk_at dksX1_number_2 6 rfl rfl)
theorem dX1_number_53 : decode cX1_number 53 = .ok (.getfield 9, 3) := dk_180 0 9 (dk_at dksX1_number_2 7 rfl rfl)
theorem dX1_number_56 : decode cX1_number 56 = .ok (.checkcast 21, 3) := dk_192 0 21 (dk_at dksX1_number_2 10 rfl rfl)
theorem dX1_number_59 : decode cX1_number 59 = .ok (.iload_n 1, 1) := dk_27 (dk_at dksX1_number_2 13 rfl rfl)
theorem dX1_number_60 : decode cX1_number 60 = .ok (.iaload, 1) := dk_46 (dk_at dksX1_number_2 14 rfl rfl)
theorem dX1_number_61 : decode cX1_number 61 = .ok (.i2l, 1) := dk_133 (dk_at dksX1_number_2 15 rfl rfl)
theorem dX1_number_62 : decode cX1_number 62 = .ok (.goto 12, 3) := dk_167 0 12 (dk_at dksX1_number_2 16 rfl rfl)
theorem dX1_number_65 : decode cX1_number 65 = .ok (.aload_n 0, 1) := dk_42 (dk_at dksX1_number_2 19 rfl rfl)
theorem dX1_number_66 : decode cX1_number 66 = .ok (.getfield 9, 3) := dk_180 0 9 (dk_at dksX1_number_2 20 rfl rfl)
theorem dX1_number_69 : decode cX1_number 69 = .ok (.checkcast 23, 3) := dk_192 0 23 (dk_at dksX1_number_3 0 rfl rfl)
theorem dX1_number_72 : decode cX1_number 72 = .ok (.iload_n 1, 1) := dk_27 (dk_at dksX1_number_3 3 rfl rfl)
theorem dX1_number_73 : decode cX1_number 73 = .ok (.laload, 1) := dk_47 (dk_at dksX1_number_3 4 rfl rfl)
theorem dX1_number_74 : decode cX1_number 74 = .ok (.lreturn, 1) := dk_173 (dk_at dksX1_number_3 5 rfl rfl)
theorem q168 : (Jvm.Cond.initialized "MergeJudge$Slot") ∈ lw_all := lw_g (lw_at lw_m1 2 rfl) rfl
theorem q230 : (Jvm.Cond.instanceMethod ({ cls := "MergeJudge$Slot", name := "begins", desc := "(II)Z" } : Jvm.MethodName)) ∈ lw_all := lw_g (lw_at lw_m1 64 rfl) rfl
theorem q231 : (Jvm.Cond.selects "MergeJudge$Slot" ({ cls := "MergeJudge$Slot", name := "begins", desc := "(II)Z" } : Jvm.MethodName) ({ cls := "MergeJudge$Slot", name := "begins", desc := "(II)Z" } : Jvm.MethodName)) ∈ lw_all := lw_g (lw_at lw_m1 65 rfl) rfl
theorem q232 : (Jvm.Cond.codeWith ({ cls := "MergeJudge$Slot", name := "begins", desc := "(II)Z" } : Jvm.MethodName) prog_16_method_2_code (4 : Nat) (Option.some Jvm.ClassFile.FieldType.boolean) [((0 : Nat), (65 : Nat), (68 : Nat), (15 : Nat))]) ∈ lw_all := lw_g (lw_at lw_m1 66 rfl) rfl
theorem q233 : (Jvm.Cond.classLink "MergeJudge$Slot" (15 : Nat) "java/lang/NegativeArraySizeException") ∈ lw_all := lw_g (lw_at lw_m1 67 rfl) rfl
theorem q330 : (Jvm.Cond.instanceMethod ({ cls := "MergeJudge$Slot", name := "puts", desc := "(IJ)I" } : Jvm.MethodName)) ∈ lw_all := lw_g (lw_at lw_m1 164 rfl) rfl
theorem q331 : (Jvm.Cond.selects "MergeJudge$Slot" ({ cls := "MergeJudge$Slot", name := "puts", desc := "(IJ)I" } : Jvm.MethodName) ({ cls := "MergeJudge$Slot", name := "puts", desc := "(IJ)I" } : Jvm.MethodName)) ∈ lw_all := lw_g (lw_at lw_m1 165 rfl) rfl
theorem q332 : (Jvm.Cond.codeWith ({ cls := "MergeJudge$Slot", name := "puts", desc := "(IJ)I" } : Jvm.MethodName) prog_16_method_5_code (5 : Nat) (Option.some Jvm.ClassFile.FieldType.int) [((0 : Nat), (6 : Nat), (9 : Nat), (29 : Nat)), ((0 : Nat), (6 : Nat), (14 : Nat), (31 : Nat))]) ∈ lw_all := lw_g (lw_at lw_m1 166 rfl) rfl
theorem q333 : (Jvm.Cond.classLink "MergeJudge$Slot" (29 : Nat) "java/lang/NullPointerException") ∈ lw_all := lw_g (lw_at lw_m1 167 rfl) rfl
theorem q358 : (Jvm.Cond.classLink "MergeJudge$Slot" (31 : Nat) "java/lang/ArrayIndexOutOfBoundsException") ∈ lw_all := lw_g (lw_at lw_m1 192 rfl) rfl
theorem q377 : (Jvm.Cond.methodLink "MergeJudge$Slot" (25 : Nat) ({ cls := "MergeJudge$Slot", name := "put", desc := "(IJ)V" } : Jvm.MethodName)) ∈ lw_all := lw_g (lw_at lw_m1 211 rfl) rfl
theorem q378 : (Jvm.Cond.privateMethod ({ cls := "MergeJudge$Slot", name := "put", desc := "(IJ)V" } : Jvm.MethodName)) ∈ lw_tbl := lw_at lw_m1 212 rfl
theorem q379 : (Jvm.Cond.instanceMethod ({ cls := "MergeJudge$Slot", name := "put", desc := "(IJ)V" } : Jvm.MethodName)) ∈ lw_all := lw_g (lw_at lw_m1 213 rfl) rfl
theorem q380 : (Jvm.Cond.instantiable "MergeJudge$Slot" (1 : Nat)) ∈ lw_all := lw_g (lw_at lw_m1 214 rfl) rfl
theorem q381 : (Jvm.Cond.code ({ cls := "MergeJudge$Slot", name := "put", desc := "(IJ)V" } : Jvm.MethodName) prog_16_method_6_code (5 : Nat) (Option.none : Option Jvm.ClassFile.FieldType)) ∈ lw_all := lw_g (lw_at lw_m1 215 rfl) rfl
theorem q382 : (Jvm.Cond.classLink "MergeJudge$Slot" (17 : Nat) "[B") ∈ lw_all := lw_g (lw_at lw_m1 216 rfl) rfl
theorem q383 : (Jvm.Cond.classLink "MergeJudge$Slot" (19 : Nat) "[S") ∈ lw_all := lw_g (lw_at lw_m1 217 rfl) rfl
theorem q384 : (Jvm.Cond.methodLink "MergeJudge$Slot" (33 : Nat) ({ cls := "MergeJudge$Slot", name := "putWider", desc := "(IJ)V" } : Jvm.MethodName)) ∈ lw_all := lw_g (lw_at lw_m1 218 rfl) rfl
theorem q385 : (Jvm.Cond.privateMethod ({ cls := "MergeJudge$Slot", name := "putWider", desc := "(IJ)V" } : Jvm.MethodName)) ∈ lw_tbl := lw_at lw_m1 219 rfl
theorem q386 : (Jvm.Cond.instanceMethod ({ cls := "MergeJudge$Slot", name := "putWider", desc := "(IJ)V" } : Jvm.MethodName)) ∈ lw_all := lw_g (lw_at lw_m1 220 rfl) rfl
theorem q387 : (Jvm.Cond.codeWith ({ cls := "MergeJudge$Slot", name := "putWider", desc := "(IJ)V" } : Jvm.MethodName) prog_16_method_7_code (6 : Nat) (Option.none : Option Jvm.ClassFile.FieldType) [((0 : Nat), (15 : Nat), (18 : Nat), (36 : Nat))]) ∈ lw_all := lw_g (lw_at lw_m1 221 rfl) rfl
theorem q388 : (Jvm.Cond.classLink "MergeJudge$Slot" (36 : Nat) "java/lang/ClassCastException") ∈ lw_all := lw_g (lw_at lw_m1 222 rfl) rfl
theorem q402 : (Jvm.Cond.classLink "MergeJudge$Slot" (21 : Nat) "[I") ∈ lw_all := lw_g (lw_at lw_m1 236 rfl) rfl
theorem q403 : (Jvm.Cond.classLink "MergeJudge$Slot" (23 : Nat) "[J") ∈ lw_all := lw_g (lw_at lw_m1 237 rfl) rfl
theorem q409 : (Jvm.Cond.instanceMethod ({ cls := "MergeJudge$Slot", name := "pastes", desc := "(ILMergeJudge$Slot;II)I" } : Jvm.MethodName)) ∈ lw_all := lw_g (lw_at lw_m2 3 rfl) rfl
theorem q410 : (Jvm.Cond.selects "MergeJudge$Slot" ({ cls := "MergeJudge$Slot", name := "pastes", desc := "(ILMergeJudge$Slot;II)I" } : Jvm.MethodName) ({ cls := "MergeJudge$Slot", name := "pastes", desc := "(ILMergeJudge$Slot;II)I" } : Jvm.MethodName)) ∈ lw_all := lw_g (lw_at lw_m2 4 rfl) rfl
theorem q411 : (Jvm.Cond.codeWith ({ cls := "MergeJudge$Slot", name := "pastes", desc := "(ILMergeJudge$Slot;II)I" } : Jvm.MethodName) prog_16_method_9_code (6 : Nat) (Option.some Jvm.ClassFile.FieldType.int) [((31 : Nat), (46 : Nat), (49 : Nat), (48 : Nat))]) ∈ lw_all := lw_g (lw_at lw_m2 5 rfl) rfl
theorem q412 : (Jvm.Cond.classLink "MergeJudge$Slot" (48 : Nat) "java/lang/IndexOutOfBoundsException") ∈ lw_all := lw_g (lw_at lw_m2 6 rfl) rfl
theorem q413 : (Jvm.Cond.methodLink "MergeJudge$Slot" (38 : Nat) ({ cls := "MergeJudge$Slot", name := "width", desc := "()I" } : Jvm.MethodName)) ∈ lw_all := lw_g (lw_at lw_m2 7 rfl) rfl
theorem q414 : (Jvm.Cond.privateMethod ({ cls := "MergeJudge$Slot", name := "width", desc := "()I" } : Jvm.MethodName)) ∈ lw_tbl := lw_at lw_m2 8 rfl
theorem q415 : (Jvm.Cond.instanceMethod ({ cls := "MergeJudge$Slot", name := "width", desc := "()I" } : Jvm.MethodName)) ∈ lw_all := lw_g (lw_at lw_m2 9 rfl) rfl
theorem q416 : (Jvm.Cond.code ({ cls := "MergeJudge$Slot", name := "width", desc := "()I" } : Jvm.MethodName) prog_16_method_8_code (1 : Nat) (Option.some Jvm.ClassFile.FieldType.int)) ∈ lw_all := lw_g (lw_at lw_m2 10 rfl) rfl
theorem q417 : (Jvm.Cond.methodLink "MergeJudge$Slot" (42 : Nat) ({ cls := "java/lang/System", name := "arraycopy", desc := "(Ljava/lang/Object;ILjava/lang/Object;II)V" } : Jvm.MethodName)) ∈ lw_all := lw_g (lw_at lw_m2 11 rfl) rfl
theorem q429 : (Jvm.Cond.instanceMethod ({ cls := "MergeJudge$Slot", name := "<init>", desc := "()V" } : Jvm.MethodName)) ∈ lw_all := lw_g (lw_at lw_m2 23 rfl) rfl
theorem q430 : (Jvm.Cond.code ({ cls := "MergeJudge$Slot", name := "<init>", desc := "()V" } : Jvm.MethodName) prog_16_method_1_code (1 : Nat) (Option.none : Option Jvm.ClassFile.FieldType)) ∈ lw_all := lw_g (lw_at lw_m2 24 rfl) rfl
theorem q431 : (Jvm.Cond.methodLink "MergeJudge$Slot" (3 : Nat) ({ cls := "java/lang/Object", name := "<init>", desc := "()V" } : Jvm.MethodName)) ∈ lw_all := lw_g (lw_at lw_m2 25 rfl) rfl
theorem q432 : (Jvm.Cond.fieldLink "MergeJudge$Slot" (9 : Nat) "MergeJudge$Slot" "held" "Ljava/lang/Object;") ∈ lw_all := lw_g (lw_at lw_m2 26 rfl) rfl
theorem q434 : (Jvm.Cond.lays "MergeJudge$Slot" "MergeJudge$Slot" "held" "Ljava/lang/Object;") ∈ lw_all := lw_g (lw_at lw_m2 28 rfl) rfl
theorem q435 : (Jvm.Cond.soleField "MergeJudge$Slot" "held") ∈ lw_all := lw_g (lw_at lw_m2 29 rfl) rfl
theorem q436 : (Jvm.Cond.superclass "MergeJudge$Slot" "java/lang/Object") ∈ lw_all := lw_g (lw_at lw_m2 30 rfl) rfl
theorem q860 : (Jvm.Cond.selects "MergeJudge$Slot" ({ cls := "java/lang/Object", name := "hashCode", desc := "()I" } : Jvm.MethodName) ({ cls := "java/lang/Object", name := "hashCode", desc := "()I" } : Jvm.MethodName)) ∈ lw_all := lw_g (lw_at lw_m3 214 rfl) rfl
theorem q1023 : (Jvm.Cond.selects "MergeJudge$Slot" ({ cls := "java/lang/Object", name := "getClass", desc := "()Ljava/lang/Class;" } : Jvm.MethodName) ({ cls := "java/lang/Object", name := "getClass", desc := "()Ljava/lang/Class;" } : Jvm.MethodName)) ∈ lw_all := lw_g (lw_at lw_m4 137 rfl) rfl
theorem q1293 : (Jvm.Cond.selects "MergeJudge$Slot" ({ cls := "java/lang/Object", name := "equals", desc := "(Ljava/lang/Object;)Z" } : Jvm.MethodName) ({ cls := "java/lang/Object", name := "equals", desc := "(Ljava/lang/Object;)Z" } : Jvm.MethodName)) ∈ lw_all := lw_g (lw_at lw_m5 167 rfl) rfl
theorem q2384 : (Jvm.Cond.instanceMethod ({ cls := "MergeJudge$Slot", name := "many", desc := "()I" } : Jvm.MethodName)) ∈ lw_all := lw_g (lw_at lw_m10 58 rfl) rfl
theorem q2385 : (Jvm.Cond.selects "MergeJudge$Slot" ({ cls := "MergeJudge$Slot", name := "many", desc := "()I" } : Jvm.MethodName) ({ cls := "MergeJudge$Slot", name := "many", desc := "()I" } : Jvm.MethodName)) ∈ lw_all := lw_g (lw_at lw_m10 59 rfl) rfl
theorem q2386 : (Jvm.Cond.code ({ cls := "MergeJudge$Slot", name := "many", desc := "()I" } : Jvm.MethodName) prog_16_method_3_code (1 : Nat) (Option.some Jvm.ClassFile.FieldType.int)) ∈ lw_all := lw_g (lw_at lw_m10 60 rfl) rfl
theorem q2388 : (Jvm.Cond.instanceMethod ({ cls := "MergeJudge$Slot", name := "number", desc := "(I)J" } : Jvm.MethodName)) ∈ lw_all := lw_g (lw_at lw_m10 62 rfl) rfl
theorem q2389 : (Jvm.Cond.selects "MergeJudge$Slot" ({ cls := "MergeJudge$Slot", name := "number", desc := "(I)J" } : Jvm.MethodName) ({ cls := "MergeJudge$Slot", name := "number", desc := "(I)J" } : Jvm.MethodName)) ∈ lw_all := lw_g (lw_at lw_m10 63 rfl) rfl
theorem q2390 : (Jvm.Cond.code ({ cls := "MergeJudge$Slot", name := "number", desc := "(I)J" } : Jvm.MethodName) prog_16_method_4_code (2 : Nat) (Option.some Jvm.ClassFile.FieldType.long)) ∈ lw_all := lw_g (lw_at lw_m10 64 rfl) rfl
theorem q3514 : (Jvm.Cond.castable "MergeJudge$Slot" "java/lang/Object") ∈ lw_tbl := lw_at lw_m14 228 rfl
theorem in_X1 : ∀ w ∈ wsX10, w ∈ lw_all := lw_in wsX10 [434] (by decide +kernel) (by decide +kernel)
/-! MergeJudge$Base -/
set_option maxRecDepth 100000
def RX2 : String := "MergeJudge$Base"
def TX2 : u_T := fun k => match k with
  | 0 => ("MergeJudge$Base", "rules", "Ljava/util/List;", true)
  | 1 => ("MergeJudge$Base", "ops", "Ljava/util/List;", true)
  | 2 => ("MergeJudge$Base", "acts", "Ljava/util/List;", true)
  | 3 => ("MergeJudge$Base", "kinds", "[I", true)
  | 4 => ("MergeJudge$Base", "top", "I", false)
  | 5 => ("MergeJudge$Base", "law", "I", false)
  | 6 => ("MergeJudge$Base", "odds", "I", false)
  | 7 => ("MergeJudge$Base", "cells", "I", false)
  | 8 => ("MergeJudge$Base", "dropped", "I", false)
  | 9 => ("MergeJudge$Base", "locked", "I", false)
  | _ => ("MergeJudge$Base", "lines", "I", false)
def tyX2 : Nat → FieldType := fun k => match k with
  | 0 => .object "java/util/List"
  | 1 => .object "java/util/List"
  | 2 => .object "java/util/List"
  | 3 => .array .int
  | 4 => .int
  | 5 => .int
  | 6 => .int
  | 7 => .int
  | 8 => .int
  | 9 => .int
  | _ => .int
abbrev wsX20 : List Cond := u_ws RX2 TX2 11
theorem nmX2 : ∀ a, a < 11 → ∀ b, b < 11 → a ≠ b → (TX2 a).2.1 ≠ (TX2 b).2.1 := by decide +kernel
theorem tyX2_ok : ∀ k, k < 11 → parseFieldDescriptor (TX2 k).2.2.1 = some (tyX2 k) := by decide +kernel
abbrev cX2_init : ByteArray := prog_4_method_1_code
def yX2_init : MethodName := ⟨RX2, "<init>", "()V"⟩
def dkwX2_init_2 : List UInt8 := [177]
abbrev dktX2_init_2 : List UInt8 := dkwX2_init_2 ++ []
def dkwX2_init_1 : List UInt8 := [183, 0, 11, 181, 0, 20, 42, 187, 0, 9, 89, 183, 0, 23, 181, 0, 24, 42, 6, 188, 10, 181, 0, 27]
abbrev dktX2_init_1 : List UInt8 := dkwX2_init_1 ++ dktX2_init_2
def dkwX2_init_0 : List UInt8 := [42, 183, 0, 3, 42, 187, 0, 9, 89, 8, 183, 0, 11, 181, 0, 14, 42, 187, 0, 9, 89, 8]
abbrev dktX2_init_0 : List UInt8 := dkwX2_init_0 ++ dktX2_init_1
theorem dksX2_init_0 : cX2_init.data.toList.drop 0 = dktX2_init_0 := by decide +kernel
theorem dksX2_init_1 : cX2_init.data.toList.drop 22 = dktX2_init_1 := dk_seg dksX2_init_0 22 rfl rfl
theorem dksX2_init_2 : cX2_init.data.toList.drop 46 = dktX2_init_2 := dk_seg dksX2_init_1 24 rfl rfl
theorem dX2_init_0 : decode cX2_init 0 = .ok (.aload_n 0, 1) := dk_42 (dk_at dksX2_init_0 0 rfl rfl)
theorem dX2_init_1 : decode cX2_init 1 = .ok (.invokespecial 3, 3) := dk_183 0 3 (dk_at dksX2_init_0 1 rfl rfl)
theorem dX2_init_4 : decode cX2_init 4 = .ok (.aload_n 0, 1) := dk_42 (dk_at dksX2_init_0 4 rfl rfl)
theorem dX2_init_5 : decode cX2_init 5 = .ok (.new 9, 3) := dk_187 0 9 (dk_at dksX2_init_0 5 rfl rfl)
theorem dX2_init_8 : decode cX2_init 8 = .ok (.dup, 1) := dk_89 (dk_at dksX2_init_0 8 rfl rfl)
theorem dX2_init_9 : decode cX2_init 9 = .ok (.iconst 5, 1) := dk_8 (dk_at dksX2_init_0 9 rfl rfl)
theorem dX2_init_10 : decode cX2_init 10 = .ok (.invokespecial 11, 3) := dk_183 0 11 (dk_at dksX2_init_0 10 rfl rfl)
theorem dX2_init_13 : decode cX2_init 13 = .ok (.putfield 14, 3) := dk_181 0 14 (dk_at dksX2_init_0 13 rfl rfl)
theorem dX2_init_16 : decode cX2_init 16 = .ok (.aload_n 0, 1) := dk_42 (dk_at dksX2_init_0 16 rfl rfl)
theorem dX2_init_17 : decode cX2_init 17 = .ok (.new 9, 3) := dk_187 0 9 (dk_at dksX2_init_0 17 rfl rfl)
theorem dX2_init_20 : decode cX2_init 20 = .ok (.dup, 1) := dk_89 (dk_at dksX2_init_0 20 rfl rfl)
theorem dX2_init_21 : decode cX2_init 21 = .ok (.iconst 5, 1) := dk_8 (dk_at dksX2_init_0 21 rfl rfl)
theorem dX2_init_22 : decode cX2_init 22 = .ok (.invokespecial 11, 3) := dk_183 0 11 (dk_at dksX2_init_1 0 rfl rfl)
theorem dX2_init_25 : decode cX2_init 25 = .ok (.putfield 20, 3) := dk_181 0 20 (dk_at dksX2_init_1 3 rfl rfl)
theorem dX2_init_28 : decode cX2_init 28 = .ok (.aload_n 0, 1) := dk_42 (dk_at dksX2_init_1 6 rfl rfl)
theorem dX2_init_29 : decode cX2_init 29 = .ok (.new 9, 3) := dk_187 0 9 (dk_at dksX2_init_1 7 rfl rfl)
theorem dX2_init_32 : decode cX2_init 32 = .ok (.dup, 1) := dk_89 (dk_at dksX2_init_1 10 rfl rfl)
theorem dX2_init_33 : decode cX2_init 33 = .ok (.invokespecial 23, 3) := dk_183 0 23 (dk_at dksX2_init_1 11 rfl rfl)
theorem dX2_init_36 : decode cX2_init 36 = .ok (.putfield 24, 3) := dk_181 0 24 (dk_at dksX2_init_1 14 rfl rfl)
theorem dX2_init_39 : decode cX2_init 39 = .ok (.aload_n 0, 1) := dk_42 (dk_at dksX2_init_1 17 rfl rfl)
theorem dX2_init_40 : decode cX2_init 40 = .ok (.iconst 3, 1) := dk_6 (dk_at dksX2_init_1 18 rfl rfl)
theorem dX2_init_41 : decode cX2_init 41 = .ok (.newarray .int, 2) := dk_188_10 (dk_at dksX2_init_1 19 rfl rfl)
theorem dX2_init_43 : decode cX2_init 43 = .ok (.putfield 27, 3) := dk_181 0 27 (dk_at dksX2_init_1 21 rfl rfl)
theorem dX2_init_46 : decode cX2_init 46 = .ok (.return_, 1) := dk_177 (dk_at dksX2_init_2 0 rfl rfl)
abbrev cX2_is : ByteArray := prog_4_method_2_code
def yX2_is : MethodName := ⟨RX2, "is", "()Z"⟩
def dkwX2_is_0 : List UInt8 := [42, 180, 0, 31, 158, 0, 7, 4, 167, 0, 4, 3, 172]
abbrev dktX2_is_0 : List UInt8 := dkwX2_is_0 ++ []
theorem dksX2_is_0 : cX2_is.data.toList.drop 0 = dktX2_is_0 := by decide +kernel
theorem dX2_is_0 : decode cX2_is 0 = .ok (.aload_n 0, 1) := dk_42 (dk_at dksX2_is_0 0 rfl rfl)
theorem dX2_is_1 : decode cX2_is 1 = .ok (.getfield 31, 3) := dk_180 0 31 (dk_at dksX2_is_0 1 rfl rfl)
theorem dX2_is_4 : decode cX2_is 4 = .ok (.ifCond .le 7, 3) := dk_158 0 7 (dk_at dksX2_is_0 4 rfl rfl)
theorem dX2_is_7 : decode cX2_is 7 = .ok (.iconst 1, 1) := dk_4 (dk_at dksX2_is_0 7 rfl rfl)
theorem dX2_is_8 : decode cX2_is 8 = .ok (.goto 4, 3) := dk_167 0 4 (dk_at dksX2_is_0 8 rfl rfl)
theorem dX2_is_11 : decode cX2_is 11 = .ok (.iconst 0, 1) := dk_3 (dk_at dksX2_is_0 11 rfl rfl)
theorem dX2_is_12 : decode cX2_is 12 = .ok (.ireturn, 1) := dk_172 (dk_at dksX2_is_0 12 rfl rfl)
abbrev cX2_same : ByteArray := prog_4_method_3_code
def yX2_same : MethodName := ⟨RX2, "same", "()LMergeJudge$Base;"⟩
def dkwX2_same_5 : List UInt8 := [180, 0, 31, 181, 0, 31, 43, 176]
abbrev dktX2_same_5 : List UInt8 := dkwX2_same_5 ++ []
def dkwX2_same_4 : List UInt8 := [180, 0, 57, 181, 0, 57, 43, 42, 180, 0, 60, 181, 0, 60, 43, 42, 180, 0, 63, 181, 0, 63, 43, 42]
abbrev dktX2_same_4 : List UInt8 := dkwX2_same_4 ++ dktX2_same_5
def dkwX2_same_3 : List UInt8 := [180, 0, 48, 181, 0, 48, 43, 42, 180, 0, 51, 181, 0, 51, 43, 42, 180, 0, 54, 181, 0, 54, 43, 42]
abbrev dktX2_same_3 : List UInt8 := dkwX2_same_3 ++ dktX2_same_4
def dkwX2_same_2 : List UInt8 := [185, 0, 36, 2, 0, 87, 42, 180, 0, 27, 3, 43, 180, 0, 27, 3, 6, 184, 0, 42, 43, 42]
abbrev dktX2_same_2 : List UInt8 := dkwX2_same_2 ++ dktX2_same_3
def dkwX2_same_1 : List UInt8 := [180, 0, 20, 42, 180, 0, 20, 185, 0, 36, 2, 0, 87, 43, 180, 0, 24, 42, 180, 0, 24]
abbrev dktX2_same_1 : List UInt8 := dkwX2_same_1 ++ dktX2_same_2
def dkwX2_same_0 : List UInt8 := [187, 0, 15, 89, 183, 0, 35, 76, 43, 180, 0, 14, 42, 180, 0, 14, 185, 0, 36, 2, 0, 87, 43]
abbrev dktX2_same_0 : List UInt8 := dkwX2_same_0 ++ dktX2_same_1
theorem dksX2_same_0 : cX2_same.data.toList.drop 0 = dktX2_same_0 := by decide +kernel
theorem dksX2_same_1 : cX2_same.data.toList.drop 23 = dktX2_same_1 := dk_seg dksX2_same_0 23 rfl rfl
theorem dksX2_same_2 : cX2_same.data.toList.drop 44 = dktX2_same_2 := dk_seg dksX2_same_1 21 rfl rfl
theorem dksX2_same_3 : cX2_same.data.toList.drop 66 = dktX2_same_3 := dk_seg dksX2_same_2 22 rfl rfl
theorem dksX2_same_4 : cX2_same.data.toList.drop 90 = dktX2_same_4 := dk_seg dksX2_same_3 24 rfl rfl
theorem dksX2_same_5 : cX2_same.data.toList.drop 114 = dktX2_same_5 := dk_seg dksX2_same_4 24 rfl rfl
theorem dX2_same_0 : decode cX2_same 0 = .ok (.new 15, 3) := dk_187 0 15 (dk_at dksX2_same_0 0 rfl rfl)
theorem dX2_same_3 : decode cX2_same 3 = .ok (.dup, 1) := dk_89 (dk_at dksX2_same_0 3 rfl rfl)
theorem dX2_same_4 : decode cX2_same 4 = .ok (.invokespecial 35, 3) := dk_183 0 35 (dk_at dksX2_same_0 4 rfl rfl)
theorem dX2_same_7 : decode cX2_same 7 = .ok (.astore_n 1, 1) := dk_76 (dk_at dksX2_same_0 7 rfl rfl)
theorem dX2_same_8 : decode cX2_same 8 = .ok (.aload_n 1, 1) := dk_43 (dk_at dksX2_same_0 8 rfl rfl)
theorem dX2_same_9 : decode cX2_same 9 = .ok (.getfield 14, 3) := dk_180 0 14 (dk_at dksX2_same_0 9 rfl rfl)
theorem dX2_same_12 : decode cX2_same 12 = .ok (.aload_n 0, 1) := dk_42 (dk_at dksX2_same_0 12 rfl rfl)
theorem dX2_same_13 : decode cX2_same 13 = .ok (.getfield 14, 3) := dk_180 0 14 (dk_at dksX2_same_0 13 rfl rfl)
theorem dX2_same_16 : decode cX2_same 16 = .ok (.invokeinterface 36 2, 5) := by decide +kernel
theorem dX2_same_21 : decode cX2_same 21 = .ok (.pop, 1) := dk_87 (dk_at dksX2_same_0 21 rfl rfl)
theorem dX2_same_22 : decode cX2_same 22 = .ok (.aload_n 1, 1) := dk_43 (dk_at dksX2_same_0 22 rfl rfl)
theorem dX2_same_23 : decode cX2_same 23 = .ok (.getfield 20, 3) := dk_180 0 20 (dk_at dksX2_same_1 0 rfl rfl)
theorem dX2_same_26 : decode cX2_same 26 = .ok (.aload_n 0, 1) := dk_42 (dk_at dksX2_same_1 3 rfl rfl)
theorem dX2_same_27 : decode cX2_same 27 = .ok (.getfield 20, 3) := dk_180 0 20 (dk_at dksX2_same_1 4 rfl rfl)
theorem dX2_same_30 : decode cX2_same 30 = .ok (.invokeinterface 36 2, 5) := by decide +kernel
theorem dX2_same_35 : decode cX2_same 35 = .ok (.pop, 1) := dk_87 (dk_at dksX2_same_1 12 rfl rfl)
theorem dX2_same_36 : decode cX2_same 36 = .ok (.aload_n 1, 1) := dk_43 (dk_at dksX2_same_1 13 rfl rfl)
theorem dX2_same_37 : decode cX2_same 37 = .ok (.getfield 24, 3) := dk_180 0 24 (dk_at dksX2_same_1 14 rfl rfl)
theorem dX2_same_40 : decode cX2_same 40 = .ok (.aload_n 0, 1) := dk_42 (dk_at dksX2_same_1 17 rfl rfl)
theorem dX2_same_41 : decode cX2_same 41 = .ok (.getfield 24, 3) := dk_180 0 24 (dk_at dksX2_same_1 18 rfl rfl)
theorem dX2_same_44 : decode cX2_same 44 = .ok (.invokeinterface 36 2, 5) := by decide +kernel
theorem dX2_same_49 : decode cX2_same 49 = .ok (.pop, 1) := dk_87 (dk_at dksX2_same_2 5 rfl rfl)
theorem dX2_same_50 : decode cX2_same 50 = .ok (.aload_n 0, 1) := dk_42 (dk_at dksX2_same_2 6 rfl rfl)
theorem dX2_same_51 : decode cX2_same 51 = .ok (.getfield 27, 3) := dk_180 0 27 (dk_at dksX2_same_2 7 rfl rfl)
theorem dX2_same_54 : decode cX2_same 54 = .ok (.iconst 0, 1) := dk_3 (dk_at dksX2_same_2 10 rfl rfl)
theorem dX2_same_55 : decode cX2_same 55 = .ok (.aload_n 1, 1) := dk_43 (dk_at dksX2_same_2 11 rfl rfl)
theorem dX2_same_56 : decode cX2_same 56 = .ok (.getfield 27, 3) := dk_180 0 27 (dk_at dksX2_same_2 12 rfl rfl)
theorem dX2_same_59 : decode cX2_same 59 = .ok (.iconst 0, 1) := dk_3 (dk_at dksX2_same_2 15 rfl rfl)
theorem dX2_same_60 : decode cX2_same 60 = .ok (.iconst 3, 1) := dk_6 (dk_at dksX2_same_2 16 rfl rfl)
theorem dX2_same_61 : decode cX2_same 61 = .ok (.invokestatic 42, 3) := dk_184 0 42 (dk_at dksX2_same_2 17 rfl rfl)
theorem dX2_same_64 : decode cX2_same 64 = .ok (.aload_n 1, 1) := dk_43 (dk_at dksX2_same_2 20 rfl rfl)
theorem dX2_same_65 : decode cX2_same 65 = .ok (.aload_n 0, 1) := dk_42 (dk_at dksX2_same_2 21 rfl rfl)
theorem dX2_same_66 : decode cX2_same 66 = .ok (.getfield 48, 3) := dk_180 0 48 (dk_at dksX2_same_3 0 rfl rfl)
theorem dX2_same_69 : decode cX2_same 69 = .ok (.putfield 48, 3) := dk_181 0 48 (dk_at dksX2_same_3 3 rfl rfl)
theorem dX2_same_72 : decode cX2_same 72 = .ok (.aload_n 1, 1) := dk_43 (dk_at dksX2_same_3 6 rfl rfl)
theorem dX2_same_73 : decode cX2_same 73 = .ok (.aload_n 0, 1) := dk_42 (dk_at dksX2_same_3 7 rfl rfl)
theorem dX2_same_74 : decode cX2_same 74 = .ok (.getfield 51, 3) := dk_180 0 51 (dk_at dksX2_same_3 8 rfl rfl)
theorem dX2_same_77 : decode cX2_same 77 = .ok (.putfield 51, 3) := dk_181 0 51 (dk_at dksX2_same_3 11 rfl rfl)
theorem dX2_same_80 : decode cX2_same 80 = .ok (.aload_n 1, 1) := dk_43 (dk_at dksX2_same_3 14 rfl rfl)
theorem dX2_same_81 : decode cX2_same 81 = .ok (.aload_n 0, 1) := dk_42 (dk_at dksX2_same_3 15 rfl rfl)
theorem dX2_same_82 : decode cX2_same 82 = .ok (.getfield 54, 3) := dk_180 0 54 (dk_at dksX2_same_3 16 rfl rfl)
theorem dX2_same_85 : decode cX2_same 85 = .ok (.putfield 54, 3) := dk_181 0 54 (dk_at dksX2_same_3 19 rfl rfl)
theorem dX2_same_88 : decode cX2_same 88 = .ok (.aload_n 1, 1) := dk_43 (dk_at dksX2_same_3 22 rfl rfl)
theorem dX2_same_89 : decode cX2_same 89 = .ok (.aload_n 0, 1) := dk_42 (dk_at dksX2_same_3 23 rfl rfl)
theorem dX2_same_90 : decode cX2_same 90 = .ok (.getfield 57, 3) := dk_180 0 57 (dk_at dksX2_same_4 0 rfl rfl)
theorem dX2_same_93 : decode cX2_same 93 = .ok (.putfield 57, 3) := dk_181 0 57 (dk_at dksX2_same_4 3 rfl rfl)
theorem dX2_same_96 : decode cX2_same 96 = .ok (.aload_n 1, 1) := dk_43 (dk_at dksX2_same_4 6 rfl rfl)
theorem dX2_same_97 : decode cX2_same 97 = .ok (.aload_n 0, 1) := dk_42 (dk_at dksX2_same_4 7 rfl rfl)
theorem dX2_same_98 : decode cX2_same 98 = .ok (.getfield 60, 3) := dk_180 0 60 (dk_at dksX2_same_4 8 rfl rfl)
theorem dX2_same_101 : decode cX2_same 101 = .ok (.putfield 60, 3) := dk_181 0 60 (dk_at dksX2_same_4 11 rfl rfl)
theorem dX2_same_104 : decode cX2_same 104 = .ok (.aload_n 1, 1) := dk_43 (dk_at dksX2_same_4 14 rfl rfl)
theorem dX2_same_105 : decode cX2_same 105 = .ok (.aload_n 0, 1) := dk_42 (dk_at dksX2_same_4 15 rfl rfl)
theorem dX2_same_106 : decode cX2_same 106 = .ok (.getfield 63, 3) := dk_180 0 63 (dk_at dksX2_same_4 16 rfl rfl)
theorem dX2_same_109 : decode cX2_same 109 = .ok (.putfield 63, 3) := dk_181 0 63 (dk_at dksX2_same_4 19 rfl rfl)
theorem dX2_same_112 : decode cX2_same 112 = .ok (.aload_n 1, 1) := dk_43 (dk_at dksX2_same_4 22 rfl rfl)
theorem dX2_same_113 : decode cX2_same 113 = .ok (.aload_n 0, 1) := dk_42 (dk_at dksX2_same_4 23 rfl rfl)
theorem dX2_same_114 : decode cX2_same 114 = .ok (.getfield 31, 3) := dk_180 0 31 (dk_at dksX2_same_5 0 rfl rfl)
theorem dX2_same_117 : decode cX2_same 117 = .ok (.putfield 31, 3) := dk_181 0 31 (dk_at dksX2_same_5 3 rfl rfl)
theorem dX2_same_120 : decode cX2_same 120 = .ok (.aload_n 1, 1) := dk_43 (dk_at dksX2_same_5 6 rfl rfl)
theorem dX2_same_121 : decode cX2_same 121 = .ok (.areturn, 1) := dk_176 (dk_at dksX2_same_5 7 rfl rfl)
theorem q169 : (Jvm.Cond.initialized "MergeJudge$Base") ∈ lw_all := lw_g (lw_at lw_m1 3 rfl) rfl
theorem q438 : (Jvm.Cond.instantiable "MergeJudge$Base" (11 : Nat)) ∈ lw_all := lw_g (lw_at lw_m2 32 rfl) rfl
theorem q440 : (Jvm.Cond.instanceMethod ({ cls := "MergeJudge$Base", name := "<init>", desc := "()V" } : Jvm.MethodName)) ∈ lw_all := lw_g (lw_at lw_m2 34 rfl) rfl
theorem q441 : (Jvm.Cond.code ({ cls := "MergeJudge$Base", name := "<init>", desc := "()V" } : Jvm.MethodName) prog_4_method_1_code (1 : Nat) (Option.none : Option Jvm.ClassFile.FieldType)) ∈ lw_all := lw_g (lw_at lw_m2 35 rfl) rfl
theorem q442 : (Jvm.Cond.methodLink "MergeJudge$Base" (3 : Nat) ({ cls := "java/lang/Object", name := "<init>", desc := "()V" } : Jvm.MethodName)) ∈ lw_all := lw_g (lw_at lw_m2 36 rfl) rfl
theorem q443 : (Jvm.Cond.classLink "MergeJudge$Base" (9 : Nat) "java/util/ArrayList") ∈ lw_all := lw_g (lw_at lw_m2 37 rfl) rfl
theorem q445 : (Jvm.Cond.methodLink "MergeJudge$Base" (11 : Nat) ({ cls := "java/util/ArrayList", name := "<init>", desc := "(I)V" } : Jvm.MethodName)) ∈ lw_all := lw_g (lw_at lw_m2 39 rfl) rfl
theorem q471 : (Jvm.Cond.methodLink "MergeJudge$Base" (23 : Nat) ({ cls := "java/util/ArrayList", name := "<init>", desc := "()V" } : Jvm.MethodName)) ∈ lw_all := lw_g (lw_at lw_m2 65 rfl) rfl
theorem q476 : (Jvm.Cond.fieldLink "MergeJudge$Base" (14 : Nat) "MergeJudge$Base" "rules" "Ljava/util/List;") ∈ lw_all := lw_g (lw_at lw_m2 70 rfl) rfl
theorem q479 : (Jvm.Cond.fieldLink "MergeJudge$Base" (20 : Nat) "MergeJudge$Base" "ops" "Ljava/util/List;") ∈ lw_all := lw_g (lw_at lw_m2 73 rfl) rfl
theorem q484 : (Jvm.Cond.fieldLink "MergeJudge$Base" (24 : Nat) "MergeJudge$Base" "acts" "Ljava/util/List;") ∈ lw_all := lw_g (lw_at lw_m2 78 rfl) rfl
theorem q486 : (Jvm.Cond.fieldLink "MergeJudge$Base" (27 : Nat) "MergeJudge$Base" "kinds" "[I") ∈ lw_all := lw_g (lw_at lw_m2 80 rfl) rfl
theorem q489 : (Jvm.Cond.fieldLink "MergeJudge$Base" (48 : Nat) "MergeJudge$Base" "top" "I") ∈ lw_all := lw_g (lw_at lw_m2 83 rfl) rfl
theorem q492 : (Jvm.Cond.fieldLink "MergeJudge$Base" (51 : Nat) "MergeJudge$Base" "law" "I") ∈ lw_all := lw_g (lw_at lw_m2 86 rfl) rfl
theorem q495 : (Jvm.Cond.fieldLink "MergeJudge$Base" (54 : Nat) "MergeJudge$Base" "odds" "I") ∈ lw_all := lw_g (lw_at lw_m2 89 rfl) rfl
theorem q498 : (Jvm.Cond.fieldLink "MergeJudge$Base" (57 : Nat) "MergeJudge$Base" "cells" "I") ∈ lw_all := lw_g (lw_at lw_m2 92 rfl) rfl
theorem q501 : (Jvm.Cond.fieldLink "MergeJudge$Base" (60 : Nat) "MergeJudge$Base" "dropped" "I") ∈ lw_all := lw_g (lw_at lw_m2 95 rfl) rfl
theorem q504 : (Jvm.Cond.fieldLink "MergeJudge$Base" (63 : Nat) "MergeJudge$Base" "locked" "I") ∈ lw_all := lw_g (lw_at lw_m2 98 rfl) rfl
theorem q506 : (Jvm.Cond.fieldLink "MergeJudge$Base" (31 : Nat) "MergeJudge$Base" "lines" "I") ∈ lw_all := lw_g (lw_at lw_m2 100 rfl) rfl
theorem q509 : (Jvm.Cond.laysFinal "MergeJudge$Base" "MergeJudge$Base" "rules" "Ljava/util/List;") ∈ lw_all := lw_g (lw_at lw_m2 103 rfl) rfl
theorem q510 : (Jvm.Cond.soleField "MergeJudge$Base" "rules") ∈ lw_all := lw_g (lw_at lw_m2 104 rfl) rfl
theorem q511 : (Jvm.Cond.laysFinal "MergeJudge$Base" "MergeJudge$Base" "ops" "Ljava/util/List;") ∈ lw_all := lw_g (lw_at lw_m2 105 rfl) rfl
theorem q512 : (Jvm.Cond.soleField "MergeJudge$Base" "ops") ∈ lw_all := lw_g (lw_at lw_m2 106 rfl) rfl
theorem q513 : (Jvm.Cond.laysFinal "MergeJudge$Base" "MergeJudge$Base" "acts" "Ljava/util/List;") ∈ lw_all := lw_g (lw_at lw_m2 107 rfl) rfl
theorem q514 : (Jvm.Cond.soleField "MergeJudge$Base" "acts") ∈ lw_all := lw_g (lw_at lw_m2 108 rfl) rfl
theorem q515 : (Jvm.Cond.laysFinal "MergeJudge$Base" "MergeJudge$Base" "kinds" "[I") ∈ lw_all := lw_g (lw_at lw_m2 109 rfl) rfl
theorem q516 : (Jvm.Cond.soleField "MergeJudge$Base" "kinds") ∈ lw_all := lw_g (lw_at lw_m2 110 rfl) rfl
theorem q517 : (Jvm.Cond.lays "MergeJudge$Base" "MergeJudge$Base" "top" "I") ∈ lw_all := lw_g (lw_at lw_m2 111 rfl) rfl
theorem q518 : (Jvm.Cond.soleField "MergeJudge$Base" "top") ∈ lw_all := lw_g (lw_at lw_m2 112 rfl) rfl
theorem q519 : (Jvm.Cond.lays "MergeJudge$Base" "MergeJudge$Base" "law" "I") ∈ lw_all := lw_g (lw_at lw_m2 113 rfl) rfl
theorem q520 : (Jvm.Cond.soleField "MergeJudge$Base" "law") ∈ lw_all := lw_g (lw_at lw_m2 114 rfl) rfl
theorem q521 : (Jvm.Cond.lays "MergeJudge$Base" "MergeJudge$Base" "odds" "I") ∈ lw_all := lw_g (lw_at lw_m2 115 rfl) rfl
theorem q522 : (Jvm.Cond.soleField "MergeJudge$Base" "odds") ∈ lw_all := lw_g (lw_at lw_m2 116 rfl) rfl
theorem q523 : (Jvm.Cond.lays "MergeJudge$Base" "MergeJudge$Base" "cells" "I") ∈ lw_all := lw_g (lw_at lw_m2 117 rfl) rfl
theorem q524 : (Jvm.Cond.soleField "MergeJudge$Base" "cells") ∈ lw_all := lw_g (lw_at lw_m2 118 rfl) rfl
theorem q525 : (Jvm.Cond.lays "MergeJudge$Base" "MergeJudge$Base" "dropped" "I") ∈ lw_all := lw_g (lw_at lw_m2 119 rfl) rfl
theorem q526 : (Jvm.Cond.soleField "MergeJudge$Base" "dropped") ∈ lw_all := lw_g (lw_at lw_m2 120 rfl) rfl
theorem q527 : (Jvm.Cond.lays "MergeJudge$Base" "MergeJudge$Base" "locked" "I") ∈ lw_all := lw_g (lw_at lw_m2 121 rfl) rfl
theorem q528 : (Jvm.Cond.soleField "MergeJudge$Base" "locked") ∈ lw_all := lw_g (lw_at lw_m2 122 rfl) rfl
theorem q529 : (Jvm.Cond.lays "MergeJudge$Base" "MergeJudge$Base" "lines" "I") ∈ lw_all := lw_g (lw_at lw_m2 123 rfl) rfl
theorem q530 : (Jvm.Cond.soleField "MergeJudge$Base" "lines") ∈ lw_all := lw_g (lw_at lw_m2 124 rfl) rfl
theorem q531 : (Jvm.Cond.superclass "MergeJudge$Base" "java/lang/Object") ∈ lw_all := lw_g (lw_at lw_m2 125 rfl) rfl
theorem q849 : (Jvm.Cond.selects "MergeJudge$Base" ({ cls := "java/lang/Object", name := "hashCode", desc := "()I" } : Jvm.MethodName) ({ cls := "java/lang/Object", name := "hashCode", desc := "()I" } : Jvm.MethodName)) ∈ lw_all := lw_g (lw_at lw_m3 203 rfl) rfl
theorem q1014 : (Jvm.Cond.selects "MergeJudge$Base" ({ cls := "java/lang/Object", name := "getClass", desc := "()Ljava/lang/Class;" } : Jvm.MethodName) ({ cls := "java/lang/Object", name := "getClass", desc := "()Ljava/lang/Class;" } : Jvm.MethodName)) ∈ lw_all := lw_g (lw_at lw_m4 128 rfl) rfl
theorem q1281 : (Jvm.Cond.selects "MergeJudge$Base" ({ cls := "java/lang/Object", name := "equals", desc := "(Ljava/lang/Object;)Z" } : Jvm.MethodName) ({ cls := "java/lang/Object", name := "equals", desc := "(Ljava/lang/Object;)Z" } : Jvm.MethodName)) ∈ lw_all := lw_g (lw_at lw_m5 155 rfl) rfl
theorem q1840 : (Jvm.Cond.instanceMethod ({ cls := "MergeJudge$Base", name := "is", desc := "()Z" } : Jvm.MethodName)) ∈ lw_all := lw_g (lw_at lw_m7 234 rfl) rfl
theorem q1841 : (Jvm.Cond.selects "MergeJudge$Base" ({ cls := "MergeJudge$Base", name := "is", desc := "()Z" } : Jvm.MethodName) ({ cls := "MergeJudge$Base", name := "is", desc := "()Z" } : Jvm.MethodName)) ∈ lw_all := lw_g (lw_at lw_m7 235 rfl) rfl
theorem q1842 : (Jvm.Cond.code ({ cls := "MergeJudge$Base", name := "is", desc := "()Z" } : Jvm.MethodName) prog_4_method_2_code (1 : Nat) (Option.some Jvm.ClassFile.FieldType.boolean)) ∈ lw_all := lw_g (lw_at lw_m7 236 rfl) rfl
theorem q2613 : (Jvm.Cond.instanceMethod ({ cls := "MergeJudge$Base", name := "same", desc := "()LMergeJudge$Base;" } : Jvm.MethodName)) ∈ lw_all := lw_g (lw_at lw_m11 47 rfl) rfl
theorem q2614 : (Jvm.Cond.selects "MergeJudge$Base" ({ cls := "MergeJudge$Base", name := "same", desc := "()LMergeJudge$Base;" } : Jvm.MethodName) ({ cls := "MergeJudge$Base", name := "same", desc := "()LMergeJudge$Base;" } : Jvm.MethodName)) ∈ lw_all := lw_g (lw_at lw_m11 48 rfl) rfl
theorem q2615 : (Jvm.Cond.code ({ cls := "MergeJudge$Base", name := "same", desc := "()LMergeJudge$Base;" } : Jvm.MethodName) prog_4_method_3_code (2 : Nat) (Option.some (Jvm.ClassFile.FieldType.object "MergeJudge$Base"))) ∈ lw_all := lw_g (lw_at lw_m11 49 rfl) rfl
theorem q2616 : (Jvm.Cond.classLink "MergeJudge$Base" (15 : Nat) "MergeJudge$Base") ∈ lw_all := lw_g (lw_at lw_m11 50 rfl) rfl
theorem q2617 : (Jvm.Cond.methodLink "MergeJudge$Base" (35 : Nat) ({ cls := "MergeJudge$Base", name := "<init>", desc := "()V" } : Jvm.MethodName)) ∈ lw_all := lw_g (lw_at lw_m11 51 rfl) rfl
theorem q2618 : (Jvm.Cond.interfaceEntry "MergeJudge$Base" (36 : Nat)) ∈ lw_tbl := lw_at lw_m11 52 rfl
theorem q2619 : (Jvm.Cond.methodLink "MergeJudge$Base" (36 : Nat) ({ cls := "java/util/List", name := "addAll", desc := "(Ljava/util/Collection;)Z" } : Jvm.MethodName)) ∈ lw_all := lw_g (lw_at lw_m11 53 rfl) rfl
theorem q2648 : (Jvm.Cond.methodLink "MergeJudge$Base" (42 : Nat) ({ cls := "java/lang/System", name := "arraycopy", desc := "(Ljava/lang/Object;ILjava/lang/Object;II)V" } : Jvm.MethodName)) ∈ lw_all := lw_g (lw_at lw_m11 82 rfl) rfl
theorem q3515 : (Jvm.Cond.castable "MergeJudge$Base" "java/lang/Object") ∈ lw_tbl := lw_at lw_m14 229 rfl
theorem in_X2 : ∀ w ∈ wsX20, w ∈ lw_all := lw_in wsX20 [509, 511, 513, 515, 517, 519, 521, 523, 525, 527, 529] (by decide +kernel) (by decide +kernel)
/-! MergeJudge$Side -/
set_option maxRecDepth 100000
def RX3 : String := "MergeJudge$Side"
def TX3 : u_T := fun k => match k with
  | 0 => ("MergeJudge$Side", "far", "[I", true)
  | 1 => ("MergeJudge$Side", "first", "[I", true)
  | 2 => ("MergeJudge$Side", "row", "[I", true)
  | 3 => ("MergeJudge$Side", "many", "I", false)
  | _ => ("MergeJudge$Side", "this$0", "LMergeJudge;", true)
def tyX3 : Nat → FieldType := fun k => match k with
  | 0 => .array .int
  | 1 => .array .int
  | 2 => .array .int
  | 3 => .int
  | _ => .object "MergeJudge"
abbrev wsX30 : List Cond := u_ws RX3 TX3 5
theorem nmX3 : ∀ a, a < 5 → ∀ b, b < 5 → a ≠ b → (TX3 a).2.1 ≠ (TX3 b).2.1 := by decide +kernel
theorem tyX3_ok : ∀ k, k < 5 → parseFieldDescriptor (TX3 k).2.2.1 = some (tyX3 k) := by decide +kernel
abbrev cX3_init : ByteArray := prog_15_method_1_code
def yX3_init : MethodName := ⟨RX3, "<init>", "(LMergeJudge;)V"⟩
def dkwX3_init_1 : List UInt8 := [181, 0, 19, 42, 16, 64, 188, 10, 181, 0, 22, 177]
abbrev dktX3_init_1 : List UInt8 := dkwX3_init_1 ++ []
def dkwX3_init_0 : List UInt8 := [42, 43, 181, 0, 3, 42, 183, 0, 9, 42, 16, 64, 188, 10, 181, 0, 15, 42, 16, 64, 188, 10]
abbrev dktX3_init_0 : List UInt8 := dkwX3_init_0 ++ dktX3_init_1
theorem dksX3_init_0 : cX3_init.data.toList.drop 0 = dktX3_init_0 := by decide +kernel
theorem dksX3_init_1 : cX3_init.data.toList.drop 22 = dktX3_init_1 := dk_seg dksX3_init_0 22 rfl rfl
theorem dX3_init_0 : decode cX3_init 0 = .ok (.aload_n 0, 1) := dk_42 (dk_at dksX3_init_0 0 rfl rfl)
theorem dX3_init_1 : decode cX3_init 1 = .ok (.aload_n 1, 1) := dk_43 (dk_at dksX3_init_0 1 rfl rfl)
theorem dX3_init_2 : decode cX3_init 2 = .ok (.putfield 3, 3) := dk_181 0 3 (dk_at dksX3_init_0 2 rfl rfl)
theorem dX3_init_5 : decode cX3_init 5 = .ok (.aload_n 0, 1) := dk_42 (dk_at dksX3_init_0 5 rfl rfl)
theorem dX3_init_6 : decode cX3_init 6 = .ok (.invokespecial 9, 3) := dk_183 0 9 (dk_at dksX3_init_0 6 rfl rfl)
theorem dX3_init_9 : decode cX3_init 9 = .ok (.aload_n 0, 1) := dk_42 (dk_at dksX3_init_0 9 rfl rfl)
theorem dX3_init_10 : decode cX3_init 10 = .ok (.bipush 64, 2) := dk_16 64 (dk_at dksX3_init_0 10 rfl rfl)
theorem dX3_init_12 : decode cX3_init 12 = .ok (.newarray .int, 2) := dk_188_10 (dk_at dksX3_init_0 12 rfl rfl)
theorem dX3_init_14 : decode cX3_init 14 = .ok (.putfield 15, 3) := dk_181 0 15 (dk_at dksX3_init_0 14 rfl rfl)
theorem dX3_init_17 : decode cX3_init 17 = .ok (.aload_n 0, 1) := dk_42 (dk_at dksX3_init_0 17 rfl rfl)
theorem dX3_init_18 : decode cX3_init 18 = .ok (.bipush 64, 2) := dk_16 64 (dk_at dksX3_init_0 18 rfl rfl)
theorem dX3_init_20 : decode cX3_init 20 = .ok (.newarray .int, 2) := dk_188_10 (dk_at dksX3_init_0 20 rfl rfl)
theorem dX3_init_22 : decode cX3_init 22 = .ok (.putfield 19, 3) := dk_181 0 19 (dk_at dksX3_init_1 0 rfl rfl)
theorem dX3_init_25 : decode cX3_init 25 = .ok (.aload_n 0, 1) := dk_42 (dk_at dksX3_init_1 3 rfl rfl)
theorem dX3_init_26 : decode cX3_init 26 = .ok (.bipush 64, 2) := dk_16 64 (dk_at dksX3_init_1 4 rfl rfl)
theorem dX3_init_28 : decode cX3_init 28 = .ok (.newarray .int, 2) := dk_188_10 (dk_at dksX3_init_1 6 rfl rfl)
theorem dX3_init_30 : decode cX3_init 30 = .ok (.putfield 22, 3) := dk_181 0 22 (dk_at dksX3_init_1 8 rfl rfl)
theorem dX3_init_33 : decode cX3_init 33 = .ok (.return_, 1) := dk_177 (dk_at dksX3_init_1 11 rfl rfl)
abbrev cX3_of : ByteArray := prog_15_method_2_code
def yX3_of : MethodName := ⟨RX3, "of", "(III)LMergeJudge$Side;"⟩
def dkwX3_of_8 : List UInt8 := [167, 255, 109, 42, 176]
abbrev dktX3_of_8 : List UInt8 := dkwX3_of_8 ++ []
def dkwX3_of_7 : List UInt8 := [180, 0, 19, 42, 180, 0, 22, 21, 4, 46, 46, 182, 0, 39, 132, 5, 1, 167, 255, 143, 132, 4, 1]
abbrev dktX3_of_7 : List UInt8 := dkwX3_of_7 ++ dktX3_of_8
def dkwX3_of_6 : List UInt8 := [180, 0, 15, 42, 180, 0, 22, 21, 4, 46, 46, 4, 96, 21, 4, 154, 0, 8, 21, 5, 167, 0, 15, 42]
abbrev dktX3_of_6 : List UInt8 := dkwX3_of_6 ++ dktX3_of_7
def dkwX3_of_5 : List UInt8 := [54, 6, 21, 6, 2, 159, 0, 56, 42, 180, 0, 15, 21, 6, 46, 2, 160, 0, 45, 42, 21, 6, 42]
abbrev dktX3_of_5 : List UInt8 := dkwX3_of_5 ++ dktX3_of_6
def dkwX3_of_4 : List UInt8 := [153, 0, 7, 2, 167, 0, 19, 42, 180, 0, 3, 21, 5, 42, 180, 0, 22, 21, 4, 46, 182, 0, 63]
abbrev dktX3_of_4 : List UInt8 := dkwX3_of_4 ++ dktX3_of_5
def dkwX3_of_3 : List UInt8 := [180, 0, 3, 180, 0, 43, 180, 0, 47, 185, 0, 53, 1, 0, 162, 0, 99, 29, 21, 5, 184, 0, 59]
abbrev dktX3_of_3 : List UInt8 := dkwX3_of_3 ++ dktX3_of_4
def dkwX3_of_2 : List UInt8 := [42, 180, 0, 15, 42, 180, 0, 22, 21, 4, 46, 46, 28, 162, 0, 128, 3, 54, 5, 21, 5, 42]
abbrev dktX3_of_2 : List UInt8 := dkwX3_of_2 ++ dktX3_of_3
def dkwX3_of_1 : List UInt8 := [154, 0, 5, 42, 176, 42, 27, 3, 2, 182, 0, 39, 3, 54, 4, 21, 4, 42, 180, 0, 31, 162, 0, 144]
abbrev dktX3_of_1 : List UInt8 := dkwX3_of_1 ++ dktX3_of_2
def dkwX3_of_0 : List UInt8 := [42, 180, 0, 15, 2, 184, 0, 25, 42, 3, 181, 0, 31, 42, 180, 0, 3, 180, 0, 35, 27, 51]
abbrev dktX3_of_0 : List UInt8 := dkwX3_of_0 ++ dktX3_of_1
theorem dksX3_of_0 : cX3_of.data.toList.drop 0 = dktX3_of_0 := by decide +kernel
theorem dksX3_of_1 : cX3_of.data.toList.drop 22 = dktX3_of_1 := dk_seg dksX3_of_0 22 rfl rfl
theorem dksX3_of_2 : cX3_of.data.toList.drop 46 = dktX3_of_2 := dk_seg dksX3_of_1 24 rfl rfl
theorem dksX3_of_3 : cX3_of.data.toList.drop 68 = dktX3_of_3 := dk_seg dksX3_of_2 22 rfl rfl
theorem dksX3_of_4 : cX3_of.data.toList.drop 91 = dktX3_of_4 := dk_seg dksX3_of_3 23 rfl rfl
theorem dksX3_of_5 : cX3_of.data.toList.drop 114 = dktX3_of_5 := dk_seg dksX3_of_4 23 rfl rfl
theorem dksX3_of_6 : cX3_of.data.toList.drop 137 = dktX3_of_6 := dk_seg dksX3_of_5 23 rfl rfl
theorem dksX3_of_7 : cX3_of.data.toList.drop 161 = dktX3_of_7 := dk_seg dksX3_of_6 24 rfl rfl
theorem dksX3_of_8 : cX3_of.data.toList.drop 184 = dktX3_of_8 := dk_seg dksX3_of_7 23 rfl rfl
theorem dX3_of_0 : decode cX3_of 0 = .ok (.aload_n 0, 1) := dk_42 (dk_at dksX3_of_0 0 rfl rfl)
theorem dX3_of_1 : decode cX3_of 1 = .ok (.getfield 15, 3) := dk_180 0 15 (dk_at dksX3_of_0 1 rfl rfl)
theorem dX3_of_4 : decode cX3_of 4 = .ok (.iconst (-1), 1) := dk_2 (dk_at dksX3_of_0 4 rfl rfl)
theorem dX3_of_5 : decode cX3_of 5 = .ok (.invokestatic 25, 3) := dk_184 0 25 (dk_at dksX3_of_0 5 rfl rfl)
theorem dX3_of_8 : decode cX3_of 8 = .ok (.aload_n 0, 1) := dk_42 (dk_at dksX3_of_0 8 rfl rfl)
theorem dX3_of_9 : decode cX3_of 9 = .ok (.iconst 0, 1) := dk_3 (dk_at dksX3_of_0 9 rfl rfl)
theorem dX3_of_10 : decode cX3_of 10 = .ok (.putfield 31, 3) := dk_181 0 31 (dk_at dksX3_of_0 10 rfl rfl)
theorem dX3_of_13 : decode cX3_of 13 = .ok (.aload_n 0, 1) := dk_42 (dk_at dksX3_of_0 13 rfl rfl)
theorem dX3_of_14 : decode cX3_of 14 = .ok (.getfield 3, 3) := dk_180 0 3 (dk_at dksX3_of_0 14 rfl rfl)
theorem dX3_of_17 : decode cX3_of 17 = .ok (.getfield 35, 3) := dk_180 0 35 (dk_at dksX3_of_0 17 rfl rfl)
theorem dX3_of_20 : decode cX3_of 20 = .ok (.iload_n 1, 1) := dk_27 (dk_at dksX3_of_0 20 rfl rfl)
theorem dX3_of_21 : decode cX3_of 21 = .ok (.baload, 1) := dk_51 (dk_at dksX3_of_0 21 rfl rfl)
theorem dX3_of_22 : decode cX3_of 22 = .ok (.ifCond .ne 5, 3) := dk_154 0 5 (dk_at dksX3_of_1 0 rfl rfl)
theorem dX3_of_25 : decode cX3_of 25 = .ok (.aload_n 0, 1) := dk_42 (dk_at dksX3_of_1 3 rfl rfl)
theorem dX3_of_26 : decode cX3_of 26 = .ok (.areturn, 1) := dk_176 (dk_at dksX3_of_1 4 rfl rfl)
theorem dX3_of_27 : decode cX3_of 27 = .ok (.aload_n 0, 1) := dk_42 (dk_at dksX3_of_1 5 rfl rfl)
theorem dX3_of_28 : decode cX3_of 28 = .ok (.iload_n 1, 1) := dk_27 (dk_at dksX3_of_1 6 rfl rfl)
theorem dX3_of_29 : decode cX3_of 29 = .ok (.iconst 0, 1) := dk_3 (dk_at dksX3_of_1 7 rfl rfl)
theorem dX3_of_30 : decode cX3_of 30 = .ok (.iconst (-1), 1) := dk_2 (dk_at dksX3_of_1 8 rfl rfl)
theorem dX3_of_31 : decode cX3_of 31 = .ok (.invokevirtual 39, 3) := dk_182 0 39 (dk_at dksX3_of_1 9 rfl rfl)
theorem dX3_of_34 : decode cX3_of 34 = .ok (.iconst 0, 1) := dk_3 (dk_at dksX3_of_1 12 rfl rfl)
theorem dX3_of_35 : decode cX3_of 35 = .ok (.istore 4, 2) := dk_54 4 (dk_at dksX3_of_1 13 rfl rfl)
theorem dX3_of_37 : decode cX3_of 37 = .ok (.iload 4, 2) := dk_21 4 (dk_at dksX3_of_1 15 rfl rfl)
theorem dX3_of_39 : decode cX3_of 39 = .ok (.aload_n 0, 1) := dk_42 (dk_at dksX3_of_1 17 rfl rfl)
theorem dX3_of_40 : decode cX3_of 40 = .ok (.getfield 31, 3) := dk_180 0 31 (dk_at dksX3_of_1 18 rfl rfl)
theorem dX3_of_43 : decode cX3_of 43 = .ok (.if_icmp .ge 144, 3) := dk_162 0 144 (dk_at dksX3_of_1 21 rfl rfl)
theorem dX3_of_46 : decode cX3_of 46 = .ok (.aload_n 0, 1) := dk_42 (dk_at dksX3_of_2 0 rfl rfl)
theorem dX3_of_47 : decode cX3_of 47 = .ok (.getfield 15, 3) := dk_180 0 15 (dk_at dksX3_of_2 1 rfl rfl)
theorem dX3_of_50 : decode cX3_of 50 = .ok (.aload_n 0, 1) := dk_42 (dk_at dksX3_of_2 4 rfl rfl)
theorem dX3_of_51 : decode cX3_of 51 = .ok (.getfield 22, 3) := dk_180 0 22 (dk_at dksX3_of_2 5 rfl rfl)
theorem dX3_of_54 : decode cX3_of 54 = .ok (.iload 4, 2) := dk_21 4 (dk_at dksX3_of_2 8 rfl rfl)
theorem dX3_of_56 : decode cX3_of 56 = .ok (.iaload, 1) := dk_46 (dk_at dksX3_of_2 10 rfl rfl)
theorem dX3_of_57 : decode cX3_of 57 = .ok (.iaload, 1) := dk_46 (dk_at dksX3_of_2 11 rfl rfl)
theorem dX3_of_58 : decode cX3_of 58 = .ok (.iload_n 2, 1) := dk_28 (dk_at dksX3_of_2 12 rfl rfl)
theorem dX3_of_59 : decode cX3_of 59 = .ok (.if_icmp .ge 128, 3) := dk_162 0 128 (dk_at dksX3_of_2 13 rfl rfl)
theorem dX3_of_62 : decode cX3_of 62 = .ok (.iconst 0, 1) := dk_3 (dk_at dksX3_of_2 16 rfl rfl)
theorem dX3_of_63 : decode cX3_of 63 = .ok (.istore 5, 2) := dk_54 5 (dk_at dksX3_of_2 17 rfl rfl)
theorem dX3_of_65 : decode cX3_of 65 = .ok (.iload 5, 2) := dk_21 5 (dk_at dksX3_of_2 19 rfl rfl)
theorem dX3_of_67 : decode cX3_of 67 = .ok (.aload_n 0, 1) := dk_42 (dk_at dksX3_of_2 21 rfl rfl)
theorem dX3_of_68 : decode cX3_of 68 = .ok (.getfield 3, 3) := dk_180 0 3 (dk_at dksX3_of_3 0 rfl rfl)
theorem dX3_of_71 : decode cX3_of 71 = .ok (.getfield 43, 3) := dk_180 0 43 (dk_at dksX3_of_3 3 rfl rfl)
theorem dX3_of_74 : decode cX3_of 74 = .ok (.getfield 47, 3) := dk_180 0 47 (dk_at dksX3_of_3 6 rfl rfl)
theorem dX3_of_77 : decode cX3_of 77 = .ok (.invokeinterface 53 1, 5) := by decide +kernel
theorem dX3_of_82 : decode cX3_of 82 = .ok (.if_icmp .ge 99, 3) := dk_162 0 99 (dk_at dksX3_of_3 14 rfl rfl)
theorem dX3_of_85 : decode cX3_of 85 = .ok (.iload_n 3, 1) := dk_29 (dk_at dksX3_of_3 17 rfl rfl)
theorem dX3_of_86 : decode cX3_of 86 = .ok (.iload 5, 2) := dk_21 5 (dk_at dksX3_of_3 18 rfl rfl)
theorem dX3_of_88 : decode cX3_of 88 = .ok (.invokestatic 59, 3) := dk_184 0 59 (dk_at dksX3_of_3 20 rfl rfl)
theorem dX3_of_91 : decode cX3_of 91 = .ok (.ifCond .eq 7, 3) := dk_153 0 7 (dk_at dksX3_of_4 0 rfl rfl)
theorem dX3_of_94 : decode cX3_of 94 = .ok (.iconst (-1), 1) := dk_2 (dk_at dksX3_of_4 3 rfl rfl)
theorem dX3_of_95 : decode cX3_of 95 = .ok (.goto 19, 3) := dk_167 0 19 (dk_at dksX3_of_4 4 rfl rfl)
theorem dX3_of_98 : decode cX3_of 98 = .ok (.aload_n 0, 1) := dk_42 (dk_at dksX3_of_4 7 rfl rfl)
theorem dX3_of_99 : decode cX3_of 99 = .ok (.getfield 3, 3) := dk_180 0 3 (dk_at dksX3_of_4 8 rfl rfl)
theorem dX3_of_102 : decode cX3_of 102 = .ok (.iload 5, 2) := dk_21 5 (dk_at dksX3_of_4 11 rfl rfl)
theorem dX3_of_104 : decode cX3_of 104 = .ok (.aload_n 0, 1) := dk_42 (dk_at dksX3_of_4 13 rfl rfl)
theorem dX3_of_105 : decode cX3_of 105 = .ok (.getfield 22, 3) := dk_180 0 22 (dk_at dksX3_of_4 14 rfl rfl)
theorem dX3_of_108 : decode cX3_of 108 = .ok (.iload 4, 2) := dk_21 4 (dk_at dksX3_of_4 17 rfl rfl)
theorem dX3_of_110 : decode cX3_of 110 = .ok (.iaload, 1) := dk_46 (dk_at dksX3_of_4 19 rfl rfl)
theorem dX3_of_111 : decode cX3_of 111 = .ok (.invokevirtual 63, 3) := dk_182 0 63 (dk_at dksX3_of_4 20 rfl rfl)
theorem dX3_of_114 : decode cX3_of 114 = .ok (.istore 6, 2) := dk_54 6 (dk_at dksX3_of_5 0 rfl rfl)
theorem dX3_of_116 : decode cX3_of 116 = .ok (.iload 6, 2) := dk_21 6 (dk_at dksX3_of_5 2 rfl rfl)
theorem dX3_of_118 : decode cX3_of 118 = .ok (.iconst (-1), 1) := dk_2 (dk_at dksX3_of_5 4 rfl rfl)
theorem dX3_of_119 : decode cX3_of 119 = .ok (.if_icmp .eq 56, 3) := dk_159 0 56 (dk_at dksX3_of_5 5 rfl rfl)
theorem dX3_of_122 : decode cX3_of 122 = .ok (.aload_n 0, 1) := dk_42 (dk_at dksX3_of_5 8 rfl rfl)
theorem dX3_of_123 : decode cX3_of 123 = .ok (.getfield 15, 3) := dk_180 0 15 (dk_at dksX3_of_5 9 rfl rfl)
theorem dX3_of_126 : decode cX3_of 126 = .ok (.iload 6, 2) := dk_21 6 (dk_at dksX3_of_5 12 rfl rfl)
theorem dX3_of_128 : decode cX3_of 128 = .ok (.iaload, 1) := dk_46 (dk_at dksX3_of_5 14 rfl rfl)
theorem dX3_of_129 : decode cX3_of 129 = .ok (.iconst (-1), 1) := dk_2 (dk_at dksX3_of_5 15 rfl rfl)
theorem dX3_of_130 : decode cX3_of 130 = .ok (.if_icmp .ne 45, 3) := dk_160 0 45 (dk_at dksX3_of_5 16 rfl rfl)
theorem dX3_of_133 : decode cX3_of 133 = .ok (.aload_n 0, 1) := dk_42 (dk_at dksX3_of_5 19 rfl rfl)
theorem dX3_of_134 : decode cX3_of 134 = .ok (.iload 6, 2) := dk_21 6 (dk_at dksX3_of_5 20 rfl rfl)
theorem dX3_of_136 : decode cX3_of 136 = .ok (.aload_n 0, 1) := dk_42 (dk_at dksX3_of_5 22 rfl rfl)
theorem dX3_of_137 : decode cX3_of 137 = .ok (.getfield 15, 3) := dk_180 0 15 (dk_at dksX3_of_6 0 rfl rfl)
theorem dX3_of_140 : decode cX3_of 140 = .ok (.aload_n 0, 1) := dk_42 (dk_at dksX3_of_6 3 rfl rfl)
theorem dX3_of_141 : decode cX3_of 141 = .ok (.getfield 22, 3) := dk_180 0 22 (dk_at dksX3_of_6 4 rfl rfl)
theorem dX3_of_144 : decode cX3_of 144 = .ok (.iload 4, 2) := dk_21 4 (dk_at dksX3_of_6 7 rfl rfl)
theorem dX3_of_146 : decode cX3_of 146 = .ok (.iaload, 1) := dk_46 (dk_at dksX3_of_6 9 rfl rfl)
theorem dX3_of_147 : decode cX3_of 147 = .ok (.iaload, 1) := dk_46 (dk_at dksX3_of_6 10 rfl rfl)
theorem dX3_of_148 : decode cX3_of 148 = .ok (.iconst 1, 1) := dk_4 (dk_at dksX3_of_6 11 rfl rfl)
theorem dX3_of_149 : decode cX3_of 149 = .ok (.iadd, 1) := dk_96 (dk_at dksX3_of_6 12 rfl rfl)
theorem dX3_of_150 : decode cX3_of 150 = .ok (.iload 4, 2) := dk_21 4 (dk_at dksX3_of_6 13 rfl rfl)
theorem dX3_of_152 : decode cX3_of 152 = .ok (.ifCond .ne 8, 3) := dk_154 0 8 (dk_at dksX3_of_6 15 rfl rfl)
theorem dX3_of_155 : decode cX3_of 155 = .ok (.iload 5, 2) := dk_21 5 (dk_at dksX3_of_6 18 rfl rfl)
theorem dX3_of_157 : decode cX3_of 157 = .ok (.goto 15, 3) := dk_167 0 15 (dk_at dksX3_of_6 20 rfl rfl)
theorem dX3_of_160 : decode cX3_of 160 = .ok (.aload_n 0, 1) := dk_42 (dk_at dksX3_of_6 23 rfl rfl)
theorem dX3_of_161 : decode cX3_of 161 = .ok (.getfield 19, 3) := dk_180 0 19 (dk_at dksX3_of_7 0 rfl rfl)
theorem dX3_of_164 : decode cX3_of 164 = .ok (.aload_n 0, 1) := dk_42 (dk_at dksX3_of_7 3 rfl rfl)
theorem dX3_of_165 : decode cX3_of 165 = .ok (.getfield 22, 3) := dk_180 0 22 (dk_at dksX3_of_7 4 rfl rfl)
theorem dX3_of_168 : decode cX3_of 168 = .ok (.iload 4, 2) := dk_21 4 (dk_at dksX3_of_7 7 rfl rfl)
theorem dX3_of_170 : decode cX3_of 170 = .ok (.iaload, 1) := dk_46 (dk_at dksX3_of_7 9 rfl rfl)
theorem dX3_of_171 : decode cX3_of 171 = .ok (.iaload, 1) := dk_46 (dk_at dksX3_of_7 10 rfl rfl)
theorem dX3_of_172 : decode cX3_of 172 = .ok (.invokevirtual 39, 3) := dk_182 0 39 (dk_at dksX3_of_7 11 rfl rfl)
theorem dX3_of_175 : decode cX3_of 175 = .ok (.iinc 5 1, 3) := dk_132 5 1 (dk_at dksX3_of_7 14 rfl rfl)
theorem dX3_of_178 : decode cX3_of 178 = .ok (.goto (-113), 3) := dk_167 255 143 (dk_at dksX3_of_7 17 rfl rfl)
theorem dX3_of_181 : decode cX3_of 181 = .ok (.iinc 4 1, 3) := dk_132 4 1 (dk_at dksX3_of_7 20 rfl rfl)
theorem dX3_of_184 : decode cX3_of 184 = .ok (.goto (-147), 3) := dk_167 255 109 (dk_at dksX3_of_8 0 rfl rfl)
theorem dX3_of_187 : decode cX3_of 187 = .ok (.aload_n 0, 1) := dk_42 (dk_at dksX3_of_8 3 rfl rfl)
theorem dX3_of_188 : decode cX3_of 188 = .ok (.areturn, 1) := dk_176 (dk_at dksX3_of_8 4 rfl rfl)
abbrev cX3_comes : ByteArray := prog_15_method_3_code
def yX3_comes : MethodName := ⟨RX3, "comes", "(III)V"⟩
def dkwX3_comes_1 : List UInt8 := [42, 89, 180, 0, 31, 4, 96, 181, 0, 31, 177]
abbrev dktX3_comes_1 : List UInt8 := dkwX3_comes_1 ++ []
def dkwX3_comes_0 : List UInt8 := [42, 180, 0, 15, 27, 28, 79, 42, 180, 0, 19, 27, 29, 79, 42, 180, 0, 22, 42, 180, 0, 31, 27, 79]
abbrev dktX3_comes_0 : List UInt8 := dkwX3_comes_0 ++ dktX3_comes_1
theorem dksX3_comes_0 : cX3_comes.data.toList.drop 0 = dktX3_comes_0 := by decide +kernel
theorem dksX3_comes_1 : cX3_comes.data.toList.drop 24 = dktX3_comes_1 := dk_seg dksX3_comes_0 24 rfl rfl
theorem dX3_comes_0 : decode cX3_comes 0 = .ok (.aload_n 0, 1) := dk_42 (dk_at dksX3_comes_0 0 rfl rfl)
theorem dX3_comes_1 : decode cX3_comes 1 = .ok (.getfield 15, 3) := dk_180 0 15 (dk_at dksX3_comes_0 1 rfl rfl)
theorem dX3_comes_4 : decode cX3_comes 4 = .ok (.iload_n 1, 1) := dk_27 (dk_at dksX3_comes_0 4 rfl rfl)
theorem dX3_comes_5 : decode cX3_comes 5 = .ok (.iload_n 2, 1) := dk_28 (dk_at dksX3_comes_0 5 rfl rfl)
theorem dX3_comes_6 : decode cX3_comes 6 = .ok (.iastore, 1) := dk_79 (dk_at dksX3_comes_0 6 rfl rfl)
theorem dX3_comes_7 : decode cX3_comes 7 = .ok (.aload_n 0, 1) := dk_42 (dk_at dksX3_comes_0 7 rfl rfl)
theorem dX3_comes_8 : decode cX3_comes 8 = .ok (.getfield 19, 3) := dk_180 0 19 (dk_at dksX3_comes_0 8 rfl rfl)
theorem dX3_comes_11 : decode cX3_comes 11 = .ok (.iload_n 1, 1) := dk_27 (dk_at dksX3_comes_0 11 rfl rfl)
theorem dX3_comes_12 : decode cX3_comes 12 = .ok (.iload_n 3, 1) := dk_29 (dk_at dksX3_comes_0 12 rfl rfl)
theorem dX3_comes_13 : decode cX3_comes 13 = .ok (.iastore, 1) := dk_79 (dk_at dksX3_comes_0 13 rfl rfl)
theorem dX3_comes_14 : decode cX3_comes 14 = .ok (.aload_n 0, 1) := dk_42 (dk_at dksX3_comes_0 14 rfl rfl)
theorem dX3_comes_15 : decode cX3_comes 15 = .ok (.getfield 22, 3) := dk_180 0 22 (dk_at dksX3_comes_0 15 rfl rfl)
theorem dX3_comes_18 : decode cX3_comes 18 = .ok (.aload_n 0, 1) := dk_42 (dk_at dksX3_comes_0 18 rfl rfl)
theorem dX3_comes_19 : decode cX3_comes 19 = .ok (.getfield 31, 3) := dk_180 0 31 (dk_at dksX3_comes_0 19 rfl rfl)
theorem dX3_comes_22 : decode cX3_comes 22 = .ok (.iload_n 1, 1) := dk_27 (dk_at dksX3_comes_0 22 rfl rfl)
theorem dX3_comes_23 : decode cX3_comes 23 = .ok (.iastore, 1) := dk_79 (dk_at dksX3_comes_0 23 rfl rfl)
theorem dX3_comes_24 : decode cX3_comes 24 = .ok (.aload_n 0, 1) := dk_42 (dk_at dksX3_comes_1 0 rfl rfl)
theorem dX3_comes_25 : decode cX3_comes 25 = .ok (.dup, 1) := dk_89 (dk_at dksX3_comes_1 1 rfl rfl)
theorem dX3_comes_26 : decode cX3_comes 26 = .ok (.getfield 31, 3) := dk_180 0 31 (dk_at dksX3_comes_1 2 rfl rfl)
theorem dX3_comes_29 : decode cX3_comes 29 = .ok (.iconst 1, 1) := dk_4 (dk_at dksX3_comes_1 5 rfl rfl)
theorem dX3_comes_30 : decode cX3_comes 30 = .ok (.iadd, 1) := dk_96 (dk_at dksX3_comes_1 6 rfl rfl)
theorem dX3_comes_31 : decode cX3_comes 31 = .ok (.putfield 31, 3) := dk_181 0 31 (dk_at dksX3_comes_1 7 rfl rfl)
theorem dX3_comes_34 : decode cX3_comes 34 = .ok (.return_, 1) := dk_177 (dk_at dksX3_comes_1 10 rfl rfl)
theorem q174 : (Jvm.Cond.initialized "MergeJudge$Side") ∈ lw_all := lw_g (lw_at lw_m1 8 rfl) rfl
theorem q481 : (Jvm.Cond.fieldLinkNest "MergeJudge$Side" (47 : Nat) "MergeJudge$Base" "ops" "Ljava/util/List;" "MergeJudge") ∈ lw_tbl := lw_at lw_m2 75 rfl
theorem q555 : (Jvm.Cond.instantiable "MergeJudge$Side" (5 : Nat)) ∈ lw_all := lw_g (lw_at lw_m2 149 rfl) rfl
theorem q557 : (Jvm.Cond.instanceMethod ({ cls := "MergeJudge$Side", name := "<init>", desc := "(LMergeJudge;)V" } : Jvm.MethodName)) ∈ lw_all := lw_g (lw_at lw_m2 151 rfl) rfl
theorem q558 : (Jvm.Cond.code ({ cls := "MergeJudge$Side", name := "<init>", desc := "(LMergeJudge;)V" } : Jvm.MethodName) prog_15_method_1_code (2 : Nat) (Option.none : Option Jvm.ClassFile.FieldType)) ∈ lw_all := lw_g (lw_at lw_m2 152 rfl) rfl
theorem q559 : (Jvm.Cond.methodLink "MergeJudge$Side" (9 : Nat) ({ cls := "java/lang/Object", name := "<init>", desc := "()V" } : Jvm.MethodName)) ∈ lw_all := lw_g (lw_at lw_m2 153 rfl) rfl
theorem q560 : (Jvm.Cond.fieldLink "MergeJudge$Side" (15 : Nat) "MergeJudge$Side" "far" "[I") ∈ lw_all := lw_g (lw_at lw_m2 154 rfl) rfl
theorem q563 : (Jvm.Cond.fieldLink "MergeJudge$Side" (19 : Nat) "MergeJudge$Side" "first" "[I") ∈ lw_all := lw_g (lw_at lw_m2 157 rfl) rfl
theorem q565 : (Jvm.Cond.fieldLink "MergeJudge$Side" (22 : Nat) "MergeJudge$Side" "row" "[I") ∈ lw_all := lw_g (lw_at lw_m2 159 rfl) rfl
theorem q566 : (Jvm.Cond.fieldLink "MergeJudge$Side" (31 : Nat) "MergeJudge$Side" "many" "I") ∈ lw_all := lw_g (lw_at lw_m2 160 rfl) rfl
theorem q568 : (Jvm.Cond.fieldLink "MergeJudge$Side" (3 : Nat) "MergeJudge$Side" "this$0" "LMergeJudge;") ∈ lw_all := lw_g (lw_at lw_m2 162 rfl) rfl
theorem q569 : (Jvm.Cond.laysFinal "MergeJudge$Side" "MergeJudge$Side" "far" "[I") ∈ lw_all := lw_g (lw_at lw_m2 163 rfl) rfl
theorem q570 : (Jvm.Cond.soleField "MergeJudge$Side" "far") ∈ lw_all := lw_g (lw_at lw_m2 164 rfl) rfl
theorem q571 : (Jvm.Cond.laysFinal "MergeJudge$Side" "MergeJudge$Side" "first" "[I") ∈ lw_all := lw_g (lw_at lw_m2 165 rfl) rfl
theorem q572 : (Jvm.Cond.soleField "MergeJudge$Side" "first") ∈ lw_all := lw_g (lw_at lw_m2 166 rfl) rfl
theorem q573 : (Jvm.Cond.laysFinal "MergeJudge$Side" "MergeJudge$Side" "row" "[I") ∈ lw_all := lw_g (lw_at lw_m2 167 rfl) rfl
theorem q574 : (Jvm.Cond.soleField "MergeJudge$Side" "row") ∈ lw_all := lw_g (lw_at lw_m2 168 rfl) rfl
theorem q575 : (Jvm.Cond.lays "MergeJudge$Side" "MergeJudge$Side" "many" "I") ∈ lw_all := lw_g (lw_at lw_m2 169 rfl) rfl
theorem q576 : (Jvm.Cond.soleField "MergeJudge$Side" "many") ∈ lw_all := lw_g (lw_at lw_m2 170 rfl) rfl
theorem q577 : (Jvm.Cond.laysFinal "MergeJudge$Side" "MergeJudge$Side" "this$0" "LMergeJudge;") ∈ lw_all := lw_g (lw_at lw_m2 171 rfl) rfl
theorem q578 : (Jvm.Cond.soleField "MergeJudge$Side" "this$0") ∈ lw_all := lw_g (lw_at lw_m2 172 rfl) rfl
theorem q579 : (Jvm.Cond.superclass "MergeJudge$Side" "java/lang/Object") ∈ lw_all := lw_g (lw_at lw_m2 173 rfl) rfl
theorem q652 : (Jvm.Cond.fieldLinkNest "MergeJudge$Side" (43 : Nat) "MergeJudge" "now" "LMergeJudge$Base;" "MergeJudge") ∈ lw_tbl := lw_at lw_m3 6 rfl
theorem q663 : (Jvm.Cond.fieldLinkNest "MergeJudge$Side" (35 : Nat) "MergeJudge" "isValid" "[Z" "MergeJudge") ∈ lw_tbl := lw_at lw_m3 17 rfl
theorem q859 : (Jvm.Cond.selects "MergeJudge$Side" ({ cls := "java/lang/Object", name := "hashCode", desc := "()I" } : Jvm.MethodName) ({ cls := "java/lang/Object", name := "hashCode", desc := "()I" } : Jvm.MethodName)) ∈ lw_all := lw_g (lw_at lw_m3 213 rfl) rfl
theorem q1022 : (Jvm.Cond.selects "MergeJudge$Side" ({ cls := "java/lang/Object", name := "getClass", desc := "()Ljava/lang/Class;" } : Jvm.MethodName) ({ cls := "java/lang/Object", name := "getClass", desc := "()Ljava/lang/Class;" } : Jvm.MethodName)) ∈ lw_all := lw_g (lw_at lw_m4 136 rfl) rfl
theorem q1292 : (Jvm.Cond.selects "MergeJudge$Side" ({ cls := "java/lang/Object", name := "equals", desc := "(Ljava/lang/Object;)Z" } : Jvm.MethodName) ({ cls := "java/lang/Object", name := "equals", desc := "(Ljava/lang/Object;)Z" } : Jvm.MethodName)) ∈ lw_all := lw_g (lw_at lw_m5 166 rfl) rfl
theorem q1996 : (Jvm.Cond.instanceMethod ({ cls := "MergeJudge$Side", name := "of", desc := "(III)LMergeJudge$Side;" } : Jvm.MethodName)) ∈ lw_all := lw_g (lw_at lw_m8 150 rfl) rfl
theorem q1997 : (Jvm.Cond.selects "MergeJudge$Side" ({ cls := "MergeJudge$Side", name := "of", desc := "(III)LMergeJudge$Side;" } : Jvm.MethodName) ({ cls := "MergeJudge$Side", name := "of", desc := "(III)LMergeJudge$Side;" } : Jvm.MethodName)) ∈ lw_all := lw_g (lw_at lw_m8 151 rfl) rfl
theorem q1998 : (Jvm.Cond.code ({ cls := "MergeJudge$Side", name := "of", desc := "(III)LMergeJudge$Side;" } : Jvm.MethodName) prog_15_method_2_code (7 : Nat) (Option.some (Jvm.ClassFile.FieldType.object "MergeJudge$Side"))) ∈ lw_all := lw_g (lw_at lw_m8 152 rfl) rfl
theorem q1999 : (Jvm.Cond.methodLink "MergeJudge$Side" (25 : Nat) ({ cls := "java/util/Arrays", name := "fill", desc := "([II)V" } : Jvm.MethodName)) ∈ lw_all := lw_g (lw_at lw_m8 153 rfl) rfl
theorem q2002 : (Jvm.Cond.methodLink "MergeJudge$Side" (39 : Nat) ({ cls := "MergeJudge$Side", name := "comes", desc := "(III)V" } : Jvm.MethodName)) ∈ lw_all := lw_g (lw_at lw_m8 156 rfl) rfl
theorem q2003 : (Jvm.Cond.privateMethod ({ cls := "MergeJudge$Side", name := "comes", desc := "(III)V" } : Jvm.MethodName)) ∈ lw_tbl := lw_at lw_m8 157 rfl
theorem q2004 : (Jvm.Cond.instanceMethod ({ cls := "MergeJudge$Side", name := "comes", desc := "(III)V" } : Jvm.MethodName)) ∈ lw_all := lw_g (lw_at lw_m8 158 rfl) rfl
theorem q2005 : (Jvm.Cond.code ({ cls := "MergeJudge$Side", name := "comes", desc := "(III)V" } : Jvm.MethodName) prog_15_method_3_code (4 : Nat) (Option.none : Option Jvm.ClassFile.FieldType)) ∈ lw_all := lw_g (lw_at lw_m8 159 rfl) rfl
theorem q2006 : (Jvm.Cond.interfaceEntry "MergeJudge$Side" (53 : Nat)) ∈ lw_tbl := lw_at lw_m8 160 rfl
theorem q2007 : (Jvm.Cond.methodLink "MergeJudge$Side" (53 : Nat) ({ cls := "java/util/List", name := "size", desc := "()I" } : Jvm.MethodName)) ∈ lw_all := lw_g (lw_at lw_m8 161 rfl) rfl
theorem q2008 : (Jvm.Cond.methodLinkNest "MergeJudge$Side" (59 : Nat) ({ cls := "MergeJudge", name := "isOn", desc := "(II)Z" } : Jvm.MethodName) "MergeJudge") ∈ lw_tbl := lw_at lw_m8 162 rfl
theorem q2009 : (Jvm.Cond.methodLinkNest "MergeJudge$Side" (63 : Nat) ({ cls := "MergeJudge", name := "stepIn", desc := "(II)I" } : Jvm.MethodName) "MergeJudge") ∈ lw_tbl := lw_at lw_m8 163 rfl
theorem q3523 : (Jvm.Cond.castable "MergeJudge$Side" "java/lang/Object") ∈ lw_tbl := lw_at lw_m14 237 rfl
theorem in_X3 : ∀ w ∈ wsX30, w ∈ lw_all := lw_in wsX30 [569, 571, 573, 575, 577] (by decide +kernel) (by decide +kernel)
/-! MergeJudge$Least -/
set_option maxRecDepth 100000
def RX4 : String := "MergeJudge$Least"
def TX4 : u_T := fun k => match k with
  | 0 => ("MergeJudge$Least", "base", "I", false)
  | 1 => ("MergeJudge$Least", "first", "I", false)
  | 2 => ("MergeJudge$Least", "second", "I", false)
  | 3 => ("MergeJudge$Least", "merged", "I", false)
  | 4 => ("MergeJudge$Least", "ops", "I", false)
  | _ => ("MergeJudge$Least", "this$0", "LMergeJudge;", true)
def tyX4 : Nat → FieldType := fun k => match k with
  | 0 => .int
  | 1 => .int
  | 2 => .int
  | 3 => .int
  | 4 => .int
  | _ => .object "MergeJudge"
abbrev wsX40 : List Cond := u_ws RX4 TX4 6
theorem nmX4 : ∀ a, a < 6 → ∀ b, b < 6 → a ≠ b → (TX4 a).2.1 ≠ (TX4 b).2.1 := by decide +kernel
theorem tyX4_ok : ∀ k, k < 6 → parseFieldDescriptor (TX4 k).2.2.1 = some (tyX4 k) := by decide +kernel
abbrev cX4_init : ByteArray := prog_7_method_1_code
def yX4_init : MethodName := ⟨RX4, "<init>", "(LMergeJudge;)V"⟩
def dkwX4_init_0 : List UInt8 := [42, 43, 181, 0, 3, 42, 183, 0, 9, 177]
abbrev dktX4_init_0 : List UInt8 := dkwX4_init_0 ++ []
theorem dksX4_init_0 : cX4_init.data.toList.drop 0 = dktX4_init_0 := by decide +kernel
theorem dX4_init_0 : decode cX4_init 0 = .ok (.aload_n 0, 1) := dk_42 (dk_at dksX4_init_0 0 rfl rfl)
theorem dX4_init_1 : decode cX4_init 1 = .ok (.aload_n 1, 1) := dk_43 (dk_at dksX4_init_0 1 rfl rfl)
theorem dX4_init_2 : decode cX4_init 2 = .ok (.putfield 3, 3) := dk_181 0 3 (dk_at dksX4_init_0 2 rfl rfl)
theorem dX4_init_5 : decode cX4_init 5 = .ok (.aload_n 0, 1) := dk_42 (dk_at dksX4_init_0 5 rfl rfl)
theorem dX4_init_6 : decode cX4_init 6 = .ok (.invokespecial 9, 3) := dk_183 0 9 (dk_at dksX4_init_0 6 rfl rfl)
theorem dX4_init_9 : decode cX4_init 9 = .ok (.return_, 1) := dk_177 (dk_at dksX4_init_0 9 rfl rfl)
abbrev cX4_of : ByteArray := prog_7_method_2_code
def yX4_of : MethodName := ⟨RX4, "of", "(I)LMergeJudge$Least;"⟩
def dkwX4_of_0 : List UInt8 := [42, 18, 15, 181, 0, 16, 42, 180, 0, 3, 27, 42, 186, 0, 20, 0, 0, 182, 0, 24, 87, 42, 176]
abbrev dktX4_of_0 : List UInt8 := dkwX4_of_0 ++ []
theorem dksX4_of_0 : cX4_of.data.toList.drop 0 = dktX4_of_0 := by decide +kernel
theorem dX4_of_0 : decode cX4_of 0 = .ok (.aload_n 0, 1) := dk_42 (dk_at dksX4_of_0 0 rfl rfl)
theorem dX4_of_1 : decode cX4_of 1 = .ok (.ldc 15, 2) := dk_18 15 (dk_at dksX4_of_0 1 rfl rfl)
theorem dX4_of_3 : decode cX4_of 3 = .ok (.putfield 16, 3) := dk_181 0 16 (dk_at dksX4_of_0 3 rfl rfl)
theorem dX4_of_6 : decode cX4_of 6 = .ok (.aload_n 0, 1) := dk_42 (dk_at dksX4_of_0 6 rfl rfl)
theorem dX4_of_7 : decode cX4_of 7 = .ok (.getfield 3, 3) := dk_180 0 3 (dk_at dksX4_of_0 7 rfl rfl)
theorem dX4_of_10 : decode cX4_of 10 = .ok (.iload_n 1, 1) := dk_27 (dk_at dksX4_of_0 10 rfl rfl)
theorem dX4_of_11 : decode cX4_of 11 = .ok (.aload_n 0, 1) := dk_42 (dk_at dksX4_of_0 11 rfl rfl)
theorem dX4_of_12 : decode cX4_of 12 = .ok (.invokedynamic 20, 5) := by decide +kernel
theorem dX4_of_17 : decode cX4_of 17 = .ok (.invokevirtual 24, 3) := dk_182 0 24 (dk_at dksX4_of_0 17 rfl rfl)
theorem dX4_of_20 : decode cX4_of 20 = .ok (.pop, 1) := dk_87 (dk_at dksX4_of_0 20 rfl rfl)
theorem dX4_of_21 : decode cX4_of 21 = .ok (.aload_n 0, 1) := dk_42 (dk_at dksX4_of_0 21 rfl rfl)
theorem dX4_of_22 : decode cX4_of 22 = .ok (.areturn, 1) := dk_176 (dk_at dksX4_of_0 22 rfl rfl)
abbrev cX4_tries : ByteArray := prog_7_method_3_code
def yX4_tries : MethodName := ⟨RX4, "tries", "(IIII)V"⟩
def dkwX4_tries_2 : List UInt8 := [42, 28, 181, 0, 41, 42, 29, 181, 0, 44, 42, 21, 4, 181, 0, 47, 177]
abbrev dktX4_tries_2 : List UInt8 := dkwX4_tries_2 ++ []
def dkwX4_tries_1 : List UInt8 := [96, 54, 5, 21, 5, 42, 180, 0, 16, 161, 0, 4, 177, 42, 21, 5, 181, 0, 16, 42, 27, 181, 0, 38]
abbrev dktX4_tries_1 : List UInt8 := dkwX4_tries_1 ++ dktX4_tries_2
def dkwX4_tries_0 : List UInt8 := [42, 180, 0, 3, 180, 0, 28, 180, 0, 32, 28, 46, 42, 180, 0, 3, 180, 0, 28, 180, 0, 32, 29, 46]
abbrev dktX4_tries_0 : List UInt8 := dkwX4_tries_0 ++ dktX4_tries_1
theorem dksX4_tries_0 : cX4_tries.data.toList.drop 0 = dktX4_tries_0 := by decide +kernel
theorem dksX4_tries_1 : cX4_tries.data.toList.drop 24 = dktX4_tries_1 := dk_seg dksX4_tries_0 24 rfl rfl
theorem dksX4_tries_2 : cX4_tries.data.toList.drop 48 = dktX4_tries_2 := dk_seg dksX4_tries_1 24 rfl rfl
theorem dX4_tries_0 : decode cX4_tries 0 = .ok (.aload_n 0, 1) := dk_42 (dk_at dksX4_tries_0 0 rfl rfl)
theorem dX4_tries_1 : decode cX4_tries 1 = .ok (.getfield 3, 3) := dk_180 0 3 (dk_at dksX4_tries_0 1 rfl rfl)
theorem dX4_tries_4 : decode cX4_tries 4 = .ok (.getfield 28, 3) := dk_180 0 28 (dk_at dksX4_tries_0 4 rfl rfl)
theorem dX4_tries_7 : decode cX4_tries 7 = .ok (.getfield 32, 3) := dk_180 0 32 (dk_at dksX4_tries_0 7 rfl rfl)
theorem dX4_tries_10 : decode cX4_tries 10 = .ok (.iload_n 2, 1) := dk_28 (dk_at dksX4_tries_0 10 rfl rfl)
theorem dX4_tries_11 : decode cX4_tries 11 = .ok (.iaload, 1) := dk_46 (dk_at dksX4_tries_0 11 rfl rfl)
theorem dX4_tries_12 : decode cX4_tries 12 = .ok (.aload_n 0, 1) := dk_42 (dk_at dksX4_tries_0 12 rfl rfl)
theorem dX4_tries_13 : decode cX4_tries 13 = .ok (.getfield 3, 3) := dk_180 0 3 (dk_at dksX4_tries_0 13 rfl rfl)
theorem dX4_tries_16 : decode cX4_tries 16 = .ok (.getfield 28, 3) := dk_180 0 28 (dk_at dksX4_tries_0 16 rfl rfl)
theorem dX4_tries_19 : decode cX4_tries 19 = .ok (.getfield 32, 3) := dk_180 0 32 (dk_at dksX4_tries_0 19 rfl rfl)
theorem dX4_tries_22 : decode cX4_tries 22 = .ok (.iload_n 3, 1) := dk_29 (dk_at dksX4_tries_0 22 rfl rfl)
theorem dX4_tries_23 : decode cX4_tries 23 = .ok (.iaload, 1) := dk_46 (dk_at dksX4_tries_0 23 rfl rfl)
theorem dX4_tries_24 : decode cX4_tries 24 = .ok (.iadd, 1) := dk_96 (dk_at dksX4_tries_1 0 rfl rfl)
theorem dX4_tries_25 : decode cX4_tries 25 = .ok (.istore 5, 2) := dk_54 5 (dk_at dksX4_tries_1 1 rfl rfl)
theorem dX4_tries_27 : decode cX4_tries 27 = .ok (.iload 5, 2) := dk_21 5 (dk_at dksX4_tries_1 3 rfl rfl)
theorem dX4_tries_29 : decode cX4_tries 29 = .ok (.aload_n 0, 1) := dk_42 (dk_at dksX4_tries_1 5 rfl rfl)
theorem dX4_tries_30 : decode cX4_tries 30 = .ok (.getfield 16, 3) := dk_180 0 16 (dk_at dksX4_tries_1 6 rfl rfl)
theorem dX4_tries_33 : decode cX4_tries 33 = .ok (.if_icmp .lt 4, 3) := dk_161 0 4 (dk_at dksX4_tries_1 9 rfl rfl)
theorem dX4_tries_36 : decode cX4_tries 36 = .ok (.return_, 1) := dk_177 (dk_at dksX4_tries_1 12 rfl rfl)
theorem dX4_tries_37 : decode cX4_tries 37 = .ok (.aload_n 0, 1) := dk_42 (dk_at dksX4_tries_1 13 rfl rfl)
theorem dX4_tries_38 : decode cX4_tries 38 = .ok (.iload 5, 2) := dk_21 5 (dk_at dksX4_tries_1 14 rfl rfl)
theorem dX4_tries_40 : decode cX4_tries 40 = .ok (.putfield 16, 3) := dk_181 0 16 (dk_at dksX4_tries_1 16 rfl rfl)
theorem dX4_tries_43 : decode cX4_tries 43 = .ok (.aload_n 0, 1) := dk_42 (dk_at dksX4_tries_1 19 rfl rfl)
theorem dX4_tries_44 : decode cX4_tries 44 = .ok (.iload_n 1, 1) := dk_27 (dk_at dksX4_tries_1 20 rfl rfl)
theorem dX4_tries_45 : decode cX4_tries 45 = .ok (.putfield 38, 3) := dk_181 0 38 (dk_at dksX4_tries_1 21 rfl rfl)
theorem dX4_tries_48 : decode cX4_tries 48 = .ok (.aload_n 0, 1) := dk_42 (dk_at dksX4_tries_2 0 rfl rfl)
theorem dX4_tries_49 : decode cX4_tries 49 = .ok (.iload_n 2, 1) := dk_28 (dk_at dksX4_tries_2 1 rfl rfl)
theorem dX4_tries_50 : decode cX4_tries 50 = .ok (.putfield 41, 3) := dk_181 0 41 (dk_at dksX4_tries_2 2 rfl rfl)
theorem dX4_tries_53 : decode cX4_tries 53 = .ok (.aload_n 0, 1) := dk_42 (dk_at dksX4_tries_2 5 rfl rfl)
theorem dX4_tries_54 : decode cX4_tries 54 = .ok (.iload_n 3, 1) := dk_29 (dk_at dksX4_tries_2 6 rfl rfl)
theorem dX4_tries_55 : decode cX4_tries 55 = .ok (.putfield 44, 3) := dk_181 0 44 (dk_at dksX4_tries_2 7 rfl rfl)
theorem dX4_tries_58 : decode cX4_tries 58 = .ok (.aload_n 0, 1) := dk_42 (dk_at dksX4_tries_2 10 rfl rfl)
theorem dX4_tries_59 : decode cX4_tries 59 = .ok (.iload 4, 2) := dk_21 4 (dk_at dksX4_tries_2 11 rfl rfl)
theorem dX4_tries_61 : decode cX4_tries 61 = .ok (.putfield 47, 3) := dk_181 0 47 (dk_at dksX4_tries_2 13 rfl rfl)
theorem dX4_tries_64 : decode cX4_tries 64 = .ok (.return_, 1) := dk_177 (dk_at dksX4_tries_2 16 rfl rfl)
abbrev cX4_what : ByteArray := prog_7_method_4_code
def yX4_what : MethodName := ⟨RX4, "what", "(I)I"⟩
def dkwX4_what_2 : List UInt8 := [27, 6, 160, 0, 10, 42, 180, 0, 47, 167, 0, 7, 42, 180, 0, 16, 172]
abbrev dktX4_what_2 : List UInt8 := dkwX4_what_2 ++ []
def dkwX4_what_1 : List UInt8 := [27, 4, 160, 0, 10, 42, 180, 0, 41, 167, 0, 31, 27, 5, 160, 0, 10, 42, 180, 0, 44, 167, 0, 19]
abbrev dktX4_what_1 : List UInt8 := dkwX4_what_1 ++ dktX4_what_2
def dkwX4_what_0 : List UInt8 := [42, 180, 0, 16, 18, 15, 160, 0, 7, 2, 167, 0, 54, 27, 154, 0, 10, 42, 180, 0, 38, 167, 0, 43]
abbrev dktX4_what_0 : List UInt8 := dkwX4_what_0 ++ dktX4_what_1
theorem dksX4_what_0 : cX4_what.data.toList.drop 0 = dktX4_what_0 := by decide +kernel
theorem dksX4_what_1 : cX4_what.data.toList.drop 24 = dktX4_what_1 := dk_seg dksX4_what_0 24 rfl rfl
theorem dksX4_what_2 : cX4_what.data.toList.drop 48 = dktX4_what_2 := dk_seg dksX4_what_1 24 rfl rfl
theorem dX4_what_0 : decode cX4_what 0 = .ok (.aload_n 0, 1) := dk_42 (dk_at dksX4_what_0 0 rfl rfl)
theorem dX4_what_1 : decode cX4_what 1 = .ok (.getfield 16, 3) := dk_180 0 16 (dk_at dksX4_what_0 1 rfl rfl)
theorem dX4_what_4 : decode cX4_what 4 = .ok (.ldc 15, 2) := dk_18 15 (dk_at dksX4_what_0 4 rfl rfl)
theorem dX4_what_6 : decode cX4_what 6 = .ok (.if_icmp .ne 7, 3) := dk_160 0 7 (dk_at dksX4_what_0 6 rfl rfl)
theorem dX4_what_9 : decode cX4_what 9 = .ok (.iconst (-1), 1) := dk_2 (dk_at dksX4_what_0 9 rfl rfl)
theorem dX4_what_10 : decode cX4_what 10 = .ok (.goto 54, 3) := dk_167 0 54 (dk_at dksX4_what_0 10 rfl rfl)
theorem dX4_what_13 : decode cX4_what 13 = .ok (.iload_n 1, 1) := dk_27 (dk_at dksX4_what_0 13 rfl rfl)
theorem dX4_what_14 : decode cX4_what 14 = .ok (.ifCond .ne 10, 3) := dk_154 0 10 (dk_at dksX4_what_0 14 rfl rfl)
theorem dX4_what_17 : decode cX4_what 17 = .ok (.aload_n 0, 1) := dk_42 (dk_at dksX4_what_0 17 rfl rfl)
theorem dX4_what_18 : decode cX4_what 18 = .ok (.getfield 38, 3) := dk_180 0 38 (dk_at dksX4_what_0 18 rfl rfl)
theorem dX4_what_21 : decode cX4_what 21 = .ok (.goto 43, 3) := dk_167 0 43 (dk_at dksX4_what_0 21 rfl rfl)
theorem dX4_what_24 : decode cX4_what 24 = .ok (.iload_n 1, 1) := dk_27 (dk_at dksX4_what_1 0 rfl rfl)
theorem dX4_what_25 : decode cX4_what 25 = .ok (.iconst 1, 1) := dk_4 (dk_at dksX4_what_1 1 rfl rfl)
theorem dX4_what_26 : decode cX4_what 26 = .ok (.if_icmp .ne 10, 3) := dk_160 0 10 (dk_at dksX4_what_1 2 rfl rfl)
theorem dX4_what_29 : decode cX4_what 29 = .ok (.aload_n 0, 1) := dk_42 (dk_at dksX4_what_1 5 rfl rfl)
theorem dX4_what_30 : decode cX4_what 30 = .ok (.getfield 41, 3) := dk_180 0 41 (dk_at dksX4_what_1 6 rfl rfl)
theorem dX4_what_33 : decode cX4_what 33 = .ok (.goto 31, 3) := dk_167 0 31 (dk_at dksX4_what_1 9 rfl rfl)
theorem dX4_what_36 : decode cX4_what 36 = .ok (.iload_n 1, 1) := dk_27 (dk_at dksX4_what_1 12 rfl rfl)
theorem dX4_what_37 : decode cX4_what 37 = .ok (.iconst 2, 1) := dk_5 (dk_at dksX4_what_1 13 rfl rfl)
theorem dX4_what_38 : decode cX4_what 38 = .ok (.if_icmp .ne 10, 3) := dk_160 0 10 (dk_at dksX4_what_1 14 rfl rfl)
theorem dX4_what_41 : decode cX4_what 41 = .ok (.aload_n 0, 1) := dk_42 (dk_at dksX4_what_1 17 rfl rfl)
theorem dX4_what_42 : decode cX4_what 42 = .ok (.getfield 44, 3) := dk_180 0 44 (dk_at dksX4_what_1 18 rfl rfl)
theorem dX4_what_45 : decode cX4_what 45 = .ok (.goto 19, 3) := dk_167 0 19 (dk_at dksX4_what_1 21 rfl rfl)
theorem dX4_what_48 : decode cX4_what 48 = .ok (.iload_n 1, 1) := dk_27 (dk_at dksX4_what_2 0 rfl rfl)
theorem dX4_what_49 : decode cX4_what 49 = .ok (.iconst 3, 1) := dk_6 (dk_at dksX4_what_2 1 rfl rfl)
theorem dX4_what_50 : decode cX4_what 50 = .ok (.if_icmp .ne 10, 3) := dk_160 0 10 (dk_at dksX4_what_2 2 rfl rfl)
theorem dX4_what_53 : decode cX4_what 53 = .ok (.aload_n 0, 1) := dk_42 (dk_at dksX4_what_2 5 rfl rfl)
theorem dX4_what_54 : decode cX4_what 54 = .ok (.getfield 47, 3) := dk_180 0 47 (dk_at dksX4_what_2 6 rfl rfl)
theorem dX4_what_57 : decode cX4_what 57 = .ok (.goto 7, 3) := dk_167 0 7 (dk_at dksX4_what_2 9 rfl rfl)
theorem dX4_what_60 : decode cX4_what 60 = .ok (.aload_n 0, 1) := dk_42 (dk_at dksX4_what_2 12 rfl rfl)
theorem dX4_what_61 : decode cX4_what 61 = .ok (.getfield 16, 3) := dk_180 0 16 (dk_at dksX4_what_2 13 rfl rfl)
theorem dX4_what_64 : decode cX4_what 64 = .ok (.ireturn, 1) := dk_172 (dk_at dksX4_what_2 16 rfl rfl)
theorem q175 : (Jvm.Cond.initialized "MergeJudge$Least") ∈ lw_all := lw_g (lw_at lw_m1 9 rfl) rfl
theorem q561 : (Jvm.Cond.fieldLinkNest "MergeJudge$Least" (32 : Nat) "MergeJudge$Side" "far" "[I" "MergeJudge") ∈ lw_tbl := lw_at lw_m2 155 rfl
theorem q582 : (Jvm.Cond.instantiable "MergeJudge$Least" (6 : Nat)) ∈ lw_all := lw_g (lw_at lw_m2 176 rfl) rfl
theorem q584 : (Jvm.Cond.instanceMethod ({ cls := "MergeJudge$Least", name := "<init>", desc := "(LMergeJudge;)V" } : Jvm.MethodName)) ∈ lw_all := lw_g (lw_at lw_m2 178 rfl) rfl
theorem q585 : (Jvm.Cond.code ({ cls := "MergeJudge$Least", name := "<init>", desc := "(LMergeJudge;)V" } : Jvm.MethodName) prog_7_method_1_code (2 : Nat) (Option.none : Option Jvm.ClassFile.FieldType)) ∈ lw_all := lw_g (lw_at lw_m2 179 rfl) rfl
theorem q586 : (Jvm.Cond.methodLink "MergeJudge$Least" (9 : Nat) ({ cls := "java/lang/Object", name := "<init>", desc := "()V" } : Jvm.MethodName)) ∈ lw_all := lw_g (lw_at lw_m2 180 rfl) rfl
theorem q587 : (Jvm.Cond.fieldLink "MergeJudge$Least" (38 : Nat) "MergeJudge$Least" "base" "I") ∈ lw_all := lw_g (lw_at lw_m2 181 rfl) rfl
theorem q588 : (Jvm.Cond.fieldLink "MergeJudge$Least" (41 : Nat) "MergeJudge$Least" "first" "I") ∈ lw_all := lw_g (lw_at lw_m2 182 rfl) rfl
theorem q589 : (Jvm.Cond.fieldLink "MergeJudge$Least" (44 : Nat) "MergeJudge$Least" "second" "I") ∈ lw_all := lw_g (lw_at lw_m2 183 rfl) rfl
theorem q590 : (Jvm.Cond.fieldLink "MergeJudge$Least" (47 : Nat) "MergeJudge$Least" "merged" "I") ∈ lw_all := lw_g (lw_at lw_m2 184 rfl) rfl
theorem q592 : (Jvm.Cond.fieldLink "MergeJudge$Least" (16 : Nat) "MergeJudge$Least" "ops" "I") ∈ lw_all := lw_g (lw_at lw_m2 186 rfl) rfl
theorem q593 : (Jvm.Cond.fieldLink "MergeJudge$Least" (3 : Nat) "MergeJudge$Least" "this$0" "LMergeJudge;") ∈ lw_all := lw_g (lw_at lw_m2 187 rfl) rfl
theorem q594 : (Jvm.Cond.lays "MergeJudge$Least" "MergeJudge$Least" "base" "I") ∈ lw_all := lw_g (lw_at lw_m2 188 rfl) rfl
theorem q595 : (Jvm.Cond.soleField "MergeJudge$Least" "base") ∈ lw_all := lw_g (lw_at lw_m2 189 rfl) rfl
theorem q596 : (Jvm.Cond.lays "MergeJudge$Least" "MergeJudge$Least" "first" "I") ∈ lw_all := lw_g (lw_at lw_m2 190 rfl) rfl
theorem q597 : (Jvm.Cond.soleField "MergeJudge$Least" "first") ∈ lw_all := lw_g (lw_at lw_m2 191 rfl) rfl
theorem q598 : (Jvm.Cond.lays "MergeJudge$Least" "MergeJudge$Least" "second" "I") ∈ lw_all := lw_g (lw_at lw_m2 192 rfl) rfl
theorem q599 : (Jvm.Cond.soleField "MergeJudge$Least" "second") ∈ lw_all := lw_g (lw_at lw_m2 193 rfl) rfl
theorem q600 : (Jvm.Cond.lays "MergeJudge$Least" "MergeJudge$Least" "merged" "I") ∈ lw_all := lw_g (lw_at lw_m2 194 rfl) rfl
theorem q601 : (Jvm.Cond.soleField "MergeJudge$Least" "merged") ∈ lw_all := lw_g (lw_at lw_m2 195 rfl) rfl
theorem q602 : (Jvm.Cond.lays "MergeJudge$Least" "MergeJudge$Least" "ops" "I") ∈ lw_all := lw_g (lw_at lw_m2 196 rfl) rfl
theorem q603 : (Jvm.Cond.soleField "MergeJudge$Least" "ops") ∈ lw_all := lw_g (lw_at lw_m2 197 rfl) rfl
theorem q604 : (Jvm.Cond.laysFinal "MergeJudge$Least" "MergeJudge$Least" "this$0" "LMergeJudge;") ∈ lw_all := lw_g (lw_at lw_m2 198 rfl) rfl
theorem q605 : (Jvm.Cond.soleField "MergeJudge$Least" "this$0") ∈ lw_all := lw_g (lw_at lw_m2 199 rfl) rfl
theorem q606 : (Jvm.Cond.superclass "MergeJudge$Least" "java/lang/Object") ∈ lw_all := lw_g (lw_at lw_m2 200 rfl) rfl
theorem q668 : (Jvm.Cond.fieldLinkNest "MergeJudge$Least" (28 : Nat) "MergeJudge" "side" "LMergeJudge$Side;" "MergeJudge") ∈ lw_tbl := lw_at lw_m3 22 rfl
theorem q851 : (Jvm.Cond.selects "MergeJudge$Least" ({ cls := "java/lang/Object", name := "hashCode", desc := "()I" } : Jvm.MethodName) ({ cls := "java/lang/Object", name := "hashCode", desc := "()I" } : Jvm.MethodName)) ∈ lw_all := lw_g (lw_at lw_m3 205 rfl) rfl
theorem q1016 : (Jvm.Cond.selects "MergeJudge$Least" ({ cls := "java/lang/Object", name := "getClass", desc := "()Ljava/lang/Class;" } : Jvm.MethodName) ({ cls := "java/lang/Object", name := "getClass", desc := "()Ljava/lang/Class;" } : Jvm.MethodName)) ∈ lw_all := lw_g (lw_at lw_m4 130 rfl) rfl
theorem q1283 : (Jvm.Cond.selects "MergeJudge$Least" ({ cls := "java/lang/Object", name := "equals", desc := "(Ljava/lang/Object;)Z" } : Jvm.MethodName) ({ cls := "java/lang/Object", name := "equals", desc := "(Ljava/lang/Object;)Z" } : Jvm.MethodName)) ∈ lw_all := lw_g (lw_at lw_m5 157 rfl) rfl
theorem q2283 : (Jvm.Cond.instanceMethod ({ cls := "MergeJudge$Least", name := "of", desc := "(I)LMergeJudge$Least;" } : Jvm.MethodName)) ∈ lw_all := lw_g (lw_at lw_m9 197 rfl) rfl
theorem q2284 : (Jvm.Cond.selects "MergeJudge$Least" ({ cls := "MergeJudge$Least", name := "of", desc := "(I)LMergeJudge$Least;" } : Jvm.MethodName) ({ cls := "MergeJudge$Least", name := "of", desc := "(I)LMergeJudge$Least;" } : Jvm.MethodName)) ∈ lw_all := lw_g (lw_at lw_m9 198 rfl) rfl
theorem q2285 : (Jvm.Cond.code ({ cls := "MergeJudge$Least", name := "of", desc := "(I)LMergeJudge$Least;" } : Jvm.MethodName) prog_7_method_2_code (2 : Nat) (Option.some (Jvm.ClassFile.FieldType.object "MergeJudge$Least"))) ∈ lw_all := lw_g (lw_at lw_m9 199 rfl) rfl
theorem q2286 : (Jvm.Cond.constant "MergeJudge$Least" (15 : Nat) (10000000 : Int32)) ∈ lw_all := lw_g (lw_at lw_m9 200 rfl) rfl
theorem q2287 : (Jvm.Cond.privateMethod ({ cls := "MergeJudge$Least", name := "tries", desc := "(IIII)V" } : Jvm.MethodName)) ∈ lw_tbl := lw_at lw_m9 201 rfl
theorem q2288 : (Jvm.Cond.instanceMethod ({ cls := "MergeJudge$Least", name := "tries", desc := "(IIII)V" } : Jvm.MethodName)) ∈ lw_all := lw_g (lw_at lw_m9 202 rfl) rfl
theorem q2289 : (Jvm.Cond.code ({ cls := "MergeJudge$Least", name := "tries", desc := "(IIII)V" } : Jvm.MethodName) prog_7_method_3_code (6 : Nat) (Option.none : Option Jvm.ClassFile.FieldType)) ∈ lw_all := lw_g (lw_at lw_m9 203 rfl) rfl
theorem q2290 : (Jvm.Cond.methodLinkNest "MergeJudge$Least" (24 : Nat) ({ cls := "MergeJudge", name := "through", desc := "(ILMergeJudge$Break;)I" } : Jvm.MethodName) "MergeJudge") ∈ lw_tbl := lw_at lw_m9 204 rfl
theorem q2292 : (Jvm.Cond.instanceMethod ({ cls := "MergeJudge$Least", name := "what", desc := "(I)I" } : Jvm.MethodName)) ∈ lw_all := lw_g (lw_at lw_m9 206 rfl) rfl
theorem q2293 : (Jvm.Cond.selects "MergeJudge$Least" ({ cls := "MergeJudge$Least", name := "what", desc := "(I)I" } : Jvm.MethodName) ({ cls := "MergeJudge$Least", name := "what", desc := "(I)I" } : Jvm.MethodName)) ∈ lw_all := lw_g (lw_at lw_m9 207 rfl) rfl
theorem q2294 : (Jvm.Cond.code ({ cls := "MergeJudge$Least", name := "what", desc := "(I)I" } : Jvm.MethodName) prog_7_method_4_code (2 : Nat) (Option.some Jvm.ClassFile.FieldType.int)) ∈ lw_all := lw_g (lw_at lw_m9 208 rfl) rfl
theorem q3524 : (Jvm.Cond.castable "MergeJudge$Least" "java/lang/Object") ∈ lw_tbl := lw_at lw_m14 238 rfl
theorem in_X4 : ∀ w ∈ wsX40, w ∈ lw_all := lw_in wsX40 [594, 596, 598, 600, 602, 604] (by decide +kernel) (by decide +kernel)
/-! MergeJudge$Locks -/
set_option maxRecDepth 100000
def RX5 : String := "MergeJudge$Locks"
def TX5 : u_T := fun k => match k with
  | 0 => ("MergeJudge$Locks", "best", "I", false)
  | 1 => ("MergeJudge$Locks", "needed", "I", false)
  | _ => ("MergeJudge$Locks", "this$0", "LMergeJudge;", true)
def tyX5 : Nat → FieldType := fun k => match k with
  | 0 => .int
  | 1 => .int
  | _ => .object "MergeJudge"
abbrev wsX50 : List Cond := u_ws RX5 TX5 3
theorem nmX5 : ∀ a, a < 3 → ∀ b, b < 3 → a ≠ b → (TX5 a).2.1 ≠ (TX5 b).2.1 := by decide +kernel
theorem tyX5_ok : ∀ k, k < 3 → parseFieldDescriptor (TX5 k).2.2.1 = some (tyX5 k) := by decide +kernel
abbrev cX5_init : ByteArray := prog_8_method_1_code
def yX5_init : MethodName := ⟨RX5, "<init>", "(LMergeJudge;)V"⟩
def dkwX5_init_0 : List UInt8 := [42, 43, 181, 0, 3, 42, 183, 0, 9, 177]
abbrev dktX5_init_0 : List UInt8 := dkwX5_init_0 ++ []
theorem dksX5_init_0 : cX5_init.data.toList.drop 0 = dktX5_init_0 := by decide +kernel
theorem dX5_init_0 : decode cX5_init 0 = .ok (.aload_n 0, 1) := dk_42 (dk_at dksX5_init_0 0 rfl rfl)
theorem dX5_init_1 : decode cX5_init 1 = .ok (.aload_n 1, 1) := dk_43 (dk_at dksX5_init_0 1 rfl rfl)
theorem dX5_init_2 : decode cX5_init 2 = .ok (.putfield 3, 3) := dk_181 0 3 (dk_at dksX5_init_0 2 rfl rfl)
theorem dX5_init_5 : decode cX5_init 5 = .ok (.aload_n 0, 1) := dk_42 (dk_at dksX5_init_0 5 rfl rfl)
theorem dX5_init_6 : decode cX5_init 6 = .ok (.invokespecial 9, 3) := dk_183 0 9 (dk_at dksX5_init_0 6 rfl rfl)
theorem dX5_init_9 : decode cX5_init 9 = .ok (.return_, 1) := dk_177 (dk_at dksX5_init_0 9 rfl rfl)
abbrev cX5_of : ByteArray := prog_8_method_2_code
def yX5_of : MethodName := ⟨RX5, "of", "(I)LMergeJudge$Locks;"⟩
def dkwX5_of_5 : List UInt8 := [181, 0, 38, 42, 176]
abbrev dktX5_of_5 : List UInt8 := dkwX5_of_5 ++ []
def dkwX5_of_4 : List UInt8 := [181, 0, 31, 132, 3, 1, 167, 255, 189, 42, 180, 0, 3, 42, 180, 0, 3, 180, 0, 15, 180, 0, 48]
abbrev dktX5_of_4 : List UInt8 := dkwX5_of_4 ++ dktX5_of_5
def dkwX5_of_3 : List UInt8 := [180, 0, 31, 2, 159, 0, 17, 29, 184, 0, 45, 42, 180, 0, 31, 184, 0, 45, 162, 0, 8, 42, 29]
abbrev dktX5_of_3 : List UInt8 := dkwX5_of_3 ++ dktX5_of_4
def dkwX5_of_2 : List UInt8 := [180, 0, 3, 27, 182, 0, 41, 154, 0, 6, 167, 0, 40, 42, 89, 180, 0, 35, 29, 126, 181, 0, 35, 42]
abbrev dktX5_of_2 : List UInt8 := dkwX5_of_2 ++ dktX5_of_3
def dkwX5_of_1 : List UInt8 := [181, 0, 31, 42, 28, 181, 0, 35, 3, 62, 29, 28, 163, 0, 68, 42, 180, 0, 3, 29, 181, 0, 38, 42]
abbrev dktX5_of_1 : List UInt8 := dkwX5_of_1 ++ dktX5_of_2
def dkwX5_of_0 : List UInt8 := [4, 42, 180, 0, 3, 180, 0, 15, 180, 0, 19, 185, 0, 25, 1, 0, 120, 4, 100, 61, 42, 2]
abbrev dktX5_of_0 : List UInt8 := dkwX5_of_0 ++ dktX5_of_1
theorem dksX5_of_0 : cX5_of.data.toList.drop 0 = dktX5_of_0 := by decide +kernel
theorem dksX5_of_1 : cX5_of.data.toList.drop 22 = dktX5_of_1 := dk_seg dksX5_of_0 22 rfl rfl
theorem dksX5_of_2 : cX5_of.data.toList.drop 46 = dktX5_of_2 := dk_seg dksX5_of_1 24 rfl rfl
theorem dksX5_of_3 : cX5_of.data.toList.drop 70 = dktX5_of_3 := dk_seg dksX5_of_2 24 rfl rfl
theorem dksX5_of_4 : cX5_of.data.toList.drop 93 = dktX5_of_4 := dk_seg dksX5_of_3 23 rfl rfl
theorem dksX5_of_5 : cX5_of.data.toList.drop 116 = dktX5_of_5 := dk_seg dksX5_of_4 23 rfl rfl
theorem dX5_of_0 : decode cX5_of 0 = .ok (.iconst 1, 1) := dk_4 (dk_at dksX5_of_0 0 rfl rfl)
theorem dX5_of_1 : decode cX5_of 1 = .ok (.aload_n 0, 1) := dk_42 (dk_at dksX5_of_0 1 rfl rfl)
theorem dX5_of_2 : decode cX5_of 2 = .ok (.getfield 3, 3) := dk_180 0 3 (dk_at dksX5_of_0 2 rfl rfl)
theorem dX5_of_5 : decode cX5_of 5 = .ok (.getfield 15, 3) := dk_180 0 15 (dk_at dksX5_of_0 5 rfl rfl)
theorem dX5_of_8 : decode cX5_of 8 = .ok (.getfield 19, 3) := dk_180 0 19 (dk_at dksX5_of_0 8 rfl rfl)
theorem dX5_of_11 : decode cX5_of 11 = .ok (.invokeinterface 25 1, 5) := by decide +kernel
theorem dX5_of_16 : decode cX5_of 16 = .ok (.ishl, 1) := dk_120 (dk_at dksX5_of_0 16 rfl rfl)
theorem dX5_of_17 : decode cX5_of 17 = .ok (.iconst 1, 1) := dk_4 (dk_at dksX5_of_0 17 rfl rfl)
theorem dX5_of_18 : decode cX5_of 18 = .ok (.isub, 1) := dk_100 (dk_at dksX5_of_0 18 rfl rfl)
theorem dX5_of_19 : decode cX5_of 19 = .ok (.istore_n 2, 1) := dk_61 (dk_at dksX5_of_0 19 rfl rfl)
theorem dX5_of_20 : decode cX5_of 20 = .ok (.aload_n 0, 1) := dk_42 (dk_at dksX5_of_0 20 rfl rfl)
theorem dX5_of_21 : decode cX5_of 21 = .ok (.iconst (-1), 1) := dk_2 (dk_at dksX5_of_0 21 rfl rfl)
theorem dX5_of_22 : decode cX5_of 22 = .ok (.putfield 31, 3) := dk_181 0 31 (dk_at dksX5_of_1 0 rfl rfl)
theorem dX5_of_25 : decode cX5_of 25 = .ok (.aload_n 0, 1) := dk_42 (dk_at dksX5_of_1 3 rfl rfl)
theorem dX5_of_26 : decode cX5_of 26 = .ok (.iload_n 2, 1) := dk_28 (dk_at dksX5_of_1 4 rfl rfl)
theorem dX5_of_27 : decode cX5_of 27 = .ok (.putfield 35, 3) := dk_181 0 35 (dk_at dksX5_of_1 5 rfl rfl)
theorem dX5_of_30 : decode cX5_of 30 = .ok (.iconst 0, 1) := dk_3 (dk_at dksX5_of_1 8 rfl rfl)
theorem dX5_of_31 : decode cX5_of 31 = .ok (.istore_n 3, 1) := dk_62 (dk_at dksX5_of_1 9 rfl rfl)
theorem dX5_of_32 : decode cX5_of 32 = .ok (.iload_n 3, 1) := dk_29 (dk_at dksX5_of_1 10 rfl rfl)
theorem dX5_of_33 : decode cX5_of 33 = .ok (.iload_n 2, 1) := dk_28 (dk_at dksX5_of_1 11 rfl rfl)
theorem dX5_of_34 : decode cX5_of 34 = .ok (.if_icmp .gt 68, 3) := dk_163 0 68 (dk_at dksX5_of_1 12 rfl rfl)
theorem dX5_of_37 : decode cX5_of 37 = .ok (.aload_n 0, 1) := dk_42 (dk_at dksX5_of_1 15 rfl rfl)
theorem dX5_of_38 : decode cX5_of 38 = .ok (.getfield 3, 3) := dk_180 0 3 (dk_at dksX5_of_1 16 rfl rfl)
theorem dX5_of_41 : decode cX5_of 41 = .ok (.iload_n 3, 1) := dk_29 (dk_at dksX5_of_1 19 rfl rfl)
theorem dX5_of_42 : decode cX5_of 42 = .ok (.putfield 38, 3) := dk_181 0 38 (dk_at dksX5_of_1 20 rfl rfl)
theorem dX5_of_45 : decode cX5_of 45 = .ok (.aload_n 0, 1) := dk_42 (dk_at dksX5_of_1 23 rfl rfl)
theorem dX5_of_46 : decode cX5_of 46 = .ok (.getfield 3, 3) := dk_180 0 3 (dk_at dksX5_of_2 0 rfl rfl)
theorem dX5_of_49 : decode cX5_of 49 = .ok (.iload_n 1, 1) := dk_27 (dk_at dksX5_of_2 3 rfl rfl)
theorem dX5_of_50 : decode cX5_of 50 = .ok (.invokevirtual 41, 3) := dk_182 0 41 (dk_at dksX5_of_2 4 rfl rfl)
theorem dX5_of_53 : decode cX5_of 53 = .ok (.ifCond .ne 6, 3) := dk_154 0 6 (dk_at dksX5_of_2 7 rfl rfl)
theorem dX5_of_56 : decode cX5_of 56 = .ok (.goto 40, 3) := dk_167 0 40 (dk_at dksX5_of_2 10 rfl rfl)
theorem dX5_of_59 : decode cX5_of 59 = .ok (.aload_n 0, 1) := dk_42 (dk_at dksX5_of_2 13 rfl rfl)
theorem dX5_of_60 : decode cX5_of 60 = .ok (.dup, 1) := dk_89 (dk_at dksX5_of_2 14 rfl rfl)
theorem dX5_of_61 : decode cX5_of 61 = .ok (.getfield 35, 3) := dk_180 0 35 (dk_at dksX5_of_2 15 rfl rfl)
theorem dX5_of_64 : decode cX5_of 64 = .ok (.iload_n 3, 1) := dk_29 (dk_at dksX5_of_2 18 rfl rfl)
theorem dX5_of_65 : decode cX5_of 65 = .ok (.iand, 1) := dk_126 (dk_at dksX5_of_2 19 rfl rfl)
theorem dX5_of_66 : decode cX5_of 66 = .ok (.putfield 35, 3) := dk_181 0 35 (dk_at dksX5_of_2 20 rfl rfl)
theorem dX5_of_69 : decode cX5_of 69 = .ok (.aload_n 0, 1) := dk_42 (dk_at dksX5_of_2 23 rfl rfl)
theorem dX5_of_70 : decode cX5_of 70 = .ok (.getfield 31, 3) := dk_180 0 31 (dk_at dksX5_of_3 0 rfl rfl)
theorem dX5_of_73 : decode cX5_of 73 = .ok (.iconst (-1), 1) := dk_2 (dk_at dksX5_of_3 3 rfl rfl)
theorem dX5_of_74 : decode cX5_of 74 = .ok (.if_icmp .eq 17, 3) := dk_159 0 17 (dk_at dksX5_of_3 4 rfl rfl)
theorem dX5_of_77 : decode cX5_of 77 = .ok (.iload_n 3, 1) := dk_29 (dk_at dksX5_of_3 7 rfl rfl)
theorem dX5_of_78 : decode cX5_of 78 = .ok (.invokestatic 45, 3) := dk_184 0 45 (dk_at dksX5_of_3 8 rfl rfl)
theorem dX5_of_81 : decode cX5_of 81 = .ok (.aload_n 0, 1) := dk_42 (dk_at dksX5_of_3 11 rfl rfl)
theorem dX5_of_82 : decode cX5_of 82 = .ok (.getfield 31, 3) := dk_180 0 31 (dk_at dksX5_of_3 12 rfl rfl)
theorem dX5_of_85 : decode cX5_of 85 = .ok (.invokestatic 45, 3) := dk_184 0 45 (dk_at dksX5_of_3 15 rfl rfl)
theorem dX5_of_88 : decode cX5_of 88 = .ok (.if_icmp .ge 8, 3) := dk_162 0 8 (dk_at dksX5_of_3 18 rfl rfl)
theorem dX5_of_91 : decode cX5_of 91 = .ok (.aload_n 0, 1) := dk_42 (dk_at dksX5_of_3 21 rfl rfl)
theorem dX5_of_92 : decode cX5_of 92 = .ok (.iload_n 3, 1) := dk_29 (dk_at dksX5_of_3 22 rfl rfl)
theorem dX5_of_93 : decode cX5_of 93 = .ok (.putfield 31, 3) := dk_181 0 31 (dk_at dksX5_of_4 0 rfl rfl)
theorem dX5_of_96 : decode cX5_of 96 = .ok (.iinc 3 1, 3) := dk_132 3 1 (dk_at dksX5_of_4 3 rfl rfl)
theorem dX5_of_99 : decode cX5_of 99 = .ok (.goto (-67), 3) := dk_167 255 189 (dk_at dksX5_of_4 6 rfl rfl)
theorem dX5_of_102 : decode cX5_of 102 = .ok (.aload_n 0, 1) := dk_42 (dk_at dksX5_of_4 9 rfl rfl)
theorem dX5_of_103 : decode cX5_of 103 = .ok (.getfield 3, 3) := dk_180 0 3 (dk_at dksX5_of_4 10 rfl rfl)
theorem dX5_of_106 : decode cX5_of 106 = .ok (.aload_n 0, 1) := dk_42 (dk_at dksX5_of_4 13 rfl rfl)
theorem dX5_of_107 : decode cX5_of 107 = .ok (.getfield 3, 3) := dk_180 0 3 (dk_at dksX5_of_4 14 rfl rfl)
theorem dX5_of_110 : decode cX5_of 110 = .ok (.getfield 15, 3) := dk_180 0 15 (dk_at dksX5_of_4 17 rfl rfl)
theorem dX5_of_113 : decode cX5_of 113 = .ok (.getfield 48, 3) := dk_180 0 48 (dk_at dksX5_of_4 20 rfl rfl)
theorem dX5_of_116 : decode cX5_of 116 = .ok (.putfield 38, 3) := dk_181 0 38 (dk_at dksX5_of_5 0 rfl rfl)
theorem dX5_of_119 : decode cX5_of 119 = .ok (.aload_n 0, 1) := dk_42 (dk_at dksX5_of_5 3 rfl rfl)
theorem dX5_of_120 : decode cX5_of 120 = .ok (.areturn, 1) := dk_176 (dk_at dksX5_of_5 4 rfl rfl)
theorem q176 : (Jvm.Cond.initialized "MergeJudge$Locks") ∈ lw_all := lw_g (lw_at lw_m1 10 rfl) rfl
theorem q480 : (Jvm.Cond.fieldLinkNest "MergeJudge$Locks" (19 : Nat) "MergeJudge$Base" "ops" "Ljava/util/List;" "MergeJudge") ∈ lw_tbl := lw_at lw_m2 74 rfl
theorem q503 : (Jvm.Cond.fieldLinkNest "MergeJudge$Locks" (48 : Nat) "MergeJudge$Base" "locked" "I" "MergeJudge") ∈ lw_tbl := lw_at lw_m2 97 rfl
theorem q608 : (Jvm.Cond.instantiable "MergeJudge$Locks" (3 : Nat)) ∈ lw_all := lw_g (lw_at lw_m2 202 rfl) rfl
theorem q610 : (Jvm.Cond.instanceMethod ({ cls := "MergeJudge$Locks", name := "<init>", desc := "(LMergeJudge;)V" } : Jvm.MethodName)) ∈ lw_all := lw_g (lw_at lw_m2 204 rfl) rfl
theorem q611 : (Jvm.Cond.code ({ cls := "MergeJudge$Locks", name := "<init>", desc := "(LMergeJudge;)V" } : Jvm.MethodName) prog_8_method_1_code (2 : Nat) (Option.none : Option Jvm.ClassFile.FieldType)) ∈ lw_all := lw_g (lw_at lw_m2 205 rfl) rfl
theorem q612 : (Jvm.Cond.methodLink "MergeJudge$Locks" (9 : Nat) ({ cls := "java/lang/Object", name := "<init>", desc := "()V" } : Jvm.MethodName)) ∈ lw_all := lw_g (lw_at lw_m2 206 rfl) rfl
theorem q613 : (Jvm.Cond.fieldLink "MergeJudge$Locks" (31 : Nat) "MergeJudge$Locks" "best" "I") ∈ lw_all := lw_g (lw_at lw_m2 207 rfl) rfl
theorem q615 : (Jvm.Cond.fieldLink "MergeJudge$Locks" (35 : Nat) "MergeJudge$Locks" "needed" "I") ∈ lw_all := lw_g (lw_at lw_m2 209 rfl) rfl
theorem q617 : (Jvm.Cond.fieldLink "MergeJudge$Locks" (3 : Nat) "MergeJudge$Locks" "this$0" "LMergeJudge;") ∈ lw_all := lw_g (lw_at lw_m2 211 rfl) rfl
theorem q618 : (Jvm.Cond.lays "MergeJudge$Locks" "MergeJudge$Locks" "best" "I") ∈ lw_all := lw_g (lw_at lw_m2 212 rfl) rfl
theorem q619 : (Jvm.Cond.soleField "MergeJudge$Locks" "best") ∈ lw_all := lw_g (lw_at lw_m2 213 rfl) rfl
theorem q620 : (Jvm.Cond.lays "MergeJudge$Locks" "MergeJudge$Locks" "needed" "I") ∈ lw_all := lw_g (lw_at lw_m2 214 rfl) rfl
theorem q621 : (Jvm.Cond.soleField "MergeJudge$Locks" "needed") ∈ lw_all := lw_g (lw_at lw_m2 215 rfl) rfl
theorem q622 : (Jvm.Cond.laysFinal "MergeJudge$Locks" "MergeJudge$Locks" "this$0" "LMergeJudge;") ∈ lw_all := lw_g (lw_at lw_m2 216 rfl) rfl
theorem q623 : (Jvm.Cond.soleField "MergeJudge$Locks" "this$0") ∈ lw_all := lw_g (lw_at lw_m2 217 rfl) rfl
theorem q624 : (Jvm.Cond.superclass "MergeJudge$Locks" "java/lang/Object") ∈ lw_all := lw_g (lw_at lw_m2 218 rfl) rfl
theorem q651 : (Jvm.Cond.fieldLinkNest "MergeJudge$Locks" (15 : Nat) "MergeJudge" "now" "LMergeJudge$Base;" "MergeJudge") ∈ lw_tbl := lw_at lw_m3 5 rfl
theorem q666 : (Jvm.Cond.fieldLinkNest "MergeJudge$Locks" (38 : Nat) "MergeJudge" "locked" "I" "MergeJudge") ∈ lw_tbl := lw_at lw_m3 20 rfl
theorem q852 : (Jvm.Cond.selects "MergeJudge$Locks" ({ cls := "java/lang/Object", name := "hashCode", desc := "()I" } : Jvm.MethodName) ({ cls := "java/lang/Object", name := "hashCode", desc := "()I" } : Jvm.MethodName)) ∈ lw_all := lw_g (lw_at lw_m3 206 rfl) rfl
theorem q1017 : (Jvm.Cond.selects "MergeJudge$Locks" ({ cls := "java/lang/Object", name := "getClass", desc := "()Ljava/lang/Class;" } : Jvm.MethodName) ({ cls := "java/lang/Object", name := "getClass", desc := "()Ljava/lang/Class;" } : Jvm.MethodName)) ∈ lw_all := lw_g (lw_at lw_m4 131 rfl) rfl
theorem q1284 : (Jvm.Cond.selects "MergeJudge$Locks" ({ cls := "java/lang/Object", name := "equals", desc := "(Ljava/lang/Object;)Z" } : Jvm.MethodName) ({ cls := "java/lang/Object", name := "equals", desc := "(Ljava/lang/Object;)Z" } : Jvm.MethodName)) ∈ lw_all := lw_g (lw_at lw_m5 158 rfl) rfl
theorem q2340 : (Jvm.Cond.instanceMethod ({ cls := "MergeJudge$Locks", name := "of", desc := "(I)LMergeJudge$Locks;" } : Jvm.MethodName)) ∈ lw_all := lw_g (lw_at lw_m10 14 rfl) rfl
theorem q2341 : (Jvm.Cond.selects "MergeJudge$Locks" ({ cls := "MergeJudge$Locks", name := "of", desc := "(I)LMergeJudge$Locks;" } : Jvm.MethodName) ({ cls := "MergeJudge$Locks", name := "of", desc := "(I)LMergeJudge$Locks;" } : Jvm.MethodName)) ∈ lw_all := lw_g (lw_at lw_m10 15 rfl) rfl
theorem q2342 : (Jvm.Cond.code ({ cls := "MergeJudge$Locks", name := "of", desc := "(I)LMergeJudge$Locks;" } : Jvm.MethodName) prog_8_method_2_code (4 : Nat) (Option.some (Jvm.ClassFile.FieldType.object "MergeJudge$Locks"))) ∈ lw_all := lw_g (lw_at lw_m10 16 rfl) rfl
theorem q2343 : (Jvm.Cond.interfaceEntry "MergeJudge$Locks" (25 : Nat)) ∈ lw_tbl := lw_at lw_m10 17 rfl
theorem q2344 : (Jvm.Cond.methodLink "MergeJudge$Locks" (25 : Nat) ({ cls := "java/util/List", name := "size", desc := "()I" } : Jvm.MethodName)) ∈ lw_all := lw_g (lw_at lw_m10 18 rfl) rfl
theorem q2345 : (Jvm.Cond.methodLinkNest "MergeJudge$Locks" (41 : Nat) ({ cls := "MergeJudge", name := "isSafe", desc := "(I)Z" } : Jvm.MethodName) "MergeJudge") ∈ lw_tbl := lw_at lw_m10 19 rfl
theorem q2346 : (Jvm.Cond.methodLinkNest "MergeJudge$Locks" (45 : Nat) ({ cls := "MergeJudge", name := "size", desc := "(I)I" } : Jvm.MethodName) "MergeJudge") ∈ lw_tbl := lw_at lw_m10 20 rfl
theorem q3525 : (Jvm.Cond.castable "MergeJudge$Locks" "java/lang/Object") ∈ lw_tbl := lw_at lw_m14 239 rfl
theorem in_X5 : ∀ w ∈ wsX50, w ∈ lw_all := lw_in wsX50 [618, 620, 622] (by decide +kernel) (by decide +kernel)
/-! MergeJudge$Merging -/
set_option maxRecDepth 100000
def RX6 : String := "MergeJudge$Merging"
def TX6 : u_T := fun k => match k with
  | _ => ("MergeJudge$Merging", "merge", "LMergeJudge$Merge;", true)
def tyX6 : Nat → FieldType := fun k => match k with
  | _ => .object "MergeJudge$Merge"
abbrev wsX60 : List Cond := u_ws RX6 TX6 1
theorem nmX6 : ∀ a, a < 1 → ∀ b, b < 1 → a ≠ b → (TX6 a).2.1 ≠ (TX6 b).2.1 := by decide +kernel
theorem tyX6_ok : ∀ k, k < 1 → parseFieldDescriptor (TX6 k).2.2.1 = some (tyX6 k) := by decide +kernel
abbrev cX6_init : ByteArray := prog_10_method_1_code
def yX6_init : MethodName := ⟨RX6, "<init>", "(LMergeJudge$Merge;)V"⟩
def dkwX6_init_0 : List UInt8 := [42, 183, 0, 1, 42, 43, 181, 0, 7, 177]
abbrev dktX6_init_0 : List UInt8 := dkwX6_init_0 ++ []
theorem dksX6_init_0 : cX6_init.data.toList.drop 0 = dktX6_init_0 := by decide +kernel
theorem dX6_init_0 : decode cX6_init 0 = .ok (.aload_n 0, 1) := dk_42 (dk_at dksX6_init_0 0 rfl rfl)
theorem dX6_init_1 : decode cX6_init 1 = .ok (.invokespecial 1, 3) := dk_183 0 1 (dk_at dksX6_init_0 1 rfl rfl)
theorem dX6_init_4 : decode cX6_init 4 = .ok (.aload_n 0, 1) := dk_42 (dk_at dksX6_init_0 4 rfl rfl)
theorem dX6_init_5 : decode cX6_init 5 = .ok (.aload_n 1, 1) := dk_43 (dk_at dksX6_init_0 5 rfl rfl)
theorem dX6_init_6 : decode cX6_init 6 = .ok (.putfield 7, 3) := dk_181 0 7 (dk_at dksX6_init_0 6 rfl rfl)
theorem dX6_init_9 : decode cX6_init 9 = .ok (.return_, 1) := dk_177 (dk_at dksX6_init_0 9 rfl rfl)
theorem q177 : (Jvm.Cond.initialized "MergeJudge$Merging") ∈ lw_all := lw_g (lw_at lw_m1 11 rfl) rfl
theorem q625 : (Jvm.Cond.instantiable "MergeJudge$Merging" (1 : Nat)) ∈ lw_all := lw_g (lw_at lw_m2 219 rfl) rfl
theorem q627 : (Jvm.Cond.instanceMethod ({ cls := "MergeJudge$Merging", name := "<init>", desc := "(LMergeJudge$Merge;)V" } : Jvm.MethodName)) ∈ lw_all := lw_g (lw_at lw_m2 221 rfl) rfl
theorem q628 : (Jvm.Cond.code ({ cls := "MergeJudge$Merging", name := "<init>", desc := "(LMergeJudge$Merge;)V" } : Jvm.MethodName) prog_10_method_1_code (2 : Nat) (Option.none : Option Jvm.ClassFile.FieldType)) ∈ lw_all := lw_g (lw_at lw_m2 222 rfl) rfl
theorem q629 : (Jvm.Cond.methodLink "MergeJudge$Merging" (1 : Nat) ({ cls := "java/lang/Object", name := "<init>", desc := "()V" } : Jvm.MethodName)) ∈ lw_all := lw_g (lw_at lw_m2 223 rfl) rfl
theorem q630 : (Jvm.Cond.fieldLink "MergeJudge$Merging" (7 : Nat) "MergeJudge$Merging" "merge" "LMergeJudge$Merge;") ∈ lw_all := lw_g (lw_at lw_m2 224 rfl) rfl
theorem q632 : (Jvm.Cond.laysFinal "MergeJudge$Merging" "MergeJudge$Merging" "merge" "LMergeJudge$Merge;") ∈ lw_all := lw_g (lw_at lw_m2 226 rfl) rfl
theorem q633 : (Jvm.Cond.soleField "MergeJudge$Merging" "merge") ∈ lw_all := lw_g (lw_at lw_m2 227 rfl) rfl
theorem q634 : (Jvm.Cond.superclass "MergeJudge$Merging" "java/lang/Object") ∈ lw_all := lw_g (lw_at lw_m2 228 rfl) rfl
theorem q853 : (Jvm.Cond.selects "MergeJudge$Merging" ({ cls := "java/lang/Object", name := "hashCode", desc := "()I" } : Jvm.MethodName) ({ cls := "java/lang/Object", name := "hashCode", desc := "()I" } : Jvm.MethodName)) ∈ lw_all := lw_g (lw_at lw_m3 207 rfl) rfl
theorem q1018 : (Jvm.Cond.selects "MergeJudge$Merging" ({ cls := "java/lang/Object", name := "getClass", desc := "()Ljava/lang/Class;" } : Jvm.MethodName) ({ cls := "java/lang/Object", name := "getClass", desc := "()Ljava/lang/Class;" } : Jvm.MethodName)) ∈ lw_all := lw_g (lw_at lw_m4 132 rfl) rfl
theorem q1285 : (Jvm.Cond.selects "MergeJudge$Merging" ({ cls := "java/lang/Object", name := "equals", desc := "(Ljava/lang/Object;)Z" } : Jvm.MethodName) ({ cls := "java/lang/Object", name := "equals", desc := "(Ljava/lang/Object;)Z" } : Jvm.MethodName)) ∈ lw_all := lw_g (lw_at lw_m5 159 rfl) rfl
theorem q3516 : (Jvm.Cond.castable "MergeJudge$Merging" "java/lang/Object") ∈ lw_tbl := lw_at lw_m14 230 rfl
theorem in_X6 : ∀ w ∈ wsX60, w ∈ lw_all := lw_in wsX60 [632] (by decide +kernel) (by decide +kernel)
/-! MergeJudge$Reader -/
set_option maxRecDepth 100000
def RX8 : String := "MergeJudge$Reader"
def TX8 : u_T := fun k => match k with
  | 0 => ("MergeJudge$Reader", "text", "[B", true)
  | 1 => ("MergeJudge$Reader", "many", "I", true)
  | 2 => ("MergeJudge$Reader", "b", "LMergeJudge$Base;", true)
  | 3 => ("MergeJudge$Reader", "merges", "Ljava/util/HashMap;", true)
  | 4 => ("MergeJudge$Reader", "rules", "Ljava/util/HashMap;", true)
  | 5 => ("MergeJudge$Reader", "ops", "Ljava/util/HashMap;", true)
  | 6 => ("MergeJudge$Reader", "letters", "Ljava/lang/StringBuilder;", true)
  | 7 => ("MergeJudge$Reader", "word", "Ljava/lang/String;", false)
  | 8 => ("MergeJudge$Reader", "at", "I", false)
  | 9 => ("MergeJudge$Reader", "begin", "I", false)
  | 10 => ("MergeJudge$Reader", "token", "I", false)
  | _ => ("MergeJudge$Reader", "value", "I", false)
def tyX8 : Nat → FieldType := fun k => match k with
  | 0 => .array .byte
  | 1 => .int
  | 2 => .object "MergeJudge$Base"
  | 3 => .object "java/util/HashMap"
  | 4 => .object "java/util/HashMap"
  | 5 => .object "java/util/HashMap"
  | 6 => .object "java/lang/StringBuilder"
  | 7 => .object "java/lang/String"
  | 8 => .int
  | 9 => .int
  | 10 => .int
  | _ => .int
abbrev wsX80 : List Cond := u_ws RX8 TX8 12
theorem nmX8 : ∀ a, a < 12 → ∀ b, b < 12 → a ≠ b → (TX8 a).2.1 ≠ (TX8 b).2.1 := by decide +kernel
theorem tyX8_ok : ∀ k, k < 12 → parseFieldDescriptor (TX8 k).2.2.1 = some (tyX8 k) := by decide +kernel
abbrev cX8_init : ByteArray := prog_12_method_1_code
def yX8_init : MethodName := ⟨RX8, "<init>", "([BI)V"⟩
def dkwX8_init_7 : List UInt8 := [83, 89, 4, 18, 80, 83, 89, 5, 18, 82, 83, 89, 6, 18, 84, 83, 184, 0, 62, 42, 182, 0, 86, 177]
abbrev dktX8_init_7 : List UInt8 := dkwX8_init_7 ++ []
def dkwX8_init_6 : List UInt8 := [7, 18, 74, 83, 89, 8, 18, 76, 83, 184, 0, 62, 42, 180, 0, 28, 7, 189, 0, 52, 89, 3, 18, 78]
abbrev dktX8_init_6 : List UInt8 := dkwX8_init_6 ++ dktX8_init_7
def dkwX8_init_5 : List UInt8 := [189, 0, 52, 89, 3, 18, 66, 83, 89, 4, 18, 68, 83, 89, 5, 18, 70, 83, 89, 6, 18, 72, 83, 89]
abbrev dktX8_init_5 : List UInt8 := dkwX8_init_5 ++ dktX8_init_6
def dkwX8_init_4 : List UInt8 := [18, 56, 83, 89, 5, 18, 58, 83, 89, 6, 18, 60, 83, 184, 0, 62, 42, 180, 0, 25, 16, 6]
abbrev dktX8_init_4 : List UInt8 := dkwX8_init_4 ++ dktX8_init_5
def dkwX8_init_3 : List UInt8 := [181, 0, 44, 42, 28, 181, 0, 48, 42, 180, 0, 21, 7, 189, 0, 52, 89, 3, 18, 54, 83, 89, 4]
abbrev dktX8_init_3 : List UInt8 := dkwX8_init_3 ++ dktX8_init_4
def dkwX8_init_2 : List UInt8 := [181, 0, 28, 42, 187, 0, 31, 89, 183, 0, 33, 181, 0, 34, 42, 18, 38, 181, 0, 40, 42, 43]
abbrev dktX8_init_2 : List UInt8 := dkwX8_init_2 ++ dktX8_init_3
def dkwX8_init_1 : List UInt8 := [181, 0, 21, 42, 187, 0, 18, 89, 183, 0, 20, 181, 0, 25, 42, 187, 0, 18, 89, 183, 0, 20]
abbrev dktX8_init_1 : List UInt8 := dkwX8_init_1 ++ dktX8_init_2
def dkwX8_init_0 : List UInt8 := [42, 183, 0, 3, 42, 187, 0, 9, 89, 183, 0, 11, 181, 0, 12, 42, 187, 0, 18, 89, 183, 0, 20]
abbrev dktX8_init_0 : List UInt8 := dkwX8_init_0 ++ dktX8_init_1
theorem dksX8_init_0 : cX8_init.data.toList.drop 0 = dktX8_init_0 := by decide +kernel
theorem dksX8_init_1 : cX8_init.data.toList.drop 23 = dktX8_init_1 := dk_seg dksX8_init_0 23 rfl rfl
theorem dksX8_init_2 : cX8_init.data.toList.drop 45 = dktX8_init_2 := dk_seg dksX8_init_1 22 rfl rfl
theorem dksX8_init_3 : cX8_init.data.toList.drop 67 = dktX8_init_3 := dk_seg dksX8_init_2 22 rfl rfl
theorem dksX8_init_4 : cX8_init.data.toList.drop 90 = dktX8_init_4 := dk_seg dksX8_init_3 23 rfl rfl
theorem dksX8_init_5 : cX8_init.data.toList.drop 112 = dktX8_init_5 := dk_seg dksX8_init_4 22 rfl rfl
theorem dksX8_init_6 : cX8_init.data.toList.drop 136 = dktX8_init_6 := dk_seg dksX8_init_5 24 rfl rfl
theorem dksX8_init_7 : cX8_init.data.toList.drop 160 = dktX8_init_7 := dk_seg dksX8_init_6 24 rfl rfl
theorem dX8_init_0 : decode cX8_init 0 = .ok (.aload_n 0, 1) := dk_42 (dk_at dksX8_init_0 0 rfl rfl)
theorem dX8_init_1 : decode cX8_init 1 = .ok (.invokespecial 3, 3) := dk_183 0 3 (dk_at dksX8_init_0 1 rfl rfl)
theorem dX8_init_4 : decode cX8_init 4 = .ok (.aload_n 0, 1) := dk_42 (dk_at dksX8_init_0 4 rfl rfl)
theorem dX8_init_5 : decode cX8_init 5 = .ok (.new 9, 3) := dk_187 0 9 (dk_at dksX8_init_0 5 rfl rfl)
theorem dX8_init_8 : decode cX8_init 8 = .ok (.dup, 1) := dk_89 (dk_at dksX8_init_0 8 rfl rfl)
theorem dX8_init_9 : decode cX8_init 9 = .ok (.invokespecial 11, 3) := dk_183 0 11 (dk_at dksX8_init_0 9 rfl rfl)
theorem dX8_init_12 : decode cX8_init 12 = .ok (.putfield 12, 3) := dk_181 0 12 (dk_at dksX8_init_0 12 rfl rfl)
theorem dX8_init_15 : decode cX8_init 15 = .ok (.aload_n 0, 1) := dk_42 (dk_at dksX8_init_0 15 rfl rfl)
theorem dX8_init_16 : decode cX8_init 16 = .ok (.new 18, 3) := dk_187 0 18 (dk_at dksX8_init_0 16 rfl rfl)
theorem dX8_init_19 : decode cX8_init 19 = .ok (.dup, 1) := dk_89 (dk_at dksX8_init_0 19 rfl rfl)
theorem dX8_init_20 : decode cX8_init 20 = .ok (.invokespecial 20, 3) := dk_183 0 20 (dk_at dksX8_init_0 20 rfl rfl)
theorem dX8_init_23 : decode cX8_init 23 = .ok (.putfield 21, 3) := dk_181 0 21 (dk_at dksX8_init_1 0 rfl rfl)
theorem dX8_init_26 : decode cX8_init 26 = .ok (.aload_n 0, 1) := dk_42 (dk_at dksX8_init_1 3 rfl rfl)
theorem dX8_init_27 : decode cX8_init 27 = .ok (.new 18, 3) := dk_187 0 18 (dk_at dksX8_init_1 4 rfl rfl)
theorem dX8_init_30 : decode cX8_init 30 = .ok (.dup, 1) := dk_89 (dk_at dksX8_init_1 7 rfl rfl)
theorem dX8_init_31 : decode cX8_init 31 = .ok (.invokespecial 20, 3) := dk_183 0 20 (dk_at dksX8_init_1 8 rfl rfl)
theorem dX8_init_34 : decode cX8_init 34 = .ok (.putfield 25, 3) := dk_181 0 25 (dk_at dksX8_init_1 11 rfl rfl)
theorem dX8_init_37 : decode cX8_init 37 = .ok (.aload_n 0, 1) := dk_42 (dk_at dksX8_init_1 14 rfl rfl)
theorem dX8_init_38 : decode cX8_init 38 = .ok (.new 18, 3) := dk_187 0 18 (dk_at dksX8_init_1 15 rfl rfl)
theorem dX8_init_41 : decode cX8_init 41 = .ok (.dup, 1) := dk_89 (dk_at dksX8_init_1 18 rfl rfl)
theorem dX8_init_42 : decode cX8_init 42 = .ok (.invokespecial 20, 3) := dk_183 0 20 (dk_at dksX8_init_1 19 rfl rfl)
theorem dX8_init_45 : decode cX8_init 45 = .ok (.putfield 28, 3) := dk_181 0 28 (dk_at dksX8_init_2 0 rfl rfl)
theorem dX8_init_48 : decode cX8_init 48 = .ok (.aload_n 0, 1) := dk_42 (dk_at dksX8_init_2 3 rfl rfl)
theorem dX8_init_49 : decode cX8_init 49 = .ok (.new 31, 3) := dk_187 0 31 (dk_at dksX8_init_2 4 rfl rfl)
theorem dX8_init_52 : decode cX8_init 52 = .ok (.dup, 1) := dk_89 (dk_at dksX8_init_2 7 rfl rfl)
theorem dX8_init_53 : decode cX8_init 53 = .ok (.invokespecial 33, 3) := dk_183 0 33 (dk_at dksX8_init_2 8 rfl rfl)
theorem dX8_init_56 : decode cX8_init 56 = .ok (.putfield 34, 3) := dk_181 0 34 (dk_at dksX8_init_2 11 rfl rfl)
theorem dX8_init_59 : decode cX8_init 59 = .ok (.aload_n 0, 1) := dk_42 (dk_at dksX8_init_2 14 rfl rfl)
theorem dX8_init_60 : decode cX8_init 60 = .ok (.ldc 38, 2) := dk_18 38 (dk_at dksX8_init_2 15 rfl rfl)
theorem dX8_init_62 : decode cX8_init 62 = .ok (.putfield 40, 3) := dk_181 0 40 (dk_at dksX8_init_2 17 rfl rfl)
theorem dX8_init_65 : decode cX8_init 65 = .ok (.aload_n 0, 1) := dk_42 (dk_at dksX8_init_2 20 rfl rfl)
theorem dX8_init_66 : decode cX8_init 66 = .ok (.aload_n 1, 1) := dk_43 (dk_at dksX8_init_2 21 rfl rfl)
theorem dX8_init_67 : decode cX8_init 67 = .ok (.putfield 44, 3) := dk_181 0 44 (dk_at dksX8_init_3 0 rfl rfl)
theorem dX8_init_70 : decode cX8_init 70 = .ok (.aload_n 0, 1) := dk_42 (dk_at dksX8_init_3 3 rfl rfl)
theorem dX8_init_71 : decode cX8_init 71 = .ok (.iload_n 2, 1) := dk_28 (dk_at dksX8_init_3 4 rfl rfl)
theorem dX8_init_72 : decode cX8_init 72 = .ok (.putfield 48, 3) := dk_181 0 48 (dk_at dksX8_init_3 5 rfl rfl)
theorem dX8_init_75 : decode cX8_init 75 = .ok (.aload_n 0, 1) := dk_42 (dk_at dksX8_init_3 8 rfl rfl)
theorem dX8_init_76 : decode cX8_init 76 = .ok (.getfield 21, 3) := dk_180 0 21 (dk_at dksX8_init_3 9 rfl rfl)
theorem dX8_init_79 : decode cX8_init 79 = .ok (.iconst 4, 1) := dk_7 (dk_at dksX8_init_3 12 rfl rfl)
theorem dX8_init_80 : decode cX8_init 80 = .ok (.anewarray 52, 3) := dk_189 0 52 (dk_at dksX8_init_3 13 rfl rfl)
theorem dX8_init_83 : decode cX8_init 83 = .ok (.dup, 1) := dk_89 (dk_at dksX8_init_3 16 rfl rfl)
theorem dX8_init_84 : decode cX8_init 84 = .ok (.iconst 0, 1) := dk_3 (dk_at dksX8_init_3 17 rfl rfl)
theorem dX8_init_85 : decode cX8_init 85 = .ok (.ldc 54, 2) := dk_18 54 (dk_at dksX8_init_3 18 rfl rfl)
theorem dX8_init_87 : decode cX8_init 87 = .ok (.aastore, 1) := dk_83 (dk_at dksX8_init_3 20 rfl rfl)
theorem dX8_init_88 : decode cX8_init 88 = .ok (.dup, 1) := dk_89 (dk_at dksX8_init_3 21 rfl rfl)
theorem dX8_init_89 : decode cX8_init 89 = .ok (.iconst 1, 1) := dk_4 (dk_at dksX8_init_3 22 rfl rfl)
theorem dX8_init_90 : decode cX8_init 90 = .ok (.ldc 56, 2) := dk_18 56 (dk_at dksX8_init_4 0 rfl rfl)
theorem dX8_init_92 : decode cX8_init 92 = .ok (.aastore, 1) := dk_83 (dk_at dksX8_init_4 2 rfl rfl)
theorem dX8_init_93 : decode cX8_init 93 = .ok (.dup, 1) := dk_89 (dk_at dksX8_init_4 3 rfl rfl)
theorem dX8_init_94 : decode cX8_init 94 = .ok (.iconst 2, 1) := dk_5 (dk_at dksX8_init_4 4 rfl rfl)
theorem dX8_init_95 : decode cX8_init 95 = .ok (.ldc 58, 2) := dk_18 58 (dk_at dksX8_init_4 5 rfl rfl)
theorem dX8_init_97 : decode cX8_init 97 = .ok (.aastore, 1) := dk_83 (dk_at dksX8_init_4 7 rfl rfl)
theorem dX8_init_98 : decode cX8_init 98 = .ok (.dup, 1) := dk_89 (dk_at dksX8_init_4 8 rfl rfl)
theorem dX8_init_99 : decode cX8_init 99 = .ok (.iconst 3, 1) := dk_6 (dk_at dksX8_init_4 9 rfl rfl)
theorem dX8_init_100 : decode cX8_init 100 = .ok (.ldc 60, 2) := dk_18 60 (dk_at dksX8_init_4 10 rfl rfl)
theorem dX8_init_102 : decode cX8_init 102 = .ok (.aastore, 1) := dk_83 (dk_at dksX8_init_4 12 rfl rfl)
theorem dX8_init_103 : decode cX8_init 103 = .ok (.invokestatic 62, 3) := dk_184 0 62 (dk_at dksX8_init_4 13 rfl rfl)
theorem dX8_init_106 : decode cX8_init 106 = .ok (.aload_n 0, 1) := dk_42 (dk_at dksX8_init_4 16 rfl rfl)
theorem dX8_init_107 : decode cX8_init 107 = .ok (.getfield 25, 3) := dk_180 0 25 (dk_at dksX8_init_4 17 rfl rfl)
theorem dX8_init_110 : decode cX8_init 110 = .ok (.bipush 6, 2) := dk_16 6 (dk_at dksX8_init_4 20 rfl rfl)
theorem dX8_init_112 : decode cX8_init 112 = .ok (.anewarray 52, 3) := dk_189 0 52 (dk_at dksX8_init_5 0 rfl rfl)
theorem dX8_init_115 : decode cX8_init 115 = .ok (.dup, 1) := dk_89 (dk_at dksX8_init_5 3 rfl rfl)
theorem dX8_init_116 : decode cX8_init 116 = .ok (.iconst 0, 1) := dk_3 (dk_at dksX8_init_5 4 rfl rfl)
theorem dX8_init_117 : decode cX8_init 117 = .ok (.ldc 66, 2) := dk_18 66 (dk_at dksX8_init_5 5 rfl rfl)
theorem dX8_init_119 : decode cX8_init 119 = .ok (.aastore, 1) := dk_83 (dk_at dksX8_init_5 7 rfl rfl)
theorem dX8_init_120 : decode cX8_init 120 = .ok (.dup, 1) := dk_89 (dk_at dksX8_init_5 8 rfl rfl)
theorem dX8_init_121 : decode cX8_init 121 = .ok (.iconst 1, 1) := dk_4 (dk_at dksX8_init_5 9 rfl rfl)
theorem dX8_init_122 : decode cX8_init 122 = .ok (.ldc 68, 2) := dk_18 68 (dk_at dksX8_init_5 10 rfl rfl)
theorem dX8_init_124 : decode cX8_init 124 = .ok (.aastore, 1) := dk_83 (dk_at dksX8_init_5 12 rfl rfl)
theorem dX8_init_125 : decode cX8_init 125 = .ok (.dup, 1) := dk_89 (dk_at dksX8_init_5 13 rfl rfl)
theorem dX8_init_126 : decode cX8_init 126 = .ok (.iconst 2, 1) := dk_5 (dk_at dksX8_init_5 14 rfl rfl)
theorem dX8_init_127 : decode cX8_init 127 = .ok (.ldc 70, 2) := dk_18 70 (dk_at dksX8_init_5 15 rfl rfl)
theorem dX8_init_129 : decode cX8_init 129 = .ok (.aastore, 1) := dk_83 (dk_at dksX8_init_5 17 rfl rfl)
theorem dX8_init_130 : decode cX8_init 130 = .ok (.dup, 1) := dk_89 (dk_at dksX8_init_5 18 rfl rfl)
theorem dX8_init_131 : decode cX8_init 131 = .ok (.iconst 3, 1) := dk_6 (dk_at dksX8_init_5 19 rfl rfl)
theorem dX8_init_132 : decode cX8_init 132 = .ok (.ldc 72, 2) := dk_18 72 (dk_at dksX8_init_5 20 rfl rfl)
theorem dX8_init_134 : decode cX8_init 134 = .ok (.aastore, 1) := dk_83 (dk_at dksX8_init_5 22 rfl rfl)
theorem dX8_init_135 : decode cX8_init 135 = .ok (.dup, 1) := dk_89 (dk_at dksX8_init_5 23 rfl rfl)
theorem dX8_init_136 : decode cX8_init 136 = .ok (.iconst 4, 1) := dk_7 (dk_at dksX8_init_6 0 rfl rfl)
theorem dX8_init_137 : decode cX8_init 137 = .ok (.ldc 74, 2) := dk_18 74 (dk_at dksX8_init_6 1 rfl rfl)
theorem dX8_init_139 : decode cX8_init 139 = .ok (.aastore, 1) := dk_83 (dk_at dksX8_init_6 3 rfl rfl)
theorem dX8_init_140 : decode cX8_init 140 = .ok (.dup, 1) := dk_89 (dk_at dksX8_init_6 4 rfl rfl)
theorem dX8_init_141 : decode cX8_init 141 = .ok (.iconst 5, 1) := dk_8 (dk_at dksX8_init_6 5 rfl rfl)
theorem dX8_init_142 : decode cX8_init 142 = .ok (.ldc 76, 2) := dk_18 76 (dk_at dksX8_init_6 6 rfl rfl)
theorem dX8_init_144 : decode cX8_init 144 = .ok (.aastore, 1) := dk_83 (dk_at dksX8_init_6 8 rfl rfl)
theorem dX8_init_145 : decode cX8_init 145 = .ok (.invokestatic 62, 3) := dk_184 0 62 (dk_at dksX8_init_6 9 rfl rfl)
theorem dX8_init_148 : decode cX8_init 148 = .ok (.aload_n 0, 1) := dk_42 (dk_at dksX8_init_6 12 rfl rfl)
theorem dX8_init_149 : decode cX8_init 149 = .ok (.getfield 28, 3) := dk_180 0 28 (dk_at dksX8_init_6 13 rfl rfl)
theorem dX8_init_152 : decode cX8_init 152 = .ok (.iconst 4, 1) := dk_7 (dk_at dksX8_init_6 16 rfl rfl)
theorem dX8_init_153 : decode cX8_init 153 = .ok (.anewarray 52, 3) := dk_189 0 52 (dk_at dksX8_init_6 17 rfl rfl)
theorem dX8_init_156 : decode cX8_init 156 = .ok (.dup, 1) := dk_89 (dk_at dksX8_init_6 20 rfl rfl)
theorem dX8_init_157 : decode cX8_init 157 = .ok (.iconst 0, 1) := dk_3 (dk_at dksX8_init_6 21 rfl rfl)
theorem dX8_init_158 : decode cX8_init 158 = .ok (.ldc 78, 2) := dk_18 78 (dk_at dksX8_init_6 22 rfl rfl)
theorem dX8_init_160 : decode cX8_init 160 = .ok (.aastore, 1) := dk_83 (dk_at dksX8_init_7 0 rfl rfl)
theorem dX8_init_161 : decode cX8_init 161 = .ok (.dup, 1) := dk_89 (dk_at dksX8_init_7 1 rfl rfl)
theorem dX8_init_162 : decode cX8_init 162 = .ok (.iconst 1, 1) := dk_4 (dk_at dksX8_init_7 2 rfl rfl)
theorem dX8_init_163 : decode cX8_init 163 = .ok (.ldc 80, 2) := dk_18 80 (dk_at dksX8_init_7 3 rfl rfl)
theorem dX8_init_165 : decode cX8_init 165 = .ok (.aastore, 1) := dk_83 (dk_at dksX8_init_7 5 rfl rfl)
theorem dX8_init_166 : decode cX8_init 166 = .ok (.dup, 1) := dk_89 (dk_at dksX8_init_7 6 rfl rfl)
theorem dX8_init_167 : decode cX8_init 167 = .ok (.iconst 2, 1) := dk_5 (dk_at dksX8_init_7 7 rfl rfl)
theorem dX8_init_168 : decode cX8_init 168 = .ok (.ldc 82, 2) := dk_18 82 (dk_at dksX8_init_7 8 rfl rfl)
theorem dX8_init_170 : decode cX8_init 170 = .ok (.aastore, 1) := dk_83 (dk_at dksX8_init_7 10 rfl rfl)
theorem dX8_init_171 : decode cX8_init 171 = .ok (.dup, 1) := dk_89 (dk_at dksX8_init_7 11 rfl rfl)
theorem dX8_init_172 : decode cX8_init 172 = .ok (.iconst 3, 1) := dk_6 (dk_at dksX8_init_7 12 rfl rfl)
theorem dX8_init_173 : decode cX8_init 173 = .ok (.ldc 84, 2) := dk_18 84 (dk_at dksX8_init_7 13 rfl rfl)
theorem dX8_init_175 : decode cX8_init 175 = .ok (.aastore, 1) := dk_83 (dk_at dksX8_init_7 15 rfl rfl)
theorem dX8_init_176 : decode cX8_init 176 = .ok (.invokestatic 62, 3) := dk_184 0 62 (dk_at dksX8_init_7 16 rfl rfl)
theorem dX8_init_179 : decode cX8_init 179 = .ok (.aload_n 0, 1) := dk_42 (dk_at dksX8_init_7 19 rfl rfl)
theorem dX8_init_180 : decode cX8_init 180 = .ok (.invokevirtual 86, 3) := dk_182 0 86 (dk_at dksX8_init_7 20 rfl rfl)
theorem dX8_init_183 : decode cX8_init 183 = .ok (.return_, 1) := dk_177 (dk_at dksX8_init_7 23 rfl rfl)
abbrev cX8_lays : ByteArray := prog_12_method_2_code
def yX8_lays : MethodName := ⟨RX8, "lays", "(Ljava/util/HashMap;[Ljava/lang/String;)V"⟩
def dkwX8_lays_1 : List UInt8 := [167, 255, 235, 177]
abbrev dktX8_lays_1 : List UInt8 := dkwX8_lays_1 ++ []
def dkwX8_lays_0 : List UInt8 := [3, 61, 28, 43, 190, 162, 0, 21, 42, 43, 28, 50, 28, 184, 0, 89, 182, 0, 95, 87, 132, 2, 1]
abbrev dktX8_lays_0 : List UInt8 := dkwX8_lays_0 ++ dktX8_lays_1
theorem dksX8_lays_0 : cX8_lays.data.toList.drop 0 = dktX8_lays_0 := by decide +kernel
theorem dksX8_lays_1 : cX8_lays.data.toList.drop 23 = dktX8_lays_1 := dk_seg dksX8_lays_0 23 rfl rfl
theorem dX8_lays_0 : decode cX8_lays 0 = .ok (.iconst 0, 1) := dk_3 (dk_at dksX8_lays_0 0 rfl rfl)
theorem dX8_lays_1 : decode cX8_lays 1 = .ok (.istore_n 2, 1) := dk_61 (dk_at dksX8_lays_0 1 rfl rfl)
theorem dX8_lays_2 : decode cX8_lays 2 = .ok (.iload_n 2, 1) := dk_28 (dk_at dksX8_lays_0 2 rfl rfl)
theorem dX8_lays_3 : decode cX8_lays 3 = .ok (.aload_n 1, 1) := dk_43 (dk_at dksX8_lays_0 3 rfl rfl)
theorem dX8_lays_4 : decode cX8_lays 4 = .ok (.arraylength, 1) := dk_190 (dk_at dksX8_lays_0 4 rfl rfl)
theorem dX8_lays_5 : decode cX8_lays 5 = .ok (.if_icmp .ge 21, 3) := dk_162 0 21 (dk_at dksX8_lays_0 5 rfl rfl)
theorem dX8_lays_8 : decode cX8_lays 8 = .ok (.aload_n 0, 1) := dk_42 (dk_at dksX8_lays_0 8 rfl rfl)
theorem dX8_lays_9 : decode cX8_lays 9 = .ok (.aload_n 1, 1) := dk_43 (dk_at dksX8_lays_0 9 rfl rfl)
theorem dX8_lays_10 : decode cX8_lays 10 = .ok (.iload_n 2, 1) := dk_28 (dk_at dksX8_lays_0 10 rfl rfl)
theorem dX8_lays_11 : decode cX8_lays 11 = .ok (.aaload, 1) := dk_50 (dk_at dksX8_lays_0 11 rfl rfl)
theorem dX8_lays_12 : decode cX8_lays 12 = .ok (.iload_n 2, 1) := dk_28 (dk_at dksX8_lays_0 12 rfl rfl)
theorem dX8_lays_13 : decode cX8_lays 13 = .ok (.invokestatic 89, 3) := dk_184 0 89 (dk_at dksX8_lays_0 13 rfl rfl)
theorem dX8_lays_16 : decode cX8_lays 16 = .ok (.invokevirtual 95, 3) := dk_182 0 95 (dk_at dksX8_lays_0 16 rfl rfl)
theorem dX8_lays_19 : decode cX8_lays 19 = .ok (.pop, 1) := dk_87 (dk_at dksX8_lays_0 19 rfl rfl)
theorem dX8_lays_20 : decode cX8_lays 20 = .ok (.iinc 2 1, 3) := dk_132 2 1 (dk_at dksX8_lays_0 20 rfl rfl)
theorem dX8_lays_23 : decode cX8_lays 23 = .ok (.goto (-21), 3) := dk_167 255 235 (dk_at dksX8_lays_1 0 rfl rfl)
theorem dX8_lays_26 : decode cX8_lays 26 = .ok (.return_, 1) := dk_177 (dk_at dksX8_lays_1 3 rfl rfl)
abbrev cX8_next : ByteArray := prog_12_method_4_code
def yX8_next : MethodName := ⟨RX8, "next", "()V"⟩
def dkwX8_next_10 : List UInt8 := [167, 0, 4, 7, 181, 0, 116, 42, 89, 180, 0, 99, 4, 96, 181, 0, 99, 177]
abbrev dktX8_next_10 : List UInt8 := dkwX8_next_10 ++ []
def dkwX8_next_9 : List UInt8 := [180, 0, 99, 4, 96, 181, 0, 99, 167, 255, 206, 42, 42, 16, 59, 16, 59, 182, 0, 106, 153, 0, 7, 6]
abbrev dktX8_next_9 : List UInt8 := dkwX8_next_9 ++ dktX8_next_10
def dkwX8_next_8 : List UInt8 := [104, 42, 180, 0, 44, 42, 180, 0, 99, 51, 96, 16, 48, 100, 184, 0, 132, 181, 0, 113, 42, 89]
abbrev dktX8_next_8 : List UInt8 := dkwX8_next_8 ++ dktX8_next_9
def dkwX8_next_7 : List UInt8 := [5, 181, 0, 116, 42, 16, 48, 16, 57, 182, 0, 106, 153, 0, 75, 42, 18, 131, 16, 10, 42, 180, 0, 113]
abbrev dktX8_next_7 : List UInt8 := dkwX8_next_7 ++ dktX8_next_8
def dkwX8_next_6 : List UInt8 := [180, 0, 34, 182, 0, 127, 181, 0, 40, 167, 0, 102, 42, 16, 48, 16, 57, 182, 0, 106, 153, 0, 61, 42]
abbrev dktX8_next_6 : List UInt8 := dkwX8_next_6 ++ dktX8_next_7
def dkwX8_next_5 : List UInt8 := [180, 0, 99, 51, 146, 182, 0, 123, 87, 42, 89, 180, 0, 99, 4, 96, 181, 0, 99, 167, 255, 217, 42, 42]
abbrev dktX8_next_5 : List UInt8 := dkwX8_next_5 ++ dktX8_next_6
def dkwX8_next_4 : List UInt8 := [182, 0, 119, 42, 16, 97, 16, 122, 182, 0, 106, 153, 0, 34, 42, 180, 0, 34, 42, 180, 0, 44, 42]
abbrev dktX8_next_4 : List UInt8 := dkwX8_next_4 ++ dktX8_next_5
def dkwX8_next_3 : List UInt8 := [167, 0, 182, 42, 16, 97, 16, 122, 182, 0, 106, 153, 0, 72, 42, 4, 181, 0, 116, 42, 180, 0, 34, 3]
abbrev dktX8_next_3 : List UInt8 := dkwX8_next_3 ++ dktX8_next_4
def dkwX8_next_2 : List UInt8 := [42, 18, 38, 181, 0, 40, 42, 180, 0, 99, 42, 180, 0, 48, 160, 0, 11, 42, 3, 181, 0, 116]
abbrev dktX8_next_2 : List UInt8 := dkwX8_next_2 ++ dktX8_next_3
def dkwX8_next_1 : List UInt8 := [180, 0, 99, 4, 96, 181, 0, 99, 167, 255, 224, 42, 42, 180, 0, 99, 181, 0, 110, 42, 3, 181, 0, 113]
abbrev dktX8_next_1 : List UInt8 := dkwX8_next_1 ++ dktX8_next_2
def dkwX8_next_0 : List UInt8 := [42, 16, 32, 16, 32, 182, 0, 106, 154, 0, 14, 42, 16, 10, 16, 10, 182, 0, 106, 153, 0, 16, 42, 89]
abbrev dktX8_next_0 : List UInt8 := dkwX8_next_0 ++ dktX8_next_1
theorem dksX8_next_0 : cX8_next.data.toList.drop 0 = dktX8_next_0 := by decide +kernel
theorem dksX8_next_1 : cX8_next.data.toList.drop 24 = dktX8_next_1 := dk_seg dksX8_next_0 24 rfl rfl
theorem dksX8_next_2 : cX8_next.data.toList.drop 48 = dktX8_next_2 := dk_seg dksX8_next_1 24 rfl rfl
theorem dksX8_next_3 : cX8_next.data.toList.drop 70 = dktX8_next_3 := dk_seg dksX8_next_2 22 rfl rfl
theorem dksX8_next_4 : cX8_next.data.toList.drop 94 = dktX8_next_4 := dk_seg dksX8_next_3 24 rfl rfl
theorem dksX8_next_5 : cX8_next.data.toList.drop 117 = dktX8_next_5 := dk_seg dksX8_next_4 23 rfl rfl
theorem dksX8_next_6 : cX8_next.data.toList.drop 141 = dktX8_next_6 := dk_seg dksX8_next_5 24 rfl rfl
theorem dksX8_next_7 : cX8_next.data.toList.drop 165 = dktX8_next_7 := dk_seg dksX8_next_6 24 rfl rfl
theorem dksX8_next_8 : cX8_next.data.toList.drop 189 = dktX8_next_8 := dk_seg dksX8_next_7 24 rfl rfl
theorem dksX8_next_9 : cX8_next.data.toList.drop 211 = dktX8_next_9 := dk_seg dksX8_next_8 22 rfl rfl
theorem dksX8_next_10 : cX8_next.data.toList.drop 235 = dktX8_next_10 := dk_seg dksX8_next_9 24 rfl rfl
theorem dX8_next_0 : decode cX8_next 0 = .ok (.aload_n 0, 1) := dk_42 (dk_at dksX8_next_0 0 rfl rfl)
theorem dX8_next_1 : decode cX8_next 1 = .ok (.bipush 32, 2) := dk_16 32 (dk_at dksX8_next_0 1 rfl rfl)
theorem dX8_next_3 : decode cX8_next 3 = .ok (.bipush 32, 2) := dk_16 32 (dk_at dksX8_next_0 3 rfl rfl)
theorem dX8_next_5 : decode cX8_next 5 = .ok (.invokevirtual 106, 3) := dk_182 0 106 (dk_at dksX8_next_0 5 rfl rfl)
theorem dX8_next_8 : decode cX8_next 8 = .ok (.ifCond .ne 14, 3) := dk_154 0 14 (dk_at dksX8_next_0 8 rfl rfl)
theorem dX8_next_11 : decode cX8_next 11 = .ok (.aload_n 0, 1) := dk_42 (dk_at dksX8_next_0 11 rfl rfl)
theorem dX8_next_12 : decode cX8_next 12 = .ok (.bipush 10, 2) := dk_16 10 (dk_at dksX8_next_0 12 rfl rfl)
theorem dX8_next_14 : decode cX8_next 14 = .ok (.bipush 10, 2) := dk_16 10 (dk_at dksX8_next_0 14 rfl rfl)
theorem dX8_next_16 : decode cX8_next 16 = .ok (.invokevirtual 106, 3) := dk_182 0 106 (dk_at dksX8_next_0 16 rfl rfl)
theorem dX8_next_19 : decode cX8_next 19 = .ok (.ifCond .eq 16, 3) := dk_153 0 16 (dk_at dksX8_next_0 19 rfl rfl)
theorem dX8_next_22 : decode cX8_next 22 = .ok (.aload_n 0, 1) := dk_42 (dk_at dksX8_next_0 22 rfl rfl)
theorem dX8_next_23 : decode cX8_next 23 = .ok (.dup, 1) := dk_89 (dk_at dksX8_next_0 23 rfl rfl)
theorem dX8_next_24 : decode cX8_next 24 = .ok (.getfield 99, 3) := dk_180 0 99 (dk_at dksX8_next_1 0 rfl rfl)
theorem dX8_next_27 : decode cX8_next 27 = .ok (.iconst 1, 1) := dk_4 (dk_at dksX8_next_1 3 rfl rfl)
theorem dX8_next_28 : decode cX8_next 28 = .ok (.iadd, 1) := dk_96 (dk_at dksX8_next_1 4 rfl rfl)
theorem dX8_next_29 : decode cX8_next 29 = .ok (.putfield 99, 3) := dk_181 0 99 (dk_at dksX8_next_1 5 rfl rfl)
theorem dX8_next_32 : decode cX8_next 32 = .ok (.goto (-32), 3) := dk_167 255 224 (dk_at dksX8_next_1 8 rfl rfl)
theorem dX8_next_35 : decode cX8_next 35 = .ok (.aload_n 0, 1) := dk_42 (dk_at dksX8_next_1 11 rfl rfl)
theorem dX8_next_36 : decode cX8_next 36 = .ok (.aload_n 0, 1) := dk_42 (dk_at dksX8_next_1 12 rfl rfl)
theorem dX8_next_37 : decode cX8_next 37 = .ok (.getfield 99, 3) := dk_180 0 99 (dk_at dksX8_next_1 13 rfl rfl)
theorem dX8_next_40 : decode cX8_next 40 = .ok (.putfield 110, 3) := dk_181 0 110 (dk_at dksX8_next_1 16 rfl rfl)
theorem dX8_next_43 : decode cX8_next 43 = .ok (.aload_n 0, 1) := dk_42 (dk_at dksX8_next_1 19 rfl rfl)
theorem dX8_next_44 : decode cX8_next 44 = .ok (.iconst 0, 1) := dk_3 (dk_at dksX8_next_1 20 rfl rfl)
theorem dX8_next_45 : decode cX8_next 45 = .ok (.putfield 113, 3) := dk_181 0 113 (dk_at dksX8_next_1 21 rfl rfl)
theorem dX8_next_48 : decode cX8_next 48 = .ok (.aload_n 0, 1) := dk_42 (dk_at dksX8_next_2 0 rfl rfl)
theorem dX8_next_49 : decode cX8_next 49 = .ok (.ldc 38, 2) := dk_18 38 (dk_at dksX8_next_2 1 rfl rfl)
theorem dX8_next_51 : decode cX8_next 51 = .ok (.putfield 40, 3) := dk_181 0 40 (dk_at dksX8_next_2 3 rfl rfl)
theorem dX8_next_54 : decode cX8_next 54 = .ok (.aload_n 0, 1) := dk_42 (dk_at dksX8_next_2 6 rfl rfl)
theorem dX8_next_55 : decode cX8_next 55 = .ok (.getfield 99, 3) := dk_180 0 99 (dk_at dksX8_next_2 7 rfl rfl)
theorem dX8_next_58 : decode cX8_next 58 = .ok (.aload_n 0, 1) := dk_42 (dk_at dksX8_next_2 10 rfl rfl)
theorem dX8_next_59 : decode cX8_next 59 = .ok (.getfield 48, 3) := dk_180 0 48 (dk_at dksX8_next_2 11 rfl rfl)
theorem dX8_next_62 : decode cX8_next 62 = .ok (.if_icmp .ne 11, 3) := dk_160 0 11 (dk_at dksX8_next_2 14 rfl rfl)
theorem dX8_next_65 : decode cX8_next 65 = .ok (.aload_n 0, 1) := dk_42 (dk_at dksX8_next_2 17 rfl rfl)
theorem dX8_next_66 : decode cX8_next 66 = .ok (.iconst 0, 1) := dk_3 (dk_at dksX8_next_2 18 rfl rfl)
theorem dX8_next_67 : decode cX8_next 67 = .ok (.putfield 116, 3) := dk_181 0 116 (dk_at dksX8_next_2 19 rfl rfl)
theorem dX8_next_70 : decode cX8_next 70 = .ok (.goto 182, 3) := dk_167 0 182 (dk_at dksX8_next_3 0 rfl rfl)
theorem dX8_next_73 : decode cX8_next 73 = .ok (.aload_n 0, 1) := dk_42 (dk_at dksX8_next_3 3 rfl rfl)
theorem dX8_next_74 : decode cX8_next 74 = .ok (.bipush 97, 2) := dk_16 97 (dk_at dksX8_next_3 4 rfl rfl)
theorem dX8_next_76 : decode cX8_next 76 = .ok (.bipush 122, 2) := dk_16 122 (dk_at dksX8_next_3 6 rfl rfl)
theorem dX8_next_78 : decode cX8_next 78 = .ok (.invokevirtual 106, 3) := dk_182 0 106 (dk_at dksX8_next_3 8 rfl rfl)
theorem dX8_next_81 : decode cX8_next 81 = .ok (.ifCond .eq 72, 3) := dk_153 0 72 (dk_at dksX8_next_3 11 rfl rfl)
theorem dX8_next_84 : decode cX8_next 84 = .ok (.aload_n 0, 1) := dk_42 (dk_at dksX8_next_3 14 rfl rfl)
theorem dX8_next_85 : decode cX8_next 85 = .ok (.iconst 1, 1) := dk_4 (dk_at dksX8_next_3 15 rfl rfl)
theorem dX8_next_86 : decode cX8_next 86 = .ok (.putfield 116, 3) := dk_181 0 116 (dk_at dksX8_next_3 16 rfl rfl)
theorem dX8_next_89 : decode cX8_next 89 = .ok (.aload_n 0, 1) := dk_42 (dk_at dksX8_next_3 19 rfl rfl)
theorem dX8_next_90 : decode cX8_next 90 = .ok (.getfield 34, 3) := dk_180 0 34 (dk_at dksX8_next_3 20 rfl rfl)
theorem dX8_next_93 : decode cX8_next 93 = .ok (.iconst 0, 1) := dk_3 (dk_at dksX8_next_3 23 rfl rfl)
theorem dX8_next_94 : decode cX8_next 94 = .ok (.invokevirtual 119, 3) := dk_182 0 119 (dk_at dksX8_next_4 0 rfl rfl)
theorem dX8_next_97 : decode cX8_next 97 = .ok (.aload_n 0, 1) := dk_42 (dk_at dksX8_next_4 3 rfl rfl)
theorem dX8_next_98 : decode cX8_next 98 = .ok (.bipush 97, 2) := dk_16 97 (dk_at dksX8_next_4 4 rfl rfl)
theorem dX8_next_100 : decode cX8_next 100 = .ok (.bipush 122, 2) := dk_16 122 (dk_at dksX8_next_4 6 rfl rfl)
theorem dX8_next_102 : decode cX8_next 102 = .ok (.invokevirtual 106, 3) := dk_182 0 106 (dk_at dksX8_next_4 8 rfl rfl)
theorem dX8_next_105 : decode cX8_next 105 = .ok (.ifCond .eq 34, 3) := dk_153 0 34 (dk_at dksX8_next_4 11 rfl rfl)
theorem dX8_next_108 : decode cX8_next 108 = .ok (.aload_n 0, 1) := dk_42 (dk_at dksX8_next_4 14 rfl rfl)
theorem dX8_next_109 : decode cX8_next 109 = .ok (.getfield 34, 3) := dk_180 0 34 (dk_at dksX8_next_4 15 rfl rfl)
theorem dX8_next_112 : decode cX8_next 112 = .ok (.aload_n 0, 1) := dk_42 (dk_at dksX8_next_4 18 rfl rfl)
theorem dX8_next_113 : decode cX8_next 113 = .ok (.getfield 44, 3) := dk_180 0 44 (dk_at dksX8_next_4 19 rfl rfl)
theorem dX8_next_116 : decode cX8_next 116 = .ok (.aload_n 0, 1) := dk_42 (dk_at dksX8_next_4 22 rfl rfl)
theorem dX8_next_117 : decode cX8_next 117 = .ok (.getfield 99, 3) := dk_180 0 99 (dk_at dksX8_next_5 0 rfl rfl)
theorem dX8_next_120 : decode cX8_next 120 = .ok (.baload, 1) := dk_51 (dk_at dksX8_next_5 3 rfl rfl)
theorem dX8_next_121 : decode cX8_next 121 = .ok (.i2c, 1) := dk_146 (dk_at dksX8_next_5 4 rfl rfl)
theorem dX8_next_122 : decode cX8_next 122 = .ok (.invokevirtual 123, 3) := dk_182 0 123 (dk_at dksX8_next_5 5 rfl rfl)
theorem dX8_next_125 : decode cX8_next 125 = .ok (.pop, 1) := dk_87 (dk_at dksX8_next_5 8 rfl rfl)
theorem dX8_next_126 : decode cX8_next 126 = .ok (.aload_n 0, 1) := dk_42 (dk_at dksX8_next_5 9 rfl rfl)
theorem dX8_next_127 : decode cX8_next 127 = .ok (.dup, 1) := dk_89 (dk_at dksX8_next_5 10 rfl rfl)
theorem dX8_next_128 : decode cX8_next 128 = .ok (.getfield 99, 3) := dk_180 0 99 (dk_at dksX8_next_5 11 rfl rfl)
theorem dX8_next_131 : decode cX8_next 131 = .ok (.iconst 1, 1) := dk_4 (dk_at dksX8_next_5 14 rfl rfl)
theorem dX8_next_132 : decode cX8_next 132 = .ok (.iadd, 1) := dk_96 (dk_at dksX8_next_5 15 rfl rfl)
theorem dX8_next_133 : decode cX8_next 133 = .ok (.putfield 99, 3) := dk_181 0 99 (dk_at dksX8_next_5 16 rfl rfl)
theorem dX8_next_136 : decode cX8_next 136 = .ok (.goto (-39), 3) := dk_167 255 217 (dk_at dksX8_next_5 19 rfl rfl)
theorem dX8_next_139 : decode cX8_next 139 = .ok (.aload_n 0, 1) := dk_42 (dk_at dksX8_next_5 22 rfl rfl)
theorem dX8_next_140 : decode cX8_next 140 = .ok (.aload_n 0, 1) := dk_42 (dk_at dksX8_next_5 23 rfl rfl)
theorem dX8_next_141 : decode cX8_next 141 = .ok (.getfield 34, 3) := dk_180 0 34 (dk_at dksX8_next_6 0 rfl rfl)
theorem dX8_next_144 : decode cX8_next 144 = .ok (.invokevirtual 127, 3) := dk_182 0 127 (dk_at dksX8_next_6 3 rfl rfl)
theorem dX8_next_147 : decode cX8_next 147 = .ok (.putfield 40, 3) := dk_181 0 40 (dk_at dksX8_next_6 6 rfl rfl)
theorem dX8_next_150 : decode cX8_next 150 = .ok (.goto 102, 3) := dk_167 0 102 (dk_at dksX8_next_6 9 rfl rfl)
theorem dX8_next_153 : decode cX8_next 153 = .ok (.aload_n 0, 1) := dk_42 (dk_at dksX8_next_6 12 rfl rfl)
theorem dX8_next_154 : decode cX8_next 154 = .ok (.bipush 48, 2) := dk_16 48 (dk_at dksX8_next_6 13 rfl rfl)
theorem dX8_next_156 : decode cX8_next 156 = .ok (.bipush 57, 2) := dk_16 57 (dk_at dksX8_next_6 15 rfl rfl)
theorem dX8_next_158 : decode cX8_next 158 = .ok (.invokevirtual 106, 3) := dk_182 0 106 (dk_at dksX8_next_6 17 rfl rfl)
theorem dX8_next_161 : decode cX8_next 161 = .ok (.ifCond .eq 61, 3) := dk_153 0 61 (dk_at dksX8_next_6 20 rfl rfl)
theorem dX8_next_164 : decode cX8_next 164 = .ok (.aload_n 0, 1) := dk_42 (dk_at dksX8_next_6 23 rfl rfl)
theorem dX8_next_165 : decode cX8_next 165 = .ok (.iconst 2, 1) := dk_5 (dk_at dksX8_next_7 0 rfl rfl)
theorem dX8_next_166 : decode cX8_next 166 = .ok (.putfield 116, 3) := dk_181 0 116 (dk_at dksX8_next_7 1 rfl rfl)
theorem dX8_next_169 : decode cX8_next 169 = .ok (.aload_n 0, 1) := dk_42 (dk_at dksX8_next_7 4 rfl rfl)
theorem dX8_next_170 : decode cX8_next 170 = .ok (.bipush 48, 2) := dk_16 48 (dk_at dksX8_next_7 5 rfl rfl)
theorem dX8_next_172 : decode cX8_next 172 = .ok (.bipush 57, 2) := dk_16 57 (dk_at dksX8_next_7 7 rfl rfl)
theorem dX8_next_174 : decode cX8_next 174 = .ok (.invokevirtual 106, 3) := dk_182 0 106 (dk_at dksX8_next_7 9 rfl rfl)
theorem dX8_next_177 : decode cX8_next 177 = .ok (.ifCond .eq 75, 3) := dk_153 0 75 (dk_at dksX8_next_7 12 rfl rfl)
theorem dX8_next_180 : decode cX8_next 180 = .ok (.aload_n 0, 1) := dk_42 (dk_at dksX8_next_7 15 rfl rfl)
theorem dX8_next_181 : decode cX8_next 181 = .ok (.ldc 131, 2) := dk_18 131 (dk_at dksX8_next_7 16 rfl rfl)
theorem dX8_next_183 : decode cX8_next 183 = .ok (.bipush 10, 2) := dk_16 10 (dk_at dksX8_next_7 18 rfl rfl)
theorem dX8_next_185 : decode cX8_next 185 = .ok (.aload_n 0, 1) := dk_42 (dk_at dksX8_next_7 20 rfl rfl)
theorem dX8_next_186 : decode cX8_next 186 = .ok (.getfield 113, 3) := dk_180 0 113 (dk_at dksX8_next_7 21 rfl rfl)
theorem dX8_next_189 : decode cX8_next 189 = .ok (.imul, 1) := dk_104 (dk_at dksX8_next_8 0 rfl rfl)
theorem dX8_next_190 : decode cX8_next 190 = .ok (.aload_n 0, 1) := dk_42 (dk_at dksX8_next_8 1 rfl rfl)
theorem dX8_next_191 : decode cX8_next 191 = .ok (.getfield 44, 3) := dk_180 0 44 (dk_at dksX8_next_8 2 rfl rfl)
theorem dX8_next_194 : decode cX8_next 194 = .ok (.aload_n 0, 1) := dk_42 (dk_at dksX8_next_8 5 rfl rfl)
theorem dX8_next_195 : decode cX8_next 195 = .ok (.getfield 99, 3) := dk_180 0 99 (dk_at dksX8_next_8 6 rfl rfl)
theorem dX8_next_198 : decode cX8_next 198 = .ok (.baload, 1) := dk_51 (dk_at dksX8_next_8 9 rfl rfl)
theorem dX8_next_199 : decode cX8_next 199 = .ok (.iadd, 1) := dk_96 (dk_at dksX8_next_8 10 rfl rfl)
theorem dX8_next_200 : decode cX8_next 200 = .ok (.bipush 48, 2) := dk_16 48 (dk_at dksX8_next_8 11 rfl rfl)
theorem dX8_next_202 : decode cX8_next 202 = .ok (.isub, 1) := dk_100 (dk_at dksX8_next_8 13 rfl rfl)
theorem dX8_next_203 : decode cX8_next 203 = .ok (.invokestatic 132, 3) := dk_184 0 132 (dk_at dksX8_next_8 14 rfl rfl)
theorem dX8_next_206 : decode cX8_next 206 = .ok (.putfield 113, 3) := dk_181 0 113 (dk_at dksX8_next_8 17 rfl rfl)
theorem dX8_next_209 : decode cX8_next 209 = .ok (.aload_n 0, 1) := dk_42 (dk_at dksX8_next_8 20 rfl rfl)
theorem dX8_next_210 : decode cX8_next 210 = .ok (.dup, 1) := dk_89 (dk_at dksX8_next_8 21 rfl rfl)
theorem dX8_next_211 : decode cX8_next 211 = .ok (.getfield 99, 3) := dk_180 0 99 (dk_at dksX8_next_9 0 rfl rfl)
theorem dX8_next_214 : decode cX8_next 214 = .ok (.iconst 1, 1) := dk_4 (dk_at dksX8_next_9 3 rfl rfl)
theorem dX8_next_215 : decode cX8_next 215 = .ok (.iadd, 1) := dk_96 (dk_at dksX8_next_9 4 rfl rfl)
theorem dX8_next_216 : decode cX8_next 216 = .ok (.putfield 99, 3) := dk_181 0 99 (dk_at dksX8_next_9 5 rfl rfl)
theorem dX8_next_219 : decode cX8_next 219 = .ok (.goto (-50), 3) := dk_167 255 206 (dk_at dksX8_next_9 8 rfl rfl)
theorem dX8_next_222 : decode cX8_next 222 = .ok (.aload_n 0, 1) := dk_42 (dk_at dksX8_next_9 11 rfl rfl)
theorem dX8_next_223 : decode cX8_next 223 = .ok (.aload_n 0, 1) := dk_42 (dk_at dksX8_next_9 12 rfl rfl)
theorem dX8_next_224 : decode cX8_next 224 = .ok (.bipush 59, 2) := dk_16 59 (dk_at dksX8_next_9 13 rfl rfl)
theorem dX8_next_226 : decode cX8_next 226 = .ok (.bipush 59, 2) := dk_16 59 (dk_at dksX8_next_9 15 rfl rfl)
theorem dX8_next_228 : decode cX8_next 228 = .ok (.invokevirtual 106, 3) := dk_182 0 106 (dk_at dksX8_next_9 17 rfl rfl)
theorem dX8_next_231 : decode cX8_next 231 = .ok (.ifCond .eq 7, 3) := dk_153 0 7 (dk_at dksX8_next_9 20 rfl rfl)
theorem dX8_next_234 : decode cX8_next 234 = .ok (.iconst 3, 1) := dk_6 (dk_at dksX8_next_9 23 rfl rfl)
theorem dX8_next_235 : decode cX8_next 235 = .ok (.goto 4, 3) := dk_167 0 4 (dk_at dksX8_next_10 0 rfl rfl)
theorem dX8_next_238 : decode cX8_next 238 = .ok (.iconst 4, 1) := dk_7 (dk_at dksX8_next_10 3 rfl rfl)
theorem dX8_next_239 : decode cX8_next 239 = .ok (.putfield 116, 3) := dk_181 0 116 (dk_at dksX8_next_10 4 rfl rfl)
theorem dX8_next_242 : decode cX8_next 242 = .ok (.aload_n 0, 1) := dk_42 (dk_at dksX8_next_10 7 rfl rfl)
theorem dX8_next_243 : decode cX8_next 243 = .ok (.dup, 1) := dk_89 (dk_at dksX8_next_10 8 rfl rfl)
theorem dX8_next_244 : decode cX8_next 244 = .ok (.getfield 99, 3) := dk_180 0 99 (dk_at dksX8_next_10 9 rfl rfl)
theorem dX8_next_247 : decode cX8_next 247 = .ok (.iconst 1, 1) := dk_4 (dk_at dksX8_next_10 12 rfl rfl)
theorem dX8_next_248 : decode cX8_next 248 = .ok (.iadd, 1) := dk_96 (dk_at dksX8_next_10 13 rfl rfl)
theorem dX8_next_249 : decode cX8_next 249 = .ok (.putfield 99, 3) := dk_181 0 99 (dk_at dksX8_next_10 14 rfl rfl)
theorem dX8_next_252 : decode cX8_next 252 = .ok (.return_, 1) := dk_177 (dk_at dksX8_next_10 17 rfl rfl)
abbrev cX8_isAt : ByteArray := prog_12_method_3_code
def yX8_isAt : MethodName := ⟨RX8, "isAt", "(II)Z"⟩
def dkwX8_isAt_1 : List UInt8 := [133, 184, 0, 102, 153, 0, 7, 4, 167, 0, 4, 3, 172]
abbrev dktX8_isAt_1 : List UInt8 := dkwX8_isAt_1 ++ []
def dkwX8_isAt_0 : List UInt8 := [42, 180, 0, 99, 42, 180, 0, 48, 162, 0, 27, 42, 180, 0, 44, 42, 180, 0, 99, 51, 133, 27, 133, 28]
abbrev dktX8_isAt_0 : List UInt8 := dkwX8_isAt_0 ++ dktX8_isAt_1
theorem dksX8_isAt_0 : cX8_isAt.data.toList.drop 0 = dktX8_isAt_0 := by decide +kernel
theorem dksX8_isAt_1 : cX8_isAt.data.toList.drop 24 = dktX8_isAt_1 := dk_seg dksX8_isAt_0 24 rfl rfl
theorem dX8_isAt_0 : decode cX8_isAt 0 = .ok (.aload_n 0, 1) := dk_42 (dk_at dksX8_isAt_0 0 rfl rfl)
theorem dX8_isAt_1 : decode cX8_isAt 1 = .ok (.getfield 99, 3) := dk_180 0 99 (dk_at dksX8_isAt_0 1 rfl rfl)
theorem dX8_isAt_4 : decode cX8_isAt 4 = .ok (.aload_n 0, 1) := dk_42 (dk_at dksX8_isAt_0 4 rfl rfl)
theorem dX8_isAt_5 : decode cX8_isAt 5 = .ok (.getfield 48, 3) := dk_180 0 48 (dk_at dksX8_isAt_0 5 rfl rfl)
theorem dX8_isAt_8 : decode cX8_isAt 8 = .ok (.if_icmp .ge 27, 3) := dk_162 0 27 (dk_at dksX8_isAt_0 8 rfl rfl)
theorem dX8_isAt_11 : decode cX8_isAt 11 = .ok (.aload_n 0, 1) := dk_42 (dk_at dksX8_isAt_0 11 rfl rfl)
theorem dX8_isAt_12 : decode cX8_isAt 12 = .ok (.getfield 44, 3) := dk_180 0 44 (dk_at dksX8_isAt_0 12 rfl rfl)
theorem dX8_isAt_15 : decode cX8_isAt 15 = .ok (.aload_n 0, 1) := dk_42 (dk_at dksX8_isAt_0 15 rfl rfl)
theorem dX8_isAt_16 : decode cX8_isAt 16 = .ok (.getfield 99, 3) := dk_180 0 99 (dk_at dksX8_isAt_0 16 rfl rfl)
theorem dX8_isAt_19 : decode cX8_isAt 19 = .ok (.baload, 1) := dk_51 (dk_at dksX8_isAt_0 19 rfl rfl)
theorem dX8_isAt_20 : decode cX8_isAt 20 = .ok (.i2l, 1) := dk_133 (dk_at dksX8_isAt_0 20 rfl rfl)
theorem dX8_isAt_21 : decode cX8_isAt 21 = .ok (.iload_n 1, 1) := dk_27 (dk_at dksX8_isAt_0 21 rfl rfl)
theorem dX8_isAt_22 : decode cX8_isAt 22 = .ok (.i2l, 1) := dk_133 (dk_at dksX8_isAt_0 22 rfl rfl)
theorem dX8_isAt_23 : decode cX8_isAt 23 = .ok (.iload_n 2, 1) := dk_28 (dk_at dksX8_isAt_0 23 rfl rfl)
theorem dX8_isAt_24 : decode cX8_isAt 24 = .ok (.i2l, 1) := dk_133 (dk_at dksX8_isAt_1 0 rfl rfl)
theorem dX8_isAt_25 : decode cX8_isAt 25 = .ok (.invokestatic 102, 3) := dk_184 0 102 (dk_at dksX8_isAt_1 1 rfl rfl)
theorem dX8_isAt_28 : decode cX8_isAt 28 = .ok (.ifCond .eq 7, 3) := dk_153 0 7 (dk_at dksX8_isAt_1 4 rfl rfl)
theorem dX8_isAt_31 : decode cX8_isAt 31 = .ok (.iconst 1, 1) := dk_4 (dk_at dksX8_isAt_1 7 rfl rfl)
theorem dX8_isAt_32 : decode cX8_isAt 32 = .ok (.goto 4, 3) := dk_167 0 4 (dk_at dksX8_isAt_1 8 rfl rfl)
theorem dX8_isAt_35 : decode cX8_isAt 35 = .ok (.iconst 0, 1) := dk_3 (dk_at dksX8_isAt_1 11 rfl rfl)
theorem dX8_isAt_36 : decode cX8_isAt 36 = .ok (.ireturn, 1) := dk_172 (dk_at dksX8_isAt_1 12 rfl rfl)
abbrev cX8_reads : ByteArray := prog_12_method_16_code
def yX8_reads : MethodName := ⟨RX8, "reads", "()LMergeJudge$Base;"⟩
def dkwX8_reads_2 : List UInt8 := [180, 0, 12, 89, 180, 0, 227, 4, 96, 181, 0, 227, 167, 255, 197, 42, 180, 0, 12, 176]
abbrev dktX8_reads_2 : List UInt8 := dkwX8_reads_2 ++ []
def dkwX8_reads_1 : List UInt8 := [42, 182, 0, 233, 42, 180, 0, 116, 6, 159, 0, 9, 42, 4, 182, 0, 142, 191, 42, 182, 0, 86, 42]
abbrev dktX8_reads_1 : List UInt8 := dkwX8_reads_1 ++ dktX8_reads_2
def dkwX8_reads_0 : List UInt8 := [42, 180, 0, 116, 153, 0, 58, 42, 180, 0, 12, 180, 0, 227, 154, 0, 10, 42, 182, 0, 230, 167, 0, 7]
abbrev dktX8_reads_0 : List UInt8 := dkwX8_reads_0 ++ dktX8_reads_1
theorem dksX8_reads_0 : cX8_reads.data.toList.drop 0 = dktX8_reads_0 := by decide +kernel
theorem dksX8_reads_1 : cX8_reads.data.toList.drop 24 = dktX8_reads_1 := dk_seg dksX8_reads_0 24 rfl rfl
theorem dksX8_reads_2 : cX8_reads.data.toList.drop 47 = dktX8_reads_2 := dk_seg dksX8_reads_1 23 rfl rfl
theorem dX8_reads_0 : decode cX8_reads 0 = .ok (.aload_n 0, 1) := dk_42 (dk_at dksX8_reads_0 0 rfl rfl)
theorem dX8_reads_1 : decode cX8_reads 1 = .ok (.getfield 116, 3) := dk_180 0 116 (dk_at dksX8_reads_0 1 rfl rfl)
theorem dX8_reads_4 : decode cX8_reads 4 = .ok (.ifCond .eq 58, 3) := dk_153 0 58 (dk_at dksX8_reads_0 4 rfl rfl)
theorem dX8_reads_7 : decode cX8_reads 7 = .ok (.aload_n 0, 1) := dk_42 (dk_at dksX8_reads_0 7 rfl rfl)
theorem dX8_reads_8 : decode cX8_reads 8 = .ok (.getfield 12, 3) := dk_180 0 12 (dk_at dksX8_reads_0 8 rfl rfl)
theorem dX8_reads_11 : decode cX8_reads 11 = .ok (.getfield 227, 3) := dk_180 0 227 (dk_at dksX8_reads_0 11 rfl rfl)
theorem dX8_reads_14 : decode cX8_reads 14 = .ok (.ifCond .ne 10, 3) := dk_154 0 10 (dk_at dksX8_reads_0 14 rfl rfl)
theorem dX8_reads_17 : decode cX8_reads 17 = .ok (.aload_n 0, 1) := dk_42 (dk_at dksX8_reads_0 17 rfl rfl)
theorem dX8_reads_18 : decode cX8_reads 18 = .ok (.invokevirtual 230, 3) := dk_182 0 230 (dk_at dksX8_reads_0 18 rfl rfl)
theorem dX8_reads_21 : decode cX8_reads 21 = .ok (.goto 7, 3) := dk_167 0 7 (dk_at dksX8_reads_0 21 rfl rfl)
theorem dX8_reads_24 : decode cX8_reads 24 = .ok (.aload_n 0, 1) := dk_42 (dk_at dksX8_reads_1 0 rfl rfl)
theorem dX8_reads_25 : decode cX8_reads 25 = .ok (.invokevirtual 233, 3) := dk_182 0 233 (dk_at dksX8_reads_1 1 rfl rfl)
theorem dX8_reads_28 : decode cX8_reads 28 = .ok (.aload_n 0, 1) := dk_42 (dk_at dksX8_reads_1 4 rfl rfl)
theorem dX8_reads_29 : decode cX8_reads 29 = .ok (.getfield 116, 3) := dk_180 0 116 (dk_at dksX8_reads_1 5 rfl rfl)
theorem dX8_reads_32 : decode cX8_reads 32 = .ok (.iconst 3, 1) := dk_6 (dk_at dksX8_reads_1 8 rfl rfl)
theorem dX8_reads_33 : decode cX8_reads 33 = .ok (.if_icmp .eq 9, 3) := dk_159 0 9 (dk_at dksX8_reads_1 9 rfl rfl)
theorem dX8_reads_36 : decode cX8_reads 36 = .ok (.aload_n 0, 1) := dk_42 (dk_at dksX8_reads_1 12 rfl rfl)
theorem dX8_reads_37 : decode cX8_reads 37 = .ok (.iconst 1, 1) := dk_4 (dk_at dksX8_reads_1 13 rfl rfl)
theorem dX8_reads_38 : decode cX8_reads 38 = .ok (.invokevirtual 142, 3) := dk_182 0 142 (dk_at dksX8_reads_1 14 rfl rfl)
theorem dX8_reads_41 : decode cX8_reads 41 = .ok (.athrow, 1) := dk_191 (dk_at dksX8_reads_1 17 rfl rfl)
theorem dX8_reads_42 : decode cX8_reads 42 = .ok (.aload_n 0, 1) := dk_42 (dk_at dksX8_reads_1 18 rfl rfl)
theorem dX8_reads_43 : decode cX8_reads 43 = .ok (.invokevirtual 86, 3) := dk_182 0 86 (dk_at dksX8_reads_1 19 rfl rfl)
theorem dX8_reads_46 : decode cX8_reads 46 = .ok (.aload_n 0, 1) := dk_42 (dk_at dksX8_reads_1 22 rfl rfl)
theorem dX8_reads_47 : decode cX8_reads 47 = .ok (.getfield 12, 3) := dk_180 0 12 (dk_at dksX8_reads_2 0 rfl rfl)
theorem dX8_reads_50 : decode cX8_reads 50 = .ok (.dup, 1) := dk_89 (dk_at dksX8_reads_2 3 rfl rfl)
theorem dX8_reads_51 : decode cX8_reads 51 = .ok (.getfield 227, 3) := dk_180 0 227 (dk_at dksX8_reads_2 4 rfl rfl)
theorem dX8_reads_54 : decode cX8_reads 54 = .ok (.iconst 1, 1) := dk_4 (dk_at dksX8_reads_2 7 rfl rfl)
theorem dX8_reads_55 : decode cX8_reads 55 = .ok (.iadd, 1) := dk_96 (dk_at dksX8_reads_2 8 rfl rfl)
theorem dX8_reads_56 : decode cX8_reads 56 = .ok (.putfield 227, 3) := dk_181 0 227 (dk_at dksX8_reads_2 9 rfl rfl)
theorem dX8_reads_59 : decode cX8_reads 59 = .ok (.goto (-59), 3) := dk_167 255 197 (dk_at dksX8_reads_2 12 rfl rfl)
theorem dX8_reads_62 : decode cX8_reads 62 = .ok (.aload_n 0, 1) := dk_42 (dk_at dksX8_reads_2 15 rfl rfl)
theorem dX8_reads_63 : decode cX8_reads 63 = .ok (.getfield 12, 3) := dk_180 0 12 (dk_at dksX8_reads_2 16 rfl rfl)
theorem dX8_reads_66 : decode cX8_reads 66 = .ok (.areturn, 1) := dk_176 (dk_at dksX8_reads_2 19 rfl rfl)
abbrev cX8_baseLine : ByteArray := prog_12_method_15_code
def yX8_baseLine : MethodName := ⟨RX8, "baseLine", "()V"⟩
def dkwX8_baseLine_2 : List UInt8 := [182, 0, 216, 181, 0, 221, 42, 180, 0, 12, 42, 18, 223, 3, 16, 10, 182, 0, 216, 181, 0, 225, 177]
abbrev dktX8_baseLine_2 : List UInt8 := dkwX8_baseLine_2 ++ []
def dkwX8_baseLine_1 : List UInt8 := [180, 0, 12, 42, 18, 215, 4, 6, 182, 0, 216, 181, 0, 173, 42, 180, 0, 12, 42, 18, 219, 3, 6]
abbrev dktX8_baseLine_1 : List UInt8 := dkwX8_baseLine_1 ++ dktX8_baseLine_2
def dkwX8_baseLine_0 : List UInt8 := [42, 180, 0, 40, 18, 213, 182, 0, 146, 154, 0, 9, 42, 4, 182, 0, 142, 191, 42, 182, 0, 86, 42]
abbrev dktX8_baseLine_0 : List UInt8 := dkwX8_baseLine_0 ++ dktX8_baseLine_1
theorem dksX8_baseLine_0 : cX8_baseLine.data.toList.drop 0 = dktX8_baseLine_0 := by decide +kernel
theorem dksX8_baseLine_1 : cX8_baseLine.data.toList.drop 23 = dktX8_baseLine_1 := dk_seg dksX8_baseLine_0 23 rfl rfl
theorem dksX8_baseLine_2 : cX8_baseLine.data.toList.drop 46 = dktX8_baseLine_2 := dk_seg dksX8_baseLine_1 23 rfl rfl
theorem dX8_baseLine_0 : decode cX8_baseLine 0 = .ok (.aload_n 0, 1) := dk_42 (dk_at dksX8_baseLine_0 0 rfl rfl)
theorem dX8_baseLine_1 : decode cX8_baseLine 1 = .ok (.getfield 40, 3) := dk_180 0 40 (dk_at dksX8_baseLine_0 1 rfl rfl)
theorem dX8_baseLine_4 : decode cX8_baseLine 4 = .ok (.ldc 213, 2) := dk_18 213 (dk_at dksX8_baseLine_0 4 rfl rfl)
theorem dX8_baseLine_6 : decode cX8_baseLine 6 = .ok (.invokevirtual 146, 3) := dk_182 0 146 (dk_at dksX8_baseLine_0 6 rfl rfl)
theorem dX8_baseLine_9 : decode cX8_baseLine 9 = .ok (.ifCond .ne 9, 3) := dk_154 0 9 (dk_at dksX8_baseLine_0 9 rfl rfl)
theorem dX8_baseLine_12 : decode cX8_baseLine 12 = .ok (.aload_n 0, 1) := dk_42 (dk_at dksX8_baseLine_0 12 rfl rfl)
theorem dX8_baseLine_13 : decode cX8_baseLine 13 = .ok (.iconst 1, 1) := dk_4 (dk_at dksX8_baseLine_0 13 rfl rfl)
theorem dX8_baseLine_14 : decode cX8_baseLine 14 = .ok (.invokevirtual 142, 3) := dk_182 0 142 (dk_at dksX8_baseLine_0 14 rfl rfl)
theorem dX8_baseLine_17 : decode cX8_baseLine 17 = .ok (.athrow, 1) := dk_191 (dk_at dksX8_baseLine_0 17 rfl rfl)
theorem dX8_baseLine_18 : decode cX8_baseLine 18 = .ok (.aload_n 0, 1) := dk_42 (dk_at dksX8_baseLine_0 18 rfl rfl)
theorem dX8_baseLine_19 : decode cX8_baseLine 19 = .ok (.invokevirtual 86, 3) := dk_182 0 86 (dk_at dksX8_baseLine_0 19 rfl rfl)
theorem dX8_baseLine_22 : decode cX8_baseLine 22 = .ok (.aload_n 0, 1) := dk_42 (dk_at dksX8_baseLine_0 22 rfl rfl)
theorem dX8_baseLine_23 : decode cX8_baseLine 23 = .ok (.getfield 12, 3) := dk_180 0 12 (dk_at dksX8_baseLine_1 0 rfl rfl)
theorem dX8_baseLine_26 : decode cX8_baseLine 26 = .ok (.aload_n 0, 1) := dk_42 (dk_at dksX8_baseLine_1 3 rfl rfl)
theorem dX8_baseLine_27 : decode cX8_baseLine 27 = .ok (.ldc 215, 2) := dk_18 215 (dk_at dksX8_baseLine_1 4 rfl rfl)
theorem dX8_baseLine_29 : decode cX8_baseLine 29 = .ok (.iconst 1, 1) := dk_4 (dk_at dksX8_baseLine_1 6 rfl rfl)
theorem dX8_baseLine_30 : decode cX8_baseLine 30 = .ok (.iconst 3, 1) := dk_6 (dk_at dksX8_baseLine_1 7 rfl rfl)
theorem dX8_baseLine_31 : decode cX8_baseLine 31 = .ok (.invokevirtual 216, 3) := dk_182 0 216 (dk_at dksX8_baseLine_1 8 rfl rfl)
theorem dX8_baseLine_34 : decode cX8_baseLine 34 = .ok (.putfield 173, 3) := dk_181 0 173 (dk_at dksX8_baseLine_1 11 rfl rfl)
theorem dX8_baseLine_37 : decode cX8_baseLine 37 = .ok (.aload_n 0, 1) := dk_42 (dk_at dksX8_baseLine_1 14 rfl rfl)
theorem dX8_baseLine_38 : decode cX8_baseLine 38 = .ok (.getfield 12, 3) := dk_180 0 12 (dk_at dksX8_baseLine_1 15 rfl rfl)
theorem dX8_baseLine_41 : decode cX8_baseLine 41 = .ok (.aload_n 0, 1) := dk_42 (dk_at dksX8_baseLine_1 18 rfl rfl)
theorem dX8_baseLine_42 : decode cX8_baseLine 42 = .ok (.ldc 219, 2) := dk_18 219 (dk_at dksX8_baseLine_1 19 rfl rfl)
theorem dX8_baseLine_44 : decode cX8_baseLine 44 = .ok (.iconst 0, 1) := dk_3 (dk_at dksX8_baseLine_1 21 rfl rfl)
theorem dX8_baseLine_45 : decode cX8_baseLine 45 = .ok (.iconst 3, 1) := dk_6 (dk_at dksX8_baseLine_1 22 rfl rfl)
theorem dX8_baseLine_46 : decode cX8_baseLine 46 = .ok (.invokevirtual 216, 3) := dk_182 0 216 (dk_at dksX8_baseLine_2 0 rfl rfl)
theorem dX8_baseLine_49 : decode cX8_baseLine 49 = .ok (.putfield 221, 3) := dk_181 0 221 (dk_at dksX8_baseLine_2 3 rfl rfl)
theorem dX8_baseLine_52 : decode cX8_baseLine 52 = .ok (.aload_n 0, 1) := dk_42 (dk_at dksX8_baseLine_2 6 rfl rfl)
theorem dX8_baseLine_53 : decode cX8_baseLine 53 = .ok (.getfield 12, 3) := dk_180 0 12 (dk_at dksX8_baseLine_2 7 rfl rfl)
theorem dX8_baseLine_56 : decode cX8_baseLine 56 = .ok (.aload_n 0, 1) := dk_42 (dk_at dksX8_baseLine_2 10 rfl rfl)
theorem dX8_baseLine_57 : decode cX8_baseLine 57 = .ok (.ldc 223, 2) := dk_18 223 (dk_at dksX8_baseLine_2 11 rfl rfl)
theorem dX8_baseLine_59 : decode cX8_baseLine 59 = .ok (.iconst 0, 1) := dk_3 (dk_at dksX8_baseLine_2 13 rfl rfl)
theorem dX8_baseLine_60 : decode cX8_baseLine 60 = .ok (.bipush 10, 2) := dk_16 10 (dk_at dksX8_baseLine_2 14 rfl rfl)
theorem dX8_baseLine_62 : decode cX8_baseLine 62 = .ok (.invokevirtual 216, 3) := dk_182 0 216 (dk_at dksX8_baseLine_2 16 rfl rfl)
theorem dX8_baseLine_65 : decode cX8_baseLine 65 = .ok (.putfield 225, 3) := dk_181 0 225 (dk_at dksX8_baseLine_2 19 rfl rfl)
theorem dX8_baseLine_68 : decode cX8_baseLine 68 = .ok (.return_, 1) := dk_177 (dk_at dksX8_baseLine_2 22 rfl rfl)
abbrev cX8_fault : ByteArray := prog_12_method_5_code
def yX8_fault : MethodName := ⟨RX8, "fault", "(I)LMergeJudge$Fault;"⟩
def dkwX8_fault_0 : List UInt8 := [187, 0, 137, 89, 27, 42, 180, 0, 110, 183, 0, 139, 176]
abbrev dktX8_fault_0 : List UInt8 := dkwX8_fault_0 ++ []
theorem dksX8_fault_0 : cX8_fault.data.toList.drop 0 = dktX8_fault_0 := by decide +kernel
theorem dX8_fault_0 : decode cX8_fault 0 = .ok (.new 137, 3) := dk_187 0 137 (dk_at dksX8_fault_0 0 rfl rfl)
theorem dX8_fault_3 : decode cX8_fault 3 = .ok (.dup, 1) := dk_89 (dk_at dksX8_fault_0 3 rfl rfl)
theorem dX8_fault_4 : decode cX8_fault 4 = .ok (.iload_n 1, 1) := dk_27 (dk_at dksX8_fault_0 4 rfl rfl)
theorem dX8_fault_5 : decode cX8_fault 5 = .ok (.aload_n 0, 1) := dk_42 (dk_at dksX8_fault_0 5 rfl rfl)
theorem dX8_fault_6 : decode cX8_fault 6 = .ok (.getfield 110, 3) := dk_180 0 110 (dk_at dksX8_fault_0 6 rfl rfl)
theorem dX8_fault_9 : decode cX8_fault 9 = .ok (.invokespecial 139, 3) := dk_183 0 139 (dk_at dksX8_fault_0 9 rfl rfl)
theorem dX8_fault_12 : decode cX8_fault 12 = .ok (.areturn, 1) := dk_176 (dk_at dksX8_fault_0 12 rfl rfl)
abbrev cX8_number : ByteArray := prog_12_method_7_code
def yX8_number : MethodName := ⟨RX8, "number", "(Ljava/lang/String;II)I"⟩
def dkwX8_number_1 : List UInt8 := [182, 0, 150, 172]
abbrev dktX8_number_1 : List UInt8 := dkwX8_number_1 ++ []
def dkwX8_number_0 : List UInt8 := [42, 180, 0, 40, 43, 182, 0, 146, 154, 0, 9, 42, 4, 182, 0, 142, 191, 42, 182, 0, 86, 42, 28, 29]
abbrev dktX8_number_0 : List UInt8 := dkwX8_number_0 ++ dktX8_number_1
theorem dksX8_number_0 : cX8_number.data.toList.drop 0 = dktX8_number_0 := by decide +kernel
theorem dksX8_number_1 : cX8_number.data.toList.drop 24 = dktX8_number_1 := dk_seg dksX8_number_0 24 rfl rfl
theorem dX8_number_0 : decode cX8_number 0 = .ok (.aload_n 0, 1) := dk_42 (dk_at dksX8_number_0 0 rfl rfl)
theorem dX8_number_1 : decode cX8_number 1 = .ok (.getfield 40, 3) := dk_180 0 40 (dk_at dksX8_number_0 1 rfl rfl)
theorem dX8_number_4 : decode cX8_number 4 = .ok (.aload_n 1, 1) := dk_43 (dk_at dksX8_number_0 4 rfl rfl)
theorem dX8_number_5 : decode cX8_number 5 = .ok (.invokevirtual 146, 3) := dk_182 0 146 (dk_at dksX8_number_0 5 rfl rfl)
theorem dX8_number_8 : decode cX8_number 8 = .ok (.ifCond .ne 9, 3) := dk_154 0 9 (dk_at dksX8_number_0 8 rfl rfl)
theorem dX8_number_11 : decode cX8_number 11 = .ok (.aload_n 0, 1) := dk_42 (dk_at dksX8_number_0 11 rfl rfl)
theorem dX8_number_12 : decode cX8_number 12 = .ok (.iconst 1, 1) := dk_4 (dk_at dksX8_number_0 12 rfl rfl)
theorem dX8_number_13 : decode cX8_number 13 = .ok (.invokevirtual 142, 3) := dk_182 0 142 (dk_at dksX8_number_0 13 rfl rfl)
theorem dX8_number_16 : decode cX8_number 16 = .ok (.athrow, 1) := dk_191 (dk_at dksX8_number_0 16 rfl rfl)
theorem dX8_number_17 : decode cX8_number 17 = .ok (.aload_n 0, 1) := dk_42 (dk_at dksX8_number_0 17 rfl rfl)
theorem dX8_number_18 : decode cX8_number 18 = .ok (.invokevirtual 86, 3) := dk_182 0 86 (dk_at dksX8_number_0 18 rfl rfl)
theorem dX8_number_21 : decode cX8_number 21 = .ok (.aload_n 0, 1) := dk_42 (dk_at dksX8_number_0 21 rfl rfl)
theorem dX8_number_22 : decode cX8_number 22 = .ok (.iload_n 2, 1) := dk_28 (dk_at dksX8_number_0 22 rfl rfl)
theorem dX8_number_23 : decode cX8_number 23 = .ok (.iload_n 3, 1) := dk_29 (dk_at dksX8_number_0 23 rfl rfl)
theorem dX8_number_24 : decode cX8_number 24 = .ok (.invokevirtual 150, 3) := dk_182 0 150 (dk_at dksX8_number_1 0 rfl rfl)
theorem dX8_number_27 : decode cX8_number 27 = .ok (.ireturn, 1) := dk_172 (dk_at dksX8_number_1 3 rfl rfl)
abbrev cX8_number_2 : ByteArray := prog_12_method_6_code
def yX8_number_2 : MethodName := ⟨RX8, "number", "(II)I"⟩
def dkwX8_number_2_1 : List UInt8 := [184, 0, 102, 154, 0, 9, 42, 5, 182, 0, 142, 191, 42, 180, 0, 113, 62, 42, 182, 0, 86, 29, 172]
abbrev dktX8_number_2_1 : List UInt8 := dkwX8_number_2_1 ++ []
def dkwX8_number_2_0 : List UInt8 := [42, 180, 0, 116, 5, 159, 0, 9, 42, 4, 182, 0, 142, 191, 42, 180, 0, 113, 133, 27, 133, 28, 133]
abbrev dktX8_number_2_0 : List UInt8 := dkwX8_number_2_0 ++ dktX8_number_2_1
theorem dksX8_number_2_0 : cX8_number_2.data.toList.drop 0 = dktX8_number_2_0 := by decide +kernel
theorem dksX8_number_2_1 : cX8_number_2.data.toList.drop 23 = dktX8_number_2_1 := dk_seg dksX8_number_2_0 23 rfl rfl
theorem dX8_number_2_0 : decode cX8_number_2 0 = .ok (.aload_n 0, 1) := dk_42 (dk_at dksX8_number_2_0 0 rfl rfl)
theorem dX8_number_2_1 : decode cX8_number_2 1 = .ok (.getfield 116, 3) := dk_180 0 116 (dk_at dksX8_number_2_0 1 rfl rfl)
theorem dX8_number_2_4 : decode cX8_number_2 4 = .ok (.iconst 2, 1) := dk_5 (dk_at dksX8_number_2_0 4 rfl rfl)
theorem dX8_number_2_5 : decode cX8_number_2 5 = .ok (.if_icmp .eq 9, 3) := dk_159 0 9 (dk_at dksX8_number_2_0 5 rfl rfl)
theorem dX8_number_2_8 : decode cX8_number_2 8 = .ok (.aload_n 0, 1) := dk_42 (dk_at dksX8_number_2_0 8 rfl rfl)
theorem dX8_number_2_9 : decode cX8_number_2 9 = .ok (.iconst 1, 1) := dk_4 (dk_at dksX8_number_2_0 9 rfl rfl)
theorem dX8_number_2_10 : decode cX8_number_2 10 = .ok (.invokevirtual 142, 3) := dk_182 0 142 (dk_at dksX8_number_2_0 10 rfl rfl)
theorem dX8_number_2_13 : decode cX8_number_2 13 = .ok (.athrow, 1) := dk_191 (dk_at dksX8_number_2_0 13 rfl rfl)
theorem dX8_number_2_14 : decode cX8_number_2 14 = .ok (.aload_n 0, 1) := dk_42 (dk_at dksX8_number_2_0 14 rfl rfl)
theorem dX8_number_2_15 : decode cX8_number_2 15 = .ok (.getfield 113, 3) := dk_180 0 113 (dk_at dksX8_number_2_0 15 rfl rfl)
theorem dX8_number_2_18 : decode cX8_number_2 18 = .ok (.i2l, 1) := dk_133 (dk_at dksX8_number_2_0 18 rfl rfl)
theorem dX8_number_2_19 : decode cX8_number_2 19 = .ok (.iload_n 1, 1) := dk_27 (dk_at dksX8_number_2_0 19 rfl rfl)
theorem dX8_number_2_20 : decode cX8_number_2 20 = .ok (.i2l, 1) := dk_133 (dk_at dksX8_number_2_0 20 rfl rfl)
theorem dX8_number_2_21 : decode cX8_number_2 21 = .ok (.iload_n 2, 1) := dk_28 (dk_at dksX8_number_2_0 21 rfl rfl)
theorem dX8_number_2_22 : decode cX8_number_2 22 = .ok (.i2l, 1) := dk_133 (dk_at dksX8_number_2_0 22 rfl rfl)
theorem dX8_number_2_23 : decode cX8_number_2 23 = .ok (.invokestatic 102, 3) := dk_184 0 102 (dk_at dksX8_number_2_1 0 rfl rfl)
theorem dX8_number_2_26 : decode cX8_number_2 26 = .ok (.ifCond .ne 9, 3) := dk_154 0 9 (dk_at dksX8_number_2_1 3 rfl rfl)
theorem dX8_number_2_29 : decode cX8_number_2 29 = .ok (.aload_n 0, 1) := dk_42 (dk_at dksX8_number_2_1 6 rfl rfl)
theorem dX8_number_2_30 : decode cX8_number_2 30 = .ok (.iconst 2, 1) := dk_5 (dk_at dksX8_number_2_1 7 rfl rfl)
theorem dX8_number_2_31 : decode cX8_number_2 31 = .ok (.invokevirtual 142, 3) := dk_182 0 142 (dk_at dksX8_number_2_1 8 rfl rfl)
theorem dX8_number_2_34 : decode cX8_number_2 34 = .ok (.athrow, 1) := dk_191 (dk_at dksX8_number_2_1 11 rfl rfl)
theorem dX8_number_2_35 : decode cX8_number_2 35 = .ok (.aload_n 0, 1) := dk_42 (dk_at dksX8_number_2_1 12 rfl rfl)
theorem dX8_number_2_36 : decode cX8_number_2 36 = .ok (.getfield 113, 3) := dk_180 0 113 (dk_at dksX8_number_2_1 13 rfl rfl)
theorem dX8_number_2_39 : decode cX8_number_2 39 = .ok (.istore_n 3, 1) := dk_62 (dk_at dksX8_number_2_1 16 rfl rfl)
theorem dX8_number_2_40 : decode cX8_number_2 40 = .ok (.aload_n 0, 1) := dk_42 (dk_at dksX8_number_2_1 17 rfl rfl)
theorem dX8_number_2_41 : decode cX8_number_2 41 = .ok (.invokevirtual 86, 3) := dk_182 0 86 (dk_at dksX8_number_2_1 18 rfl rfl)
theorem dX8_number_2_44 : decode cX8_number_2 44 = .ok (.iload_n 3, 1) := dk_29 (dk_at dksX8_number_2_1 21 rfl rfl)
theorem dX8_number_2_45 : decode cX8_number_2 45 = .ok (.ireturn, 1) := dk_172 (dk_at dksX8_number_2_1 22 rfl rfl)
abbrev cX8_toldLine : ByteArray := prog_12_method_14_code
def yX8_toldLine : MethodName := ⟨RX8, "toldLine", "()V"⟩
def dkwX8_toldLine_6 : List UInt8 := [185, 0, 205, 2, 0, 87, 177]
abbrev dktX8_toldLine_6 : List UInt8 := dkwX8_toldLine_6 ++ []
def dkwX8_toldLine_5 : List UInt8 := [154, 0, 9, 42, 4, 182, 0, 142, 191, 42, 180, 0, 12, 180, 0, 209, 42, 182, 0, 211]
abbrev dktX8_toldLine_5 : List UInt8 := dkwX8_toldLine_5 ++ dktX8_toldLine_6
def dkwX8_toldLine_4 : List UInt8 := [167, 0, 48, 42, 18, 207, 42, 180, 0, 12, 180, 0, 209, 185, 0, 197, 1, 0, 8, 182, 0, 184]
abbrev dktX8_toldLine_4 : List UInt8 := dkwX8_toldLine_4 ++ dktX8_toldLine_5
def dkwX8_toldLine_3 : List UInt8 := [182, 0, 184, 153, 0, 23, 42, 180, 0, 12, 180, 0, 194, 42, 182, 0, 202, 185, 0, 205, 2, 0, 87]
abbrev dktX8_toldLine_3 : List UInt8 := dkwX8_toldLine_3 ++ dktX8_toldLine_4
def dkwX8_toldLine_2 : List UInt8 := [4, 96, 181, 0, 153, 167, 0, 90, 42, 18, 192, 42, 180, 0, 12, 180, 0, 194, 185, 0, 197, 1, 0, 8]
abbrev dktX8_toldLine_2 : List UInt8 := dkwX8_toldLine_2 ++ dktX8_toldLine_3
def dkwX8_toldLine_1 : List UInt8 := [42, 180, 0, 12, 180, 0, 153, 42, 42, 180, 0, 21, 182, 0, 167, 79, 42, 180, 0, 12, 89, 180, 0, 153]
abbrev dktX8_toldLine_1 : List UInt8 := dkwX8_toldLine_1 ++ dktX8_toldLine_2
def dkwX8_toldLine_0 : List UInt8 := [42, 18, 183, 42, 180, 0, 12, 180, 0, 153, 6, 182, 0, 184, 153, 0, 42, 42, 180, 0, 12, 180, 0, 188]
abbrev dktX8_toldLine_0 : List UInt8 := dkwX8_toldLine_0 ++ dktX8_toldLine_1
theorem dksX8_toldLine_0 : cX8_toldLine.data.toList.drop 0 = dktX8_toldLine_0 := by decide +kernel
theorem dksX8_toldLine_1 : cX8_toldLine.data.toList.drop 24 = dktX8_toldLine_1 := dk_seg dksX8_toldLine_0 24 rfl rfl
theorem dksX8_toldLine_2 : cX8_toldLine.data.toList.drop 48 = dktX8_toldLine_2 := dk_seg dksX8_toldLine_1 24 rfl rfl
theorem dksX8_toldLine_3 : cX8_toldLine.data.toList.drop 72 = dktX8_toldLine_3 := dk_seg dksX8_toldLine_2 24 rfl rfl
theorem dksX8_toldLine_4 : cX8_toldLine.data.toList.drop 95 = dktX8_toldLine_4 := dk_seg dksX8_toldLine_3 23 rfl rfl
theorem dksX8_toldLine_5 : cX8_toldLine.data.toList.drop 117 = dktX8_toldLine_5 := dk_seg dksX8_toldLine_4 22 rfl rfl
theorem dksX8_toldLine_6 : cX8_toldLine.data.toList.drop 137 = dktX8_toldLine_6 := dk_seg dksX8_toldLine_5 20 rfl rfl
theorem dX8_toldLine_0 : decode cX8_toldLine 0 = .ok (.aload_n 0, 1) := dk_42 (dk_at dksX8_toldLine_0 0 rfl rfl)
theorem dX8_toldLine_1 : decode cX8_toldLine 1 = .ok (.ldc 183, 2) := dk_18 183 (dk_at dksX8_toldLine_0 1 rfl rfl)
theorem dX8_toldLine_3 : decode cX8_toldLine 3 = .ok (.aload_n 0, 1) := dk_42 (dk_at dksX8_toldLine_0 3 rfl rfl)
theorem dX8_toldLine_4 : decode cX8_toldLine 4 = .ok (.getfield 12, 3) := dk_180 0 12 (dk_at dksX8_toldLine_0 4 rfl rfl)
theorem dX8_toldLine_7 : decode cX8_toldLine 7 = .ok (.getfield 153, 3) := dk_180 0 153 (dk_at dksX8_toldLine_0 7 rfl rfl)
theorem dX8_toldLine_10 : decode cX8_toldLine 10 = .ok (.iconst 3, 1) := dk_6 (dk_at dksX8_toldLine_0 10 rfl rfl)
theorem dX8_toldLine_11 : decode cX8_toldLine 11 = .ok (.invokevirtual 184, 3) := dk_182 0 184 (dk_at dksX8_toldLine_0 11 rfl rfl)
theorem dX8_toldLine_14 : decode cX8_toldLine 14 = .ok (.ifCond .eq 42, 3) := dk_153 0 42 (dk_at dksX8_toldLine_0 14 rfl rfl)
theorem dX8_toldLine_17 : decode cX8_toldLine 17 = .ok (.aload_n 0, 1) := dk_42 (dk_at dksX8_toldLine_0 17 rfl rfl)
theorem dX8_toldLine_18 : decode cX8_toldLine 18 = .ok (.getfield 12, 3) := dk_180 0 12 (dk_at dksX8_toldLine_0 18 rfl rfl)
theorem dX8_toldLine_21 : decode cX8_toldLine 21 = .ok (.getfield 188, 3) := dk_180 0 188 (dk_at dksX8_toldLine_0 21 rfl rfl)
theorem dX8_toldLine_24 : decode cX8_toldLine 24 = .ok (.aload_n 0, 1) := dk_42 (dk_at dksX8_toldLine_1 0 rfl rfl)
theorem dX8_toldLine_25 : decode cX8_toldLine 25 = .ok (.getfield 12, 3) := dk_180 0 12 (dk_at dksX8_toldLine_1 1 rfl rfl)
theorem dX8_toldLine_28 : decode cX8_toldLine 28 = .ok (.getfield 153, 3) := dk_180 0 153 (dk_at dksX8_toldLine_1 4 rfl rfl)
theorem dX8_toldLine_31 : decode cX8_toldLine 31 = .ok (.aload_n 0, 1) := dk_42 (dk_at dksX8_toldLine_1 7 rfl rfl)
theorem dX8_toldLine_32 : decode cX8_toldLine 32 = .ok (.aload_n 0, 1) := dk_42 (dk_at dksX8_toldLine_1 8 rfl rfl)
theorem dX8_toldLine_33 : decode cX8_toldLine 33 = .ok (.getfield 21, 3) := dk_180 0 21 (dk_at dksX8_toldLine_1 9 rfl rfl)
theorem dX8_toldLine_36 : decode cX8_toldLine 36 = .ok (.invokevirtual 167, 3) := dk_182 0 167 (dk_at dksX8_toldLine_1 12 rfl rfl)
theorem dX8_toldLine_39 : decode cX8_toldLine 39 = .ok (.iastore, 1) := dk_79 (dk_at dksX8_toldLine_1 15 rfl rfl)
theorem dX8_toldLine_40 : decode cX8_toldLine 40 = .ok (.aload_n 0, 1) := dk_42 (dk_at dksX8_toldLine_1 16 rfl rfl)
theorem dX8_toldLine_41 : decode cX8_toldLine 41 = .ok (.getfield 12, 3) := dk_180 0 12 (dk_at dksX8_toldLine_1 17 rfl rfl)
theorem dX8_toldLine_44 : decode cX8_toldLine 44 = .ok (.dup, 1) := dk_89 (dk_at dksX8_toldLine_1 20 rfl rfl)
theorem dX8_toldLine_45 : decode cX8_toldLine 45 = .ok (.getfield 153, 3) := dk_180 0 153 (dk_at dksX8_toldLine_1 21 rfl rfl)
theorem dX8_toldLine_48 : decode cX8_toldLine 48 = .ok (.iconst 1, 1) := dk_4 (dk_at dksX8_toldLine_2 0 rfl rfl)
theorem dX8_toldLine_49 : decode cX8_toldLine 49 = .ok (.iadd, 1) := dk_96 (dk_at dksX8_toldLine_2 1 rfl rfl)
theorem dX8_toldLine_50 : decode cX8_toldLine 50 = .ok (.putfield 153, 3) := dk_181 0 153 (dk_at dksX8_toldLine_2 2 rfl rfl)
theorem dX8_toldLine_53 : decode cX8_toldLine 53 = .ok (.goto 90, 3) := dk_167 0 90 (dk_at dksX8_toldLine_2 5 rfl rfl)
theorem dX8_toldLine_56 : decode cX8_toldLine 56 = .ok (.aload_n 0, 1) := dk_42 (dk_at dksX8_toldLine_2 8 rfl rfl)
theorem dX8_toldLine_57 : decode cX8_toldLine 57 = .ok (.ldc 192, 2) := dk_18 192 (dk_at dksX8_toldLine_2 9 rfl rfl)
theorem dX8_toldLine_59 : decode cX8_toldLine 59 = .ok (.aload_n 0, 1) := dk_42 (dk_at dksX8_toldLine_2 11 rfl rfl)
theorem dX8_toldLine_60 : decode cX8_toldLine 60 = .ok (.getfield 12, 3) := dk_180 0 12 (dk_at dksX8_toldLine_2 12 rfl rfl)
theorem dX8_toldLine_63 : decode cX8_toldLine 63 = .ok (.getfield 194, 3) := dk_180 0 194 (dk_at dksX8_toldLine_2 15 rfl rfl)
theorem dX8_toldLine_66 : decode cX8_toldLine 66 = .ok (.invokeinterface 197 1, 5) := by decide +kernel
theorem dX8_toldLine_71 : decode cX8_toldLine 71 = .ok (.iconst 5, 1) := dk_8 (dk_at dksX8_toldLine_2 23 rfl rfl)
theorem dX8_toldLine_72 : decode cX8_toldLine 72 = .ok (.invokevirtual 184, 3) := dk_182 0 184 (dk_at dksX8_toldLine_3 0 rfl rfl)
theorem dX8_toldLine_75 : decode cX8_toldLine 75 = .ok (.ifCond .eq 23, 3) := dk_153 0 23 (dk_at dksX8_toldLine_3 3 rfl rfl)
theorem dX8_toldLine_78 : decode cX8_toldLine 78 = .ok (.aload_n 0, 1) := dk_42 (dk_at dksX8_toldLine_3 6 rfl rfl)
theorem dX8_toldLine_79 : decode cX8_toldLine 79 = .ok (.getfield 12, 3) := dk_180 0 12 (dk_at dksX8_toldLine_3 7 rfl rfl)
theorem dX8_toldLine_82 : decode cX8_toldLine 82 = .ok (.getfield 194, 3) := dk_180 0 194 (dk_at dksX8_toldLine_3 10 rfl rfl)
theorem dX8_toldLine_85 : decode cX8_toldLine 85 = .ok (.aload_n 0, 1) := dk_42 (dk_at dksX8_toldLine_3 13 rfl rfl)
theorem dX8_toldLine_86 : decode cX8_toldLine 86 = .ok (.invokevirtual 202, 3) := dk_182 0 202 (dk_at dksX8_toldLine_3 14 rfl rfl)
theorem dX8_toldLine_89 : decode cX8_toldLine 89 = .ok (.invokeinterface 205 2, 5) := by decide +kernel
theorem dX8_toldLine_94 : decode cX8_toldLine 94 = .ok (.pop, 1) := dk_87 (dk_at dksX8_toldLine_3 22 rfl rfl)
theorem dX8_toldLine_95 : decode cX8_toldLine 95 = .ok (.goto 48, 3) := dk_167 0 48 (dk_at dksX8_toldLine_4 0 rfl rfl)
theorem dX8_toldLine_98 : decode cX8_toldLine 98 = .ok (.aload_n 0, 1) := dk_42 (dk_at dksX8_toldLine_4 3 rfl rfl)
theorem dX8_toldLine_99 : decode cX8_toldLine 99 = .ok (.ldc 207, 2) := dk_18 207 (dk_at dksX8_toldLine_4 4 rfl rfl)
theorem dX8_toldLine_101 : decode cX8_toldLine 101 = .ok (.aload_n 0, 1) := dk_42 (dk_at dksX8_toldLine_4 6 rfl rfl)
theorem dX8_toldLine_102 : decode cX8_toldLine 102 = .ok (.getfield 12, 3) := dk_180 0 12 (dk_at dksX8_toldLine_4 7 rfl rfl)
theorem dX8_toldLine_105 : decode cX8_toldLine 105 = .ok (.getfield 209, 3) := dk_180 0 209 (dk_at dksX8_toldLine_4 10 rfl rfl)
theorem dX8_toldLine_108 : decode cX8_toldLine 108 = .ok (.invokeinterface 197 1, 5) := by decide +kernel
theorem dX8_toldLine_113 : decode cX8_toldLine 113 = .ok (.iconst 5, 1) := dk_8 (dk_at dksX8_toldLine_4 18 rfl rfl)
theorem dX8_toldLine_114 : decode cX8_toldLine 114 = .ok (.invokevirtual 184, 3) := dk_182 0 184 (dk_at dksX8_toldLine_4 19 rfl rfl)
theorem dX8_toldLine_117 : decode cX8_toldLine 117 = .ok (.ifCond .ne 9, 3) := dk_154 0 9 (dk_at dksX8_toldLine_5 0 rfl rfl)
theorem dX8_toldLine_120 : decode cX8_toldLine 120 = .ok (.aload_n 0, 1) := dk_42 (dk_at dksX8_toldLine_5 3 rfl rfl)
theorem dX8_toldLine_121 : decode cX8_toldLine 121 = .ok (.iconst 1, 1) := dk_4 (dk_at dksX8_toldLine_5 4 rfl rfl)
theorem dX8_toldLine_122 : decode cX8_toldLine 122 = .ok (.invokevirtual 142, 3) := dk_182 0 142 (dk_at dksX8_toldLine_5 5 rfl rfl)
theorem dX8_toldLine_125 : decode cX8_toldLine 125 = .ok (.athrow, 1) := dk_191 (dk_at dksX8_toldLine_5 8 rfl rfl)
theorem dX8_toldLine_126 : decode cX8_toldLine 126 = .ok (.aload_n 0, 1) := dk_42 (dk_at dksX8_toldLine_5 9 rfl rfl)
theorem dX8_toldLine_127 : decode cX8_toldLine 127 = .ok (.getfield 12, 3) := dk_180 0 12 (dk_at dksX8_toldLine_5 10 rfl rfl)
theorem dX8_toldLine_130 : decode cX8_toldLine 130 = .ok (.getfield 209, 3) := dk_180 0 209 (dk_at dksX8_toldLine_5 13 rfl rfl)
theorem dX8_toldLine_133 : decode cX8_toldLine 133 = .ok (.aload_n 0, 1) := dk_42 (dk_at dksX8_toldLine_5 16 rfl rfl)
theorem dX8_toldLine_134 : decode cX8_toldLine 134 = .ok (.invokevirtual 211, 3) := dk_182 0 211 (dk_at dksX8_toldLine_5 17 rfl rfl)
theorem dX8_toldLine_137 : decode cX8_toldLine 137 = .ok (.invokeinterface 205 2, 5) := by decide +kernel
theorem dX8_toldLine_142 : decode cX8_toldLine 142 = .ok (.pop, 1) := dk_87 (dk_at dksX8_toldLine_6 5 rfl rfl)
theorem dX8_toldLine_143 : decode cX8_toldLine 143 = .ok (.return_, 1) := dk_177 (dk_at dksX8_toldLine_6 6 rfl rfl)
abbrev cX8_line : ByteArray := prog_12_method_13_code
def yX8_line : MethodName := ⟨RX8, "line", "(Ljava/lang/String;II)Z"⟩
def dkwX8_line_1 : List UInt8 := [42, 182, 0, 86, 4, 172]
abbrev dktX8_line_1 : List UInt8 := dkwX8_line_1 ++ []
def dkwX8_line_0 : List UInt8 := [42, 180, 0, 40, 43, 182, 0, 146, 154, 0, 5, 3, 172, 28, 29, 160, 0, 9, 42, 6, 182, 0, 142, 191]
abbrev dktX8_line_0 : List UInt8 := dkwX8_line_0 ++ dktX8_line_1
theorem dksX8_line_0 : cX8_line.data.toList.drop 0 = dktX8_line_0 := by decide +kernel
theorem dksX8_line_1 : cX8_line.data.toList.drop 24 = dktX8_line_1 := dk_seg dksX8_line_0 24 rfl rfl
theorem dX8_line_0 : decode cX8_line 0 = .ok (.aload_n 0, 1) := dk_42 (dk_at dksX8_line_0 0 rfl rfl)
theorem dX8_line_1 : decode cX8_line 1 = .ok (.getfield 40, 3) := dk_180 0 40 (dk_at dksX8_line_0 1 rfl rfl)
theorem dX8_line_4 : decode cX8_line 4 = .ok (.aload_n 1, 1) := dk_43 (dk_at dksX8_line_0 4 rfl rfl)
theorem dX8_line_5 : decode cX8_line 5 = .ok (.invokevirtual 146, 3) := dk_182 0 146 (dk_at dksX8_line_0 5 rfl rfl)
theorem dX8_line_8 : decode cX8_line 8 = .ok (.ifCond .ne 5, 3) := dk_154 0 5 (dk_at dksX8_line_0 8 rfl rfl)
theorem dX8_line_11 : decode cX8_line 11 = .ok (.iconst 0, 1) := dk_3 (dk_at dksX8_line_0 11 rfl rfl)
theorem dX8_line_12 : decode cX8_line 12 = .ok (.ireturn, 1) := dk_172 (dk_at dksX8_line_0 12 rfl rfl)
theorem dX8_line_13 : decode cX8_line 13 = .ok (.iload_n 2, 1) := dk_28 (dk_at dksX8_line_0 13 rfl rfl)
theorem dX8_line_14 : decode cX8_line 14 = .ok (.iload_n 3, 1) := dk_29 (dk_at dksX8_line_0 14 rfl rfl)
theorem dX8_line_15 : decode cX8_line 15 = .ok (.if_icmp .ne 9, 3) := dk_160 0 9 (dk_at dksX8_line_0 15 rfl rfl)
theorem dX8_line_18 : decode cX8_line 18 = .ok (.aload_n 0, 1) := dk_42 (dk_at dksX8_line_0 18 rfl rfl)
theorem dX8_line_19 : decode cX8_line 19 = .ok (.iconst 3, 1) := dk_6 (dk_at dksX8_line_0 19 rfl rfl)
theorem dX8_line_20 : decode cX8_line 20 = .ok (.invokevirtual 142, 3) := dk_182 0 142 (dk_at dksX8_line_0 20 rfl rfl)
theorem dX8_line_23 : decode cX8_line 23 = .ok (.athrow, 1) := dk_191 (dk_at dksX8_line_0 23 rfl rfl)
theorem dX8_line_24 : decode cX8_line 24 = .ok (.aload_n 0, 1) := dk_42 (dk_at dksX8_line_1 0 rfl rfl)
theorem dX8_line_25 : decode cX8_line 25 = .ok (.invokevirtual 86, 3) := dk_182 0 86 (dk_at dksX8_line_1 1 rfl rfl)
theorem dX8_line_28 : decode cX8_line 28 = .ok (.iconst 1, 1) := dk_4 (dk_at dksX8_line_1 4 rfl rfl)
theorem dX8_line_29 : decode cX8_line 29 = .ok (.ireturn, 1) := dk_172 (dk_at dksX8_line_1 5 rfl rfl)
abbrev cX8_kind : ByteArray := prog_12_method_10_code
def yX8_kind : MethodName := ⟨RX8, "kind", "(Ljava/util/HashMap;)I"⟩
def dkwX8_kind_1 : List UInt8 := [182, 0, 86, 44, 182, 0, 164, 172]
abbrev dktX8_kind_1 : List UInt8 := dkwX8_kind_1 ++ []
def dkwX8_kind_0 : List UInt8 := [43, 42, 180, 0, 40, 182, 0, 160, 192, 0, 90, 77, 44, 199, 0, 9, 42, 4, 182, 0, 142, 191, 42]
abbrev dktX8_kind_0 : List UInt8 := dkwX8_kind_0 ++ dktX8_kind_1
theorem dksX8_kind_0 : cX8_kind.data.toList.drop 0 = dktX8_kind_0 := by decide +kernel
theorem dksX8_kind_1 : cX8_kind.data.toList.drop 23 = dktX8_kind_1 := dk_seg dksX8_kind_0 23 rfl rfl
theorem dX8_kind_0 : decode cX8_kind 0 = .ok (.aload_n 1, 1) := dk_43 (dk_at dksX8_kind_0 0 rfl rfl)
theorem dX8_kind_1 : decode cX8_kind 1 = .ok (.aload_n 0, 1) := dk_42 (dk_at dksX8_kind_0 1 rfl rfl)
theorem dX8_kind_2 : decode cX8_kind 2 = .ok (.getfield 40, 3) := dk_180 0 40 (dk_at dksX8_kind_0 2 rfl rfl)
theorem dX8_kind_5 : decode cX8_kind 5 = .ok (.invokevirtual 160, 3) := dk_182 0 160 (dk_at dksX8_kind_0 5 rfl rfl)
theorem dX8_kind_8 : decode cX8_kind 8 = .ok (.checkcast 90, 3) := dk_192 0 90 (dk_at dksX8_kind_0 8 rfl rfl)
theorem dX8_kind_11 : decode cX8_kind 11 = .ok (.astore_n 2, 1) := dk_77 (dk_at dksX8_kind_0 11 rfl rfl)
theorem dX8_kind_12 : decode cX8_kind 12 = .ok (.aload_n 2, 1) := dk_44 (dk_at dksX8_kind_0 12 rfl rfl)
theorem dX8_kind_13 : decode cX8_kind 13 = .ok (.ifnonnull 9, 3) := dk_199 0 9 (dk_at dksX8_kind_0 13 rfl rfl)
theorem dX8_kind_16 : decode cX8_kind 16 = .ok (.aload_n 0, 1) := dk_42 (dk_at dksX8_kind_0 16 rfl rfl)
theorem dX8_kind_17 : decode cX8_kind 17 = .ok (.iconst 1, 1) := dk_4 (dk_at dksX8_kind_0 17 rfl rfl)
theorem dX8_kind_18 : decode cX8_kind 18 = .ok (.invokevirtual 142, 3) := dk_182 0 142 (dk_at dksX8_kind_0 18 rfl rfl)
theorem dX8_kind_21 : decode cX8_kind 21 = .ok (.athrow, 1) := dk_191 (dk_at dksX8_kind_0 21 rfl rfl)
theorem dX8_kind_22 : decode cX8_kind 22 = .ok (.aload_n 0, 1) := dk_42 (dk_at dksX8_kind_0 22 rfl rfl)
theorem dX8_kind_23 : decode cX8_kind 23 = .ok (.invokevirtual 86, 3) := dk_182 0 86 (dk_at dksX8_kind_1 0 rfl rfl)
theorem dX8_kind_26 : decode cX8_kind 26 = .ok (.aload_n 2, 1) := dk_44 (dk_at dksX8_kind_1 3 rfl rfl)
theorem dX8_kind_27 : decode cX8_kind 27 = .ok (.invokevirtual 164, 3) := dk_182 0 164 (dk_at dksX8_kind_1 4 rfl rfl)
theorem dX8_kind_30 : decode cX8_kind 30 = .ok (.ireturn, 1) := dk_172 (dk_at dksX8_kind_1 7 rfl rfl)
abbrev cX8_rule : ByteArray := prog_12_method_11_code
def yX8_rule : MethodName := ⟨RX8, "rule", "()LMergeJudge$Told;"⟩
def dkwX8_rule_7 : List UInt8 := [79, 183, 0, 176, 176]
abbrev dktX8_rule_7 : List UInt8 := dkwX8_rule_7 ++ []
def dkwX8_rule_6 : List UInt8 := [79, 89, 5, 42, 3, 16, 6, 182, 0, 150, 79, 167, 0, 14, 5, 188, 10, 89, 3, 28, 79, 89, 4, 29]
abbrev dktX8_rule_6 : List UInt8 := dkwX8_rule_6 ++ dktX8_rule_7
def dkwX8_rule_5 : List UInt8 := [182, 0, 179, 62, 187, 0, 171, 89, 27, 27, 6, 160, 0, 27, 6, 188, 10, 89, 3, 28, 79, 89, 4, 29]
abbrev dktX8_rule_5 : List UInt8 := dkwX8_rule_5 ++ dktX8_rule_6
def dkwX8_rule_4 : List UInt8 := [21, 4, 79, 89, 6, 42, 3, 42, 180, 0, 12, 180, 0, 173, 182, 0, 150, 79, 183, 0, 176, 176, 42, 28]
abbrev dktX8_rule_4 : List UInt8 := dkwX8_rule_4 ++ dktX8_rule_5
def dkwX8_rule_3 : List UInt8 := [182, 0, 156, 54, 4, 187, 0, 171, 89, 27, 7, 188, 10, 89, 3, 28, 79, 89, 4, 29, 79, 89, 5]
abbrev dktX8_rule_3 : List UInt8 := dkwX8_rule_3 ++ dktX8_rule_4
def dkwX8_rule_2 : List UInt8 := [183, 0, 176, 176, 27, 8, 160, 0, 62, 42, 3, 42, 180, 0, 12, 180, 0, 173, 182, 0, 150, 62, 42]
abbrev dktX8_rule_2 : List UInt8 := dkwX8_rule_2 ++ dktX8_rule_3
def dkwX8_rule_1 : List UInt8 := [5, 188, 10, 89, 3, 28, 79, 89, 4, 42, 3, 42, 180, 0, 12, 180, 0, 173, 182, 0, 150, 79]
abbrev dktX8_rule_1 : List UInt8 := dkwX8_rule_1 ++ dktX8_rule_2
def dkwX8_rule_0 : List UInt8 := [42, 42, 180, 0, 25, 182, 0, 167, 60, 42, 182, 0, 156, 61, 27, 5, 162, 0, 34, 187, 0, 171, 89, 27]
abbrev dktX8_rule_0 : List UInt8 := dkwX8_rule_0 ++ dktX8_rule_1
theorem dksX8_rule_0 : cX8_rule.data.toList.drop 0 = dktX8_rule_0 := by decide +kernel
theorem dksX8_rule_1 : cX8_rule.data.toList.drop 24 = dktX8_rule_1 := dk_seg dksX8_rule_0 24 rfl rfl
theorem dksX8_rule_2 : cX8_rule.data.toList.drop 46 = dktX8_rule_2 := dk_seg dksX8_rule_1 22 rfl rfl
theorem dksX8_rule_3 : cX8_rule.data.toList.drop 69 = dktX8_rule_3 := dk_seg dksX8_rule_2 23 rfl rfl
theorem dksX8_rule_4 : cX8_rule.data.toList.drop 92 = dktX8_rule_4 := dk_seg dksX8_rule_3 23 rfl rfl
theorem dksX8_rule_5 : cX8_rule.data.toList.drop 116 = dktX8_rule_5 := dk_seg dksX8_rule_4 24 rfl rfl
theorem dksX8_rule_6 : cX8_rule.data.toList.drop 140 = dktX8_rule_6 := dk_seg dksX8_rule_5 24 rfl rfl
theorem dksX8_rule_7 : cX8_rule.data.toList.drop 164 = dktX8_rule_7 := dk_seg dksX8_rule_6 24 rfl rfl
theorem dX8_rule_0 : decode cX8_rule 0 = .ok (.aload_n 0, 1) := dk_42 (dk_at dksX8_rule_0 0 rfl rfl)
theorem dX8_rule_1 : decode cX8_rule 1 = .ok (.aload_n 0, 1) := dk_42 (dk_at dksX8_rule_0 1 rfl rfl)
theorem dX8_rule_2 : decode cX8_rule 2 = .ok (.getfield 25, 3) := dk_180 0 25 (dk_at dksX8_rule_0 2 rfl rfl)
theorem dX8_rule_5 : decode cX8_rule 5 = .ok (.invokevirtual 167, 3) := dk_182 0 167 (dk_at dksX8_rule_0 5 rfl rfl)
theorem dX8_rule_8 : decode cX8_rule 8 = .ok (.istore_n 1, 1) := dk_60 (dk_at dksX8_rule_0 8 rfl rfl)
theorem dX8_rule_9 : decode cX8_rule 9 = .ok (.aload_n 0, 1) := dk_42 (dk_at dksX8_rule_0 9 rfl rfl)
theorem dX8_rule_10 : decode cX8_rule 10 = .ok (.invokevirtual 156, 3) := dk_182 0 156 (dk_at dksX8_rule_0 10 rfl rfl)
theorem dX8_rule_13 : decode cX8_rule 13 = .ok (.istore_n 2, 1) := dk_61 (dk_at dksX8_rule_0 13 rfl rfl)
theorem dX8_rule_14 : decode cX8_rule 14 = .ok (.iload_n 1, 1) := dk_27 (dk_at dksX8_rule_0 14 rfl rfl)
theorem dX8_rule_15 : decode cX8_rule 15 = .ok (.iconst 2, 1) := dk_5 (dk_at dksX8_rule_0 15 rfl rfl)
theorem dX8_rule_16 : decode cX8_rule 16 = .ok (.if_icmp .ge 34, 3) := dk_162 0 34 (dk_at dksX8_rule_0 16 rfl rfl)
theorem dX8_rule_19 : decode cX8_rule 19 = .ok (.new 171, 3) := dk_187 0 171 (dk_at dksX8_rule_0 19 rfl rfl)
theorem dX8_rule_22 : decode cX8_rule 22 = .ok (.dup, 1) := dk_89 (dk_at dksX8_rule_0 22 rfl rfl)
theorem dX8_rule_23 : decode cX8_rule 23 = .ok (.iload_n 1, 1) := dk_27 (dk_at dksX8_rule_0 23 rfl rfl)
theorem dX8_rule_24 : decode cX8_rule 24 = .ok (.iconst 2, 1) := dk_5 (dk_at dksX8_rule_1 0 rfl rfl)
theorem dX8_rule_25 : decode cX8_rule 25 = .ok (.newarray .int, 2) := dk_188_10 (dk_at dksX8_rule_1 1 rfl rfl)
theorem dX8_rule_27 : decode cX8_rule 27 = .ok (.dup, 1) := dk_89 (dk_at dksX8_rule_1 3 rfl rfl)
theorem dX8_rule_28 : decode cX8_rule 28 = .ok (.iconst 0, 1) := dk_3 (dk_at dksX8_rule_1 4 rfl rfl)
theorem dX8_rule_29 : decode cX8_rule 29 = .ok (.iload_n 2, 1) := dk_28 (dk_at dksX8_rule_1 5 rfl rfl)
theorem dX8_rule_30 : decode cX8_rule 30 = .ok (.iastore, 1) := dk_79 (dk_at dksX8_rule_1 6 rfl rfl)
theorem dX8_rule_31 : decode cX8_rule 31 = .ok (.dup, 1) := dk_89 (dk_at dksX8_rule_1 7 rfl rfl)
theorem dX8_rule_32 : decode cX8_rule 32 = .ok (.iconst 1, 1) := dk_4 (dk_at dksX8_rule_1 8 rfl rfl)
theorem dX8_rule_33 : decode cX8_rule 33 = .ok (.aload_n 0, 1) := dk_42 (dk_at dksX8_rule_1 9 rfl rfl)
theorem dX8_rule_34 : decode cX8_rule 34 = .ok (.iconst 0, 1) := dk_3 (dk_at dksX8_rule_1 10 rfl rfl)
theorem dX8_rule_35 : decode cX8_rule 35 = .ok (.aload_n 0, 1) := dk_42 (dk_at dksX8_rule_1 11 rfl rfl)
theorem dX8_rule_36 : decode cX8_rule 36 = .ok (.getfield 12, 3) := dk_180 0 12 (dk_at dksX8_rule_1 12 rfl rfl)
theorem dX8_rule_39 : decode cX8_rule 39 = .ok (.getfield 173, 3) := dk_180 0 173 (dk_at dksX8_rule_1 15 rfl rfl)
theorem dX8_rule_42 : decode cX8_rule 42 = .ok (.invokevirtual 150, 3) := dk_182 0 150 (dk_at dksX8_rule_1 18 rfl rfl)
theorem dX8_rule_45 : decode cX8_rule 45 = .ok (.iastore, 1) := dk_79 (dk_at dksX8_rule_1 21 rfl rfl)
theorem dX8_rule_46 : decode cX8_rule 46 = .ok (.invokespecial 176, 3) := dk_183 0 176 (dk_at dksX8_rule_2 0 rfl rfl)
theorem dX8_rule_49 : decode cX8_rule 49 = .ok (.areturn, 1) := dk_176 (dk_at dksX8_rule_2 3 rfl rfl)
theorem dX8_rule_50 : decode cX8_rule 50 = .ok (.iload_n 1, 1) := dk_27 (dk_at dksX8_rule_2 4 rfl rfl)
theorem dX8_rule_51 : decode cX8_rule 51 = .ok (.iconst 5, 1) := dk_8 (dk_at dksX8_rule_2 5 rfl rfl)
theorem dX8_rule_52 : decode cX8_rule 52 = .ok (.if_icmp .ne 62, 3) := dk_160 0 62 (dk_at dksX8_rule_2 6 rfl rfl)
theorem dX8_rule_55 : decode cX8_rule 55 = .ok (.aload_n 0, 1) := dk_42 (dk_at dksX8_rule_2 9 rfl rfl)
theorem dX8_rule_56 : decode cX8_rule 56 = .ok (.iconst 0, 1) := dk_3 (dk_at dksX8_rule_2 10 rfl rfl)
theorem dX8_rule_57 : decode cX8_rule 57 = .ok (.aload_n 0, 1) := dk_42 (dk_at dksX8_rule_2 11 rfl rfl)
theorem dX8_rule_58 : decode cX8_rule 58 = .ok (.getfield 12, 3) := dk_180 0 12 (dk_at dksX8_rule_2 12 rfl rfl)
theorem dX8_rule_61 : decode cX8_rule 61 = .ok (.getfield 173, 3) := dk_180 0 173 (dk_at dksX8_rule_2 15 rfl rfl)
theorem dX8_rule_64 : decode cX8_rule 64 = .ok (.invokevirtual 150, 3) := dk_182 0 150 (dk_at dksX8_rule_2 18 rfl rfl)
theorem dX8_rule_67 : decode cX8_rule 67 = .ok (.istore_n 3, 1) := dk_62 (dk_at dksX8_rule_2 21 rfl rfl)
theorem dX8_rule_68 : decode cX8_rule 68 = .ok (.aload_n 0, 1) := dk_42 (dk_at dksX8_rule_2 22 rfl rfl)
theorem dX8_rule_69 : decode cX8_rule 69 = .ok (.invokevirtual 156, 3) := dk_182 0 156 (dk_at dksX8_rule_3 0 rfl rfl)
theorem dX8_rule_72 : decode cX8_rule 72 = .ok (.istore 4, 2) := dk_54 4 (dk_at dksX8_rule_3 3 rfl rfl)
theorem dX8_rule_74 : decode cX8_rule 74 = .ok (.new 171, 3) := dk_187 0 171 (dk_at dksX8_rule_3 5 rfl rfl)
theorem dX8_rule_77 : decode cX8_rule 77 = .ok (.dup, 1) := dk_89 (dk_at dksX8_rule_3 8 rfl rfl)
theorem dX8_rule_78 : decode cX8_rule 78 = .ok (.iload_n 1, 1) := dk_27 (dk_at dksX8_rule_3 9 rfl rfl)
theorem dX8_rule_79 : decode cX8_rule 79 = .ok (.iconst 4, 1) := dk_7 (dk_at dksX8_rule_3 10 rfl rfl)
theorem dX8_rule_80 : decode cX8_rule 80 = .ok (.newarray .int, 2) := dk_188_10 (dk_at dksX8_rule_3 11 rfl rfl)
theorem dX8_rule_82 : decode cX8_rule 82 = .ok (.dup, 1) := dk_89 (dk_at dksX8_rule_3 13 rfl rfl)
theorem dX8_rule_83 : decode cX8_rule 83 = .ok (.iconst 0, 1) := dk_3 (dk_at dksX8_rule_3 14 rfl rfl)
theorem dX8_rule_84 : decode cX8_rule 84 = .ok (.iload_n 2, 1) := dk_28 (dk_at dksX8_rule_3 15 rfl rfl)
theorem dX8_rule_85 : decode cX8_rule 85 = .ok (.iastore, 1) := dk_79 (dk_at dksX8_rule_3 16 rfl rfl)
theorem dX8_rule_86 : decode cX8_rule 86 = .ok (.dup, 1) := dk_89 (dk_at dksX8_rule_3 17 rfl rfl)
theorem dX8_rule_87 : decode cX8_rule 87 = .ok (.iconst 1, 1) := dk_4 (dk_at dksX8_rule_3 18 rfl rfl)
theorem dX8_rule_88 : decode cX8_rule 88 = .ok (.iload_n 3, 1) := dk_29 (dk_at dksX8_rule_3 19 rfl rfl)
theorem dX8_rule_89 : decode cX8_rule 89 = .ok (.iastore, 1) := dk_79 (dk_at dksX8_rule_3 20 rfl rfl)
theorem dX8_rule_90 : decode cX8_rule 90 = .ok (.dup, 1) := dk_89 (dk_at dksX8_rule_3 21 rfl rfl)
theorem dX8_rule_91 : decode cX8_rule 91 = .ok (.iconst 2, 1) := dk_5 (dk_at dksX8_rule_3 22 rfl rfl)
theorem dX8_rule_92 : decode cX8_rule 92 = .ok (.iload 4, 2) := dk_21 4 (dk_at dksX8_rule_4 0 rfl rfl)
theorem dX8_rule_94 : decode cX8_rule 94 = .ok (.iastore, 1) := dk_79 (dk_at dksX8_rule_4 2 rfl rfl)
theorem dX8_rule_95 : decode cX8_rule 95 = .ok (.dup, 1) := dk_89 (dk_at dksX8_rule_4 3 rfl rfl)
theorem dX8_rule_96 : decode cX8_rule 96 = .ok (.iconst 3, 1) := dk_6 (dk_at dksX8_rule_4 4 rfl rfl)
theorem dX8_rule_97 : decode cX8_rule 97 = .ok (.aload_n 0, 1) := dk_42 (dk_at dksX8_rule_4 5 rfl rfl)
theorem dX8_rule_98 : decode cX8_rule 98 = .ok (.iconst 0, 1) := dk_3 (dk_at dksX8_rule_4 6 rfl rfl)
theorem dX8_rule_99 : decode cX8_rule 99 = .ok (.aload_n 0, 1) := dk_42 (dk_at dksX8_rule_4 7 rfl rfl)
theorem dX8_rule_100 : decode cX8_rule 100 = .ok (.getfield 12, 3) := dk_180 0 12 (dk_at dksX8_rule_4 8 rfl rfl)
theorem dX8_rule_103 : decode cX8_rule 103 = .ok (.getfield 173, 3) := dk_180 0 173 (dk_at dksX8_rule_4 11 rfl rfl)
theorem dX8_rule_106 : decode cX8_rule 106 = .ok (.invokevirtual 150, 3) := dk_182 0 150 (dk_at dksX8_rule_4 14 rfl rfl)
theorem dX8_rule_109 : decode cX8_rule 109 = .ok (.iastore, 1) := dk_79 (dk_at dksX8_rule_4 17 rfl rfl)
theorem dX8_rule_110 : decode cX8_rule 110 = .ok (.invokespecial 176, 3) := dk_183 0 176 (dk_at dksX8_rule_4 18 rfl rfl)
theorem dX8_rule_113 : decode cX8_rule 113 = .ok (.areturn, 1) := dk_176 (dk_at dksX8_rule_4 21 rfl rfl)
theorem dX8_rule_114 : decode cX8_rule 114 = .ok (.aload_n 0, 1) := dk_42 (dk_at dksX8_rule_4 22 rfl rfl)
theorem dX8_rule_115 : decode cX8_rule 115 = .ok (.iload_n 2, 1) := dk_28 (dk_at dksX8_rule_4 23 rfl rfl)
theorem dX8_rule_116 : decode cX8_rule 116 = .ok (.invokevirtual 179, 3) := dk_182 0 179 (dk_at dksX8_rule_5 0 rfl rfl)
theorem dX8_rule_119 : decode cX8_rule 119 = .ok (.istore_n 3, 1) := dk_62 (dk_at dksX8_rule_5 3 rfl rfl)
theorem dX8_rule_120 : decode cX8_rule 120 = .ok (.new 171, 3) := dk_187 0 171 (dk_at dksX8_rule_5 4 rfl rfl)
theorem dX8_rule_123 : decode cX8_rule 123 = .ok (.dup, 1) := dk_89 (dk_at dksX8_rule_5 7 rfl rfl)
theorem dX8_rule_124 : decode cX8_rule 124 = .ok (.iload_n 1, 1) := dk_27 (dk_at dksX8_rule_5 8 rfl rfl)
theorem dX8_rule_125 : decode cX8_rule 125 = .ok (.iload_n 1, 1) := dk_27 (dk_at dksX8_rule_5 9 rfl rfl)
theorem dX8_rule_126 : decode cX8_rule 126 = .ok (.iconst 3, 1) := dk_6 (dk_at dksX8_rule_5 10 rfl rfl)
theorem dX8_rule_127 : decode cX8_rule 127 = .ok (.if_icmp .ne 27, 3) := dk_160 0 27 (dk_at dksX8_rule_5 11 rfl rfl)
theorem dX8_rule_130 : decode cX8_rule 130 = .ok (.iconst 3, 1) := dk_6 (dk_at dksX8_rule_5 14 rfl rfl)
theorem dX8_rule_131 : decode cX8_rule 131 = .ok (.newarray .int, 2) := dk_188_10 (dk_at dksX8_rule_5 15 rfl rfl)
theorem dX8_rule_133 : decode cX8_rule 133 = .ok (.dup, 1) := dk_89 (dk_at dksX8_rule_5 17 rfl rfl)
theorem dX8_rule_134 : decode cX8_rule 134 = .ok (.iconst 0, 1) := dk_3 (dk_at dksX8_rule_5 18 rfl rfl)
theorem dX8_rule_135 : decode cX8_rule 135 = .ok (.iload_n 2, 1) := dk_28 (dk_at dksX8_rule_5 19 rfl rfl)
theorem dX8_rule_136 : decode cX8_rule 136 = .ok (.iastore, 1) := dk_79 (dk_at dksX8_rule_5 20 rfl rfl)
theorem dX8_rule_137 : decode cX8_rule 137 = .ok (.dup, 1) := dk_89 (dk_at dksX8_rule_5 21 rfl rfl)
theorem dX8_rule_138 : decode cX8_rule 138 = .ok (.iconst 1, 1) := dk_4 (dk_at dksX8_rule_5 22 rfl rfl)
theorem dX8_rule_139 : decode cX8_rule 139 = .ok (.iload_n 3, 1) := dk_29 (dk_at dksX8_rule_5 23 rfl rfl)
theorem dX8_rule_140 : decode cX8_rule 140 = .ok (.iastore, 1) := dk_79 (dk_at dksX8_rule_6 0 rfl rfl)
theorem dX8_rule_141 : decode cX8_rule 141 = .ok (.dup, 1) := dk_89 (dk_at dksX8_rule_6 1 rfl rfl)
theorem dX8_rule_142 : decode cX8_rule 142 = .ok (.iconst 2, 1) := dk_5 (dk_at dksX8_rule_6 2 rfl rfl)
theorem dX8_rule_143 : decode cX8_rule 143 = .ok (.aload_n 0, 1) := dk_42 (dk_at dksX8_rule_6 3 rfl rfl)
theorem dX8_rule_144 : decode cX8_rule 144 = .ok (.iconst 0, 1) := dk_3 (dk_at dksX8_rule_6 4 rfl rfl)
theorem dX8_rule_145 : decode cX8_rule 145 = .ok (.bipush 6, 2) := dk_16 6 (dk_at dksX8_rule_6 5 rfl rfl)
theorem dX8_rule_147 : decode cX8_rule 147 = .ok (.invokevirtual 150, 3) := dk_182 0 150 (dk_at dksX8_rule_6 7 rfl rfl)
theorem dX8_rule_150 : decode cX8_rule 150 = .ok (.iastore, 1) := dk_79 (dk_at dksX8_rule_6 10 rfl rfl)
theorem dX8_rule_151 : decode cX8_rule 151 = .ok (.goto 14, 3) := dk_167 0 14 (dk_at dksX8_rule_6 11 rfl rfl)
theorem dX8_rule_154 : decode cX8_rule 154 = .ok (.iconst 2, 1) := dk_5 (dk_at dksX8_rule_6 14 rfl rfl)
theorem dX8_rule_155 : decode cX8_rule 155 = .ok (.newarray .int, 2) := dk_188_10 (dk_at dksX8_rule_6 15 rfl rfl)
theorem dX8_rule_157 : decode cX8_rule 157 = .ok (.dup, 1) := dk_89 (dk_at dksX8_rule_6 17 rfl rfl)
theorem dX8_rule_158 : decode cX8_rule 158 = .ok (.iconst 0, 1) := dk_3 (dk_at dksX8_rule_6 18 rfl rfl)
theorem dX8_rule_159 : decode cX8_rule 159 = .ok (.iload_n 2, 1) := dk_28 (dk_at dksX8_rule_6 19 rfl rfl)
theorem dX8_rule_160 : decode cX8_rule 160 = .ok (.iastore, 1) := dk_79 (dk_at dksX8_rule_6 20 rfl rfl)
theorem dX8_rule_161 : decode cX8_rule 161 = .ok (.dup, 1) := dk_89 (dk_at dksX8_rule_6 21 rfl rfl)
theorem dX8_rule_162 : decode cX8_rule 162 = .ok (.iconst 1, 1) := dk_4 (dk_at dksX8_rule_6 22 rfl rfl)
theorem dX8_rule_163 : decode cX8_rule 163 = .ok (.iload_n 3, 1) := dk_29 (dk_at dksX8_rule_6 23 rfl rfl)
theorem dX8_rule_164 : decode cX8_rule 164 = .ok (.iastore, 1) := dk_79 (dk_at dksX8_rule_7 0 rfl rfl)
theorem dX8_rule_165 : decode cX8_rule 165 = .ok (.invokespecial 176, 3) := dk_183 0 176 (dk_at dksX8_rule_7 1 rfl rfl)
theorem dX8_rule_168 : decode cX8_rule 168 = .ok (.areturn, 1) := dk_176 (dk_at dksX8_rule_7 4 rfl rfl)
abbrev cX8_cell : ByteArray := prog_12_method_8_code
def yX8_cell : MethodName := ⟨RX8, "cell", "()I"⟩
def dkwX8_cell_0 : List UInt8 := [42, 3, 42, 180, 0, 12, 180, 0, 153, 4, 100, 182, 0, 150, 172]
abbrev dktX8_cell_0 : List UInt8 := dkwX8_cell_0 ++ []
theorem dksX8_cell_0 : cX8_cell.data.toList.drop 0 = dktX8_cell_0 := by decide +kernel
theorem dX8_cell_0 : decode cX8_cell 0 = .ok (.aload_n 0, 1) := dk_42 (dk_at dksX8_cell_0 0 rfl rfl)
theorem dX8_cell_1 : decode cX8_cell 1 = .ok (.iconst 0, 1) := dk_3 (dk_at dksX8_cell_0 1 rfl rfl)
theorem dX8_cell_2 : decode cX8_cell 2 = .ok (.aload_n 0, 1) := dk_42 (dk_at dksX8_cell_0 2 rfl rfl)
theorem dX8_cell_3 : decode cX8_cell 3 = .ok (.getfield 12, 3) := dk_180 0 12 (dk_at dksX8_cell_0 3 rfl rfl)
theorem dX8_cell_6 : decode cX8_cell 6 = .ok (.getfield 153, 3) := dk_180 0 153 (dk_at dksX8_cell_0 6 rfl rfl)
theorem dX8_cell_9 : decode cX8_cell 9 = .ok (.iconst 1, 1) := dk_4 (dk_at dksX8_cell_0 9 rfl rfl)
theorem dX8_cell_10 : decode cX8_cell 10 = .ok (.isub, 1) := dk_100 (dk_at dksX8_cell_0 10 rfl rfl)
theorem dX8_cell_11 : decode cX8_cell 11 = .ok (.invokevirtual 150, 3) := dk_182 0 150 (dk_at dksX8_cell_0 11 rfl rfl)
theorem dX8_cell_14 : decode cX8_cell 14 = .ok (.ireturn, 1) := dk_172 (dk_at dksX8_cell_0 14 rfl rfl)
abbrev cX8_other : ByteArray := prog_12_method_9_code
def yX8_other : MethodName := ⟨RX8, "other", "(I)I"⟩
def dkwX8_other_2 : List UInt8 := [182, 0, 156, 172]
abbrev dktX8_other_2 : List UInt8 := dkwX8_other_2 ++ []
def dkwX8_other_1 : List UInt8 := [180, 0, 12, 180, 0, 153, 4, 100, 133, 184, 0, 102, 153, 0, 9, 42, 5, 182, 0, 142, 191, 42]
abbrev dktX8_other_1 : List UInt8 := dkwX8_other_1 ++ dktX8_other_2
def dkwX8_other_0 : List UInt8 := [42, 180, 0, 116, 5, 160, 0, 39, 42, 180, 0, 113, 27, 160, 0, 31, 42, 180, 0, 113, 133, 9, 42]
abbrev dktX8_other_0 : List UInt8 := dkwX8_other_0 ++ dktX8_other_1
theorem dksX8_other_0 : cX8_other.data.toList.drop 0 = dktX8_other_0 := by decide +kernel
theorem dksX8_other_1 : cX8_other.data.toList.drop 23 = dktX8_other_1 := dk_seg dksX8_other_0 23 rfl rfl
theorem dksX8_other_2 : cX8_other.data.toList.drop 45 = dktX8_other_2 := dk_seg dksX8_other_1 22 rfl rfl
theorem dX8_other_0 : decode cX8_other 0 = .ok (.aload_n 0, 1) := dk_42 (dk_at dksX8_other_0 0 rfl rfl)
theorem dX8_other_1 : decode cX8_other 1 = .ok (.getfield 116, 3) := dk_180 0 116 (dk_at dksX8_other_0 1 rfl rfl)
theorem dX8_other_4 : decode cX8_other 4 = .ok (.iconst 2, 1) := dk_5 (dk_at dksX8_other_0 4 rfl rfl)
theorem dX8_other_5 : decode cX8_other 5 = .ok (.if_icmp .ne 39, 3) := dk_160 0 39 (dk_at dksX8_other_0 5 rfl rfl)
theorem dX8_other_8 : decode cX8_other 8 = .ok (.aload_n 0, 1) := dk_42 (dk_at dksX8_other_0 8 rfl rfl)
theorem dX8_other_9 : decode cX8_other 9 = .ok (.getfield 113, 3) := dk_180 0 113 (dk_at dksX8_other_0 9 rfl rfl)
theorem dX8_other_12 : decode cX8_other 12 = .ok (.iload_n 1, 1) := dk_27 (dk_at dksX8_other_0 12 rfl rfl)
theorem dX8_other_13 : decode cX8_other 13 = .ok (.if_icmp .ne 31, 3) := dk_160 0 31 (dk_at dksX8_other_0 13 rfl rfl)
theorem dX8_other_16 : decode cX8_other 16 = .ok (.aload_n 0, 1) := dk_42 (dk_at dksX8_other_0 16 rfl rfl)
theorem dX8_other_17 : decode cX8_other 17 = .ok (.getfield 113, 3) := dk_180 0 113 (dk_at dksX8_other_0 17 rfl rfl)
theorem dX8_other_20 : decode cX8_other 20 = .ok (.i2l, 1) := dk_133 (dk_at dksX8_other_0 20 rfl rfl)
theorem dX8_other_21 : decode cX8_other 21 = .ok (.lconst 0, 1) := dk_9 (dk_at dksX8_other_0 21 rfl rfl)
theorem dX8_other_22 : decode cX8_other 22 = .ok (.aload_n 0, 1) := dk_42 (dk_at dksX8_other_0 22 rfl rfl)
theorem dX8_other_23 : decode cX8_other 23 = .ok (.getfield 12, 3) := dk_180 0 12 (dk_at dksX8_other_1 0 rfl rfl)
theorem dX8_other_26 : decode cX8_other 26 = .ok (.getfield 153, 3) := dk_180 0 153 (dk_at dksX8_other_1 3 rfl rfl)
theorem dX8_other_29 : decode cX8_other 29 = .ok (.iconst 1, 1) := dk_4 (dk_at dksX8_other_1 6 rfl rfl)
theorem dX8_other_30 : decode cX8_other 30 = .ok (.isub, 1) := dk_100 (dk_at dksX8_other_1 7 rfl rfl)
theorem dX8_other_31 : decode cX8_other 31 = .ok (.i2l, 1) := dk_133 (dk_at dksX8_other_1 8 rfl rfl)
theorem dX8_other_32 : decode cX8_other 32 = .ok (.invokestatic 102, 3) := dk_184 0 102 (dk_at dksX8_other_1 9 rfl rfl)
theorem dX8_other_35 : decode cX8_other 35 = .ok (.ifCond .eq 9, 3) := dk_153 0 9 (dk_at dksX8_other_1 12 rfl rfl)
theorem dX8_other_38 : decode cX8_other 38 = .ok (.aload_n 0, 1) := dk_42 (dk_at dksX8_other_1 15 rfl rfl)
theorem dX8_other_39 : decode cX8_other 39 = .ok (.iconst 2, 1) := dk_5 (dk_at dksX8_other_1 16 rfl rfl)
theorem dX8_other_40 : decode cX8_other 40 = .ok (.invokevirtual 142, 3) := dk_182 0 142 (dk_at dksX8_other_1 17 rfl rfl)
theorem dX8_other_43 : decode cX8_other 43 = .ok (.athrow, 1) := dk_191 (dk_at dksX8_other_1 20 rfl rfl)
theorem dX8_other_44 : decode cX8_other 44 = .ok (.aload_n 0, 1) := dk_42 (dk_at dksX8_other_1 21 rfl rfl)
theorem dX8_other_45 : decode cX8_other 45 = .ok (.invokevirtual 156, 3) := dk_182 0 156 (dk_at dksX8_other_2 0 rfl rfl)
theorem dX8_other_48 : decode cX8_other 48 = .ok (.ireturn, 1) := dk_172 (dk_at dksX8_other_2 3 rfl rfl)
abbrev cX8_op : ByteArray := prog_12_method_12_code
def yX8_op : MethodName := ⟨RX8, "op", "()LMergeJudge$Told;"⟩
def dkwX8_op_4 : List UInt8 := [79, 183, 0, 176, 176]
abbrev dktX8_op_4 : List UInt8 := dkwX8_op_4 ++ []
def dkwX8_op_3 : List UInt8 := [188, 10, 89, 3, 28, 79, 89, 4, 29, 79, 89, 5, 42, 4, 42, 180, 0, 12, 180, 0, 173, 182, 0, 150]
abbrev dktX8_op_3 : List UInt8 := dkwX8_op_3 ++ dktX8_op_4
def dkwX8_op_2 : List UInt8 := [180, 0, 173, 182, 0, 150, 79, 183, 0, 176, 176, 42, 28, 182, 0, 179, 62, 187, 0, 171, 89, 27, 6]
abbrev dktX8_op_2 : List UInt8 := dkwX8_op_2 ++ dktX8_op_3
def dkwX8_op_1 : List UInt8 := [5, 188, 10, 89, 3, 28, 79, 89, 4, 42, 27, 5, 160, 0, 7, 3, 167, 0, 4, 4, 42, 180, 0, 12]
abbrev dktX8_op_1 : List UInt8 := dkwX8_op_1 ++ dktX8_op_2
def dkwX8_op_0 : List UInt8 := [42, 42, 180, 0, 28, 182, 0, 167, 60, 42, 182, 0, 156, 61, 27, 6, 162, 0, 43, 187, 0, 171, 89, 27]
abbrev dktX8_op_0 : List UInt8 := dkwX8_op_0 ++ dktX8_op_1
theorem dksX8_op_0 : cX8_op.data.toList.drop 0 = dktX8_op_0 := by decide +kernel
theorem dksX8_op_1 : cX8_op.data.toList.drop 24 = dktX8_op_1 := dk_seg dksX8_op_0 24 rfl rfl
theorem dksX8_op_2 : cX8_op.data.toList.drop 48 = dktX8_op_2 := dk_seg dksX8_op_1 24 rfl rfl
theorem dksX8_op_3 : cX8_op.data.toList.drop 71 = dktX8_op_3 := dk_seg dksX8_op_2 23 rfl rfl
theorem dksX8_op_4 : cX8_op.data.toList.drop 95 = dktX8_op_4 := dk_seg dksX8_op_3 24 rfl rfl
theorem dX8_op_0 : decode cX8_op 0 = .ok (.aload_n 0, 1) := dk_42 (dk_at dksX8_op_0 0 rfl rfl)
theorem dX8_op_1 : decode cX8_op 1 = .ok (.aload_n 0, 1) := dk_42 (dk_at dksX8_op_0 1 rfl rfl)
theorem dX8_op_2 : decode cX8_op 2 = .ok (.getfield 28, 3) := dk_180 0 28 (dk_at dksX8_op_0 2 rfl rfl)
theorem dX8_op_5 : decode cX8_op 5 = .ok (.invokevirtual 167, 3) := dk_182 0 167 (dk_at dksX8_op_0 5 rfl rfl)
theorem dX8_op_8 : decode cX8_op 8 = .ok (.istore_n 1, 1) := dk_60 (dk_at dksX8_op_0 8 rfl rfl)
theorem dX8_op_9 : decode cX8_op 9 = .ok (.aload_n 0, 1) := dk_42 (dk_at dksX8_op_0 9 rfl rfl)
theorem dX8_op_10 : decode cX8_op 10 = .ok (.invokevirtual 156, 3) := dk_182 0 156 (dk_at dksX8_op_0 10 rfl rfl)
theorem dX8_op_13 : decode cX8_op 13 = .ok (.istore_n 2, 1) := dk_61 (dk_at dksX8_op_0 13 rfl rfl)
theorem dX8_op_14 : decode cX8_op 14 = .ok (.iload_n 1, 1) := dk_27 (dk_at dksX8_op_0 14 rfl rfl)
theorem dX8_op_15 : decode cX8_op 15 = .ok (.iconst 3, 1) := dk_6 (dk_at dksX8_op_0 15 rfl rfl)
theorem dX8_op_16 : decode cX8_op 16 = .ok (.if_icmp .ge 43, 3) := dk_162 0 43 (dk_at dksX8_op_0 16 rfl rfl)
theorem dX8_op_19 : decode cX8_op 19 = .ok (.new 171, 3) := dk_187 0 171 (dk_at dksX8_op_0 19 rfl rfl)
theorem dX8_op_22 : decode cX8_op 22 = .ok (.dup, 1) := dk_89 (dk_at dksX8_op_0 22 rfl rfl)
theorem dX8_op_23 : decode cX8_op 23 = .ok (.iload_n 1, 1) := dk_27 (dk_at dksX8_op_0 23 rfl rfl)
theorem dX8_op_24 : decode cX8_op 24 = .ok (.iconst 2, 1) := dk_5 (dk_at dksX8_op_1 0 rfl rfl)
theorem dX8_op_25 : decode cX8_op 25 = .ok (.newarray .int, 2) := dk_188_10 (dk_at dksX8_op_1 1 rfl rfl)
theorem dX8_op_27 : decode cX8_op 27 = .ok (.dup, 1) := dk_89 (dk_at dksX8_op_1 3 rfl rfl)
theorem dX8_op_28 : decode cX8_op 28 = .ok (.iconst 0, 1) := dk_3 (dk_at dksX8_op_1 4 rfl rfl)
theorem dX8_op_29 : decode cX8_op 29 = .ok (.iload_n 2, 1) := dk_28 (dk_at dksX8_op_1 5 rfl rfl)
theorem dX8_op_30 : decode cX8_op 30 = .ok (.iastore, 1) := dk_79 (dk_at dksX8_op_1 6 rfl rfl)
theorem dX8_op_31 : decode cX8_op 31 = .ok (.dup, 1) := dk_89 (dk_at dksX8_op_1 7 rfl rfl)
theorem dX8_op_32 : decode cX8_op 32 = .ok (.iconst 1, 1) := dk_4 (dk_at dksX8_op_1 8 rfl rfl)
theorem dX8_op_33 : decode cX8_op 33 = .ok (.aload_n 0, 1) := dk_42 (dk_at dksX8_op_1 9 rfl rfl)
theorem dX8_op_34 : decode cX8_op 34 = .ok (.iload_n 1, 1) := dk_27 (dk_at dksX8_op_1 10 rfl rfl)
theorem dX8_op_35 : decode cX8_op 35 = .ok (.iconst 2, 1) := dk_5 (dk_at dksX8_op_1 11 rfl rfl)
theorem dX8_op_36 : decode cX8_op 36 = .ok (.if_icmp .ne 7, 3) := dk_160 0 7 (dk_at dksX8_op_1 12 rfl rfl)
theorem dX8_op_39 : decode cX8_op 39 = .ok (.iconst 0, 1) := dk_3 (dk_at dksX8_op_1 15 rfl rfl)
theorem dX8_op_40 : decode cX8_op 40 = .ok (.goto 4, 3) := dk_167 0 4 (dk_at dksX8_op_1 16 rfl rfl)
theorem dX8_op_43 : decode cX8_op 43 = .ok (.iconst 1, 1) := dk_4 (dk_at dksX8_op_1 19 rfl rfl)
theorem dX8_op_44 : decode cX8_op 44 = .ok (.aload_n 0, 1) := dk_42 (dk_at dksX8_op_1 20 rfl rfl)
theorem dX8_op_45 : decode cX8_op 45 = .ok (.getfield 12, 3) := dk_180 0 12 (dk_at dksX8_op_1 21 rfl rfl)
theorem dX8_op_48 : decode cX8_op 48 = .ok (.getfield 173, 3) := dk_180 0 173 (dk_at dksX8_op_2 0 rfl rfl)
theorem dX8_op_51 : decode cX8_op 51 = .ok (.invokevirtual 150, 3) := dk_182 0 150 (dk_at dksX8_op_2 3 rfl rfl)
theorem dX8_op_54 : decode cX8_op 54 = .ok (.iastore, 1) := dk_79 (dk_at dksX8_op_2 6 rfl rfl)
theorem dX8_op_55 : decode cX8_op 55 = .ok (.invokespecial 176, 3) := dk_183 0 176 (dk_at dksX8_op_2 7 rfl rfl)
theorem dX8_op_58 : decode cX8_op 58 = .ok (.areturn, 1) := dk_176 (dk_at dksX8_op_2 10 rfl rfl)
theorem dX8_op_59 : decode cX8_op 59 = .ok (.aload_n 0, 1) := dk_42 (dk_at dksX8_op_2 11 rfl rfl)
theorem dX8_op_60 : decode cX8_op 60 = .ok (.iload_n 2, 1) := dk_28 (dk_at dksX8_op_2 12 rfl rfl)
theorem dX8_op_61 : decode cX8_op 61 = .ok (.invokevirtual 179, 3) := dk_182 0 179 (dk_at dksX8_op_2 13 rfl rfl)
theorem dX8_op_64 : decode cX8_op 64 = .ok (.istore_n 3, 1) := dk_62 (dk_at dksX8_op_2 16 rfl rfl)
theorem dX8_op_65 : decode cX8_op 65 = .ok (.new 171, 3) := dk_187 0 171 (dk_at dksX8_op_2 17 rfl rfl)
theorem dX8_op_68 : decode cX8_op 68 = .ok (.dup, 1) := dk_89 (dk_at dksX8_op_2 20 rfl rfl)
theorem dX8_op_69 : decode cX8_op 69 = .ok (.iload_n 1, 1) := dk_27 (dk_at dksX8_op_2 21 rfl rfl)
theorem dX8_op_70 : decode cX8_op 70 = .ok (.iconst 3, 1) := dk_6 (dk_at dksX8_op_2 22 rfl rfl)
theorem dX8_op_71 : decode cX8_op 71 = .ok (.newarray .int, 2) := dk_188_10 (dk_at dksX8_op_3 0 rfl rfl)
theorem dX8_op_73 : decode cX8_op 73 = .ok (.dup, 1) := dk_89 (dk_at dksX8_op_3 2 rfl rfl)
theorem dX8_op_74 : decode cX8_op 74 = .ok (.iconst 0, 1) := dk_3 (dk_at dksX8_op_3 3 rfl rfl)
theorem dX8_op_75 : decode cX8_op 75 = .ok (.iload_n 2, 1) := dk_28 (dk_at dksX8_op_3 4 rfl rfl)
theorem dX8_op_76 : decode cX8_op 76 = .ok (.iastore, 1) := dk_79 (dk_at dksX8_op_3 5 rfl rfl)
theorem dX8_op_77 : decode cX8_op 77 = .ok (.dup, 1) := dk_89 (dk_at dksX8_op_3 6 rfl rfl)
theorem dX8_op_78 : decode cX8_op 78 = .ok (.iconst 1, 1) := dk_4 (dk_at dksX8_op_3 7 rfl rfl)
theorem dX8_op_79 : decode cX8_op 79 = .ok (.iload_n 3, 1) := dk_29 (dk_at dksX8_op_3 8 rfl rfl)
theorem dX8_op_80 : decode cX8_op 80 = .ok (.iastore, 1) := dk_79 (dk_at dksX8_op_3 9 rfl rfl)
theorem dX8_op_81 : decode cX8_op 81 = .ok (.dup, 1) := dk_89 (dk_at dksX8_op_3 10 rfl rfl)
theorem dX8_op_82 : decode cX8_op 82 = .ok (.iconst 2, 1) := dk_5 (dk_at dksX8_op_3 11 rfl rfl)
theorem dX8_op_83 : decode cX8_op 83 = .ok (.aload_n 0, 1) := dk_42 (dk_at dksX8_op_3 12 rfl rfl)
theorem dX8_op_84 : decode cX8_op 84 = .ok (.iconst 1, 1) := dk_4 (dk_at dksX8_op_3 13 rfl rfl)
theorem dX8_op_85 : decode cX8_op 85 = .ok (.aload_n 0, 1) := dk_42 (dk_at dksX8_op_3 14 rfl rfl)
theorem dX8_op_86 : decode cX8_op 86 = .ok (.getfield 12, 3) := dk_180 0 12 (dk_at dksX8_op_3 15 rfl rfl)
theorem dX8_op_89 : decode cX8_op 89 = .ok (.getfield 173, 3) := dk_180 0 173 (dk_at dksX8_op_3 18 rfl rfl)
theorem dX8_op_92 : decode cX8_op 92 = .ok (.invokevirtual 150, 3) := dk_182 0 150 (dk_at dksX8_op_3 21 rfl rfl)
theorem dX8_op_95 : decode cX8_op 95 = .ok (.iastore, 1) := dk_79 (dk_at dksX8_op_4 0 rfl rfl)
theorem dX8_op_96 : decode cX8_op 96 = .ok (.invokespecial 176, 3) := dk_183 0 176 (dk_at dksX8_op_4 1 rfl rfl)
theorem dX8_op_99 : decode cX8_op 99 = .ok (.areturn, 1) := dk_176 (dk_at dksX8_op_4 4 rfl rfl)
theorem q179 : (Jvm.Cond.initialized "MergeJudge$Reader") ∈ lw_all := lw_g (lw_at lw_m1 13 rfl) rfl
theorem q477 : (Jvm.Cond.fieldLinkNest "MergeJudge$Reader" (194 : Nat) "MergeJudge$Base" "rules" "Ljava/util/List;" "MergeJudge") ∈ lw_tbl := lw_at lw_m2 71 rfl
theorem q482 : (Jvm.Cond.fieldLinkNest "MergeJudge$Reader" (209 : Nat) "MergeJudge$Base" "ops" "Ljava/util/List;" "MergeJudge") ∈ lw_tbl := lw_at lw_m2 76 rfl
theorem q487 : (Jvm.Cond.fieldLinkNest "MergeJudge$Reader" (188 : Nat) "MergeJudge$Base" "kinds" "[I" "MergeJudge") ∈ lw_tbl := lw_at lw_m2 81 rfl
theorem q491 : (Jvm.Cond.fieldLinkNest "MergeJudge$Reader" (173 : Nat) "MergeJudge$Base" "top" "I" "MergeJudge") ∈ lw_tbl := lw_at lw_m2 85 rfl
theorem q493 : (Jvm.Cond.fieldLinkNest "MergeJudge$Reader" (221 : Nat) "MergeJudge$Base" "law" "I" "MergeJudge") ∈ lw_tbl := lw_at lw_m2 87 rfl
theorem q496 : (Jvm.Cond.fieldLinkNest "MergeJudge$Reader" (225 : Nat) "MergeJudge$Base" "odds" "I" "MergeJudge") ∈ lw_tbl := lw_at lw_m2 90 rfl
theorem q499 : (Jvm.Cond.fieldLinkNest "MergeJudge$Reader" (153 : Nat) "MergeJudge$Base" "cells" "I" "MergeJudge") ∈ lw_tbl := lw_at lw_m2 93 rfl
theorem q507 : (Jvm.Cond.fieldLinkNest "MergeJudge$Reader" (227 : Nat) "MergeJudge$Base" "lines" "I" "MergeJudge") ∈ lw_tbl := lw_at lw_m2 101 rfl
theorem q730 : (Jvm.Cond.instantiable "MergeJudge$Reader" (12 : Nat)) ∈ lw_all := lw_g (lw_at lw_m3 84 rfl) rfl
theorem q732 : (Jvm.Cond.instanceMethod ({ cls := "MergeJudge$Reader", name := "<init>", desc := "([BI)V" } : Jvm.MethodName)) ∈ lw_all := lw_g (lw_at lw_m3 86 rfl) rfl
theorem q733 : (Jvm.Cond.code ({ cls := "MergeJudge$Reader", name := "<init>", desc := "([BI)V" } : Jvm.MethodName) prog_12_method_1_code (3 : Nat) (Option.none : Option Jvm.ClassFile.FieldType)) ∈ lw_all := lw_g (lw_at lw_m3 87 rfl) rfl
theorem q734 : (Jvm.Cond.methodLink "MergeJudge$Reader" (3 : Nat) ({ cls := "java/lang/Object", name := "<init>", desc := "()V" } : Jvm.MethodName)) ∈ lw_all := lw_g (lw_at lw_m3 88 rfl) rfl
theorem q735 : (Jvm.Cond.classLink "MergeJudge$Reader" (9 : Nat) "MergeJudge$Base") ∈ lw_all := lw_g (lw_at lw_m3 89 rfl) rfl
theorem q736 : (Jvm.Cond.methodLinkNest "MergeJudge$Reader" (11 : Nat) ({ cls := "MergeJudge$Base", name := "<init>", desc := "()V" } : Jvm.MethodName) "MergeJudge") ∈ lw_tbl := lw_at lw_m3 90 rfl
theorem q737 : (Jvm.Cond.classLink "MergeJudge$Reader" (18 : Nat) "java/util/HashMap") ∈ lw_all := lw_g (lw_at lw_m3 91 rfl) rfl
theorem q739 : (Jvm.Cond.methodLink "MergeJudge$Reader" (20 : Nat) ({ cls := "java/util/HashMap", name := "<init>", desc := "()V" } : Jvm.MethodName)) ∈ lw_all := lw_g (lw_at lw_m3 93 rfl) rfl
theorem q769 : (Jvm.Cond.classLink "MergeJudge$Reader" (31 : Nat) "java/lang/StringBuilder") ∈ lw_all := lw_g (lw_at lw_m3 123 rfl) rfl
theorem q771 : (Jvm.Cond.methodLink "MergeJudge$Reader" (33 : Nat) ({ cls := "java/lang/StringBuilder", name := "<init>", desc := "()V" } : Jvm.MethodName)) ∈ lw_all := lw_g (lw_at lw_m3 125 rfl) rfl
theorem q806 : (Jvm.Cond.stringRef "MergeJudge$Reader" (38 : Nat) "") ∈ lw_tbl := lw_at lw_m3 160 rfl
theorem q807 : (Jvm.Cond.classLink "MergeJudge$Reader" (52 : Nat) "java/lang/String") ∈ lw_all := lw_g (lw_at lw_m3 161 rfl) rfl
theorem q809 : (Jvm.Cond.stringRef "MergeJudge$Reader" (54 : Nat) "max") ∈ lw_tbl := lw_at lw_m3 163 rfl
theorem q810 : (Jvm.Cond.stringRef "MergeJudge$Reader" (56 : Nat) "min") ∈ lw_tbl := lw_at lw_m3 164 rfl
theorem q811 : (Jvm.Cond.stringRef "MergeJudge$Reader" (58 : Nat) "add") ∈ lw_tbl := lw_at lw_m3 165 rfl
theorem q812 : (Jvm.Cond.stringRef "MergeJudge$Reader" (60 : Nat) "late") ∈ lw_tbl := lw_at lw_m3 166 rfl
theorem q813 : (Jvm.Cond.methodLink "MergeJudge$Reader" (62 : Nat) ({ cls := "MergeJudge$Reader", name := "lays", desc := "(Ljava/util/HashMap;[Ljava/lang/String;)V" } : Jvm.MethodName)) ∈ lw_all := lw_g (lw_at lw_m3 167 rfl) rfl
theorem q814 : (Jvm.Cond.static ({ cls := "MergeJudge$Reader", name := "lays", desc := "(Ljava/util/HashMap;[Ljava/lang/String;)V" } : Jvm.MethodName)) ∈ lw_all := lw_g (lw_at lw_m3 168 rfl) rfl
theorem q815 : (Jvm.Cond.code ({ cls := "MergeJudge$Reader", name := "lays", desc := "(Ljava/util/HashMap;[Ljava/lang/String;)V" } : Jvm.MethodName) prog_12_method_2_code (3 : Nat) (Option.none : Option Jvm.ClassFile.FieldType)) ∈ lw_all := lw_g (lw_at lw_m3 169 rfl) rfl
theorem q816 : (Jvm.Cond.methodLink "MergeJudge$Reader" (89 : Nat) ({ cls := "java/lang/Integer", name := "valueOf", desc := "(I)Ljava/lang/Integer;" } : Jvm.MethodName)) ∈ lw_all := lw_g (lw_at lw_m3 170 rfl) rfl
theorem q836 : (Jvm.Cond.methodLink "MergeJudge$Reader" (95 : Nat) ({ cls := "java/util/HashMap", name := "put", desc := "(Ljava/lang/Object;Ljava/lang/Object;)Ljava/lang/Object;" } : Jvm.MethodName)) ∈ lw_all := lw_g (lw_at lw_m3 190 rfl) rfl
theorem q857 : (Jvm.Cond.selects "MergeJudge$Reader" ({ cls := "java/lang/Object", name := "hashCode", desc := "()I" } : Jvm.MethodName) ({ cls := "java/lang/Object", name := "hashCode", desc := "()I" } : Jvm.MethodName)) ∈ lw_all := lw_g (lw_at lw_m3 211 rfl) rfl
theorem q1020 : (Jvm.Cond.selects "MergeJudge$Reader" ({ cls := "java/lang/Object", name := "getClass", desc := "()Ljava/lang/Class;" } : Jvm.MethodName) ({ cls := "java/lang/Object", name := "getClass", desc := "()Ljava/lang/Class;" } : Jvm.MethodName)) ∈ lw_all := lw_g (lw_at lw_m4 134 rfl) rfl
theorem q1290 : (Jvm.Cond.selects "MergeJudge$Reader" ({ cls := "java/lang/Object", name := "equals", desc := "(Ljava/lang/Object;)Z" } : Jvm.MethodName) ({ cls := "java/lang/Object", name := "equals", desc := "(Ljava/lang/Object;)Z" } : Jvm.MethodName)) ∈ lw_all := lw_g (lw_at lw_m5 164 rfl) rfl
theorem q1386 : (Jvm.Cond.stringRef "MergeJudge$Reader" (66 : Nat) "most") ∈ lw_tbl := lw_at lw_m6 20 rfl
theorem q1387 : (Jvm.Cond.stringRef "MergeJudge$Reader" (68 : Nat) "least") ∈ lw_tbl := lw_at lw_m6 21 rfl
theorem q1388 : (Jvm.Cond.stringRef "MergeJudge$Reader" (70 : Nat) "unlike") ∈ lw_tbl := lw_at lw_m6 22 rfl
theorem q1389 : (Jvm.Cond.stringRef "MergeJudge$Reader" (72 : Nat) "sum") ∈ lw_tbl := lw_at lw_m6 23 rfl
theorem q1390 : (Jvm.Cond.stringRef "MergeJudge$Reader" (74 : Nat) "order") ∈ lw_tbl := lw_at lw_m6 24 rfl
theorem q1391 : (Jvm.Cond.stringRef "MergeJudge$Reader" (76 : Nat) "if") ∈ lw_tbl := lw_at lw_m6 25 rfl
theorem q1392 : (Jvm.Cond.stringRef "MergeJudge$Reader" (78 : Nat) "more") ∈ lw_tbl := lw_at lw_m6 26 rfl
theorem q1393 : (Jvm.Cond.stringRef "MergeJudge$Reader" (80 : Nat) "less") ∈ lw_tbl := lw_at lw_m6 27 rfl
theorem q1394 : (Jvm.Cond.stringRef "MergeJudge$Reader" (82 : Nat) "set") ∈ lw_tbl := lw_at lw_m6 28 rfl
theorem q1395 : (Jvm.Cond.stringRef "MergeJudge$Reader" (84 : Nat) "move") ∈ lw_tbl := lw_at lw_m6 29 rfl
theorem q1396 : (Jvm.Cond.methodLink "MergeJudge$Reader" (86 : Nat) ({ cls := "MergeJudge$Reader", name := "next", desc := "()V" } : Jvm.MethodName)) ∈ lw_all := lw_g (lw_at lw_m6 30 rfl) rfl
theorem q1397 : (Jvm.Cond.privateMethod ({ cls := "MergeJudge$Reader", name := "next", desc := "()V" } : Jvm.MethodName)) ∈ lw_tbl := lw_at lw_m6 31 rfl
theorem q1398 : (Jvm.Cond.instanceMethod ({ cls := "MergeJudge$Reader", name := "next", desc := "()V" } : Jvm.MethodName)) ∈ lw_all := lw_g (lw_at lw_m6 32 rfl) rfl
theorem q1399 : (Jvm.Cond.code ({ cls := "MergeJudge$Reader", name := "next", desc := "()V" } : Jvm.MethodName) prog_12_method_4_code (1 : Nat) (Option.none : Option Jvm.ClassFile.FieldType)) ∈ lw_all := lw_g (lw_at lw_m6 33 rfl) rfl
theorem q1400 : (Jvm.Cond.methodLink "MergeJudge$Reader" (106 : Nat) ({ cls := "MergeJudge$Reader", name := "isAt", desc := "(II)Z" } : Jvm.MethodName)) ∈ lw_all := lw_g (lw_at lw_m6 34 rfl) rfl
theorem q1401 : (Jvm.Cond.privateMethod ({ cls := "MergeJudge$Reader", name := "isAt", desc := "(II)Z" } : Jvm.MethodName)) ∈ lw_tbl := lw_at lw_m6 35 rfl
theorem q1402 : (Jvm.Cond.instanceMethod ({ cls := "MergeJudge$Reader", name := "isAt", desc := "(II)Z" } : Jvm.MethodName)) ∈ lw_all := lw_g (lw_at lw_m6 36 rfl) rfl
theorem q1403 : (Jvm.Cond.code ({ cls := "MergeJudge$Reader", name := "isAt", desc := "(II)Z" } : Jvm.MethodName) prog_12_method_3_code (3 : Nat) (Option.some Jvm.ClassFile.FieldType.boolean)) ∈ lw_all := lw_g (lw_at lw_m6 37 rfl) rfl
theorem q1404 : (Jvm.Cond.methodLinkNest "MergeJudge$Reader" (102 : Nat) ({ cls := "MergeJudge", name := "in", desc := "(JJJ)Z" } : Jvm.MethodName) "MergeJudge") ∈ lw_tbl := lw_at lw_m6 38 rfl
theorem q1405 : (Jvm.Cond.methodLink "MergeJudge$Reader" (119 : Nat) ({ cls := "java/lang/StringBuilder", name := "setLength", desc := "(I)V" } : Jvm.MethodName)) ∈ lw_all := lw_g (lw_at lw_m6 39 rfl) rfl
theorem q1620 : (Jvm.Cond.methodLink "MergeJudge$Reader" (123 : Nat) ({ cls := "java/lang/StringBuilder", name := "append", desc := "(C)Ljava/lang/StringBuilder;" } : Jvm.MethodName)) ∈ lw_all := lw_g (lw_at lw_m7 14 rfl) rfl
theorem q1642 : (Jvm.Cond.methodLink "MergeJudge$Reader" (127 : Nat) ({ cls := "java/lang/StringBuilder", name := "toString", desc := "()Ljava/lang/String;" } : Jvm.MethodName)) ∈ lw_all := lw_g (lw_at lw_m7 36 rfl) rfl
theorem q1643 : (Jvm.Cond.constant "MergeJudge$Reader" (131 : Nat) (99999 : Int32)) ∈ lw_all := lw_g (lw_at lw_m7 37 rfl) rfl
theorem q1644 : (Jvm.Cond.methodLink "MergeJudge$Reader" (132 : Nat) ({ cls := "java/lang/Math", name := "min", desc := "(II)I" } : Jvm.MethodName)) ∈ lw_all := lw_g (lw_at lw_m7 38 rfl) rfl
theorem q1645 : (Jvm.Cond.fieldLink "MergeJudge$Reader" (44 : Nat) "MergeJudge$Reader" "text" "[B") ∈ lw_all := lw_g (lw_at lw_m7 39 rfl) rfl
theorem q1646 : (Jvm.Cond.fieldLink "MergeJudge$Reader" (48 : Nat) "MergeJudge$Reader" "many" "I") ∈ lw_all := lw_g (lw_at lw_m7 40 rfl) rfl
theorem q1647 : (Jvm.Cond.fieldLink "MergeJudge$Reader" (12 : Nat) "MergeJudge$Reader" "b" "LMergeJudge$Base;") ∈ lw_all := lw_g (lw_at lw_m7 41 rfl) rfl
theorem q1648 : (Jvm.Cond.fieldLink "MergeJudge$Reader" (21 : Nat) "MergeJudge$Reader" "merges" "Ljava/util/HashMap;") ∈ lw_all := lw_g (lw_at lw_m7 42 rfl) rfl
theorem q1649 : (Jvm.Cond.fieldLink "MergeJudge$Reader" (25 : Nat) "MergeJudge$Reader" "rules" "Ljava/util/HashMap;") ∈ lw_all := lw_g (lw_at lw_m7 43 rfl) rfl
theorem q1650 : (Jvm.Cond.fieldLink "MergeJudge$Reader" (28 : Nat) "MergeJudge$Reader" "ops" "Ljava/util/HashMap;") ∈ lw_all := lw_g (lw_at lw_m7 44 rfl) rfl
theorem q1651 : (Jvm.Cond.fieldLink "MergeJudge$Reader" (34 : Nat) "MergeJudge$Reader" "letters" "Ljava/lang/StringBuilder;") ∈ lw_all := lw_g (lw_at lw_m7 45 rfl) rfl
theorem q1652 : (Jvm.Cond.fieldLink "MergeJudge$Reader" (40 : Nat) "MergeJudge$Reader" "word" "Ljava/lang/String;") ∈ lw_all := lw_g (lw_at lw_m7 46 rfl) rfl
theorem q1653 : (Jvm.Cond.fieldLink "MergeJudge$Reader" (99 : Nat) "MergeJudge$Reader" "at" "I") ∈ lw_all := lw_g (lw_at lw_m7 47 rfl) rfl
theorem q1654 : (Jvm.Cond.fieldLink "MergeJudge$Reader" (110 : Nat) "MergeJudge$Reader" "begin" "I") ∈ lw_all := lw_g (lw_at lw_m7 48 rfl) rfl
theorem q1655 : (Jvm.Cond.fieldLink "MergeJudge$Reader" (116 : Nat) "MergeJudge$Reader" "token" "I") ∈ lw_all := lw_g (lw_at lw_m7 49 rfl) rfl
theorem q1656 : (Jvm.Cond.fieldLink "MergeJudge$Reader" (113 : Nat) "MergeJudge$Reader" "value" "I") ∈ lw_all := lw_g (lw_at lw_m7 50 rfl) rfl
theorem q1657 : (Jvm.Cond.laysFinal "MergeJudge$Reader" "MergeJudge$Reader" "text" "[B") ∈ lw_all := lw_g (lw_at lw_m7 51 rfl) rfl
theorem q1658 : (Jvm.Cond.soleField "MergeJudge$Reader" "text") ∈ lw_all := lw_g (lw_at lw_m7 52 rfl) rfl
theorem q1659 : (Jvm.Cond.laysFinal "MergeJudge$Reader" "MergeJudge$Reader" "many" "I") ∈ lw_all := lw_g (lw_at lw_m7 53 rfl) rfl
theorem q1660 : (Jvm.Cond.soleField "MergeJudge$Reader" "many") ∈ lw_all := lw_g (lw_at lw_m7 54 rfl) rfl
theorem q1661 : (Jvm.Cond.laysFinal "MergeJudge$Reader" "MergeJudge$Reader" "b" "LMergeJudge$Base;") ∈ lw_all := lw_g (lw_at lw_m7 55 rfl) rfl
theorem q1662 : (Jvm.Cond.soleField "MergeJudge$Reader" "b") ∈ lw_all := lw_g (lw_at lw_m7 56 rfl) rfl
theorem q1663 : (Jvm.Cond.laysFinal "MergeJudge$Reader" "MergeJudge$Reader" "merges" "Ljava/util/HashMap;") ∈ lw_all := lw_g (lw_at lw_m7 57 rfl) rfl
theorem q1664 : (Jvm.Cond.soleField "MergeJudge$Reader" "merges") ∈ lw_all := lw_g (lw_at lw_m7 58 rfl) rfl
theorem q1665 : (Jvm.Cond.laysFinal "MergeJudge$Reader" "MergeJudge$Reader" "rules" "Ljava/util/HashMap;") ∈ lw_all := lw_g (lw_at lw_m7 59 rfl) rfl
theorem q1666 : (Jvm.Cond.soleField "MergeJudge$Reader" "rules") ∈ lw_all := lw_g (lw_at lw_m7 60 rfl) rfl
theorem q1667 : (Jvm.Cond.laysFinal "MergeJudge$Reader" "MergeJudge$Reader" "ops" "Ljava/util/HashMap;") ∈ lw_all := lw_g (lw_at lw_m7 61 rfl) rfl
theorem q1668 : (Jvm.Cond.soleField "MergeJudge$Reader" "ops") ∈ lw_all := lw_g (lw_at lw_m7 62 rfl) rfl
theorem q1669 : (Jvm.Cond.laysFinal "MergeJudge$Reader" "MergeJudge$Reader" "letters" "Ljava/lang/StringBuilder;") ∈ lw_all := lw_g (lw_at lw_m7 63 rfl) rfl
theorem q1670 : (Jvm.Cond.soleField "MergeJudge$Reader" "letters") ∈ lw_all := lw_g (lw_at lw_m7 64 rfl) rfl
theorem q1671 : (Jvm.Cond.lays "MergeJudge$Reader" "MergeJudge$Reader" "word" "Ljava/lang/String;") ∈ lw_all := lw_g (lw_at lw_m7 65 rfl) rfl
theorem q1672 : (Jvm.Cond.soleField "MergeJudge$Reader" "word") ∈ lw_all := lw_g (lw_at lw_m7 66 rfl) rfl
theorem q1673 : (Jvm.Cond.lays "MergeJudge$Reader" "MergeJudge$Reader" "at" "I") ∈ lw_all := lw_g (lw_at lw_m7 67 rfl) rfl
theorem q1674 : (Jvm.Cond.soleField "MergeJudge$Reader" "at") ∈ lw_all := lw_g (lw_at lw_m7 68 rfl) rfl
theorem q1675 : (Jvm.Cond.lays "MergeJudge$Reader" "MergeJudge$Reader" "begin" "I") ∈ lw_all := lw_g (lw_at lw_m7 69 rfl) rfl
theorem q1676 : (Jvm.Cond.soleField "MergeJudge$Reader" "begin") ∈ lw_all := lw_g (lw_at lw_m7 70 rfl) rfl
theorem q1677 : (Jvm.Cond.lays "MergeJudge$Reader" "MergeJudge$Reader" "token" "I") ∈ lw_all := lw_g (lw_at lw_m7 71 rfl) rfl
theorem q1678 : (Jvm.Cond.soleField "MergeJudge$Reader" "token") ∈ lw_all := lw_g (lw_at lw_m7 72 rfl) rfl
theorem q1679 : (Jvm.Cond.lays "MergeJudge$Reader" "MergeJudge$Reader" "value" "I") ∈ lw_all := lw_g (lw_at lw_m7 73 rfl) rfl
theorem q1680 : (Jvm.Cond.soleField "MergeJudge$Reader" "value") ∈ lw_all := lw_g (lw_at lw_m7 74 rfl) rfl
theorem q1681 : (Jvm.Cond.superclass "MergeJudge$Reader" "java/lang/Object") ∈ lw_all := lw_g (lw_at lw_m7 75 rfl) rfl
theorem q1683 : (Jvm.Cond.instanceMethod ({ cls := "MergeJudge$Reader", name := "reads", desc := "()LMergeJudge$Base;" } : Jvm.MethodName)) ∈ lw_all := lw_g (lw_at lw_m7 77 rfl) rfl
theorem q1684 : (Jvm.Cond.selects "MergeJudge$Reader" ({ cls := "MergeJudge$Reader", name := "reads", desc := "()LMergeJudge$Base;" } : Jvm.MethodName) ({ cls := "MergeJudge$Reader", name := "reads", desc := "()LMergeJudge$Base;" } : Jvm.MethodName)) ∈ lw_all := lw_g (lw_at lw_m7 78 rfl) rfl
theorem q1685 : (Jvm.Cond.code ({ cls := "MergeJudge$Reader", name := "reads", desc := "()LMergeJudge$Base;" } : Jvm.MethodName) prog_12_method_16_code (1 : Nat) (Option.some (Jvm.ClassFile.FieldType.object "MergeJudge$Base"))) ∈ lw_all := lw_g (lw_at lw_m7 79 rfl) rfl
theorem q1686 : (Jvm.Cond.methodLink "MergeJudge$Reader" (230 : Nat) ({ cls := "MergeJudge$Reader", name := "baseLine", desc := "()V" } : Jvm.MethodName)) ∈ lw_all := lw_g (lw_at lw_m7 80 rfl) rfl
theorem q1687 : (Jvm.Cond.privateMethod ({ cls := "MergeJudge$Reader", name := "baseLine", desc := "()V" } : Jvm.MethodName)) ∈ lw_tbl := lw_at lw_m7 81 rfl
theorem q1688 : (Jvm.Cond.instanceMethod ({ cls := "MergeJudge$Reader", name := "baseLine", desc := "()V" } : Jvm.MethodName)) ∈ lw_all := lw_g (lw_at lw_m7 82 rfl) rfl
theorem q1689 : (Jvm.Cond.code ({ cls := "MergeJudge$Reader", name := "baseLine", desc := "()V" } : Jvm.MethodName) prog_12_method_15_code (1 : Nat) (Option.none : Option Jvm.ClassFile.FieldType)) ∈ lw_all := lw_g (lw_at lw_m7 83 rfl) rfl
theorem q1690 : (Jvm.Cond.stringRef "MergeJudge$Reader" (213 : Nat) "base") ∈ lw_tbl := lw_at lw_m7 84 rfl
theorem q1691 : (Jvm.Cond.methodLink "MergeJudge$Reader" (146 : Nat) ({ cls := "java/lang/String", name := "equals", desc := "(Ljava/lang/Object;)Z" } : Jvm.MethodName)) ∈ lw_all := lw_g (lw_at lw_m7 85 rfl) rfl
theorem q1692 : (Jvm.Cond.methodLink "MergeJudge$Reader" (142 : Nat) ({ cls := "MergeJudge$Reader", name := "fault", desc := "(I)LMergeJudge$Fault;" } : Jvm.MethodName)) ∈ lw_all := lw_g (lw_at lw_m7 86 rfl) rfl
theorem q1693 : (Jvm.Cond.privateMethod ({ cls := "MergeJudge$Reader", name := "fault", desc := "(I)LMergeJudge$Fault;" } : Jvm.MethodName)) ∈ lw_tbl := lw_at lw_m7 87 rfl
theorem q1694 : (Jvm.Cond.instanceMethod ({ cls := "MergeJudge$Reader", name := "fault", desc := "(I)LMergeJudge$Fault;" } : Jvm.MethodName)) ∈ lw_all := lw_g (lw_at lw_m7 88 rfl) rfl
theorem q1695 : (Jvm.Cond.code ({ cls := "MergeJudge$Reader", name := "fault", desc := "(I)LMergeJudge$Fault;" } : Jvm.MethodName) prog_12_method_5_code (2 : Nat) (Option.some (Jvm.ClassFile.FieldType.object "MergeJudge$Fault"))) ∈ lw_all := lw_g (lw_at lw_m7 89 rfl) rfl
theorem q1696 : (Jvm.Cond.classLink "MergeJudge$Reader" (137 : Nat) "MergeJudge$Fault") ∈ lw_all := lw_g (lw_at lw_m7 90 rfl) rfl
theorem q1705 : (Jvm.Cond.methodLink "MergeJudge$Reader" (139 : Nat) ({ cls := "MergeJudge$Fault", name := "<init>", desc := "(II)V" } : Jvm.MethodName)) ∈ lw_all := lw_g (lw_at lw_m7 99 rfl) rfl
theorem q1727 : (Jvm.Cond.stringRef "MergeJudge$Reader" (215 : Nat) "top") ∈ lw_tbl := lw_at lw_m7 121 rfl
theorem q1728 : (Jvm.Cond.methodLink "MergeJudge$Reader" (216 : Nat) ({ cls := "MergeJudge$Reader", name := "number", desc := "(Ljava/lang/String;II)I" } : Jvm.MethodName)) ∈ lw_all := lw_g (lw_at lw_m7 122 rfl) rfl
theorem q1729 : (Jvm.Cond.privateMethod ({ cls := "MergeJudge$Reader", name := "number", desc := "(Ljava/lang/String;II)I" } : Jvm.MethodName)) ∈ lw_tbl := lw_at lw_m7 123 rfl
theorem q1730 : (Jvm.Cond.instanceMethod ({ cls := "MergeJudge$Reader", name := "number", desc := "(Ljava/lang/String;II)I" } : Jvm.MethodName)) ∈ lw_all := lw_g (lw_at lw_m7 124 rfl) rfl
theorem q1731 : (Jvm.Cond.code ({ cls := "MergeJudge$Reader", name := "number", desc := "(Ljava/lang/String;II)I" } : Jvm.MethodName) prog_12_method_7_code (4 : Nat) (Option.some Jvm.ClassFile.FieldType.int)) ∈ lw_all := lw_g (lw_at lw_m7 125 rfl) rfl
theorem q1732 : (Jvm.Cond.methodLink "MergeJudge$Reader" (150 : Nat) ({ cls := "MergeJudge$Reader", name := "number", desc := "(II)I" } : Jvm.MethodName)) ∈ lw_all := lw_g (lw_at lw_m7 126 rfl) rfl
theorem q1733 : (Jvm.Cond.privateMethod ({ cls := "MergeJudge$Reader", name := "number", desc := "(II)I" } : Jvm.MethodName)) ∈ lw_tbl := lw_at lw_m7 127 rfl
theorem q1734 : (Jvm.Cond.instanceMethod ({ cls := "MergeJudge$Reader", name := "number", desc := "(II)I" } : Jvm.MethodName)) ∈ lw_all := lw_g (lw_at lw_m7 128 rfl) rfl
theorem q1735 : (Jvm.Cond.code ({ cls := "MergeJudge$Reader", name := "number", desc := "(II)I" } : Jvm.MethodName) prog_12_method_6_code (4 : Nat) (Option.some Jvm.ClassFile.FieldType.int)) ∈ lw_all := lw_g (lw_at lw_m7 129 rfl) rfl
theorem q1736 : (Jvm.Cond.stringRef "MergeJudge$Reader" (219 : Nat) "law") ∈ lw_tbl := lw_at lw_m7 130 rfl
theorem q1737 : (Jvm.Cond.stringRef "MergeJudge$Reader" (223 : Nat) "odds") ∈ lw_tbl := lw_at lw_m7 131 rfl
theorem q1738 : (Jvm.Cond.methodLink "MergeJudge$Reader" (233 : Nat) ({ cls := "MergeJudge$Reader", name := "toldLine", desc := "()V" } : Jvm.MethodName)) ∈ lw_all := lw_g (lw_at lw_m7 132 rfl) rfl
theorem q1739 : (Jvm.Cond.privateMethod ({ cls := "MergeJudge$Reader", name := "toldLine", desc := "()V" } : Jvm.MethodName)) ∈ lw_tbl := lw_at lw_m7 133 rfl
theorem q1740 : (Jvm.Cond.instanceMethod ({ cls := "MergeJudge$Reader", name := "toldLine", desc := "()V" } : Jvm.MethodName)) ∈ lw_all := lw_g (lw_at lw_m7 134 rfl) rfl
theorem q1741 : (Jvm.Cond.code ({ cls := "MergeJudge$Reader", name := "toldLine", desc := "()V" } : Jvm.MethodName) prog_12_method_14_code (1 : Nat) (Option.none : Option Jvm.ClassFile.FieldType)) ∈ lw_all := lw_g (lw_at lw_m7 135 rfl) rfl
theorem q1742 : (Jvm.Cond.stringRef "MergeJudge$Reader" (183 : Nat) "cell") ∈ lw_tbl := lw_at lw_m7 136 rfl
theorem q1743 : (Jvm.Cond.methodLink "MergeJudge$Reader" (184 : Nat) ({ cls := "MergeJudge$Reader", name := "line", desc := "(Ljava/lang/String;II)Z" } : Jvm.MethodName)) ∈ lw_all := lw_g (lw_at lw_m7 137 rfl) rfl
theorem q1744 : (Jvm.Cond.privateMethod ({ cls := "MergeJudge$Reader", name := "line", desc := "(Ljava/lang/String;II)Z" } : Jvm.MethodName)) ∈ lw_tbl := lw_at lw_m7 138 rfl
theorem q1745 : (Jvm.Cond.instanceMethod ({ cls := "MergeJudge$Reader", name := "line", desc := "(Ljava/lang/String;II)Z" } : Jvm.MethodName)) ∈ lw_all := lw_g (lw_at lw_m7 139 rfl) rfl
theorem q1746 : (Jvm.Cond.code ({ cls := "MergeJudge$Reader", name := "line", desc := "(Ljava/lang/String;II)Z" } : Jvm.MethodName) prog_12_method_13_code (4 : Nat) (Option.some Jvm.ClassFile.FieldType.boolean)) ∈ lw_all := lw_g (lw_at lw_m7 140 rfl) rfl
theorem q1747 : (Jvm.Cond.methodLink "MergeJudge$Reader" (167 : Nat) ({ cls := "MergeJudge$Reader", name := "kind", desc := "(Ljava/util/HashMap;)I" } : Jvm.MethodName)) ∈ lw_all := lw_g (lw_at lw_m7 141 rfl) rfl
theorem q1748 : (Jvm.Cond.privateMethod ({ cls := "MergeJudge$Reader", name := "kind", desc := "(Ljava/util/HashMap;)I" } : Jvm.MethodName)) ∈ lw_tbl := lw_at lw_m7 142 rfl
theorem q1749 : (Jvm.Cond.instanceMethod ({ cls := "MergeJudge$Reader", name := "kind", desc := "(Ljava/util/HashMap;)I" } : Jvm.MethodName)) ∈ lw_all := lw_g (lw_at lw_m7 143 rfl) rfl
theorem q1750 : (Jvm.Cond.code ({ cls := "MergeJudge$Reader", name := "kind", desc := "(Ljava/util/HashMap;)I" } : Jvm.MethodName) prog_12_method_10_code (3 : Nat) (Option.some Jvm.ClassFile.FieldType.int)) ∈ lw_all := lw_g (lw_at lw_m7 144 rfl) rfl
theorem q1751 : (Jvm.Cond.methodLink "MergeJudge$Reader" (160 : Nat) ({ cls := "java/util/HashMap", name := "get", desc := "(Ljava/lang/Object;)Ljava/lang/Object;" } : Jvm.MethodName)) ∈ lw_all := lw_g (lw_at lw_m7 145 rfl) rfl
theorem q1763 : (Jvm.Cond.classLink "MergeJudge$Reader" (90 : Nat) "java/lang/Integer") ∈ lw_all := lw_g (lw_at lw_m7 157 rfl) rfl
theorem q1764 : (Jvm.Cond.methodLink "MergeJudge$Reader" (164 : Nat) ({ cls := "java/lang/Integer", name := "intValue", desc := "()I" } : Jvm.MethodName)) ∈ lw_all := lw_g (lw_at lw_m7 158 rfl) rfl
theorem q1765 : (Jvm.Cond.stringRef "MergeJudge$Reader" (192 : Nat) "rule") ∈ lw_tbl := lw_at lw_m7 159 rfl
theorem q1766 : (Jvm.Cond.interfaceEntry "MergeJudge$Reader" (197 : Nat)) ∈ lw_tbl := lw_at lw_m7 160 rfl
theorem q1767 : (Jvm.Cond.methodLink "MergeJudge$Reader" (197 : Nat) ({ cls := "java/util/List", name := "size", desc := "()I" } : Jvm.MethodName)) ∈ lw_all := lw_g (lw_at lw_m7 161 rfl) rfl
theorem q1776 : (Jvm.Cond.methodLink "MergeJudge$Reader" (202 : Nat) ({ cls := "MergeJudge$Reader", name := "rule", desc := "()LMergeJudge$Told;" } : Jvm.MethodName)) ∈ lw_all := lw_g (lw_at lw_m7 170 rfl) rfl
theorem q1777 : (Jvm.Cond.privateMethod ({ cls := "MergeJudge$Reader", name := "rule", desc := "()LMergeJudge$Told;" } : Jvm.MethodName)) ∈ lw_tbl := lw_at lw_m7 171 rfl
theorem q1778 : (Jvm.Cond.instanceMethod ({ cls := "MergeJudge$Reader", name := "rule", desc := "()LMergeJudge$Told;" } : Jvm.MethodName)) ∈ lw_all := lw_g (lw_at lw_m7 172 rfl) rfl
theorem q1779 : (Jvm.Cond.code ({ cls := "MergeJudge$Reader", name := "rule", desc := "()LMergeJudge$Told;" } : Jvm.MethodName) prog_12_method_11_code (5 : Nat) (Option.some (Jvm.ClassFile.FieldType.object "MergeJudge$Told"))) ∈ lw_all := lw_g (lw_at lw_m7 173 rfl) rfl
theorem q1780 : (Jvm.Cond.methodLink "MergeJudge$Reader" (156 : Nat) ({ cls := "MergeJudge$Reader", name := "cell", desc := "()I" } : Jvm.MethodName)) ∈ lw_all := lw_g (lw_at lw_m7 174 rfl) rfl
theorem q1781 : (Jvm.Cond.privateMethod ({ cls := "MergeJudge$Reader", name := "cell", desc := "()I" } : Jvm.MethodName)) ∈ lw_tbl := lw_at lw_m7 175 rfl
theorem q1782 : (Jvm.Cond.instanceMethod ({ cls := "MergeJudge$Reader", name := "cell", desc := "()I" } : Jvm.MethodName)) ∈ lw_all := lw_g (lw_at lw_m7 176 rfl) rfl
theorem q1783 : (Jvm.Cond.code ({ cls := "MergeJudge$Reader", name := "cell", desc := "()I" } : Jvm.MethodName) prog_12_method_8_code (1 : Nat) (Option.some Jvm.ClassFile.FieldType.int)) ∈ lw_all := lw_g (lw_at lw_m7 177 rfl) rfl
theorem q1784 : (Jvm.Cond.classLink "MergeJudge$Reader" (171 : Nat) "MergeJudge$Told") ∈ lw_all := lw_g (lw_at lw_m7 178 rfl) rfl
theorem q1786 : (Jvm.Cond.methodLink "MergeJudge$Reader" (176 : Nat) ({ cls := "MergeJudge$Told", name := "<init>", desc := "(I[I)V" } : Jvm.MethodName)) ∈ lw_all := lw_g (lw_at lw_m7 180 rfl) rfl
theorem q1798 : (Jvm.Cond.methodLink "MergeJudge$Reader" (179 : Nat) ({ cls := "MergeJudge$Reader", name := "other", desc := "(I)I" } : Jvm.MethodName)) ∈ lw_all := lw_g (lw_at lw_m7 192 rfl) rfl
theorem q1799 : (Jvm.Cond.privateMethod ({ cls := "MergeJudge$Reader", name := "other", desc := "(I)I" } : Jvm.MethodName)) ∈ lw_tbl := lw_at lw_m7 193 rfl
theorem q1800 : (Jvm.Cond.instanceMethod ({ cls := "MergeJudge$Reader", name := "other", desc := "(I)I" } : Jvm.MethodName)) ∈ lw_all := lw_g (lw_at lw_m7 194 rfl) rfl
theorem q1801 : (Jvm.Cond.code ({ cls := "MergeJudge$Reader", name := "other", desc := "(I)I" } : Jvm.MethodName) prog_12_method_9_code (2 : Nat) (Option.some Jvm.ClassFile.FieldType.int)) ∈ lw_all := lw_g (lw_at lw_m7 195 rfl) rfl
theorem q1802 : (Jvm.Cond.interfaceEntry "MergeJudge$Reader" (205 : Nat)) ∈ lw_tbl := lw_at lw_m7 196 rfl
theorem q1803 : (Jvm.Cond.methodLink "MergeJudge$Reader" (205 : Nat) ({ cls := "java/util/List", name := "add", desc := "(Ljava/lang/Object;)Z" } : Jvm.MethodName)) ∈ lw_all := lw_g (lw_at lw_m7 197 rfl) rfl
theorem q1834 : (Jvm.Cond.stringRef "MergeJudge$Reader" (207 : Nat) "op") ∈ lw_tbl := lw_at lw_m7 228 rfl
theorem q1835 : (Jvm.Cond.methodLink "MergeJudge$Reader" (211 : Nat) ({ cls := "MergeJudge$Reader", name := "op", desc := "()LMergeJudge$Told;" } : Jvm.MethodName)) ∈ lw_all := lw_g (lw_at lw_m7 229 rfl) rfl
theorem q1836 : (Jvm.Cond.privateMethod ({ cls := "MergeJudge$Reader", name := "op", desc := "()LMergeJudge$Told;" } : Jvm.MethodName)) ∈ lw_tbl := lw_at lw_m7 230 rfl
theorem q1837 : (Jvm.Cond.instanceMethod ({ cls := "MergeJudge$Reader", name := "op", desc := "()LMergeJudge$Told;" } : Jvm.MethodName)) ∈ lw_all := lw_g (lw_at lw_m7 231 rfl) rfl
theorem q1838 : (Jvm.Cond.code ({ cls := "MergeJudge$Reader", name := "op", desc := "()LMergeJudge$Told;" } : Jvm.MethodName) prog_12_method_12_code (4 : Nat) (Option.some (Jvm.ClassFile.FieldType.object "MergeJudge$Told"))) ∈ lw_all := lw_g (lw_at lw_m7 232 rfl) rfl
theorem q3527 : (Jvm.Cond.castable "MergeJudge$Reader" "java/lang/Object") ∈ lw_tbl := lw_at lw_m15 1 rfl
theorem in_X8 : ∀ w ∈ wsX80, w ∈ lw_all := lw_in wsX80 [1657, 1659, 1661, 1663, 1665, 1667, 1669, 1671, 1673, 1675, 1677, 1679] (by decide +kernel) (by decide +kernel)
/-! MergeJudge$Fault -/
set_option maxRecDepth 100000
def RX9 : String := "MergeJudge$Fault"
def TX9 : u_T := fun k => match k with
  | 0 => ("java/lang/Throwable", "cause", "Ljava/lang/Throwable;", false)
  | 1 => ("java/lang/Throwable", "stackTrace", "[Ljava/lang/StackTraceElement;", false)
  | 2 => ("java/lang/Throwable", "suppressedExceptions", "Ljava/util/List;", false)
  | 3 => ("java/lang/Throwable", "detailMessage", "Ljava/lang/String;", false)
  | 4 => ("java/lang/Throwable", "backtrace", "Ljava/lang/Object;", false)
  | 5 => ("java/lang/Throwable", "depth", "I", false)
  | 6 => ("MergeJudge$Fault", "kind", "I", true)
  | _ => ("MergeJudge$Fault", "place", "I", true)
def tyX9 : Nat → FieldType := fun k => match k with
  | 0 => .object "java/lang/Throwable"
  | 1 => .array (.object "java/lang/StackTraceElement")
  | 2 => .object "java/util/List"
  | 3 => .object "java/lang/String"
  | 4 => .object "java/lang/Object"
  | 5 => .int
  | 6 => .int
  | _ => .int
abbrev wsX90 : List Cond := u_ws RX9 TX9 8
theorem nmX9 : ∀ a, a < 8 → ∀ b, b < 8 → a ≠ b → (TX9 a).2.1 ≠ (TX9 b).2.1 := by decide +kernel
theorem tyX9_ok : ∀ k, k < 8 → parseFieldDescriptor (TX9 k).2.2.1 = some (tyX9 k) := by decide +kernel
abbrev cX9_init : ByteArray := prog_6_method_1_code
def yX9_init : MethodName := ⟨RX9, "<init>", "(II)V"⟩
def dkwX9_init_0 : List UInt8 := [42, 1, 1, 3, 3, 183, 0, 1, 42, 27, 181, 0, 7, 42, 28, 181, 0, 13, 177]
abbrev dktX9_init_0 : List UInt8 := dkwX9_init_0 ++ []
theorem dksX9_init_0 : cX9_init.data.toList.drop 0 = dktX9_init_0 := by decide +kernel
theorem dX9_init_0 : decode cX9_init 0 = .ok (.aload_n 0, 1) := dk_42 (dk_at dksX9_init_0 0 rfl rfl)
theorem dX9_init_1 : decode cX9_init 1 = .ok (.aconst_null, 1) := dk_1 (dk_at dksX9_init_0 1 rfl rfl)
theorem dX9_init_2 : decode cX9_init 2 = .ok (.aconst_null, 1) := dk_1 (dk_at dksX9_init_0 2 rfl rfl)
theorem dX9_init_3 : decode cX9_init 3 = .ok (.iconst 0, 1) := dk_3 (dk_at dksX9_init_0 3 rfl rfl)
theorem dX9_init_4 : decode cX9_init 4 = .ok (.iconst 0, 1) := dk_3 (dk_at dksX9_init_0 4 rfl rfl)
theorem dX9_init_5 : decode cX9_init 5 = .ok (.invokespecial 1, 3) := dk_183 0 1 (dk_at dksX9_init_0 5 rfl rfl)
theorem dX9_init_8 : decode cX9_init 8 = .ok (.aload_n 0, 1) := dk_42 (dk_at dksX9_init_0 8 rfl rfl)
theorem dX9_init_9 : decode cX9_init 9 = .ok (.iload_n 1, 1) := dk_27 (dk_at dksX9_init_0 9 rfl rfl)
theorem dX9_init_10 : decode cX9_init 10 = .ok (.putfield 7, 3) := dk_181 0 7 (dk_at dksX9_init_0 10 rfl rfl)
theorem dX9_init_13 : decode cX9_init 13 = .ok (.aload_n 0, 1) := dk_42 (dk_at dksX9_init_0 13 rfl rfl)
theorem dX9_init_14 : decode cX9_init 14 = .ok (.iload_n 2, 1) := dk_28 (dk_at dksX9_init_0 14 rfl rfl)
theorem dX9_init_15 : decode cX9_init 15 = .ok (.putfield 13, 3) := dk_181 0 13 (dk_at dksX9_init_0 15 rfl rfl)
theorem dX9_init_18 : decode cX9_init 18 = .ok (.return_, 1) := dk_177 (dk_at dksX9_init_0 18 rfl rfl)
theorem q207 : (Jvm.Cond.initialized "MergeJudge$Fault") ∈ lw_all := lw_g (lw_at lw_m1 41 rfl) rfl
theorem q256 : (Jvm.Cond.selects "MergeJudge$Fault" ({ cls := "java/lang/Throwable", name := "fillInStackTrace", desc := "()Ljava/lang/Throwable;" } : Jvm.MethodName) ({ cls := "java/lang/Throwable", name := "fillInStackTrace", desc := "()Ljava/lang/Throwable;" } : Jvm.MethodName)) ∈ lw_all := lw_g (lw_at lw_m1 90 rfl) rfl
theorem q850 : (Jvm.Cond.selects "MergeJudge$Fault" ({ cls := "java/lang/Object", name := "hashCode", desc := "()I" } : Jvm.MethodName) ({ cls := "java/lang/Object", name := "hashCode", desc := "()I" } : Jvm.MethodName)) ∈ lw_all := lw_g (lw_at lw_m3 204 rfl) rfl
theorem q1015 : (Jvm.Cond.selects "MergeJudge$Fault" ({ cls := "java/lang/Object", name := "getClass", desc := "()Ljava/lang/Class;" } : Jvm.MethodName) ({ cls := "java/lang/Object", name := "getClass", desc := "()Ljava/lang/Class;" } : Jvm.MethodName)) ∈ lw_all := lw_g (lw_at lw_m4 129 rfl) rfl
theorem q1282 : (Jvm.Cond.selects "MergeJudge$Fault" ({ cls := "java/lang/Object", name := "equals", desc := "(Ljava/lang/Object;)Z" } : Jvm.MethodName) ({ cls := "java/lang/Object", name := "equals", desc := "(Ljava/lang/Object;)Z" } : Jvm.MethodName)) ∈ lw_all := lw_g (lw_at lw_m5 156 rfl) rfl
theorem q1697 : (Jvm.Cond.instantiable "MergeJudge$Fault" (8 : Nat)) ∈ lw_all := lw_g (lw_at lw_m7 91 rfl) rfl
theorem q1698 : (Jvm.Cond.castable "MergeJudge$Fault" "MergeJudge$Fault") ∈ lw_tbl := lw_at lw_m7 92 rfl
theorem q1699 : (Jvm.Cond.selects "MergeJudge$Fault" ({ cls := "java/lang/Throwable", name := "fillInStackTrace", desc := "(I)Ljava/lang/Throwable;" } : Jvm.MethodName) ({ cls := "java/lang/Throwable", name := "fillInStackTrace", desc := "(I)Ljava/lang/Throwable;" } : Jvm.MethodName)) ∈ lw_all := lw_g (lw_at lw_m7 93 rfl) rfl
theorem q1700 : (Jvm.Cond.lays "MergeJudge$Fault" "java/lang/Throwable" "cause" "Ljava/lang/Throwable;") ∈ lw_all := lw_g (lw_at lw_m7 94 rfl) rfl
theorem q1701 : (Jvm.Cond.lays "MergeJudge$Fault" "java/lang/Throwable" "stackTrace" "[Ljava/lang/StackTraceElement;") ∈ lw_all := lw_g (lw_at lw_m7 95 rfl) rfl
theorem q1702 : (Jvm.Cond.lays "MergeJudge$Fault" "java/lang/Throwable" "suppressedExceptions" "Ljava/util/List;") ∈ lw_all := lw_g (lw_at lw_m7 96 rfl) rfl
theorem q1703 : (Jvm.Cond.lays "MergeJudge$Fault" "java/lang/Throwable" "detailMessage" "Ljava/lang/String;") ∈ lw_all := lw_g (lw_at lw_m7 97 rfl) rfl
theorem q1704 : (Jvm.Cond.lays "MergeJudge$Fault" "java/lang/Throwable" "backtrace" "Ljava/lang/Object;") ∈ lw_all := lw_g (lw_at lw_m7 98 rfl) rfl
theorem q1706 : (Jvm.Cond.instanceMethod ({ cls := "MergeJudge$Fault", name := "<init>", desc := "(II)V" } : Jvm.MethodName)) ∈ lw_all := lw_g (lw_at lw_m7 100 rfl) rfl
theorem q1707 : (Jvm.Cond.code ({ cls := "MergeJudge$Fault", name := "<init>", desc := "(II)V" } : Jvm.MethodName) prog_6_method_1_code (3 : Nat) (Option.none : Option Jvm.ClassFile.FieldType)) ∈ lw_all := lw_g (lw_at lw_m7 101 rfl) rfl
theorem q1708 : (Jvm.Cond.methodLink "MergeJudge$Fault" (1 : Nat) ({ cls := "java/lang/RuntimeException", name := "<init>", desc := "(Ljava/lang/String;Ljava/lang/Throwable;ZZ)V" } : Jvm.MethodName)) ∈ lw_all := lw_g (lw_at lw_m7 102 rfl) rfl
theorem q1717 : (Jvm.Cond.fieldLink "MergeJudge$Fault" (7 : Nat) "MergeJudge$Fault" "kind" "I") ∈ lw_all := lw_g (lw_at lw_m7 111 rfl) rfl
theorem q1719 : (Jvm.Cond.fieldLink "MergeJudge$Fault" (13 : Nat) "MergeJudge$Fault" "place" "I") ∈ lw_all := lw_g (lw_at lw_m7 113 rfl) rfl
theorem q1721 : (Jvm.Cond.laysFinal "MergeJudge$Fault" "MergeJudge$Fault" "kind" "I") ∈ lw_all := lw_g (lw_at lw_m7 115 rfl) rfl
theorem q1722 : (Jvm.Cond.soleField "MergeJudge$Fault" "kind") ∈ lw_all := lw_g (lw_at lw_m7 116 rfl) rfl
theorem q1723 : (Jvm.Cond.laysFinal "MergeJudge$Fault" "MergeJudge$Fault" "place" "I") ∈ lw_all := lw_g (lw_at lw_m7 117 rfl) rfl
theorem q1724 : (Jvm.Cond.soleField "MergeJudge$Fault" "place") ∈ lw_all := lw_g (lw_at lw_m7 118 rfl) rfl
theorem q1725 : (Jvm.Cond.lays "MergeJudge$Fault" "java/lang/Throwable" "depth" "I") ∈ lw_all := lw_g (lw_at lw_m7 119 rfl) rfl
theorem q1726 : (Jvm.Cond.superclass "MergeJudge$Fault" "java/lang/RuntimeException") ∈ lw_all := lw_g (lw_at lw_m7 120 rfl) rfl
theorem q3537 : (Jvm.Cond.castable "MergeJudge$Fault" "java/lang/Object") ∈ lw_tbl := lw_at lw_m15 11 rfl
theorem in_X9 : ∀ w ∈ wsX90, w ∈ lw_all := lw_in wsX90 [1700, 1701, 1702, 1703, 1704, 1725, 1721, 1723] (by decide +kernel) (by decide +kernel)
/-! MergeJudge$Told -/
set_option maxRecDepth 100000
def RX10 : String := "MergeJudge$Told"
def TX10 : u_T := fun k => match k with
  | 0 => ("MergeJudge$Told", "kind", "I", true)
  | _ => ("MergeJudge$Told", "numbers", "[I", true)
def tyX10 : Nat → FieldType := fun k => match k with
  | 0 => .int
  | _ => .array .int
abbrev wsX100 : List Cond := u_ws RX10 TX10 2
theorem nmX10 : ∀ a, a < 2 → ∀ b, b < 2 → a ≠ b → (TX10 a).2.1 ≠ (TX10 b).2.1 := by decide +kernel
theorem tyX10_ok : ∀ k, k < 2 → parseFieldDescriptor (TX10 k).2.2.1 = some (tyX10 k) := by decide +kernel
abbrev cX10_init : ByteArray := prog_19_method_1_code
def yX10_init : MethodName := ⟨RX10, "<init>", "(I[I)V"⟩
def dkwX10_init_0 : List UInt8 := [42, 183, 0, 3, 42, 27, 181, 0, 9, 42, 44, 181, 0, 15, 177]
abbrev dktX10_init_0 : List UInt8 := dkwX10_init_0 ++ []
theorem dksX10_init_0 : cX10_init.data.toList.drop 0 = dktX10_init_0 := by decide +kernel
theorem dX10_init_0 : decode cX10_init 0 = .ok (.aload_n 0, 1) := dk_42 (dk_at dksX10_init_0 0 rfl rfl)
theorem dX10_init_1 : decode cX10_init 1 = .ok (.invokespecial 3, 3) := dk_183 0 3 (dk_at dksX10_init_0 1 rfl rfl)
theorem dX10_init_4 : decode cX10_init 4 = .ok (.aload_n 0, 1) := dk_42 (dk_at dksX10_init_0 4 rfl rfl)
theorem dX10_init_5 : decode cX10_init 5 = .ok (.iload_n 1, 1) := dk_27 (dk_at dksX10_init_0 5 rfl rfl)
theorem dX10_init_6 : decode cX10_init 6 = .ok (.putfield 9, 3) := dk_181 0 9 (dk_at dksX10_init_0 6 rfl rfl)
theorem dX10_init_9 : decode cX10_init 9 = .ok (.aload_n 0, 1) := dk_42 (dk_at dksX10_init_0 9 rfl rfl)
theorem dX10_init_10 : decode cX10_init 10 = .ok (.aload_n 2, 1) := dk_44 (dk_at dksX10_init_0 10 rfl rfl)
theorem dX10_init_11 : decode cX10_init 11 = .ok (.putfield 15, 3) := dk_181 0 15 (dk_at dksX10_init_0 11 rfl rfl)
theorem dX10_init_14 : decode cX10_init 14 = .ok (.return_, 1) := dk_177 (dk_at dksX10_init_0 14 rfl rfl)
abbrev cX10_number : ByteArray := prog_19_method_2_code
def yX10_number : MethodName := ⟨RX10, "number", "(I)I"⟩
def dkwX10_number_0 : List UInt8 := [27, 42, 180, 0, 15, 190, 162, 0, 12, 42, 180, 0, 15, 27, 46, 167, 0, 4, 2, 172]
abbrev dktX10_number_0 : List UInt8 := dkwX10_number_0 ++ []
theorem dksX10_number_0 : cX10_number.data.toList.drop 0 = dktX10_number_0 := by decide +kernel
theorem dX10_number_0 : decode cX10_number 0 = .ok (.iload_n 1, 1) := dk_27 (dk_at dksX10_number_0 0 rfl rfl)
theorem dX10_number_1 : decode cX10_number 1 = .ok (.aload_n 0, 1) := dk_42 (dk_at dksX10_number_0 1 rfl rfl)
theorem dX10_number_2 : decode cX10_number 2 = .ok (.getfield 15, 3) := dk_180 0 15 (dk_at dksX10_number_0 2 rfl rfl)
theorem dX10_number_5 : decode cX10_number 5 = .ok (.arraylength, 1) := dk_190 (dk_at dksX10_number_0 5 rfl rfl)
theorem dX10_number_6 : decode cX10_number 6 = .ok (.if_icmp .ge 12, 3) := dk_162 0 12 (dk_at dksX10_number_0 6 rfl rfl)
theorem dX10_number_9 : decode cX10_number 9 = .ok (.aload_n 0, 1) := dk_42 (dk_at dksX10_number_0 9 rfl rfl)
theorem dX10_number_10 : decode cX10_number 10 = .ok (.getfield 15, 3) := dk_180 0 15 (dk_at dksX10_number_0 10 rfl rfl)
theorem dX10_number_13 : decode cX10_number 13 = .ok (.iload_n 1, 1) := dk_27 (dk_at dksX10_number_0 13 rfl rfl)
theorem dX10_number_14 : decode cX10_number 14 = .ok (.iaload, 1) := dk_46 (dk_at dksX10_number_0 14 rfl rfl)
theorem dX10_number_15 : decode cX10_number 15 = .ok (.goto 4, 3) := dk_167 0 4 (dk_at dksX10_number_0 15 rfl rfl)
theorem dX10_number_18 : decode cX10_number 18 = .ok (.iconst (-1), 1) := dk_2 (dk_at dksX10_number_0 18 rfl rfl)
theorem dX10_number_19 : decode cX10_number 19 = .ok (.ireturn, 1) := dk_172 (dk_at dksX10_number_0 19 rfl rfl)
theorem q208 : (Jvm.Cond.initialized "MergeJudge$Told") ∈ lw_all := lw_g (lw_at lw_m1 42 rfl) rfl
theorem q862 : (Jvm.Cond.selects "MergeJudge$Told" ({ cls := "java/lang/Object", name := "hashCode", desc := "()I" } : Jvm.MethodName) ({ cls := "java/lang/Object", name := "hashCode", desc := "()I" } : Jvm.MethodName)) ∈ lw_all := lw_g (lw_at lw_m3 216 rfl) rfl
theorem q1025 : (Jvm.Cond.selects "MergeJudge$Told" ({ cls := "java/lang/Object", name := "getClass", desc := "()Ljava/lang/Class;" } : Jvm.MethodName) ({ cls := "java/lang/Object", name := "getClass", desc := "()Ljava/lang/Class;" } : Jvm.MethodName)) ∈ lw_all := lw_g (lw_at lw_m4 139 rfl) rfl
theorem q1295 : (Jvm.Cond.selects "MergeJudge$Told" ({ cls := "java/lang/Object", name := "equals", desc := "(Ljava/lang/Object;)Z" } : Jvm.MethodName) ({ cls := "java/lang/Object", name := "equals", desc := "(Ljava/lang/Object;)Z" } : Jvm.MethodName)) ∈ lw_all := lw_g (lw_at lw_m5 169 rfl) rfl
theorem q1785 : (Jvm.Cond.instantiable "MergeJudge$Told" (2 : Nat)) ∈ lw_all := lw_g (lw_at lw_m7 179 rfl) rfl
theorem q1787 : (Jvm.Cond.instanceMethod ({ cls := "MergeJudge$Told", name := "<init>", desc := "(I[I)V" } : Jvm.MethodName)) ∈ lw_all := lw_g (lw_at lw_m7 181 rfl) rfl
theorem q1788 : (Jvm.Cond.code ({ cls := "MergeJudge$Told", name := "<init>", desc := "(I[I)V" } : Jvm.MethodName) prog_19_method_1_code (3 : Nat) (Option.none : Option Jvm.ClassFile.FieldType)) ∈ lw_all := lw_g (lw_at lw_m7 182 rfl) rfl
theorem q1789 : (Jvm.Cond.methodLink "MergeJudge$Told" (3 : Nat) ({ cls := "java/lang/Object", name := "<init>", desc := "()V" } : Jvm.MethodName)) ∈ lw_all := lw_g (lw_at lw_m7 183 rfl) rfl
theorem q1790 : (Jvm.Cond.fieldLink "MergeJudge$Told" (9 : Nat) "MergeJudge$Told" "kind" "I") ∈ lw_all := lw_g (lw_at lw_m7 184 rfl) rfl
theorem q1792 : (Jvm.Cond.fieldLink "MergeJudge$Told" (15 : Nat) "MergeJudge$Told" "numbers" "[I") ∈ lw_all := lw_g (lw_at lw_m7 186 rfl) rfl
theorem q1793 : (Jvm.Cond.laysFinal "MergeJudge$Told" "MergeJudge$Told" "kind" "I") ∈ lw_all := lw_g (lw_at lw_m7 187 rfl) rfl
theorem q1794 : (Jvm.Cond.soleField "MergeJudge$Told" "kind") ∈ lw_all := lw_g (lw_at lw_m7 188 rfl) rfl
theorem q1795 : (Jvm.Cond.laysFinal "MergeJudge$Told" "MergeJudge$Told" "numbers" "[I") ∈ lw_all := lw_g (lw_at lw_m7 189 rfl) rfl
theorem q1796 : (Jvm.Cond.soleField "MergeJudge$Told" "numbers") ∈ lw_all := lw_g (lw_at lw_m7 190 rfl) rfl
theorem q1797 : (Jvm.Cond.superclass "MergeJudge$Told" "java/lang/Object") ∈ lw_all := lw_g (lw_at lw_m7 191 rfl) rfl
theorem q1873 : (Jvm.Cond.instanceMethod ({ cls := "MergeJudge$Told", name := "number", desc := "(I)I" } : Jvm.MethodName)) ∈ lw_all := lw_g (lw_at lw_m8 27 rfl) rfl
theorem q1874 : (Jvm.Cond.selects "MergeJudge$Told" ({ cls := "MergeJudge$Told", name := "number", desc := "(I)I" } : Jvm.MethodName) ({ cls := "MergeJudge$Told", name := "number", desc := "(I)I" } : Jvm.MethodName)) ∈ lw_all := lw_g (lw_at lw_m8 28 rfl) rfl
theorem q1875 : (Jvm.Cond.code ({ cls := "MergeJudge$Told", name := "number", desc := "(I)I" } : Jvm.MethodName) prog_19_method_2_code (2 : Nat) (Option.some Jvm.ClassFile.FieldType.int)) ∈ lw_all := lw_g (lw_at lw_m8 29 rfl) rfl
theorem q3538 : (Jvm.Cond.castable "MergeJudge$Told" "java/lang/Object") ∈ lw_tbl := lw_at lw_m15 12 rfl
theorem in_X10 : ∀ w ∈ wsX100, w ∈ lw_all := lw_in wsX100 [1793, 1795] (by decide +kernel) (by decide +kernel)
/-! MergeJudge$Ruling -/
set_option maxRecDepth 100000
def RX11 : String := "MergeJudge$Ruling"
def TX11 : u_T := fun k => match k with
  | _ => ("MergeJudge$Ruling", "rule", "LMergeJudge$Rule;", true)
def tyX11 : Nat → FieldType := fun k => match k with
  | _ => .object "MergeJudge$Rule"
abbrev wsX110 : List Cond := u_ws RX11 TX11 1
theorem nmX11 : ∀ a, a < 1 → ∀ b, b < 1 → a ≠ b → (TX11 a).2.1 ≠ (TX11 b).2.1 := by decide +kernel
theorem tyX11_ok : ∀ k, k < 1 → parseFieldDescriptor (TX11 k).2.2.1 = some (tyX11 k) := by decide +kernel
abbrev cX11_init : ByteArray := prog_14_method_1_code
def yX11_init : MethodName := ⟨RX11, "<init>", "(LMergeJudge$Rule;)V"⟩
def dkwX11_init_0 : List UInt8 := [42, 183, 0, 1, 42, 43, 181, 0, 7, 177]
abbrev dktX11_init_0 : List UInt8 := dkwX11_init_0 ++ []
theorem dksX11_init_0 : cX11_init.data.toList.drop 0 = dktX11_init_0 := by decide +kernel
theorem dX11_init_0 : decode cX11_init 0 = .ok (.aload_n 0, 1) := dk_42 (dk_at dksX11_init_0 0 rfl rfl)
theorem dX11_init_1 : decode cX11_init 1 = .ok (.invokespecial 1, 3) := dk_183 0 1 (dk_at dksX11_init_0 1 rfl rfl)
theorem dX11_init_4 : decode cX11_init 4 = .ok (.aload_n 0, 1) := dk_42 (dk_at dksX11_init_0 4 rfl rfl)
theorem dX11_init_5 : decode cX11_init 5 = .ok (.aload_n 1, 1) := dk_43 (dk_at dksX11_init_0 5 rfl rfl)
theorem dX11_init_6 : decode cX11_init 6 = .ok (.putfield 7, 3) := dk_181 0 7 (dk_at dksX11_init_0 6 rfl rfl)
theorem dX11_init_9 : decode cX11_init 9 = .ok (.return_, 1) := dk_177 (dk_at dksX11_init_0 9 rfl rfl)
theorem q209 : (Jvm.Cond.initialized "MergeJudge$Ruling") ∈ lw_all := lw_g (lw_at lw_m1 43 rfl) rfl
theorem q858 : (Jvm.Cond.selects "MergeJudge$Ruling" ({ cls := "java/lang/Object", name := "hashCode", desc := "()I" } : Jvm.MethodName) ({ cls := "java/lang/Object", name := "hashCode", desc := "()I" } : Jvm.MethodName)) ∈ lw_all := lw_g (lw_at lw_m3 212 rfl) rfl
theorem q1021 : (Jvm.Cond.selects "MergeJudge$Ruling" ({ cls := "java/lang/Object", name := "getClass", desc := "()Ljava/lang/Class;" } : Jvm.MethodName) ({ cls := "java/lang/Object", name := "getClass", desc := "()Ljava/lang/Class;" } : Jvm.MethodName)) ∈ lw_all := lw_g (lw_at lw_m4 135 rfl) rfl
theorem q1291 : (Jvm.Cond.selects "MergeJudge$Ruling" ({ cls := "java/lang/Object", name := "equals", desc := "(Ljava/lang/Object;)Z" } : Jvm.MethodName) ({ cls := "java/lang/Object", name := "equals", desc := "(Ljava/lang/Object;)Z" } : Jvm.MethodName)) ∈ lw_all := lw_g (lw_at lw_m5 165 rfl) rfl
theorem q1849 : (Jvm.Cond.instantiable "MergeJudge$Ruling" (1 : Nat)) ∈ lw_all := lw_g (lw_at lw_m8 3 rfl) rfl
theorem q1903 : (Jvm.Cond.instanceMethod ({ cls := "MergeJudge$Ruling", name := "<init>", desc := "(LMergeJudge$Rule;)V" } : Jvm.MethodName)) ∈ lw_all := lw_g (lw_at lw_m8 57 rfl) rfl
theorem q1904 : (Jvm.Cond.code ({ cls := "MergeJudge$Ruling", name := "<init>", desc := "(LMergeJudge$Rule;)V" } : Jvm.MethodName) prog_14_method_1_code (2 : Nat) (Option.none : Option Jvm.ClassFile.FieldType)) ∈ lw_all := lw_g (lw_at lw_m8 58 rfl) rfl
theorem q1905 : (Jvm.Cond.methodLink "MergeJudge$Ruling" (1 : Nat) ({ cls := "java/lang/Object", name := "<init>", desc := "()V" } : Jvm.MethodName)) ∈ lw_all := lw_g (lw_at lw_m8 59 rfl) rfl
theorem q1906 : (Jvm.Cond.fieldLink "MergeJudge$Ruling" (7 : Nat) "MergeJudge$Ruling" "rule" "LMergeJudge$Rule;") ∈ lw_all := lw_g (lw_at lw_m8 60 rfl) rfl
theorem q1908 : (Jvm.Cond.laysFinal "MergeJudge$Ruling" "MergeJudge$Ruling" "rule" "LMergeJudge$Rule;") ∈ lw_all := lw_g (lw_at lw_m8 62 rfl) rfl
theorem q1909 : (Jvm.Cond.soleField "MergeJudge$Ruling" "rule") ∈ lw_all := lw_g (lw_at lw_m8 63 rfl) rfl
theorem q1910 : (Jvm.Cond.superclass "MergeJudge$Ruling" "java/lang/Object") ∈ lw_all := lw_g (lw_at lw_m8 64 rfl) rfl
theorem q3517 : (Jvm.Cond.castable "MergeJudge$Ruling" "java/lang/Object") ∈ lw_tbl := lw_at lw_m14 231 rfl
theorem in_X11 : ∀ w ∈ wsX110, w ∈ lw_all := lw_in wsX110 [1908] (by decide +kernel) (by decide +kernel)
/-! MergeJudge$Stepping -/
set_option maxRecDepth 100000
def RX12 : String := "MergeJudge$Stepping"
def TX12 : u_T := fun k => match k with
  | _ => ("MergeJudge$Stepping", "step", "LMergeJudge$Step;", true)
def tyX12 : Nat → FieldType := fun k => match k with
  | _ => .object "MergeJudge$Step"
abbrev wsX120 : List Cond := u_ws RX12 TX12 1
theorem nmX12 : ∀ a, a < 1 → ∀ b, b < 1 → a ≠ b → (TX12 a).2.1 ≠ (TX12 b).2.1 := by decide +kernel
theorem tyX12_ok : ∀ k, k < 1 → parseFieldDescriptor (TX12 k).2.2.1 = some (tyX12 k) := by decide +kernel
abbrev cX12_init : ByteArray := prog_18_method_1_code
def yX12_init : MethodName := ⟨RX12, "<init>", "(LMergeJudge$Step;)V"⟩
def dkwX12_init_0 : List UInt8 := [42, 183, 0, 1, 42, 43, 181, 0, 7, 177]
abbrev dktX12_init_0 : List UInt8 := dkwX12_init_0 ++ []
theorem dksX12_init_0 : cX12_init.data.toList.drop 0 = dktX12_init_0 := by decide +kernel
theorem dX12_init_0 : decode cX12_init 0 = .ok (.aload_n 0, 1) := dk_42 (dk_at dksX12_init_0 0 rfl rfl)
theorem dX12_init_1 : decode cX12_init 1 = .ok (.invokespecial 1, 3) := dk_183 0 1 (dk_at dksX12_init_0 1 rfl rfl)
theorem dX12_init_4 : decode cX12_init 4 = .ok (.aload_n 0, 1) := dk_42 (dk_at dksX12_init_0 4 rfl rfl)
theorem dX12_init_5 : decode cX12_init 5 = .ok (.aload_n 1, 1) := dk_43 (dk_at dksX12_init_0 5 rfl rfl)
theorem dX12_init_6 : decode cX12_init 6 = .ok (.putfield 7, 3) := dk_181 0 7 (dk_at dksX12_init_0 6 rfl rfl)
theorem dX12_init_9 : decode cX12_init 9 = .ok (.return_, 1) := dk_177 (dk_at dksX12_init_0 9 rfl rfl)
theorem q211 : (Jvm.Cond.initialized "MergeJudge$Stepping") ∈ lw_all := lw_g (lw_at lw_m1 45 rfl) rfl
theorem q861 : (Jvm.Cond.selects "MergeJudge$Stepping" ({ cls := "java/lang/Object", name := "hashCode", desc := "()I" } : Jvm.MethodName) ({ cls := "java/lang/Object", name := "hashCode", desc := "()I" } : Jvm.MethodName)) ∈ lw_all := lw_g (lw_at lw_m3 215 rfl) rfl
theorem q1024 : (Jvm.Cond.selects "MergeJudge$Stepping" ({ cls := "java/lang/Object", name := "getClass", desc := "()Ljava/lang/Class;" } : Jvm.MethodName) ({ cls := "java/lang/Object", name := "getClass", desc := "()Ljava/lang/Class;" } : Jvm.MethodName)) ∈ lw_all := lw_g (lw_at lw_m4 138 rfl) rfl
theorem q1294 : (Jvm.Cond.selects "MergeJudge$Stepping" ({ cls := "java/lang/Object", name := "equals", desc := "(Ljava/lang/Object;)Z" } : Jvm.MethodName) ({ cls := "java/lang/Object", name := "equals", desc := "(Ljava/lang/Object;)Z" } : Jvm.MethodName)) ∈ lw_all := lw_g (lw_at lw_m5 168 rfl) rfl
theorem q1911 : (Jvm.Cond.instantiable "MergeJudge$Stepping" (1 : Nat)) ∈ lw_all := lw_g (lw_at lw_m8 65 rfl) rfl
theorem q1933 : (Jvm.Cond.instanceMethod ({ cls := "MergeJudge$Stepping", name := "<init>", desc := "(LMergeJudge$Step;)V" } : Jvm.MethodName)) ∈ lw_all := lw_g (lw_at lw_m8 87 rfl) rfl
theorem q1934 : (Jvm.Cond.code ({ cls := "MergeJudge$Stepping", name := "<init>", desc := "(LMergeJudge$Step;)V" } : Jvm.MethodName) prog_18_method_1_code (2 : Nat) (Option.none : Option Jvm.ClassFile.FieldType)) ∈ lw_all := lw_g (lw_at lw_m8 88 rfl) rfl
theorem q1935 : (Jvm.Cond.methodLink "MergeJudge$Stepping" (1 : Nat) ({ cls := "java/lang/Object", name := "<init>", desc := "()V" } : Jvm.MethodName)) ∈ lw_all := lw_g (lw_at lw_m8 89 rfl) rfl
theorem q1936 : (Jvm.Cond.fieldLink "MergeJudge$Stepping" (7 : Nat) "MergeJudge$Stepping" "step" "LMergeJudge$Step;") ∈ lw_all := lw_g (lw_at lw_m8 90 rfl) rfl
theorem q1938 : (Jvm.Cond.laysFinal "MergeJudge$Stepping" "MergeJudge$Stepping" "step" "LMergeJudge$Step;") ∈ lw_all := lw_g (lw_at lw_m8 92 rfl) rfl
theorem q1939 : (Jvm.Cond.soleField "MergeJudge$Stepping" "step") ∈ lw_all := lw_g (lw_at lw_m8 93 rfl) rfl
theorem q1940 : (Jvm.Cond.superclass "MergeJudge$Stepping" "java/lang/Object") ∈ lw_all := lw_g (lw_at lw_m8 94 rfl) rfl
theorem q3518 : (Jvm.Cond.castable "MergeJudge$Stepping" "java/lang/Object") ∈ lw_tbl := lw_at lw_m14 232 rfl
theorem in_X12 : ∀ w ∈ wsX120, w ∈ lw_all := lw_in wsX120 [1938] (by decide +kernel) (by decide +kernel)
/-! MergeJudge$Pair -/
set_option maxRecDepth 100000
def RX13 : String := "MergeJudge$Pair"
def TX13 : u_T := fun k => match k with
  | 0 => ("MergeJudge$Pair", "low", "I", true)
  | _ => ("MergeJudge$Pair", "high", "I", true)
def tyX13 : Nat → FieldType := fun k => match k with
  | 0 => .int
  | _ => .int
abbrev wsX130 : List Cond := u_ws RX13 TX13 2
theorem nmX13 : ∀ a, a < 2 → ∀ b, b < 2 → a ≠ b → (TX13 a).2.1 ≠ (TX13 b).2.1 := by decide +kernel
theorem tyX13_ok : ∀ k, k < 2 → parseFieldDescriptor (TX13 k).2.2.1 = some (tyX13 k) := by decide +kernel
abbrev cX13_hashCode : ByteArray := prog_11_method_3_code
def yX13_hashCode : MethodName := ⟨RX13, "hashCode", "()I"⟩
def dkwX13_hashCode_0 : List UInt8 := [16, 64, 42, 180, 0, 15, 104, 42, 180, 0, 24, 96, 172]
abbrev dktX13_hashCode_0 : List UInt8 := dkwX13_hashCode_0 ++ []
theorem dksX13_hashCode_0 : cX13_hashCode.data.toList.drop 0 = dktX13_hashCode_0 := by decide +kernel
theorem dX13_hashCode_0 : decode cX13_hashCode 0 = .ok (.bipush 64, 2) := dk_16 64 (dk_at dksX13_hashCode_0 0 rfl rfl)
theorem dX13_hashCode_2 : decode cX13_hashCode 2 = .ok (.aload_n 0, 1) := dk_42 (dk_at dksX13_hashCode_0 2 rfl rfl)
theorem dX13_hashCode_3 : decode cX13_hashCode 3 = .ok (.getfield 15, 3) := dk_180 0 15 (dk_at dksX13_hashCode_0 3 rfl rfl)
theorem dX13_hashCode_6 : decode cX13_hashCode 6 = .ok (.imul, 1) := dk_104 (dk_at dksX13_hashCode_0 6 rfl rfl)
theorem dX13_hashCode_7 : decode cX13_hashCode 7 = .ok (.aload_n 0, 1) := dk_42 (dk_at dksX13_hashCode_0 7 rfl rfl)
theorem dX13_hashCode_8 : decode cX13_hashCode 8 = .ok (.getfield 24, 3) := dk_180 0 24 (dk_at dksX13_hashCode_0 8 rfl rfl)
theorem dX13_hashCode_11 : decode cX13_hashCode 11 = .ok (.iadd, 1) := dk_96 (dk_at dksX13_hashCode_0 11 rfl rfl)
theorem dX13_hashCode_12 : decode cX13_hashCode 12 = .ok (.ireturn, 1) := dk_172 (dk_at dksX13_hashCode_0 12 rfl rfl)
abbrev cX13_equals : ByteArray := prog_11_method_2_code
def yX13_equals : MethodName := ⟨RX13, "equals", "(Ljava/lang/Object;)Z"⟩
def dkwX13_equals_1 : List UInt8 := [180, 0, 24, 42, 180, 0, 24, 160, 0, 7, 4, 167, 0, 4, 3, 172]
abbrev dktX13_equals_1 : List UInt8 := dkwX13_equals_1 ++ []
def dkwX13_equals_0 : List UInt8 := [43, 193, 0, 16, 153, 0, 34, 43, 192, 0, 16, 77, 44, 180, 0, 15, 42, 180, 0, 15, 160, 0, 18, 44]
abbrev dktX13_equals_0 : List UInt8 := dkwX13_equals_0 ++ dktX13_equals_1
theorem dksX13_equals_0 : cX13_equals.data.toList.drop 0 = dktX13_equals_0 := by decide +kernel
theorem dksX13_equals_1 : cX13_equals.data.toList.drop 24 = dktX13_equals_1 := dk_seg dksX13_equals_0 24 rfl rfl
theorem dX13_equals_0 : decode cX13_equals 0 = .ok (.aload_n 1, 1) := dk_43 (dk_at dksX13_equals_0 0 rfl rfl)
theorem dX13_equals_1 : decode cX13_equals 1 = .ok (.instanceof 16, 3) := dk_193 0 16 (dk_at dksX13_equals_0 1 rfl rfl)
theorem dX13_equals_4 : decode cX13_equals 4 = .ok (.ifCond .eq 34, 3) := dk_153 0 34 (dk_at dksX13_equals_0 4 rfl rfl)
theorem dX13_equals_7 : decode cX13_equals 7 = .ok (.aload_n 1, 1) := dk_43 (dk_at dksX13_equals_0 7 rfl rfl)
theorem dX13_equals_8 : decode cX13_equals 8 = .ok (.checkcast 16, 3) := dk_192 0 16 (dk_at dksX13_equals_0 8 rfl rfl)
theorem dX13_equals_11 : decode cX13_equals 11 = .ok (.astore_n 2, 1) := dk_77 (dk_at dksX13_equals_0 11 rfl rfl)
theorem dX13_equals_12 : decode cX13_equals 12 = .ok (.aload_n 2, 1) := dk_44 (dk_at dksX13_equals_0 12 rfl rfl)
theorem dX13_equals_13 : decode cX13_equals 13 = .ok (.getfield 15, 3) := dk_180 0 15 (dk_at dksX13_equals_0 13 rfl rfl)
theorem dX13_equals_16 : decode cX13_equals 16 = .ok (.aload_n 0, 1) := dk_42 (dk_at dksX13_equals_0 16 rfl rfl)
theorem dX13_equals_17 : decode cX13_equals 17 = .ok (.getfield 15, 3) := dk_180 0 15 (dk_at dksX13_equals_0 17 rfl rfl)
theorem dX13_equals_20 : decode cX13_equals 20 = .ok (.if_icmp .ne 18, 3) := dk_160 0 18 (dk_at dksX13_equals_0 20 rfl rfl)
theorem dX13_equals_23 : decode cX13_equals 23 = .ok (.aload_n 2, 1) := dk_44 (dk_at dksX13_equals_0 23 rfl rfl)
theorem dX13_equals_24 : decode cX13_equals 24 = .ok (.getfield 24, 3) := dk_180 0 24 (dk_at dksX13_equals_1 0 rfl rfl)
theorem dX13_equals_27 : decode cX13_equals 27 = .ok (.aload_n 0, 1) := dk_42 (dk_at dksX13_equals_1 3 rfl rfl)
theorem dX13_equals_28 : decode cX13_equals 28 = .ok (.getfield 24, 3) := dk_180 0 24 (dk_at dksX13_equals_1 4 rfl rfl)
theorem dX13_equals_31 : decode cX13_equals 31 = .ok (.if_icmp .ne 7, 3) := dk_160 0 7 (dk_at dksX13_equals_1 7 rfl rfl)
theorem dX13_equals_34 : decode cX13_equals 34 = .ok (.iconst 1, 1) := dk_4 (dk_at dksX13_equals_1 10 rfl rfl)
theorem dX13_equals_35 : decode cX13_equals 35 = .ok (.goto 4, 3) := dk_167 0 4 (dk_at dksX13_equals_1 11 rfl rfl)
theorem dX13_equals_38 : decode cX13_equals 38 = .ok (.iconst 0, 1) := dk_3 (dk_at dksX13_equals_1 14 rfl rfl)
theorem dX13_equals_39 : decode cX13_equals 39 = .ok (.ireturn, 1) := dk_172 (dk_at dksX13_equals_1 15 rfl rfl)
abbrev cX13_init : ByteArray := prog_11_method_1_code
def yX13_init : MethodName := ⟨RX13, "<init>", "(II)V"⟩
def dkwX13_init_0 : List UInt8 := [42, 183, 0, 3, 42, 27, 28, 184, 0, 9, 181, 0, 15, 42, 27, 28, 184, 0, 21, 181, 0, 24, 177]
abbrev dktX13_init_0 : List UInt8 := dkwX13_init_0 ++ []
theorem dksX13_init_0 : cX13_init.data.toList.drop 0 = dktX13_init_0 := by decide +kernel
theorem dX13_init_0 : decode cX13_init 0 = .ok (.aload_n 0, 1) := dk_42 (dk_at dksX13_init_0 0 rfl rfl)
theorem dX13_init_1 : decode cX13_init 1 = .ok (.invokespecial 3, 3) := dk_183 0 3 (dk_at dksX13_init_0 1 rfl rfl)
theorem dX13_init_4 : decode cX13_init 4 = .ok (.aload_n 0, 1) := dk_42 (dk_at dksX13_init_0 4 rfl rfl)
theorem dX13_init_5 : decode cX13_init 5 = .ok (.iload_n 1, 1) := dk_27 (dk_at dksX13_init_0 5 rfl rfl)
theorem dX13_init_6 : decode cX13_init 6 = .ok (.iload_n 2, 1) := dk_28 (dk_at dksX13_init_0 6 rfl rfl)
theorem dX13_init_7 : decode cX13_init 7 = .ok (.invokestatic 9, 3) := dk_184 0 9 (dk_at dksX13_init_0 7 rfl rfl)
theorem dX13_init_10 : decode cX13_init 10 = .ok (.putfield 15, 3) := dk_181 0 15 (dk_at dksX13_init_0 10 rfl rfl)
theorem dX13_init_13 : decode cX13_init 13 = .ok (.aload_n 0, 1) := dk_42 (dk_at dksX13_init_0 13 rfl rfl)
theorem dX13_init_14 : decode cX13_init 14 = .ok (.iload_n 1, 1) := dk_27 (dk_at dksX13_init_0 14 rfl rfl)
theorem dX13_init_15 : decode cX13_init 15 = .ok (.iload_n 2, 1) := dk_28 (dk_at dksX13_init_0 15 rfl rfl)
theorem dX13_init_16 : decode cX13_init 16 = .ok (.invokestatic 21, 3) := dk_184 0 21 (dk_at dksX13_init_0 16 rfl rfl)
theorem dX13_init_19 : decode cX13_init 19 = .ok (.putfield 24, 3) := dk_181 0 24 (dk_at dksX13_init_0 19 rfl rfl)
theorem dX13_init_22 : decode cX13_init 22 = .ok (.return_, 1) := dk_177 (dk_at dksX13_init_0 22 rfl rfl)
theorem q214 : (Jvm.Cond.initialized "MergeJudge$Pair") ∈ lw_all := lw_g (lw_at lw_m1 48 rfl) rfl
theorem q854 : (Jvm.Cond.selects "MergeJudge$Pair" ({ cls := "java/lang/Object", name := "hashCode", desc := "()I" } : Jvm.MethodName) ({ cls := "MergeJudge$Pair", name := "hashCode", desc := "()I" } : Jvm.MethodName)) ∈ lw_all := lw_g (lw_at lw_m3 208 rfl) rfl
theorem q855 : (Jvm.Cond.instanceMethod ({ cls := "MergeJudge$Pair", name := "hashCode", desc := "()I" } : Jvm.MethodName)) ∈ lw_all := lw_g (lw_at lw_m3 209 rfl) rfl
theorem q856 : (Jvm.Cond.code ({ cls := "MergeJudge$Pair", name := "hashCode", desc := "()I" } : Jvm.MethodName) prog_11_method_3_code (1 : Nat) (Option.some Jvm.ClassFile.FieldType.int)) ∈ lw_all := lw_g (lw_at lw_m3 210 rfl) rfl
theorem q1019 : (Jvm.Cond.selects "MergeJudge$Pair" ({ cls := "java/lang/Object", name := "getClass", desc := "()Ljava/lang/Class;" } : Jvm.MethodName) ({ cls := "java/lang/Object", name := "getClass", desc := "()Ljava/lang/Class;" } : Jvm.MethodName)) ∈ lw_all := lw_g (lw_at lw_m4 133 rfl) rfl
theorem q1286 : (Jvm.Cond.selects "MergeJudge$Pair" ({ cls := "java/lang/Object", name := "equals", desc := "(Ljava/lang/Object;)Z" } : Jvm.MethodName) ({ cls := "MergeJudge$Pair", name := "equals", desc := "(Ljava/lang/Object;)Z" } : Jvm.MethodName)) ∈ lw_all := lw_g (lw_at lw_m5 160 rfl) rfl
theorem q1287 : (Jvm.Cond.instanceMethod ({ cls := "MergeJudge$Pair", name := "equals", desc := "(Ljava/lang/Object;)Z" } : Jvm.MethodName)) ∈ lw_all := lw_g (lw_at lw_m5 161 rfl) rfl
theorem q1288 : (Jvm.Cond.code ({ cls := "MergeJudge$Pair", name := "equals", desc := "(Ljava/lang/Object;)Z" } : Jvm.MethodName) prog_11_method_2_code (3 : Nat) (Option.some Jvm.ClassFile.FieldType.boolean)) ∈ lw_all := lw_g (lw_at lw_m5 162 rfl) rfl
theorem q1289 : (Jvm.Cond.classLink "MergeJudge$Pair" (16 : Nat) "MergeJudge$Pair") ∈ lw_all := lw_g (lw_at lw_m5 163 rfl) rfl
theorem q2234 : (Jvm.Cond.instantiable "MergeJudge$Pair" (2 : Nat)) ∈ lw_all := lw_g (lw_at lw_m9 148 rfl) rfl
theorem q2236 : (Jvm.Cond.instanceMethod ({ cls := "MergeJudge$Pair", name := "<init>", desc := "(II)V" } : Jvm.MethodName)) ∈ lw_all := lw_g (lw_at lw_m9 150 rfl) rfl
theorem q2237 : (Jvm.Cond.code ({ cls := "MergeJudge$Pair", name := "<init>", desc := "(II)V" } : Jvm.MethodName) prog_11_method_1_code (3 : Nat) (Option.none : Option Jvm.ClassFile.FieldType)) ∈ lw_all := lw_g (lw_at lw_m9 151 rfl) rfl
theorem q2238 : (Jvm.Cond.methodLink "MergeJudge$Pair" (3 : Nat) ({ cls := "java/lang/Object", name := "<init>", desc := "()V" } : Jvm.MethodName)) ∈ lw_all := lw_g (lw_at lw_m9 152 rfl) rfl
theorem q2239 : (Jvm.Cond.methodLink "MergeJudge$Pair" (9 : Nat) ({ cls := "java/lang/Math", name := "min", desc := "(II)I" } : Jvm.MethodName)) ∈ lw_all := lw_g (lw_at lw_m9 153 rfl) rfl
theorem q2240 : (Jvm.Cond.methodLink "MergeJudge$Pair" (21 : Nat) ({ cls := "java/lang/Math", name := "max", desc := "(II)I" } : Jvm.MethodName)) ∈ lw_all := lw_g (lw_at lw_m9 154 rfl) rfl
theorem q2241 : (Jvm.Cond.fieldLink "MergeJudge$Pair" (15 : Nat) "MergeJudge$Pair" "low" "I") ∈ lw_all := lw_g (lw_at lw_m9 155 rfl) rfl
theorem q2242 : (Jvm.Cond.fieldLink "MergeJudge$Pair" (24 : Nat) "MergeJudge$Pair" "high" "I") ∈ lw_all := lw_g (lw_at lw_m9 156 rfl) rfl
theorem q2243 : (Jvm.Cond.laysFinal "MergeJudge$Pair" "MergeJudge$Pair" "low" "I") ∈ lw_all := lw_g (lw_at lw_m9 157 rfl) rfl
theorem q2244 : (Jvm.Cond.soleField "MergeJudge$Pair" "low") ∈ lw_all := lw_g (lw_at lw_m9 158 rfl) rfl
theorem q2245 : (Jvm.Cond.laysFinal "MergeJudge$Pair" "MergeJudge$Pair" "high" "I") ∈ lw_all := lw_g (lw_at lw_m9 159 rfl) rfl
theorem q2246 : (Jvm.Cond.soleField "MergeJudge$Pair" "high") ∈ lw_all := lw_g (lw_at lw_m9 160 rfl) rfl
theorem q2247 : (Jvm.Cond.superclass "MergeJudge$Pair" "java/lang/Object") ∈ lw_all := lw_g (lw_at lw_m9 161 rfl) rfl
theorem q3540 : (Jvm.Cond.castable "MergeJudge$Pair" "java/lang/Object") ∈ lw_tbl := lw_at lw_m15 14 rfl
theorem in_X13 : ∀ w ∈ wsX130, w ∈ lw_all := lw_in wsX130 [2243, 2245] (by decide +kernel) (by decide +kernel)
/-! MergeJudge$Act -/
set_option maxRecDepth 100000
def RX14 : String := "MergeJudge$Act"
def TX14 : u_T := fun k => match k with
  | _ => ("MergeJudge$Act", "undo", "LMergeJudge$Undo;", true)
def tyX14 : Nat → FieldType := fun k => match k with
  | _ => .object "MergeJudge$Undo"
abbrev wsX140 : List Cond := u_ws RX14 TX14 1
theorem nmX14 : ∀ a, a < 1 → ∀ b, b < 1 → a ≠ b → (TX14 a).2.1 ≠ (TX14 b).2.1 := by decide +kernel
theorem tyX14_ok : ∀ k, k < 1 → parseFieldDescriptor (TX14 k).2.2.1 = some (tyX14 k) := by decide +kernel
abbrev cX14_init : ByteArray := prog_2_method_1_code
def yX14_init : MethodName := ⟨RX14, "<init>", "(LMergeJudge$Undo;)V"⟩
def dkwX14_init_0 : List UInt8 := [42, 183, 0, 1, 42, 43, 181, 0, 7, 177]
abbrev dktX14_init_0 : List UInt8 := dkwX14_init_0 ++ []
theorem dksX14_init_0 : cX14_init.data.toList.drop 0 = dktX14_init_0 := by decide +kernel
theorem dX14_init_0 : decode cX14_init 0 = .ok (.aload_n 0, 1) := dk_42 (dk_at dksX14_init_0 0 rfl rfl)
theorem dX14_init_1 : decode cX14_init 1 = .ok (.invokespecial 1, 3) := dk_183 0 1 (dk_at dksX14_init_0 1 rfl rfl)
theorem dX14_init_4 : decode cX14_init 4 = .ok (.aload_n 0, 1) := dk_42 (dk_at dksX14_init_0 4 rfl rfl)
theorem dX14_init_5 : decode cX14_init 5 = .ok (.aload_n 1, 1) := dk_43 (dk_at dksX14_init_0 5 rfl rfl)
theorem dX14_init_6 : decode cX14_init 6 = .ok (.putfield 7, 3) := dk_181 0 7 (dk_at dksX14_init_0 6 rfl rfl)
theorem dX14_init_9 : decode cX14_init 9 = .ok (.return_, 1) := dk_177 (dk_at dksX14_init_0 9 rfl rfl)
theorem q215 : (Jvm.Cond.initialized "MergeJudge$Act") ∈ lw_all := lw_g (lw_at lw_m1 49 rfl) rfl
theorem q848 : (Jvm.Cond.selects "MergeJudge$Act" ({ cls := "java/lang/Object", name := "hashCode", desc := "()I" } : Jvm.MethodName) ({ cls := "java/lang/Object", name := "hashCode", desc := "()I" } : Jvm.MethodName)) ∈ lw_all := lw_g (lw_at lw_m3 202 rfl) rfl
theorem q1013 : (Jvm.Cond.selects "MergeJudge$Act" ({ cls := "java/lang/Object", name := "getClass", desc := "()Ljava/lang/Class;" } : Jvm.MethodName) ({ cls := "java/lang/Object", name := "getClass", desc := "()Ljava/lang/Class;" } : Jvm.MethodName)) ∈ lw_all := lw_g (lw_at lw_m4 127 rfl) rfl
theorem q1280 : (Jvm.Cond.selects "MergeJudge$Act" ({ cls := "java/lang/Object", name := "equals", desc := "(Ljava/lang/Object;)Z" } : Jvm.MethodName) ({ cls := "java/lang/Object", name := "equals", desc := "(Ljava/lang/Object;)Z" } : Jvm.MethodName)) ∈ lw_all := lw_g (lw_at lw_m5 154 rfl) rfl
theorem q2533 : (Jvm.Cond.instantiable "MergeJudge$Act" (1 : Nat)) ∈ lw_all := lw_g (lw_at lw_m10 207 rfl) rfl
theorem q2542 : (Jvm.Cond.instanceMethod ({ cls := "MergeJudge$Act", name := "<init>", desc := "(LMergeJudge$Undo;)V" } : Jvm.MethodName)) ∈ lw_all := lw_g (lw_at lw_m10 216 rfl) rfl
theorem q2543 : (Jvm.Cond.code ({ cls := "MergeJudge$Act", name := "<init>", desc := "(LMergeJudge$Undo;)V" } : Jvm.MethodName) prog_2_method_1_code (2 : Nat) (Option.none : Option Jvm.ClassFile.FieldType)) ∈ lw_all := lw_g (lw_at lw_m10 217 rfl) rfl
theorem q2544 : (Jvm.Cond.methodLink "MergeJudge$Act" (1 : Nat) ({ cls := "java/lang/Object", name := "<init>", desc := "()V" } : Jvm.MethodName)) ∈ lw_all := lw_g (lw_at lw_m10 218 rfl) rfl
theorem q2545 : (Jvm.Cond.fieldLink "MergeJudge$Act" (7 : Nat) "MergeJudge$Act" "undo" "LMergeJudge$Undo;") ∈ lw_all := lw_g (lw_at lw_m10 219 rfl) rfl
theorem q2547 : (Jvm.Cond.laysFinal "MergeJudge$Act" "MergeJudge$Act" "undo" "LMergeJudge$Undo;") ∈ lw_all := lw_g (lw_at lw_m10 221 rfl) rfl
theorem q2548 : (Jvm.Cond.soleField "MergeJudge$Act" "undo") ∈ lw_all := lw_g (lw_at lw_m10 222 rfl) rfl
theorem q2549 : (Jvm.Cond.superclass "MergeJudge$Act" "java/lang/Object") ∈ lw_all := lw_g (lw_at lw_m10 223 rfl) rfl
theorem q3541 : (Jvm.Cond.castable "MergeJudge$Act" "java/lang/Object") ∈ lw_tbl := lw_at lw_m15 15 rfl
theorem in_X14 : ∀ w ∈ wsX140, w ∈ lw_all := lw_in wsX140 [2547] (by decide +kernel) (by decide +kernel)
theorem q2085 : (Jvm.Cond.interfaceMethod "MergeJudge$Answer" "MergeJudge$Answer" "now" "()I") ∈ lw_tbl := lw_at lw_m8 239 rfl
set_option maxRecDepth 100000
theorem q2086 : (Jvm.Cond.declares ({ cls := "MergeJudge$Answer", name := "now", desc := "()I" } : Jvm.MethodName)) ∈ lw_tbl := lw_at lw_m9 0 rfl
theorem q2023 : (Jvm.Cond.interfaceMethod "MergeJudge$Break" "MergeJudge$Break" "of" "(IIII)V") ∈ lw_tbl := lw_at lw_m8 177 rfl
set_option maxRecDepth 100000
theorem q2024 : (Jvm.Cond.declares ({ cls := "MergeJudge$Break", name := "of", desc := "(IIII)V" } : Jvm.MethodName)) ∈ lw_tbl := lw_at lw_m8 178 rfl
theorem q648 : (Jvm.Cond.interfaceMethod "MergeJudge$Merge" "MergeJudge$Merge" "of" "(III)I") ∈ lw_tbl := lw_at lw_m3 2 rfl
set_option maxRecDepth 100000
theorem q649 : (Jvm.Cond.declares ({ cls := "MergeJudge$Merge", name := "of", desc := "(III)I" } : Jvm.MethodName)) ∈ lw_tbl := lw_at lw_m3 3 rfl
theorem q1958 : (Jvm.Cond.interfaceMethod "MergeJudge$Rule" "MergeJudge$Rule" "holds" "(I)Z") ∈ lw_tbl := lw_at lw_m8 112 rfl
set_option maxRecDepth 100000
theorem q1959 : (Jvm.Cond.declares ({ cls := "MergeJudge$Rule", name := "holds", desc := "(I)Z" } : Jvm.MethodName)) ∈ lw_tbl := lw_at lw_m8 113 rfl
theorem q2015 : (Jvm.Cond.interfaceMethod "MergeJudge$Step" "MergeJudge$Step" "from" "(I)I") ∈ lw_tbl := lw_at lw_m8 169 rfl
set_option maxRecDepth 100000
theorem q2016 : (Jvm.Cond.declares ({ cls := "MergeJudge$Step", name := "from", desc := "(I)I" } : Jvm.MethodName)) ∈ lw_tbl := lw_at lw_m8 170 rfl
theorem q2593 : (Jvm.Cond.interfaceMethod "MergeJudge$Undo" "MergeJudge$Undo" "back" "()V") ∈ lw_tbl := lw_at lw_m11 27 rfl
set_option maxRecDepth 100000
theorem q2594 : (Jvm.Cond.declares ({ cls := "MergeJudge$Undo", name := "back", desc := "()V" } : Jvm.MethodName)) ∈ lw_tbl := lw_at lw_m11 28 rfl
