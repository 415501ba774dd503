/-! MergeJudge -/
set_option maxRecDepth 100000
def RX0 : String := "MergeJudge"
def TX0 : u_T := fun k => match k with
  | 0 => ("MergeJudge", "slots", "[LMergeJudge$Slot;", true)
  | 1 => ("MergeJudge", "now", "LMergeJudge$Base;", false)
  | 2 => ("MergeJudge", "images", "[LMergeJudge$Base;", true)
  | 3 => ("MergeJudge", "merges", "[LMergeJudge$Merging;", true)
  | 4 => ("MergeJudge", "clash", "LMergeJudge$Merge;", false)
  | 5 => ("MergeJudge", "tape", "[B", true)
  | 6 => ("MergeJudge", "taped", "I", false)
  | 7 => ("MergeJudge", "faultKind", "I", false)
  | 8 => ("MergeJudge", "faultPlace", "I", false)
  | 9 => ("MergeJudge", "rules", "[LMergeJudge$Ruling;", true)
  | 10 => ("MergeJudge", "steps", "[LMergeJudge$Stepping;", true)
  | 11 => ("MergeJudge", "isValid", "[Z", true)
  | 12 => ("MergeJudge", "dropped", "I", false)
  | 13 => ("MergeJudge", "locked", "I", false)
  | 14 => ("MergeJudge", "side", "LMergeJudge$Side;", true)
  | 15 => ("MergeJudge", "free", "LMergeJudge$Side;", true)
  | 16 => ("MergeJudge", "latest", "I", false)
  | 17 => ("MergeJudge", "smallest", "LMergeJudge$Least;", true)
  | 18 => ("MergeJudge", "often", "[I", true)
  | _ => ("MergeJudge", "locks", "LMergeJudge$Locks;", true)
def tyX0 : Nat → FieldType := fun k => match k with
  | 0 => .array (.object "MergeJudge$Slot")
  | 1 => .object "MergeJudge$Base"
  | 2 => .array (.object "MergeJudge$Base")
  | 3 => .array (.object "MergeJudge$Merging")
  | 4 => .object "MergeJudge$Merge"
  | 5 => .array .byte
  | 6 => .int
  | 7 => .int
  | 8 => .int
  | 9 => .array (.object "MergeJudge$Ruling")
  | 10 => .array (.object "MergeJudge$Stepping")
  | 11 => .array .boolean
  | 12 => .int
  | 13 => .int
  | 14 => .object "MergeJudge$Side"
  | 15 => .object "MergeJudge$Side"
  | 16 => .int
  | 17 => .object "MergeJudge$Least"
  | 18 => .array .int
  | _ => .object "MergeJudge$Locks"
abbrev wsX00 : List Cond := u_ws RX0 TX0 20
set_option maxRecDepth 100000 in
theorem nmX0 : ∀ a, a < 20 → ∀ b, b < 20 → a ≠ b → (TX0 a).2.1 ≠ (TX0 b).2.1 := by decide +kernel
set_option maxRecDepth 100000 in
theorem tyX0_ok : ∀ k, k < 20 → parseFieldDescriptor (TX0 k).2.2.1 = some (tyX0 k) := by decide +kernel
abbrev cX0_row : ByteArray := prog_1_method_5_code
def yX0_row : MethodName := ⟨RX0, "row", "(III)I"⟩
def dkwX0_row_2 : List UInt8 := [16, 253, 172]
abbrev dktX0_row_2 : List UInt8 := dkwX0_row_2 ++ []
def dkwX0_row_1 : List UInt8 := [164, 0, 6, 16, 254, 172, 42, 180, 0, 19, 27, 50, 28, 29, 182, 0, 23, 153, 0, 7, 3, 167, 0, 5]
abbrev dktX0_row_1 : List UInt8 := dkwX0_row_1 ++ dktX0_row_2
def dkwX0_row_0 : List UInt8 := [27, 184, 0, 15, 153, 0, 21, 28, 133, 9, 20, 0, 9, 184, 0, 11, 153, 0, 9, 29, 16, 60]
abbrev dktX0_row_0 : List UInt8 := dkwX0_row_0 ++ dktX0_row_1
theorem dksX0_row_0 : cX0_row.data.toList.drop 0 = dktX0_row_0 := by decide +kernel
theorem dksX0_row_1 : cX0_row.data.toList.drop 22 = dktX0_row_1 := dk_seg dksX0_row_0 22 rfl rfl
theorem dksX0_row_2 : cX0_row.data.toList.drop 46 = dktX0_row_2 := dk_seg dksX0_row_1 24 rfl rfl
theorem dX0_row_0 : decode cX0_row 0 = .ok (.iload_n 1, 1) := dk_27 (dk_at dksX0_row_0 0 rfl rfl)
theorem dX0_row_1 : decode cX0_row 1 = .ok (.invokestatic 15, 3) := dk_184 0 15 (dk_at dksX0_row_0 1 rfl rfl)
theorem dX0_row_4 : decode cX0_row 4 = .ok (.ifCond .eq 21, 3) := dk_153 0 21 (dk_at dksX0_row_0 4 rfl rfl)
theorem dX0_row_7 : decode cX0_row 7 = .ok (.iload_n 2, 1) := dk_28 (dk_at dksX0_row_0 7 rfl rfl)
theorem dX0_row_8 : decode cX0_row 8 = .ok (.i2l, 1) := dk_133 (dk_at dksX0_row_0 8 rfl rfl)
theorem dX0_row_9 : decode cX0_row 9 = .ok (.lconst 0, 1) := dk_9 (dk_at dksX0_row_0 9 rfl rfl)
theorem dX0_row_10 : decode cX0_row 10 = .ok (.ldc2_w 9, 3) := dk_20 0 9 (dk_at dksX0_row_0 10 rfl rfl)
theorem dX0_row_13 : decode cX0_row 13 = .ok (.invokestatic 11, 3) := dk_184 0 11 (dk_at dksX0_row_0 13 rfl rfl)
theorem dX0_row_16 : decode cX0_row 16 = .ok (.ifCond .eq 9, 3) := dk_153 0 9 (dk_at dksX0_row_0 16 rfl rfl)
theorem dX0_row_19 : decode cX0_row 19 = .ok (.iload_n 3, 1) := dk_29 (dk_at dksX0_row_0 19 rfl rfl)
theorem dX0_row_20 : decode cX0_row 20 = .ok (.bipush 60, 2) := dk_16 60 (dk_at dksX0_row_0 20 rfl rfl)
theorem dX0_row_22 : decode cX0_row 22 = .ok (.if_icmp .le 6, 3) := dk_164 0 6 (dk_at dksX0_row_1 0 rfl rfl)
theorem dX0_row_25 : decode cX0_row 25 = .ok (.bipush (-2), 2) := dk_16 254 (dk_at dksX0_row_1 3 rfl rfl)
theorem dX0_row_27 : decode cX0_row 27 = .ok (.ireturn, 1) := dk_172 (dk_at dksX0_row_1 5 rfl rfl)
theorem dX0_row_28 : decode cX0_row 28 = .ok (.aload_n 0, 1) := dk_42 (dk_at dksX0_row_1 6 rfl rfl)
theorem dX0_row_29 : decode cX0_row 29 = .ok (.getfield 19, 3) := dk_180 0 19 (dk_at dksX0_row_1 7 rfl rfl)
theorem dX0_row_32 : decode cX0_row 32 = .ok (.iload_n 1, 1) := dk_27 (dk_at dksX0_row_1 10 rfl rfl)
theorem dX0_row_33 : decode cX0_row 33 = .ok (.aaload, 1) := dk_50 (dk_at dksX0_row_1 11 rfl rfl)
theorem dX0_row_34 : decode cX0_row 34 = .ok (.iload_n 2, 1) := dk_28 (dk_at dksX0_row_1 12 rfl rfl)
theorem dX0_row_35 : decode cX0_row 35 = .ok (.iload_n 3, 1) := dk_29 (dk_at dksX0_row_1 13 rfl rfl)
theorem dX0_row_36 : decode cX0_row 36 = .ok (.invokevirtual 23, 3) := dk_182 0 23 (dk_at dksX0_row_1 14 rfl rfl)
theorem dX0_row_39 : decode cX0_row 39 = .ok (.ifCond .eq 7, 3) := dk_153 0 7 (dk_at dksX0_row_1 17 rfl rfl)
theorem dX0_row_42 : decode cX0_row 42 = .ok (.iconst 0, 1) := dk_3 (dk_at dksX0_row_1 20 rfl rfl)
theorem dX0_row_43 : decode cX0_row 43 = .ok (.goto 5, 3) := dk_167 0 5 (dk_at dksX0_row_1 21 rfl rfl)
theorem dX0_row_46 : decode cX0_row 46 = .ok (.bipush (-3), 2) := dk_16 253 (dk_at dksX0_row_2 0 rfl rfl)
theorem dX0_row_48 : decode cX0_row 48 = .ok (.ireturn, 1) := dk_172 (dk_at dksX0_row_2 2 rfl rfl)
abbrev cX0_isSlot : ByteArray := prog_1_method_4_code
def yX0_isSlot : MethodName := ⟨RX0, "isSlot", "(I)Z"⟩
def dkwX0_isSlot_0 : List UInt8 := [26, 133, 9, 20, 0, 9, 184, 0, 11, 172]
abbrev dktX0_isSlot_0 : List UInt8 := dkwX0_isSlot_0 ++ []
theorem dksX0_isSlot_0 : cX0_isSlot.data.toList.drop 0 = dktX0_isSlot_0 := by decide +kernel
theorem dX0_isSlot_0 : decode cX0_isSlot 0 = .ok (.iload_n 0, 1) := dk_26 (dk_at dksX0_isSlot_0 0 rfl rfl)
theorem dX0_isSlot_1 : decode cX0_isSlot 1 = .ok (.i2l, 1) := dk_133 (dk_at dksX0_isSlot_0 1 rfl rfl)
theorem dX0_isSlot_2 : decode cX0_isSlot 2 = .ok (.lconst 0, 1) := dk_9 (dk_at dksX0_isSlot_0 2 rfl rfl)
theorem dX0_isSlot_3 : decode cX0_isSlot 3 = .ok (.ldc2_w 9, 3) := dk_20 0 9 (dk_at dksX0_isSlot_0 3 rfl rfl)
theorem dX0_isSlot_6 : decode cX0_isSlot 6 = .ok (.invokestatic 11, 3) := dk_184 0 11 (dk_at dksX0_isSlot_0 6 rfl rfl)
theorem dX0_isSlot_9 : decode cX0_isSlot 9 = .ok (.ireturn, 1) := dk_172 (dk_at dksX0_isSlot_0 9 rfl rfl)
abbrev cX0_in : ByteArray := prog_1_method_1_code
def yX0_in : MethodName := ⟨RX0, "in", "(JJJ)Z"⟩
def dkwX0_in_0 : List UInt8 := [30, 32, 148, 155, 0, 14, 30, 22, 4, 148, 157, 0, 7, 4, 167, 0, 4, 3, 172]
abbrev dktX0_in_0 : List UInt8 := dkwX0_in_0 ++ []
theorem dksX0_in_0 : cX0_in.data.toList.drop 0 = dktX0_in_0 := by decide +kernel
theorem dX0_in_0 : decode cX0_in 0 = .ok (.lload_n 0, 1) := dk_30 (dk_at dksX0_in_0 0 rfl rfl)
theorem dX0_in_1 : decode cX0_in 1 = .ok (.lload_n 2, 1) := dk_32 (dk_at dksX0_in_0 1 rfl rfl)
theorem dX0_in_2 : decode cX0_in 2 = .ok (.lcmp, 1) := dk_148 (dk_at dksX0_in_0 2 rfl rfl)
theorem dX0_in_3 : decode cX0_in 3 = .ok (.ifCond .lt 14, 3) := dk_155 0 14 (dk_at dksX0_in_0 3 rfl rfl)
theorem dX0_in_6 : decode cX0_in 6 = .ok (.lload_n 0, 1) := dk_30 (dk_at dksX0_in_0 6 rfl rfl)
theorem dX0_in_7 : decode cX0_in 7 = .ok (.lload 4, 2) := dk_22 4 (dk_at dksX0_in_0 7 rfl rfl)
theorem dX0_in_9 : decode cX0_in 9 = .ok (.lcmp, 1) := dk_148 (dk_at dksX0_in_0 9 rfl rfl)
theorem dX0_in_10 : decode cX0_in 10 = .ok (.ifCond .gt 7, 3) := dk_157 0 7 (dk_at dksX0_in_0 10 rfl rfl)
theorem dX0_in_13 : decode cX0_in 13 = .ok (.iconst 1, 1) := dk_4 (dk_at dksX0_in_0 13 rfl rfl)
theorem dX0_in_14 : decode cX0_in 14 = .ok (.goto 4, 3) := dk_167 0 4 (dk_at dksX0_in_0 14 rfl rfl)
theorem dX0_in_17 : decode cX0_in 17 = .ok (.iconst 0, 1) := dk_3 (dk_at dksX0_in_0 17 rfl rfl)
theorem dX0_in_18 : decode cX0_in 18 = .ok (.ireturn, 1) := dk_172 (dk_at dksX0_in_0 18 rfl rfl)
abbrev cX0_write : ByteArray := prog_1_method_6_code
def yX0_write : MethodName := ⟨RX0, "write", "(IIJ)I"⟩
def dkwX0_write_0 : List UInt8 := [27, 184, 0, 15, 153, 0, 17, 42, 180, 0, 19, 27, 50, 28, 33, 182, 0, 29, 167, 0, 5, 16, 254, 172]
abbrev dktX0_write_0 : List UInt8 := dkwX0_write_0 ++ []
theorem dksX0_write_0 : cX0_write.data.toList.drop 0 = dktX0_write_0 := by decide +kernel
theorem dX0_write_0 : decode cX0_write 0 = .ok (.iload_n 1, 1) := dk_27 (dk_at dksX0_write_0 0 rfl rfl)
theorem dX0_write_1 : decode cX0_write 1 = .ok (.invokestatic 15, 3) := dk_184 0 15 (dk_at dksX0_write_0 1 rfl rfl)
theorem dX0_write_4 : decode cX0_write 4 = .ok (.ifCond .eq 17, 3) := dk_153 0 17 (dk_at dksX0_write_0 4 rfl rfl)
theorem dX0_write_7 : decode cX0_write 7 = .ok (.aload_n 0, 1) := dk_42 (dk_at dksX0_write_0 7 rfl rfl)
theorem dX0_write_8 : decode cX0_write 8 = .ok (.getfield 19, 3) := dk_180 0 19 (dk_at dksX0_write_0 8 rfl rfl)
theorem dX0_write_11 : decode cX0_write 11 = .ok (.iload_n 1, 1) := dk_27 (dk_at dksX0_write_0 11 rfl rfl)
theorem dX0_write_12 : decode cX0_write 12 = .ok (.aaload, 1) := dk_50 (dk_at dksX0_write_0 12 rfl rfl)
theorem dX0_write_13 : decode cX0_write 13 = .ok (.iload_n 2, 1) := dk_28 (dk_at dksX0_write_0 13 rfl rfl)
theorem dX0_write_14 : decode cX0_write 14 = .ok (.lload_n 3, 1) := dk_33 (dk_at dksX0_write_0 14 rfl rfl)
theorem dX0_write_15 : decode cX0_write 15 = .ok (.invokevirtual 29, 3) := dk_182 0 29 (dk_at dksX0_write_0 15 rfl rfl)
theorem dX0_write_18 : decode cX0_write 18 = .ok (.goto 5, 3) := dk_167 0 5 (dk_at dksX0_write_0 18 rfl rfl)
theorem dX0_write_21 : decode cX0_write 21 = .ok (.bipush (-2), 2) := dk_16 254 (dk_at dksX0_write_0 21 rfl rfl)
theorem dX0_write_23 : decode cX0_write 23 = .ok (.ireturn, 1) := dk_172 (dk_at dksX0_write_0 23 rfl rfl)
abbrev cX0_paste : ByteArray := prog_1_method_7_code
def yX0_paste : MethodName := ⟨RX0, "paste", "(IIIII)I"⟩
def dkwX0_paste_1 : List UInt8 := [180, 0, 19, 29, 50, 21, 4, 21, 5, 182, 0, 33, 167, 0, 5, 16, 254, 172]
abbrev dktX0_paste_1 : List UInt8 := dkwX0_paste_1 ++ []
def dkwX0_paste_0 : List UInt8 := [27, 184, 0, 15, 153, 0, 33, 29, 184, 0, 15, 153, 0, 26, 42, 180, 0, 19, 27, 50, 28, 42]
abbrev dktX0_paste_0 : List UInt8 := dkwX0_paste_0 ++ dktX0_paste_1
theorem dksX0_paste_0 : cX0_paste.data.toList.drop 0 = dktX0_paste_0 := by decide +kernel
theorem dksX0_paste_1 : cX0_paste.data.toList.drop 22 = dktX0_paste_1 := dk_seg dksX0_paste_0 22 rfl rfl
theorem dX0_paste_0 : decode cX0_paste 0 = .ok (.iload_n 1, 1) := dk_27 (dk_at dksX0_paste_0 0 rfl rfl)
theorem dX0_paste_1 : decode cX0_paste 1 = .ok (.invokestatic 15, 3) := dk_184 0 15 (dk_at dksX0_paste_0 1 rfl rfl)
theorem dX0_paste_4 : decode cX0_paste 4 = .ok (.ifCond .eq 33, 3) := dk_153 0 33 (dk_at dksX0_paste_0 4 rfl rfl)
theorem dX0_paste_7 : decode cX0_paste 7 = .ok (.iload_n 3, 1) := dk_29 (dk_at dksX0_paste_0 7 rfl rfl)
theorem dX0_paste_8 : decode cX0_paste 8 = .ok (.invokestatic 15, 3) := dk_184 0 15 (dk_at dksX0_paste_0 8 rfl rfl)
theorem dX0_paste_11 : decode cX0_paste 11 = .ok (.ifCond .eq 26, 3) := dk_153 0 26 (dk_at dksX0_paste_0 11 rfl rfl)
theorem dX0_paste_14 : decode cX0_paste 14 = .ok (.aload_n 0, 1) := dk_42 (dk_at dksX0_paste_0 14 rfl rfl)
theorem dX0_paste_15 : decode cX0_paste 15 = .ok (.getfield 19, 3) := dk_180 0 19 (dk_at dksX0_paste_0 15 rfl rfl)
theorem dX0_paste_18 : decode cX0_paste 18 = .ok (.iload_n 1, 1) := dk_27 (dk_at dksX0_paste_0 18 rfl rfl)
theorem dX0_paste_19 : decode cX0_paste 19 = .ok (.aaload, 1) := dk_50 (dk_at dksX0_paste_0 19 rfl rfl)
theorem dX0_paste_20 : decode cX0_paste 20 = .ok (.iload_n 2, 1) := dk_28 (dk_at dksX0_paste_0 20 rfl rfl)
theorem dX0_paste_21 : decode cX0_paste 21 = .ok (.aload_n 0, 1) := dk_42 (dk_at dksX0_paste_0 21 rfl rfl)
theorem dX0_paste_22 : decode cX0_paste 22 = .ok (.getfield 19, 3) := dk_180 0 19 (dk_at dksX0_paste_1 0 rfl rfl)
theorem dX0_paste_25 : decode cX0_paste 25 = .ok (.iload_n 3, 1) := dk_29 (dk_at dksX0_paste_1 3 rfl rfl)
theorem dX0_paste_26 : decode cX0_paste 26 = .ok (.aaload, 1) := dk_50 (dk_at dksX0_paste_1 4 rfl rfl)
theorem dX0_paste_27 : decode cX0_paste 27 = .ok (.iload 4, 2) := dk_21 4 (dk_at dksX0_paste_1 5 rfl rfl)
theorem dX0_paste_29 : decode cX0_paste 29 = .ok (.iload 5, 2) := dk_21 5 (dk_at dksX0_paste_1 7 rfl rfl)
theorem dX0_paste_31 : decode cX0_paste 31 = .ok (.invokevirtual 33, 3) := dk_182 0 33 (dk_at dksX0_paste_1 9 rfl rfl)
theorem dX0_paste_34 : decode cX0_paste 34 = .ok (.goto 5, 3) := dk_167 0 5 (dk_at dksX0_paste_1 12 rfl rfl)
theorem dX0_paste_37 : decode cX0_paste 37 = .ok (.bipush (-2), 2) := dk_16 254 (dk_at dksX0_paste_1 15 rfl rfl)
theorem dX0_paste_39 : decode cX0_paste 39 = .ok (.ireturn, 1) := dk_172 (dk_at dksX0_paste_1 17 rfl rfl)
abbrev cX0_init : ByteArray := prog_1_method_15_code
def yX0_init : MethodName := ⟨RX0, "<init>", "()V"⟩
def dkwX0_init_11 : List UInt8 := [183, 0, 180, 83, 177]
abbrev dktX0_init_11 : List UInt8 := dkwX0_init_11 ++ []
def dkwX0_init_10 : List UInt8 := [186, 0, 184, 0, 0, 183, 0, 180, 83, 42, 180, 0, 116, 6, 187, 0, 114, 89, 42, 186, 0, 187, 0, 0]
abbrev dktX0_init_10 : List UInt8 := dkwX0_init_10 ++ dktX0_init_11
def dkwX0_init_9 : List UInt8 := [187, 0, 114, 89, 186, 0, 183, 0, 0, 183, 0, 180, 83, 42, 180, 0, 116, 5, 187, 0, 114, 89, 42]
abbrev dktX0_init_9 : List UInt8 := dkwX0_init_9 ++ dktX0_init_10
def dkwX0_init_8 : List UInt8 := [180, 0, 116, 3, 187, 0, 114, 89, 186, 0, 70, 0, 0, 183, 0, 180, 83, 42, 180, 0, 116, 4]
abbrev dktX0_init_8 : List UInt8 := dkwX0_init_8 ++ dktX0_init_9
def dkwX0_init_7 : List UInt8 := [181, 0, 165, 42, 8, 188, 10, 181, 0, 169, 42, 187, 0, 173, 89, 42, 183, 0, 175, 181, 0, 176, 42]
abbrev dktX0_init_7 : List UInt8 := dkwX0_init_7 ++ dktX0_init_8
def dkwX0_init_6 : List UInt8 := [89, 42, 183, 0, 149, 181, 0, 156, 42, 2, 181, 0, 159, 42, 187, 0, 162, 89, 42, 183, 0, 164]
abbrev dktX0_init_6 : List UInt8 := dkwX0_init_6 ++ dktX0_init_7
def dkwX0_init_5 : List UInt8 := [42, 16, 64, 188, 4, 181, 0, 143, 42, 187, 0, 147, 89, 42, 183, 0, 149, 181, 0, 152, 42, 187, 0, 147]
abbrev dktX0_init_5 : List UInt8 := dkwX0_init_5 ++ dktX0_init_6
def dkwX0_init_4 : List UInt8 := [181, 0, 124, 42, 2, 181, 0, 128, 42, 8, 189, 0, 131, 181, 0, 133, 42, 8, 189, 0, 137, 181, 0, 139]
abbrev dktX0_init_4 : List UInt8 := dkwX0_init_4 ++ dktX0_init_5
def dkwX0_init_3 : List UInt8 := [7, 189, 0, 114, 181, 0, 116, 42, 42, 3, 182, 0, 120, 181, 0, 56, 42, 17, 1, 144, 188, 8]
abbrev dktX0_init_3 : List UInt8 := dkwX0_init_3 ++ dktX0_init_4
def dkwX0_init_2 : List UInt8 := [83, 181, 0, 19, 42, 187, 0, 51, 89, 183, 0, 109, 181, 0, 46, 42, 6, 189, 0, 51, 181, 0, 110, 42]
abbrev dktX0_init_2 : List UInt8 := dkwX0_init_2 ++ dktX0_init_3
def dkwX0_init_1 : List UInt8 := [89, 183, 0, 108, 83, 89, 5, 187, 0, 24, 89, 183, 0, 108, 83, 89, 6, 187, 0, 24, 89, 183, 0, 108]
abbrev dktX0_init_1 : List UInt8 := dkwX0_init_1 ++ dktX0_init_2
def dkwX0_init_0 : List UInt8 := [42, 183, 0, 102, 42, 7, 189, 0, 24, 89, 3, 187, 0, 24, 89, 183, 0, 108, 83, 89, 4, 187, 0, 24]
abbrev dktX0_init_0 : List UInt8 := dkwX0_init_0 ++ dktX0_init_1
theorem dksX0_init_0 : cX0_init.data.toList.drop 0 = dktX0_init_0 := by decide +kernel
theorem dksX0_init_1 : cX0_init.data.toList.drop 24 = dktX0_init_1 := dk_seg dksX0_init_0 24 rfl rfl
theorem dksX0_init_2 : cX0_init.data.toList.drop 48 = dktX0_init_2 := dk_seg dksX0_init_1 24 rfl rfl
theorem dksX0_init_3 : cX0_init.data.toList.drop 72 = dktX0_init_3 := dk_seg dksX0_init_2 24 rfl rfl
theorem dksX0_init_4 : cX0_init.data.toList.drop 94 = dktX0_init_4 := dk_seg dksX0_init_3 22 rfl rfl
theorem dksX0_init_5 : cX0_init.data.toList.drop 118 = dktX0_init_5 := dk_seg dksX0_init_4 24 rfl rfl
theorem dksX0_init_6 : cX0_init.data.toList.drop 142 = dktX0_init_6 := dk_seg dksX0_init_5 24 rfl rfl
theorem dksX0_init_7 : cX0_init.data.toList.drop 164 = dktX0_init_7 := dk_seg dksX0_init_6 22 rfl rfl
theorem dksX0_init_8 : cX0_init.data.toList.drop 187 = dktX0_init_8 := dk_seg dksX0_init_7 23 rfl rfl
theorem dksX0_init_9 : cX0_init.data.toList.drop 209 = dktX0_init_9 := dk_seg dksX0_init_8 22 rfl rfl
theorem dksX0_init_10 : cX0_init.data.toList.drop 232 = dktX0_init_10 := dk_seg dksX0_init_9 23 rfl rfl
theorem dksX0_init_11 : cX0_init.data.toList.drop 256 = dktX0_init_11 := dk_seg dksX0_init_10 24 rfl rfl
theorem dX0_init_0 : decode cX0_init 0 = .ok (.aload_n 0, 1) := dk_42 (dk_at dksX0_init_0 0 rfl rfl)
theorem dX0_init_1 : decode cX0_init 1 = .ok (.invokespecial 102, 3) := dk_183 0 102 (dk_at dksX0_init_0 1 rfl rfl)
theorem dX0_init_4 : decode cX0_init 4 = .ok (.aload_n 0, 1) := dk_42 (dk_at dksX0_init_0 4 rfl rfl)
theorem dX0_init_5 : decode cX0_init 5 = .ok (.iconst 4, 1) := dk_7 (dk_at dksX0_init_0 5 rfl rfl)
theorem dX0_init_6 : decode cX0_init 6 = .ok (.anewarray 24, 3) := dk_189 0 24 (dk_at dksX0_init_0 6 rfl rfl)
theorem dX0_init_9 : decode cX0_init 9 = .ok (.dup, 1) := dk_89 (dk_at dksX0_init_0 9 rfl rfl)
theorem dX0_init_10 : decode cX0_init 10 = .ok (.iconst 0, 1) := dk_3 (dk_at dksX0_init_0 10 rfl rfl)
theorem dX0_init_11 : decode cX0_init 11 = .ok (.new 24, 3) := dk_187 0 24 (dk_at dksX0_init_0 11 rfl rfl)
theorem dX0_init_14 : decode cX0_init 14 = .ok (.dup, 1) := dk_89 (dk_at dksX0_init_0 14 rfl rfl)
theorem dX0_init_15 : decode cX0_init 15 = .ok (.invokespecial 108, 3) := dk_183 0 108 (dk_at dksX0_init_0 15 rfl rfl)
theorem dX0_init_18 : decode cX0_init 18 = .ok (.aastore, 1) := dk_83 (dk_at dksX0_init_0 18 rfl rfl)
theorem dX0_init_19 : decode cX0_init 19 = .ok (.dup, 1) := dk_89 (dk_at dksX0_init_0 19 rfl rfl)
theorem dX0_init_20 : decode cX0_init 20 = .ok (.iconst 1, 1) := dk_4 (dk_at dksX0_init_0 20 rfl rfl)
theorem dX0_init_21 : decode cX0_init 21 = .ok (.new 24, 3) := dk_187 0 24 (dk_at dksX0_init_0 21 rfl rfl)
theorem dX0_init_24 : decode cX0_init 24 = .ok (.dup, 1) := dk_89 (dk_at dksX0_init_1 0 rfl rfl)
theorem dX0_init_25 : decode cX0_init 25 = .ok (.invokespecial 108, 3) := dk_183 0 108 (dk_at dksX0_init_1 1 rfl rfl)
theorem dX0_init_28 : decode cX0_init 28 = .ok (.aastore, 1) := dk_83 (dk_at dksX0_init_1 4 rfl rfl)
theorem dX0_init_29 : decode cX0_init 29 = .ok (.dup, 1) := dk_89 (dk_at dksX0_init_1 5 rfl rfl)
theorem dX0_init_30 : decode cX0_init 30 = .ok (.iconst 2, 1) := dk_5 (dk_at dksX0_init_1 6 rfl rfl)
theorem dX0_init_31 : decode cX0_init 31 = .ok (.new 24, 3) := dk_187 0 24 (dk_at dksX0_init_1 7 rfl rfl)
theorem dX0_init_34 : decode cX0_init 34 = .ok (.dup, 1) := dk_89 (dk_at dksX0_init_1 10 rfl rfl)
theorem dX0_init_35 : decode cX0_init 35 = .ok (.invokespecial 108, 3) := dk_183 0 108 (dk_at dksX0_init_1 11 rfl rfl)
theorem dX0_init_38 : decode cX0_init 38 = .ok (.aastore, 1) := dk_83 (dk_at dksX0_init_1 14 rfl rfl)
theorem dX0_init_39 : decode cX0_init 39 = .ok (.dup, 1) := dk_89 (dk_at dksX0_init_1 15 rfl rfl)
theorem dX0_init_40 : decode cX0_init 40 = .ok (.iconst 3, 1) := dk_6 (dk_at dksX0_init_1 16 rfl rfl)
theorem dX0_init_41 : decode cX0_init 41 = .ok (.new 24, 3) := dk_187 0 24 (dk_at dksX0_init_1 17 rfl rfl)
theorem dX0_init_44 : decode cX0_init 44 = .ok (.dup, 1) := dk_89 (dk_at dksX0_init_1 20 rfl rfl)
theorem dX0_init_45 : decode cX0_init 45 = .ok (.invokespecial 108, 3) := dk_183 0 108 (dk_at dksX0_init_1 21 rfl rfl)
theorem dX0_init_48 : decode cX0_init 48 = .ok (.aastore, 1) := dk_83 (dk_at dksX0_init_2 0 rfl rfl)
theorem dX0_init_49 : decode cX0_init 49 = .ok (.putfield 19, 3) := dk_181 0 19 (dk_at dksX0_init_2 1 rfl rfl)
theorem dX0_init_52 : decode cX0_init 52 = .ok (.aload_n 0, 1) := dk_42 (dk_at dksX0_init_2 4 rfl rfl)
theorem dX0_init_53 : decode cX0_init 53 = .ok (.new 51, 3) := dk_187 0 51 (dk_at dksX0_init_2 5 rfl rfl)
theorem dX0_init_56 : decode cX0_init 56 = .ok (.dup, 1) := dk_89 (dk_at dksX0_init_2 8 rfl rfl)
theorem dX0_init_57 : decode cX0_init 57 = .ok (.invokespecial 109, 3) := dk_183 0 109 (dk_at dksX0_init_2 9 rfl rfl)
theorem dX0_init_60 : decode cX0_init 60 = .ok (.putfield 46, 3) := dk_181 0 46 (dk_at dksX0_init_2 12 rfl rfl)
theorem dX0_init_63 : decode cX0_init 63 = .ok (.aload_n 0, 1) := dk_42 (dk_at dksX0_init_2 15 rfl rfl)
theorem dX0_init_64 : decode cX0_init 64 = .ok (.iconst 3, 1) := dk_6 (dk_at dksX0_init_2 16 rfl rfl)
theorem dX0_init_65 : decode cX0_init 65 = .ok (.anewarray 51, 3) := dk_189 0 51 (dk_at dksX0_init_2 17 rfl rfl)
theorem dX0_init_68 : decode cX0_init 68 = .ok (.putfield 110, 3) := dk_181 0 110 (dk_at dksX0_init_2 20 rfl rfl)
theorem dX0_init_71 : decode cX0_init 71 = .ok (.aload_n 0, 1) := dk_42 (dk_at dksX0_init_2 23 rfl rfl)
theorem dX0_init_72 : decode cX0_init 72 = .ok (.iconst 4, 1) := dk_7 (dk_at dksX0_init_3 0 rfl rfl)
theorem dX0_init_73 : decode cX0_init 73 = .ok (.anewarray 114, 3) := dk_189 0 114 (dk_at dksX0_init_3 1 rfl rfl)
theorem dX0_init_76 : decode cX0_init 76 = .ok (.putfield 116, 3) := dk_181 0 116 (dk_at dksX0_init_3 4 rfl rfl)
theorem dX0_init_79 : decode cX0_init 79 = .ok (.aload_n 0, 1) := dk_42 (dk_at dksX0_init_3 7 rfl rfl)
theorem dX0_init_80 : decode cX0_init 80 = .ok (.aload_n 0, 1) := dk_42 (dk_at dksX0_init_3 8 rfl rfl)
theorem dX0_init_81 : decode cX0_init 81 = .ok (.iconst 0, 1) := dk_3 (dk_at dksX0_init_3 9 rfl rfl)
theorem dX0_init_82 : decode cX0_init 82 = .ok (.invokevirtual 120, 3) := dk_182 0 120 (dk_at dksX0_init_3 10 rfl rfl)
theorem dX0_init_85 : decode cX0_init 85 = .ok (.putfield 56, 3) := dk_181 0 56 (dk_at dksX0_init_3 13 rfl rfl)
theorem dX0_init_88 : decode cX0_init 88 = .ok (.aload_n 0, 1) := dk_42 (dk_at dksX0_init_3 16 rfl rfl)
theorem dX0_init_89 : decode cX0_init 89 = .ok (.sipush 400, 3) := dk_17 1 144 (dk_at dksX0_init_3 17 rfl rfl)
theorem dX0_init_92 : decode cX0_init 92 = .ok (.newarray .byte, 2) := dk_188_8 (dk_at dksX0_init_3 20 rfl rfl)
theorem dX0_init_94 : decode cX0_init 94 = .ok (.putfield 124, 3) := dk_181 0 124 (dk_at dksX0_init_4 0 rfl rfl)
theorem dX0_init_97 : decode cX0_init 97 = .ok (.aload_n 0, 1) := dk_42 (dk_at dksX0_init_4 3 rfl rfl)
theorem dX0_init_98 : decode cX0_init 98 = .ok (.iconst (-1), 1) := dk_2 (dk_at dksX0_init_4 4 rfl rfl)
theorem dX0_init_99 : decode cX0_init 99 = .ok (.putfield 128, 3) := dk_181 0 128 (dk_at dksX0_init_4 5 rfl rfl)
theorem dX0_init_102 : decode cX0_init 102 = .ok (.aload_n 0, 1) := dk_42 (dk_at dksX0_init_4 8 rfl rfl)
theorem dX0_init_103 : decode cX0_init 103 = .ok (.iconst 5, 1) := dk_8 (dk_at dksX0_init_4 9 rfl rfl)
theorem dX0_init_104 : decode cX0_init 104 = .ok (.anewarray 131, 3) := dk_189 0 131 (dk_at dksX0_init_4 10 rfl rfl)
theorem dX0_init_107 : decode cX0_init 107 = .ok (.putfield 133, 3) := dk_181 0 133 (dk_at dksX0_init_4 13 rfl rfl)
theorem dX0_init_110 : decode cX0_init 110 = .ok (.aload_n 0, 1) := dk_42 (dk_at dksX0_init_4 16 rfl rfl)
theorem dX0_init_111 : decode cX0_init 111 = .ok (.iconst 5, 1) := dk_8 (dk_at dksX0_init_4 17 rfl rfl)
theorem dX0_init_112 : decode cX0_init 112 = .ok (.anewarray 137, 3) := dk_189 0 137 (dk_at dksX0_init_4 18 rfl rfl)
theorem dX0_init_115 : decode cX0_init 115 = .ok (.putfield 139, 3) := dk_181 0 139 (dk_at dksX0_init_4 21 rfl rfl)
theorem dX0_init_118 : decode cX0_init 118 = .ok (.aload_n 0, 1) := dk_42 (dk_at dksX0_init_5 0 rfl rfl)
theorem dX0_init_119 : decode cX0_init 119 = .ok (.bipush 64, 2) := dk_16 64 (dk_at dksX0_init_5 1 rfl rfl)
theorem dX0_init_121 : decode cX0_init 121 = .ok (.newarray .boolean, 2) := dk_188_4 (dk_at dksX0_init_5 3 rfl rfl)
theorem dX0_init_123 : decode cX0_init 123 = .ok (.putfield 143, 3) := dk_181 0 143 (dk_at dksX0_init_5 5 rfl rfl)
theorem dX0_init_126 : decode cX0_init 126 = .ok (.aload_n 0, 1) := dk_42 (dk_at dksX0_init_5 8 rfl rfl)
theorem dX0_init_127 : decode cX0_init 127 = .ok (.new 147, 3) := dk_187 0 147 (dk_at dksX0_init_5 9 rfl rfl)
theorem dX0_init_130 : decode cX0_init 130 = .ok (.dup, 1) := dk_89 (dk_at dksX0_init_5 12 rfl rfl)
theorem dX0_init_131 : decode cX0_init 131 = .ok (.aload_n 0, 1) := dk_42 (dk_at dksX0_init_5 13 rfl rfl)
theorem dX0_init_132 : decode cX0_init 132 = .ok (.invokespecial 149, 3) := dk_183 0 149 (dk_at dksX0_init_5 14 rfl rfl)
theorem dX0_init_135 : decode cX0_init 135 = .ok (.putfield 152, 3) := dk_181 0 152 (dk_at dksX0_init_5 17 rfl rfl)
theorem dX0_init_138 : decode cX0_init 138 = .ok (.aload_n 0, 1) := dk_42 (dk_at dksX0_init_5 20 rfl rfl)
theorem dX0_init_139 : decode cX0_init 139 = .ok (.new 147, 3) := dk_187 0 147 (dk_at dksX0_init_5 21 rfl rfl)
theorem dX0_init_142 : decode cX0_init 142 = .ok (.dup, 1) := dk_89 (dk_at dksX0_init_6 0 rfl rfl)
theorem dX0_init_143 : decode cX0_init 143 = .ok (.aload_n 0, 1) := dk_42 (dk_at dksX0_init_6 1 rfl rfl)
theorem dX0_init_144 : decode cX0_init 144 = .ok (.invokespecial 149, 3) := dk_183 0 149 (dk_at dksX0_init_6 2 rfl rfl)
theorem dX0_init_147 : decode cX0_init 147 = .ok (.putfield 156, 3) := dk_181 0 156 (dk_at dksX0_init_6 5 rfl rfl)
theorem dX0_init_150 : decode cX0_init 150 = .ok (.aload_n 0, 1) := dk_42 (dk_at dksX0_init_6 8 rfl rfl)
theorem dX0_init_151 : decode cX0_init 151 = .ok (.iconst (-1), 1) := dk_2 (dk_at dksX0_init_6 9 rfl rfl)
theorem dX0_init_152 : decode cX0_init 152 = .ok (.putfield 159, 3) := dk_181 0 159 (dk_at dksX0_init_6 10 rfl rfl)
theorem dX0_init_155 : decode cX0_init 155 = .ok (.aload_n 0, 1) := dk_42 (dk_at dksX0_init_6 13 rfl rfl)
theorem dX0_init_156 : decode cX0_init 156 = .ok (.new 162, 3) := dk_187 0 162 (dk_at dksX0_init_6 14 rfl rfl)
theorem dX0_init_159 : decode cX0_init 159 = .ok (.dup, 1) := dk_89 (dk_at dksX0_init_6 17 rfl rfl)
theorem dX0_init_160 : decode cX0_init 160 = .ok (.aload_n 0, 1) := dk_42 (dk_at dksX0_init_6 18 rfl rfl)
theorem dX0_init_161 : decode cX0_init 161 = .ok (.invokespecial 164, 3) := dk_183 0 164 (dk_at dksX0_init_6 19 rfl rfl)
theorem dX0_init_164 : decode cX0_init 164 = .ok (.putfield 165, 3) := dk_181 0 165 (dk_at dksX0_init_7 0 rfl rfl)
theorem dX0_init_167 : decode cX0_init 167 = .ok (.aload_n 0, 1) := dk_42 (dk_at dksX0_init_7 3 rfl rfl)
theorem dX0_init_168 : decode cX0_init 168 = .ok (.iconst 5, 1) := dk_8 (dk_at dksX0_init_7 4 rfl rfl)
theorem dX0_init_169 : decode cX0_init 169 = .ok (.newarray .int, 2) := dk_188_10 (dk_at dksX0_init_7 5 rfl rfl)
theorem dX0_init_171 : decode cX0_init 171 = .ok (.putfield 169, 3) := dk_181 0 169 (dk_at dksX0_init_7 7 rfl rfl)
theorem dX0_init_174 : decode cX0_init 174 = .ok (.aload_n 0, 1) := dk_42 (dk_at dksX0_init_7 10 rfl rfl)
theorem dX0_init_175 : decode cX0_init 175 = .ok (.new 173, 3) := dk_187 0 173 (dk_at dksX0_init_7 11 rfl rfl)
theorem dX0_init_178 : decode cX0_init 178 = .ok (.dup, 1) := dk_89 (dk_at dksX0_init_7 14 rfl rfl)
theorem dX0_init_179 : decode cX0_init 179 = .ok (.aload_n 0, 1) := dk_42 (dk_at dksX0_init_7 15 rfl rfl)
theorem dX0_init_180 : decode cX0_init 180 = .ok (.invokespecial 175, 3) := dk_183 0 175 (dk_at dksX0_init_7 16 rfl rfl)
theorem dX0_init_183 : decode cX0_init 183 = .ok (.putfield 176, 3) := dk_181 0 176 (dk_at dksX0_init_7 19 rfl rfl)
theorem dX0_init_186 : decode cX0_init 186 = .ok (.aload_n 0, 1) := dk_42 (dk_at dksX0_init_7 22 rfl rfl)
theorem dX0_init_187 : decode cX0_init 187 = .ok (.getfield 116, 3) := dk_180 0 116 (dk_at dksX0_init_8 0 rfl rfl)
theorem dX0_init_190 : decode cX0_init 190 = .ok (.iconst 0, 1) := dk_3 (dk_at dksX0_init_8 3 rfl rfl)
theorem dX0_init_191 : decode cX0_init 191 = .ok (.new 114, 3) := dk_187 0 114 (dk_at dksX0_init_8 4 rfl rfl)
theorem dX0_init_194 : decode cX0_init 194 = .ok (.dup, 1) := dk_89 (dk_at dksX0_init_8 7 rfl rfl)
theorem dX0_init_195 : decode cX0_init 195 = .ok (.invokedynamic 70, 5) := by decide +kernel
theorem dX0_init_200 : decode cX0_init 200 = .ok (.invokespecial 180, 3) := dk_183 0 180 (dk_at dksX0_init_8 13 rfl rfl)
theorem dX0_init_203 : decode cX0_init 203 = .ok (.aastore, 1) := dk_83 (dk_at dksX0_init_8 16 rfl rfl)
theorem dX0_init_204 : decode cX0_init 204 = .ok (.aload_n 0, 1) := dk_42 (dk_at dksX0_init_8 17 rfl rfl)
theorem dX0_init_205 : decode cX0_init 205 = .ok (.getfield 116, 3) := dk_180 0 116 (dk_at dksX0_init_8 18 rfl rfl)
theorem dX0_init_208 : decode cX0_init 208 = .ok (.iconst 1, 1) := dk_4 (dk_at dksX0_init_8 21 rfl rfl)
theorem dX0_init_209 : decode cX0_init 209 = .ok (.new 114, 3) := dk_187 0 114 (dk_at dksX0_init_9 0 rfl rfl)
theorem dX0_init_212 : decode cX0_init 212 = .ok (.dup, 1) := dk_89 (dk_at dksX0_init_9 3 rfl rfl)
theorem dX0_init_213 : decode cX0_init 213 = .ok (.invokedynamic 183, 5) := by decide +kernel
theorem dX0_init_218 : decode cX0_init 218 = .ok (.invokespecial 180, 3) := dk_183 0 180 (dk_at dksX0_init_9 9 rfl rfl)
theorem dX0_init_221 : decode cX0_init 221 = .ok (.aastore, 1) := dk_83 (dk_at dksX0_init_9 12 rfl rfl)
theorem dX0_init_222 : decode cX0_init 222 = .ok (.aload_n 0, 1) := dk_42 (dk_at dksX0_init_9 13 rfl rfl)
theorem dX0_init_223 : decode cX0_init 223 = .ok (.getfield 116, 3) := dk_180 0 116 (dk_at dksX0_init_9 14 rfl rfl)
theorem dX0_init_226 : decode cX0_init 226 = .ok (.iconst 2, 1) := dk_5 (dk_at dksX0_init_9 17 rfl rfl)
theorem dX0_init_227 : decode cX0_init 227 = .ok (.new 114, 3) := dk_187 0 114 (dk_at dksX0_init_9 18 rfl rfl)
theorem dX0_init_230 : decode cX0_init 230 = .ok (.dup, 1) := dk_89 (dk_at dksX0_init_9 21 rfl rfl)
theorem dX0_init_231 : decode cX0_init 231 = .ok (.aload_n 0, 1) := dk_42 (dk_at dksX0_init_9 22 rfl rfl)
theorem dX0_init_232 : decode cX0_init 232 = .ok (.invokedynamic 184, 5) := by decide +kernel
theorem dX0_init_237 : decode cX0_init 237 = .ok (.invokespecial 180, 3) := dk_183 0 180 (dk_at dksX0_init_10 5 rfl rfl)
theorem dX0_init_240 : decode cX0_init 240 = .ok (.aastore, 1) := dk_83 (dk_at dksX0_init_10 8 rfl rfl)
theorem dX0_init_241 : decode cX0_init 241 = .ok (.aload_n 0, 1) := dk_42 (dk_at dksX0_init_10 9 rfl rfl)
theorem dX0_init_242 : decode cX0_init 242 = .ok (.getfield 116, 3) := dk_180 0 116 (dk_at dksX0_init_10 10 rfl rfl)
theorem dX0_init_245 : decode cX0_init 245 = .ok (.iconst 3, 1) := dk_6 (dk_at dksX0_init_10 13 rfl rfl)
theorem dX0_init_246 : decode cX0_init 246 = .ok (.new 114, 3) := dk_187 0 114 (dk_at dksX0_init_10 14 rfl rfl)
theorem dX0_init_249 : decode cX0_init 249 = .ok (.dup, 1) := dk_89 (dk_at dksX0_init_10 17 rfl rfl)
theorem dX0_init_250 : decode cX0_init 250 = .ok (.aload_n 0, 1) := dk_42 (dk_at dksX0_init_10 18 rfl rfl)
theorem dX0_init_251 : decode cX0_init 251 = .ok (.invokedynamic 187, 5) := by decide +kernel
theorem dX0_init_256 : decode cX0_init 256 = .ok (.invokespecial 180, 3) := dk_183 0 180 (dk_at dksX0_init_11 0 rfl rfl)
theorem dX0_init_259 : decode cX0_init 259 = .ok (.aastore, 1) := dk_83 (dk_at dksX0_init_11 3 rfl rfl)
theorem dX0_init_260 : decode cX0_init 260 = .ok (.return_, 1) := dk_177 (dk_at dksX0_init_11 4 rfl rfl)
abbrev cX0_clashOf : ByteArray := prog_1_method_12_code
def yX0_clashOf : MethodName := ⟨RX0, "clashOf", "(I)LMergeJudge$Merge;"⟩
def dkwX0_clashOf_2 : List UInt8 := [186, 0, 66, 0, 0, 176, 186, 0, 69, 0, 0, 176, 186, 0, 70, 0, 0, 176, 186, 0, 71, 0, 0, 176]
abbrev dktX0_clashOf_2 : List UInt8 := dkwX0_clashOf_2 ++ []
def dkwX0_clashOf_1 : List UInt8 := [170, 0, 0, 0, 0, 0, 45, 0, 0, 0, 0, 0, 0, 0, 2, 0, 0, 0, 27, 0, 0, 0, 33, 0, 0, 0, 39]
abbrev dktX0_clashOf_1 : List UInt8 := dkwX0_clashOf_1 ++ dktX0_clashOf_2
def dkwX0_clashOf_0 : List UInt8 := [27]
abbrev dktX0_clashOf_0 : List UInt8 := dkwX0_clashOf_0 ++ dktX0_clashOf_1
theorem dksX0_clashOf_0 : cX0_clashOf.data.toList.drop 0 = dktX0_clashOf_0 := by decide +kernel
theorem dksX0_clashOf_1 : cX0_clashOf.data.toList.drop 1 = dktX0_clashOf_1 := dk_seg dksX0_clashOf_0 1 rfl rfl
theorem dksX0_clashOf_2 : cX0_clashOf.data.toList.drop 28 = dktX0_clashOf_2 := dk_seg dksX0_clashOf_1 27 rfl rfl
theorem dX0_clashOf_0 : decode cX0_clashOf 0 = .ok (.iload_n 1, 1) := dk_27 (dk_at dksX0_clashOf_0 0 rfl rfl)
theorem dX0_clashOf_1 : decode cX0_clashOf 1 = .ok (.tableswitch 45 0 2 #[27, 33, 39], 27) := by decide +kernel
theorem dX0_clashOf_28 : decode cX0_clashOf 28 = .ok (.invokedynamic 66, 5) := by decide +kernel
theorem dX0_clashOf_33 : decode cX0_clashOf 33 = .ok (.areturn, 1) := dk_176 (dk_at dksX0_clashOf_2 5 rfl rfl)
theorem dX0_clashOf_34 : decode cX0_clashOf 34 = .ok (.invokedynamic 69, 5) := by decide +kernel
theorem dX0_clashOf_39 : decode cX0_clashOf 39 = .ok (.areturn, 1) := dk_176 (dk_at dksX0_clashOf_2 11 rfl rfl)
theorem dX0_clashOf_40 : decode cX0_clashOf 40 = .ok (.invokedynamic 70, 5) := by decide +kernel
theorem dX0_clashOf_45 : decode cX0_clashOf 45 = .ok (.areturn, 1) := dk_176 (dk_at dksX0_clashOf_2 17 rfl rfl)
theorem dX0_clashOf_46 : decode cX0_clashOf 46 = .ok (.invokedynamic 71, 5) := by decide +kernel
theorem dX0_clashOf_51 : decode cX0_clashOf 51 = .ok (.areturn, 1) := dk_176 (dk_at dksX0_clashOf_2 23 rfl rfl)
abbrev cX0_lambda_clashOf_0 : ByteArray := prog_1_method_165_code
def yX0_lambda_clashOf_0 : MethodName := ⟨RX0, "lambda$clashOf$0", "(III)I"⟩
theorem dX0_lambda_clashOf_0_0 : decode cX0_lambda_clashOf_0 0 = .ok (.iload_n 1, 1) := by decide +kernel
theorem dX0_lambda_clashOf_0_1 : decode cX0_lambda_clashOf_0 1 = .ok (.ireturn, 1) := by decide +kernel
abbrev cX0_lambda_clashOf_1 : ByteArray := prog_1_method_164_code
def yX0_lambda_clashOf_1 : MethodName := ⟨RX0, "lambda$clashOf$1", "(III)I"⟩
theorem dX0_lambda_clashOf_1_0 : decode cX0_lambda_clashOf_1 0 = .ok (.iload_n 2, 1) := by decide +kernel
theorem dX0_lambda_clashOf_1_1 : decode cX0_lambda_clashOf_1 1 = .ok (.ireturn, 1) := by decide +kernel
abbrev cX0_larger : ByteArray := prog_1_method_8_code
def yX0_larger : MethodName := ⟨RX0, "larger", "(III)I"⟩
def dkwX0_larger_0 : List UInt8 := [27, 28, 184, 0, 37, 172]
abbrev dktX0_larger_0 : List UInt8 := dkwX0_larger_0 ++ []
theorem dksX0_larger_0 : cX0_larger.data.toList.drop 0 = dktX0_larger_0 := by decide +kernel
theorem dX0_larger_0 : decode cX0_larger 0 = .ok (.iload_n 1, 1) := dk_27 (dk_at dksX0_larger_0 0 rfl rfl)
theorem dX0_larger_1 : decode cX0_larger 1 = .ok (.iload_n 2, 1) := dk_28 (dk_at dksX0_larger_0 1 rfl rfl)
theorem dX0_larger_2 : decode cX0_larger 2 = .ok (.invokestatic 37, 3) := dk_184 0 37 (dk_at dksX0_larger_0 2 rfl rfl)
theorem dX0_larger_5 : decode cX0_larger 5 = .ok (.ireturn, 1) := dk_172 (dk_at dksX0_larger_0 5 rfl rfl)
abbrev cX0_lambda_clashOf_2 : ByteArray := prog_1_method_163_code
def yX0_lambda_clashOf_2 : MethodName := ⟨RX0, "lambda$clashOf$2", "(III)I"⟩
theorem dX0_lambda_clashOf_2_0 : decode cX0_lambda_clashOf_2 0 = .ok (.iload_n 0, 1) := by decide +kernel
theorem dX0_lambda_clashOf_2_1 : decode cX0_lambda_clashOf_2 1 = .ok (.ireturn, 1) := by decide +kernel
abbrev cX0_smaller : ByteArray := prog_1_method_9_code
def yX0_smaller : MethodName := ⟨RX0, "smaller", "(III)I"⟩
def dkwX0_smaller_0 : List UInt8 := [27, 28, 184, 0, 43, 172]
abbrev dktX0_smaller_0 : List UInt8 := dkwX0_smaller_0 ++ []
theorem dksX0_smaller_0 : cX0_smaller.data.toList.drop 0 = dktX0_smaller_0 := by decide +kernel
theorem dX0_smaller_0 : decode cX0_smaller 0 = .ok (.iload_n 1, 1) := dk_27 (dk_at dksX0_smaller_0 0 rfl rfl)
theorem dX0_smaller_1 : decode cX0_smaller 1 = .ok (.iload_n 2, 1) := dk_28 (dk_at dksX0_smaller_0 1 rfl rfl)
theorem dX0_smaller_2 : decode cX0_smaller 2 = .ok (.invokestatic 43, 3) := dk_184 0 43 (dk_at dksX0_smaller_0 2 rfl rfl)
theorem dX0_smaller_5 : decode cX0_smaller 5 = .ok (.ireturn, 1) := dk_172 (dk_at dksX0_smaller_0 5 rfl rfl)
abbrev cX0_sums : ByteArray := prog_1_method_10_code
def yX0_sums : MethodName := ⟨RX0, "sums", "(III)I"⟩
def dkwX0_sums_0 : List UInt8 := [3, 42, 180, 0, 46, 180, 0, 50, 28, 29, 96, 27, 100, 184, 0, 43, 184, 0, 37, 172]
abbrev dktX0_sums_0 : List UInt8 := dkwX0_sums_0 ++ []
theorem dksX0_sums_0 : cX0_sums.data.toList.drop 0 = dktX0_sums_0 := by decide +kernel
theorem dX0_sums_0 : decode cX0_sums 0 = .ok (.iconst 0, 1) := dk_3 (dk_at dksX0_sums_0 0 rfl rfl)
theorem dX0_sums_1 : decode cX0_sums 1 = .ok (.aload_n 0, 1) := dk_42 (dk_at dksX0_sums_0 1 rfl rfl)
theorem dX0_sums_2 : decode cX0_sums 2 = .ok (.getfield 46, 3) := dk_180 0 46 (dk_at dksX0_sums_0 2 rfl rfl)
theorem dX0_sums_5 : decode cX0_sums 5 = .ok (.getfield 50, 3) := dk_180 0 50 (dk_at dksX0_sums_0 5 rfl rfl)
theorem dX0_sums_8 : decode cX0_sums 8 = .ok (.iload_n 2, 1) := dk_28 (dk_at dksX0_sums_0 8 rfl rfl)
theorem dX0_sums_9 : decode cX0_sums 9 = .ok (.iload_n 3, 1) := dk_29 (dk_at dksX0_sums_0 9 rfl rfl)
theorem dX0_sums_10 : decode cX0_sums 10 = .ok (.iadd, 1) := dk_96 (dk_at dksX0_sums_0 10 rfl rfl)
theorem dX0_sums_11 : decode cX0_sums 11 = .ok (.iload_n 1, 1) := dk_27 (dk_at dksX0_sums_0 11 rfl rfl)
theorem dX0_sums_12 : decode cX0_sums 12 = .ok (.isub, 1) := dk_100 (dk_at dksX0_sums_0 12 rfl rfl)
theorem dX0_sums_13 : decode cX0_sums 13 = .ok (.invokestatic 43, 3) := dk_184 0 43 (dk_at dksX0_sums_0 13 rfl rfl)
theorem dX0_sums_16 : decode cX0_sums 16 = .ok (.invokestatic 37, 3) := dk_184 0 37 (dk_at dksX0_sums_0 16 rfl rfl)
theorem dX0_sums_19 : decode cX0_sums 19 = .ok (.ireturn, 1) := dk_172 (dk_at dksX0_sums_0 19 rfl rfl)
abbrev cX0_late : ByteArray := prog_1_method_11_code
def yX0_late : MethodName := ⟨RX0, "late", "(III)I"⟩
def dkwX0_late_1 : List UInt8 := [29, 185, 0, 60, 4, 0, 172]
abbrev dktX0_late_1 : List UInt8 := dkwX0_late_1 ++ []
def dkwX0_late_0 : List UInt8 := [28, 27, 160, 0, 7, 29, 167, 0, 24, 29, 27, 160, 0, 7, 28, 167, 0, 15, 42, 180, 0, 56, 27, 28]
abbrev dktX0_late_0 : List UInt8 := dkwX0_late_0 ++ dktX0_late_1
theorem dksX0_late_0 : cX0_late.data.toList.drop 0 = dktX0_late_0 := by decide +kernel
theorem dksX0_late_1 : cX0_late.data.toList.drop 24 = dktX0_late_1 := dk_seg dksX0_late_0 24 rfl rfl
theorem dX0_late_0 : decode cX0_late 0 = .ok (.iload_n 2, 1) := dk_28 (dk_at dksX0_late_0 0 rfl rfl)
theorem dX0_late_1 : decode cX0_late 1 = .ok (.iload_n 1, 1) := dk_27 (dk_at dksX0_late_0 1 rfl rfl)
theorem dX0_late_2 : decode cX0_late 2 = .ok (.if_icmp .ne 7, 3) := dk_160 0 7 (dk_at dksX0_late_0 2 rfl rfl)
theorem dX0_late_5 : decode cX0_late 5 = .ok (.iload_n 3, 1) := dk_29 (dk_at dksX0_late_0 5 rfl rfl)
theorem dX0_late_6 : decode cX0_late 6 = .ok (.goto 24, 3) := dk_167 0 24 (dk_at dksX0_late_0 6 rfl rfl)
theorem dX0_late_9 : decode cX0_late 9 = .ok (.iload_n 3, 1) := dk_29 (dk_at dksX0_late_0 9 rfl rfl)
theorem dX0_late_10 : decode cX0_late 10 = .ok (.iload_n 1, 1) := dk_27 (dk_at dksX0_late_0 10 rfl rfl)
theorem dX0_late_11 : decode cX0_late 11 = .ok (.if_icmp .ne 7, 3) := dk_160 0 7 (dk_at dksX0_late_0 11 rfl rfl)
theorem dX0_late_14 : decode cX0_late 14 = .ok (.iload_n 2, 1) := dk_28 (dk_at dksX0_late_0 14 rfl rfl)
theorem dX0_late_15 : decode cX0_late 15 = .ok (.goto 15, 3) := dk_167 0 15 (dk_at dksX0_late_0 15 rfl rfl)
theorem dX0_late_18 : decode cX0_late 18 = .ok (.aload_n 0, 1) := dk_42 (dk_at dksX0_late_0 18 rfl rfl)
theorem dX0_late_19 : decode cX0_late 19 = .ok (.getfield 56, 3) := dk_180 0 56 (dk_at dksX0_late_0 19 rfl rfl)
theorem dX0_late_22 : decode cX0_late 22 = .ok (.iload_n 1, 1) := dk_27 (dk_at dksX0_late_0 22 rfl rfl)
theorem dX0_late_23 : decode cX0_late 23 = .ok (.iload_n 2, 1) := dk_28 (dk_at dksX0_late_0 23 rfl rfl)
theorem dX0_late_24 : decode cX0_late 24 = .ok (.iload_n 3, 1) := dk_29 (dk_at dksX0_late_1 0 rfl rfl)
theorem dX0_late_25 : decode cX0_late 25 = .ok (.invokeinterface 60 4, 5) := by decide +kernel
theorem dX0_late_30 : decode cX0_late 30 = .ok (.ireturn, 1) := dk_172 (dk_at dksX0_late_1 6 rfl rfl)
abbrev cX0_feed : ByteArray := prog_1_method_16_code
def yX0_feed : MethodName := ⟨RX0, "feed", "(IIIII)I"⟩
def dkwX0_feed_4 : List UInt8 := [16, 20, 96, 181, 0, 188, 42, 180, 0, 188, 172]
abbrev dktX0_feed_4 : List UInt8 := dkwX0_feed_4 ++ []
def dkwX0_feed_3 : List UInt8 := [16, 24, 16, 8, 21, 7, 7, 112, 104, 100, 122, 145, 84, 132, 7, 1, 167, 255, 215, 42, 89, 180, 0, 188]
abbrev dktX0_feed_3 : List UInt8 := dkwX0_feed_3 ++ dktX0_feed_4
def dkwX0_feed_2 : List UInt8 := [16, 20, 162, 0, 40, 42, 180, 0, 124, 42, 180, 0, 188, 21, 7, 96, 25, 6, 21, 7, 7, 108, 46]
abbrev dktX0_feed_2 : List UInt8 := dkwX0_feed_2 ++ dktX0_feed_3
def dkwX0_feed_1 : List UInt8 := [28, 79, 89, 5, 29, 79, 89, 6, 21, 4, 79, 89, 7, 21, 5, 79, 58, 6, 3, 54, 7, 21, 7]
abbrev dktX0_feed_1 : List UInt8 := dkwX0_feed_1 ++ dktX0_feed_2
def dkwX0_feed_0 : List UInt8 := [42, 180, 0, 188, 16, 20, 96, 17, 1, 144, 164, 0, 5, 2, 172, 8, 188, 10, 89, 3, 27, 79, 89, 4]
abbrev dktX0_feed_0 : List UInt8 := dkwX0_feed_0 ++ dktX0_feed_1
theorem dksX0_feed_0 : cX0_feed.data.toList.drop 0 = dktX0_feed_0 := by decide +kernel
theorem dksX0_feed_1 : cX0_feed.data.toList.drop 24 = dktX0_feed_1 := dk_seg dksX0_feed_0 24 rfl rfl
theorem dksX0_feed_2 : cX0_feed.data.toList.drop 47 = dktX0_feed_2 := dk_seg dksX0_feed_1 23 rfl rfl
theorem dksX0_feed_3 : cX0_feed.data.toList.drop 70 = dktX0_feed_3 := dk_seg dksX0_feed_2 23 rfl rfl
theorem dksX0_feed_4 : cX0_feed.data.toList.drop 94 = dktX0_feed_4 := dk_seg dksX0_feed_3 24 rfl rfl
theorem dX0_feed_0 : decode cX0_feed 0 = .ok (.aload_n 0, 1) := dk_42 (dk_at dksX0_feed_0 0 rfl rfl)
theorem dX0_feed_1 : decode cX0_feed 1 = .ok (.getfield 188, 3) := dk_180 0 188 (dk_at dksX0_feed_0 1 rfl rfl)
theorem dX0_feed_4 : decode cX0_feed 4 = .ok (.bipush 20, 2) := dk_16 20 (dk_at dksX0_feed_0 4 rfl rfl)
theorem dX0_feed_6 : decode cX0_feed 6 = .ok (.iadd, 1) := dk_96 (dk_at dksX0_feed_0 6 rfl rfl)
theorem dX0_feed_7 : decode cX0_feed 7 = .ok (.sipush 400, 3) := dk_17 1 144 (dk_at dksX0_feed_0 7 rfl rfl)
theorem dX0_feed_10 : decode cX0_feed 10 = .ok (.if_icmp .le 5, 3) := dk_164 0 5 (dk_at dksX0_feed_0 10 rfl rfl)
theorem dX0_feed_13 : decode cX0_feed 13 = .ok (.iconst (-1), 1) := dk_2 (dk_at dksX0_feed_0 13 rfl rfl)
theorem dX0_feed_14 : decode cX0_feed 14 = .ok (.ireturn, 1) := dk_172 (dk_at dksX0_feed_0 14 rfl rfl)
theorem dX0_feed_15 : decode cX0_feed 15 = .ok (.iconst 5, 1) := dk_8 (dk_at dksX0_feed_0 15 rfl rfl)
theorem dX0_feed_16 : decode cX0_feed 16 = .ok (.newarray .int, 2) := dk_188_10 (dk_at dksX0_feed_0 16 rfl rfl)
theorem dX0_feed_18 : decode cX0_feed 18 = .ok (.dup, 1) := dk_89 (dk_at dksX0_feed_0 18 rfl rfl)
theorem dX0_feed_19 : decode cX0_feed 19 = .ok (.iconst 0, 1) := dk_3 (dk_at dksX0_feed_0 19 rfl rfl)
theorem dX0_feed_20 : decode cX0_feed 20 = .ok (.iload_n 1, 1) := dk_27 (dk_at dksX0_feed_0 20 rfl rfl)
theorem dX0_feed_21 : decode cX0_feed 21 = .ok (.iastore, 1) := dk_79 (dk_at dksX0_feed_0 21 rfl rfl)
theorem dX0_feed_22 : decode cX0_feed 22 = .ok (.dup, 1) := dk_89 (dk_at dksX0_feed_0 22 rfl rfl)
theorem dX0_feed_23 : decode cX0_feed 23 = .ok (.iconst 1, 1) := dk_4 (dk_at dksX0_feed_0 23 rfl rfl)
theorem dX0_feed_24 : decode cX0_feed 24 = .ok (.iload_n 2, 1) := dk_28 (dk_at dksX0_feed_1 0 rfl rfl)
theorem dX0_feed_25 : decode cX0_feed 25 = .ok (.iastore, 1) := dk_79 (dk_at dksX0_feed_1 1 rfl rfl)
theorem dX0_feed_26 : decode cX0_feed 26 = .ok (.dup, 1) := dk_89 (dk_at dksX0_feed_1 2 rfl rfl)
theorem dX0_feed_27 : decode cX0_feed 27 = .ok (.iconst 2, 1) := dk_5 (dk_at dksX0_feed_1 3 rfl rfl)
theorem dX0_feed_28 : decode cX0_feed 28 = .ok (.iload_n 3, 1) := dk_29 (dk_at dksX0_feed_1 4 rfl rfl)
theorem dX0_feed_29 : decode cX0_feed 29 = .ok (.iastore, 1) := dk_79 (dk_at dksX0_feed_1 5 rfl rfl)
theorem dX0_feed_30 : decode cX0_feed 30 = .ok (.dup, 1) := dk_89 (dk_at dksX0_feed_1 6 rfl rfl)
theorem dX0_feed_31 : decode cX0_feed 31 = .ok (.iconst 3, 1) := dk_6 (dk_at dksX0_feed_1 7 rfl rfl)
theorem dX0_feed_32 : decode cX0_feed 32 = .ok (.iload 4, 2) := dk_21 4 (dk_at dksX0_feed_1 8 rfl rfl)
theorem dX0_feed_34 : decode cX0_feed 34 = .ok (.iastore, 1) := dk_79 (dk_at dksX0_feed_1 10 rfl rfl)
theorem dX0_feed_35 : decode cX0_feed 35 = .ok (.dup, 1) := dk_89 (dk_at dksX0_feed_1 11 rfl rfl)
theorem dX0_feed_36 : decode cX0_feed 36 = .ok (.iconst 4, 1) := dk_7 (dk_at dksX0_feed_1 12 rfl rfl)
theorem dX0_feed_37 : decode cX0_feed 37 = .ok (.iload 5, 2) := dk_21 5 (dk_at dksX0_feed_1 13 rfl rfl)
theorem dX0_feed_39 : decode cX0_feed 39 = .ok (.iastore, 1) := dk_79 (dk_at dksX0_feed_1 15 rfl rfl)
theorem dX0_feed_40 : decode cX0_feed 40 = .ok (.astore 6, 2) := dk_58 6 (dk_at dksX0_feed_1 16 rfl rfl)
theorem dX0_feed_42 : decode cX0_feed 42 = .ok (.iconst 0, 1) := dk_3 (dk_at dksX0_feed_1 18 rfl rfl)
theorem dX0_feed_43 : decode cX0_feed 43 = .ok (.istore 7, 2) := dk_54 7 (dk_at dksX0_feed_1 19 rfl rfl)
theorem dX0_feed_45 : decode cX0_feed 45 = .ok (.iload 7, 2) := dk_21 7 (dk_at dksX0_feed_1 21 rfl rfl)
theorem dX0_feed_47 : decode cX0_feed 47 = .ok (.bipush 20, 2) := dk_16 20 (dk_at dksX0_feed_2 0 rfl rfl)
theorem dX0_feed_49 : decode cX0_feed 49 = .ok (.if_icmp .ge 40, 3) := dk_162 0 40 (dk_at dksX0_feed_2 2 rfl rfl)
theorem dX0_feed_52 : decode cX0_feed 52 = .ok (.aload_n 0, 1) := dk_42 (dk_at dksX0_feed_2 5 rfl rfl)
theorem dX0_feed_53 : decode cX0_feed 53 = .ok (.getfield 124, 3) := dk_180 0 124 (dk_at dksX0_feed_2 6 rfl rfl)
theorem dX0_feed_56 : decode cX0_feed 56 = .ok (.aload_n 0, 1) := dk_42 (dk_at dksX0_feed_2 9 rfl rfl)
theorem dX0_feed_57 : decode cX0_feed 57 = .ok (.getfield 188, 3) := dk_180 0 188 (dk_at dksX0_feed_2 10 rfl rfl)
theorem dX0_feed_60 : decode cX0_feed 60 = .ok (.iload 7, 2) := dk_21 7 (dk_at dksX0_feed_2 13 rfl rfl)
theorem dX0_feed_62 : decode cX0_feed 62 = .ok (.iadd, 1) := dk_96 (dk_at dksX0_feed_2 15 rfl rfl)
theorem dX0_feed_63 : decode cX0_feed 63 = .ok (.aload 6, 2) := dk_25 6 (dk_at dksX0_feed_2 16 rfl rfl)
theorem dX0_feed_65 : decode cX0_feed 65 = .ok (.iload 7, 2) := dk_21 7 (dk_at dksX0_feed_2 18 rfl rfl)
theorem dX0_feed_67 : decode cX0_feed 67 = .ok (.iconst 4, 1) := dk_7 (dk_at dksX0_feed_2 20 rfl rfl)
theorem dX0_feed_68 : decode cX0_feed 68 = .ok (.idiv, 1) := dk_108 (dk_at dksX0_feed_2 21 rfl rfl)
theorem dX0_feed_69 : decode cX0_feed 69 = .ok (.iaload, 1) := dk_46 (dk_at dksX0_feed_2 22 rfl rfl)
theorem dX0_feed_70 : decode cX0_feed 70 = .ok (.bipush 24, 2) := dk_16 24 (dk_at dksX0_feed_3 0 rfl rfl)
theorem dX0_feed_72 : decode cX0_feed 72 = .ok (.bipush 8, 2) := dk_16 8 (dk_at dksX0_feed_3 2 rfl rfl)
theorem dX0_feed_74 : decode cX0_feed 74 = .ok (.iload 7, 2) := dk_21 7 (dk_at dksX0_feed_3 4 rfl rfl)
theorem dX0_feed_76 : decode cX0_feed 76 = .ok (.iconst 4, 1) := dk_7 (dk_at dksX0_feed_3 6 rfl rfl)
theorem dX0_feed_77 : decode cX0_feed 77 = .ok (.irem, 1) := dk_112 (dk_at dksX0_feed_3 7 rfl rfl)
theorem dX0_feed_78 : decode cX0_feed 78 = .ok (.imul, 1) := dk_104 (dk_at dksX0_feed_3 8 rfl rfl)
theorem dX0_feed_79 : decode cX0_feed 79 = .ok (.isub, 1) := dk_100 (dk_at dksX0_feed_3 9 rfl rfl)
theorem dX0_feed_80 : decode cX0_feed 80 = .ok (.ishr, 1) := dk_122 (dk_at dksX0_feed_3 10 rfl rfl)
theorem dX0_feed_81 : decode cX0_feed 81 = .ok (.i2b, 1) := dk_145 (dk_at dksX0_feed_3 11 rfl rfl)
theorem dX0_feed_82 : decode cX0_feed 82 = .ok (.bastore, 1) := dk_84 (dk_at dksX0_feed_3 12 rfl rfl)
theorem dX0_feed_83 : decode cX0_feed 83 = .ok (.iinc 7 1, 3) := dk_132 7 1 (dk_at dksX0_feed_3 13 rfl rfl)
theorem dX0_feed_86 : decode cX0_feed 86 = .ok (.goto (-41), 3) := dk_167 255 215 (dk_at dksX0_feed_3 16 rfl rfl)
theorem dX0_feed_89 : decode cX0_feed 89 = .ok (.aload_n 0, 1) := dk_42 (dk_at dksX0_feed_3 19 rfl rfl)
theorem dX0_feed_90 : decode cX0_feed 90 = .ok (.dup, 1) := dk_89 (dk_at dksX0_feed_3 20 rfl rfl)
theorem dX0_feed_91 : decode cX0_feed 91 = .ok (.getfield 188, 3) := dk_180 0 188 (dk_at dksX0_feed_3 21 rfl rfl)
theorem dX0_feed_94 : decode cX0_feed 94 = .ok (.bipush 20, 2) := dk_16 20 (dk_at dksX0_feed_4 0 rfl rfl)
theorem dX0_feed_96 : decode cX0_feed 96 = .ok (.iadd, 1) := dk_96 (dk_at dksX0_feed_4 2 rfl rfl)
theorem dX0_feed_97 : decode cX0_feed 97 = .ok (.putfield 188, 3) := dk_181 0 188 (dk_at dksX0_feed_4 3 rfl rfl)
theorem dX0_feed_100 : decode cX0_feed 100 = .ok (.aload_n 0, 1) := dk_42 (dk_at dksX0_feed_4 6 rfl rfl)
theorem dX0_feed_101 : decode cX0_feed 101 = .ok (.getfield 188, 3) := dk_180 0 188 (dk_at dksX0_feed_4 7 rfl rfl)
theorem dX0_feed_104 : decode cX0_feed 104 = .ok (.ireturn, 1) := dk_172 (dk_at dksX0_feed_4 10 rfl rfl)
abbrev cX0_end : ByteArray := prog_1_method_17_code
def yX0_end : MethodName := ⟨RX0, "end", "(I)I"⟩
def dkwX0_end_0 : List UInt8 := [27, 133, 9, 42, 180, 0, 188, 133, 184, 0, 11, 154, 0, 5, 2, 172, 42, 27, 181, 0, 188, 27, 172]
abbrev dktX0_end_0 : List UInt8 := dkwX0_end_0 ++ []
theorem dksX0_end_0 : cX0_end.data.toList.drop 0 = dktX0_end_0 := by decide +kernel
theorem dX0_end_0 : decode cX0_end 0 = .ok (.iload_n 1, 1) := dk_27 (dk_at dksX0_end_0 0 rfl rfl)
theorem dX0_end_1 : decode cX0_end 1 = .ok (.i2l, 1) := dk_133 (dk_at dksX0_end_0 1 rfl rfl)
theorem dX0_end_2 : decode cX0_end 2 = .ok (.lconst 0, 1) := dk_9 (dk_at dksX0_end_0 2 rfl rfl)
theorem dX0_end_3 : decode cX0_end 3 = .ok (.aload_n 0, 1) := dk_42 (dk_at dksX0_end_0 3 rfl rfl)
theorem dX0_end_4 : decode cX0_end 4 = .ok (.getfield 188, 3) := dk_180 0 188 (dk_at dksX0_end_0 4 rfl rfl)
theorem dX0_end_7 : decode cX0_end 7 = .ok (.i2l, 1) := dk_133 (dk_at dksX0_end_0 7 rfl rfl)
theorem dX0_end_8 : decode cX0_end 8 = .ok (.invokestatic 11, 3) := dk_184 0 11 (dk_at dksX0_end_0 8 rfl rfl)
theorem dX0_end_11 : decode cX0_end 11 = .ok (.ifCond .ne 5, 3) := dk_154 0 5 (dk_at dksX0_end_0 11 rfl rfl)
theorem dX0_end_14 : decode cX0_end 14 = .ok (.iconst (-1), 1) := dk_2 (dk_at dksX0_end_0 14 rfl rfl)
theorem dX0_end_15 : decode cX0_end 15 = .ok (.ireturn, 1) := dk_172 (dk_at dksX0_end_0 15 rfl rfl)
theorem dX0_end_16 : decode cX0_end 16 = .ok (.aload_n 0, 1) := dk_42 (dk_at dksX0_end_0 16 rfl rfl)
theorem dX0_end_17 : decode cX0_end 17 = .ok (.iload_n 1, 1) := dk_27 (dk_at dksX0_end_0 17 rfl rfl)
theorem dX0_end_18 : decode cX0_end 18 = .ok (.putfield 188, 3) := dk_181 0 188 (dk_at dksX0_end_0 18 rfl rfl)
theorem dX0_end_21 : decode cX0_end 21 = .ok (.iload_n 1, 1) := dk_27 (dk_at dksX0_end_0 21 rfl rfl)
theorem dX0_end_22 : decode cX0_end 22 = .ok (.ireturn, 1) := dk_172 (dk_at dksX0_end_0 22 rfl rfl)
abbrev cX0_base : ByteArray := prog_1_method_18_code
def yX0_base : MethodName := ⟨RX0, "base", "()I"⟩
def dkwX0_base_4 : List UInt8 := [172, 78, 42, 3, 181, 0, 188, 45, 191]
abbrev dktX0_base_4 : List UInt8 := dkwX0_base_4 ++ []
def dkwX0_base_3 : List UInt8 := [43, 180, 0, 215, 181, 0, 204, 42, 43, 180, 0, 216, 181, 0, 128, 16, 252, 61, 42, 3, 181, 0, 188, 28]
abbrev dktX0_base_3 : List UInt8 := dkwX0_base_3 ++ dktX0_base_4
def dkwX0_base_2 : List UInt8 := [181, 0, 128, 42, 182, 0, 207, 42, 180, 0, 46, 180, 0, 210, 61, 42, 3, 181, 0, 188, 28, 172, 76, 42]
abbrev dktX0_base_2 : List UInt8 := dkwX0_base_2 ++ dktX0_base_3
def dkwX0_base_1 : List UInt8 := [153, 0, 7, 43, 167, 0, 10, 187, 0, 51, 89, 183, 0, 109, 181, 0, 46, 42, 3, 181, 0, 204, 42, 2]
abbrev dktX0_base_1 : List UInt8 := dkwX0_base_1 ++ dktX0_base_2
def dkwX0_base_0 : List UInt8 := [187, 0, 191, 89, 42, 180, 0, 124, 42, 180, 0, 188, 183, 0, 193, 182, 0, 196, 76, 42, 43, 182, 0, 200]
abbrev dktX0_base_0 : List UInt8 := dkwX0_base_0 ++ dktX0_base_1
theorem dksX0_base_0 : cX0_base.data.toList.drop 0 = dktX0_base_0 := by decide +kernel
theorem dksX0_base_1 : cX0_base.data.toList.drop 24 = dktX0_base_1 := dk_seg dksX0_base_0 24 rfl rfl
theorem dksX0_base_2 : cX0_base.data.toList.drop 48 = dktX0_base_2 := dk_seg dksX0_base_1 24 rfl rfl
theorem dksX0_base_3 : cX0_base.data.toList.drop 72 = dktX0_base_3 := dk_seg dksX0_base_2 24 rfl rfl
theorem dksX0_base_4 : cX0_base.data.toList.drop 96 = dktX0_base_4 := dk_seg dksX0_base_3 24 rfl rfl
theorem dX0_base_0 : decode cX0_base 0 = .ok (.new 191, 3) := dk_187 0 191 (dk_at dksX0_base_0 0 rfl rfl)
theorem dX0_base_3 : decode cX0_base 3 = .ok (.dup, 1) := dk_89 (dk_at dksX0_base_0 3 rfl rfl)
theorem dX0_base_4 : decode cX0_base 4 = .ok (.aload_n 0, 1) := dk_42 (dk_at dksX0_base_0 4 rfl rfl)
theorem dX0_base_5 : decode cX0_base 5 = .ok (.getfield 124, 3) := dk_180 0 124 (dk_at dksX0_base_0 5 rfl rfl)
theorem dX0_base_8 : decode cX0_base 8 = .ok (.aload_n 0, 1) := dk_42 (dk_at dksX0_base_0 8 rfl rfl)
theorem dX0_base_9 : decode cX0_base 9 = .ok (.getfield 188, 3) := dk_180 0 188 (dk_at dksX0_base_0 9 rfl rfl)
theorem dX0_base_12 : decode cX0_base 12 = .ok (.invokespecial 193, 3) := dk_183 0 193 (dk_at dksX0_base_0 12 rfl rfl)
theorem dX0_base_15 : decode cX0_base 15 = .ok (.invokevirtual 196, 3) := dk_182 0 196 (dk_at dksX0_base_0 15 rfl rfl)
theorem dX0_base_18 : decode cX0_base 18 = .ok (.astore_n 1, 1) := dk_76 (dk_at dksX0_base_0 18 rfl rfl)
theorem dX0_base_19 : decode cX0_base 19 = .ok (.aload_n 0, 1) := dk_42 (dk_at dksX0_base_0 19 rfl rfl)
theorem dX0_base_20 : decode cX0_base 20 = .ok (.aload_n 1, 1) := dk_43 (dk_at dksX0_base_0 20 rfl rfl)
theorem dX0_base_21 : decode cX0_base 21 = .ok (.invokevirtual 200, 3) := dk_182 0 200 (dk_at dksX0_base_0 21 rfl rfl)
theorem dX0_base_24 : decode cX0_base 24 = .ok (.ifCond .eq 7, 3) := dk_153 0 7 (dk_at dksX0_base_1 0 rfl rfl)
theorem dX0_base_27 : decode cX0_base 27 = .ok (.aload_n 1, 1) := dk_43 (dk_at dksX0_base_1 3 rfl rfl)
theorem dX0_base_28 : decode cX0_base 28 = .ok (.goto 10, 3) := dk_167 0 10 (dk_at dksX0_base_1 4 rfl rfl)
theorem dX0_base_31 : decode cX0_base 31 = .ok (.new 51, 3) := dk_187 0 51 (dk_at dksX0_base_1 7 rfl rfl)
theorem dX0_base_34 : decode cX0_base 34 = .ok (.dup, 1) := dk_89 (dk_at dksX0_base_1 10 rfl rfl)
theorem dX0_base_35 : decode cX0_base 35 = .ok (.invokespecial 109, 3) := dk_183 0 109 (dk_at dksX0_base_1 11 rfl rfl)
theorem dX0_base_38 : decode cX0_base 38 = .ok (.putfield 46, 3) := dk_181 0 46 (dk_at dksX0_base_1 14 rfl rfl)
theorem dX0_base_41 : decode cX0_base 41 = .ok (.aload_n 0, 1) := dk_42 (dk_at dksX0_base_1 17 rfl rfl)
theorem dX0_base_42 : decode cX0_base 42 = .ok (.iconst 0, 1) := dk_3 (dk_at dksX0_base_1 18 rfl rfl)
theorem dX0_base_43 : decode cX0_base 43 = .ok (.putfield 204, 3) := dk_181 0 204 (dk_at dksX0_base_1 19 rfl rfl)
theorem dX0_base_46 : decode cX0_base 46 = .ok (.aload_n 0, 1) := dk_42 (dk_at dksX0_base_1 22 rfl rfl)
theorem dX0_base_47 : decode cX0_base 47 = .ok (.iconst (-1), 1) := dk_2 (dk_at dksX0_base_1 23 rfl rfl)
theorem dX0_base_48 : decode cX0_base 48 = .ok (.putfield 128, 3) := dk_181 0 128 (dk_at dksX0_base_2 0 rfl rfl)
theorem dX0_base_51 : decode cX0_base 51 = .ok (.aload_n 0, 1) := dk_42 (dk_at dksX0_base_2 3 rfl rfl)
theorem dX0_base_52 : decode cX0_base 52 = .ok (.invokevirtual 207, 3) := dk_182 0 207 (dk_at dksX0_base_2 4 rfl rfl)
theorem dX0_base_55 : decode cX0_base 55 = .ok (.aload_n 0, 1) := dk_42 (dk_at dksX0_base_2 7 rfl rfl)
theorem dX0_base_56 : decode cX0_base 56 = .ok (.getfield 46, 3) := dk_180 0 46 (dk_at dksX0_base_2 8 rfl rfl)
theorem dX0_base_59 : decode cX0_base 59 = .ok (.getfield 210, 3) := dk_180 0 210 (dk_at dksX0_base_2 11 rfl rfl)
theorem dX0_base_62 : decode cX0_base 62 = .ok (.istore_n 2, 1) := dk_61 (dk_at dksX0_base_2 14 rfl rfl)
theorem dX0_base_63 : decode cX0_base 63 = .ok (.aload_n 0, 1) := dk_42 (dk_at dksX0_base_2 15 rfl rfl)
theorem dX0_base_64 : decode cX0_base 64 = .ok (.iconst 0, 1) := dk_3 (dk_at dksX0_base_2 16 rfl rfl)
theorem dX0_base_65 : decode cX0_base 65 = .ok (.putfield 188, 3) := dk_181 0 188 (dk_at dksX0_base_2 17 rfl rfl)
theorem dX0_base_68 : decode cX0_base 68 = .ok (.iload_n 2, 1) := dk_28 (dk_at dksX0_base_2 20 rfl rfl)
theorem dX0_base_69 : decode cX0_base 69 = .ok (.ireturn, 1) := dk_172 (dk_at dksX0_base_2 21 rfl rfl)
theorem dX0_base_70 : decode cX0_base 70 = .ok (.astore_n 1, 1) := dk_76 (dk_at dksX0_base_2 22 rfl rfl)
theorem dX0_base_71 : decode cX0_base 71 = .ok (.aload_n 0, 1) := dk_42 (dk_at dksX0_base_2 23 rfl rfl)
theorem dX0_base_72 : decode cX0_base 72 = .ok (.aload_n 1, 1) := dk_43 (dk_at dksX0_base_3 0 rfl rfl)
theorem dX0_base_73 : decode cX0_base 73 = .ok (.getfield 215, 3) := dk_180 0 215 (dk_at dksX0_base_3 1 rfl rfl)
theorem dX0_base_76 : decode cX0_base 76 = .ok (.putfield 204, 3) := dk_181 0 204 (dk_at dksX0_base_3 4 rfl rfl)
theorem dX0_base_79 : decode cX0_base 79 = .ok (.aload_n 0, 1) := dk_42 (dk_at dksX0_base_3 7 rfl rfl)
theorem dX0_base_80 : decode cX0_base 80 = .ok (.aload_n 1, 1) := dk_43 (dk_at dksX0_base_3 8 rfl rfl)
theorem dX0_base_81 : decode cX0_base 81 = .ok (.getfield 216, 3) := dk_180 0 216 (dk_at dksX0_base_3 9 rfl rfl)
theorem dX0_base_84 : decode cX0_base 84 = .ok (.putfield 128, 3) := dk_181 0 128 (dk_at dksX0_base_3 12 rfl rfl)
theorem dX0_base_87 : decode cX0_base 87 = .ok (.bipush (-4), 2) := dk_16 252 (dk_at dksX0_base_3 15 rfl rfl)
theorem dX0_base_89 : decode cX0_base 89 = .ok (.istore_n 2, 1) := dk_61 (dk_at dksX0_base_3 17 rfl rfl)
theorem dX0_base_90 : decode cX0_base 90 = .ok (.aload_n 0, 1) := dk_42 (dk_at dksX0_base_3 18 rfl rfl)
theorem dX0_base_91 : decode cX0_base 91 = .ok (.iconst 0, 1) := dk_3 (dk_at dksX0_base_3 19 rfl rfl)
theorem dX0_base_92 : decode cX0_base 92 = .ok (.putfield 188, 3) := dk_181 0 188 (dk_at dksX0_base_3 20 rfl rfl)
theorem dX0_base_95 : decode cX0_base 95 = .ok (.iload_n 2, 1) := dk_28 (dk_at dksX0_base_3 23 rfl rfl)
theorem dX0_base_96 : decode cX0_base 96 = .ok (.ireturn, 1) := dk_172 (dk_at dksX0_base_4 0 rfl rfl)
theorem dX0_base_97 : decode cX0_base 97 = .ok (.astore_n 3, 1) := dk_78 (dk_at dksX0_base_4 1 rfl rfl)
theorem dX0_base_98 : decode cX0_base 98 = .ok (.aload_n 0, 1) := dk_42 (dk_at dksX0_base_4 2 rfl rfl)
theorem dX0_base_99 : decode cX0_base 99 = .ok (.iconst 0, 1) := dk_3 (dk_at dksX0_base_4 3 rfl rfl)
theorem dX0_base_100 : decode cX0_base 100 = .ok (.putfield 188, 3) := dk_181 0 188 (dk_at dksX0_base_4 4 rfl rfl)
theorem dX0_base_103 : decode cX0_base 103 = .ok (.aload_n 3, 1) := dk_45 (dk_at dksX0_base_4 7 rfl rfl)
theorem dX0_base_104 : decode cX0_base 104 = .ok (.athrow, 1) := dk_191 (dk_at dksX0_base_4 8 rfl rfl)
abbrev cX0_lays : ByteArray := prog_1_method_32_code
def yX0_lays : MethodName := ⟨RX0, "lays", "()V"⟩
def dkwX0_lays_6 : List UInt8 := [180, 1, 11, 181, 1, 14, 42, 42, 180, 0, 46, 180, 1, 15, 182, 1, 18, 177]
abbrev dktX0_lays_6 : List UInt8 := dkwX0_lays_6 ++ []
def dkwX0_lays_5 : List UInt8 := [167, 255, 204, 42, 42, 42, 180, 0, 46, 180, 1, 8, 182, 0, 120, 181, 0, 56, 42, 42, 180, 0, 46]
abbrev dktX0_lays_5 : List UInt8 := dkwX0_lays_5 ++ dktX0_lays_6
def dkwX0_lays_4 : List UInt8 := [180, 0, 231, 27, 185, 0, 246, 2, 0, 192, 0, 73, 182, 1, 1, 183, 1, 5, 83, 132, 1, 1]
abbrev dktX0_lays_4 : List UInt8 := dkwX0_lays_4 ++ dktX0_lays_5
def dkwX0_lays_3 : List UInt8 := [185, 0, 225, 1, 0, 162, 0, 42, 42, 180, 0, 139, 27, 187, 0, 137, 89, 42, 42, 180, 0, 46]
abbrev dktX0_lays_3 : List UInt8 := dkwX0_lays_3 ++ dktX0_lays_4
def dkwX0_lays_2 : List UInt8 := [183, 0, 254, 83, 132, 1, 1, 167, 255, 204, 3, 60, 27, 42, 180, 0, 46, 180, 0, 231]
abbrev dktX0_lays_2 : List UInt8 := dkwX0_lays_2 ++ dktX0_lays_3
def dkwX0_lays_1 : List UInt8 := [187, 0, 131, 89, 42, 42, 180, 0, 46, 180, 0, 222, 27, 185, 0, 246, 2, 0, 192, 0, 73, 182, 0, 250]
abbrev dktX0_lays_1 : List UInt8 := dkwX0_lays_1 ++ dktX0_lays_2
def dkwX0_lays_0 : List UInt8 := [3, 60, 27, 42, 180, 0, 46, 180, 0, 222, 185, 0, 225, 1, 0, 162, 0, 42, 42, 180, 0, 133, 27]
abbrev dktX0_lays_0 : List UInt8 := dkwX0_lays_0 ++ dktX0_lays_1
theorem dksX0_lays_0 : cX0_lays.data.toList.drop 0 = dktX0_lays_0 := by decide +kernel
theorem dksX0_lays_1 : cX0_lays.data.toList.drop 23 = dktX0_lays_1 := dk_seg dksX0_lays_0 23 rfl rfl
theorem dksX0_lays_2 : cX0_lays.data.toList.drop 47 = dktX0_lays_2 := dk_seg dksX0_lays_1 24 rfl rfl
theorem dksX0_lays_3 : cX0_lays.data.toList.drop 67 = dktX0_lays_3 := dk_seg dksX0_lays_2 20 rfl rfl
theorem dksX0_lays_4 : cX0_lays.data.toList.drop 89 = dktX0_lays_4 := dk_seg dksX0_lays_3 22 rfl rfl
theorem dksX0_lays_5 : cX0_lays.data.toList.drop 111 = dktX0_lays_5 := dk_seg dksX0_lays_4 22 rfl rfl
theorem dksX0_lays_6 : cX0_lays.data.toList.drop 134 = dktX0_lays_6 := dk_seg dksX0_lays_5 23 rfl rfl
theorem dX0_lays_0 : decode cX0_lays 0 = .ok (.iconst 0, 1) := dk_3 (dk_at dksX0_lays_0 0 rfl rfl)
theorem dX0_lays_1 : decode cX0_lays 1 = .ok (.istore_n 1, 1) := dk_60 (dk_at dksX0_lays_0 1 rfl rfl)
theorem dX0_lays_2 : decode cX0_lays 2 = .ok (.iload_n 1, 1) := dk_27 (dk_at dksX0_lays_0 2 rfl rfl)
theorem dX0_lays_3 : decode cX0_lays 3 = .ok (.aload_n 0, 1) := dk_42 (dk_at dksX0_lays_0 3 rfl rfl)
theorem dX0_lays_4 : decode cX0_lays 4 = .ok (.getfield 46, 3) := dk_180 0 46 (dk_at dksX0_lays_0 4 rfl rfl)
theorem dX0_lays_7 : decode cX0_lays 7 = .ok (.getfield 222, 3) := dk_180 0 222 (dk_at dksX0_lays_0 7 rfl rfl)
theorem dX0_lays_10 : decode cX0_lays 10 = .ok (.invokeinterface 225 1, 5) := by decide +kernel
theorem dX0_lays_15 : decode cX0_lays 15 = .ok (.if_icmp .ge 42, 3) := dk_162 0 42 (dk_at dksX0_lays_0 15 rfl rfl)
theorem dX0_lays_18 : decode cX0_lays 18 = .ok (.aload_n 0, 1) := dk_42 (dk_at dksX0_lays_0 18 rfl rfl)
theorem dX0_lays_19 : decode cX0_lays 19 = .ok (.getfield 133, 3) := dk_180 0 133 (dk_at dksX0_lays_0 19 rfl rfl)
theorem dX0_lays_22 : decode cX0_lays 22 = .ok (.iload_n 1, 1) := dk_27 (dk_at dksX0_lays_0 22 rfl rfl)
theorem dX0_lays_23 : decode cX0_lays 23 = .ok (.new 131, 3) := dk_187 0 131 (dk_at dksX0_lays_1 0 rfl rfl)
theorem dX0_lays_26 : decode cX0_lays 26 = .ok (.dup, 1) := dk_89 (dk_at dksX0_lays_1 3 rfl rfl)
theorem dX0_lays_27 : decode cX0_lays 27 = .ok (.aload_n 0, 1) := dk_42 (dk_at dksX0_lays_1 4 rfl rfl)
theorem dX0_lays_28 : decode cX0_lays 28 = .ok (.aload_n 0, 1) := dk_42 (dk_at dksX0_lays_1 5 rfl rfl)
theorem dX0_lays_29 : decode cX0_lays 29 = .ok (.getfield 46, 3) := dk_180 0 46 (dk_at dksX0_lays_1 6 rfl rfl)
theorem dX0_lays_32 : decode cX0_lays 32 = .ok (.getfield 222, 3) := dk_180 0 222 (dk_at dksX0_lays_1 9 rfl rfl)
theorem dX0_lays_35 : decode cX0_lays 35 = .ok (.iload_n 1, 1) := dk_27 (dk_at dksX0_lays_1 12 rfl rfl)
theorem dX0_lays_36 : decode cX0_lays 36 = .ok (.invokeinterface 246 2, 5) := by decide +kernel
theorem dX0_lays_41 : decode cX0_lays 41 = .ok (.checkcast 73, 3) := dk_192 0 73 (dk_at dksX0_lays_1 18 rfl rfl)
theorem dX0_lays_44 : decode cX0_lays 44 = .ok (.invokevirtual 250, 3) := dk_182 0 250 (dk_at dksX0_lays_1 21 rfl rfl)
theorem dX0_lays_47 : decode cX0_lays 47 = .ok (.invokespecial 254, 3) := dk_183 0 254 (dk_at dksX0_lays_2 0 rfl rfl)
theorem dX0_lays_50 : decode cX0_lays 50 = .ok (.aastore, 1) := dk_83 (dk_at dksX0_lays_2 3 rfl rfl)
theorem dX0_lays_51 : decode cX0_lays 51 = .ok (.iinc 1 1, 3) := dk_132 1 1 (dk_at dksX0_lays_2 4 rfl rfl)
theorem dX0_lays_54 : decode cX0_lays 54 = .ok (.goto (-52), 3) := dk_167 255 204 (dk_at dksX0_lays_2 7 rfl rfl)
theorem dX0_lays_57 : decode cX0_lays 57 = .ok (.iconst 0, 1) := dk_3 (dk_at dksX0_lays_2 10 rfl rfl)
theorem dX0_lays_58 : decode cX0_lays 58 = .ok (.istore_n 1, 1) := dk_60 (dk_at dksX0_lays_2 11 rfl rfl)
theorem dX0_lays_59 : decode cX0_lays 59 = .ok (.iload_n 1, 1) := dk_27 (dk_at dksX0_lays_2 12 rfl rfl)
theorem dX0_lays_60 : decode cX0_lays 60 = .ok (.aload_n 0, 1) := dk_42 (dk_at dksX0_lays_2 13 rfl rfl)
theorem dX0_lays_61 : decode cX0_lays 61 = .ok (.getfield 46, 3) := dk_180 0 46 (dk_at dksX0_lays_2 14 rfl rfl)
theorem dX0_lays_64 : decode cX0_lays 64 = .ok (.getfield 231, 3) := dk_180 0 231 (dk_at dksX0_lays_2 17 rfl rfl)
theorem dX0_lays_67 : decode cX0_lays 67 = .ok (.invokeinterface 225 1, 5) := by decide +kernel
theorem dX0_lays_72 : decode cX0_lays 72 = .ok (.if_icmp .ge 42, 3) := dk_162 0 42 (dk_at dksX0_lays_3 5 rfl rfl)
theorem dX0_lays_75 : decode cX0_lays 75 = .ok (.aload_n 0, 1) := dk_42 (dk_at dksX0_lays_3 8 rfl rfl)
theorem dX0_lays_76 : decode cX0_lays 76 = .ok (.getfield 139, 3) := dk_180 0 139 (dk_at dksX0_lays_3 9 rfl rfl)
theorem dX0_lays_79 : decode cX0_lays 79 = .ok (.iload_n 1, 1) := dk_27 (dk_at dksX0_lays_3 12 rfl rfl)
theorem dX0_lays_80 : decode cX0_lays 80 = .ok (.new 137, 3) := dk_187 0 137 (dk_at dksX0_lays_3 13 rfl rfl)
theorem dX0_lays_83 : decode cX0_lays 83 = .ok (.dup, 1) := dk_89 (dk_at dksX0_lays_3 16 rfl rfl)
theorem dX0_lays_84 : decode cX0_lays 84 = .ok (.aload_n 0, 1) := dk_42 (dk_at dksX0_lays_3 17 rfl rfl)
theorem dX0_lays_85 : decode cX0_lays 85 = .ok (.aload_n 0, 1) := dk_42 (dk_at dksX0_lays_3 18 rfl rfl)
theorem dX0_lays_86 : decode cX0_lays 86 = .ok (.getfield 46, 3) := dk_180 0 46 (dk_at dksX0_lays_3 19 rfl rfl)
theorem dX0_lays_89 : decode cX0_lays 89 = .ok (.getfield 231, 3) := dk_180 0 231 (dk_at dksX0_lays_4 0 rfl rfl)
theorem dX0_lays_92 : decode cX0_lays 92 = .ok (.iload_n 1, 1) := dk_27 (dk_at dksX0_lays_4 3 rfl rfl)
theorem dX0_lays_93 : decode cX0_lays 93 = .ok (.invokeinterface 246 2, 5) := by decide +kernel
theorem dX0_lays_98 : decode cX0_lays 98 = .ok (.checkcast 73, 3) := dk_192 0 73 (dk_at dksX0_lays_4 9 rfl rfl)
theorem dX0_lays_101 : decode cX0_lays 101 = .ok (.invokevirtual 257, 3) := dk_182 1 1 (dk_at dksX0_lays_4 12 rfl rfl)
theorem dX0_lays_104 : decode cX0_lays 104 = .ok (.invokespecial 261, 3) := dk_183 1 5 (dk_at dksX0_lays_4 15 rfl rfl)
theorem dX0_lays_107 : decode cX0_lays 107 = .ok (.aastore, 1) := dk_83 (dk_at dksX0_lays_4 18 rfl rfl)
theorem dX0_lays_108 : decode cX0_lays 108 = .ok (.iinc 1 1, 3) := dk_132 1 1 (dk_at dksX0_lays_4 19 rfl rfl)
theorem dX0_lays_111 : decode cX0_lays 111 = .ok (.goto (-52), 3) := dk_167 255 204 (dk_at dksX0_lays_5 0 rfl rfl)
theorem dX0_lays_114 : decode cX0_lays 114 = .ok (.aload_n 0, 1) := dk_42 (dk_at dksX0_lays_5 3 rfl rfl)
theorem dX0_lays_115 : decode cX0_lays 115 = .ok (.aload_n 0, 1) := dk_42 (dk_at dksX0_lays_5 4 rfl rfl)
theorem dX0_lays_116 : decode cX0_lays 116 = .ok (.aload_n 0, 1) := dk_42 (dk_at dksX0_lays_5 5 rfl rfl)
theorem dX0_lays_117 : decode cX0_lays 117 = .ok (.getfield 46, 3) := dk_180 0 46 (dk_at dksX0_lays_5 6 rfl rfl)
theorem dX0_lays_120 : decode cX0_lays 120 = .ok (.getfield 264, 3) := dk_180 1 8 (dk_at dksX0_lays_5 9 rfl rfl)
theorem dX0_lays_123 : decode cX0_lays 123 = .ok (.invokevirtual 120, 3) := dk_182 0 120 (dk_at dksX0_lays_5 12 rfl rfl)
theorem dX0_lays_126 : decode cX0_lays 126 = .ok (.putfield 56, 3) := dk_181 0 56 (dk_at dksX0_lays_5 15 rfl rfl)
theorem dX0_lays_129 : decode cX0_lays 129 = .ok (.aload_n 0, 1) := dk_42 (dk_at dksX0_lays_5 18 rfl rfl)
theorem dX0_lays_130 : decode cX0_lays 130 = .ok (.aload_n 0, 1) := dk_42 (dk_at dksX0_lays_5 19 rfl rfl)
theorem dX0_lays_131 : decode cX0_lays 131 = .ok (.getfield 46, 3) := dk_180 0 46 (dk_at dksX0_lays_5 20 rfl rfl)
theorem dX0_lays_134 : decode cX0_lays 134 = .ok (.getfield 267, 3) := dk_180 1 11 (dk_at dksX0_lays_6 0 rfl rfl)
theorem dX0_lays_137 : decode cX0_lays 137 = .ok (.putfield 270, 3) := dk_181 1 14 (dk_at dksX0_lays_6 3 rfl rfl)
theorem dX0_lays_140 : decode cX0_lays 140 = .ok (.aload_n 0, 1) := dk_42 (dk_at dksX0_lays_6 6 rfl rfl)
theorem dX0_lays_141 : decode cX0_lays 141 = .ok (.aload_n 0, 1) := dk_42 (dk_at dksX0_lays_6 7 rfl rfl)
theorem dX0_lays_142 : decode cX0_lays 142 = .ok (.getfield 46, 3) := dk_180 0 46 (dk_at dksX0_lays_6 8 rfl rfl)
theorem dX0_lays_145 : decode cX0_lays 145 = .ok (.getfield 271, 3) := dk_180 1 15 (dk_at dksX0_lays_6 11 rfl rfl)
theorem dX0_lays_148 : decode cX0_lays 148 = .ok (.invokevirtual 274, 3) := dk_182 1 18 (dk_at dksX0_lays_6 14 rfl rfl)
theorem dX0_lays_151 : decode cX0_lays 151 = .ok (.return_, 1) := dk_177 (dk_at dksX0_lays_6 17 rfl rfl)
abbrev cX0_ruleOf : ByteArray := prog_1_method_13_code
def yX0_ruleOf : MethodName := ⟨RX0, "ruleOf", "(LMergeJudge$Told;)LMergeJudge$Rule;"⟩
def dkwX0_ruleOf_5 : List UInt8 := [186, 0, 89, 0, 0, 176, 42, 28, 29, 21, 4, 21, 5, 186, 0, 90, 0, 0, 176]
abbrev dktX0_ruleOf_5 : List UInt8 := dkwX0_ruleOf_5 ++ []
def dkwX0_ruleOf_4 : List UInt8 := [186, 0, 85, 0, 0, 176, 42, 28, 29, 21, 4, 186, 0, 86, 0, 0, 176, 42, 28, 29]
abbrev dktX0_ruleOf_4 : List UInt8 := dkwX0_ruleOf_4 ++ dktX0_ruleOf_5
def dkwX0_ruleOf_3 : List UInt8 := [42, 28, 29, 186, 0, 80, 0, 0, 176, 42, 28, 29, 186, 0, 84, 0, 0, 176, 42, 28, 29]
abbrev dktX0_ruleOf_3 : List UInt8 := dkwX0_ruleOf_3 ++ dktX0_ruleOf_4
def dkwX0_ruleOf_2 : List UInt8 := [170, 0, 0, 0, 0, 81, 0, 0, 0, 0, 0, 0, 0, 4, 0, 0, 0, 34, 0, 0, 0, 43, 0, 0, 0, 52, 0, 0, 0, 61, 0, 0, 0, 72]
abbrev dktX0_ruleOf_2 : List UInt8 := dkwX0_ruleOf_2 ++ dktX0_ruleOf_3
def dkwX0_ruleOf_1 : List UInt8 := [54, 5, 43, 180, 0, 77]
abbrev dktX0_ruleOf_1 : List UInt8 := dkwX0_ruleOf_1 ++ dktX0_ruleOf_2
def dkwX0_ruleOf_0 : List UInt8 := [43, 3, 182, 0, 72, 61, 43, 4, 182, 0, 72, 62, 43, 5, 182, 0, 72, 54, 4, 43, 6, 182, 0, 72]
abbrev dktX0_ruleOf_0 : List UInt8 := dkwX0_ruleOf_0 ++ dktX0_ruleOf_1
theorem dksX0_ruleOf_0 : cX0_ruleOf.data.toList.drop 0 = dktX0_ruleOf_0 := by decide +kernel
theorem dksX0_ruleOf_1 : cX0_ruleOf.data.toList.drop 24 = dktX0_ruleOf_1 := dk_seg dksX0_ruleOf_0 24 rfl rfl
theorem dksX0_ruleOf_2 : cX0_ruleOf.data.toList.drop 30 = dktX0_ruleOf_2 := dk_seg dksX0_ruleOf_1 6 rfl rfl
theorem dksX0_ruleOf_3 : cX0_ruleOf.data.toList.drop 64 = dktX0_ruleOf_3 := dk_seg dksX0_ruleOf_2 34 rfl rfl
theorem dksX0_ruleOf_4 : cX0_ruleOf.data.toList.drop 85 = dktX0_ruleOf_4 := dk_seg dksX0_ruleOf_3 21 rfl rfl
theorem dksX0_ruleOf_5 : cX0_ruleOf.data.toList.drop 105 = dktX0_ruleOf_5 := dk_seg dksX0_ruleOf_4 20 rfl rfl
theorem dX0_ruleOf_0 : decode cX0_ruleOf 0 = .ok (.aload_n 1, 1) := dk_43 (dk_at dksX0_ruleOf_0 0 rfl rfl)
theorem dX0_ruleOf_1 : decode cX0_ruleOf 1 = .ok (.iconst 0, 1) := dk_3 (dk_at dksX0_ruleOf_0 1 rfl rfl)
theorem dX0_ruleOf_2 : decode cX0_ruleOf 2 = .ok (.invokevirtual 72, 3) := dk_182 0 72 (dk_at dksX0_ruleOf_0 2 rfl rfl)
theorem dX0_ruleOf_5 : decode cX0_ruleOf 5 = .ok (.istore_n 2, 1) := dk_61 (dk_at dksX0_ruleOf_0 5 rfl rfl)
theorem dX0_ruleOf_6 : decode cX0_ruleOf 6 = .ok (.aload_n 1, 1) := dk_43 (dk_at dksX0_ruleOf_0 6 rfl rfl)
theorem dX0_ruleOf_7 : decode cX0_ruleOf 7 = .ok (.iconst 1, 1) := dk_4 (dk_at dksX0_ruleOf_0 7 rfl rfl)
theorem dX0_ruleOf_8 : decode cX0_ruleOf 8 = .ok (.invokevirtual 72, 3) := dk_182 0 72 (dk_at dksX0_ruleOf_0 8 rfl rfl)
theorem dX0_ruleOf_11 : decode cX0_ruleOf 11 = .ok (.istore_n 3, 1) := dk_62 (dk_at dksX0_ruleOf_0 11 rfl rfl)
theorem dX0_ruleOf_12 : decode cX0_ruleOf 12 = .ok (.aload_n 1, 1) := dk_43 (dk_at dksX0_ruleOf_0 12 rfl rfl)
theorem dX0_ruleOf_13 : decode cX0_ruleOf 13 = .ok (.iconst 2, 1) := dk_5 (dk_at dksX0_ruleOf_0 13 rfl rfl)
theorem dX0_ruleOf_14 : decode cX0_ruleOf 14 = .ok (.invokevirtual 72, 3) := dk_182 0 72 (dk_at dksX0_ruleOf_0 14 rfl rfl)
theorem dX0_ruleOf_17 : decode cX0_ruleOf 17 = .ok (.istore 4, 2) := dk_54 4 (dk_at dksX0_ruleOf_0 17 rfl rfl)
theorem dX0_ruleOf_19 : decode cX0_ruleOf 19 = .ok (.aload_n 1, 1) := dk_43 (dk_at dksX0_ruleOf_0 19 rfl rfl)
theorem dX0_ruleOf_20 : decode cX0_ruleOf 20 = .ok (.iconst 3, 1) := dk_6 (dk_at dksX0_ruleOf_0 20 rfl rfl)
theorem dX0_ruleOf_21 : decode cX0_ruleOf 21 = .ok (.invokevirtual 72, 3) := dk_182 0 72 (dk_at dksX0_ruleOf_0 21 rfl rfl)
theorem dX0_ruleOf_24 : decode cX0_ruleOf 24 = .ok (.istore 5, 2) := dk_54 5 (dk_at dksX0_ruleOf_1 0 rfl rfl)
theorem dX0_ruleOf_26 : decode cX0_ruleOf 26 = .ok (.aload_n 1, 1) := dk_43 (dk_at dksX0_ruleOf_1 2 rfl rfl)
theorem dX0_ruleOf_27 : decode cX0_ruleOf 27 = .ok (.getfield 77, 3) := dk_180 0 77 (dk_at dksX0_ruleOf_1 3 rfl rfl)
theorem dX0_ruleOf_30 : decode cX0_ruleOf 30 = .ok (.tableswitch 81 0 4 #[34, 43, 52, 61, 72], 34) := by decide +kernel
theorem dX0_ruleOf_64 : decode cX0_ruleOf 64 = .ok (.aload_n 0, 1) := dk_42 (dk_at dksX0_ruleOf_3 0 rfl rfl)
theorem dX0_ruleOf_65 : decode cX0_ruleOf 65 = .ok (.iload_n 2, 1) := dk_28 (dk_at dksX0_ruleOf_3 1 rfl rfl)
theorem dX0_ruleOf_66 : decode cX0_ruleOf 66 = .ok (.iload_n 3, 1) := dk_29 (dk_at dksX0_ruleOf_3 2 rfl rfl)
theorem dX0_ruleOf_67 : decode cX0_ruleOf 67 = .ok (.invokedynamic 80, 5) := by decide +kernel
theorem dX0_ruleOf_72 : decode cX0_ruleOf 72 = .ok (.areturn, 1) := dk_176 (dk_at dksX0_ruleOf_3 8 rfl rfl)
theorem dX0_ruleOf_73 : decode cX0_ruleOf 73 = .ok (.aload_n 0, 1) := dk_42 (dk_at dksX0_ruleOf_3 9 rfl rfl)
theorem dX0_ruleOf_74 : decode cX0_ruleOf 74 = .ok (.iload_n 2, 1) := dk_28 (dk_at dksX0_ruleOf_3 10 rfl rfl)
theorem dX0_ruleOf_75 : decode cX0_ruleOf 75 = .ok (.iload_n 3, 1) := dk_29 (dk_at dksX0_ruleOf_3 11 rfl rfl)
theorem dX0_ruleOf_76 : decode cX0_ruleOf 76 = .ok (.invokedynamic 84, 5) := by decide +kernel
theorem dX0_ruleOf_81 : decode cX0_ruleOf 81 = .ok (.areturn, 1) := dk_176 (dk_at dksX0_ruleOf_3 17 rfl rfl)
theorem dX0_ruleOf_82 : decode cX0_ruleOf 82 = .ok (.aload_n 0, 1) := dk_42 (dk_at dksX0_ruleOf_3 18 rfl rfl)
theorem dX0_ruleOf_83 : decode cX0_ruleOf 83 = .ok (.iload_n 2, 1) := dk_28 (dk_at dksX0_ruleOf_3 19 rfl rfl)
theorem dX0_ruleOf_84 : decode cX0_ruleOf 84 = .ok (.iload_n 3, 1) := dk_29 (dk_at dksX0_ruleOf_3 20 rfl rfl)
theorem dX0_ruleOf_85 : decode cX0_ruleOf 85 = .ok (.invokedynamic 85, 5) := by decide +kernel
theorem dX0_ruleOf_90 : decode cX0_ruleOf 90 = .ok (.areturn, 1) := dk_176 (dk_at dksX0_ruleOf_4 5 rfl rfl)
theorem dX0_ruleOf_91 : decode cX0_ruleOf 91 = .ok (.aload_n 0, 1) := dk_42 (dk_at dksX0_ruleOf_4 6 rfl rfl)
theorem dX0_ruleOf_92 : decode cX0_ruleOf 92 = .ok (.iload_n 2, 1) := dk_28 (dk_at dksX0_ruleOf_4 7 rfl rfl)
theorem dX0_ruleOf_93 : decode cX0_ruleOf 93 = .ok (.iload_n 3, 1) := dk_29 (dk_at dksX0_ruleOf_4 8 rfl rfl)
theorem dX0_ruleOf_94 : decode cX0_ruleOf 94 = .ok (.iload 4, 2) := dk_21 4 (dk_at dksX0_ruleOf_4 9 rfl rfl)
theorem dX0_ruleOf_96 : decode cX0_ruleOf 96 = .ok (.invokedynamic 86, 5) := by decide +kernel
theorem dX0_ruleOf_101 : decode cX0_ruleOf 101 = .ok (.areturn, 1) := dk_176 (dk_at dksX0_ruleOf_4 16 rfl rfl)
theorem dX0_ruleOf_102 : decode cX0_ruleOf 102 = .ok (.aload_n 0, 1) := dk_42 (dk_at dksX0_ruleOf_4 17 rfl rfl)
theorem dX0_ruleOf_103 : decode cX0_ruleOf 103 = .ok (.iload_n 2, 1) := dk_28 (dk_at dksX0_ruleOf_4 18 rfl rfl)
theorem dX0_ruleOf_104 : decode cX0_ruleOf 104 = .ok (.iload_n 3, 1) := dk_29 (dk_at dksX0_ruleOf_4 19 rfl rfl)
theorem dX0_ruleOf_105 : decode cX0_ruleOf 105 = .ok (.invokedynamic 89, 5) := by decide +kernel
theorem dX0_ruleOf_110 : decode cX0_ruleOf 110 = .ok (.areturn, 1) := dk_176 (dk_at dksX0_ruleOf_5 5 rfl rfl)
theorem dX0_ruleOf_111 : decode cX0_ruleOf 111 = .ok (.aload_n 0, 1) := dk_42 (dk_at dksX0_ruleOf_5 6 rfl rfl)
theorem dX0_ruleOf_112 : decode cX0_ruleOf 112 = .ok (.iload_n 2, 1) := dk_28 (dk_at dksX0_ruleOf_5 7 rfl rfl)
theorem dX0_ruleOf_113 : decode cX0_ruleOf 113 = .ok (.iload_n 3, 1) := dk_29 (dk_at dksX0_ruleOf_5 8 rfl rfl)
theorem dX0_ruleOf_114 : decode cX0_ruleOf 114 = .ok (.iload 4, 2) := dk_21 4 (dk_at dksX0_ruleOf_5 9 rfl rfl)
theorem dX0_ruleOf_116 : decode cX0_ruleOf 116 = .ok (.iload 5, 2) := dk_21 5 (dk_at dksX0_ruleOf_5 11 rfl rfl)
theorem dX0_ruleOf_118 : decode cX0_ruleOf 118 = .ok (.invokedynamic 90, 5) := by decide +kernel
theorem dX0_ruleOf_123 : decode cX0_ruleOf 123 = .ok (.areturn, 1) := dk_176 (dk_at dksX0_ruleOf_5 18 rfl rfl)
abbrev cX0_lambda_ruleOf_3 : ByteArray := prog_1_method_162_code
def yX0_lambda_ruleOf_3 : MethodName := ⟨RX0, "lambda$ruleOf$3", "(III)Z"⟩
def dkwX0_lambda_ruleOf_3_0 : List UInt8 := [42, 29, 27, 182, 0, 243, 28, 163, 0, 7, 4, 167, 0, 4, 3, 172]
abbrev dktX0_lambda_ruleOf_3_0 : List UInt8 := dkwX0_lambda_ruleOf_3_0 ++ []
theorem dksX0_lambda_ruleOf_3_0 : cX0_lambda_ruleOf_3.data.toList.drop 0 = dktX0_lambda_ruleOf_3_0 := by decide +kernel
theorem dX0_lambda_ruleOf_3_0 : decode cX0_lambda_ruleOf_3 0 = .ok (.aload_n 0, 1) := dk_42 (dk_at dksX0_lambda_ruleOf_3_0 0 rfl rfl)
theorem dX0_lambda_ruleOf_3_1 : decode cX0_lambda_ruleOf_3 1 = .ok (.iload_n 3, 1) := dk_29 (dk_at dksX0_lambda_ruleOf_3_0 1 rfl rfl)
theorem dX0_lambda_ruleOf_3_2 : decode cX0_lambda_ruleOf_3 2 = .ok (.iload_n 1, 1) := dk_27 (dk_at dksX0_lambda_ruleOf_3_0 2 rfl rfl)
theorem dX0_lambda_ruleOf_3_3 : decode cX0_lambda_ruleOf_3 3 = .ok (.invokevirtual 243, 3) := dk_182 0 243 (dk_at dksX0_lambda_ruleOf_3_0 3 rfl rfl)
theorem dX0_lambda_ruleOf_3_6 : decode cX0_lambda_ruleOf_3 6 = .ok (.iload_n 2, 1) := dk_28 (dk_at dksX0_lambda_ruleOf_3_0 6 rfl rfl)
theorem dX0_lambda_ruleOf_3_7 : decode cX0_lambda_ruleOf_3 7 = .ok (.if_icmp .gt 7, 3) := dk_163 0 7 (dk_at dksX0_lambda_ruleOf_3_0 7 rfl rfl)
theorem dX0_lambda_ruleOf_3_10 : decode cX0_lambda_ruleOf_3 10 = .ok (.iconst 1, 1) := dk_4 (dk_at dksX0_lambda_ruleOf_3_0 10 rfl rfl)
theorem dX0_lambda_ruleOf_3_11 : decode cX0_lambda_ruleOf_3 11 = .ok (.goto 4, 3) := dk_167 0 4 (dk_at dksX0_lambda_ruleOf_3_0 11 rfl rfl)
theorem dX0_lambda_ruleOf_3_14 : decode cX0_lambda_ruleOf_3 14 = .ok (.iconst 0, 1) := dk_3 (dk_at dksX0_lambda_ruleOf_3_0 14 rfl rfl)
theorem dX0_lambda_ruleOf_3_15 : decode cX0_lambda_ruleOf_3 15 = .ok (.ireturn, 1) := dk_172 (dk_at dksX0_lambda_ruleOf_3_0 15 rfl rfl)
abbrev cX0_valueOf : ByteArray := prog_1_method_30_code
def yX0_valueOf : MethodName := ⟨RX0, "valueOf", "(II)I"⟩
def dkwX0_valueOf_0 : List UInt8 := [27, 42, 28, 182, 0, 240, 108, 42, 180, 0, 46, 180, 0, 50, 4, 96, 112, 172]
abbrev dktX0_valueOf_0 : List UInt8 := dkwX0_valueOf_0 ++ []
theorem dksX0_valueOf_0 : cX0_valueOf.data.toList.drop 0 = dktX0_valueOf_0 := by decide +kernel
theorem dX0_valueOf_0 : decode cX0_valueOf 0 = .ok (.iload_n 1, 1) := dk_27 (dk_at dksX0_valueOf_0 0 rfl rfl)
theorem dX0_valueOf_1 : decode cX0_valueOf 1 = .ok (.aload_n 0, 1) := dk_42 (dk_at dksX0_valueOf_0 1 rfl rfl)
theorem dX0_valueOf_2 : decode cX0_valueOf 2 = .ok (.iload_n 2, 1) := dk_28 (dk_at dksX0_valueOf_0 2 rfl rfl)
theorem dX0_valueOf_3 : decode cX0_valueOf 3 = .ok (.invokevirtual 240, 3) := dk_182 0 240 (dk_at dksX0_valueOf_0 3 rfl rfl)
theorem dX0_valueOf_6 : decode cX0_valueOf 6 = .ok (.idiv, 1) := dk_108 (dk_at dksX0_valueOf_0 6 rfl rfl)
theorem dX0_valueOf_7 : decode cX0_valueOf 7 = .ok (.aload_n 0, 1) := dk_42 (dk_at dksX0_valueOf_0 7 rfl rfl)
theorem dX0_valueOf_8 : decode cX0_valueOf 8 = .ok (.getfield 46, 3) := dk_180 0 46 (dk_at dksX0_valueOf_0 8 rfl rfl)
theorem dX0_valueOf_11 : decode cX0_valueOf 11 = .ok (.getfield 50, 3) := dk_180 0 50 (dk_at dksX0_valueOf_0 11 rfl rfl)
theorem dX0_valueOf_14 : decode cX0_valueOf 14 = .ok (.iconst 1, 1) := dk_4 (dk_at dksX0_valueOf_0 14 rfl rfl)
theorem dX0_valueOf_15 : decode cX0_valueOf 15 = .ok (.iadd, 1) := dk_96 (dk_at dksX0_valueOf_0 15 rfl rfl)
theorem dX0_valueOf_16 : decode cX0_valueOf 16 = .ok (.irem, 1) := dk_112 (dk_at dksX0_valueOf_0 16 rfl rfl)
theorem dX0_valueOf_17 : decode cX0_valueOf 17 = .ok (.ireturn, 1) := dk_172 (dk_at dksX0_valueOf_0 17 rfl rfl)
abbrev cX0_unit : ByteArray := prog_1_method_29_code
def yX0_unit : MethodName := ⟨RX0, "unit", "(I)I"⟩
def dkwX0_unit_1 : List UInt8 := [167, 255, 236, 28, 172]
abbrev dktX0_unit_1 : List UInt8 := dkwX0_unit_1 ++ []
def dkwX0_unit_0 : List UInt8 := [4, 61, 3, 62, 29, 27, 162, 0, 21, 28, 42, 180, 0, 46, 180, 0, 50, 4, 96, 104, 61, 132, 3, 1]
abbrev dktX0_unit_0 : List UInt8 := dkwX0_unit_0 ++ dktX0_unit_1
theorem dksX0_unit_0 : cX0_unit.data.toList.drop 0 = dktX0_unit_0 := by decide +kernel
theorem dksX0_unit_1 : cX0_unit.data.toList.drop 24 = dktX0_unit_1 := dk_seg dksX0_unit_0 24 rfl rfl
theorem dX0_unit_0 : decode cX0_unit 0 = .ok (.iconst 1, 1) := dk_4 (dk_at dksX0_unit_0 0 rfl rfl)
theorem dX0_unit_1 : decode cX0_unit 1 = .ok (.istore_n 2, 1) := dk_61 (dk_at dksX0_unit_0 1 rfl rfl)
theorem dX0_unit_2 : decode cX0_unit 2 = .ok (.iconst 0, 1) := dk_3 (dk_at dksX0_unit_0 2 rfl rfl)
theorem dX0_unit_3 : decode cX0_unit 3 = .ok (.istore_n 3, 1) := dk_62 (dk_at dksX0_unit_0 3 rfl rfl)
theorem dX0_unit_4 : decode cX0_unit 4 = .ok (.iload_n 3, 1) := dk_29 (dk_at dksX0_unit_0 4 rfl rfl)
theorem dX0_unit_5 : decode cX0_unit 5 = .ok (.iload_n 1, 1) := dk_27 (dk_at dksX0_unit_0 5 rfl rfl)
theorem dX0_unit_6 : decode cX0_unit 6 = .ok (.if_icmp .ge 21, 3) := dk_162 0 21 (dk_at dksX0_unit_0 6 rfl rfl)
theorem dX0_unit_9 : decode cX0_unit 9 = .ok (.iload_n 2, 1) := dk_28 (dk_at dksX0_unit_0 9 rfl rfl)
theorem dX0_unit_10 : decode cX0_unit 10 = .ok (.aload_n 0, 1) := dk_42 (dk_at dksX0_unit_0 10 rfl rfl)
theorem dX0_unit_11 : decode cX0_unit 11 = .ok (.getfield 46, 3) := dk_180 0 46 (dk_at dksX0_unit_0 11 rfl rfl)
theorem dX0_unit_14 : decode cX0_unit 14 = .ok (.getfield 50, 3) := dk_180 0 50 (dk_at dksX0_unit_0 14 rfl rfl)
theorem dX0_unit_17 : decode cX0_unit 17 = .ok (.iconst 1, 1) := dk_4 (dk_at dksX0_unit_0 17 rfl rfl)
theorem dX0_unit_18 : decode cX0_unit 18 = .ok (.iadd, 1) := dk_96 (dk_at dksX0_unit_0 18 rfl rfl)
theorem dX0_unit_19 : decode cX0_unit 19 = .ok (.imul, 1) := dk_104 (dk_at dksX0_unit_0 19 rfl rfl)
theorem dX0_unit_20 : decode cX0_unit 20 = .ok (.istore_n 2, 1) := dk_61 (dk_at dksX0_unit_0 20 rfl rfl)
theorem dX0_unit_21 : decode cX0_unit 21 = .ok (.iinc 3 1, 3) := dk_132 3 1 (dk_at dksX0_unit_0 21 rfl rfl)
theorem dX0_unit_24 : decode cX0_unit 24 = .ok (.goto (-20), 3) := dk_167 255 236 (dk_at dksX0_unit_1 0 rfl rfl)
theorem dX0_unit_27 : decode cX0_unit 27 = .ok (.iload_n 2, 1) := dk_28 (dk_at dksX0_unit_1 3 rfl rfl)
theorem dX0_unit_28 : decode cX0_unit 28 = .ok (.ireturn, 1) := dk_172 (dk_at dksX0_unit_1 4 rfl rfl)
abbrev cX0_lambda_ruleOf_4 : ByteArray := prog_1_method_161_code
def yX0_lambda_ruleOf_4 : MethodName := ⟨RX0, "lambda$ruleOf$4", "(III)Z"⟩
def dkwX0_lambda_ruleOf_4_0 : List UInt8 := [42, 29, 27, 182, 0, 243, 28, 161, 0, 7, 4, 167, 0, 4, 3, 172]
abbrev dktX0_lambda_ruleOf_4_0 : List UInt8 := dkwX0_lambda_ruleOf_4_0 ++ []
theorem dksX0_lambda_ruleOf_4_0 : cX0_lambda_ruleOf_4.data.toList.drop 0 = dktX0_lambda_ruleOf_4_0 := by decide +kernel
theorem dX0_lambda_ruleOf_4_0 : decode cX0_lambda_ruleOf_4 0 = .ok (.aload_n 0, 1) := dk_42 (dk_at dksX0_lambda_ruleOf_4_0 0 rfl rfl)
theorem dX0_lambda_ruleOf_4_1 : decode cX0_lambda_ruleOf_4 1 = .ok (.iload_n 3, 1) := dk_29 (dk_at dksX0_lambda_ruleOf_4_0 1 rfl rfl)
theorem dX0_lambda_ruleOf_4_2 : decode cX0_lambda_ruleOf_4 2 = .ok (.iload_n 1, 1) := dk_27 (dk_at dksX0_lambda_ruleOf_4_0 2 rfl rfl)
theorem dX0_lambda_ruleOf_4_3 : decode cX0_lambda_ruleOf_4 3 = .ok (.invokevirtual 243, 3) := dk_182 0 243 (dk_at dksX0_lambda_ruleOf_4_0 3 rfl rfl)
theorem dX0_lambda_ruleOf_4_6 : decode cX0_lambda_ruleOf_4 6 = .ok (.iload_n 2, 1) := dk_28 (dk_at dksX0_lambda_ruleOf_4_0 6 rfl rfl)
theorem dX0_lambda_ruleOf_4_7 : decode cX0_lambda_ruleOf_4 7 = .ok (.if_icmp .lt 7, 3) := dk_161 0 7 (dk_at dksX0_lambda_ruleOf_4_0 7 rfl rfl)
theorem dX0_lambda_ruleOf_4_10 : decode cX0_lambda_ruleOf_4 10 = .ok (.iconst 1, 1) := dk_4 (dk_at dksX0_lambda_ruleOf_4_0 10 rfl rfl)
theorem dX0_lambda_ruleOf_4_11 : decode cX0_lambda_ruleOf_4 11 = .ok (.goto 4, 3) := dk_167 0 4 (dk_at dksX0_lambda_ruleOf_4_0 11 rfl rfl)
theorem dX0_lambda_ruleOf_4_14 : decode cX0_lambda_ruleOf_4 14 = .ok (.iconst 0, 1) := dk_3 (dk_at dksX0_lambda_ruleOf_4_0 14 rfl rfl)
theorem dX0_lambda_ruleOf_4_15 : decode cX0_lambda_ruleOf_4 15 = .ok (.ireturn, 1) := dk_172 (dk_at dksX0_lambda_ruleOf_4_0 15 rfl rfl)
abbrev cX0_lambda_ruleOf_5 : ByteArray := prog_1_method_160_code
def yX0_lambda_ruleOf_5 : MethodName := ⟨RX0, "lambda$ruleOf$5", "(III)Z"⟩
def dkwX0_lambda_ruleOf_5_0 : List UInt8 := [42, 29, 27, 182, 0, 243, 42, 29, 28, 182, 0, 243, 159, 0, 7, 4, 167, 0, 4, 3, 172]
abbrev dktX0_lambda_ruleOf_5_0 : List UInt8 := dkwX0_lambda_ruleOf_5_0 ++ []
theorem dksX0_lambda_ruleOf_5_0 : cX0_lambda_ruleOf_5.data.toList.drop 0 = dktX0_lambda_ruleOf_5_0 := by decide +kernel
theorem dX0_lambda_ruleOf_5_0 : decode cX0_lambda_ruleOf_5 0 = .ok (.aload_n 0, 1) := dk_42 (dk_at dksX0_lambda_ruleOf_5_0 0 rfl rfl)
theorem dX0_lambda_ruleOf_5_1 : decode cX0_lambda_ruleOf_5 1 = .ok (.iload_n 3, 1) := dk_29 (dk_at dksX0_lambda_ruleOf_5_0 1 rfl rfl)
theorem dX0_lambda_ruleOf_5_2 : decode cX0_lambda_ruleOf_5 2 = .ok (.iload_n 1, 1) := dk_27 (dk_at dksX0_lambda_ruleOf_5_0 2 rfl rfl)
theorem dX0_lambda_ruleOf_5_3 : decode cX0_lambda_ruleOf_5 3 = .ok (.invokevirtual 243, 3) := dk_182 0 243 (dk_at dksX0_lambda_ruleOf_5_0 3 rfl rfl)
theorem dX0_lambda_ruleOf_5_6 : decode cX0_lambda_ruleOf_5 6 = .ok (.aload_n 0, 1) := dk_42 (dk_at dksX0_lambda_ruleOf_5_0 6 rfl rfl)
theorem dX0_lambda_ruleOf_5_7 : decode cX0_lambda_ruleOf_5 7 = .ok (.iload_n 3, 1) := dk_29 (dk_at dksX0_lambda_ruleOf_5_0 7 rfl rfl)
theorem dX0_lambda_ruleOf_5_8 : decode cX0_lambda_ruleOf_5 8 = .ok (.iload_n 2, 1) := dk_28 (dk_at dksX0_lambda_ruleOf_5_0 8 rfl rfl)
theorem dX0_lambda_ruleOf_5_9 : decode cX0_lambda_ruleOf_5 9 = .ok (.invokevirtual 243, 3) := dk_182 0 243 (dk_at dksX0_lambda_ruleOf_5_0 9 rfl rfl)
theorem dX0_lambda_ruleOf_5_12 : decode cX0_lambda_ruleOf_5 12 = .ok (.if_icmp .eq 7, 3) := dk_159 0 7 (dk_at dksX0_lambda_ruleOf_5_0 12 rfl rfl)
theorem dX0_lambda_ruleOf_5_15 : decode cX0_lambda_ruleOf_5 15 = .ok (.iconst 1, 1) := dk_4 (dk_at dksX0_lambda_ruleOf_5_0 15 rfl rfl)
theorem dX0_lambda_ruleOf_5_16 : decode cX0_lambda_ruleOf_5 16 = .ok (.goto 4, 3) := dk_167 0 4 (dk_at dksX0_lambda_ruleOf_5_0 16 rfl rfl)
theorem dX0_lambda_ruleOf_5_19 : decode cX0_lambda_ruleOf_5 19 = .ok (.iconst 0, 1) := dk_3 (dk_at dksX0_lambda_ruleOf_5_0 19 rfl rfl)
theorem dX0_lambda_ruleOf_5_20 : decode cX0_lambda_ruleOf_5 20 = .ok (.ireturn, 1) := dk_172 (dk_at dksX0_lambda_ruleOf_5_0 20 rfl rfl)
abbrev cX0_lambda_ruleOf_6 : ByteArray := prog_1_method_159_code
def yX0_lambda_ruleOf_6 : MethodName := ⟨RX0, "lambda$ruleOf$6", "(IIII)Z"⟩
def dkwX0_lambda_ruleOf_6_1 : List UInt8 := [172]
abbrev dktX0_lambda_ruleOf_6_1 : List UInt8 := dkwX0_lambda_ruleOf_6_1 ++ []
def dkwX0_lambda_ruleOf_6_0 : List UInt8 := [42, 21, 4, 27, 182, 0, 243, 42, 21, 4, 28, 182, 0, 243, 96, 29, 163, 0, 7, 4, 167, 0, 4, 3]
abbrev dktX0_lambda_ruleOf_6_0 : List UInt8 := dkwX0_lambda_ruleOf_6_0 ++ dktX0_lambda_ruleOf_6_1
theorem dksX0_lambda_ruleOf_6_0 : cX0_lambda_ruleOf_6.data.toList.drop 0 = dktX0_lambda_ruleOf_6_0 := by decide +kernel
theorem dksX0_lambda_ruleOf_6_1 : cX0_lambda_ruleOf_6.data.toList.drop 24 = dktX0_lambda_ruleOf_6_1 := dk_seg dksX0_lambda_ruleOf_6_0 24 rfl rfl
theorem dX0_lambda_ruleOf_6_0 : decode cX0_lambda_ruleOf_6 0 = .ok (.aload_n 0, 1) := dk_42 (dk_at dksX0_lambda_ruleOf_6_0 0 rfl rfl)
theorem dX0_lambda_ruleOf_6_1 : decode cX0_lambda_ruleOf_6 1 = .ok (.iload 4, 2) := dk_21 4 (dk_at dksX0_lambda_ruleOf_6_0 1 rfl rfl)
theorem dX0_lambda_ruleOf_6_3 : decode cX0_lambda_ruleOf_6 3 = .ok (.iload_n 1, 1) := dk_27 (dk_at dksX0_lambda_ruleOf_6_0 3 rfl rfl)
theorem dX0_lambda_ruleOf_6_4 : decode cX0_lambda_ruleOf_6 4 = .ok (.invokevirtual 243, 3) := dk_182 0 243 (dk_at dksX0_lambda_ruleOf_6_0 4 rfl rfl)
theorem dX0_lambda_ruleOf_6_7 : decode cX0_lambda_ruleOf_6 7 = .ok (.aload_n 0, 1) := dk_42 (dk_at dksX0_lambda_ruleOf_6_0 7 rfl rfl)
theorem dX0_lambda_ruleOf_6_8 : decode cX0_lambda_ruleOf_6 8 = .ok (.iload 4, 2) := dk_21 4 (dk_at dksX0_lambda_ruleOf_6_0 8 rfl rfl)
theorem dX0_lambda_ruleOf_6_10 : decode cX0_lambda_ruleOf_6 10 = .ok (.iload_n 2, 1) := dk_28 (dk_at dksX0_lambda_ruleOf_6_0 10 rfl rfl)
theorem dX0_lambda_ruleOf_6_11 : decode cX0_lambda_ruleOf_6 11 = .ok (.invokevirtual 243, 3) := dk_182 0 243 (dk_at dksX0_lambda_ruleOf_6_0 11 rfl rfl)
theorem dX0_lambda_ruleOf_6_14 : decode cX0_lambda_ruleOf_6 14 = .ok (.iadd, 1) := dk_96 (dk_at dksX0_lambda_ruleOf_6_0 14 rfl rfl)
theorem dX0_lambda_ruleOf_6_15 : decode cX0_lambda_ruleOf_6 15 = .ok (.iload_n 3, 1) := dk_29 (dk_at dksX0_lambda_ruleOf_6_0 15 rfl rfl)
theorem dX0_lambda_ruleOf_6_16 : decode cX0_lambda_ruleOf_6 16 = .ok (.if_icmp .gt 7, 3) := dk_163 0 7 (dk_at dksX0_lambda_ruleOf_6_0 16 rfl rfl)
theorem dX0_lambda_ruleOf_6_19 : decode cX0_lambda_ruleOf_6 19 = .ok (.iconst 1, 1) := dk_4 (dk_at dksX0_lambda_ruleOf_6_0 19 rfl rfl)
theorem dX0_lambda_ruleOf_6_20 : decode cX0_lambda_ruleOf_6 20 = .ok (.goto 4, 3) := dk_167 0 4 (dk_at dksX0_lambda_ruleOf_6_0 20 rfl rfl)
theorem dX0_lambda_ruleOf_6_23 : decode cX0_lambda_ruleOf_6 23 = .ok (.iconst 0, 1) := dk_3 (dk_at dksX0_lambda_ruleOf_6_0 23 rfl rfl)
theorem dX0_lambda_ruleOf_6_24 : decode cX0_lambda_ruleOf_6 24 = .ok (.ireturn, 1) := dk_172 (dk_at dksX0_lambda_ruleOf_6_1 0 rfl rfl)
abbrev cX0_lambda_ruleOf_7 : ByteArray := prog_1_method_158_code
def yX0_lambda_ruleOf_7 : MethodName := ⟨RX0, "lambda$ruleOf$7", "(III)Z"⟩
def dkwX0_lambda_ruleOf_7_0 : List UInt8 := [42, 29, 27, 182, 0, 243, 42, 29, 28, 182, 0, 243, 163, 0, 7, 4, 167, 0, 4, 3, 172]
abbrev dktX0_lambda_ruleOf_7_0 : List UInt8 := dkwX0_lambda_ruleOf_7_0 ++ []
theorem dksX0_lambda_ruleOf_7_0 : cX0_lambda_ruleOf_7.data.toList.drop 0 = dktX0_lambda_ruleOf_7_0 := by decide +kernel
theorem dX0_lambda_ruleOf_7_0 : decode cX0_lambda_ruleOf_7 0 = .ok (.aload_n 0, 1) := dk_42 (dk_at dksX0_lambda_ruleOf_7_0 0 rfl rfl)
theorem dX0_lambda_ruleOf_7_1 : decode cX0_lambda_ruleOf_7 1 = .ok (.iload_n 3, 1) := dk_29 (dk_at dksX0_lambda_ruleOf_7_0 1 rfl rfl)
theorem dX0_lambda_ruleOf_7_2 : decode cX0_lambda_ruleOf_7 2 = .ok (.iload_n 1, 1) := dk_27 (dk_at dksX0_lambda_ruleOf_7_0 2 rfl rfl)
theorem dX0_lambda_ruleOf_7_3 : decode cX0_lambda_ruleOf_7 3 = .ok (.invokevirtual 243, 3) := dk_182 0 243 (dk_at dksX0_lambda_ruleOf_7_0 3 rfl rfl)
theorem dX0_lambda_ruleOf_7_6 : decode cX0_lambda_ruleOf_7 6 = .ok (.aload_n 0, 1) := dk_42 (dk_at dksX0_lambda_ruleOf_7_0 6 rfl rfl)
theorem dX0_lambda_ruleOf_7_7 : decode cX0_lambda_ruleOf_7 7 = .ok (.iload_n 3, 1) := dk_29 (dk_at dksX0_lambda_ruleOf_7_0 7 rfl rfl)
theorem dX0_lambda_ruleOf_7_8 : decode cX0_lambda_ruleOf_7 8 = .ok (.iload_n 2, 1) := dk_28 (dk_at dksX0_lambda_ruleOf_7_0 8 rfl rfl)
theorem dX0_lambda_ruleOf_7_9 : decode cX0_lambda_ruleOf_7 9 = .ok (.invokevirtual 243, 3) := dk_182 0 243 (dk_at dksX0_lambda_ruleOf_7_0 9 rfl rfl)
theorem dX0_lambda_ruleOf_7_12 : decode cX0_lambda_ruleOf_7 12 = .ok (.if_icmp .gt 7, 3) := dk_163 0 7 (dk_at dksX0_lambda_ruleOf_7_0 12 rfl rfl)
theorem dX0_lambda_ruleOf_7_15 : decode cX0_lambda_ruleOf_7 15 = .ok (.iconst 1, 1) := dk_4 (dk_at dksX0_lambda_ruleOf_7_0 15 rfl rfl)
theorem dX0_lambda_ruleOf_7_16 : decode cX0_lambda_ruleOf_7 16 = .ok (.goto 4, 3) := dk_167 0 4 (dk_at dksX0_lambda_ruleOf_7_0 16 rfl rfl)
theorem dX0_lambda_ruleOf_7_19 : decode cX0_lambda_ruleOf_7 19 = .ok (.iconst 0, 1) := dk_3 (dk_at dksX0_lambda_ruleOf_7_0 19 rfl rfl)
theorem dX0_lambda_ruleOf_7_20 : decode cX0_lambda_ruleOf_7 20 = .ok (.ireturn, 1) := dk_172 (dk_at dksX0_lambda_ruleOf_7_0 20 rfl rfl)
abbrev cX0_lambda_ruleOf_8 : ByteArray := prog_1_method_157_code
def yX0_lambda_ruleOf_8 : MethodName := ⟨RX0, "lambda$ruleOf$8", "(IIIII)Z"⟩
def dkwX0_lambda_ruleOf_8_1 : List UInt8 := [167, 0, 4, 3, 172]
abbrev dktX0_lambda_ruleOf_8_1 : List UInt8 := dkwX0_lambda_ruleOf_8_1 ++ []
def dkwX0_lambda_ruleOf_8_0 : List UInt8 := [42, 21, 5, 27, 182, 0, 243, 28, 161, 0, 15, 42, 21, 5, 29, 182, 0, 243, 21, 4, 161, 0, 7, 4]
abbrev dktX0_lambda_ruleOf_8_0 : List UInt8 := dkwX0_lambda_ruleOf_8_0 ++ dktX0_lambda_ruleOf_8_1
theorem dksX0_lambda_ruleOf_8_0 : cX0_lambda_ruleOf_8.data.toList.drop 0 = dktX0_lambda_ruleOf_8_0 := by decide +kernel
theorem dksX0_lambda_ruleOf_8_1 : cX0_lambda_ruleOf_8.data.toList.drop 24 = dktX0_lambda_ruleOf_8_1 := dk_seg dksX0_lambda_ruleOf_8_0 24 rfl rfl
theorem dX0_lambda_ruleOf_8_0 : decode cX0_lambda_ruleOf_8 0 = .ok (.aload_n 0, 1) := dk_42 (dk_at dksX0_lambda_ruleOf_8_0 0 rfl rfl)
theorem dX0_lambda_ruleOf_8_1 : decode cX0_lambda_ruleOf_8 1 = .ok (.iload 5, 2) := dk_21 5 (dk_at dksX0_lambda_ruleOf_8_0 1 rfl rfl)
theorem dX0_lambda_ruleOf_8_3 : decode cX0_lambda_ruleOf_8 3 = .ok (.iload_n 1, 1) := dk_27 (dk_at dksX0_lambda_ruleOf_8_0 3 rfl rfl)
theorem dX0_lambda_ruleOf_8_4 : decode cX0_lambda_ruleOf_8 4 = .ok (.invokevirtual 243, 3) := dk_182 0 243 (dk_at dksX0_lambda_ruleOf_8_0 4 rfl rfl)
theorem dX0_lambda_ruleOf_8_7 : decode cX0_lambda_ruleOf_8 7 = .ok (.iload_n 2, 1) := dk_28 (dk_at dksX0_lambda_ruleOf_8_0 7 rfl rfl)
theorem dX0_lambda_ruleOf_8_8 : decode cX0_lambda_ruleOf_8 8 = .ok (.if_icmp .lt 15, 3) := dk_161 0 15 (dk_at dksX0_lambda_ruleOf_8_0 8 rfl rfl)
theorem dX0_lambda_ruleOf_8_11 : decode cX0_lambda_ruleOf_8 11 = .ok (.aload_n 0, 1) := dk_42 (dk_at dksX0_lambda_ruleOf_8_0 11 rfl rfl)
theorem dX0_lambda_ruleOf_8_12 : decode cX0_lambda_ruleOf_8 12 = .ok (.iload 5, 2) := dk_21 5 (dk_at dksX0_lambda_ruleOf_8_0 12 rfl rfl)
theorem dX0_lambda_ruleOf_8_14 : decode cX0_lambda_ruleOf_8 14 = .ok (.iload_n 3, 1) := dk_29 (dk_at dksX0_lambda_ruleOf_8_0 14 rfl rfl)
theorem dX0_lambda_ruleOf_8_15 : decode cX0_lambda_ruleOf_8 15 = .ok (.invokevirtual 243, 3) := dk_182 0 243 (dk_at dksX0_lambda_ruleOf_8_0 15 rfl rfl)
theorem dX0_lambda_ruleOf_8_18 : decode cX0_lambda_ruleOf_8 18 = .ok (.iload 4, 2) := dk_21 4 (dk_at dksX0_lambda_ruleOf_8_0 18 rfl rfl)
theorem dX0_lambda_ruleOf_8_20 : decode cX0_lambda_ruleOf_8 20 = .ok (.if_icmp .lt 7, 3) := dk_161 0 7 (dk_at dksX0_lambda_ruleOf_8_0 20 rfl rfl)
theorem dX0_lambda_ruleOf_8_23 : decode cX0_lambda_ruleOf_8 23 = .ok (.iconst 1, 1) := dk_4 (dk_at dksX0_lambda_ruleOf_8_0 23 rfl rfl)
theorem dX0_lambda_ruleOf_8_24 : decode cX0_lambda_ruleOf_8 24 = .ok (.goto 4, 3) := dk_167 0 4 (dk_at dksX0_lambda_ruleOf_8_1 0 rfl rfl)
theorem dX0_lambda_ruleOf_8_27 : decode cX0_lambda_ruleOf_8 27 = .ok (.iconst 0, 1) := dk_3 (dk_at dksX0_lambda_ruleOf_8_1 3 rfl rfl)
theorem dX0_lambda_ruleOf_8_28 : decode cX0_lambda_ruleOf_8 28 = .ok (.ireturn, 1) := dk_172 (dk_at dksX0_lambda_ruleOf_8_1 4 rfl rfl)
abbrev cX0_stepOf : ByteArray := prog_1_method_14_code
def yX0_stepOf : MethodName := ⟨RX0, "stepOf", "(LMergeJudge$Told;)LMergeJudge$Step;"⟩
def dkwX0_stepOf_3 : List UInt8 := [186, 0, 98, 0, 0, 176, 42, 28, 21, 4, 29, 186, 0, 99, 0, 0, 176]
abbrev dktX0_stepOf_3 : List UInt8 := dkwX0_stepOf_3 ++ []
def dkwX0_stepOf_2 : List UInt8 := [42, 28, 29, 186, 0, 93, 0, 0, 176, 42, 28, 29, 186, 0, 97, 0, 0, 176, 42, 28, 29]
abbrev dktX0_stepOf_2 : List UInt8 := dkwX0_stepOf_2 ++ dktX0_stepOf_3
def dkwX0_stepOf_1 : List UInt8 := [170, 0, 0, 0, 52, 0, 0, 0, 0, 0, 0, 0, 2, 0, 0, 0, 25, 0, 0, 0, 34, 0, 0, 0, 43]
abbrev dktX0_stepOf_1 : List UInt8 := dkwX0_stepOf_1 ++ dktX0_stepOf_2
def dkwX0_stepOf_0 : List UInt8 := [43, 3, 182, 0, 72, 61, 43, 4, 182, 0, 72, 62, 43, 5, 182, 0, 72, 54, 4, 43, 180, 0, 77]
abbrev dktX0_stepOf_0 : List UInt8 := dkwX0_stepOf_0 ++ dktX0_stepOf_1
theorem dksX0_stepOf_0 : cX0_stepOf.data.toList.drop 0 = dktX0_stepOf_0 := by decide +kernel
theorem dksX0_stepOf_1 : cX0_stepOf.data.toList.drop 23 = dktX0_stepOf_1 := dk_seg dksX0_stepOf_0 23 rfl rfl
theorem dksX0_stepOf_2 : cX0_stepOf.data.toList.drop 48 = dktX0_stepOf_2 := dk_seg dksX0_stepOf_1 25 rfl rfl
theorem dksX0_stepOf_3 : cX0_stepOf.data.toList.drop 69 = dktX0_stepOf_3 := dk_seg dksX0_stepOf_2 21 rfl rfl
theorem dX0_stepOf_0 : decode cX0_stepOf 0 = .ok (.aload_n 1, 1) := dk_43 (dk_at dksX0_stepOf_0 0 rfl rfl)
theorem dX0_stepOf_1 : decode cX0_stepOf 1 = .ok (.iconst 0, 1) := dk_3 (dk_at dksX0_stepOf_0 1 rfl rfl)
theorem dX0_stepOf_2 : decode cX0_stepOf 2 = .ok (.invokevirtual 72, 3) := dk_182 0 72 (dk_at dksX0_stepOf_0 2 rfl rfl)
theorem dX0_stepOf_5 : decode cX0_stepOf 5 = .ok (.istore_n 2, 1) := dk_61 (dk_at dksX0_stepOf_0 5 rfl rfl)
theorem dX0_stepOf_6 : decode cX0_stepOf 6 = .ok (.aload_n 1, 1) := dk_43 (dk_at dksX0_stepOf_0 6 rfl rfl)
theorem dX0_stepOf_7 : decode cX0_stepOf 7 = .ok (.iconst 1, 1) := dk_4 (dk_at dksX0_stepOf_0 7 rfl rfl)
theorem dX0_stepOf_8 : decode cX0_stepOf 8 = .ok (.invokevirtual 72, 3) := dk_182 0 72 (dk_at dksX0_stepOf_0 8 rfl rfl)
theorem dX0_stepOf_11 : decode cX0_stepOf 11 = .ok (.istore_n 3, 1) := dk_62 (dk_at dksX0_stepOf_0 11 rfl rfl)
theorem dX0_stepOf_12 : decode cX0_stepOf 12 = .ok (.aload_n 1, 1) := dk_43 (dk_at dksX0_stepOf_0 12 rfl rfl)
theorem dX0_stepOf_13 : decode cX0_stepOf 13 = .ok (.iconst 2, 1) := dk_5 (dk_at dksX0_stepOf_0 13 rfl rfl)
theorem dX0_stepOf_14 : decode cX0_stepOf 14 = .ok (.invokevirtual 72, 3) := dk_182 0 72 (dk_at dksX0_stepOf_0 14 rfl rfl)
theorem dX0_stepOf_17 : decode cX0_stepOf 17 = .ok (.istore 4, 2) := dk_54 4 (dk_at dksX0_stepOf_0 17 rfl rfl)
theorem dX0_stepOf_19 : decode cX0_stepOf 19 = .ok (.aload_n 1, 1) := dk_43 (dk_at dksX0_stepOf_0 19 rfl rfl)
theorem dX0_stepOf_20 : decode cX0_stepOf 20 = .ok (.getfield 77, 3) := dk_180 0 77 (dk_at dksX0_stepOf_0 20 rfl rfl)
theorem dX0_stepOf_23 : decode cX0_stepOf 23 = .ok (.tableswitch 52 0 2 #[25, 34, 43], 25) := by decide +kernel
theorem dX0_stepOf_48 : decode cX0_stepOf 48 = .ok (.aload_n 0, 1) := dk_42 (dk_at dksX0_stepOf_2 0 rfl rfl)
theorem dX0_stepOf_49 : decode cX0_stepOf 49 = .ok (.iload_n 2, 1) := dk_28 (dk_at dksX0_stepOf_2 1 rfl rfl)
theorem dX0_stepOf_50 : decode cX0_stepOf 50 = .ok (.iload_n 3, 1) := dk_29 (dk_at dksX0_stepOf_2 2 rfl rfl)
theorem dX0_stepOf_51 : decode cX0_stepOf 51 = .ok (.invokedynamic 93, 5) := by decide +kernel
theorem dX0_stepOf_56 : decode cX0_stepOf 56 = .ok (.areturn, 1) := dk_176 (dk_at dksX0_stepOf_2 8 rfl rfl)
theorem dX0_stepOf_57 : decode cX0_stepOf 57 = .ok (.aload_n 0, 1) := dk_42 (dk_at dksX0_stepOf_2 9 rfl rfl)
theorem dX0_stepOf_58 : decode cX0_stepOf 58 = .ok (.iload_n 2, 1) := dk_28 (dk_at dksX0_stepOf_2 10 rfl rfl)
theorem dX0_stepOf_59 : decode cX0_stepOf 59 = .ok (.iload_n 3, 1) := dk_29 (dk_at dksX0_stepOf_2 11 rfl rfl)
theorem dX0_stepOf_60 : decode cX0_stepOf 60 = .ok (.invokedynamic 97, 5) := by decide +kernel
theorem dX0_stepOf_65 : decode cX0_stepOf 65 = .ok (.areturn, 1) := dk_176 (dk_at dksX0_stepOf_2 17 rfl rfl)
theorem dX0_stepOf_66 : decode cX0_stepOf 66 = .ok (.aload_n 0, 1) := dk_42 (dk_at dksX0_stepOf_2 18 rfl rfl)
theorem dX0_stepOf_67 : decode cX0_stepOf 67 = .ok (.iload_n 2, 1) := dk_28 (dk_at dksX0_stepOf_2 19 rfl rfl)
theorem dX0_stepOf_68 : decode cX0_stepOf 68 = .ok (.iload_n 3, 1) := dk_29 (dk_at dksX0_stepOf_2 20 rfl rfl)
theorem dX0_stepOf_69 : decode cX0_stepOf 69 = .ok (.invokedynamic 98, 5) := by decide +kernel
theorem dX0_stepOf_74 : decode cX0_stepOf 74 = .ok (.areturn, 1) := dk_176 (dk_at dksX0_stepOf_3 5 rfl rfl)
theorem dX0_stepOf_75 : decode cX0_stepOf 75 = .ok (.aload_n 0, 1) := dk_42 (dk_at dksX0_stepOf_3 6 rfl rfl)
theorem dX0_stepOf_76 : decode cX0_stepOf 76 = .ok (.iload_n 2, 1) := dk_28 (dk_at dksX0_stepOf_3 7 rfl rfl)
theorem dX0_stepOf_77 : decode cX0_stepOf 77 = .ok (.iload 4, 2) := dk_21 4 (dk_at dksX0_stepOf_3 8 rfl rfl)
theorem dX0_stepOf_79 : decode cX0_stepOf 79 = .ok (.iload_n 3, 1) := dk_29 (dk_at dksX0_stepOf_3 10 rfl rfl)
theorem dX0_stepOf_80 : decode cX0_stepOf 80 = .ok (.invokedynamic 99, 5) := by decide +kernel
theorem dX0_stepOf_85 : decode cX0_stepOf 85 = .ok (.areturn, 1) := dk_176 (dk_at dksX0_stepOf_3 16 rfl rfl)
abbrev cX0_lambda_stepOf_9 : ByteArray := prog_1_method_156_code
def yX0_lambda_stepOf_9 : MethodName := ⟨RX0, "lambda$stepOf$9", "(III)I"⟩
def dkwX0_lambda_stepOf_9_0 : List UInt8 := [42, 29, 27, 42, 29, 27, 182, 0, 243, 28, 96, 182, 2, 90, 172]
abbrev dktX0_lambda_stepOf_9_0 : List UInt8 := dkwX0_lambda_stepOf_9_0 ++ []
theorem dksX0_lambda_stepOf_9_0 : cX0_lambda_stepOf_9.data.toList.drop 0 = dktX0_lambda_stepOf_9_0 := by decide +kernel
theorem dX0_lambda_stepOf_9_0 : decode cX0_lambda_stepOf_9 0 = .ok (.aload_n 0, 1) := dk_42 (dk_at dksX0_lambda_stepOf_9_0 0 rfl rfl)
theorem dX0_lambda_stepOf_9_1 : decode cX0_lambda_stepOf_9 1 = .ok (.iload_n 3, 1) := dk_29 (dk_at dksX0_lambda_stepOf_9_0 1 rfl rfl)
theorem dX0_lambda_stepOf_9_2 : decode cX0_lambda_stepOf_9 2 = .ok (.iload_n 1, 1) := dk_27 (dk_at dksX0_lambda_stepOf_9_0 2 rfl rfl)
theorem dX0_lambda_stepOf_9_3 : decode cX0_lambda_stepOf_9 3 = .ok (.aload_n 0, 1) := dk_42 (dk_at dksX0_lambda_stepOf_9_0 3 rfl rfl)
theorem dX0_lambda_stepOf_9_4 : decode cX0_lambda_stepOf_9 4 = .ok (.iload_n 3, 1) := dk_29 (dk_at dksX0_lambda_stepOf_9_0 4 rfl rfl)
theorem dX0_lambda_stepOf_9_5 : decode cX0_lambda_stepOf_9 5 = .ok (.iload_n 1, 1) := dk_27 (dk_at dksX0_lambda_stepOf_9_0 5 rfl rfl)
theorem dX0_lambda_stepOf_9_6 : decode cX0_lambda_stepOf_9 6 = .ok (.invokevirtual 243, 3) := dk_182 0 243 (dk_at dksX0_lambda_stepOf_9_0 6 rfl rfl)
theorem dX0_lambda_stepOf_9_9 : decode cX0_lambda_stepOf_9 9 = .ok (.iload_n 2, 1) := dk_28 (dk_at dksX0_lambda_stepOf_9_0 9 rfl rfl)
theorem dX0_lambda_stepOf_9_10 : decode cX0_lambda_stepOf_9 10 = .ok (.iadd, 1) := dk_96 (dk_at dksX0_lambda_stepOf_9_0 10 rfl rfl)
theorem dX0_lambda_stepOf_9_11 : decode cX0_lambda_stepOf_9 11 = .ok (.invokevirtual 602, 3) := dk_182 2 90 (dk_at dksX0_lambda_stepOf_9_0 11 rfl rfl)
theorem dX0_lambda_stepOf_9_14 : decode cX0_lambda_stepOf_9 14 = .ok (.ireturn, 1) := dk_172 (dk_at dksX0_lambda_stepOf_9_0 14 rfl rfl)
abbrev cX0_with : ByteArray := prog_1_method_31_code
def yX0_with : MethodName := ⟨RX0, "with", "(III)I"⟩
def dkwX0_with_1 : List UInt8 := [167, 0, 19, 27, 29, 42, 27, 28, 182, 0, 243, 100, 42, 28, 182, 0, 240, 104, 96, 172]
abbrev dktX0_with_1 : List UInt8 := dkwX0_with_1 ++ []
def dkwX0_with_0 : List UInt8 := [27, 2, 159, 0, 20, 29, 133, 9, 42, 180, 0, 46, 180, 0, 50, 133, 184, 0, 11, 154, 0, 7, 2]
abbrev dktX0_with_0 : List UInt8 := dkwX0_with_0 ++ dktX0_with_1
theorem dksX0_with_0 : cX0_with.data.toList.drop 0 = dktX0_with_0 := by decide +kernel
theorem dksX0_with_1 : cX0_with.data.toList.drop 23 = dktX0_with_1 := dk_seg dksX0_with_0 23 rfl rfl
theorem dX0_with_0 : decode cX0_with 0 = .ok (.iload_n 1, 1) := dk_27 (dk_at dksX0_with_0 0 rfl rfl)
theorem dX0_with_1 : decode cX0_with 1 = .ok (.iconst (-1), 1) := dk_2 (dk_at dksX0_with_0 1 rfl rfl)
theorem dX0_with_2 : decode cX0_with 2 = .ok (.if_icmp .eq 20, 3) := dk_159 0 20 (dk_at dksX0_with_0 2 rfl rfl)
theorem dX0_with_5 : decode cX0_with 5 = .ok (.iload_n 3, 1) := dk_29 (dk_at dksX0_with_0 5 rfl rfl)
theorem dX0_with_6 : decode cX0_with 6 = .ok (.i2l, 1) := dk_133 (dk_at dksX0_with_0 6 rfl rfl)
theorem dX0_with_7 : decode cX0_with 7 = .ok (.lconst 0, 1) := dk_9 (dk_at dksX0_with_0 7 rfl rfl)
theorem dX0_with_8 : decode cX0_with 8 = .ok (.aload_n 0, 1) := dk_42 (dk_at dksX0_with_0 8 rfl rfl)
theorem dX0_with_9 : decode cX0_with 9 = .ok (.getfield 46, 3) := dk_180 0 46 (dk_at dksX0_with_0 9 rfl rfl)
theorem dX0_with_12 : decode cX0_with 12 = .ok (.getfield 50, 3) := dk_180 0 50 (dk_at dksX0_with_0 12 rfl rfl)
theorem dX0_with_15 : decode cX0_with 15 = .ok (.i2l, 1) := dk_133 (dk_at dksX0_with_0 15 rfl rfl)
theorem dX0_with_16 : decode cX0_with 16 = .ok (.invokestatic 11, 3) := dk_184 0 11 (dk_at dksX0_with_0 16 rfl rfl)
theorem dX0_with_19 : decode cX0_with 19 = .ok (.ifCond .ne 7, 3) := dk_154 0 7 (dk_at dksX0_with_0 19 rfl rfl)
theorem dX0_with_22 : decode cX0_with 22 = .ok (.iconst (-1), 1) := dk_2 (dk_at dksX0_with_0 22 rfl rfl)
theorem dX0_with_23 : decode cX0_with 23 = .ok (.goto 19, 3) := dk_167 0 19 (dk_at dksX0_with_1 0 rfl rfl)
theorem dX0_with_26 : decode cX0_with 26 = .ok (.iload_n 1, 1) := dk_27 (dk_at dksX0_with_1 3 rfl rfl)
theorem dX0_with_27 : decode cX0_with 27 = .ok (.iload_n 3, 1) := dk_29 (dk_at dksX0_with_1 4 rfl rfl)
theorem dX0_with_28 : decode cX0_with 28 = .ok (.aload_n 0, 1) := dk_42 (dk_at dksX0_with_1 5 rfl rfl)
theorem dX0_with_29 : decode cX0_with 29 = .ok (.iload_n 1, 1) := dk_27 (dk_at dksX0_with_1 6 rfl rfl)
theorem dX0_with_30 : decode cX0_with 30 = .ok (.iload_n 2, 1) := dk_28 (dk_at dksX0_with_1 7 rfl rfl)
theorem dX0_with_31 : decode cX0_with 31 = .ok (.invokevirtual 243, 3) := dk_182 0 243 (dk_at dksX0_with_1 8 rfl rfl)
theorem dX0_with_34 : decode cX0_with 34 = .ok (.isub, 1) := dk_100 (dk_at dksX0_with_1 11 rfl rfl)
theorem dX0_with_35 : decode cX0_with 35 = .ok (.aload_n 0, 1) := dk_42 (dk_at dksX0_with_1 12 rfl rfl)
theorem dX0_with_36 : decode cX0_with 36 = .ok (.iload_n 2, 1) := dk_28 (dk_at dksX0_with_1 13 rfl rfl)
theorem dX0_with_37 : decode cX0_with 37 = .ok (.invokevirtual 240, 3) := dk_182 0 240 (dk_at dksX0_with_1 14 rfl rfl)
theorem dX0_with_40 : decode cX0_with 40 = .ok (.imul, 1) := dk_104 (dk_at dksX0_with_1 17 rfl rfl)
theorem dX0_with_41 : decode cX0_with 41 = .ok (.iadd, 1) := dk_96 (dk_at dksX0_with_1 18 rfl rfl)
theorem dX0_with_42 : decode cX0_with 42 = .ok (.ireturn, 1) := dk_172 (dk_at dksX0_with_1 19 rfl rfl)
abbrev cX0_lambda_stepOf_10 : ByteArray := prog_1_method_155_code
def yX0_lambda_stepOf_10 : MethodName := ⟨RX0, "lambda$stepOf$10", "(III)I"⟩
def dkwX0_lambda_stepOf_10_0 : List UInt8 := [42, 29, 27, 42, 29, 27, 182, 0, 243, 28, 100, 182, 2, 90, 172]
abbrev dktX0_lambda_stepOf_10_0 : List UInt8 := dkwX0_lambda_stepOf_10_0 ++ []
theorem dksX0_lambda_stepOf_10_0 : cX0_lambda_stepOf_10.data.toList.drop 0 = dktX0_lambda_stepOf_10_0 := by decide +kernel
theorem dX0_lambda_stepOf_10_0 : decode cX0_lambda_stepOf_10 0 = .ok (.aload_n 0, 1) := dk_42 (dk_at dksX0_lambda_stepOf_10_0 0 rfl rfl)
theorem dX0_lambda_stepOf_10_1 : decode cX0_lambda_stepOf_10 1 = .ok (.iload_n 3, 1) := dk_29 (dk_at dksX0_lambda_stepOf_10_0 1 rfl rfl)
theorem dX0_lambda_stepOf_10_2 : decode cX0_lambda_stepOf_10 2 = .ok (.iload_n 1, 1) := dk_27 (dk_at dksX0_lambda_stepOf_10_0 2 rfl rfl)
theorem dX0_lambda_stepOf_10_3 : decode cX0_lambda_stepOf_10 3 = .ok (.aload_n 0, 1) := dk_42 (dk_at dksX0_lambda_stepOf_10_0 3 rfl rfl)
theorem dX0_lambda_stepOf_10_4 : decode cX0_lambda_stepOf_10 4 = .ok (.iload_n 3, 1) := dk_29 (dk_at dksX0_lambda_stepOf_10_0 4 rfl rfl)
theorem dX0_lambda_stepOf_10_5 : decode cX0_lambda_stepOf_10 5 = .ok (.iload_n 1, 1) := dk_27 (dk_at dksX0_lambda_stepOf_10_0 5 rfl rfl)
theorem dX0_lambda_stepOf_10_6 : decode cX0_lambda_stepOf_10 6 = .ok (.invokevirtual 243, 3) := dk_182 0 243 (dk_at dksX0_lambda_stepOf_10_0 6 rfl rfl)
theorem dX0_lambda_stepOf_10_9 : decode cX0_lambda_stepOf_10 9 = .ok (.iload_n 2, 1) := dk_28 (dk_at dksX0_lambda_stepOf_10_0 9 rfl rfl)
theorem dX0_lambda_stepOf_10_10 : decode cX0_lambda_stepOf_10 10 = .ok (.isub, 1) := dk_100 (dk_at dksX0_lambda_stepOf_10_0 10 rfl rfl)
theorem dX0_lambda_stepOf_10_11 : decode cX0_lambda_stepOf_10 11 = .ok (.invokevirtual 602, 3) := dk_182 2 90 (dk_at dksX0_lambda_stepOf_10_0 11 rfl rfl)
theorem dX0_lambda_stepOf_10_14 : decode cX0_lambda_stepOf_10 14 = .ok (.ireturn, 1) := dk_172 (dk_at dksX0_lambda_stepOf_10_0 14 rfl rfl)
abbrev cX0_lambda_stepOf_11 : ByteArray := prog_1_method_154_code
def yX0_lambda_stepOf_11 : MethodName := ⟨RX0, "lambda$stepOf$11", "(III)I"⟩
def dkwX0_lambda_stepOf_11_0 : List UInt8 := [42, 29, 27, 28, 182, 2, 90, 172]
abbrev dktX0_lambda_stepOf_11_0 : List UInt8 := dkwX0_lambda_stepOf_11_0 ++ []
theorem dksX0_lambda_stepOf_11_0 : cX0_lambda_stepOf_11.data.toList.drop 0 = dktX0_lambda_stepOf_11_0 := by decide +kernel
theorem dX0_lambda_stepOf_11_0 : decode cX0_lambda_stepOf_11 0 = .ok (.aload_n 0, 1) := dk_42 (dk_at dksX0_lambda_stepOf_11_0 0 rfl rfl)
theorem dX0_lambda_stepOf_11_1 : decode cX0_lambda_stepOf_11 1 = .ok (.iload_n 3, 1) := dk_29 (dk_at dksX0_lambda_stepOf_11_0 1 rfl rfl)
theorem dX0_lambda_stepOf_11_2 : decode cX0_lambda_stepOf_11 2 = .ok (.iload_n 1, 1) := dk_27 (dk_at dksX0_lambda_stepOf_11_0 2 rfl rfl)
theorem dX0_lambda_stepOf_11_3 : decode cX0_lambda_stepOf_11 3 = .ok (.iload_n 2, 1) := dk_28 (dk_at dksX0_lambda_stepOf_11_0 3 rfl rfl)
theorem dX0_lambda_stepOf_11_4 : decode cX0_lambda_stepOf_11 4 = .ok (.invokevirtual 602, 3) := dk_182 2 90 (dk_at dksX0_lambda_stepOf_11_0 4 rfl rfl)
theorem dX0_lambda_stepOf_11_7 : decode cX0_lambda_stepOf_11 7 = .ok (.ireturn, 1) := dk_172 (dk_at dksX0_lambda_stepOf_11_0 7 rfl rfl)
abbrev cX0_lambda_stepOf_12 : ByteArray := prog_1_method_153_code
def yX0_lambda_stepOf_12 : MethodName := ⟨RX0, "lambda$stepOf$12", "(IIII)I"⟩
def dkwX0_lambda_stepOf_12_1 : List UInt8 := [182, 0, 243, 28, 96, 182, 2, 90, 172]
abbrev dktX0_lambda_stepOf_12_1 : List UInt8 := dkwX0_lambda_stepOf_12_1 ++ []
def dkwX0_lambda_stepOf_12_0 : List UInt8 := [42, 42, 21, 4, 27, 42, 21, 4, 27, 182, 0, 243, 28, 100, 182, 2, 90, 29, 42, 21, 4, 29]
abbrev dktX0_lambda_stepOf_12_0 : List UInt8 := dkwX0_lambda_stepOf_12_0 ++ dktX0_lambda_stepOf_12_1
theorem dksX0_lambda_stepOf_12_0 : cX0_lambda_stepOf_12.data.toList.drop 0 = dktX0_lambda_stepOf_12_0 := by decide +kernel
theorem dksX0_lambda_stepOf_12_1 : cX0_lambda_stepOf_12.data.toList.drop 22 = dktX0_lambda_stepOf_12_1 := dk_seg dksX0_lambda_stepOf_12_0 22 rfl rfl
theorem dX0_lambda_stepOf_12_0 : decode cX0_lambda_stepOf_12 0 = .ok (.aload_n 0, 1) := dk_42 (dk_at dksX0_lambda_stepOf_12_0 0 rfl rfl)
theorem dX0_lambda_stepOf_12_1 : decode cX0_lambda_stepOf_12 1 = .ok (.aload_n 0, 1) := dk_42 (dk_at dksX0_lambda_stepOf_12_0 1 rfl rfl)
theorem dX0_lambda_stepOf_12_2 : decode cX0_lambda_stepOf_12 2 = .ok (.iload 4, 2) := dk_21 4 (dk_at dksX0_lambda_stepOf_12_0 2 rfl rfl)
theorem dX0_lambda_stepOf_12_4 : decode cX0_lambda_stepOf_12 4 = .ok (.iload_n 1, 1) := dk_27 (dk_at dksX0_lambda_stepOf_12_0 4 rfl rfl)
theorem dX0_lambda_stepOf_12_5 : decode cX0_lambda_stepOf_12 5 = .ok (.aload_n 0, 1) := dk_42 (dk_at dksX0_lambda_stepOf_12_0 5 rfl rfl)
theorem dX0_lambda_stepOf_12_6 : decode cX0_lambda_stepOf_12 6 = .ok (.iload 4, 2) := dk_21 4 (dk_at dksX0_lambda_stepOf_12_0 6 rfl rfl)
theorem dX0_lambda_stepOf_12_8 : decode cX0_lambda_stepOf_12 8 = .ok (.iload_n 1, 1) := dk_27 (dk_at dksX0_lambda_stepOf_12_0 8 rfl rfl)
theorem dX0_lambda_stepOf_12_9 : decode cX0_lambda_stepOf_12 9 = .ok (.invokevirtual 243, 3) := dk_182 0 243 (dk_at dksX0_lambda_stepOf_12_0 9 rfl rfl)
theorem dX0_lambda_stepOf_12_12 : decode cX0_lambda_stepOf_12 12 = .ok (.iload_n 2, 1) := dk_28 (dk_at dksX0_lambda_stepOf_12_0 12 rfl rfl)
theorem dX0_lambda_stepOf_12_13 : decode cX0_lambda_stepOf_12 13 = .ok (.isub, 1) := dk_100 (dk_at dksX0_lambda_stepOf_12_0 13 rfl rfl)
theorem dX0_lambda_stepOf_12_14 : decode cX0_lambda_stepOf_12 14 = .ok (.invokevirtual 602, 3) := dk_182 2 90 (dk_at dksX0_lambda_stepOf_12_0 14 rfl rfl)
theorem dX0_lambda_stepOf_12_17 : decode cX0_lambda_stepOf_12 17 = .ok (.iload_n 3, 1) := dk_29 (dk_at dksX0_lambda_stepOf_12_0 17 rfl rfl)
theorem dX0_lambda_stepOf_12_18 : decode cX0_lambda_stepOf_12 18 = .ok (.aload_n 0, 1) := dk_42 (dk_at dksX0_lambda_stepOf_12_0 18 rfl rfl)
theorem dX0_lambda_stepOf_12_19 : decode cX0_lambda_stepOf_12 19 = .ok (.iload 4, 2) := dk_21 4 (dk_at dksX0_lambda_stepOf_12_0 19 rfl rfl)
theorem dX0_lambda_stepOf_12_21 : decode cX0_lambda_stepOf_12 21 = .ok (.iload_n 3, 1) := dk_29 (dk_at dksX0_lambda_stepOf_12_0 21 rfl rfl)
theorem dX0_lambda_stepOf_12_22 : decode cX0_lambda_stepOf_12 22 = .ok (.invokevirtual 243, 3) := dk_182 0 243 (dk_at dksX0_lambda_stepOf_12_1 0 rfl rfl)
theorem dX0_lambda_stepOf_12_25 : decode cX0_lambda_stepOf_12 25 = .ok (.iload_n 2, 1) := dk_28 (dk_at dksX0_lambda_stepOf_12_1 3 rfl rfl)
theorem dX0_lambda_stepOf_12_26 : decode cX0_lambda_stepOf_12 26 = .ok (.iadd, 1) := dk_96 (dk_at dksX0_lambda_stepOf_12_1 4 rfl rfl)
theorem dX0_lambda_stepOf_12_27 : decode cX0_lambda_stepOf_12 27 = .ok (.invokevirtual 602, 3) := dk_182 2 90 (dk_at dksX0_lambda_stepOf_12_1 5 rfl rfl)
theorem dX0_lambda_stepOf_12_30 : decode cX0_lambda_stepOf_12 30 = .ok (.ireturn, 1) := dk_172 (dk_at dksX0_lambda_stepOf_12_1 8 rfl rfl)
abbrev cX0_counts : ByteArray := prog_1_method_33_code
def yX0_counts : MethodName := ⟨RX0, "counts", "(I)V"⟩
def dkwX0_counts_1 : List UInt8 := [182, 1, 23, 2, 160, 0, 7, 4, 167, 0, 4, 3, 84, 132, 2, 1, 167, 255, 225, 177]
abbrev dktX0_counts_1 : List UInt8 := dkwX0_counts_1 ++ []
def dkwX0_counts_0 : List UInt8 := [42, 27, 181, 1, 22, 3, 61, 28, 42, 182, 0, 237, 162, 0, 29, 42, 180, 0, 143, 28, 42, 28]
abbrev dktX0_counts_0 : List UInt8 := dkwX0_counts_0 ++ dktX0_counts_1
theorem dksX0_counts_0 : cX0_counts.data.toList.drop 0 = dktX0_counts_0 := by decide +kernel
theorem dksX0_counts_1 : cX0_counts.data.toList.drop 22 = dktX0_counts_1 := dk_seg dksX0_counts_0 22 rfl rfl
theorem dX0_counts_0 : decode cX0_counts 0 = .ok (.aload_n 0, 1) := dk_42 (dk_at dksX0_counts_0 0 rfl rfl)
theorem dX0_counts_1 : decode cX0_counts 1 = .ok (.iload_n 1, 1) := dk_27 (dk_at dksX0_counts_0 1 rfl rfl)
theorem dX0_counts_2 : decode cX0_counts 2 = .ok (.putfield 278, 3) := dk_181 1 22 (dk_at dksX0_counts_0 2 rfl rfl)
theorem dX0_counts_5 : decode cX0_counts 5 = .ok (.iconst 0, 1) := dk_3 (dk_at dksX0_counts_0 5 rfl rfl)
theorem dX0_counts_6 : decode cX0_counts 6 = .ok (.istore_n 2, 1) := dk_61 (dk_at dksX0_counts_0 6 rfl rfl)
theorem dX0_counts_7 : decode cX0_counts 7 = .ok (.iload_n 2, 1) := dk_28 (dk_at dksX0_counts_0 7 rfl rfl)
theorem dX0_counts_8 : decode cX0_counts 8 = .ok (.aload_n 0, 1) := dk_42 (dk_at dksX0_counts_0 8 rfl rfl)
theorem dX0_counts_9 : decode cX0_counts 9 = .ok (.invokevirtual 237, 3) := dk_182 0 237 (dk_at dksX0_counts_0 9 rfl rfl)
theorem dX0_counts_12 : decode cX0_counts 12 = .ok (.if_icmp .ge 29, 3) := dk_162 0 29 (dk_at dksX0_counts_0 12 rfl rfl)
theorem dX0_counts_15 : decode cX0_counts 15 = .ok (.aload_n 0, 1) := dk_42 (dk_at dksX0_counts_0 15 rfl rfl)
theorem dX0_counts_16 : decode cX0_counts 16 = .ok (.getfield 143, 3) := dk_180 0 143 (dk_at dksX0_counts_0 16 rfl rfl)
theorem dX0_counts_19 : decode cX0_counts 19 = .ok (.iload_n 2, 1) := dk_28 (dk_at dksX0_counts_0 19 rfl rfl)
theorem dX0_counts_20 : decode cX0_counts 20 = .ok (.aload_n 0, 1) := dk_42 (dk_at dksX0_counts_0 20 rfl rfl)
theorem dX0_counts_21 : decode cX0_counts 21 = .ok (.iload_n 2, 1) := dk_28 (dk_at dksX0_counts_0 21 rfl rfl)
theorem dX0_counts_22 : decode cX0_counts 22 = .ok (.invokevirtual 279, 3) := dk_182 1 23 (dk_at dksX0_counts_1 0 rfl rfl)
theorem dX0_counts_25 : decode cX0_counts 25 = .ok (.iconst (-1), 1) := dk_2 (dk_at dksX0_counts_1 3 rfl rfl)
theorem dX0_counts_26 : decode cX0_counts 26 = .ok (.if_icmp .ne 7, 3) := dk_160 0 7 (dk_at dksX0_counts_1 4 rfl rfl)
theorem dX0_counts_29 : decode cX0_counts 29 = .ok (.iconst 1, 1) := dk_4 (dk_at dksX0_counts_1 7 rfl rfl)
theorem dX0_counts_30 : decode cX0_counts 30 = .ok (.goto 4, 3) := dk_167 0 4 (dk_at dksX0_counts_1 8 rfl rfl)
theorem dX0_counts_33 : decode cX0_counts 33 = .ok (.iconst 0, 1) := dk_3 (dk_at dksX0_counts_1 11 rfl rfl)
theorem dX0_counts_34 : decode cX0_counts 34 = .ok (.bastore, 1) := dk_84 (dk_at dksX0_counts_1 12 rfl rfl)
theorem dX0_counts_35 : decode cX0_counts 35 = .ok (.iinc 2 1, 3) := dk_132 2 1 (dk_at dksX0_counts_1 13 rfl rfl)
theorem dX0_counts_38 : decode cX0_counts 38 = .ok (.goto (-31), 3) := dk_167 255 225 (dk_at dksX0_counts_1 16 rfl rfl)
theorem dX0_counts_41 : decode cX0_counts 41 = .ok (.return_, 1) := dk_177 (dk_at dksX0_counts_1 19 rfl rfl)
abbrev cX0_states0 : ByteArray := prog_1_method_28_code
def yX0_states0 : MethodName := ⟨RX0, "states0", "()I"⟩
def dkwX0_states0_1 : List UInt8 := [96, 104, 60, 132, 2, 1, 167, 255, 230, 27, 172]
abbrev dktX0_states0_1 : List UInt8 := dkwX0_states0_1 ++ []
def dkwX0_states0_0 : List UInt8 := [4, 60, 3, 61, 28, 42, 180, 0, 46, 180, 0, 219, 162, 0, 21, 27, 42, 180, 0, 46, 180, 0, 50, 4]
abbrev dktX0_states0_0 : List UInt8 := dkwX0_states0_0 ++ dktX0_states0_1
theorem dksX0_states0_0 : cX0_states0.data.toList.drop 0 = dktX0_states0_0 := by decide +kernel
theorem dksX0_states0_1 : cX0_states0.data.toList.drop 24 = dktX0_states0_1 := dk_seg dksX0_states0_0 24 rfl rfl
theorem dX0_states0_0 : decode cX0_states0 0 = .ok (.iconst 1, 1) := dk_4 (dk_at dksX0_states0_0 0 rfl rfl)
theorem dX0_states0_1 : decode cX0_states0 1 = .ok (.istore_n 1, 1) := dk_60 (dk_at dksX0_states0_0 1 rfl rfl)
theorem dX0_states0_2 : decode cX0_states0 2 = .ok (.iconst 0, 1) := dk_3 (dk_at dksX0_states0_0 2 rfl rfl)
theorem dX0_states0_3 : decode cX0_states0 3 = .ok (.istore_n 2, 1) := dk_61 (dk_at dksX0_states0_0 3 rfl rfl)
theorem dX0_states0_4 : decode cX0_states0 4 = .ok (.iload_n 2, 1) := dk_28 (dk_at dksX0_states0_0 4 rfl rfl)
theorem dX0_states0_5 : decode cX0_states0 5 = .ok (.aload_n 0, 1) := dk_42 (dk_at dksX0_states0_0 5 rfl rfl)
theorem dX0_states0_6 : decode cX0_states0 6 = .ok (.getfield 46, 3) := dk_180 0 46 (dk_at dksX0_states0_0 6 rfl rfl)
theorem dX0_states0_9 : decode cX0_states0 9 = .ok (.getfield 219, 3) := dk_180 0 219 (dk_at dksX0_states0_0 9 rfl rfl)
theorem dX0_states0_12 : decode cX0_states0 12 = .ok (.if_icmp .ge 21, 3) := dk_162 0 21 (dk_at dksX0_states0_0 12 rfl rfl)
theorem dX0_states0_15 : decode cX0_states0 15 = .ok (.iload_n 1, 1) := dk_27 (dk_at dksX0_states0_0 15 rfl rfl)
theorem dX0_states0_16 : decode cX0_states0 16 = .ok (.aload_n 0, 1) := dk_42 (dk_at dksX0_states0_0 16 rfl rfl)
theorem dX0_states0_17 : decode cX0_states0 17 = .ok (.getfield 46, 3) := dk_180 0 46 (dk_at dksX0_states0_0 17 rfl rfl)
theorem dX0_states0_20 : decode cX0_states0 20 = .ok (.getfield 50, 3) := dk_180 0 50 (dk_at dksX0_states0_0 20 rfl rfl)
theorem dX0_states0_23 : decode cX0_states0 23 = .ok (.iconst 1, 1) := dk_4 (dk_at dksX0_states0_0 23 rfl rfl)
theorem dX0_states0_24 : decode cX0_states0 24 = .ok (.iadd, 1) := dk_96 (dk_at dksX0_states0_1 0 rfl rfl)
theorem dX0_states0_25 : decode cX0_states0 25 = .ok (.imul, 1) := dk_104 (dk_at dksX0_states0_1 1 rfl rfl)
theorem dX0_states0_26 : decode cX0_states0 26 = .ok (.istore_n 1, 1) := dk_60 (dk_at dksX0_states0_1 2 rfl rfl)
theorem dX0_states0_27 : decode cX0_states0 27 = .ok (.iinc 2 1, 3) := dk_132 2 1 (dk_at dksX0_states0_1 3 rfl rfl)
theorem dX0_states0_30 : decode cX0_states0 30 = .ok (.goto (-26), 3) := dk_167 255 230 (dk_at dksX0_states0_1 6 rfl rfl)
theorem dX0_states0_33 : decode cX0_states0 33 = .ok (.iload_n 1, 1) := dk_27 (dk_at dksX0_states0_1 9 rfl rfl)
theorem dX0_states0_34 : decode cX0_states0 34 = .ok (.ireturn, 1) := dk_172 (dk_at dksX0_states0_1 10 rfl rfl)
abbrev cX0_breaksIn : ByteArray := prog_1_method_34_code
def yX0_breaksIn : MethodName := ⟨RX0, "breaksIn", "(I)I"⟩
def dkwX0_breaksIn_2 : List UInt8 := [28, 172, 132, 2, 1, 167, 255, 206, 2, 172]
abbrev dktX0_breaksIn_2 : List UInt8 := dkwX0_breaksIn_2 ++ []
def dkwX0_breaksIn_1 : List UInt8 := [184, 1, 26, 154, 0, 23, 42, 180, 0, 133, 28, 50, 180, 1, 29, 27, 185, 1, 33, 2, 0, 154, 0, 5]
abbrev dktX0_breaksIn_1 : List UInt8 := dkwX0_breaksIn_1 ++ dktX0_breaksIn_2
def dkwX0_breaksIn_0 : List UInt8 := [3, 61, 28, 42, 180, 0, 46, 180, 0, 222, 185, 0, 225, 1, 0, 162, 0, 40, 42, 180, 1, 22, 28]
abbrev dktX0_breaksIn_0 : List UInt8 := dkwX0_breaksIn_0 ++ dktX0_breaksIn_1
theorem dksX0_breaksIn_0 : cX0_breaksIn.data.toList.drop 0 = dktX0_breaksIn_0 := by decide +kernel
theorem dksX0_breaksIn_1 : cX0_breaksIn.data.toList.drop 23 = dktX0_breaksIn_1 := dk_seg dksX0_breaksIn_0 23 rfl rfl
theorem dksX0_breaksIn_2 : cX0_breaksIn.data.toList.drop 47 = dktX0_breaksIn_2 := dk_seg dksX0_breaksIn_1 24 rfl rfl
theorem dX0_breaksIn_0 : decode cX0_breaksIn 0 = .ok (.iconst 0, 1) := dk_3 (dk_at dksX0_breaksIn_0 0 rfl rfl)
theorem dX0_breaksIn_1 : decode cX0_breaksIn 1 = .ok (.istore_n 2, 1) := dk_61 (dk_at dksX0_breaksIn_0 1 rfl rfl)
theorem dX0_breaksIn_2 : decode cX0_breaksIn 2 = .ok (.iload_n 2, 1) := dk_28 (dk_at dksX0_breaksIn_0 2 rfl rfl)
theorem dX0_breaksIn_3 : decode cX0_breaksIn 3 = .ok (.aload_n 0, 1) := dk_42 (dk_at dksX0_breaksIn_0 3 rfl rfl)
theorem dX0_breaksIn_4 : decode cX0_breaksIn 4 = .ok (.getfield 46, 3) := dk_180 0 46 (dk_at dksX0_breaksIn_0 4 rfl rfl)
theorem dX0_breaksIn_7 : decode cX0_breaksIn 7 = .ok (.getfield 222, 3) := dk_180 0 222 (dk_at dksX0_breaksIn_0 7 rfl rfl)
theorem dX0_breaksIn_10 : decode cX0_breaksIn 10 = .ok (.invokeinterface 225 1, 5) := by decide +kernel
theorem dX0_breaksIn_15 : decode cX0_breaksIn 15 = .ok (.if_icmp .ge 40, 3) := dk_162 0 40 (dk_at dksX0_breaksIn_0 15 rfl rfl)
theorem dX0_breaksIn_18 : decode cX0_breaksIn 18 = .ok (.aload_n 0, 1) := dk_42 (dk_at dksX0_breaksIn_0 18 rfl rfl)
theorem dX0_breaksIn_19 : decode cX0_breaksIn 19 = .ok (.getfield 278, 3) := dk_180 1 22 (dk_at dksX0_breaksIn_0 19 rfl rfl)
theorem dX0_breaksIn_22 : decode cX0_breaksIn 22 = .ok (.iload_n 2, 1) := dk_28 (dk_at dksX0_breaksIn_0 22 rfl rfl)
theorem dX0_breaksIn_23 : decode cX0_breaksIn 23 = .ok (.invokestatic 282, 3) := dk_184 1 26 (dk_at dksX0_breaksIn_1 0 rfl rfl)
theorem dX0_breaksIn_26 : decode cX0_breaksIn 26 = .ok (.ifCond .ne 23, 3) := dk_154 0 23 (dk_at dksX0_breaksIn_1 3 rfl rfl)
theorem dX0_breaksIn_29 : decode cX0_breaksIn 29 = .ok (.aload_n 0, 1) := dk_42 (dk_at dksX0_breaksIn_1 6 rfl rfl)
theorem dX0_breaksIn_30 : decode cX0_breaksIn 30 = .ok (.getfield 133, 3) := dk_180 0 133 (dk_at dksX0_breaksIn_1 7 rfl rfl)
theorem dX0_breaksIn_33 : decode cX0_breaksIn 33 = .ok (.iload_n 2, 1) := dk_28 (dk_at dksX0_breaksIn_1 10 rfl rfl)
theorem dX0_breaksIn_34 : decode cX0_breaksIn 34 = .ok (.aaload, 1) := dk_50 (dk_at dksX0_breaksIn_1 11 rfl rfl)
theorem dX0_breaksIn_35 : decode cX0_breaksIn 35 = .ok (.getfield 285, 3) := dk_180 1 29 (dk_at dksX0_breaksIn_1 12 rfl rfl)
theorem dX0_breaksIn_38 : decode cX0_breaksIn 38 = .ok (.iload_n 1, 1) := dk_27 (dk_at dksX0_breaksIn_1 15 rfl rfl)
theorem dX0_breaksIn_39 : decode cX0_breaksIn 39 = .ok (.invokeinterface 289 2, 5) := by decide +kernel
theorem dX0_breaksIn_44 : decode cX0_breaksIn 44 = .ok (.ifCond .ne 5, 3) := dk_154 0 5 (dk_at dksX0_breaksIn_1 21 rfl rfl)
theorem dX0_breaksIn_47 : decode cX0_breaksIn 47 = .ok (.iload_n 2, 1) := dk_28 (dk_at dksX0_breaksIn_2 0 rfl rfl)
theorem dX0_breaksIn_48 : decode cX0_breaksIn 48 = .ok (.ireturn, 1) := dk_172 (dk_at dksX0_breaksIn_2 1 rfl rfl)
theorem dX0_breaksIn_49 : decode cX0_breaksIn 49 = .ok (.iinc 2 1, 3) := dk_132 2 1 (dk_at dksX0_breaksIn_2 2 rfl rfl)
theorem dX0_breaksIn_52 : decode cX0_breaksIn 52 = .ok (.goto (-50), 3) := dk_167 255 206 (dk_at dksX0_breaksIn_2 5 rfl rfl)
theorem dX0_breaksIn_55 : decode cX0_breaksIn 55 = .ok (.iconst (-1), 1) := dk_2 (dk_at dksX0_breaksIn_2 8 rfl rfl)
theorem dX0_breaksIn_56 : decode cX0_breaksIn 56 = .ok (.ireturn, 1) := dk_172 (dk_at dksX0_breaksIn_2 9 rfl rfl)
abbrev cX0_isOn : ByteArray := prog_1_method_2_code
def yX0_isOn : MethodName := ⟨RX0, "isOn", "(II)Z"⟩
def dkwX0_isOn_0 : List UInt8 := [26, 27, 122, 4, 126, 4, 160, 0, 7, 4, 167, 0, 4, 3, 172]
abbrev dktX0_isOn_0 : List UInt8 := dkwX0_isOn_0 ++ []
theorem dksX0_isOn_0 : cX0_isOn.data.toList.drop 0 = dktX0_isOn_0 := by decide +kernel
theorem dX0_isOn_0 : decode cX0_isOn 0 = .ok (.iload_n 0, 1) := dk_26 (dk_at dksX0_isOn_0 0 rfl rfl)
theorem dX0_isOn_1 : decode cX0_isOn 1 = .ok (.iload_n 1, 1) := dk_27 (dk_at dksX0_isOn_0 1 rfl rfl)
theorem dX0_isOn_2 : decode cX0_isOn 2 = .ok (.ishr, 1) := dk_122 (dk_at dksX0_isOn_0 2 rfl rfl)
theorem dX0_isOn_3 : decode cX0_isOn 3 = .ok (.iconst 1, 1) := dk_4 (dk_at dksX0_isOn_0 3 rfl rfl)
theorem dX0_isOn_4 : decode cX0_isOn 4 = .ok (.iand, 1) := dk_126 (dk_at dksX0_isOn_0 4 rfl rfl)
theorem dX0_isOn_5 : decode cX0_isOn 5 = .ok (.iconst 1, 1) := dk_4 (dk_at dksX0_isOn_0 5 rfl rfl)
theorem dX0_isOn_6 : decode cX0_isOn 6 = .ok (.if_icmp .ne 7, 3) := dk_160 0 7 (dk_at dksX0_isOn_0 6 rfl rfl)
theorem dX0_isOn_9 : decode cX0_isOn 9 = .ok (.iconst 1, 1) := dk_4 (dk_at dksX0_isOn_0 9 rfl rfl)
theorem dX0_isOn_10 : decode cX0_isOn 10 = .ok (.goto 4, 3) := dk_167 0 4 (dk_at dksX0_isOn_0 10 rfl rfl)
theorem dX0_isOn_13 : decode cX0_isOn 13 = .ok (.iconst 0, 1) := dk_3 (dk_at dksX0_isOn_0 13 rfl rfl)
theorem dX0_isOn_14 : decode cX0_isOn 14 = .ok (.ireturn, 1) := dk_172 (dk_at dksX0_isOn_0 14 rfl rfl)
abbrev cX0_fault : ByteArray := prog_1_method_19_code
def yX0_fault : MethodName := ⟨RX0, "fault", "(I)I"⟩
def dkwX0_fault_1 : List UInt8 := [172]
abbrev dktX0_fault_1 : List UInt8 := dkwX0_fault_1 ++ []
def dkwX0_fault_0 : List UInt8 := [27, 154, 0, 10, 42, 180, 0, 204, 167, 0, 16, 27, 4, 160, 0, 10, 42, 180, 0, 128, 167, 0, 4, 2]
abbrev dktX0_fault_0 : List UInt8 := dkwX0_fault_0 ++ dktX0_fault_1
theorem dksX0_fault_0 : cX0_fault.data.toList.drop 0 = dktX0_fault_0 := by decide +kernel
theorem dksX0_fault_1 : cX0_fault.data.toList.drop 24 = dktX0_fault_1 := dk_seg dksX0_fault_0 24 rfl rfl
theorem dX0_fault_0 : decode cX0_fault 0 = .ok (.iload_n 1, 1) := dk_27 (dk_at dksX0_fault_0 0 rfl rfl)
theorem dX0_fault_1 : decode cX0_fault 1 = .ok (.ifCond .ne 10, 3) := dk_154 0 10 (dk_at dksX0_fault_0 1 rfl rfl)
theorem dX0_fault_4 : decode cX0_fault 4 = .ok (.aload_n 0, 1) := dk_42 (dk_at dksX0_fault_0 4 rfl rfl)
theorem dX0_fault_5 : decode cX0_fault 5 = .ok (.getfield 204, 3) := dk_180 0 204 (dk_at dksX0_fault_0 5 rfl rfl)
theorem dX0_fault_8 : decode cX0_fault 8 = .ok (.goto 16, 3) := dk_167 0 16 (dk_at dksX0_fault_0 8 rfl rfl)
theorem dX0_fault_11 : decode cX0_fault 11 = .ok (.iload_n 1, 1) := dk_27 (dk_at dksX0_fault_0 11 rfl rfl)
theorem dX0_fault_12 : decode cX0_fault 12 = .ok (.iconst 1, 1) := dk_4 (dk_at dksX0_fault_0 12 rfl rfl)
theorem dX0_fault_13 : decode cX0_fault 13 = .ok (.if_icmp .ne 10, 3) := dk_160 0 10 (dk_at dksX0_fault_0 13 rfl rfl)
theorem dX0_fault_16 : decode cX0_fault 16 = .ok (.aload_n 0, 1) := dk_42 (dk_at dksX0_fault_0 16 rfl rfl)
theorem dX0_fault_17 : decode cX0_fault 17 = .ok (.getfield 128, 3) := dk_180 0 128 (dk_at dksX0_fault_0 17 rfl rfl)
theorem dX0_fault_20 : decode cX0_fault 20 = .ok (.goto 4, 3) := dk_167 0 4 (dk_at dksX0_fault_0 20 rfl rfl)
theorem dX0_fault_23 : decode cX0_fault 23 = .ok (.iconst (-1), 1) := dk_2 (dk_at dksX0_fault_0 23 rfl rfl)
theorem dX0_fault_24 : decode cX0_fault 24 = .ok (.ireturn, 1) := dk_172 (dk_at dksX0_fault_1 0 rfl rfl)
abbrev cX0_weight : ByteArray := prog_1_method_37_code
def yX0_weight : MethodName := ⟨RX0, "weight", "(I)I"⟩
def dkwX0_weight_1 : List UInt8 := [162, 0, 18, 28, 42, 27, 29, 182, 0, 243, 96, 61, 132, 3, 1, 167, 255, 233, 28, 172]
abbrev dktX0_weight_1 : List UInt8 := dkwX0_weight_1 ++ []
def dkwX0_weight_0 : List UInt8 := [42, 27, 133, 182, 1, 51, 154, 0, 6, 16, 254, 172, 3, 61, 3, 62, 29, 42, 180, 0, 46, 180, 0, 219]
abbrev dktX0_weight_0 : List UInt8 := dkwX0_weight_0 ++ dktX0_weight_1
theorem dksX0_weight_0 : cX0_weight.data.toList.drop 0 = dktX0_weight_0 := by decide +kernel
theorem dksX0_weight_1 : cX0_weight.data.toList.drop 24 = dktX0_weight_1 := dk_seg dksX0_weight_0 24 rfl rfl
theorem dX0_weight_0 : decode cX0_weight 0 = .ok (.aload_n 0, 1) := dk_42 (dk_at dksX0_weight_0 0 rfl rfl)
theorem dX0_weight_1 : decode cX0_weight 1 = .ok (.iload_n 1, 1) := dk_27 (dk_at dksX0_weight_0 1 rfl rfl)
theorem dX0_weight_2 : decode cX0_weight 2 = .ok (.i2l, 1) := dk_133 (dk_at dksX0_weight_0 2 rfl rfl)
theorem dX0_weight_3 : decode cX0_weight 3 = .ok (.invokevirtual 307, 3) := dk_182 1 51 (dk_at dksX0_weight_0 3 rfl rfl)
theorem dX0_weight_6 : decode cX0_weight 6 = .ok (.ifCond .ne 6, 3) := dk_154 0 6 (dk_at dksX0_weight_0 6 rfl rfl)
theorem dX0_weight_9 : decode cX0_weight 9 = .ok (.bipush (-2), 2) := dk_16 254 (dk_at dksX0_weight_0 9 rfl rfl)
theorem dX0_weight_11 : decode cX0_weight 11 = .ok (.ireturn, 1) := dk_172 (dk_at dksX0_weight_0 11 rfl rfl)
theorem dX0_weight_12 : decode cX0_weight 12 = .ok (.iconst 0, 1) := dk_3 (dk_at dksX0_weight_0 12 rfl rfl)
theorem dX0_weight_13 : decode cX0_weight 13 = .ok (.istore_n 2, 1) := dk_61 (dk_at dksX0_weight_0 13 rfl rfl)
theorem dX0_weight_14 : decode cX0_weight 14 = .ok (.iconst 0, 1) := dk_3 (dk_at dksX0_weight_0 14 rfl rfl)
theorem dX0_weight_15 : decode cX0_weight 15 = .ok (.istore_n 3, 1) := dk_62 (dk_at dksX0_weight_0 15 rfl rfl)
theorem dX0_weight_16 : decode cX0_weight 16 = .ok (.iload_n 3, 1) := dk_29 (dk_at dksX0_weight_0 16 rfl rfl)
theorem dX0_weight_17 : decode cX0_weight 17 = .ok (.aload_n 0, 1) := dk_42 (dk_at dksX0_weight_0 17 rfl rfl)
theorem dX0_weight_18 : decode cX0_weight 18 = .ok (.getfield 46, 3) := dk_180 0 46 (dk_at dksX0_weight_0 18 rfl rfl)
theorem dX0_weight_21 : decode cX0_weight 21 = .ok (.getfield 219, 3) := dk_180 0 219 (dk_at dksX0_weight_0 21 rfl rfl)
theorem dX0_weight_24 : decode cX0_weight 24 = .ok (.if_icmp .ge 18, 3) := dk_162 0 18 (dk_at dksX0_weight_1 0 rfl rfl)
theorem dX0_weight_27 : decode cX0_weight 27 = .ok (.iload_n 2, 1) := dk_28 (dk_at dksX0_weight_1 3 rfl rfl)
theorem dX0_weight_28 : decode cX0_weight 28 = .ok (.aload_n 0, 1) := dk_42 (dk_at dksX0_weight_1 4 rfl rfl)
theorem dX0_weight_29 : decode cX0_weight 29 = .ok (.iload_n 1, 1) := dk_27 (dk_at dksX0_weight_1 5 rfl rfl)
theorem dX0_weight_30 : decode cX0_weight 30 = .ok (.iload_n 3, 1) := dk_29 (dk_at dksX0_weight_1 6 rfl rfl)
theorem dX0_weight_31 : decode cX0_weight 31 = .ok (.invokevirtual 243, 3) := dk_182 0 243 (dk_at dksX0_weight_1 7 rfl rfl)
theorem dX0_weight_34 : decode cX0_weight 34 = .ok (.iadd, 1) := dk_96 (dk_at dksX0_weight_1 10 rfl rfl)
theorem dX0_weight_35 : decode cX0_weight 35 = .ok (.istore_n 2, 1) := dk_61 (dk_at dksX0_weight_1 11 rfl rfl)
theorem dX0_weight_36 : decode cX0_weight 36 = .ok (.iinc 3 1, 3) := dk_132 3 1 (dk_at dksX0_weight_1 12 rfl rfl)
theorem dX0_weight_39 : decode cX0_weight 39 = .ok (.goto (-23), 3) := dk_167 255 233 (dk_at dksX0_weight_1 15 rfl rfl)
theorem dX0_weight_42 : decode cX0_weight 42 = .ok (.iload_n 2, 1) := dk_28 (dk_at dksX0_weight_1 18 rfl rfl)
theorem dX0_weight_43 : decode cX0_weight 43 = .ok (.ireturn, 1) := dk_172 (dk_at dksX0_weight_1 19 rfl rfl)
abbrev cX0_isState : ByteArray := prog_1_method_24_code
def yX0_isState : MethodName := ⟨RX0, "isState", "(J)Z"⟩
def dkwX0_isState_1 : List UInt8 := [153, 0, 7, 4, 167, 0, 4, 3, 172]
abbrev dktX0_isState_1 : List UInt8 := dkwX0_isState_1 ++ []
def dkwX0_isState_0 : List UInt8 := [42, 180, 0, 46, 182, 0, 200, 153, 0, 22, 31, 9, 42, 182, 0, 237, 4, 100, 133, 184, 0, 11]
abbrev dktX0_isState_0 : List UInt8 := dkwX0_isState_0 ++ dktX0_isState_1
theorem dksX0_isState_0 : cX0_isState.data.toList.drop 0 = dktX0_isState_0 := by decide +kernel
theorem dksX0_isState_1 : cX0_isState.data.toList.drop 22 = dktX0_isState_1 := dk_seg dksX0_isState_0 22 rfl rfl
theorem dX0_isState_0 : decode cX0_isState 0 = .ok (.aload_n 0, 1) := dk_42 (dk_at dksX0_isState_0 0 rfl rfl)
theorem dX0_isState_1 : decode cX0_isState 1 = .ok (.getfield 46, 3) := dk_180 0 46 (dk_at dksX0_isState_0 1 rfl rfl)
theorem dX0_isState_4 : decode cX0_isState 4 = .ok (.invokevirtual 200, 3) := dk_182 0 200 (dk_at dksX0_isState_0 4 rfl rfl)
theorem dX0_isState_7 : decode cX0_isState 7 = .ok (.ifCond .eq 22, 3) := dk_153 0 22 (dk_at dksX0_isState_0 7 rfl rfl)
theorem dX0_isState_10 : decode cX0_isState 10 = .ok (.lload_n 1, 1) := dk_31 (dk_at dksX0_isState_0 10 rfl rfl)
theorem dX0_isState_11 : decode cX0_isState 11 = .ok (.lconst 0, 1) := dk_9 (dk_at dksX0_isState_0 11 rfl rfl)
theorem dX0_isState_12 : decode cX0_isState 12 = .ok (.aload_n 0, 1) := dk_42 (dk_at dksX0_isState_0 12 rfl rfl)
theorem dX0_isState_13 : decode cX0_isState 13 = .ok (.invokevirtual 237, 3) := dk_182 0 237 (dk_at dksX0_isState_0 13 rfl rfl)
theorem dX0_isState_16 : decode cX0_isState 16 = .ok (.iconst 1, 1) := dk_4 (dk_at dksX0_isState_0 16 rfl rfl)
theorem dX0_isState_17 : decode cX0_isState 17 = .ok (.isub, 1) := dk_100 (dk_at dksX0_isState_0 17 rfl rfl)
theorem dX0_isState_18 : decode cX0_isState 18 = .ok (.i2l, 1) := dk_133 (dk_at dksX0_isState_0 18 rfl rfl)
theorem dX0_isState_19 : decode cX0_isState 19 = .ok (.invokestatic 11, 3) := dk_184 0 11 (dk_at dksX0_isState_0 19 rfl rfl)
theorem dX0_isState_22 : decode cX0_isState 22 = .ok (.ifCond .eq 7, 3) := dk_153 0 7 (dk_at dksX0_isState_1 0 rfl rfl)
theorem dX0_isState_25 : decode cX0_isState 25 = .ok (.iconst 1, 1) := dk_4 (dk_at dksX0_isState_1 3 rfl rfl)
theorem dX0_isState_26 : decode cX0_isState 26 = .ok (.goto 4, 3) := dk_167 0 4 (dk_at dksX0_isState_1 4 rfl rfl)
theorem dX0_isState_29 : decode cX0_isState 29 = .ok (.iconst 0, 1) := dk_3 (dk_at dksX0_isState_1 7 rfl rfl)
theorem dX0_isState_30 : decode cX0_isState 30 = .ok (.ireturn, 1) := dk_172 (dk_at dksX0_isState_1 8 rfl rfl)
abbrev cX0_bare : ByteArray := prog_1_method_38_code
def yX0_bare : MethodName := ⟨RX0, "bare", "(I)I"⟩
def dkwX0_bare_1 : List UInt8 := [42, 29, 27, 182, 1, 58, 158, 0, 7, 4, 167, 0, 4, 3, 96, 61, 132, 3, 1, 167, 255, 228, 28, 172]
abbrev dktX0_bare_1 : List UInt8 := dkwX0_bare_1 ++ []
def dkwX0_bare_0 : List UInt8 := [42, 27, 182, 1, 55, 154, 0, 6, 16, 254, 172, 3, 61, 3, 62, 29, 42, 182, 0, 237, 162, 0, 26, 28]
abbrev dktX0_bare_0 : List UInt8 := dkwX0_bare_0 ++ dktX0_bare_1
theorem dksX0_bare_0 : cX0_bare.data.toList.drop 0 = dktX0_bare_0 := by decide +kernel
theorem dksX0_bare_1 : cX0_bare.data.toList.drop 24 = dktX0_bare_1 := dk_seg dksX0_bare_0 24 rfl rfl
theorem dX0_bare_0 : decode cX0_bare 0 = .ok (.aload_n 0, 1) := dk_42 (dk_at dksX0_bare_0 0 rfl rfl)
theorem dX0_bare_1 : decode cX0_bare 1 = .ok (.iload_n 1, 1) := dk_27 (dk_at dksX0_bare_0 1 rfl rfl)
theorem dX0_bare_2 : decode cX0_bare 2 = .ok (.invokevirtual 311, 3) := dk_182 1 55 (dk_at dksX0_bare_0 2 rfl rfl)
theorem dX0_bare_5 : decode cX0_bare 5 = .ok (.ifCond .ne 6, 3) := dk_154 0 6 (dk_at dksX0_bare_0 5 rfl rfl)
theorem dX0_bare_8 : decode cX0_bare 8 = .ok (.bipush (-2), 2) := dk_16 254 (dk_at dksX0_bare_0 8 rfl rfl)
theorem dX0_bare_10 : decode cX0_bare 10 = .ok (.ireturn, 1) := dk_172 (dk_at dksX0_bare_0 10 rfl rfl)
theorem dX0_bare_11 : decode cX0_bare 11 = .ok (.iconst 0, 1) := dk_3 (dk_at dksX0_bare_0 11 rfl rfl)
theorem dX0_bare_12 : decode cX0_bare 12 = .ok (.istore_n 2, 1) := dk_61 (dk_at dksX0_bare_0 12 rfl rfl)
theorem dX0_bare_13 : decode cX0_bare 13 = .ok (.iconst 0, 1) := dk_3 (dk_at dksX0_bare_0 13 rfl rfl)
theorem dX0_bare_14 : decode cX0_bare 14 = .ok (.istore_n 3, 1) := dk_62 (dk_at dksX0_bare_0 14 rfl rfl)
theorem dX0_bare_15 : decode cX0_bare 15 = .ok (.iload_n 3, 1) := dk_29 (dk_at dksX0_bare_0 15 rfl rfl)
theorem dX0_bare_16 : decode cX0_bare 16 = .ok (.aload_n 0, 1) := dk_42 (dk_at dksX0_bare_0 16 rfl rfl)
theorem dX0_bare_17 : decode cX0_bare 17 = .ok (.invokevirtual 237, 3) := dk_182 0 237 (dk_at dksX0_bare_0 17 rfl rfl)
theorem dX0_bare_20 : decode cX0_bare 20 = .ok (.if_icmp .ge 26, 3) := dk_162 0 26 (dk_at dksX0_bare_0 20 rfl rfl)
theorem dX0_bare_23 : decode cX0_bare 23 = .ok (.iload_n 2, 1) := dk_28 (dk_at dksX0_bare_0 23 rfl rfl)
theorem dX0_bare_24 : decode cX0_bare 24 = .ok (.aload_n 0, 1) := dk_42 (dk_at dksX0_bare_1 0 rfl rfl)
theorem dX0_bare_25 : decode cX0_bare 25 = .ok (.iload_n 3, 1) := dk_29 (dk_at dksX0_bare_1 1 rfl rfl)
theorem dX0_bare_26 : decode cX0_bare 26 = .ok (.iload_n 1, 1) := dk_27 (dk_at dksX0_bare_1 2 rfl rfl)
theorem dX0_bare_27 : decode cX0_bare 27 = .ok (.invokevirtual 314, 3) := dk_182 1 58 (dk_at dksX0_bare_1 3 rfl rfl)
theorem dX0_bare_30 : decode cX0_bare 30 = .ok (.ifCond .le 7, 3) := dk_158 0 7 (dk_at dksX0_bare_1 6 rfl rfl)
theorem dX0_bare_33 : decode cX0_bare 33 = .ok (.iconst 1, 1) := dk_4 (dk_at dksX0_bare_1 9 rfl rfl)
theorem dX0_bare_34 : decode cX0_bare 34 = .ok (.goto 4, 3) := dk_167 0 4 (dk_at dksX0_bare_1 10 rfl rfl)
theorem dX0_bare_37 : decode cX0_bare 37 = .ok (.iconst 0, 1) := dk_3 (dk_at dksX0_bare_1 13 rfl rfl)
theorem dX0_bare_38 : decode cX0_bare 38 = .ok (.iadd, 1) := dk_96 (dk_at dksX0_bare_1 14 rfl rfl)
theorem dX0_bare_39 : decode cX0_bare 39 = .ok (.istore_n 2, 1) := dk_61 (dk_at dksX0_bare_1 15 rfl rfl)
theorem dX0_bare_40 : decode cX0_bare 40 = .ok (.iinc 3 1, 3) := dk_132 3 1 (dk_at dksX0_bare_1 16 rfl rfl)
theorem dX0_bare_43 : decode cX0_bare 43 = .ok (.goto (-28), 3) := dk_167 255 228 (dk_at dksX0_bare_1 19 rfl rfl)
theorem dX0_bare_46 : decode cX0_bare 46 = .ok (.iload_n 2, 1) := dk_28 (dk_at dksX0_bare_1 22 rfl rfl)
theorem dX0_bare_47 : decode cX0_bare 47 = .ok (.ireturn, 1) := dk_172 (dk_at dksX0_bare_1 23 rfl rfl)
abbrev cX0_isDeep : ByteArray := prog_1_method_25_code
def yX0_isDeep : MethodName := ⟨RX0, "isDeep", "(I)Z"⟩
def dkwX0_isDeep_1 : List UInt8 := [167, 0, 4, 3, 172]
abbrev dktX0_isDeep_1 : List UInt8 := dkwX0_isDeep_1 ++ []
def dkwX0_isDeep_0 : List UInt8 := [42, 180, 0, 46, 182, 0, 200, 153, 0, 19, 27, 133, 9, 20, 0, 9, 184, 0, 11, 153, 0, 7, 4]
abbrev dktX0_isDeep_0 : List UInt8 := dkwX0_isDeep_0 ++ dktX0_isDeep_1
theorem dksX0_isDeep_0 : cX0_isDeep.data.toList.drop 0 = dktX0_isDeep_0 := by decide +kernel
theorem dksX0_isDeep_1 : cX0_isDeep.data.toList.drop 23 = dktX0_isDeep_1 := dk_seg dksX0_isDeep_0 23 rfl rfl
theorem dX0_isDeep_0 : decode cX0_isDeep 0 = .ok (.aload_n 0, 1) := dk_42 (dk_at dksX0_isDeep_0 0 rfl rfl)
theorem dX0_isDeep_1 : decode cX0_isDeep 1 = .ok (.getfield 46, 3) := dk_180 0 46 (dk_at dksX0_isDeep_0 1 rfl rfl)
theorem dX0_isDeep_4 : decode cX0_isDeep 4 = .ok (.invokevirtual 200, 3) := dk_182 0 200 (dk_at dksX0_isDeep_0 4 rfl rfl)
theorem dX0_isDeep_7 : decode cX0_isDeep 7 = .ok (.ifCond .eq 19, 3) := dk_153 0 19 (dk_at dksX0_isDeep_0 7 rfl rfl)
theorem dX0_isDeep_10 : decode cX0_isDeep 10 = .ok (.iload_n 1, 1) := dk_27 (dk_at dksX0_isDeep_0 10 rfl rfl)
theorem dX0_isDeep_11 : decode cX0_isDeep 11 = .ok (.i2l, 1) := dk_133 (dk_at dksX0_isDeep_0 11 rfl rfl)
theorem dX0_isDeep_12 : decode cX0_isDeep 12 = .ok (.lconst 0, 1) := dk_9 (dk_at dksX0_isDeep_0 12 rfl rfl)
theorem dX0_isDeep_13 : decode cX0_isDeep 13 = .ok (.ldc2_w 9, 3) := dk_20 0 9 (dk_at dksX0_isDeep_0 13 rfl rfl)
theorem dX0_isDeep_16 : decode cX0_isDeep 16 = .ok (.invokestatic 11, 3) := dk_184 0 11 (dk_at dksX0_isDeep_0 16 rfl rfl)
theorem dX0_isDeep_19 : decode cX0_isDeep 19 = .ok (.ifCond .eq 7, 3) := dk_153 0 7 (dk_at dksX0_isDeep_0 19 rfl rfl)
theorem dX0_isDeep_22 : decode cX0_isDeep 22 = .ok (.iconst 1, 1) := dk_4 (dk_at dksX0_isDeep_0 22 rfl rfl)
theorem dX0_isDeep_23 : decode cX0_isDeep 23 = .ok (.goto 4, 3) := dk_167 0 4 (dk_at dksX0_isDeep_1 0 rfl rfl)
theorem dX0_isDeep_26 : decode cX0_isDeep 26 = .ok (.iconst 0, 1) := dk_3 (dk_at dksX0_isDeep_1 3 rfl rfl)
theorem dX0_isDeep_27 : decode cX0_isDeep 27 = .ok (.ireturn, 1) := dk_172 (dk_at dksX0_isDeep_1 4 rfl rfl)
abbrev cX0_bad : ByteArray := prog_1_method_80_code
def yX0_bad : MethodName := ⟨RX0, "bad", "(II)I"⟩
def dkwX0_bad_1 : List UInt8 := [186, 1, 135, 0, 0, 182, 1, 108, 167, 0, 5, 16, 254, 172]
abbrev dktX0_bad_1 : List UInt8 := dkwX0_bad_1 ++ []
def dkwX0_bad_0 : List UInt8 := [42, 27, 133, 182, 1, 51, 153, 0, 26, 42, 28, 182, 1, 55, 153, 0, 18, 42, 27, 28, 42]
abbrev dktX0_bad_0 : List UInt8 := dkwX0_bad_0 ++ dktX0_bad_1
theorem dksX0_bad_0 : cX0_bad.data.toList.drop 0 = dktX0_bad_0 := by decide +kernel
theorem dksX0_bad_1 : cX0_bad.data.toList.drop 21 = dktX0_bad_1 := dk_seg dksX0_bad_0 21 rfl rfl
theorem dX0_bad_0 : decode cX0_bad 0 = .ok (.aload_n 0, 1) := dk_42 (dk_at dksX0_bad_0 0 rfl rfl)
theorem dX0_bad_1 : decode cX0_bad 1 = .ok (.iload_n 1, 1) := dk_27 (dk_at dksX0_bad_0 1 rfl rfl)
theorem dX0_bad_2 : decode cX0_bad 2 = .ok (.i2l, 1) := dk_133 (dk_at dksX0_bad_0 2 rfl rfl)
theorem dX0_bad_3 : decode cX0_bad 3 = .ok (.invokevirtual 307, 3) := dk_182 1 51 (dk_at dksX0_bad_0 3 rfl rfl)
theorem dX0_bad_6 : decode cX0_bad 6 = .ok (.ifCond .eq 26, 3) := dk_153 0 26 (dk_at dksX0_bad_0 6 rfl rfl)
theorem dX0_bad_9 : decode cX0_bad 9 = .ok (.aload_n 0, 1) := dk_42 (dk_at dksX0_bad_0 9 rfl rfl)
theorem dX0_bad_10 : decode cX0_bad 10 = .ok (.iload_n 2, 1) := dk_28 (dk_at dksX0_bad_0 10 rfl rfl)
theorem dX0_bad_11 : decode cX0_bad 11 = .ok (.invokevirtual 311, 3) := dk_182 1 55 (dk_at dksX0_bad_0 11 rfl rfl)
theorem dX0_bad_14 : decode cX0_bad 14 = .ok (.ifCond .eq 18, 3) := dk_153 0 18 (dk_at dksX0_bad_0 14 rfl rfl)
theorem dX0_bad_17 : decode cX0_bad 17 = .ok (.aload_n 0, 1) := dk_42 (dk_at dksX0_bad_0 17 rfl rfl)
theorem dX0_bad_18 : decode cX0_bad 18 = .ok (.iload_n 1, 1) := dk_27 (dk_at dksX0_bad_0 18 rfl rfl)
theorem dX0_bad_19 : decode cX0_bad 19 = .ok (.iload_n 2, 1) := dk_28 (dk_at dksX0_bad_0 19 rfl rfl)
theorem dX0_bad_20 : decode cX0_bad 20 = .ok (.aload_n 0, 1) := dk_42 (dk_at dksX0_bad_0 20 rfl rfl)
theorem dX0_bad_21 : decode cX0_bad 21 = .ok (.invokedynamic 391, 5) := by decide +kernel
theorem dX0_bad_26 : decode cX0_bad 26 = .ok (.invokevirtual 364, 3) := dk_182 1 108 (dk_at dksX0_bad_1 5 rfl rfl)
theorem dX0_bad_29 : decode cX0_bad 29 = .ok (.goto 5, 3) := dk_167 0 5 (dk_at dksX0_bad_1 8 rfl rfl)
theorem dX0_bad_32 : decode cX0_bad 32 = .ok (.bipush (-2), 2) := dk_16 254 (dk_at dksX0_bad_1 11 rfl rfl)
theorem dX0_bad_34 : decode cX0_bad 34 = .ok (.ireturn, 1) := dk_172 (dk_at dksX0_bad_1 13 rfl rfl)
abbrev cX0_lambda_bad_15 : ByteArray := prog_1_method_150_code
def yX0_lambda_bad_15 : MethodName := ⟨RX0, "lambda$bad$15", "(IIII)V"⟩
def dkwX0_lambda_bad_15_0 : List UInt8 := [42, 21, 4, 182, 2, 87, 177]
abbrev dktX0_lambda_bad_15_0 : List UInt8 := dkwX0_lambda_bad_15_0 ++ []
theorem dksX0_lambda_bad_15_0 : cX0_lambda_bad_15.data.toList.drop 0 = dktX0_lambda_bad_15_0 := by decide +kernel
theorem dX0_lambda_bad_15_0 : decode cX0_lambda_bad_15 0 = .ok (.aload_n 0, 1) := dk_42 (dk_at dksX0_lambda_bad_15_0 0 rfl rfl)
theorem dX0_lambda_bad_15_1 : decode cX0_lambda_bad_15 1 = .ok (.iload 4, 2) := dk_21 4 (dk_at dksX0_lambda_bad_15_0 1 rfl rfl)
theorem dX0_lambda_bad_15_3 : decode cX0_lambda_bad_15 3 = .ok (.invokevirtual 599, 3) := dk_182 2 87 (dk_at dksX0_lambda_bad_15_0 3 rfl rfl)
theorem dX0_lambda_bad_15_6 : decode cX0_lambda_bad_15 6 = .ok (.return_, 1) := dk_177 (dk_at dksX0_lambda_bad_15_0 6 rfl rfl)
abbrev cX0_tells : ByteArray := prog_1_method_53_code
def yX0_tells : MethodName := ⟨RX0, "tells", "(I)V"⟩
def dkwX0_tells_0 : List UInt8 := [42, 27, 181, 0, 159, 177]
abbrev dktX0_tells_0 : List UInt8 := dkwX0_tells_0 ++ []
theorem dksX0_tells_0 : cX0_tells.data.toList.drop 0 = dktX0_tells_0 := by decide +kernel
theorem dX0_tells_0 : decode cX0_tells 0 = .ok (.aload_n 0, 1) := dk_42 (dk_at dksX0_tells_0 0 rfl rfl)
theorem dX0_tells_1 : decode cX0_tells 1 = .ok (.iload_n 1, 1) := dk_27 (dk_at dksX0_tells_0 1 rfl rfl)
theorem dX0_tells_2 : decode cX0_tells 2 = .ok (.putfield 159, 3) := dk_181 0 159 (dk_at dksX0_tells_0 2 rfl rfl)
theorem dX0_tells_5 : decode cX0_tells 5 = .ok (.return_, 1) := dk_177 (dk_at dksX0_tells_0 5 rfl rfl)
abbrev cX0_breaksFrom : ByteArray := prog_1_method_50_code
def yX0_breaksFrom : MethodName := ⟨RX0, "breaksFrom", "(IILMergeJudge$Break;)I"⟩
def dkwX0_breaksFrom_7 : List UInt8 := [172]
abbrev dktX0_breaksFrom_7 : List UInt8 := dkwX0_breaksFrom_7 ++ []
def dkwX0_breaksFrom_6 : List UInt8 := [21, 7, 185, 1, 103, 5, 0, 132, 4, 1, 132, 6, 1, 167, 255, 145, 132, 5, 1, 167, 255, 126, 21, 4]
abbrev dktX0_breaksFrom_6 : List UInt8 := dkwX0_breaksFrom_6 ++ dktX0_breaksFrom_7
def dkwX0_breaksFrom_5 : List UInt8 := [182, 1, 67, 54, 7, 42, 180, 0, 143, 21, 7, 51, 153, 0, 6, 167, 0, 19, 45, 27, 21, 5, 21, 6]
abbrev dktX0_breaksFrom_5 : List UInt8 := dkwX0_breaksFrom_5 ++ dktX0_breaksFrom_6
def dkwX0_breaksFrom_4 : List UInt8 := [42, 180, 0, 156, 180, 1, 100, 21, 6, 46, 2, 160, 0, 6, 167, 0, 43, 42, 27, 21, 5, 21, 6]
abbrev dktX0_breaksFrom_4 : List UInt8 := dkwX0_breaksFrom_4 ++ dktX0_breaksFrom_5
def dkwX0_breaksFrom_3 : List UInt8 := [180, 1, 100, 21, 6, 46, 2, 159, 0, 74, 42, 180, 0, 156, 180, 1, 100, 21, 5, 46, 2, 160, 0, 20]
abbrev dktX0_breaksFrom_3 : List UInt8 := dkwX0_breaksFrom_3 ++ dktX0_breaksFrom_4
def dkwX0_breaksFrom_2 : List UInt8 := [182, 0, 237, 162, 0, 108, 42, 180, 0, 152, 180, 1, 100, 21, 5, 46, 2, 159, 0, 94, 42, 180, 0, 152]
abbrev dktX0_breaksFrom_2 : List UInt8 := dkwX0_breaksFrom_2 ++ dktX0_breaksFrom_3
def dkwX0_breaksFrom_1 : List UInt8 := [87, 3, 54, 4, 3, 54, 5, 21, 5, 42, 182, 0, 237, 162, 0, 127, 21, 5, 54, 6, 21, 6, 42]
abbrev dktX0_breaksFrom_1 : List UInt8 := dkwX0_breaksFrom_1 ++ dktX0_breaksFrom_2
def dkwX0_breaksFrom_0 : List UInt8 := [42, 180, 0, 152, 27, 28, 3, 182, 1, 94, 87, 42, 180, 0, 156, 27, 28, 42, 180, 1, 14, 182, 1, 94]
abbrev dktX0_breaksFrom_0 : List UInt8 := dkwX0_breaksFrom_0 ++ dktX0_breaksFrom_1
theorem dksX0_breaksFrom_0 : cX0_breaksFrom.data.toList.drop 0 = dktX0_breaksFrom_0 := by decide +kernel
theorem dksX0_breaksFrom_1 : cX0_breaksFrom.data.toList.drop 24 = dktX0_breaksFrom_1 := dk_seg dksX0_breaksFrom_0 24 rfl rfl
theorem dksX0_breaksFrom_2 : cX0_breaksFrom.data.toList.drop 47 = dktX0_breaksFrom_2 := dk_seg dksX0_breaksFrom_1 23 rfl rfl
theorem dksX0_breaksFrom_3 : cX0_breaksFrom.data.toList.drop 71 = dktX0_breaksFrom_3 := dk_seg dksX0_breaksFrom_2 24 rfl rfl
theorem dksX0_breaksFrom_4 : cX0_breaksFrom.data.toList.drop 95 = dktX0_breaksFrom_4 := dk_seg dksX0_breaksFrom_3 24 rfl rfl
theorem dksX0_breaksFrom_5 : cX0_breaksFrom.data.toList.drop 118 = dktX0_breaksFrom_5 := dk_seg dksX0_breaksFrom_4 23 rfl rfl
theorem dksX0_breaksFrom_6 : cX0_breaksFrom.data.toList.drop 142 = dktX0_breaksFrom_6 := dk_seg dksX0_breaksFrom_5 24 rfl rfl
theorem dksX0_breaksFrom_7 : cX0_breaksFrom.data.toList.drop 166 = dktX0_breaksFrom_7 := dk_seg dksX0_breaksFrom_6 24 rfl rfl
theorem dX0_breaksFrom_0 : decode cX0_breaksFrom 0 = .ok (.aload_n 0, 1) := dk_42 (dk_at dksX0_breaksFrom_0 0 rfl rfl)
theorem dX0_breaksFrom_1 : decode cX0_breaksFrom 1 = .ok (.getfield 152, 3) := dk_180 0 152 (dk_at dksX0_breaksFrom_0 1 rfl rfl)
theorem dX0_breaksFrom_4 : decode cX0_breaksFrom 4 = .ok (.iload_n 1, 1) := dk_27 (dk_at dksX0_breaksFrom_0 4 rfl rfl)
theorem dX0_breaksFrom_5 : decode cX0_breaksFrom 5 = .ok (.iload_n 2, 1) := dk_28 (dk_at dksX0_breaksFrom_0 5 rfl rfl)
theorem dX0_breaksFrom_6 : decode cX0_breaksFrom 6 = .ok (.iconst 0, 1) := dk_3 (dk_at dksX0_breaksFrom_0 6 rfl rfl)
theorem dX0_breaksFrom_7 : decode cX0_breaksFrom 7 = .ok (.invokevirtual 350, 3) := dk_182 1 94 (dk_at dksX0_breaksFrom_0 7 rfl rfl)
theorem dX0_breaksFrom_10 : decode cX0_breaksFrom 10 = .ok (.pop, 1) := dk_87 (dk_at dksX0_breaksFrom_0 10 rfl rfl)
theorem dX0_breaksFrom_11 : decode cX0_breaksFrom 11 = .ok (.aload_n 0, 1) := dk_42 (dk_at dksX0_breaksFrom_0 11 rfl rfl)
theorem dX0_breaksFrom_12 : decode cX0_breaksFrom 12 = .ok (.getfield 156, 3) := dk_180 0 156 (dk_at dksX0_breaksFrom_0 12 rfl rfl)
theorem dX0_breaksFrom_15 : decode cX0_breaksFrom 15 = .ok (.iload_n 1, 1) := dk_27 (dk_at dksX0_breaksFrom_0 15 rfl rfl)
theorem dX0_breaksFrom_16 : decode cX0_breaksFrom 16 = .ok (.iload_n 2, 1) := dk_28 (dk_at dksX0_breaksFrom_0 16 rfl rfl)
theorem dX0_breaksFrom_17 : decode cX0_breaksFrom 17 = .ok (.aload_n 0, 1) := dk_42 (dk_at dksX0_breaksFrom_0 17 rfl rfl)
theorem dX0_breaksFrom_18 : decode cX0_breaksFrom 18 = .ok (.getfield 270, 3) := dk_180 1 14 (dk_at dksX0_breaksFrom_0 18 rfl rfl)
theorem dX0_breaksFrom_21 : decode cX0_breaksFrom 21 = .ok (.invokevirtual 350, 3) := dk_182 1 94 (dk_at dksX0_breaksFrom_0 21 rfl rfl)
theorem dX0_breaksFrom_24 : decode cX0_breaksFrom 24 = .ok (.pop, 1) := dk_87 (dk_at dksX0_breaksFrom_1 0 rfl rfl)
theorem dX0_breaksFrom_25 : decode cX0_breaksFrom 25 = .ok (.iconst 0, 1) := dk_3 (dk_at dksX0_breaksFrom_1 1 rfl rfl)
theorem dX0_breaksFrom_26 : decode cX0_breaksFrom 26 = .ok (.istore 4, 2) := dk_54 4 (dk_at dksX0_breaksFrom_1 2 rfl rfl)
theorem dX0_breaksFrom_28 : decode cX0_breaksFrom 28 = .ok (.iconst 0, 1) := dk_3 (dk_at dksX0_breaksFrom_1 4 rfl rfl)
theorem dX0_breaksFrom_29 : decode cX0_breaksFrom 29 = .ok (.istore 5, 2) := dk_54 5 (dk_at dksX0_breaksFrom_1 5 rfl rfl)
theorem dX0_breaksFrom_31 : decode cX0_breaksFrom 31 = .ok (.iload 5, 2) := dk_21 5 (dk_at dksX0_breaksFrom_1 7 rfl rfl)
theorem dX0_breaksFrom_33 : decode cX0_breaksFrom 33 = .ok (.aload_n 0, 1) := dk_42 (dk_at dksX0_breaksFrom_1 9 rfl rfl)
theorem dX0_breaksFrom_34 : decode cX0_breaksFrom 34 = .ok (.invokevirtual 237, 3) := dk_182 0 237 (dk_at dksX0_breaksFrom_1 10 rfl rfl)
theorem dX0_breaksFrom_37 : decode cX0_breaksFrom 37 = .ok (.if_icmp .ge 127, 3) := dk_162 0 127 (dk_at dksX0_breaksFrom_1 13 rfl rfl)
theorem dX0_breaksFrom_40 : decode cX0_breaksFrom 40 = .ok (.iload 5, 2) := dk_21 5 (dk_at dksX0_breaksFrom_1 16 rfl rfl)
theorem dX0_breaksFrom_42 : decode cX0_breaksFrom 42 = .ok (.istore 6, 2) := dk_54 6 (dk_at dksX0_breaksFrom_1 18 rfl rfl)
theorem dX0_breaksFrom_44 : decode cX0_breaksFrom 44 = .ok (.iload 6, 2) := dk_21 6 (dk_at dksX0_breaksFrom_1 20 rfl rfl)
theorem dX0_breaksFrom_46 : decode cX0_breaksFrom 46 = .ok (.aload_n 0, 1) := dk_42 (dk_at dksX0_breaksFrom_1 22 rfl rfl)
theorem dX0_breaksFrom_47 : decode cX0_breaksFrom 47 = .ok (.invokevirtual 237, 3) := dk_182 0 237 (dk_at dksX0_breaksFrom_2 0 rfl rfl)
theorem dX0_breaksFrom_50 : decode cX0_breaksFrom 50 = .ok (.if_icmp .ge 108, 3) := dk_162 0 108 (dk_at dksX0_breaksFrom_2 3 rfl rfl)
theorem dX0_breaksFrom_53 : decode cX0_breaksFrom 53 = .ok (.aload_n 0, 1) := dk_42 (dk_at dksX0_breaksFrom_2 6 rfl rfl)
theorem dX0_breaksFrom_54 : decode cX0_breaksFrom 54 = .ok (.getfield 152, 3) := dk_180 0 152 (dk_at dksX0_breaksFrom_2 7 rfl rfl)
theorem dX0_breaksFrom_57 : decode cX0_breaksFrom 57 = .ok (.getfield 356, 3) := dk_180 1 100 (dk_at dksX0_breaksFrom_2 10 rfl rfl)
theorem dX0_breaksFrom_60 : decode cX0_breaksFrom 60 = .ok (.iload 5, 2) := dk_21 5 (dk_at dksX0_breaksFrom_2 13 rfl rfl)
theorem dX0_breaksFrom_62 : decode cX0_breaksFrom 62 = .ok (.iaload, 1) := dk_46 (dk_at dksX0_breaksFrom_2 15 rfl rfl)
theorem dX0_breaksFrom_63 : decode cX0_breaksFrom 63 = .ok (.iconst (-1), 1) := dk_2 (dk_at dksX0_breaksFrom_2 16 rfl rfl)
theorem dX0_breaksFrom_64 : decode cX0_breaksFrom 64 = .ok (.if_icmp .eq 94, 3) := dk_159 0 94 (dk_at dksX0_breaksFrom_2 17 rfl rfl)
theorem dX0_breaksFrom_67 : decode cX0_breaksFrom 67 = .ok (.aload_n 0, 1) := dk_42 (dk_at dksX0_breaksFrom_2 20 rfl rfl)
theorem dX0_breaksFrom_68 : decode cX0_breaksFrom 68 = .ok (.getfield 152, 3) := dk_180 0 152 (dk_at dksX0_breaksFrom_2 21 rfl rfl)
theorem dX0_breaksFrom_71 : decode cX0_breaksFrom 71 = .ok (.getfield 356, 3) := dk_180 1 100 (dk_at dksX0_breaksFrom_3 0 rfl rfl)
theorem dX0_breaksFrom_74 : decode cX0_breaksFrom 74 = .ok (.iload 6, 2) := dk_21 6 (dk_at dksX0_breaksFrom_3 3 rfl rfl)
theorem dX0_breaksFrom_76 : decode cX0_breaksFrom 76 = .ok (.iaload, 1) := dk_46 (dk_at dksX0_breaksFrom_3 5 rfl rfl)
theorem dX0_breaksFrom_77 : decode cX0_breaksFrom 77 = .ok (.iconst (-1), 1) := dk_2 (dk_at dksX0_breaksFrom_3 6 rfl rfl)
theorem dX0_breaksFrom_78 : decode cX0_breaksFrom 78 = .ok (.if_icmp .eq 74, 3) := dk_159 0 74 (dk_at dksX0_breaksFrom_3 7 rfl rfl)
theorem dX0_breaksFrom_81 : decode cX0_breaksFrom 81 = .ok (.aload_n 0, 1) := dk_42 (dk_at dksX0_breaksFrom_3 10 rfl rfl)
theorem dX0_breaksFrom_82 : decode cX0_breaksFrom 82 = .ok (.getfield 156, 3) := dk_180 0 156 (dk_at dksX0_breaksFrom_3 11 rfl rfl)
theorem dX0_breaksFrom_85 : decode cX0_breaksFrom 85 = .ok (.getfield 356, 3) := dk_180 1 100 (dk_at dksX0_breaksFrom_3 14 rfl rfl)
theorem dX0_breaksFrom_88 : decode cX0_breaksFrom 88 = .ok (.iload 5, 2) := dk_21 5 (dk_at dksX0_breaksFrom_3 17 rfl rfl)
theorem dX0_breaksFrom_90 : decode cX0_breaksFrom 90 = .ok (.iaload, 1) := dk_46 (dk_at dksX0_breaksFrom_3 19 rfl rfl)
theorem dX0_breaksFrom_91 : decode cX0_breaksFrom 91 = .ok (.iconst (-1), 1) := dk_2 (dk_at dksX0_breaksFrom_3 20 rfl rfl)
theorem dX0_breaksFrom_92 : decode cX0_breaksFrom 92 = .ok (.if_icmp .ne 20, 3) := dk_160 0 20 (dk_at dksX0_breaksFrom_3 21 rfl rfl)
theorem dX0_breaksFrom_95 : decode cX0_breaksFrom 95 = .ok (.aload_n 0, 1) := dk_42 (dk_at dksX0_breaksFrom_4 0 rfl rfl)
theorem dX0_breaksFrom_96 : decode cX0_breaksFrom 96 = .ok (.getfield 156, 3) := dk_180 0 156 (dk_at dksX0_breaksFrom_4 1 rfl rfl)
theorem dX0_breaksFrom_99 : decode cX0_breaksFrom 99 = .ok (.getfield 356, 3) := dk_180 1 100 (dk_at dksX0_breaksFrom_4 4 rfl rfl)
theorem dX0_breaksFrom_102 : decode cX0_breaksFrom 102 = .ok (.iload 6, 2) := dk_21 6 (dk_at dksX0_breaksFrom_4 7 rfl rfl)
theorem dX0_breaksFrom_104 : decode cX0_breaksFrom 104 = .ok (.iaload, 1) := dk_46 (dk_at dksX0_breaksFrom_4 9 rfl rfl)
theorem dX0_breaksFrom_105 : decode cX0_breaksFrom 105 = .ok (.iconst (-1), 1) := dk_2 (dk_at dksX0_breaksFrom_4 10 rfl rfl)
theorem dX0_breaksFrom_106 : decode cX0_breaksFrom 106 = .ok (.if_icmp .ne 6, 3) := dk_160 0 6 (dk_at dksX0_breaksFrom_4 11 rfl rfl)
theorem dX0_breaksFrom_109 : decode cX0_breaksFrom 109 = .ok (.goto 43, 3) := dk_167 0 43 (dk_at dksX0_breaksFrom_4 14 rfl rfl)
theorem dX0_breaksFrom_112 : decode cX0_breaksFrom 112 = .ok (.aload_n 0, 1) := dk_42 (dk_at dksX0_breaksFrom_4 17 rfl rfl)
theorem dX0_breaksFrom_113 : decode cX0_breaksFrom 113 = .ok (.iload_n 1, 1) := dk_27 (dk_at dksX0_breaksFrom_4 18 rfl rfl)
theorem dX0_breaksFrom_114 : decode cX0_breaksFrom 114 = .ok (.iload 5, 2) := dk_21 5 (dk_at dksX0_breaksFrom_4 19 rfl rfl)
theorem dX0_breaksFrom_116 : decode cX0_breaksFrom 116 = .ok (.iload 6, 2) := dk_21 6 (dk_at dksX0_breaksFrom_4 21 rfl rfl)
theorem dX0_breaksFrom_118 : decode cX0_breaksFrom 118 = .ok (.invokevirtual 323, 3) := dk_182 1 67 (dk_at dksX0_breaksFrom_5 0 rfl rfl)
theorem dX0_breaksFrom_121 : decode cX0_breaksFrom 121 = .ok (.istore 7, 2) := dk_54 7 (dk_at dksX0_breaksFrom_5 3 rfl rfl)
theorem dX0_breaksFrom_123 : decode cX0_breaksFrom 123 = .ok (.aload_n 0, 1) := dk_42 (dk_at dksX0_breaksFrom_5 5 rfl rfl)
theorem dX0_breaksFrom_124 : decode cX0_breaksFrom 124 = .ok (.getfield 143, 3) := dk_180 0 143 (dk_at dksX0_breaksFrom_5 6 rfl rfl)
theorem dX0_breaksFrom_127 : decode cX0_breaksFrom 127 = .ok (.iload 7, 2) := dk_21 7 (dk_at dksX0_breaksFrom_5 9 rfl rfl)
theorem dX0_breaksFrom_129 : decode cX0_breaksFrom 129 = .ok (.baload, 1) := dk_51 (dk_at dksX0_breaksFrom_5 11 rfl rfl)
theorem dX0_breaksFrom_130 : decode cX0_breaksFrom 130 = .ok (.ifCond .eq 6, 3) := dk_153 0 6 (dk_at dksX0_breaksFrom_5 12 rfl rfl)
theorem dX0_breaksFrom_133 : decode cX0_breaksFrom 133 = .ok (.goto 19, 3) := dk_167 0 19 (dk_at dksX0_breaksFrom_5 15 rfl rfl)
theorem dX0_breaksFrom_136 : decode cX0_breaksFrom 136 = .ok (.aload_n 3, 1) := dk_45 (dk_at dksX0_breaksFrom_5 18 rfl rfl)
theorem dX0_breaksFrom_137 : decode cX0_breaksFrom 137 = .ok (.iload_n 1, 1) := dk_27 (dk_at dksX0_breaksFrom_5 19 rfl rfl)
theorem dX0_breaksFrom_138 : decode cX0_breaksFrom 138 = .ok (.iload 5, 2) := dk_21 5 (dk_at dksX0_breaksFrom_5 20 rfl rfl)
theorem dX0_breaksFrom_140 : decode cX0_breaksFrom 140 = .ok (.iload 6, 2) := dk_21 6 (dk_at dksX0_breaksFrom_5 22 rfl rfl)
theorem dX0_breaksFrom_142 : decode cX0_breaksFrom 142 = .ok (.iload 7, 2) := dk_21 7 (dk_at dksX0_breaksFrom_6 0 rfl rfl)
theorem dX0_breaksFrom_144 : decode cX0_breaksFrom 144 = .ok (.invokeinterface 359 5, 5) := by decide +kernel
theorem dX0_breaksFrom_149 : decode cX0_breaksFrom 149 = .ok (.iinc 4 1, 3) := dk_132 4 1 (dk_at dksX0_breaksFrom_6 7 rfl rfl)
theorem dX0_breaksFrom_152 : decode cX0_breaksFrom 152 = .ok (.iinc 6 1, 3) := dk_132 6 1 (dk_at dksX0_breaksFrom_6 10 rfl rfl)
theorem dX0_breaksFrom_155 : decode cX0_breaksFrom 155 = .ok (.goto (-111), 3) := dk_167 255 145 (dk_at dksX0_breaksFrom_6 13 rfl rfl)
theorem dX0_breaksFrom_158 : decode cX0_breaksFrom 158 = .ok (.iinc 5 1, 3) := dk_132 5 1 (dk_at dksX0_breaksFrom_6 16 rfl rfl)
theorem dX0_breaksFrom_161 : decode cX0_breaksFrom 161 = .ok (.goto (-130), 3) := dk_167 255 126 (dk_at dksX0_breaksFrom_6 19 rfl rfl)
theorem dX0_breaksFrom_164 : decode cX0_breaksFrom 164 = .ok (.iload 4, 2) := dk_21 4 (dk_at dksX0_breaksFrom_6 22 rfl rfl)
theorem dX0_breaksFrom_166 : decode cX0_breaksFrom 166 = .ok (.ireturn, 1) := dk_172 (dk_at dksX0_breaksFrom_7 0 rfl rfl)
abbrev cX0_stepIn : ByteArray := prog_1_method_35_code
def yX0_stepIn : MethodName := ⟨RX0, "stepIn", "(II)I"⟩
def dkwX0_stepIn_1 : List UInt8 := [180, 0, 143, 29, 51, 154, 0, 7, 2, 167, 0, 4, 29, 172]
abbrev dktX0_stepIn_1 : List UInt8 := dkwX0_stepIn_1 ++ []
def dkwX0_stepIn_0 : List UInt8 := [42, 180, 0, 139, 27, 50, 180, 1, 37, 28, 185, 1, 41, 2, 0, 62, 29, 2, 159, 0, 12, 42]
abbrev dktX0_stepIn_0 : List UInt8 := dkwX0_stepIn_0 ++ dktX0_stepIn_1
theorem dksX0_stepIn_0 : cX0_stepIn.data.toList.drop 0 = dktX0_stepIn_0 := by decide +kernel
theorem dksX0_stepIn_1 : cX0_stepIn.data.toList.drop 22 = dktX0_stepIn_1 := dk_seg dksX0_stepIn_0 22 rfl rfl
theorem dX0_stepIn_0 : decode cX0_stepIn 0 = .ok (.aload_n 0, 1) := dk_42 (dk_at dksX0_stepIn_0 0 rfl rfl)
theorem dX0_stepIn_1 : decode cX0_stepIn 1 = .ok (.getfield 139, 3) := dk_180 0 139 (dk_at dksX0_stepIn_0 1 rfl rfl)
theorem dX0_stepIn_4 : decode cX0_stepIn 4 = .ok (.iload_n 1, 1) := dk_27 (dk_at dksX0_stepIn_0 4 rfl rfl)
theorem dX0_stepIn_5 : decode cX0_stepIn 5 = .ok (.aaload, 1) := dk_50 (dk_at dksX0_stepIn_0 5 rfl rfl)
theorem dX0_stepIn_6 : decode cX0_stepIn 6 = .ok (.getfield 293, 3) := dk_180 1 37 (dk_at dksX0_stepIn_0 6 rfl rfl)
theorem dX0_stepIn_9 : decode cX0_stepIn 9 = .ok (.iload_n 2, 1) := dk_28 (dk_at dksX0_stepIn_0 9 rfl rfl)
theorem dX0_stepIn_10 : decode cX0_stepIn 10 = .ok (.invokeinterface 297 2, 5) := by decide +kernel
theorem dX0_stepIn_15 : decode cX0_stepIn 15 = .ok (.istore_n 3, 1) := dk_62 (dk_at dksX0_stepIn_0 15 rfl rfl)
theorem dX0_stepIn_16 : decode cX0_stepIn 16 = .ok (.iload_n 3, 1) := dk_29 (dk_at dksX0_stepIn_0 16 rfl rfl)
theorem dX0_stepIn_17 : decode cX0_stepIn 17 = .ok (.iconst (-1), 1) := dk_2 (dk_at dksX0_stepIn_0 17 rfl rfl)
theorem dX0_stepIn_18 : decode cX0_stepIn 18 = .ok (.if_icmp .eq 12, 3) := dk_159 0 12 (dk_at dksX0_stepIn_0 18 rfl rfl)
theorem dX0_stepIn_21 : decode cX0_stepIn 21 = .ok (.aload_n 0, 1) := dk_42 (dk_at dksX0_stepIn_0 21 rfl rfl)
theorem dX0_stepIn_22 : decode cX0_stepIn 22 = .ok (.getfield 143, 3) := dk_180 0 143 (dk_at dksX0_stepIn_1 0 rfl rfl)
theorem dX0_stepIn_25 : decode cX0_stepIn 25 = .ok (.iload_n 3, 1) := dk_29 (dk_at dksX0_stepIn_1 3 rfl rfl)
theorem dX0_stepIn_26 : decode cX0_stepIn 26 = .ok (.baload, 1) := dk_51 (dk_at dksX0_stepIn_1 4 rfl rfl)
theorem dX0_stepIn_27 : decode cX0_stepIn 27 = .ok (.ifCond .ne 7, 3) := dk_154 0 7 (dk_at dksX0_stepIn_1 5 rfl rfl)
theorem dX0_stepIn_30 : decode cX0_stepIn 30 = .ok (.iconst (-1), 1) := dk_2 (dk_at dksX0_stepIn_1 8 rfl rfl)
theorem dX0_stepIn_31 : decode cX0_stepIn 31 = .ok (.goto 4, 3) := dk_167 0 4 (dk_at dksX0_stepIn_1 9 rfl rfl)
theorem dX0_stepIn_34 : decode cX0_stepIn 34 = .ok (.iload_n 3, 1) := dk_29 (dk_at dksX0_stepIn_1 12 rfl rfl)
theorem dX0_stepIn_35 : decode cX0_stepIn 35 = .ok (.ireturn, 1) := dk_172 (dk_at dksX0_stepIn_1 13 rfl rfl)
abbrev cX0_mergeOf : ByteArray := prog_1_method_36_code
def yX0_mergeOf : MethodName := ⟨RX0, "mergeOf", "(III)I"⟩
def dkwX0_mergeOf_3 : List UInt8 := [104, 96, 54, 4, 132, 5, 1, 167, 255, 185, 21, 4, 172]
abbrev dktX0_mergeOf_3 : List UInt8 := dkwX0_mergeOf_3 ++ []
def dkwX0_mergeOf_2 : List UInt8 := [21, 5, 182, 0, 243, 42, 28, 21, 5, 182, 0, 243, 42, 29, 21, 5, 182, 0, 243, 185, 0, 60, 4, 0]
abbrev dktX0_mergeOf_2 : List UInt8 := dkwX0_mergeOf_2 ++ dktX0_mergeOf_3
def dkwX0_mergeOf_1 : List UInt8 := [182, 0, 240, 42, 180, 0, 116, 42, 180, 0, 46, 180, 1, 45, 21, 5, 46, 50, 180, 1, 48, 42, 27]
abbrev dktX0_mergeOf_1 : List UInt8 := dkwX0_mergeOf_1 ++ dktX0_mergeOf_2
def dkwX0_mergeOf_0 : List UInt8 := [3, 54, 4, 3, 54, 5, 21, 5, 42, 180, 0, 46, 180, 0, 219, 162, 0, 65, 21, 4, 42, 21, 5]
abbrev dktX0_mergeOf_0 : List UInt8 := dkwX0_mergeOf_0 ++ dktX0_mergeOf_1
theorem dksX0_mergeOf_0 : cX0_mergeOf.data.toList.drop 0 = dktX0_mergeOf_0 := by decide +kernel
theorem dksX0_mergeOf_1 : cX0_mergeOf.data.toList.drop 23 = dktX0_mergeOf_1 := dk_seg dksX0_mergeOf_0 23 rfl rfl
theorem dksX0_mergeOf_2 : cX0_mergeOf.data.toList.drop 46 = dktX0_mergeOf_2 := dk_seg dksX0_mergeOf_1 23 rfl rfl
theorem dksX0_mergeOf_3 : cX0_mergeOf.data.toList.drop 70 = dktX0_mergeOf_3 := dk_seg dksX0_mergeOf_2 24 rfl rfl
theorem dX0_mergeOf_0 : decode cX0_mergeOf 0 = .ok (.iconst 0, 1) := dk_3 (dk_at dksX0_mergeOf_0 0 rfl rfl)
theorem dX0_mergeOf_1 : decode cX0_mergeOf 1 = .ok (.istore 4, 2) := dk_54 4 (dk_at dksX0_mergeOf_0 1 rfl rfl)
theorem dX0_mergeOf_3 : decode cX0_mergeOf 3 = .ok (.iconst 0, 1) := dk_3 (dk_at dksX0_mergeOf_0 3 rfl rfl)
theorem dX0_mergeOf_4 : decode cX0_mergeOf 4 = .ok (.istore 5, 2) := dk_54 5 (dk_at dksX0_mergeOf_0 4 rfl rfl)
theorem dX0_mergeOf_6 : decode cX0_mergeOf 6 = .ok (.iload 5, 2) := dk_21 5 (dk_at dksX0_mergeOf_0 6 rfl rfl)
theorem dX0_mergeOf_8 : decode cX0_mergeOf 8 = .ok (.aload_n 0, 1) := dk_42 (dk_at dksX0_mergeOf_0 8 rfl rfl)
theorem dX0_mergeOf_9 : decode cX0_mergeOf 9 = .ok (.getfield 46, 3) := dk_180 0 46 (dk_at dksX0_mergeOf_0 9 rfl rfl)
theorem dX0_mergeOf_12 : decode cX0_mergeOf 12 = .ok (.getfield 219, 3) := dk_180 0 219 (dk_at dksX0_mergeOf_0 12 rfl rfl)
theorem dX0_mergeOf_15 : decode cX0_mergeOf 15 = .ok (.if_icmp .ge 65, 3) := dk_162 0 65 (dk_at dksX0_mergeOf_0 15 rfl rfl)
theorem dX0_mergeOf_18 : decode cX0_mergeOf 18 = .ok (.iload 4, 2) := dk_21 4 (dk_at dksX0_mergeOf_0 18 rfl rfl)
theorem dX0_mergeOf_20 : decode cX0_mergeOf 20 = .ok (.aload_n 0, 1) := dk_42 (dk_at dksX0_mergeOf_0 20 rfl rfl)
theorem dX0_mergeOf_21 : decode cX0_mergeOf 21 = .ok (.iload 5, 2) := dk_21 5 (dk_at dksX0_mergeOf_0 21 rfl rfl)
theorem dX0_mergeOf_23 : decode cX0_mergeOf 23 = .ok (.invokevirtual 240, 3) := dk_182 0 240 (dk_at dksX0_mergeOf_1 0 rfl rfl)
theorem dX0_mergeOf_26 : decode cX0_mergeOf 26 = .ok (.aload_n 0, 1) := dk_42 (dk_at dksX0_mergeOf_1 3 rfl rfl)
theorem dX0_mergeOf_27 : decode cX0_mergeOf 27 = .ok (.getfield 116, 3) := dk_180 0 116 (dk_at dksX0_mergeOf_1 4 rfl rfl)
theorem dX0_mergeOf_30 : decode cX0_mergeOf 30 = .ok (.aload_n 0, 1) := dk_42 (dk_at dksX0_mergeOf_1 7 rfl rfl)
theorem dX0_mergeOf_31 : decode cX0_mergeOf 31 = .ok (.getfield 46, 3) := dk_180 0 46 (dk_at dksX0_mergeOf_1 8 rfl rfl)
theorem dX0_mergeOf_34 : decode cX0_mergeOf 34 = .ok (.getfield 301, 3) := dk_180 1 45 (dk_at dksX0_mergeOf_1 11 rfl rfl)
theorem dX0_mergeOf_37 : decode cX0_mergeOf 37 = .ok (.iload 5, 2) := dk_21 5 (dk_at dksX0_mergeOf_1 14 rfl rfl)
theorem dX0_mergeOf_39 : decode cX0_mergeOf 39 = .ok (.iaload, 1) := dk_46 (dk_at dksX0_mergeOf_1 16 rfl rfl)
theorem dX0_mergeOf_40 : decode cX0_mergeOf 40 = .ok (.aaload, 1) := dk_50 (dk_at dksX0_mergeOf_1 17 rfl rfl)
theorem dX0_mergeOf_41 : decode cX0_mergeOf 41 = .ok (.getfield 304, 3) := dk_180 1 48 (dk_at dksX0_mergeOf_1 18 rfl rfl)
theorem dX0_mergeOf_44 : decode cX0_mergeOf 44 = .ok (.aload_n 0, 1) := dk_42 (dk_at dksX0_mergeOf_1 21 rfl rfl)
theorem dX0_mergeOf_45 : decode cX0_mergeOf 45 = .ok (.iload_n 1, 1) := dk_27 (dk_at dksX0_mergeOf_1 22 rfl rfl)
theorem dX0_mergeOf_46 : decode cX0_mergeOf 46 = .ok (.iload 5, 2) := dk_21 5 (dk_at dksX0_mergeOf_2 0 rfl rfl)
theorem dX0_mergeOf_48 : decode cX0_mergeOf 48 = .ok (.invokevirtual 243, 3) := dk_182 0 243 (dk_at dksX0_mergeOf_2 2 rfl rfl)
theorem dX0_mergeOf_51 : decode cX0_mergeOf 51 = .ok (.aload_n 0, 1) := dk_42 (dk_at dksX0_mergeOf_2 5 rfl rfl)
theorem dX0_mergeOf_52 : decode cX0_mergeOf 52 = .ok (.iload_n 2, 1) := dk_28 (dk_at dksX0_mergeOf_2 6 rfl rfl)
theorem dX0_mergeOf_53 : decode cX0_mergeOf 53 = .ok (.iload 5, 2) := dk_21 5 (dk_at dksX0_mergeOf_2 7 rfl rfl)
theorem dX0_mergeOf_55 : decode cX0_mergeOf 55 = .ok (.invokevirtual 243, 3) := dk_182 0 243 (dk_at dksX0_mergeOf_2 9 rfl rfl)
theorem dX0_mergeOf_58 : decode cX0_mergeOf 58 = .ok (.aload_n 0, 1) := dk_42 (dk_at dksX0_mergeOf_2 12 rfl rfl)
theorem dX0_mergeOf_59 : decode cX0_mergeOf 59 = .ok (.iload_n 3, 1) := dk_29 (dk_at dksX0_mergeOf_2 13 rfl rfl)
theorem dX0_mergeOf_60 : decode cX0_mergeOf 60 = .ok (.iload 5, 2) := dk_21 5 (dk_at dksX0_mergeOf_2 14 rfl rfl)
theorem dX0_mergeOf_62 : decode cX0_mergeOf 62 = .ok (.invokevirtual 243, 3) := dk_182 0 243 (dk_at dksX0_mergeOf_2 16 rfl rfl)
theorem dX0_mergeOf_65 : decode cX0_mergeOf 65 = .ok (.invokeinterface 60 4, 5) := by decide +kernel
theorem dX0_mergeOf_70 : decode cX0_mergeOf 70 = .ok (.imul, 1) := dk_104 (dk_at dksX0_mergeOf_3 0 rfl rfl)
theorem dX0_mergeOf_71 : decode cX0_mergeOf 71 = .ok (.iadd, 1) := dk_96 (dk_at dksX0_mergeOf_3 1 rfl rfl)
theorem dX0_mergeOf_72 : decode cX0_mergeOf 72 = .ok (.istore 4, 2) := dk_54 4 (dk_at dksX0_mergeOf_3 2 rfl rfl)
theorem dX0_mergeOf_74 : decode cX0_mergeOf 74 = .ok (.iinc 5 1, 3) := dk_132 5 1 (dk_at dksX0_mergeOf_3 4 rfl rfl)
theorem dX0_mergeOf_77 : decode cX0_mergeOf 77 = .ok (.goto (-71), 3) := dk_167 255 185 (dk_at dksX0_mergeOf_3 7 rfl rfl)
theorem dX0_mergeOf_80 : decode cX0_mergeOf 80 = .ok (.iload 4, 2) := dk_21 4 (dk_at dksX0_mergeOf_3 10 rfl rfl)
theorem dX0_mergeOf_82 : decode cX0_mergeOf 82 = .ok (.ireturn, 1) := dk_172 (dk_at dksX0_mergeOf_3 12 rfl rfl)
abbrev cX0_calm : ByteArray := prog_1_method_39_code
def yX0_calm : MethodName := ⟨RX0, "calm", "(I)I"⟩
def dkwX0_calm_1 : List UInt8 := [153, 0, 20, 42, 27, 28, 182, 1, 58, 154, 0, 5, 28, 172, 132, 2, 255, 167, 255, 229, 2, 172]
abbrev dktX0_calm_1 : List UInt8 := dkwX0_calm_1 ++ []
def dkwX0_calm_0 : List UInt8 := [42, 27, 133, 182, 1, 51, 154, 0, 6, 16, 254, 172, 6, 61, 28, 155, 0, 29, 42, 180, 0, 143, 27, 51]
abbrev dktX0_calm_0 : List UInt8 := dkwX0_calm_0 ++ dktX0_calm_1
theorem dksX0_calm_0 : cX0_calm.data.toList.drop 0 = dktX0_calm_0 := by decide +kernel
theorem dksX0_calm_1 : cX0_calm.data.toList.drop 24 = dktX0_calm_1 := dk_seg dksX0_calm_0 24 rfl rfl
theorem dX0_calm_0 : decode cX0_calm 0 = .ok (.aload_n 0, 1) := dk_42 (dk_at dksX0_calm_0 0 rfl rfl)
theorem dX0_calm_1 : decode cX0_calm 1 = .ok (.iload_n 1, 1) := dk_27 (dk_at dksX0_calm_0 1 rfl rfl)
theorem dX0_calm_2 : decode cX0_calm 2 = .ok (.i2l, 1) := dk_133 (dk_at dksX0_calm_0 2 rfl rfl)
theorem dX0_calm_3 : decode cX0_calm 3 = .ok (.invokevirtual 307, 3) := dk_182 1 51 (dk_at dksX0_calm_0 3 rfl rfl)
theorem dX0_calm_6 : decode cX0_calm 6 = .ok (.ifCond .ne 6, 3) := dk_154 0 6 (dk_at dksX0_calm_0 6 rfl rfl)
theorem dX0_calm_9 : decode cX0_calm 9 = .ok (.bipush (-2), 2) := dk_16 254 (dk_at dksX0_calm_0 9 rfl rfl)
theorem dX0_calm_11 : decode cX0_calm 11 = .ok (.ireturn, 1) := dk_172 (dk_at dksX0_calm_0 11 rfl rfl)
theorem dX0_calm_12 : decode cX0_calm 12 = .ok (.iconst 3, 1) := dk_6 (dk_at dksX0_calm_0 12 rfl rfl)
theorem dX0_calm_13 : decode cX0_calm 13 = .ok (.istore_n 2, 1) := dk_61 (dk_at dksX0_calm_0 13 rfl rfl)
theorem dX0_calm_14 : decode cX0_calm 14 = .ok (.iload_n 2, 1) := dk_28 (dk_at dksX0_calm_0 14 rfl rfl)
theorem dX0_calm_15 : decode cX0_calm 15 = .ok (.ifCond .lt 29, 3) := dk_155 0 29 (dk_at dksX0_calm_0 15 rfl rfl)
theorem dX0_calm_18 : decode cX0_calm 18 = .ok (.aload_n 0, 1) := dk_42 (dk_at dksX0_calm_0 18 rfl rfl)
theorem dX0_calm_19 : decode cX0_calm 19 = .ok (.getfield 143, 3) := dk_180 0 143 (dk_at dksX0_calm_0 19 rfl rfl)
theorem dX0_calm_22 : decode cX0_calm 22 = .ok (.iload_n 1, 1) := dk_27 (dk_at dksX0_calm_0 22 rfl rfl)
theorem dX0_calm_23 : decode cX0_calm 23 = .ok (.baload, 1) := dk_51 (dk_at dksX0_calm_0 23 rfl rfl)
theorem dX0_calm_24 : decode cX0_calm 24 = .ok (.ifCond .eq 20, 3) := dk_153 0 20 (dk_at dksX0_calm_1 0 rfl rfl)
theorem dX0_calm_27 : decode cX0_calm 27 = .ok (.aload_n 0, 1) := dk_42 (dk_at dksX0_calm_1 3 rfl rfl)
theorem dX0_calm_28 : decode cX0_calm 28 = .ok (.iload_n 1, 1) := dk_27 (dk_at dksX0_calm_1 4 rfl rfl)
theorem dX0_calm_29 : decode cX0_calm 29 = .ok (.iload_n 2, 1) := dk_28 (dk_at dksX0_calm_1 5 rfl rfl)
theorem dX0_calm_30 : decode cX0_calm 30 = .ok (.invokevirtual 314, 3) := dk_182 1 58 (dk_at dksX0_calm_1 6 rfl rfl)
theorem dX0_calm_33 : decode cX0_calm 33 = .ok (.ifCond .ne 5, 3) := dk_154 0 5 (dk_at dksX0_calm_1 9 rfl rfl)
theorem dX0_calm_36 : decode cX0_calm 36 = .ok (.iload_n 2, 1) := dk_28 (dk_at dksX0_calm_1 12 rfl rfl)
theorem dX0_calm_37 : decode cX0_calm 37 = .ok (.ireturn, 1) := dk_172 (dk_at dksX0_calm_1 13 rfl rfl)
theorem dX0_calm_38 : decode cX0_calm 38 = .ok (.iinc 2 (-1), 3) := dk_132 2 255 (dk_at dksX0_calm_1 14 rfl rfl)
theorem dX0_calm_41 : decode cX0_calm 41 = .ok (.goto (-27), 3) := dk_167 255 229 (dk_at dksX0_calm_1 17 rfl rfl)
theorem dX0_calm_44 : decode cX0_calm 44 = .ok (.iconst (-1), 1) := dk_2 (dk_at dksX0_calm_1 20 rfl rfl)
theorem dX0_calm_45 : decode cX0_calm 45 = .ok (.ireturn, 1) := dk_172 (dk_at dksX0_calm_1 21 rfl rfl)
abbrev cX0_hot : ByteArray := prog_1_method_40_code
def yX0_hot : MethodName := ⟨RX0, "hot", "(I)I"⟩
def dkwX0_hot_2 : List UInt8 := [21, 5, 62, 132, 4, 1, 167, 255, 220, 28, 172]
abbrev dktX0_hot_2 : List UInt8 := dkwX0_hot_2 ++ []
def dkwX0_hot_1 : List UInt8 := [162, 0, 33, 42, 21, 4, 27, 182, 1, 58, 54, 5, 21, 5, 29, 163, 0, 6, 167, 0, 9, 21, 4, 61]
abbrev dktX0_hot_1 : List UInt8 := dkwX0_hot_1 ++ dktX0_hot_2
def dkwX0_hot_0 : List UInt8 := [42, 27, 182, 1, 55, 154, 0, 6, 16, 254, 172, 2, 61, 3, 62, 3, 54, 4, 21, 4, 42, 182, 0, 237]
abbrev dktX0_hot_0 : List UInt8 := dkwX0_hot_0 ++ dktX0_hot_1
theorem dksX0_hot_0 : cX0_hot.data.toList.drop 0 = dktX0_hot_0 := by decide +kernel
theorem dksX0_hot_1 : cX0_hot.data.toList.drop 24 = dktX0_hot_1 := dk_seg dksX0_hot_0 24 rfl rfl
theorem dksX0_hot_2 : cX0_hot.data.toList.drop 48 = dktX0_hot_2 := dk_seg dksX0_hot_1 24 rfl rfl
theorem dX0_hot_0 : decode cX0_hot 0 = .ok (.aload_n 0, 1) := dk_42 (dk_at dksX0_hot_0 0 rfl rfl)
theorem dX0_hot_1 : decode cX0_hot 1 = .ok (.iload_n 1, 1) := dk_27 (dk_at dksX0_hot_0 1 rfl rfl)
theorem dX0_hot_2 : decode cX0_hot 2 = .ok (.invokevirtual 311, 3) := dk_182 1 55 (dk_at dksX0_hot_0 2 rfl rfl)
theorem dX0_hot_5 : decode cX0_hot 5 = .ok (.ifCond .ne 6, 3) := dk_154 0 6 (dk_at dksX0_hot_0 5 rfl rfl)
theorem dX0_hot_8 : decode cX0_hot 8 = .ok (.bipush (-2), 2) := dk_16 254 (dk_at dksX0_hot_0 8 rfl rfl)
theorem dX0_hot_10 : decode cX0_hot 10 = .ok (.ireturn, 1) := dk_172 (dk_at dksX0_hot_0 10 rfl rfl)
theorem dX0_hot_11 : decode cX0_hot 11 = .ok (.iconst (-1), 1) := dk_2 (dk_at dksX0_hot_0 11 rfl rfl)
theorem dX0_hot_12 : decode cX0_hot 12 = .ok (.istore_n 2, 1) := dk_61 (dk_at dksX0_hot_0 12 rfl rfl)
theorem dX0_hot_13 : decode cX0_hot 13 = .ok (.iconst 0, 1) := dk_3 (dk_at dksX0_hot_0 13 rfl rfl)
theorem dX0_hot_14 : decode cX0_hot 14 = .ok (.istore_n 3, 1) := dk_62 (dk_at dksX0_hot_0 14 rfl rfl)
theorem dX0_hot_15 : decode cX0_hot 15 = .ok (.iconst 0, 1) := dk_3 (dk_at dksX0_hot_0 15 rfl rfl)
theorem dX0_hot_16 : decode cX0_hot 16 = .ok (.istore 4, 2) := dk_54 4 (dk_at dksX0_hot_0 16 rfl rfl)
theorem dX0_hot_18 : decode cX0_hot 18 = .ok (.iload 4, 2) := dk_21 4 (dk_at dksX0_hot_0 18 rfl rfl)
theorem dX0_hot_20 : decode cX0_hot 20 = .ok (.aload_n 0, 1) := dk_42 (dk_at dksX0_hot_0 20 rfl rfl)
theorem dX0_hot_21 : decode cX0_hot 21 = .ok (.invokevirtual 237, 3) := dk_182 0 237 (dk_at dksX0_hot_0 21 rfl rfl)
theorem dX0_hot_24 : decode cX0_hot 24 = .ok (.if_icmp .ge 33, 3) := dk_162 0 33 (dk_at dksX0_hot_1 0 rfl rfl)
theorem dX0_hot_27 : decode cX0_hot 27 = .ok (.aload_n 0, 1) := dk_42 (dk_at dksX0_hot_1 3 rfl rfl)
theorem dX0_hot_28 : decode cX0_hot 28 = .ok (.iload 4, 2) := dk_21 4 (dk_at dksX0_hot_1 4 rfl rfl)
theorem dX0_hot_30 : decode cX0_hot 30 = .ok (.iload_n 1, 1) := dk_27 (dk_at dksX0_hot_1 6 rfl rfl)
theorem dX0_hot_31 : decode cX0_hot 31 = .ok (.invokevirtual 314, 3) := dk_182 1 58 (dk_at dksX0_hot_1 7 rfl rfl)
theorem dX0_hot_34 : decode cX0_hot 34 = .ok (.istore 5, 2) := dk_54 5 (dk_at dksX0_hot_1 10 rfl rfl)
theorem dX0_hot_36 : decode cX0_hot 36 = .ok (.iload 5, 2) := dk_21 5 (dk_at dksX0_hot_1 12 rfl rfl)
theorem dX0_hot_38 : decode cX0_hot 38 = .ok (.iload_n 3, 1) := dk_29 (dk_at dksX0_hot_1 14 rfl rfl)
theorem dX0_hot_39 : decode cX0_hot 39 = .ok (.if_icmp .gt 6, 3) := dk_163 0 6 (dk_at dksX0_hot_1 15 rfl rfl)
theorem dX0_hot_42 : decode cX0_hot 42 = .ok (.goto 9, 3) := dk_167 0 9 (dk_at dksX0_hot_1 18 rfl rfl)
theorem dX0_hot_45 : decode cX0_hot 45 = .ok (.iload 4, 2) := dk_21 4 (dk_at dksX0_hot_1 21 rfl rfl)
theorem dX0_hot_47 : decode cX0_hot 47 = .ok (.istore_n 2, 1) := dk_61 (dk_at dksX0_hot_1 23 rfl rfl)
theorem dX0_hot_48 : decode cX0_hot 48 = .ok (.iload 5, 2) := dk_21 5 (dk_at dksX0_hot_2 0 rfl rfl)
theorem dX0_hot_50 : decode cX0_hot 50 = .ok (.istore_n 3, 1) := dk_62 (dk_at dksX0_hot_2 2 rfl rfl)
theorem dX0_hot_51 : decode cX0_hot 51 = .ok (.iinc 4 1, 3) := dk_132 4 1 (dk_at dksX0_hot_2 3 rfl rfl)
theorem dX0_hot_54 : decode cX0_hot 54 = .ok (.goto (-36), 3) := dk_167 255 220 (dk_at dksX0_hot_2 6 rfl rfl)
theorem dX0_hot_57 : decode cX0_hot 57 = .ok (.iload_n 2, 1) := dk_28 (dk_at dksX0_hot_2 9 rfl rfl)
theorem dX0_hot_58 : decode cX0_hot 58 = .ok (.ireturn, 1) := dk_172 (dk_at dksX0_hot_2 10 rfl rfl)
abbrev cX0_opens : ByteArray := prog_1_method_41_code
def yX0_opens : MethodName := ⟨RX0, "opens", "(I)I"⟩
def dkwX0_opens_2 : List UInt8 := [167, 0, 4, 3, 128, 61, 132, 3, 1, 167, 255, 217, 28, 172]
abbrev dktX0_opens_2 : List UInt8 := dkwX0_opens_2 ++ []
def dkwX0_opens_1 : List UInt8 := [185, 0, 225, 1, 0, 162, 0, 29, 28, 42, 29, 27, 182, 1, 61, 2, 159, 0, 9, 4, 29, 120]
abbrev dktX0_opens_1 : List UInt8 := dkwX0_opens_1 ++ dktX0_opens_2
def dkwX0_opens_0 : List UInt8 := [42, 27, 133, 182, 1, 51, 154, 0, 6, 16, 254, 172, 3, 61, 3, 62, 29, 42, 180, 0, 46, 180, 0, 231]
abbrev dktX0_opens_0 : List UInt8 := dkwX0_opens_0 ++ dktX0_opens_1
theorem dksX0_opens_0 : cX0_opens.data.toList.drop 0 = dktX0_opens_0 := by decide +kernel
theorem dksX0_opens_1 : cX0_opens.data.toList.drop 24 = dktX0_opens_1 := dk_seg dksX0_opens_0 24 rfl rfl
theorem dksX0_opens_2 : cX0_opens.data.toList.drop 46 = dktX0_opens_2 := dk_seg dksX0_opens_1 22 rfl rfl
theorem dX0_opens_0 : decode cX0_opens 0 = .ok (.aload_n 0, 1) := dk_42 (dk_at dksX0_opens_0 0 rfl rfl)
theorem dX0_opens_1 : decode cX0_opens 1 = .ok (.iload_n 1, 1) := dk_27 (dk_at dksX0_opens_0 1 rfl rfl)
theorem dX0_opens_2 : decode cX0_opens 2 = .ok (.i2l, 1) := dk_133 (dk_at dksX0_opens_0 2 rfl rfl)
theorem dX0_opens_3 : decode cX0_opens 3 = .ok (.invokevirtual 307, 3) := dk_182 1 51 (dk_at dksX0_opens_0 3 rfl rfl)
theorem dX0_opens_6 : decode cX0_opens 6 = .ok (.ifCond .ne 6, 3) := dk_154 0 6 (dk_at dksX0_opens_0 6 rfl rfl)
theorem dX0_opens_9 : decode cX0_opens 9 = .ok (.bipush (-2), 2) := dk_16 254 (dk_at dksX0_opens_0 9 rfl rfl)
theorem dX0_opens_11 : decode cX0_opens 11 = .ok (.ireturn, 1) := dk_172 (dk_at dksX0_opens_0 11 rfl rfl)
theorem dX0_opens_12 : decode cX0_opens 12 = .ok (.iconst 0, 1) := dk_3 (dk_at dksX0_opens_0 12 rfl rfl)
theorem dX0_opens_13 : decode cX0_opens 13 = .ok (.istore_n 2, 1) := dk_61 (dk_at dksX0_opens_0 13 rfl rfl)
theorem dX0_opens_14 : decode cX0_opens 14 = .ok (.iconst 0, 1) := dk_3 (dk_at dksX0_opens_0 14 rfl rfl)
theorem dX0_opens_15 : decode cX0_opens 15 = .ok (.istore_n 3, 1) := dk_62 (dk_at dksX0_opens_0 15 rfl rfl)
theorem dX0_opens_16 : decode cX0_opens 16 = .ok (.iload_n 3, 1) := dk_29 (dk_at dksX0_opens_0 16 rfl rfl)
theorem dX0_opens_17 : decode cX0_opens 17 = .ok (.aload_n 0, 1) := dk_42 (dk_at dksX0_opens_0 17 rfl rfl)
theorem dX0_opens_18 : decode cX0_opens 18 = .ok (.getfield 46, 3) := dk_180 0 46 (dk_at dksX0_opens_0 18 rfl rfl)
theorem dX0_opens_21 : decode cX0_opens 21 = .ok (.getfield 231, 3) := dk_180 0 231 (dk_at dksX0_opens_0 21 rfl rfl)
theorem dX0_opens_24 : decode cX0_opens 24 = .ok (.invokeinterface 225 1, 5) := by decide +kernel
theorem dX0_opens_29 : decode cX0_opens 29 = .ok (.if_icmp .ge 29, 3) := dk_162 0 29 (dk_at dksX0_opens_1 5 rfl rfl)
theorem dX0_opens_32 : decode cX0_opens 32 = .ok (.iload_n 2, 1) := dk_28 (dk_at dksX0_opens_1 8 rfl rfl)
theorem dX0_opens_33 : decode cX0_opens 33 = .ok (.aload_n 0, 1) := dk_42 (dk_at dksX0_opens_1 9 rfl rfl)
theorem dX0_opens_34 : decode cX0_opens 34 = .ok (.iload_n 3, 1) := dk_29 (dk_at dksX0_opens_1 10 rfl rfl)
theorem dX0_opens_35 : decode cX0_opens 35 = .ok (.iload_n 1, 1) := dk_27 (dk_at dksX0_opens_1 11 rfl rfl)
theorem dX0_opens_36 : decode cX0_opens 36 = .ok (.invokevirtual 317, 3) := dk_182 1 61 (dk_at dksX0_opens_1 12 rfl rfl)
theorem dX0_opens_39 : decode cX0_opens 39 = .ok (.iconst (-1), 1) := dk_2 (dk_at dksX0_opens_1 15 rfl rfl)
theorem dX0_opens_40 : decode cX0_opens 40 = .ok (.if_icmp .eq 9, 3) := dk_159 0 9 (dk_at dksX0_opens_1 16 rfl rfl)
theorem dX0_opens_43 : decode cX0_opens 43 = .ok (.iconst 1, 1) := dk_4 (dk_at dksX0_opens_1 19 rfl rfl)
theorem dX0_opens_44 : decode cX0_opens 44 = .ok (.iload_n 3, 1) := dk_29 (dk_at dksX0_opens_1 20 rfl rfl)
theorem dX0_opens_45 : decode cX0_opens 45 = .ok (.ishl, 1) := dk_120 (dk_at dksX0_opens_1 21 rfl rfl)
theorem dX0_opens_46 : decode cX0_opens 46 = .ok (.goto 4, 3) := dk_167 0 4 (dk_at dksX0_opens_2 0 rfl rfl)
theorem dX0_opens_49 : decode cX0_opens 49 = .ok (.iconst 0, 1) := dk_3 (dk_at dksX0_opens_2 3 rfl rfl)
theorem dX0_opens_50 : decode cX0_opens 50 = .ok (.ior, 1) := dk_128 (dk_at dksX0_opens_2 4 rfl rfl)
theorem dX0_opens_51 : decode cX0_opens 51 = .ok (.istore_n 2, 1) := dk_61 (dk_at dksX0_opens_2 5 rfl rfl)
theorem dX0_opens_52 : decode cX0_opens 52 = .ok (.iinc 3 1, 3) := dk_132 3 1 (dk_at dksX0_opens_2 6 rfl rfl)
theorem dX0_opens_55 : decode cX0_opens 55 = .ok (.goto (-39), 3) := dk_167 255 217 (dk_at dksX0_opens_2 9 rfl rfl)
theorem dX0_opens_58 : decode cX0_opens 58 = .ok (.iload_n 2, 1) := dk_28 (dk_at dksX0_opens_2 12 rfl rfl)
theorem dX0_opens_59 : decode cX0_opens 59 = .ok (.ireturn, 1) := dk_172 (dk_at dksX0_opens_2 13 rfl rfl)
abbrev cX0_dead : ByteArray := prog_1_method_42_code
def yX0_dead : MethodName := ⟨RX0, "dead", "()I"⟩
def dkwX0_dead_2 : List UInt8 := [167, 0, 4, 3, 96, 60, 132, 2, 1, 167, 255, 220, 27, 172]
abbrev dktX0_dead_2 : List UInt8 := dkwX0_dead_2 ++ []
def dkwX0_dead_1 : List UInt8 := [162, 0, 34, 27, 42, 180, 0, 143, 28, 51, 153, 0, 15, 42, 28, 182, 1, 64, 154, 0, 7, 4]
abbrev dktX0_dead_1 : List UInt8 := dkwX0_dead_1 ++ dktX0_dead_2
def dkwX0_dead_0 : List UInt8 := [42, 180, 0, 46, 182, 0, 200, 154, 0, 6, 16, 254, 172, 3, 60, 3, 61, 28, 42, 182, 0, 237]
abbrev dktX0_dead_0 : List UInt8 := dkwX0_dead_0 ++ dktX0_dead_1
theorem dksX0_dead_0 : cX0_dead.data.toList.drop 0 = dktX0_dead_0 := by decide +kernel
theorem dksX0_dead_1 : cX0_dead.data.toList.drop 22 = dktX0_dead_1 := dk_seg dksX0_dead_0 22 rfl rfl
theorem dksX0_dead_2 : cX0_dead.data.toList.drop 44 = dktX0_dead_2 := dk_seg dksX0_dead_1 22 rfl rfl
theorem dX0_dead_0 : decode cX0_dead 0 = .ok (.aload_n 0, 1) := dk_42 (dk_at dksX0_dead_0 0 rfl rfl)
theorem dX0_dead_1 : decode cX0_dead 1 = .ok (.getfield 46, 3) := dk_180 0 46 (dk_at dksX0_dead_0 1 rfl rfl)
theorem dX0_dead_4 : decode cX0_dead 4 = .ok (.invokevirtual 200, 3) := dk_182 0 200 (dk_at dksX0_dead_0 4 rfl rfl)
theorem dX0_dead_7 : decode cX0_dead 7 = .ok (.ifCond .ne 6, 3) := dk_154 0 6 (dk_at dksX0_dead_0 7 rfl rfl)
theorem dX0_dead_10 : decode cX0_dead 10 = .ok (.bipush (-2), 2) := dk_16 254 (dk_at dksX0_dead_0 10 rfl rfl)
theorem dX0_dead_12 : decode cX0_dead 12 = .ok (.ireturn, 1) := dk_172 (dk_at dksX0_dead_0 12 rfl rfl)
theorem dX0_dead_13 : decode cX0_dead 13 = .ok (.iconst 0, 1) := dk_3 (dk_at dksX0_dead_0 13 rfl rfl)
theorem dX0_dead_14 : decode cX0_dead 14 = .ok (.istore_n 1, 1) := dk_60 (dk_at dksX0_dead_0 14 rfl rfl)
theorem dX0_dead_15 : decode cX0_dead 15 = .ok (.iconst 0, 1) := dk_3 (dk_at dksX0_dead_0 15 rfl rfl)
theorem dX0_dead_16 : decode cX0_dead 16 = .ok (.istore_n 2, 1) := dk_61 (dk_at dksX0_dead_0 16 rfl rfl)
theorem dX0_dead_17 : decode cX0_dead 17 = .ok (.iload_n 2, 1) := dk_28 (dk_at dksX0_dead_0 17 rfl rfl)
theorem dX0_dead_18 : decode cX0_dead 18 = .ok (.aload_n 0, 1) := dk_42 (dk_at dksX0_dead_0 18 rfl rfl)
theorem dX0_dead_19 : decode cX0_dead 19 = .ok (.invokevirtual 237, 3) := dk_182 0 237 (dk_at dksX0_dead_0 19 rfl rfl)
theorem dX0_dead_22 : decode cX0_dead 22 = .ok (.if_icmp .ge 34, 3) := dk_162 0 34 (dk_at dksX0_dead_1 0 rfl rfl)
theorem dX0_dead_25 : decode cX0_dead 25 = .ok (.iload_n 1, 1) := dk_27 (dk_at dksX0_dead_1 3 rfl rfl)
theorem dX0_dead_26 : decode cX0_dead 26 = .ok (.aload_n 0, 1) := dk_42 (dk_at dksX0_dead_1 4 rfl rfl)
theorem dX0_dead_27 : decode cX0_dead 27 = .ok (.getfield 143, 3) := dk_180 0 143 (dk_at dksX0_dead_1 5 rfl rfl)
theorem dX0_dead_30 : decode cX0_dead 30 = .ok (.iload_n 2, 1) := dk_28 (dk_at dksX0_dead_1 8 rfl rfl)
theorem dX0_dead_31 : decode cX0_dead 31 = .ok (.baload, 1) := dk_51 (dk_at dksX0_dead_1 9 rfl rfl)
theorem dX0_dead_32 : decode cX0_dead 32 = .ok (.ifCond .eq 15, 3) := dk_153 0 15 (dk_at dksX0_dead_1 10 rfl rfl)
theorem dX0_dead_35 : decode cX0_dead 35 = .ok (.aload_n 0, 1) := dk_42 (dk_at dksX0_dead_1 13 rfl rfl)
theorem dX0_dead_36 : decode cX0_dead 36 = .ok (.iload_n 2, 1) := dk_28 (dk_at dksX0_dead_1 14 rfl rfl)
theorem dX0_dead_37 : decode cX0_dead 37 = .ok (.invokevirtual 320, 3) := dk_182 1 64 (dk_at dksX0_dead_1 15 rfl rfl)
theorem dX0_dead_40 : decode cX0_dead 40 = .ok (.ifCond .ne 7, 3) := dk_154 0 7 (dk_at dksX0_dead_1 18 rfl rfl)
theorem dX0_dead_43 : decode cX0_dead 43 = .ok (.iconst 1, 1) := dk_4 (dk_at dksX0_dead_1 21 rfl rfl)
theorem dX0_dead_44 : decode cX0_dead 44 = .ok (.goto 4, 3) := dk_167 0 4 (dk_at dksX0_dead_2 0 rfl rfl)
theorem dX0_dead_47 : decode cX0_dead 47 = .ok (.iconst 0, 1) := dk_3 (dk_at dksX0_dead_2 3 rfl rfl)
theorem dX0_dead_48 : decode cX0_dead 48 = .ok (.iadd, 1) := dk_96 (dk_at dksX0_dead_2 4 rfl rfl)
theorem dX0_dead_49 : decode cX0_dead 49 = .ok (.istore_n 1, 1) := dk_60 (dk_at dksX0_dead_2 5 rfl rfl)
theorem dX0_dead_50 : decode cX0_dead 50 = .ok (.iinc 2 1, 3) := dk_132 2 1 (dk_at dksX0_dead_2 6 rfl rfl)
theorem dX0_dead_53 : decode cX0_dead 53 = .ok (.goto (-36), 3) := dk_167 255 220 (dk_at dksX0_dead_2 9 rfl rfl)
theorem dX0_dead_56 : decode cX0_dead 56 = .ok (.iload_n 1, 1) := dk_27 (dk_at dksX0_dead_2 12 rfl rfl)
theorem dX0_dead_57 : decode cX0_dead 57 = .ok (.ireturn, 1) := dk_172 (dk_at dksX0_dead_2 13 rfl rfl)
abbrev cX0_clashes : ByteArray := prog_1_method_43_code
def yX0_clashes : MethodName := ⟨RX0, "clashes", "(II)I"⟩
def dkwX0_clashes_4 : List UInt8 := [153, 0, 7, 3, 167, 0, 4, 4, 96, 62, 132, 4, 1, 167, 255, 173, 29, 172]
abbrev dktX0_clashes_4 : List UInt8 := dkwX0_clashes_4 ++ []
def dkwX0_clashes_3 : List UInt8 := [180, 0, 143, 42, 21, 4, 42, 27, 21, 4, 182, 1, 61, 42, 28, 21, 4, 182, 1, 61, 182, 1, 67, 51]
abbrev dktX0_clashes_3 : List UInt8 := dkwX0_clashes_3 ++ dktX0_clashes_4
def dkwX0_clashes_2 : List UInt8 := [182, 1, 61, 2, 159, 0, 53, 42, 28, 21, 4, 182, 1, 61, 2, 160, 0, 6, 167, 0, 39, 29, 42]
abbrev dktX0_clashes_2 : List UInt8 := dkwX0_clashes_2 ++ dktX0_clashes_3
def dkwX0_clashes_1 : List UInt8 := [21, 4, 42, 182, 0, 237, 162, 0, 80, 42, 180, 0, 143, 21, 4, 51, 153, 0, 64, 42, 27, 21, 4]
abbrev dktX0_clashes_1 : List UInt8 := dkwX0_clashes_1 ++ dktX0_clashes_2
def dkwX0_clashes_0 : List UInt8 := [42, 27, 182, 0, 234, 153, 0, 11, 42, 28, 182, 0, 234, 154, 0, 6, 16, 254, 172, 3, 62, 3, 54, 4]
abbrev dktX0_clashes_0 : List UInt8 := dkwX0_clashes_0 ++ dktX0_clashes_1
theorem dksX0_clashes_0 : cX0_clashes.data.toList.drop 0 = dktX0_clashes_0 := by decide +kernel
theorem dksX0_clashes_1 : cX0_clashes.data.toList.drop 24 = dktX0_clashes_1 := dk_seg dksX0_clashes_0 24 rfl rfl
theorem dksX0_clashes_2 : cX0_clashes.data.toList.drop 47 = dktX0_clashes_2 := dk_seg dksX0_clashes_1 23 rfl rfl
theorem dksX0_clashes_3 : cX0_clashes.data.toList.drop 70 = dktX0_clashes_3 := dk_seg dksX0_clashes_2 23 rfl rfl
theorem dksX0_clashes_4 : cX0_clashes.data.toList.drop 94 = dktX0_clashes_4 := dk_seg dksX0_clashes_3 24 rfl rfl
theorem dX0_clashes_0 : decode cX0_clashes 0 = .ok (.aload_n 0, 1) := dk_42 (dk_at dksX0_clashes_0 0 rfl rfl)
theorem dX0_clashes_1 : decode cX0_clashes 1 = .ok (.iload_n 1, 1) := dk_27 (dk_at dksX0_clashes_0 1 rfl rfl)
theorem dX0_clashes_2 : decode cX0_clashes 2 = .ok (.invokevirtual 234, 3) := dk_182 0 234 (dk_at dksX0_clashes_0 2 rfl rfl)
theorem dX0_clashes_5 : decode cX0_clashes 5 = .ok (.ifCond .eq 11, 3) := dk_153 0 11 (dk_at dksX0_clashes_0 5 rfl rfl)
theorem dX0_clashes_8 : decode cX0_clashes 8 = .ok (.aload_n 0, 1) := dk_42 (dk_at dksX0_clashes_0 8 rfl rfl)
theorem dX0_clashes_9 : decode cX0_clashes 9 = .ok (.iload_n 2, 1) := dk_28 (dk_at dksX0_clashes_0 9 rfl rfl)
theorem dX0_clashes_10 : decode cX0_clashes 10 = .ok (.invokevirtual 234, 3) := dk_182 0 234 (dk_at dksX0_clashes_0 10 rfl rfl)
theorem dX0_clashes_13 : decode cX0_clashes 13 = .ok (.ifCond .ne 6, 3) := dk_154 0 6 (dk_at dksX0_clashes_0 13 rfl rfl)
theorem dX0_clashes_16 : decode cX0_clashes 16 = .ok (.bipush (-2), 2) := dk_16 254 (dk_at dksX0_clashes_0 16 rfl rfl)
theorem dX0_clashes_18 : decode cX0_clashes 18 = .ok (.ireturn, 1) := dk_172 (dk_at dksX0_clashes_0 18 rfl rfl)
theorem dX0_clashes_19 : decode cX0_clashes 19 = .ok (.iconst 0, 1) := dk_3 (dk_at dksX0_clashes_0 19 rfl rfl)
theorem dX0_clashes_20 : decode cX0_clashes 20 = .ok (.istore_n 3, 1) := dk_62 (dk_at dksX0_clashes_0 20 rfl rfl)
theorem dX0_clashes_21 : decode cX0_clashes 21 = .ok (.iconst 0, 1) := dk_3 (dk_at dksX0_clashes_0 21 rfl rfl)
theorem dX0_clashes_22 : decode cX0_clashes 22 = .ok (.istore 4, 2) := dk_54 4 (dk_at dksX0_clashes_0 22 rfl rfl)
theorem dX0_clashes_24 : decode cX0_clashes 24 = .ok (.iload 4, 2) := dk_21 4 (dk_at dksX0_clashes_1 0 rfl rfl)
theorem dX0_clashes_26 : decode cX0_clashes 26 = .ok (.aload_n 0, 1) := dk_42 (dk_at dksX0_clashes_1 2 rfl rfl)
theorem dX0_clashes_27 : decode cX0_clashes 27 = .ok (.invokevirtual 237, 3) := dk_182 0 237 (dk_at dksX0_clashes_1 3 rfl rfl)
theorem dX0_clashes_30 : decode cX0_clashes 30 = .ok (.if_icmp .ge 80, 3) := dk_162 0 80 (dk_at dksX0_clashes_1 6 rfl rfl)
theorem dX0_clashes_33 : decode cX0_clashes 33 = .ok (.aload_n 0, 1) := dk_42 (dk_at dksX0_clashes_1 9 rfl rfl)
theorem dX0_clashes_34 : decode cX0_clashes 34 = .ok (.getfield 143, 3) := dk_180 0 143 (dk_at dksX0_clashes_1 10 rfl rfl)
theorem dX0_clashes_37 : decode cX0_clashes 37 = .ok (.iload 4, 2) := dk_21 4 (dk_at dksX0_clashes_1 13 rfl rfl)
theorem dX0_clashes_39 : decode cX0_clashes 39 = .ok (.baload, 1) := dk_51 (dk_at dksX0_clashes_1 15 rfl rfl)
theorem dX0_clashes_40 : decode cX0_clashes 40 = .ok (.ifCond .eq 64, 3) := dk_153 0 64 (dk_at dksX0_clashes_1 16 rfl rfl)
theorem dX0_clashes_43 : decode cX0_clashes 43 = .ok (.aload_n 0, 1) := dk_42 (dk_at dksX0_clashes_1 19 rfl rfl)
theorem dX0_clashes_44 : decode cX0_clashes 44 = .ok (.iload_n 1, 1) := dk_27 (dk_at dksX0_clashes_1 20 rfl rfl)
theorem dX0_clashes_45 : decode cX0_clashes 45 = .ok (.iload 4, 2) := dk_21 4 (dk_at dksX0_clashes_1 21 rfl rfl)
theorem dX0_clashes_47 : decode cX0_clashes 47 = .ok (.invokevirtual 317, 3) := dk_182 1 61 (dk_at dksX0_clashes_2 0 rfl rfl)
theorem dX0_clashes_50 : decode cX0_clashes 50 = .ok (.iconst (-1), 1) := dk_2 (dk_at dksX0_clashes_2 3 rfl rfl)
theorem dX0_clashes_51 : decode cX0_clashes 51 = .ok (.if_icmp .eq 53, 3) := dk_159 0 53 (dk_at dksX0_clashes_2 4 rfl rfl)
theorem dX0_clashes_54 : decode cX0_clashes 54 = .ok (.aload_n 0, 1) := dk_42 (dk_at dksX0_clashes_2 7 rfl rfl)
theorem dX0_clashes_55 : decode cX0_clashes 55 = .ok (.iload_n 2, 1) := dk_28 (dk_at dksX0_clashes_2 8 rfl rfl)
theorem dX0_clashes_56 : decode cX0_clashes 56 = .ok (.iload 4, 2) := dk_21 4 (dk_at dksX0_clashes_2 9 rfl rfl)
theorem dX0_clashes_58 : decode cX0_clashes 58 = .ok (.invokevirtual 317, 3) := dk_182 1 61 (dk_at dksX0_clashes_2 11 rfl rfl)
theorem dX0_clashes_61 : decode cX0_clashes 61 = .ok (.iconst (-1), 1) := dk_2 (dk_at dksX0_clashes_2 14 rfl rfl)
theorem dX0_clashes_62 : decode cX0_clashes 62 = .ok (.if_icmp .ne 6, 3) := dk_160 0 6 (dk_at dksX0_clashes_2 15 rfl rfl)
theorem dX0_clashes_65 : decode cX0_clashes 65 = .ok (.goto 39, 3) := dk_167 0 39 (dk_at dksX0_clashes_2 18 rfl rfl)
theorem dX0_clashes_68 : decode cX0_clashes 68 = .ok (.iload_n 3, 1) := dk_29 (dk_at dksX0_clashes_2 21 rfl rfl)
theorem dX0_clashes_69 : decode cX0_clashes 69 = .ok (.aload_n 0, 1) := dk_42 (dk_at dksX0_clashes_2 22 rfl rfl)
theorem dX0_clashes_70 : decode cX0_clashes 70 = .ok (.getfield 143, 3) := dk_180 0 143 (dk_at dksX0_clashes_3 0 rfl rfl)
theorem dX0_clashes_73 : decode cX0_clashes 73 = .ok (.aload_n 0, 1) := dk_42 (dk_at dksX0_clashes_3 3 rfl rfl)
theorem dX0_clashes_74 : decode cX0_clashes 74 = .ok (.iload 4, 2) := dk_21 4 (dk_at dksX0_clashes_3 4 rfl rfl)
theorem dX0_clashes_76 : decode cX0_clashes 76 = .ok (.aload_n 0, 1) := dk_42 (dk_at dksX0_clashes_3 6 rfl rfl)
theorem dX0_clashes_77 : decode cX0_clashes 77 = .ok (.iload_n 1, 1) := dk_27 (dk_at dksX0_clashes_3 7 rfl rfl)
theorem dX0_clashes_78 : decode cX0_clashes 78 = .ok (.iload 4, 2) := dk_21 4 (dk_at dksX0_clashes_3 8 rfl rfl)
theorem dX0_clashes_80 : decode cX0_clashes 80 = .ok (.invokevirtual 317, 3) := dk_182 1 61 (dk_at dksX0_clashes_3 10 rfl rfl)
theorem dX0_clashes_83 : decode cX0_clashes 83 = .ok (.aload_n 0, 1) := dk_42 (dk_at dksX0_clashes_3 13 rfl rfl)
theorem dX0_clashes_84 : decode cX0_clashes 84 = .ok (.iload_n 2, 1) := dk_28 (dk_at dksX0_clashes_3 14 rfl rfl)
theorem dX0_clashes_85 : decode cX0_clashes 85 = .ok (.iload 4, 2) := dk_21 4 (dk_at dksX0_clashes_3 15 rfl rfl)
theorem dX0_clashes_87 : decode cX0_clashes 87 = .ok (.invokevirtual 317, 3) := dk_182 1 61 (dk_at dksX0_clashes_3 17 rfl rfl)
theorem dX0_clashes_90 : decode cX0_clashes 90 = .ok (.invokevirtual 323, 3) := dk_182 1 67 (dk_at dksX0_clashes_3 20 rfl rfl)
theorem dX0_clashes_93 : decode cX0_clashes 93 = .ok (.baload, 1) := dk_51 (dk_at dksX0_clashes_3 23 rfl rfl)
theorem dX0_clashes_94 : decode cX0_clashes 94 = .ok (.ifCond .eq 7, 3) := dk_153 0 7 (dk_at dksX0_clashes_4 0 rfl rfl)
theorem dX0_clashes_97 : decode cX0_clashes 97 = .ok (.iconst 0, 1) := dk_3 (dk_at dksX0_clashes_4 3 rfl rfl)
theorem dX0_clashes_98 : decode cX0_clashes 98 = .ok (.goto 4, 3) := dk_167 0 4 (dk_at dksX0_clashes_4 4 rfl rfl)
theorem dX0_clashes_101 : decode cX0_clashes 101 = .ok (.iconst 1, 1) := dk_4 (dk_at dksX0_clashes_4 7 rfl rfl)
theorem dX0_clashes_102 : decode cX0_clashes 102 = .ok (.iadd, 1) := dk_96 (dk_at dksX0_clashes_4 8 rfl rfl)
theorem dX0_clashes_103 : decode cX0_clashes 103 = .ok (.istore_n 3, 1) := dk_62 (dk_at dksX0_clashes_4 9 rfl rfl)
theorem dX0_clashes_104 : decode cX0_clashes 104 = .ok (.iinc 4 1, 3) := dk_132 4 1 (dk_at dksX0_clashes_4 10 rfl rfl)
theorem dX0_clashes_107 : decode cX0_clashes 107 = .ok (.goto (-83), 3) := dk_167 255 173 (dk_at dksX0_clashes_4 13 rfl rfl)
theorem dX0_clashes_110 : decode cX0_clashes 110 = .ok (.iload_n 3, 1) := dk_29 (dk_at dksX0_clashes_4 16 rfl rfl)
theorem dX0_clashes_111 : decode cX0_clashes 111 = .ok (.ireturn, 1) := dk_172 (dk_at dksX0_clashes_4 17 rfl rfl)
abbrev cX0_isOp : ByteArray := prog_1_method_22_code
def yX0_isOp : MethodName := ⟨RX0, "isOp", "(I)Z"⟩
def dkwX0_isOp_0 : List UInt8 := [27, 133, 9, 42, 180, 0, 46, 180, 0, 231, 185, 0, 225, 1, 0, 4, 100, 133, 184, 0, 11, 172]
abbrev dktX0_isOp_0 : List UInt8 := dkwX0_isOp_0 ++ []
theorem dksX0_isOp_0 : cX0_isOp.data.toList.drop 0 = dktX0_isOp_0 := by decide +kernel
theorem dX0_isOp_0 : decode cX0_isOp 0 = .ok (.iload_n 1, 1) := dk_27 (dk_at dksX0_isOp_0 0 rfl rfl)
theorem dX0_isOp_1 : decode cX0_isOp 1 = .ok (.i2l, 1) := dk_133 (dk_at dksX0_isOp_0 1 rfl rfl)
theorem dX0_isOp_2 : decode cX0_isOp 2 = .ok (.lconst 0, 1) := dk_9 (dk_at dksX0_isOp_0 2 rfl rfl)
theorem dX0_isOp_3 : decode cX0_isOp 3 = .ok (.aload_n 0, 1) := dk_42 (dk_at dksX0_isOp_0 3 rfl rfl)
theorem dX0_isOp_4 : decode cX0_isOp 4 = .ok (.getfield 46, 3) := dk_180 0 46 (dk_at dksX0_isOp_0 4 rfl rfl)
theorem dX0_isOp_7 : decode cX0_isOp 7 = .ok (.getfield 231, 3) := dk_180 0 231 (dk_at dksX0_isOp_0 7 rfl rfl)
theorem dX0_isOp_10 : decode cX0_isOp 10 = .ok (.invokeinterface 225 1, 5) := by decide +kernel
theorem dX0_isOp_15 : decode cX0_isOp 15 = .ok (.iconst 1, 1) := dk_4 (dk_at dksX0_isOp_0 15 rfl rfl)
theorem dX0_isOp_16 : decode cX0_isOp 16 = .ok (.isub, 1) := dk_100 (dk_at dksX0_isOp_0 16 rfl rfl)
theorem dX0_isOp_17 : decode cX0_isOp 17 = .ok (.i2l, 1) := dk_133 (dk_at dksX0_isOp_0 17 rfl rfl)
theorem dX0_isOp_18 : decode cX0_isOp 18 = .ok (.invokestatic 11, 3) := dk_184 0 11 (dk_at dksX0_isOp_0 18 rfl rfl)
theorem dX0_isOp_21 : decode cX0_isOp 21 = .ok (.ireturn, 1) := dk_172 (dk_at dksX0_isOp_0 21 rfl rfl)
abbrev cX0_nearest : ByteArray := prog_1_method_44_code
def yX0_nearest : MethodName := ⟨RX0, "nearest", "(I)I"⟩
def dkwX0_nearest_4 : List UInt8 := [161, 0, 6, 167, 0, 9, 21, 4, 61, 21, 5, 62, 132, 4, 1, 167, 255, 167, 28, 172]
abbrev dktX0_nearest_4 : List UInt8 := dkwX0_nearest_4 ++ []
def dkwX0_nearest_3 : List UInt8 := [3, 96, 54, 5, 132, 6, 1, 167, 255, 213, 42, 180, 0, 143, 21, 4, 51, 153, 0, 18, 21, 5, 29]
abbrev dktX0_nearest_3 : List UInt8 := dkwX0_nearest_3 ++ dktX0_nearest_4
def dkwX0_nearest_2 : List UInt8 := [21, 5, 42, 21, 4, 21, 6, 182, 0, 243, 42, 27, 21, 6, 182, 0, 243, 159, 0, 7, 4, 167, 0, 4]
abbrev dktX0_nearest_2 : List UInt8 := dkwX0_nearest_2 ++ dktX0_nearest_3
def dkwX0_nearest_1 : List UInt8 := [182, 0, 237, 162, 0, 86, 3, 54, 5, 3, 54, 6, 21, 6, 42, 180, 0, 46, 180, 0, 219, 162, 0, 37]
abbrev dktX0_nearest_1 : List UInt8 := dkwX0_nearest_1 ++ dktX0_nearest_2
def dkwX0_nearest_0 : List UInt8 := [42, 27, 133, 182, 1, 51, 154, 0, 6, 16, 254, 172, 2, 61, 19, 1, 70, 62, 3, 54, 4, 21, 4, 42]
abbrev dktX0_nearest_0 : List UInt8 := dkwX0_nearest_0 ++ dktX0_nearest_1
theorem dksX0_nearest_0 : cX0_nearest.data.toList.drop 0 = dktX0_nearest_0 := by decide +kernel
theorem dksX0_nearest_1 : cX0_nearest.data.toList.drop 24 = dktX0_nearest_1 := dk_seg dksX0_nearest_0 24 rfl rfl
theorem dksX0_nearest_2 : cX0_nearest.data.toList.drop 48 = dktX0_nearest_2 := dk_seg dksX0_nearest_1 24 rfl rfl
theorem dksX0_nearest_3 : cX0_nearest.data.toList.drop 72 = dktX0_nearest_3 := dk_seg dksX0_nearest_2 24 rfl rfl
theorem dksX0_nearest_4 : cX0_nearest.data.toList.drop 95 = dktX0_nearest_4 := dk_seg dksX0_nearest_3 23 rfl rfl
theorem dX0_nearest_0 : decode cX0_nearest 0 = .ok (.aload_n 0, 1) := dk_42 (dk_at dksX0_nearest_0 0 rfl rfl)
theorem dX0_nearest_1 : decode cX0_nearest 1 = .ok (.iload_n 1, 1) := dk_27 (dk_at dksX0_nearest_0 1 rfl rfl)
theorem dX0_nearest_2 : decode cX0_nearest 2 = .ok (.i2l, 1) := dk_133 (dk_at dksX0_nearest_0 2 rfl rfl)
theorem dX0_nearest_3 : decode cX0_nearest 3 = .ok (.invokevirtual 307, 3) := dk_182 1 51 (dk_at dksX0_nearest_0 3 rfl rfl)
theorem dX0_nearest_6 : decode cX0_nearest 6 = .ok (.ifCond .ne 6, 3) := dk_154 0 6 (dk_at dksX0_nearest_0 6 rfl rfl)
theorem dX0_nearest_9 : decode cX0_nearest 9 = .ok (.bipush (-2), 2) := dk_16 254 (dk_at dksX0_nearest_0 9 rfl rfl)
theorem dX0_nearest_11 : decode cX0_nearest 11 = .ok (.ireturn, 1) := dk_172 (dk_at dksX0_nearest_0 11 rfl rfl)
theorem dX0_nearest_12 : decode cX0_nearest 12 = .ok (.iconst (-1), 1) := dk_2 (dk_at dksX0_nearest_0 12 rfl rfl)
theorem dX0_nearest_13 : decode cX0_nearest 13 = .ok (.istore_n 2, 1) := dk_61 (dk_at dksX0_nearest_0 13 rfl rfl)
theorem dX0_nearest_14 : decode cX0_nearest 14 = .ok (.ldc_w 326, 3) := dk_19 1 70 (dk_at dksX0_nearest_0 14 rfl rfl)
theorem dX0_nearest_17 : decode cX0_nearest 17 = .ok (.istore_n 3, 1) := dk_62 (dk_at dksX0_nearest_0 17 rfl rfl)
theorem dX0_nearest_18 : decode cX0_nearest 18 = .ok (.iconst 0, 1) := dk_3 (dk_at dksX0_nearest_0 18 rfl rfl)
theorem dX0_nearest_19 : decode cX0_nearest 19 = .ok (.istore 4, 2) := dk_54 4 (dk_at dksX0_nearest_0 19 rfl rfl)
theorem dX0_nearest_21 : decode cX0_nearest 21 = .ok (.iload 4, 2) := dk_21 4 (dk_at dksX0_nearest_0 21 rfl rfl)
theorem dX0_nearest_23 : decode cX0_nearest 23 = .ok (.aload_n 0, 1) := dk_42 (dk_at dksX0_nearest_0 23 rfl rfl)
theorem dX0_nearest_24 : decode cX0_nearest 24 = .ok (.invokevirtual 237, 3) := dk_182 0 237 (dk_at dksX0_nearest_1 0 rfl rfl)
theorem dX0_nearest_27 : decode cX0_nearest 27 = .ok (.if_icmp .ge 86, 3) := dk_162 0 86 (dk_at dksX0_nearest_1 3 rfl rfl)
theorem dX0_nearest_30 : decode cX0_nearest 30 = .ok (.iconst 0, 1) := dk_3 (dk_at dksX0_nearest_1 6 rfl rfl)
theorem dX0_nearest_31 : decode cX0_nearest 31 = .ok (.istore 5, 2) := dk_54 5 (dk_at dksX0_nearest_1 7 rfl rfl)
theorem dX0_nearest_33 : decode cX0_nearest 33 = .ok (.iconst 0, 1) := dk_3 (dk_at dksX0_nearest_1 9 rfl rfl)
theorem dX0_nearest_34 : decode cX0_nearest 34 = .ok (.istore 6, 2) := dk_54 6 (dk_at dksX0_nearest_1 10 rfl rfl)
theorem dX0_nearest_36 : decode cX0_nearest 36 = .ok (.iload 6, 2) := dk_21 6 (dk_at dksX0_nearest_1 12 rfl rfl)
theorem dX0_nearest_38 : decode cX0_nearest 38 = .ok (.aload_n 0, 1) := dk_42 (dk_at dksX0_nearest_1 14 rfl rfl)
theorem dX0_nearest_39 : decode cX0_nearest 39 = .ok (.getfield 46, 3) := dk_180 0 46 (dk_at dksX0_nearest_1 15 rfl rfl)
theorem dX0_nearest_42 : decode cX0_nearest 42 = .ok (.getfield 219, 3) := dk_180 0 219 (dk_at dksX0_nearest_1 18 rfl rfl)
theorem dX0_nearest_45 : decode cX0_nearest 45 = .ok (.if_icmp .ge 37, 3) := dk_162 0 37 (dk_at dksX0_nearest_1 21 rfl rfl)
theorem dX0_nearest_48 : decode cX0_nearest 48 = .ok (.iload 5, 2) := dk_21 5 (dk_at dksX0_nearest_2 0 rfl rfl)
theorem dX0_nearest_50 : decode cX0_nearest 50 = .ok (.aload_n 0, 1) := dk_42 (dk_at dksX0_nearest_2 2 rfl rfl)
theorem dX0_nearest_51 : decode cX0_nearest 51 = .ok (.iload 4, 2) := dk_21 4 (dk_at dksX0_nearest_2 3 rfl rfl)
theorem dX0_nearest_53 : decode cX0_nearest 53 = .ok (.iload 6, 2) := dk_21 6 (dk_at dksX0_nearest_2 5 rfl rfl)
theorem dX0_nearest_55 : decode cX0_nearest 55 = .ok (.invokevirtual 243, 3) := dk_182 0 243 (dk_at dksX0_nearest_2 7 rfl rfl)
theorem dX0_nearest_58 : decode cX0_nearest 58 = .ok (.aload_n 0, 1) := dk_42 (dk_at dksX0_nearest_2 10 rfl rfl)
theorem dX0_nearest_59 : decode cX0_nearest 59 = .ok (.iload_n 1, 1) := dk_27 (dk_at dksX0_nearest_2 11 rfl rfl)
theorem dX0_nearest_60 : decode cX0_nearest 60 = .ok (.iload 6, 2) := dk_21 6 (dk_at dksX0_nearest_2 12 rfl rfl)
theorem dX0_nearest_62 : decode cX0_nearest 62 = .ok (.invokevirtual 243, 3) := dk_182 0 243 (dk_at dksX0_nearest_2 14 rfl rfl)
theorem dX0_nearest_65 : decode cX0_nearest 65 = .ok (.if_icmp .eq 7, 3) := dk_159 0 7 (dk_at dksX0_nearest_2 17 rfl rfl)
theorem dX0_nearest_68 : decode cX0_nearest 68 = .ok (.iconst 1, 1) := dk_4 (dk_at dksX0_nearest_2 20 rfl rfl)
theorem dX0_nearest_69 : decode cX0_nearest 69 = .ok (.goto 4, 3) := dk_167 0 4 (dk_at dksX0_nearest_2 21 rfl rfl)
theorem dX0_nearest_72 : decode cX0_nearest 72 = .ok (.iconst 0, 1) := dk_3 (dk_at dksX0_nearest_3 0 rfl rfl)
theorem dX0_nearest_73 : decode cX0_nearest 73 = .ok (.iadd, 1) := dk_96 (dk_at dksX0_nearest_3 1 rfl rfl)
theorem dX0_nearest_74 : decode cX0_nearest 74 = .ok (.istore 5, 2) := dk_54 5 (dk_at dksX0_nearest_3 2 rfl rfl)
theorem dX0_nearest_76 : decode cX0_nearest 76 = .ok (.iinc 6 1, 3) := dk_132 6 1 (dk_at dksX0_nearest_3 4 rfl rfl)
theorem dX0_nearest_79 : decode cX0_nearest 79 = .ok (.goto (-43), 3) := dk_167 255 213 (dk_at dksX0_nearest_3 7 rfl rfl)
theorem dX0_nearest_82 : decode cX0_nearest 82 = .ok (.aload_n 0, 1) := dk_42 (dk_at dksX0_nearest_3 10 rfl rfl)
theorem dX0_nearest_83 : decode cX0_nearest 83 = .ok (.getfield 143, 3) := dk_180 0 143 (dk_at dksX0_nearest_3 11 rfl rfl)
theorem dX0_nearest_86 : decode cX0_nearest 86 = .ok (.iload 4, 2) := dk_21 4 (dk_at dksX0_nearest_3 14 rfl rfl)
theorem dX0_nearest_88 : decode cX0_nearest 88 = .ok (.baload, 1) := dk_51 (dk_at dksX0_nearest_3 16 rfl rfl)
theorem dX0_nearest_89 : decode cX0_nearest 89 = .ok (.ifCond .eq 18, 3) := dk_153 0 18 (dk_at dksX0_nearest_3 17 rfl rfl)
theorem dX0_nearest_92 : decode cX0_nearest 92 = .ok (.iload 5, 2) := dk_21 5 (dk_at dksX0_nearest_3 20 rfl rfl)
theorem dX0_nearest_94 : decode cX0_nearest 94 = .ok (.iload_n 3, 1) := dk_29 (dk_at dksX0_nearest_3 22 rfl rfl)
theorem dX0_nearest_95 : decode cX0_nearest 95 = .ok (.if_icmp .lt 6, 3) := dk_161 0 6 (dk_at dksX0_nearest_4 0 rfl rfl)
theorem dX0_nearest_98 : decode cX0_nearest 98 = .ok (.goto 9, 3) := dk_167 0 9 (dk_at dksX0_nearest_4 3 rfl rfl)
theorem dX0_nearest_101 : decode cX0_nearest 101 = .ok (.iload 4, 2) := dk_21 4 (dk_at dksX0_nearest_4 6 rfl rfl)
theorem dX0_nearest_103 : decode cX0_nearest 103 = .ok (.istore_n 2, 1) := dk_61 (dk_at dksX0_nearest_4 8 rfl rfl)
theorem dX0_nearest_104 : decode cX0_nearest 104 = .ok (.iload 5, 2) := dk_21 5 (dk_at dksX0_nearest_4 9 rfl rfl)
theorem dX0_nearest_106 : decode cX0_nearest 106 = .ok (.istore_n 3, 1) := dk_62 (dk_at dksX0_nearest_4 11 rfl rfl)
theorem dX0_nearest_107 : decode cX0_nearest 107 = .ok (.iinc 4 1, 3) := dk_132 4 1 (dk_at dksX0_nearest_4 12 rfl rfl)
theorem dX0_nearest_110 : decode cX0_nearest 110 = .ok (.goto (-89), 3) := dk_167 255 167 (dk_at dksX0_nearest_4 15 rfl rfl)
theorem dX0_nearest_113 : decode cX0_nearest 113 = .ok (.iload_n 2, 1) := dk_28 (dk_at dksX0_nearest_4 18 rfl rfl)
theorem dX0_nearest_114 : decode cX0_nearest 114 = .ok (.ireturn, 1) := dk_172 (dk_at dksX0_nearest_4 19 rfl rfl)
abbrev cX0_hard : ByteArray := prog_1_method_46_code
def yX0_hard : MethodName := ⟨RX0, "hard", "()I"⟩
def dkwX0_hard_3 : List UInt8 := [132, 2, 1, 167, 255, 201, 27, 172]
abbrev dktX0_hard_3 : List UInt8 := dkwX0_hard_3 ++ []
def dkwX0_hard_2 : List UInt8 := [180, 1, 29, 182, 1, 71, 42, 42, 180, 0, 133, 27, 50, 180, 1, 29, 182, 1, 71, 164, 0, 5, 28, 60]
abbrev dktX0_hard_2 : List UInt8 := dkwX0_hard_2 ++ dktX0_hard_3
def dkwX0_hard_1 : List UInt8 := [180, 0, 222, 185, 0, 225, 1, 0, 162, 0, 45, 27, 2, 159, 0, 32, 42, 42, 180, 0, 133, 28, 50]
abbrev dktX0_hard_1 : List UInt8 := dkwX0_hard_1 ++ dktX0_hard_2
def dkwX0_hard_0 : List UInt8 := [42, 180, 0, 46, 182, 0, 200, 154, 0, 6, 16, 254, 172, 2, 60, 3, 61, 28, 42, 180, 0, 46]
abbrev dktX0_hard_0 : List UInt8 := dkwX0_hard_0 ++ dktX0_hard_1
theorem dksX0_hard_0 : cX0_hard.data.toList.drop 0 = dktX0_hard_0 := by decide +kernel
theorem dksX0_hard_1 : cX0_hard.data.toList.drop 22 = dktX0_hard_1 := dk_seg dksX0_hard_0 22 rfl rfl
theorem dksX0_hard_2 : cX0_hard.data.toList.drop 45 = dktX0_hard_2 := dk_seg dksX0_hard_1 23 rfl rfl
theorem dksX0_hard_3 : cX0_hard.data.toList.drop 69 = dktX0_hard_3 := dk_seg dksX0_hard_2 24 rfl rfl
theorem dX0_hard_0 : decode cX0_hard 0 = .ok (.aload_n 0, 1) := dk_42 (dk_at dksX0_hard_0 0 rfl rfl)
theorem dX0_hard_1 : decode cX0_hard 1 = .ok (.getfield 46, 3) := dk_180 0 46 (dk_at dksX0_hard_0 1 rfl rfl)
theorem dX0_hard_4 : decode cX0_hard 4 = .ok (.invokevirtual 200, 3) := dk_182 0 200 (dk_at dksX0_hard_0 4 rfl rfl)
theorem dX0_hard_7 : decode cX0_hard 7 = .ok (.ifCond .ne 6, 3) := dk_154 0 6 (dk_at dksX0_hard_0 7 rfl rfl)
theorem dX0_hard_10 : decode cX0_hard 10 = .ok (.bipush (-2), 2) := dk_16 254 (dk_at dksX0_hard_0 10 rfl rfl)
theorem dX0_hard_12 : decode cX0_hard 12 = .ok (.ireturn, 1) := dk_172 (dk_at dksX0_hard_0 12 rfl rfl)
theorem dX0_hard_13 : decode cX0_hard 13 = .ok (.iconst (-1), 1) := dk_2 (dk_at dksX0_hard_0 13 rfl rfl)
theorem dX0_hard_14 : decode cX0_hard 14 = .ok (.istore_n 1, 1) := dk_60 (dk_at dksX0_hard_0 14 rfl rfl)
theorem dX0_hard_15 : decode cX0_hard 15 = .ok (.iconst 0, 1) := dk_3 (dk_at dksX0_hard_0 15 rfl rfl)
theorem dX0_hard_16 : decode cX0_hard 16 = .ok (.istore_n 2, 1) := dk_61 (dk_at dksX0_hard_0 16 rfl rfl)
theorem dX0_hard_17 : decode cX0_hard 17 = .ok (.iload_n 2, 1) := dk_28 (dk_at dksX0_hard_0 17 rfl rfl)
theorem dX0_hard_18 : decode cX0_hard 18 = .ok (.aload_n 0, 1) := dk_42 (dk_at dksX0_hard_0 18 rfl rfl)
theorem dX0_hard_19 : decode cX0_hard 19 = .ok (.getfield 46, 3) := dk_180 0 46 (dk_at dksX0_hard_0 19 rfl rfl)
theorem dX0_hard_22 : decode cX0_hard 22 = .ok (.getfield 222, 3) := dk_180 0 222 (dk_at dksX0_hard_1 0 rfl rfl)
theorem dX0_hard_25 : decode cX0_hard 25 = .ok (.invokeinterface 225 1, 5) := by decide +kernel
theorem dX0_hard_30 : decode cX0_hard 30 = .ok (.if_icmp .ge 45, 3) := dk_162 0 45 (dk_at dksX0_hard_1 8 rfl rfl)
theorem dX0_hard_33 : decode cX0_hard 33 = .ok (.iload_n 1, 1) := dk_27 (dk_at dksX0_hard_1 11 rfl rfl)
theorem dX0_hard_34 : decode cX0_hard 34 = .ok (.iconst (-1), 1) := dk_2 (dk_at dksX0_hard_1 12 rfl rfl)
theorem dX0_hard_35 : decode cX0_hard 35 = .ok (.if_icmp .eq 32, 3) := dk_159 0 32 (dk_at dksX0_hard_1 13 rfl rfl)
theorem dX0_hard_38 : decode cX0_hard 38 = .ok (.aload_n 0, 1) := dk_42 (dk_at dksX0_hard_1 16 rfl rfl)
theorem dX0_hard_39 : decode cX0_hard 39 = .ok (.aload_n 0, 1) := dk_42 (dk_at dksX0_hard_1 17 rfl rfl)
theorem dX0_hard_40 : decode cX0_hard 40 = .ok (.getfield 133, 3) := dk_180 0 133 (dk_at dksX0_hard_1 18 rfl rfl)
theorem dX0_hard_43 : decode cX0_hard 43 = .ok (.iload_n 2, 1) := dk_28 (dk_at dksX0_hard_1 21 rfl rfl)
theorem dX0_hard_44 : decode cX0_hard 44 = .ok (.aaload, 1) := dk_50 (dk_at dksX0_hard_1 22 rfl rfl)
theorem dX0_hard_45 : decode cX0_hard 45 = .ok (.getfield 285, 3) := dk_180 1 29 (dk_at dksX0_hard_2 0 rfl rfl)
theorem dX0_hard_48 : decode cX0_hard 48 = .ok (.invokevirtual 327, 3) := dk_182 1 71 (dk_at dksX0_hard_2 3 rfl rfl)
theorem dX0_hard_51 : decode cX0_hard 51 = .ok (.aload_n 0, 1) := dk_42 (dk_at dksX0_hard_2 6 rfl rfl)
theorem dX0_hard_52 : decode cX0_hard 52 = .ok (.aload_n 0, 1) := dk_42 (dk_at dksX0_hard_2 7 rfl rfl)
theorem dX0_hard_53 : decode cX0_hard 53 = .ok (.getfield 133, 3) := dk_180 0 133 (dk_at dksX0_hard_2 8 rfl rfl)
theorem dX0_hard_56 : decode cX0_hard 56 = .ok (.iload_n 1, 1) := dk_27 (dk_at dksX0_hard_2 11 rfl rfl)
theorem dX0_hard_57 : decode cX0_hard 57 = .ok (.aaload, 1) := dk_50 (dk_at dksX0_hard_2 12 rfl rfl)
theorem dX0_hard_58 : decode cX0_hard 58 = .ok (.getfield 285, 3) := dk_180 1 29 (dk_at dksX0_hard_2 13 rfl rfl)
theorem dX0_hard_61 : decode cX0_hard 61 = .ok (.invokevirtual 327, 3) := dk_182 1 71 (dk_at dksX0_hard_2 16 rfl rfl)
theorem dX0_hard_64 : decode cX0_hard 64 = .ok (.if_icmp .le 5, 3) := dk_164 0 5 (dk_at dksX0_hard_2 19 rfl rfl)
theorem dX0_hard_67 : decode cX0_hard 67 = .ok (.iload_n 2, 1) := dk_28 (dk_at dksX0_hard_2 22 rfl rfl)
theorem dX0_hard_68 : decode cX0_hard 68 = .ok (.istore_n 1, 1) := dk_60 (dk_at dksX0_hard_2 23 rfl rfl)
theorem dX0_hard_69 : decode cX0_hard 69 = .ok (.iinc 2 1, 3) := dk_132 2 1 (dk_at dksX0_hard_3 0 rfl rfl)
theorem dX0_hard_72 : decode cX0_hard 72 = .ok (.goto (-55), 3) := dk_167 255 201 (dk_at dksX0_hard_3 3 rfl rfl)
theorem dX0_hard_75 : decode cX0_hard 75 = .ok (.iload_n 1, 1) := dk_27 (dk_at dksX0_hard_3 6 rfl rfl)
theorem dX0_hard_76 : decode cX0_hard 76 = .ok (.ireturn, 1) := dk_172 (dk_at dksX0_hard_3 7 rfl rfl)
abbrev cX0_brokenBy : ByteArray := prog_1_method_45_code
def yX0_brokenBy : MethodName := ⟨RX0, "brokenBy", "(LMergeJudge$Rule;)I"⟩
def dkwX0_brokenBy_1 : List UInt8 := [167, 0, 4, 4, 96, 61, 132, 3, 1, 167, 255, 227, 28, 172]
abbrev dktX0_brokenBy_1 : List UInt8 := dkwX0_brokenBy_1 ++ []
def dkwX0_brokenBy_0 : List UInt8 := [3, 61, 3, 62, 29, 42, 182, 0, 237, 162, 0, 27, 28, 43, 29, 185, 1, 33, 2, 0, 153, 0, 7, 3]
abbrev dktX0_brokenBy_0 : List UInt8 := dkwX0_brokenBy_0 ++ dktX0_brokenBy_1
theorem dksX0_brokenBy_0 : cX0_brokenBy.data.toList.drop 0 = dktX0_brokenBy_0 := by decide +kernel
theorem dksX0_brokenBy_1 : cX0_brokenBy.data.toList.drop 24 = dktX0_brokenBy_1 := dk_seg dksX0_brokenBy_0 24 rfl rfl
theorem dX0_brokenBy_0 : decode cX0_brokenBy 0 = .ok (.iconst 0, 1) := dk_3 (dk_at dksX0_brokenBy_0 0 rfl rfl)
theorem dX0_brokenBy_1 : decode cX0_brokenBy 1 = .ok (.istore_n 2, 1) := dk_61 (dk_at dksX0_brokenBy_0 1 rfl rfl)
theorem dX0_brokenBy_2 : decode cX0_brokenBy 2 = .ok (.iconst 0, 1) := dk_3 (dk_at dksX0_brokenBy_0 2 rfl rfl)
theorem dX0_brokenBy_3 : decode cX0_brokenBy 3 = .ok (.istore_n 3, 1) := dk_62 (dk_at dksX0_brokenBy_0 3 rfl rfl)
theorem dX0_brokenBy_4 : decode cX0_brokenBy 4 = .ok (.iload_n 3, 1) := dk_29 (dk_at dksX0_brokenBy_0 4 rfl rfl)
theorem dX0_brokenBy_5 : decode cX0_brokenBy 5 = .ok (.aload_n 0, 1) := dk_42 (dk_at dksX0_brokenBy_0 5 rfl rfl)
theorem dX0_brokenBy_6 : decode cX0_brokenBy 6 = .ok (.invokevirtual 237, 3) := dk_182 0 237 (dk_at dksX0_brokenBy_0 6 rfl rfl)
theorem dX0_brokenBy_9 : decode cX0_brokenBy 9 = .ok (.if_icmp .ge 27, 3) := dk_162 0 27 (dk_at dksX0_brokenBy_0 9 rfl rfl)
theorem dX0_brokenBy_12 : decode cX0_brokenBy 12 = .ok (.iload_n 2, 1) := dk_28 (dk_at dksX0_brokenBy_0 12 rfl rfl)
theorem dX0_brokenBy_13 : decode cX0_brokenBy 13 = .ok (.aload_n 1, 1) := dk_43 (dk_at dksX0_brokenBy_0 13 rfl rfl)
theorem dX0_brokenBy_14 : decode cX0_brokenBy 14 = .ok (.iload_n 3, 1) := dk_29 (dk_at dksX0_brokenBy_0 14 rfl rfl)
theorem dX0_brokenBy_15 : decode cX0_brokenBy 15 = .ok (.invokeinterface 289 2, 5) := by decide +kernel
theorem dX0_brokenBy_20 : decode cX0_brokenBy 20 = .ok (.ifCond .eq 7, 3) := dk_153 0 7 (dk_at dksX0_brokenBy_0 20 rfl rfl)
theorem dX0_brokenBy_23 : decode cX0_brokenBy 23 = .ok (.iconst 0, 1) := dk_3 (dk_at dksX0_brokenBy_0 23 rfl rfl)
theorem dX0_brokenBy_24 : decode cX0_brokenBy 24 = .ok (.goto 4, 3) := dk_167 0 4 (dk_at dksX0_brokenBy_1 0 rfl rfl)
theorem dX0_brokenBy_27 : decode cX0_brokenBy 27 = .ok (.iconst 1, 1) := dk_4 (dk_at dksX0_brokenBy_1 3 rfl rfl)
theorem dX0_brokenBy_28 : decode cX0_brokenBy 28 = .ok (.iadd, 1) := dk_96 (dk_at dksX0_brokenBy_1 4 rfl rfl)
theorem dX0_brokenBy_29 : decode cX0_brokenBy 29 = .ok (.istore_n 2, 1) := dk_61 (dk_at dksX0_brokenBy_1 5 rfl rfl)
theorem dX0_brokenBy_30 : decode cX0_brokenBy 30 = .ok (.iinc 3 1, 3) := dk_132 3 1 (dk_at dksX0_brokenBy_1 6 rfl rfl)
theorem dX0_brokenBy_33 : decode cX0_brokenBy 33 = .ok (.goto (-29), 3) := dk_167 255 227 (dk_at dksX0_brokenBy_1 9 rfl rfl)
theorem dX0_brokenBy_36 : decode cX0_brokenBy 36 = .ok (.iload_n 2, 1) := dk_28 (dk_at dksX0_brokenBy_1 12 rfl rfl)
theorem dX0_brokenBy_37 : decode cX0_brokenBy 37 = .ok (.ireturn, 1) := dk_172 (dk_at dksX0_brokenBy_1 13 rfl rfl)
abbrev cX0_spare : ByteArray := prog_1_method_47_code
def yX0_spare : MethodName := ⟨RX0, "spare", "(I)I"⟩
def dkwX0_spare_1 : List UInt8 := [186, 1, 81, 0, 0, 182, 1, 84, 42, 182, 1, 88, 160, 0, 7, 4, 167, 0, 4, 3, 172]
abbrev dktX0_spare_1 : List UInt8 := dkwX0_spare_1 ++ []
def dkwX0_spare_0 : List UInt8 := [42, 27, 182, 1, 75, 154, 0, 6, 16, 254, 172, 42, 42, 182, 1, 78, 4, 27, 120, 2, 130, 126, 42]
abbrev dktX0_spare_0 : List UInt8 := dkwX0_spare_0 ++ dktX0_spare_1
theorem dksX0_spare_0 : cX0_spare.data.toList.drop 0 = dktX0_spare_0 := by decide +kernel
theorem dksX0_spare_1 : cX0_spare.data.toList.drop 23 = dktX0_spare_1 := dk_seg dksX0_spare_0 23 rfl rfl
theorem dX0_spare_0 : decode cX0_spare 0 = .ok (.aload_n 0, 1) := dk_42 (dk_at dksX0_spare_0 0 rfl rfl)
theorem dX0_spare_1 : decode cX0_spare 1 = .ok (.iload_n 1, 1) := dk_27 (dk_at dksX0_spare_0 1 rfl rfl)
theorem dX0_spare_2 : decode cX0_spare 2 = .ok (.invokevirtual 331, 3) := dk_182 1 75 (dk_at dksX0_spare_0 2 rfl rfl)
theorem dX0_spare_5 : decode cX0_spare 5 = .ok (.ifCond .ne 6, 3) := dk_154 0 6 (dk_at dksX0_spare_0 5 rfl rfl)
theorem dX0_spare_8 : decode cX0_spare 8 = .ok (.bipush (-2), 2) := dk_16 254 (dk_at dksX0_spare_0 8 rfl rfl)
theorem dX0_spare_10 : decode cX0_spare 10 = .ok (.ireturn, 1) := dk_172 (dk_at dksX0_spare_0 10 rfl rfl)
theorem dX0_spare_11 : decode cX0_spare 11 = .ok (.aload_n 0, 1) := dk_42 (dk_at dksX0_spare_0 11 rfl rfl)
theorem dX0_spare_12 : decode cX0_spare 12 = .ok (.aload_n 0, 1) := dk_42 (dk_at dksX0_spare_0 12 rfl rfl)
theorem dX0_spare_13 : decode cX0_spare 13 = .ok (.invokevirtual 334, 3) := dk_182 1 78 (dk_at dksX0_spare_0 13 rfl rfl)
theorem dX0_spare_16 : decode cX0_spare 16 = .ok (.iconst 1, 1) := dk_4 (dk_at dksX0_spare_0 16 rfl rfl)
theorem dX0_spare_17 : decode cX0_spare 17 = .ok (.iload_n 1, 1) := dk_27 (dk_at dksX0_spare_0 17 rfl rfl)
theorem dX0_spare_18 : decode cX0_spare 18 = .ok (.ishl, 1) := dk_120 (dk_at dksX0_spare_0 18 rfl rfl)
theorem dX0_spare_19 : decode cX0_spare 19 = .ok (.iconst (-1), 1) := dk_2 (dk_at dksX0_spare_0 19 rfl rfl)
theorem dX0_spare_20 : decode cX0_spare 20 = .ok (.ixor, 1) := dk_130 (dk_at dksX0_spare_0 20 rfl rfl)
theorem dX0_spare_21 : decode cX0_spare 21 = .ok (.iand, 1) := dk_126 (dk_at dksX0_spare_0 21 rfl rfl)
theorem dX0_spare_22 : decode cX0_spare 22 = .ok (.aload_n 0, 1) := dk_42 (dk_at dksX0_spare_0 22 rfl rfl)
theorem dX0_spare_23 : decode cX0_spare 23 = .ok (.invokedynamic 337, 5) := by decide +kernel
theorem dX0_spare_28 : decode cX0_spare 28 = .ok (.invokevirtual 340, 3) := dk_182 1 84 (dk_at dksX0_spare_1 5 rfl rfl)
theorem dX0_spare_31 : decode cX0_spare 31 = .ok (.aload_n 0, 1) := dk_42 (dk_at dksX0_spare_1 8 rfl rfl)
theorem dX0_spare_32 : decode cX0_spare 32 = .ok (.invokevirtual 344, 3) := dk_182 1 88 (dk_at dksX0_spare_1 9 rfl rfl)
theorem dX0_spare_35 : decode cX0_spare 35 = .ok (.if_icmp .ne 7, 3) := dk_160 0 7 (dk_at dksX0_spare_1 12 rfl rfl)
theorem dX0_spare_38 : decode cX0_spare 38 = .ok (.iconst 1, 1) := dk_4 (dk_at dksX0_spare_1 15 rfl rfl)
theorem dX0_spare_39 : decode cX0_spare 39 = .ok (.goto 4, 3) := dk_167 0 4 (dk_at dksX0_spare_1 16 rfl rfl)
theorem dX0_spare_42 : decode cX0_spare 42 = .ok (.iconst 0, 1) := dk_3 (dk_at dksX0_spare_1 19 rfl rfl)
theorem dX0_spare_43 : decode cX0_spare 43 = .ok (.ireturn, 1) := dk_172 (dk_at dksX0_spare_1 20 rfl rfl)
abbrev cX0_isRule : ByteArray := prog_1_method_21_code
def yX0_isRule : MethodName := ⟨RX0, "isRule", "(I)Z"⟩
def dkwX0_isRule_0 : List UInt8 := [27, 133, 9, 42, 180, 0, 46, 180, 0, 222, 185, 0, 225, 1, 0, 4, 100, 133, 184, 0, 11, 172]
abbrev dktX0_isRule_0 : List UInt8 := dkwX0_isRule_0 ++ []
theorem dksX0_isRule_0 : cX0_isRule.data.toList.drop 0 = dktX0_isRule_0 := by decide +kernel
theorem dX0_isRule_0 : decode cX0_isRule 0 = .ok (.iload_n 1, 1) := dk_27 (dk_at dksX0_isRule_0 0 rfl rfl)
theorem dX0_isRule_1 : decode cX0_isRule 1 = .ok (.i2l, 1) := dk_133 (dk_at dksX0_isRule_0 1 rfl rfl)
theorem dX0_isRule_2 : decode cX0_isRule 2 = .ok (.lconst 0, 1) := dk_9 (dk_at dksX0_isRule_0 2 rfl rfl)
theorem dX0_isRule_3 : decode cX0_isRule 3 = .ok (.aload_n 0, 1) := dk_42 (dk_at dksX0_isRule_0 3 rfl rfl)
theorem dX0_isRule_4 : decode cX0_isRule 4 = .ok (.getfield 46, 3) := dk_180 0 46 (dk_at dksX0_isRule_0 4 rfl rfl)
theorem dX0_isRule_7 : decode cX0_isRule 7 = .ok (.getfield 222, 3) := dk_180 0 222 (dk_at dksX0_isRule_0 7 rfl rfl)
theorem dX0_isRule_10 : decode cX0_isRule 10 = .ok (.invokeinterface 225 1, 5) := by decide +kernel
theorem dX0_isRule_15 : decode cX0_isRule 15 = .ok (.iconst 1, 1) := dk_4 (dk_at dksX0_isRule_0 15 rfl rfl)
theorem dX0_isRule_16 : decode cX0_isRule 16 = .ok (.isub, 1) := dk_100 (dk_at dksX0_isRule_0 16 rfl rfl)
theorem dX0_isRule_17 : decode cX0_isRule 17 = .ok (.i2l, 1) := dk_133 (dk_at dksX0_isRule_0 17 rfl rfl)
theorem dX0_isRule_18 : decode cX0_isRule 18 = .ok (.invokestatic 11, 3) := dk_184 0 11 (dk_at dksX0_isRule_0 18 rfl rfl)
theorem dX0_isRule_21 : decode cX0_isRule 21 = .ok (.ireturn, 1) := dk_172 (dk_at dksX0_isRule_0 21 rfl rfl)
abbrev cX0_every : ByteArray := prog_1_method_93_code
def yX0_every : MethodName := ⟨RX0, "every", "()I"⟩
def dkwX0_every_0 : List UInt8 := [4, 42, 180, 0, 46, 180, 0, 222, 185, 0, 225, 1, 0, 120, 4, 100, 172]
abbrev dktX0_every_0 : List UInt8 := dkwX0_every_0 ++ []
theorem dksX0_every_0 : cX0_every.data.toList.drop 0 = dktX0_every_0 := by decide +kernel
theorem dX0_every_0 : decode cX0_every 0 = .ok (.iconst 1, 1) := dk_4 (dk_at dksX0_every_0 0 rfl rfl)
theorem dX0_every_1 : decode cX0_every 1 = .ok (.aload_n 0, 1) := dk_42 (dk_at dksX0_every_0 1 rfl rfl)
theorem dX0_every_2 : decode cX0_every 2 = .ok (.getfield 46, 3) := dk_180 0 46 (dk_at dksX0_every_0 2 rfl rfl)
theorem dX0_every_5 : decode cX0_every 5 = .ok (.getfield 222, 3) := dk_180 0 222 (dk_at dksX0_every_0 5 rfl rfl)
theorem dX0_every_8 : decode cX0_every 8 = .ok (.invokeinterface 225 1, 5) := by decide +kernel
theorem dX0_every_13 : decode cX0_every 13 = .ok (.ishl, 1) := dk_120 (dk_at dksX0_every_0 13 rfl rfl)
theorem dX0_every_14 : decode cX0_every 14 = .ok (.iconst 1, 1) := dk_4 (dk_at dksX0_every_0 14 rfl rfl)
theorem dX0_every_15 : decode cX0_every 15 = .ok (.isub, 1) := dk_100 (dk_at dksX0_every_0 15 rfl rfl)
theorem dX0_every_16 : decode cX0_every 16 = .ok (.ireturn, 1) := dk_172 (dk_at dksX0_every_0 16 rfl rfl)
abbrev cX0_validsNow : ByteArray := prog_1_method_65_code
def yX0_validsNow : MethodName := ⟨RX0, "validsNow", "()I"⟩
def dkwX0_validsNow_1 : List UInt8 := [167, 0, 4, 3, 96, 60, 132, 2, 1, 167, 255, 228, 27, 172]
abbrev dktX0_validsNow_1 : List UInt8 := dkwX0_validsNow_1 ++ []
def dkwX0_validsNow_0 : List UInt8 := [3, 60, 3, 61, 28, 42, 182, 0, 237, 162, 0, 26, 27, 42, 180, 0, 143, 28, 51, 153, 0, 7, 4]
abbrev dktX0_validsNow_0 : List UInt8 := dkwX0_validsNow_0 ++ dktX0_validsNow_1
theorem dksX0_validsNow_0 : cX0_validsNow.data.toList.drop 0 = dktX0_validsNow_0 := by decide +kernel
theorem dksX0_validsNow_1 : cX0_validsNow.data.toList.drop 23 = dktX0_validsNow_1 := dk_seg dksX0_validsNow_0 23 rfl rfl
theorem dX0_validsNow_0 : decode cX0_validsNow 0 = .ok (.iconst 0, 1) := dk_3 (dk_at dksX0_validsNow_0 0 rfl rfl)
theorem dX0_validsNow_1 : decode cX0_validsNow 1 = .ok (.istore_n 1, 1) := dk_60 (dk_at dksX0_validsNow_0 1 rfl rfl)
theorem dX0_validsNow_2 : decode cX0_validsNow 2 = .ok (.iconst 0, 1) := dk_3 (dk_at dksX0_validsNow_0 2 rfl rfl)
theorem dX0_validsNow_3 : decode cX0_validsNow 3 = .ok (.istore_n 2, 1) := dk_61 (dk_at dksX0_validsNow_0 3 rfl rfl)
theorem dX0_validsNow_4 : decode cX0_validsNow 4 = .ok (.iload_n 2, 1) := dk_28 (dk_at dksX0_validsNow_0 4 rfl rfl)
theorem dX0_validsNow_5 : decode cX0_validsNow 5 = .ok (.aload_n 0, 1) := dk_42 (dk_at dksX0_validsNow_0 5 rfl rfl)
theorem dX0_validsNow_6 : decode cX0_validsNow 6 = .ok (.invokevirtual 237, 3) := dk_182 0 237 (dk_at dksX0_validsNow_0 6 rfl rfl)
theorem dX0_validsNow_9 : decode cX0_validsNow 9 = .ok (.if_icmp .ge 26, 3) := dk_162 0 26 (dk_at dksX0_validsNow_0 9 rfl rfl)
theorem dX0_validsNow_12 : decode cX0_validsNow 12 = .ok (.iload_n 1, 1) := dk_27 (dk_at dksX0_validsNow_0 12 rfl rfl)
theorem dX0_validsNow_13 : decode cX0_validsNow 13 = .ok (.aload_n 0, 1) := dk_42 (dk_at dksX0_validsNow_0 13 rfl rfl)
theorem dX0_validsNow_14 : decode cX0_validsNow 14 = .ok (.getfield 143, 3) := dk_180 0 143 (dk_at dksX0_validsNow_0 14 rfl rfl)
theorem dX0_validsNow_17 : decode cX0_validsNow 17 = .ok (.iload_n 2, 1) := dk_28 (dk_at dksX0_validsNow_0 17 rfl rfl)
theorem dX0_validsNow_18 : decode cX0_validsNow 18 = .ok (.baload, 1) := dk_51 (dk_at dksX0_validsNow_0 18 rfl rfl)
theorem dX0_validsNow_19 : decode cX0_validsNow 19 = .ok (.ifCond .eq 7, 3) := dk_153 0 7 (dk_at dksX0_validsNow_0 19 rfl rfl)
theorem dX0_validsNow_22 : decode cX0_validsNow 22 = .ok (.iconst 1, 1) := dk_4 (dk_at dksX0_validsNow_0 22 rfl rfl)
theorem dX0_validsNow_23 : decode cX0_validsNow 23 = .ok (.goto 4, 3) := dk_167 0 4 (dk_at dksX0_validsNow_1 0 rfl rfl)
theorem dX0_validsNow_26 : decode cX0_validsNow 26 = .ok (.iconst 0, 1) := dk_3 (dk_at dksX0_validsNow_1 3 rfl rfl)
theorem dX0_validsNow_27 : decode cX0_validsNow 27 = .ok (.iadd, 1) := dk_96 (dk_at dksX0_validsNow_1 4 rfl rfl)
theorem dX0_validsNow_28 : decode cX0_validsNow 28 = .ok (.istore_n 1, 1) := dk_60 (dk_at dksX0_validsNow_1 5 rfl rfl)
theorem dX0_validsNow_29 : decode cX0_validsNow 29 = .ok (.iinc 2 1, 3) := dk_132 2 1 (dk_at dksX0_validsNow_1 6 rfl rfl)
theorem dX0_validsNow_32 : decode cX0_validsNow 32 = .ok (.goto (-28), 3) := dk_167 255 228 (dk_at dksX0_validsNow_1 9 rfl rfl)
theorem dX0_validsNow_35 : decode cX0_validsNow 35 = .ok (.iload_n 1, 1) := dk_27 (dk_at dksX0_validsNow_1 12 rfl rfl)
theorem dX0_validsNow_36 : decode cX0_validsNow 36 = .ok (.ireturn, 1) := dk_172 (dk_at dksX0_validsNow_1 13 rfl rfl)
abbrev cX0_under : ByteArray := prog_1_method_94_code
def yX0_under : MethodName := ⟨RX0, "under", "(ILMergeJudge$Answer;)I"⟩
def dkwX0_under_1 : List UInt8 := [185, 1, 172, 1, 0, 62, 42, 42, 180, 0, 46, 180, 1, 15, 182, 1, 18, 29, 172]
abbrev dktX0_under_1 : List UInt8 := dkwX0_under_1 ++ []
def dkwX0_under_0 : List UInt8 := [42, 42, 182, 1, 78, 27, 2, 130, 126, 42, 180, 0, 46, 180, 1, 15, 128, 182, 1, 18, 44]
abbrev dktX0_under_0 : List UInt8 := dkwX0_under_0 ++ dktX0_under_1
theorem dksX0_under_0 : cX0_under.data.toList.drop 0 = dktX0_under_0 := by decide +kernel
theorem dksX0_under_1 : cX0_under.data.toList.drop 21 = dktX0_under_1 := dk_seg dksX0_under_0 21 rfl rfl
theorem dX0_under_0 : decode cX0_under 0 = .ok (.aload_n 0, 1) := dk_42 (dk_at dksX0_under_0 0 rfl rfl)
theorem dX0_under_1 : decode cX0_under 1 = .ok (.aload_n 0, 1) := dk_42 (dk_at dksX0_under_0 1 rfl rfl)
theorem dX0_under_2 : decode cX0_under 2 = .ok (.invokevirtual 334, 3) := dk_182 1 78 (dk_at dksX0_under_0 2 rfl rfl)
theorem dX0_under_5 : decode cX0_under 5 = .ok (.iload_n 1, 1) := dk_27 (dk_at dksX0_under_0 5 rfl rfl)
theorem dX0_under_6 : decode cX0_under 6 = .ok (.iconst (-1), 1) := dk_2 (dk_at dksX0_under_0 6 rfl rfl)
theorem dX0_under_7 : decode cX0_under 7 = .ok (.ixor, 1) := dk_130 (dk_at dksX0_under_0 7 rfl rfl)
theorem dX0_under_8 : decode cX0_under 8 = .ok (.iand, 1) := dk_126 (dk_at dksX0_under_0 8 rfl rfl)
theorem dX0_under_9 : decode cX0_under 9 = .ok (.aload_n 0, 1) := dk_42 (dk_at dksX0_under_0 9 rfl rfl)
theorem dX0_under_10 : decode cX0_under 10 = .ok (.getfield 46, 3) := dk_180 0 46 (dk_at dksX0_under_0 10 rfl rfl)
theorem dX0_under_13 : decode cX0_under 13 = .ok (.getfield 271, 3) := dk_180 1 15 (dk_at dksX0_under_0 13 rfl rfl)
theorem dX0_under_16 : decode cX0_under 16 = .ok (.ior, 1) := dk_128 (dk_at dksX0_under_0 16 rfl rfl)
theorem dX0_under_17 : decode cX0_under 17 = .ok (.invokevirtual 274, 3) := dk_182 1 18 (dk_at dksX0_under_0 17 rfl rfl)
theorem dX0_under_20 : decode cX0_under 20 = .ok (.aload_n 2, 1) := dk_44 (dk_at dksX0_under_0 20 rfl rfl)
theorem dX0_under_21 : decode cX0_under 21 = .ok (.invokeinterface 428 1, 5) := by decide +kernel
theorem dX0_under_26 : decode cX0_under 26 = .ok (.istore_n 3, 1) := dk_62 (dk_at dksX0_under_1 5 rfl rfl)
theorem dX0_under_27 : decode cX0_under 27 = .ok (.aload_n 0, 1) := dk_42 (dk_at dksX0_under_1 6 rfl rfl)
theorem dX0_under_28 : decode cX0_under 28 = .ok (.aload_n 0, 1) := dk_42 (dk_at dksX0_under_1 7 rfl rfl)
theorem dX0_under_29 : decode cX0_under 29 = .ok (.getfield 46, 3) := dk_180 0 46 (dk_at dksX0_under_1 8 rfl rfl)
theorem dX0_under_32 : decode cX0_under 32 = .ok (.getfield 271, 3) := dk_180 1 15 (dk_at dksX0_under_1 11 rfl rfl)
theorem dX0_under_35 : decode cX0_under 35 = .ok (.invokevirtual 274, 3) := dk_182 1 18 (dk_at dksX0_under_1 14 rfl rfl)
theorem dX0_under_38 : decode cX0_under 38 = .ok (.iload_n 3, 1) := dk_29 (dk_at dksX0_under_1 17 rfl rfl)
theorem dX0_under_39 : decode cX0_under 39 = .ok (.ireturn, 1) := dk_172 (dk_at dksX0_under_1 18 rfl rfl)
abbrev cX0_room : ByteArray := prog_1_method_48_code
def yX0_room : MethodName := ⟨RX0, "room", "(I)I"⟩
def dkwX0_room_2 : List UInt8 := [132, 3, 1, 167, 255, 221, 28, 172]
abbrev dktX0_room_2 : List UInt8 := dkwX0_room_2 ++ []
def dkwX0_room_1 : List UInt8 := [42, 180, 0, 143, 29, 51, 153, 0, 14, 4, 42, 29, 27, 182, 0, 243, 120, 167, 0, 4, 3, 128, 61]
abbrev dktX0_room_1 : List UInt8 := dkwX0_room_1 ++ dktX0_room_2
def dkwX0_room_0 : List UInt8 := [42, 27, 182, 1, 91, 154, 0, 6, 16, 254, 172, 3, 61, 3, 62, 29, 42, 182, 0, 237, 162, 0, 33, 28]
abbrev dktX0_room_0 : List UInt8 := dkwX0_room_0 ++ dktX0_room_1
theorem dksX0_room_0 : cX0_room.data.toList.drop 0 = dktX0_room_0 := by decide +kernel
theorem dksX0_room_1 : cX0_room.data.toList.drop 24 = dktX0_room_1 := dk_seg dksX0_room_0 24 rfl rfl
theorem dksX0_room_2 : cX0_room.data.toList.drop 47 = dktX0_room_2 := dk_seg dksX0_room_1 23 rfl rfl
theorem dX0_room_0 : decode cX0_room 0 = .ok (.aload_n 0, 1) := dk_42 (dk_at dksX0_room_0 0 rfl rfl)
theorem dX0_room_1 : decode cX0_room 1 = .ok (.iload_n 1, 1) := dk_27 (dk_at dksX0_room_0 1 rfl rfl)
theorem dX0_room_2 : decode cX0_room 2 = .ok (.invokevirtual 347, 3) := dk_182 1 91 (dk_at dksX0_room_0 2 rfl rfl)
theorem dX0_room_5 : decode cX0_room 5 = .ok (.ifCond .ne 6, 3) := dk_154 0 6 (dk_at dksX0_room_0 5 rfl rfl)
theorem dX0_room_8 : decode cX0_room 8 = .ok (.bipush (-2), 2) := dk_16 254 (dk_at dksX0_room_0 8 rfl rfl)
theorem dX0_room_10 : decode cX0_room 10 = .ok (.ireturn, 1) := dk_172 (dk_at dksX0_room_0 10 rfl rfl)
theorem dX0_room_11 : decode cX0_room 11 = .ok (.iconst 0, 1) := dk_3 (dk_at dksX0_room_0 11 rfl rfl)
theorem dX0_room_12 : decode cX0_room 12 = .ok (.istore_n 2, 1) := dk_61 (dk_at dksX0_room_0 12 rfl rfl)
theorem dX0_room_13 : decode cX0_room 13 = .ok (.iconst 0, 1) := dk_3 (dk_at dksX0_room_0 13 rfl rfl)
theorem dX0_room_14 : decode cX0_room 14 = .ok (.istore_n 3, 1) := dk_62 (dk_at dksX0_room_0 14 rfl rfl)
theorem dX0_room_15 : decode cX0_room 15 = .ok (.iload_n 3, 1) := dk_29 (dk_at dksX0_room_0 15 rfl rfl)
theorem dX0_room_16 : decode cX0_room 16 = .ok (.aload_n 0, 1) := dk_42 (dk_at dksX0_room_0 16 rfl rfl)
theorem dX0_room_17 : decode cX0_room 17 = .ok (.invokevirtual 237, 3) := dk_182 0 237 (dk_at dksX0_room_0 17 rfl rfl)
theorem dX0_room_20 : decode cX0_room 20 = .ok (.if_icmp .ge 33, 3) := dk_162 0 33 (dk_at dksX0_room_0 20 rfl rfl)
theorem dX0_room_23 : decode cX0_room 23 = .ok (.iload_n 2, 1) := dk_28 (dk_at dksX0_room_0 23 rfl rfl)
theorem dX0_room_24 : decode cX0_room 24 = .ok (.aload_n 0, 1) := dk_42 (dk_at dksX0_room_1 0 rfl rfl)
theorem dX0_room_25 : decode cX0_room 25 = .ok (.getfield 143, 3) := dk_180 0 143 (dk_at dksX0_room_1 1 rfl rfl)
theorem dX0_room_28 : decode cX0_room 28 = .ok (.iload_n 3, 1) := dk_29 (dk_at dksX0_room_1 4 rfl rfl)
theorem dX0_room_29 : decode cX0_room 29 = .ok (.baload, 1) := dk_51 (dk_at dksX0_room_1 5 rfl rfl)
theorem dX0_room_30 : decode cX0_room 30 = .ok (.ifCond .eq 14, 3) := dk_153 0 14 (dk_at dksX0_room_1 6 rfl rfl)
theorem dX0_room_33 : decode cX0_room 33 = .ok (.iconst 1, 1) := dk_4 (dk_at dksX0_room_1 9 rfl rfl)
theorem dX0_room_34 : decode cX0_room 34 = .ok (.aload_n 0, 1) := dk_42 (dk_at dksX0_room_1 10 rfl rfl)
theorem dX0_room_35 : decode cX0_room 35 = .ok (.iload_n 3, 1) := dk_29 (dk_at dksX0_room_1 11 rfl rfl)
theorem dX0_room_36 : decode cX0_room 36 = .ok (.iload_n 1, 1) := dk_27 (dk_at dksX0_room_1 12 rfl rfl)
theorem dX0_room_37 : decode cX0_room 37 = .ok (.invokevirtual 243, 3) := dk_182 0 243 (dk_at dksX0_room_1 13 rfl rfl)
theorem dX0_room_40 : decode cX0_room 40 = .ok (.ishl, 1) := dk_120 (dk_at dksX0_room_1 16 rfl rfl)
theorem dX0_room_41 : decode cX0_room 41 = .ok (.goto 4, 3) := dk_167 0 4 (dk_at dksX0_room_1 17 rfl rfl)
theorem dX0_room_44 : decode cX0_room 44 = .ok (.iconst 0, 1) := dk_3 (dk_at dksX0_room_1 20 rfl rfl)
theorem dX0_room_45 : decode cX0_room 45 = .ok (.ior, 1) := dk_128 (dk_at dksX0_room_1 21 rfl rfl)
theorem dX0_room_46 : decode cX0_room 46 = .ok (.istore_n 2, 1) := dk_61 (dk_at dksX0_room_1 22 rfl rfl)
theorem dX0_room_47 : decode cX0_room 47 = .ok (.iinc 3 1, 3) := dk_132 3 1 (dk_at dksX0_room_2 0 rfl rfl)
theorem dX0_room_50 : decode cX0_room 50 = .ok (.goto (-35), 3) := dk_167 255 221 (dk_at dksX0_room_2 3 rfl rfl)
theorem dX0_room_53 : decode cX0_room 53 = .ok (.iload_n 2, 1) := dk_28 (dk_at dksX0_room_2 6 rfl rfl)
theorem dX0_room_54 : decode cX0_room 54 = .ok (.ireturn, 1) := dk_172 (dk_at dksX0_room_2 7 rfl rfl)
abbrev cX0_isCell : ByteArray := prog_1_method_20_code
def yX0_isCell : MethodName := ⟨RX0, "isCell", "(I)Z"⟩
def dkwX0_isCell_0 : List UInt8 := [27, 133, 9, 42, 180, 0, 46, 180, 0, 219, 4, 100, 133, 184, 0, 11, 172]
abbrev dktX0_isCell_0 : List UInt8 := dkwX0_isCell_0 ++ []
theorem dksX0_isCell_0 : cX0_isCell.data.toList.drop 0 = dktX0_isCell_0 := by decide +kernel
theorem dX0_isCell_0 : decode cX0_isCell 0 = .ok (.iload_n 1, 1) := dk_27 (dk_at dksX0_isCell_0 0 rfl rfl)
theorem dX0_isCell_1 : decode cX0_isCell 1 = .ok (.i2l, 1) := dk_133 (dk_at dksX0_isCell_0 1 rfl rfl)
theorem dX0_isCell_2 : decode cX0_isCell 2 = .ok (.lconst 0, 1) := dk_9 (dk_at dksX0_isCell_0 2 rfl rfl)
theorem dX0_isCell_3 : decode cX0_isCell 3 = .ok (.aload_n 0, 1) := dk_42 (dk_at dksX0_isCell_0 3 rfl rfl)
theorem dX0_isCell_4 : decode cX0_isCell 4 = .ok (.getfield 46, 3) := dk_180 0 46 (dk_at dksX0_isCell_0 4 rfl rfl)
theorem dX0_isCell_7 : decode cX0_isCell 7 = .ok (.getfield 219, 3) := dk_180 0 219 (dk_at dksX0_isCell_0 7 rfl rfl)
theorem dX0_isCell_10 : decode cX0_isCell 10 = .ok (.iconst 1, 1) := dk_4 (dk_at dksX0_isCell_0 10 rfl rfl)
theorem dX0_isCell_11 : decode cX0_isCell 11 = .ok (.isub, 1) := dk_100 (dk_at dksX0_isCell_0 11 rfl rfl)
theorem dX0_isCell_12 : decode cX0_isCell 12 = .ok (.i2l, 1) := dk_133 (dk_at dksX0_isCell_0 12 rfl rfl)
theorem dX0_isCell_13 : decode cX0_isCell 13 = .ok (.invokestatic 11, 3) := dk_184 0 11 (dk_at dksX0_isCell_0 13 rfl rfl)
theorem dX0_isCell_16 : decode cX0_isCell 16 = .ok (.ireturn, 1) := dk_172 (dk_at dksX0_isCell_0 16 rfl rfl)
abbrev cX0_asked : ByteArray := prog_1_method_49_code
def yX0_asked : MethodName := ⟨RX0, "asked", "(II)I"⟩
def dkwX0_asked_2 : List UInt8 := [180, 0, 152, 180, 1, 97, 42, 180, 0, 156, 180, 1, 97, 100, 62, 29, 29, 4, 96, 104, 5, 108, 172]
abbrev dktX0_asked_2 : List UInt8 := dkwX0_asked_2 ++ []
def dkwX0_asked_1 : List UInt8 := [27, 28, 3, 182, 1, 94, 87, 42, 180, 0, 156, 27, 28, 42, 180, 1, 14, 182, 1, 94, 87, 42]
abbrev dktX0_asked_1 : List UInt8 := dkwX0_asked_1 ++ dktX0_asked_2
def dkwX0_asked_0 : List UInt8 := [42, 27, 133, 182, 1, 51, 153, 0, 11, 42, 28, 182, 1, 55, 154, 0, 6, 16, 254, 172, 42, 180, 0, 152]
abbrev dktX0_asked_0 : List UInt8 := dkwX0_asked_0 ++ dktX0_asked_1
theorem dksX0_asked_0 : cX0_asked.data.toList.drop 0 = dktX0_asked_0 := by decide +kernel
theorem dksX0_asked_1 : cX0_asked.data.toList.drop 24 = dktX0_asked_1 := dk_seg dksX0_asked_0 24 rfl rfl
theorem dksX0_asked_2 : cX0_asked.data.toList.drop 46 = dktX0_asked_2 := dk_seg dksX0_asked_1 22 rfl rfl
theorem dX0_asked_0 : decode cX0_asked 0 = .ok (.aload_n 0, 1) := dk_42 (dk_at dksX0_asked_0 0 rfl rfl)
theorem dX0_asked_1 : decode cX0_asked 1 = .ok (.iload_n 1, 1) := dk_27 (dk_at dksX0_asked_0 1 rfl rfl)
theorem dX0_asked_2 : decode cX0_asked 2 = .ok (.i2l, 1) := dk_133 (dk_at dksX0_asked_0 2 rfl rfl)
theorem dX0_asked_3 : decode cX0_asked 3 = .ok (.invokevirtual 307, 3) := dk_182 1 51 (dk_at dksX0_asked_0 3 rfl rfl)
theorem dX0_asked_6 : decode cX0_asked 6 = .ok (.ifCond .eq 11, 3) := dk_153 0 11 (dk_at dksX0_asked_0 6 rfl rfl)
theorem dX0_asked_9 : decode cX0_asked 9 = .ok (.aload_n 0, 1) := dk_42 (dk_at dksX0_asked_0 9 rfl rfl)
theorem dX0_asked_10 : decode cX0_asked 10 = .ok (.iload_n 2, 1) := dk_28 (dk_at dksX0_asked_0 10 rfl rfl)
theorem dX0_asked_11 : decode cX0_asked 11 = .ok (.invokevirtual 311, 3) := dk_182 1 55 (dk_at dksX0_asked_0 11 rfl rfl)
theorem dX0_asked_14 : decode cX0_asked 14 = .ok (.ifCond .ne 6, 3) := dk_154 0 6 (dk_at dksX0_asked_0 14 rfl rfl)
theorem dX0_asked_17 : decode cX0_asked 17 = .ok (.bipush (-2), 2) := dk_16 254 (dk_at dksX0_asked_0 17 rfl rfl)
theorem dX0_asked_19 : decode cX0_asked 19 = .ok (.ireturn, 1) := dk_172 (dk_at dksX0_asked_0 19 rfl rfl)
theorem dX0_asked_20 : decode cX0_asked 20 = .ok (.aload_n 0, 1) := dk_42 (dk_at dksX0_asked_0 20 rfl rfl)
theorem dX0_asked_21 : decode cX0_asked 21 = .ok (.getfield 152, 3) := dk_180 0 152 (dk_at dksX0_asked_0 21 rfl rfl)
theorem dX0_asked_24 : decode cX0_asked 24 = .ok (.iload_n 1, 1) := dk_27 (dk_at dksX0_asked_1 0 rfl rfl)
theorem dX0_asked_25 : decode cX0_asked 25 = .ok (.iload_n 2, 1) := dk_28 (dk_at dksX0_asked_1 1 rfl rfl)
theorem dX0_asked_26 : decode cX0_asked 26 = .ok (.iconst 0, 1) := dk_3 (dk_at dksX0_asked_1 2 rfl rfl)
theorem dX0_asked_27 : decode cX0_asked 27 = .ok (.invokevirtual 350, 3) := dk_182 1 94 (dk_at dksX0_asked_1 3 rfl rfl)
theorem dX0_asked_30 : decode cX0_asked 30 = .ok (.pop, 1) := dk_87 (dk_at dksX0_asked_1 6 rfl rfl)
theorem dX0_asked_31 : decode cX0_asked 31 = .ok (.aload_n 0, 1) := dk_42 (dk_at dksX0_asked_1 7 rfl rfl)
theorem dX0_asked_32 : decode cX0_asked 32 = .ok (.getfield 156, 3) := dk_180 0 156 (dk_at dksX0_asked_1 8 rfl rfl)
theorem dX0_asked_35 : decode cX0_asked 35 = .ok (.iload_n 1, 1) := dk_27 (dk_at dksX0_asked_1 11 rfl rfl)
theorem dX0_asked_36 : decode cX0_asked 36 = .ok (.iload_n 2, 1) := dk_28 (dk_at dksX0_asked_1 12 rfl rfl)
theorem dX0_asked_37 : decode cX0_asked 37 = .ok (.aload_n 0, 1) := dk_42 (dk_at dksX0_asked_1 13 rfl rfl)
theorem dX0_asked_38 : decode cX0_asked 38 = .ok (.getfield 270, 3) := dk_180 1 14 (dk_at dksX0_asked_1 14 rfl rfl)
theorem dX0_asked_41 : decode cX0_asked 41 = .ok (.invokevirtual 350, 3) := dk_182 1 94 (dk_at dksX0_asked_1 17 rfl rfl)
theorem dX0_asked_44 : decode cX0_asked 44 = .ok (.pop, 1) := dk_87 (dk_at dksX0_asked_1 20 rfl rfl)
theorem dX0_asked_45 : decode cX0_asked 45 = .ok (.aload_n 0, 1) := dk_42 (dk_at dksX0_asked_1 21 rfl rfl)
theorem dX0_asked_46 : decode cX0_asked 46 = .ok (.getfield 152, 3) := dk_180 0 152 (dk_at dksX0_asked_2 0 rfl rfl)
theorem dX0_asked_49 : decode cX0_asked 49 = .ok (.getfield 353, 3) := dk_180 1 97 (dk_at dksX0_asked_2 3 rfl rfl)
theorem dX0_asked_52 : decode cX0_asked 52 = .ok (.aload_n 0, 1) := dk_42 (dk_at dksX0_asked_2 6 rfl rfl)
theorem dX0_asked_53 : decode cX0_asked 53 = .ok (.getfield 156, 3) := dk_180 0 156 (dk_at dksX0_asked_2 7 rfl rfl)
theorem dX0_asked_56 : decode cX0_asked 56 = .ok (.getfield 353, 3) := dk_180 1 97 (dk_at dksX0_asked_2 10 rfl rfl)
theorem dX0_asked_59 : decode cX0_asked 59 = .ok (.isub, 1) := dk_100 (dk_at dksX0_asked_2 13 rfl rfl)
theorem dX0_asked_60 : decode cX0_asked 60 = .ok (.istore_n 3, 1) := dk_62 (dk_at dksX0_asked_2 14 rfl rfl)
theorem dX0_asked_61 : decode cX0_asked 61 = .ok (.iload_n 3, 1) := dk_29 (dk_at dksX0_asked_2 15 rfl rfl)
theorem dX0_asked_62 : decode cX0_asked 62 = .ok (.iload_n 3, 1) := dk_29 (dk_at dksX0_asked_2 16 rfl rfl)
theorem dX0_asked_63 : decode cX0_asked 63 = .ok (.iconst 1, 1) := dk_4 (dk_at dksX0_asked_2 17 rfl rfl)
theorem dX0_asked_64 : decode cX0_asked 64 = .ok (.iadd, 1) := dk_96 (dk_at dksX0_asked_2 18 rfl rfl)
theorem dX0_asked_65 : decode cX0_asked 65 = .ok (.imul, 1) := dk_104 (dk_at dksX0_asked_2 19 rfl rfl)
theorem dX0_asked_66 : decode cX0_asked 66 = .ok (.iconst 2, 1) := dk_5 (dk_at dksX0_asked_2 20 rfl rfl)
theorem dX0_asked_67 : decode cX0_asked 67 = .ok (.idiv, 1) := dk_108 (dk_at dksX0_asked_2 21 rfl rfl)
theorem dX0_asked_68 : decode cX0_asked 68 = .ok (.ireturn, 1) := dk_172 (dk_at dksX0_asked_2 22 rfl rfl)
abbrev cX0_cell : ByteArray := prog_1_method_55_code
def yX0_cell : MethodName := ⟨RX0, "cell", "(I)I"⟩
def dkwX0_cell_0 : List UInt8 := [42, 27, 182, 1, 91, 153, 0, 15, 42, 180, 0, 46, 180, 1, 45, 27, 46, 167, 0, 5, 16, 254, 172]
abbrev dktX0_cell_0 : List UInt8 := dkwX0_cell_0 ++ []
theorem dksX0_cell_0 : cX0_cell.data.toList.drop 0 = dktX0_cell_0 := by decide +kernel
theorem dX0_cell_0 : decode cX0_cell 0 = .ok (.aload_n 0, 1) := dk_42 (dk_at dksX0_cell_0 0 rfl rfl)
theorem dX0_cell_1 : decode cX0_cell 1 = .ok (.iload_n 1, 1) := dk_27 (dk_at dksX0_cell_0 1 rfl rfl)
theorem dX0_cell_2 : decode cX0_cell 2 = .ok (.invokevirtual 347, 3) := dk_182 1 91 (dk_at dksX0_cell_0 2 rfl rfl)
theorem dX0_cell_5 : decode cX0_cell 5 = .ok (.ifCond .eq 15, 3) := dk_153 0 15 (dk_at dksX0_cell_0 5 rfl rfl)
theorem dX0_cell_8 : decode cX0_cell 8 = .ok (.aload_n 0, 1) := dk_42 (dk_at dksX0_cell_0 8 rfl rfl)
theorem dX0_cell_9 : decode cX0_cell 9 = .ok (.getfield 46, 3) := dk_180 0 46 (dk_at dksX0_cell_0 9 rfl rfl)
theorem dX0_cell_12 : decode cX0_cell 12 = .ok (.getfield 301, 3) := dk_180 1 45 (dk_at dksX0_cell_0 12 rfl rfl)
theorem dX0_cell_15 : decode cX0_cell 15 = .ok (.iload_n 1, 1) := dk_27 (dk_at dksX0_cell_0 15 rfl rfl)
theorem dX0_cell_16 : decode cX0_cell 16 = .ok (.iaload, 1) := dk_46 (dk_at dksX0_cell_0 16 rfl rfl)
theorem dX0_cell_17 : decode cX0_cell 17 = .ok (.goto 5, 3) := dk_167 0 5 (dk_at dksX0_cell_0 17 rfl rfl)
theorem dX0_cell_20 : decode cX0_cell 20 = .ok (.bipush (-2), 2) := dk_16 254 (dk_at dksX0_cell_0 20 rfl rfl)
theorem dX0_cell_22 : decode cX0_cell 22 = .ok (.ireturn, 1) := dk_172 (dk_at dksX0_cell_0 22 rfl rfl)
abbrev cX0_rule : ByteArray := prog_1_method_57_code
def yX0_rule : MethodName := ⟨RX0, "rule", "(II)I"⟩
def dkwX0_rule_1 : List UInt8 := [180, 0, 222, 27, 185, 0, 246, 2, 0, 192, 0, 73, 28, 184, 1, 122, 167, 0, 5, 16, 254, 172]
abbrev dktX0_rule_1 : List UInt8 := dkwX0_rule_1 ++ []
def dkwX0_rule_0 : List UInt8 := [42, 27, 182, 1, 75, 153, 0, 38, 28, 133, 9, 20, 1, 120, 184, 0, 11, 153, 0, 26, 42, 180, 0, 46]
abbrev dktX0_rule_0 : List UInt8 := dkwX0_rule_0 ++ dktX0_rule_1
theorem dksX0_rule_0 : cX0_rule.data.toList.drop 0 = dktX0_rule_0 := by decide +kernel
theorem dksX0_rule_1 : cX0_rule.data.toList.drop 24 = dktX0_rule_1 := dk_seg dksX0_rule_0 24 rfl rfl
theorem dX0_rule_0 : decode cX0_rule 0 = .ok (.aload_n 0, 1) := dk_42 (dk_at dksX0_rule_0 0 rfl rfl)
theorem dX0_rule_1 : decode cX0_rule 1 = .ok (.iload_n 1, 1) := dk_27 (dk_at dksX0_rule_0 1 rfl rfl)
theorem dX0_rule_2 : decode cX0_rule 2 = .ok (.invokevirtual 331, 3) := dk_182 1 75 (dk_at dksX0_rule_0 2 rfl rfl)
theorem dX0_rule_5 : decode cX0_rule 5 = .ok (.ifCond .eq 38, 3) := dk_153 0 38 (dk_at dksX0_rule_0 5 rfl rfl)
theorem dX0_rule_8 : decode cX0_rule 8 = .ok (.iload_n 2, 1) := dk_28 (dk_at dksX0_rule_0 8 rfl rfl)
theorem dX0_rule_9 : decode cX0_rule 9 = .ok (.i2l, 1) := dk_133 (dk_at dksX0_rule_0 9 rfl rfl)
theorem dX0_rule_10 : decode cX0_rule 10 = .ok (.lconst 0, 1) := dk_9 (dk_at dksX0_rule_0 10 rfl rfl)
theorem dX0_rule_11 : decode cX0_rule 11 = .ok (.ldc2_w 376, 3) := dk_20 1 120 (dk_at dksX0_rule_0 11 rfl rfl)
theorem dX0_rule_14 : decode cX0_rule 14 = .ok (.invokestatic 11, 3) := dk_184 0 11 (dk_at dksX0_rule_0 14 rfl rfl)
theorem dX0_rule_17 : decode cX0_rule 17 = .ok (.ifCond .eq 26, 3) := dk_153 0 26 (dk_at dksX0_rule_0 17 rfl rfl)
theorem dX0_rule_20 : decode cX0_rule 20 = .ok (.aload_n 0, 1) := dk_42 (dk_at dksX0_rule_0 20 rfl rfl)
theorem dX0_rule_21 : decode cX0_rule 21 = .ok (.getfield 46, 3) := dk_180 0 46 (dk_at dksX0_rule_0 21 rfl rfl)
theorem dX0_rule_24 : decode cX0_rule 24 = .ok (.getfield 222, 3) := dk_180 0 222 (dk_at dksX0_rule_1 0 rfl rfl)
theorem dX0_rule_27 : decode cX0_rule 27 = .ok (.iload_n 1, 1) := dk_27 (dk_at dksX0_rule_1 3 rfl rfl)
theorem dX0_rule_28 : decode cX0_rule 28 = .ok (.invokeinterface 246 2, 5) := by decide +kernel
theorem dX0_rule_33 : decode cX0_rule 33 = .ok (.checkcast 73, 3) := dk_192 0 73 (dk_at dksX0_rule_1 9 rfl rfl)
theorem dX0_rule_36 : decode cX0_rule 36 = .ok (.iload_n 2, 1) := dk_28 (dk_at dksX0_rule_1 12 rfl rfl)
theorem dX0_rule_37 : decode cX0_rule 37 = .ok (.invokestatic 378, 3) := dk_184 1 122 (dk_at dksX0_rule_1 13 rfl rfl)
theorem dX0_rule_40 : decode cX0_rule 40 = .ok (.goto 5, 3) := dk_167 0 5 (dk_at dksX0_rule_1 16 rfl rfl)
theorem dX0_rule_43 : decode cX0_rule 43 = .ok (.bipush (-2), 2) := dk_16 254 (dk_at dksX0_rule_1 19 rfl rfl)
theorem dX0_rule_45 : decode cX0_rule 45 = .ok (.ireturn, 1) := dk_172 (dk_at dksX0_rule_1 21 rfl rfl)
abbrev cX0_numberOf : ByteArray := prog_1_method_56_code
def yX0_numberOf : MethodName := ⟨RX0, "numberOf", "(LMergeJudge$Told;I)I"⟩
def dkwX0_numberOf_0 : List UInt8 := [27, 154, 0, 10, 42, 180, 0, 77, 167, 0, 10, 42, 27, 4, 100, 182, 0, 72, 172]
abbrev dktX0_numberOf_0 : List UInt8 := dkwX0_numberOf_0 ++ []
theorem dksX0_numberOf_0 : cX0_numberOf.data.toList.drop 0 = dktX0_numberOf_0 := by decide +kernel
theorem dX0_numberOf_0 : decode cX0_numberOf 0 = .ok (.iload_n 1, 1) := dk_27 (dk_at dksX0_numberOf_0 0 rfl rfl)
theorem dX0_numberOf_1 : decode cX0_numberOf 1 = .ok (.ifCond .ne 10, 3) := dk_154 0 10 (dk_at dksX0_numberOf_0 1 rfl rfl)
theorem dX0_numberOf_4 : decode cX0_numberOf 4 = .ok (.aload_n 0, 1) := dk_42 (dk_at dksX0_numberOf_0 4 rfl rfl)
theorem dX0_numberOf_5 : decode cX0_numberOf 5 = .ok (.getfield 77, 3) := dk_180 0 77 (dk_at dksX0_numberOf_0 5 rfl rfl)
theorem dX0_numberOf_8 : decode cX0_numberOf 8 = .ok (.goto 10, 3) := dk_167 0 10 (dk_at dksX0_numberOf_0 8 rfl rfl)
theorem dX0_numberOf_11 : decode cX0_numberOf 11 = .ok (.aload_n 0, 1) := dk_42 (dk_at dksX0_numberOf_0 11 rfl rfl)
theorem dX0_numberOf_12 : decode cX0_numberOf 12 = .ok (.iload_n 1, 1) := dk_27 (dk_at dksX0_numberOf_0 12 rfl rfl)
theorem dX0_numberOf_13 : decode cX0_numberOf 13 = .ok (.iconst 1, 1) := dk_4 (dk_at dksX0_numberOf_0 13 rfl rfl)
theorem dX0_numberOf_14 : decode cX0_numberOf 14 = .ok (.isub, 1) := dk_100 (dk_at dksX0_numberOf_0 14 rfl rfl)
theorem dX0_numberOf_15 : decode cX0_numberOf 15 = .ok (.invokevirtual 72, 3) := dk_182 0 72 (dk_at dksX0_numberOf_0 15 rfl rfl)
theorem dX0_numberOf_18 : decode cX0_numberOf 18 = .ok (.ireturn, 1) := dk_172 (dk_at dksX0_numberOf_0 18 rfl rfl)
abbrev cX0_op : ByteArray := prog_1_method_58_code
def yX0_op : MethodName := ⟨RX0, "op", "(II)I"⟩
def dkwX0_op_1 : List UInt8 := [180, 0, 231, 27, 185, 0, 246, 2, 0, 192, 0, 73, 28, 184, 1, 122, 167, 0, 5, 16, 254, 172]
abbrev dktX0_op_1 : List UInt8 := dkwX0_op_1 ++ []
def dkwX0_op_0 : List UInt8 := [42, 27, 182, 0, 234, 153, 0, 38, 28, 133, 9, 20, 0, 9, 184, 0, 11, 153, 0, 26, 42, 180, 0, 46]
abbrev dktX0_op_0 : List UInt8 := dkwX0_op_0 ++ dktX0_op_1
theorem dksX0_op_0 : cX0_op.data.toList.drop 0 = dktX0_op_0 := by decide +kernel
theorem dksX0_op_1 : cX0_op.data.toList.drop 24 = dktX0_op_1 := dk_seg dksX0_op_0 24 rfl rfl
theorem dX0_op_0 : decode cX0_op 0 = .ok (.aload_n 0, 1) := dk_42 (dk_at dksX0_op_0 0 rfl rfl)
theorem dX0_op_1 : decode cX0_op 1 = .ok (.iload_n 1, 1) := dk_27 (dk_at dksX0_op_0 1 rfl rfl)
theorem dX0_op_2 : decode cX0_op 2 = .ok (.invokevirtual 234, 3) := dk_182 0 234 (dk_at dksX0_op_0 2 rfl rfl)
theorem dX0_op_5 : decode cX0_op 5 = .ok (.ifCond .eq 38, 3) := dk_153 0 38 (dk_at dksX0_op_0 5 rfl rfl)
theorem dX0_op_8 : decode cX0_op 8 = .ok (.iload_n 2, 1) := dk_28 (dk_at dksX0_op_0 8 rfl rfl)
theorem dX0_op_9 : decode cX0_op 9 = .ok (.i2l, 1) := dk_133 (dk_at dksX0_op_0 9 rfl rfl)
theorem dX0_op_10 : decode cX0_op 10 = .ok (.lconst 0, 1) := dk_9 (dk_at dksX0_op_0 10 rfl rfl)
theorem dX0_op_11 : decode cX0_op 11 = .ok (.ldc2_w 9, 3) := dk_20 0 9 (dk_at dksX0_op_0 11 rfl rfl)
theorem dX0_op_14 : decode cX0_op 14 = .ok (.invokestatic 11, 3) := dk_184 0 11 (dk_at dksX0_op_0 14 rfl rfl)
theorem dX0_op_17 : decode cX0_op 17 = .ok (.ifCond .eq 26, 3) := dk_153 0 26 (dk_at dksX0_op_0 17 rfl rfl)
theorem dX0_op_20 : decode cX0_op 20 = .ok (.aload_n 0, 1) := dk_42 (dk_at dksX0_op_0 20 rfl rfl)
theorem dX0_op_21 : decode cX0_op 21 = .ok (.getfield 46, 3) := dk_180 0 46 (dk_at dksX0_op_0 21 rfl rfl)
theorem dX0_op_24 : decode cX0_op 24 = .ok (.getfield 231, 3) := dk_180 0 231 (dk_at dksX0_op_1 0 rfl rfl)
theorem dX0_op_27 : decode cX0_op 27 = .ok (.iload_n 1, 1) := dk_27 (dk_at dksX0_op_1 3 rfl rfl)
theorem dX0_op_28 : decode cX0_op 28 = .ok (.invokeinterface 246 2, 5) := by decide +kernel
theorem dX0_op_33 : decode cX0_op 33 = .ok (.checkcast 73, 3) := dk_192 0 73 (dk_at dksX0_op_1 9 rfl rfl)
theorem dX0_op_36 : decode cX0_op 36 = .ok (.iload_n 2, 1) := dk_28 (dk_at dksX0_op_1 12 rfl rfl)
theorem dX0_op_37 : decode cX0_op 37 = .ok (.invokestatic 378, 3) := dk_184 1 122 (dk_at dksX0_op_1 13 rfl rfl)
theorem dX0_op_40 : decode cX0_op 40 = .ok (.goto 5, 3) := dk_167 0 5 (dk_at dksX0_op_1 16 rfl rfl)
theorem dX0_op_43 : decode cX0_op 43 = .ok (.bipush (-2), 2) := dk_16 254 (dk_at dksX0_op_1 19 rfl rfl)
theorem dX0_op_45 : decode cX0_op 45 = .ok (.ireturn, 1) := dk_172 (dk_at dksX0_op_1 21 rfl rfl)
abbrev cX0_states : ByteArray := prog_1_method_59_code
def yX0_states : MethodName := ⟨RX0, "states", "()I"⟩
def dkwX0_states_0 : List UInt8 := [42, 180, 0, 46, 182, 0, 200, 153, 0, 10, 42, 182, 0, 237, 167, 0, 5, 16, 254, 172]
abbrev dktX0_states_0 : List UInt8 := dkwX0_states_0 ++ []
theorem dksX0_states_0 : cX0_states.data.toList.drop 0 = dktX0_states_0 := by decide +kernel
theorem dX0_states_0 : decode cX0_states 0 = .ok (.aload_n 0, 1) := dk_42 (dk_at dksX0_states_0 0 rfl rfl)
theorem dX0_states_1 : decode cX0_states 1 = .ok (.getfield 46, 3) := dk_180 0 46 (dk_at dksX0_states_0 1 rfl rfl)
theorem dX0_states_4 : decode cX0_states 4 = .ok (.invokevirtual 200, 3) := dk_182 0 200 (dk_at dksX0_states_0 4 rfl rfl)
theorem dX0_states_7 : decode cX0_states 7 = .ok (.ifCond .eq 10, 3) := dk_153 0 10 (dk_at dksX0_states_0 7 rfl rfl)
theorem dX0_states_10 : decode cX0_states 10 = .ok (.aload_n 0, 1) := dk_42 (dk_at dksX0_states_0 10 rfl rfl)
theorem dX0_states_11 : decode cX0_states 11 = .ok (.invokevirtual 237, 3) := dk_182 0 237 (dk_at dksX0_states_0 11 rfl rfl)
theorem dX0_states_14 : decode cX0_states 14 = .ok (.goto 5, 3) := dk_167 0 5 (dk_at dksX0_states_0 14 rfl rfl)
theorem dX0_states_17 : decode cX0_states 17 = .ok (.bipush (-2), 2) := dk_16 254 (dk_at dksX0_states_0 17 rfl rfl)
theorem dX0_states_19 : decode cX0_states 19 = .ok (.ireturn, 1) := dk_172 (dk_at dksX0_states_0 19 rfl rfl)
abbrev cX0_value : ByteArray := prog_1_method_60_code
def yX0_value : MethodName := ⟨RX0, "value", "(II)I"⟩
def dkwX0_value_1 : List UInt8 := [167, 0, 5, 16, 254, 172]
abbrev dktX0_value_1 : List UInt8 := dkwX0_value_1 ++ []
def dkwX0_value_0 : List UInt8 := [42, 27, 133, 182, 1, 51, 153, 0, 20, 42, 28, 182, 1, 91, 153, 0, 12, 42, 27, 28, 182, 0, 243]
abbrev dktX0_value_0 : List UInt8 := dkwX0_value_0 ++ dktX0_value_1
theorem dksX0_value_0 : cX0_value.data.toList.drop 0 = dktX0_value_0 := by decide +kernel
theorem dksX0_value_1 : cX0_value.data.toList.drop 23 = dktX0_value_1 := dk_seg dksX0_value_0 23 rfl rfl
theorem dX0_value_0 : decode cX0_value 0 = .ok (.aload_n 0, 1) := dk_42 (dk_at dksX0_value_0 0 rfl rfl)
theorem dX0_value_1 : decode cX0_value 1 = .ok (.iload_n 1, 1) := dk_27 (dk_at dksX0_value_0 1 rfl rfl)
theorem dX0_value_2 : decode cX0_value 2 = .ok (.i2l, 1) := dk_133 (dk_at dksX0_value_0 2 rfl rfl)
theorem dX0_value_3 : decode cX0_value 3 = .ok (.invokevirtual 307, 3) := dk_182 1 51 (dk_at dksX0_value_0 3 rfl rfl)
theorem dX0_value_6 : decode cX0_value 6 = .ok (.ifCond .eq 20, 3) := dk_153 0 20 (dk_at dksX0_value_0 6 rfl rfl)
theorem dX0_value_9 : decode cX0_value 9 = .ok (.aload_n 0, 1) := dk_42 (dk_at dksX0_value_0 9 rfl rfl)
theorem dX0_value_10 : decode cX0_value 10 = .ok (.iload_n 2, 1) := dk_28 (dk_at dksX0_value_0 10 rfl rfl)
theorem dX0_value_11 : decode cX0_value 11 = .ok (.invokevirtual 347, 3) := dk_182 1 91 (dk_at dksX0_value_0 11 rfl rfl)
theorem dX0_value_14 : decode cX0_value 14 = .ok (.ifCond .eq 12, 3) := dk_153 0 12 (dk_at dksX0_value_0 14 rfl rfl)
theorem dX0_value_17 : decode cX0_value 17 = .ok (.aload_n 0, 1) := dk_42 (dk_at dksX0_value_0 17 rfl rfl)
theorem dX0_value_18 : decode cX0_value 18 = .ok (.iload_n 1, 1) := dk_27 (dk_at dksX0_value_0 18 rfl rfl)
theorem dX0_value_19 : decode cX0_value 19 = .ok (.iload_n 2, 1) := dk_28 (dk_at dksX0_value_0 19 rfl rfl)
theorem dX0_value_20 : decode cX0_value 20 = .ok (.invokevirtual 243, 3) := dk_182 0 243 (dk_at dksX0_value_0 20 rfl rfl)
theorem dX0_value_23 : decode cX0_value 23 = .ok (.goto 5, 3) := dk_167 0 5 (dk_at dksX0_value_1 0 rfl rfl)
theorem dX0_value_26 : decode cX0_value 26 = .ok (.bipush (-2), 2) := dk_16 254 (dk_at dksX0_value_1 3 rfl rfl)
theorem dX0_value_28 : decode cX0_value 28 = .ok (.ireturn, 1) := dk_172 (dk_at dksX0_value_1 5 rfl rfl)
abbrev cX0_holds : ByteArray := prog_1_method_61_code
def yX0_holds : MethodName := ⟨RX0, "holds", "(II)I"⟩
def dkwX0_holds_1 : List UInt8 := [180, 1, 29, 28, 185, 1, 33, 2, 0, 153, 0, 7, 4, 167, 0, 9, 3, 167, 0, 5, 16, 254, 172]
abbrev dktX0_holds_1 : List UInt8 := dkwX0_holds_1 ++ []
def dkwX0_holds_0 : List UInt8 := [42, 27, 182, 1, 75, 153, 0, 38, 42, 28, 133, 182, 1, 51, 153, 0, 29, 42, 180, 0, 133, 27, 50]
abbrev dktX0_holds_0 : List UInt8 := dkwX0_holds_0 ++ dktX0_holds_1
theorem dksX0_holds_0 : cX0_holds.data.toList.drop 0 = dktX0_holds_0 := by decide +kernel
theorem dksX0_holds_1 : cX0_holds.data.toList.drop 23 = dktX0_holds_1 := dk_seg dksX0_holds_0 23 rfl rfl
theorem dX0_holds_0 : decode cX0_holds 0 = .ok (.aload_n 0, 1) := dk_42 (dk_at dksX0_holds_0 0 rfl rfl)
theorem dX0_holds_1 : decode cX0_holds 1 = .ok (.iload_n 1, 1) := dk_27 (dk_at dksX0_holds_0 1 rfl rfl)
theorem dX0_holds_2 : decode cX0_holds 2 = .ok (.invokevirtual 331, 3) := dk_182 1 75 (dk_at dksX0_holds_0 2 rfl rfl)
theorem dX0_holds_5 : decode cX0_holds 5 = .ok (.ifCond .eq 38, 3) := dk_153 0 38 (dk_at dksX0_holds_0 5 rfl rfl)
theorem dX0_holds_8 : decode cX0_holds 8 = .ok (.aload_n 0, 1) := dk_42 (dk_at dksX0_holds_0 8 rfl rfl)
theorem dX0_holds_9 : decode cX0_holds 9 = .ok (.iload_n 2, 1) := dk_28 (dk_at dksX0_holds_0 9 rfl rfl)
theorem dX0_holds_10 : decode cX0_holds 10 = .ok (.i2l, 1) := dk_133 (dk_at dksX0_holds_0 10 rfl rfl)
theorem dX0_holds_11 : decode cX0_holds 11 = .ok (.invokevirtual 307, 3) := dk_182 1 51 (dk_at dksX0_holds_0 11 rfl rfl)
theorem dX0_holds_14 : decode cX0_holds 14 = .ok (.ifCond .eq 29, 3) := dk_153 0 29 (dk_at dksX0_holds_0 14 rfl rfl)
theorem dX0_holds_17 : decode cX0_holds 17 = .ok (.aload_n 0, 1) := dk_42 (dk_at dksX0_holds_0 17 rfl rfl)
theorem dX0_holds_18 : decode cX0_holds 18 = .ok (.getfield 133, 3) := dk_180 0 133 (dk_at dksX0_holds_0 18 rfl rfl)
theorem dX0_holds_21 : decode cX0_holds 21 = .ok (.iload_n 1, 1) := dk_27 (dk_at dksX0_holds_0 21 rfl rfl)
theorem dX0_holds_22 : decode cX0_holds 22 = .ok (.aaload, 1) := dk_50 (dk_at dksX0_holds_0 22 rfl rfl)
theorem dX0_holds_23 : decode cX0_holds 23 = .ok (.getfield 285, 3) := dk_180 1 29 (dk_at dksX0_holds_1 0 rfl rfl)
theorem dX0_holds_26 : decode cX0_holds 26 = .ok (.iload_n 2, 1) := dk_28 (dk_at dksX0_holds_1 3 rfl rfl)
theorem dX0_holds_27 : decode cX0_holds 27 = .ok (.invokeinterface 289 2, 5) := by decide +kernel
theorem dX0_holds_32 : decode cX0_holds 32 = .ok (.ifCond .eq 7, 3) := dk_153 0 7 (dk_at dksX0_holds_1 9 rfl rfl)
theorem dX0_holds_35 : decode cX0_holds 35 = .ok (.iconst 1, 1) := dk_4 (dk_at dksX0_holds_1 12 rfl rfl)
theorem dX0_holds_36 : decode cX0_holds 36 = .ok (.goto 9, 3) := dk_167 0 9 (dk_at dksX0_holds_1 13 rfl rfl)
theorem dX0_holds_39 : decode cX0_holds 39 = .ok (.iconst 0, 1) := dk_3 (dk_at dksX0_holds_1 16 rfl rfl)
theorem dX0_holds_40 : decode cX0_holds 40 = .ok (.goto 5, 3) := dk_167 0 5 (dk_at dksX0_holds_1 17 rfl rfl)
theorem dX0_holds_43 : decode cX0_holds 43 = .ok (.bipush (-2), 2) := dk_16 254 (dk_at dksX0_holds_1 20 rfl rfl)
theorem dX0_holds_45 : decode cX0_holds 45 = .ok (.ireturn, 1) := dk_172 (dk_at dksX0_holds_1 22 rfl rfl)
abbrev cX0_dropped : ByteArray := prog_1_method_62_code
def yX0_dropped : MethodName := ⟨RX0, "dropped", "()I"⟩
def dkwX0_dropped_0 : List UInt8 := [42, 180, 0, 46, 182, 0, 200, 153, 0, 13, 42, 180, 0, 46, 180, 1, 15, 167, 0, 5, 16, 254, 172]
abbrev dktX0_dropped_0 : List UInt8 := dkwX0_dropped_0 ++ []
theorem dksX0_dropped_0 : cX0_dropped.data.toList.drop 0 = dktX0_dropped_0 := by decide +kernel
theorem dX0_dropped_0 : decode cX0_dropped 0 = .ok (.aload_n 0, 1) := dk_42 (dk_at dksX0_dropped_0 0 rfl rfl)
theorem dX0_dropped_1 : decode cX0_dropped 1 = .ok (.getfield 46, 3) := dk_180 0 46 (dk_at dksX0_dropped_0 1 rfl rfl)
theorem dX0_dropped_4 : decode cX0_dropped 4 = .ok (.invokevirtual 200, 3) := dk_182 0 200 (dk_at dksX0_dropped_0 4 rfl rfl)
theorem dX0_dropped_7 : decode cX0_dropped 7 = .ok (.ifCond .eq 13, 3) := dk_153 0 13 (dk_at dksX0_dropped_0 7 rfl rfl)
theorem dX0_dropped_10 : decode cX0_dropped 10 = .ok (.aload_n 0, 1) := dk_42 (dk_at dksX0_dropped_0 10 rfl rfl)
theorem dX0_dropped_11 : decode cX0_dropped 11 = .ok (.getfield 46, 3) := dk_180 0 46 (dk_at dksX0_dropped_0 11 rfl rfl)
theorem dX0_dropped_14 : decode cX0_dropped 14 = .ok (.getfield 271, 3) := dk_180 1 15 (dk_at dksX0_dropped_0 14 rfl rfl)
theorem dX0_dropped_17 : decode cX0_dropped 17 = .ok (.goto 5, 3) := dk_167 0 5 (dk_at dksX0_dropped_0 17 rfl rfl)
theorem dX0_dropped_20 : decode cX0_dropped 20 = .ok (.bipush (-2), 2) := dk_16 254 (dk_at dksX0_dropped_0 20 rfl rfl)
theorem dX0_dropped_22 : decode cX0_dropped 22 = .ok (.ireturn, 1) := dk_172 (dk_at dksX0_dropped_0 22 rfl rfl)
abbrev cX0_locked : ByteArray := prog_1_method_63_code
def yX0_locked : MethodName := ⟨RX0, "locked", "()I"⟩
def dkwX0_locked_0 : List UInt8 := [42, 180, 0, 46, 182, 0, 200, 153, 0, 13, 42, 180, 0, 46, 180, 1, 11, 167, 0, 5, 16, 254, 172]
abbrev dktX0_locked_0 : List UInt8 := dkwX0_locked_0 ++ []
theorem dksX0_locked_0 : cX0_locked.data.toList.drop 0 = dktX0_locked_0 := by decide +kernel
theorem dX0_locked_0 : decode cX0_locked 0 = .ok (.aload_n 0, 1) := dk_42 (dk_at dksX0_locked_0 0 rfl rfl)
theorem dX0_locked_1 : decode cX0_locked 1 = .ok (.getfield 46, 3) := dk_180 0 46 (dk_at dksX0_locked_0 1 rfl rfl)
theorem dX0_locked_4 : decode cX0_locked 4 = .ok (.invokevirtual 200, 3) := dk_182 0 200 (dk_at dksX0_locked_0 4 rfl rfl)
theorem dX0_locked_7 : decode cX0_locked 7 = .ok (.ifCond .eq 13, 3) := dk_153 0 13 (dk_at dksX0_locked_0 7 rfl rfl)
theorem dX0_locked_10 : decode cX0_locked 10 = .ok (.aload_n 0, 1) := dk_42 (dk_at dksX0_locked_0 10 rfl rfl)
theorem dX0_locked_11 : decode cX0_locked 11 = .ok (.getfield 46, 3) := dk_180 0 46 (dk_at dksX0_locked_0 11 rfl rfl)
theorem dX0_locked_14 : decode cX0_locked 14 = .ok (.getfield 267, 3) := dk_180 1 11 (dk_at dksX0_locked_0 14 rfl rfl)
theorem dX0_locked_17 : decode cX0_locked 17 = .ok (.goto 5, 3) := dk_167 0 5 (dk_at dksX0_locked_0 17 rfl rfl)
theorem dX0_locked_20 : decode cX0_locked 20 = .ok (.bipush (-2), 2) := dk_16 254 (dk_at dksX0_locked_0 20 rfl rfl)
theorem dX0_locked_22 : decode cX0_locked 22 = .ok (.ireturn, 1) := dk_172 (dk_at dksX0_locked_0 22 rfl rfl)
abbrev cX0_valid : ByteArray := prog_1_method_64_code
def yX0_valid : MethodName := ⟨RX0, "valid", "(I)I"⟩
def dkwX0_valid_1 : List UInt8 := [167, 0, 5, 16, 254, 172]
abbrev dktX0_valid_1 : List UInt8 := dkwX0_valid_1 ++ []
def dkwX0_valid_0 : List UInt8 := [42, 27, 133, 182, 1, 51, 153, 0, 20, 42, 180, 0, 143, 27, 51, 153, 0, 7, 4, 167, 0, 9, 3]
abbrev dktX0_valid_0 : List UInt8 := dkwX0_valid_0 ++ dktX0_valid_1
theorem dksX0_valid_0 : cX0_valid.data.toList.drop 0 = dktX0_valid_0 := by decide +kernel
theorem dksX0_valid_1 : cX0_valid.data.toList.drop 23 = dktX0_valid_1 := dk_seg dksX0_valid_0 23 rfl rfl
theorem dX0_valid_0 : decode cX0_valid 0 = .ok (.aload_n 0, 1) := dk_42 (dk_at dksX0_valid_0 0 rfl rfl)
theorem dX0_valid_1 : decode cX0_valid 1 = .ok (.iload_n 1, 1) := dk_27 (dk_at dksX0_valid_0 1 rfl rfl)
theorem dX0_valid_2 : decode cX0_valid 2 = .ok (.i2l, 1) := dk_133 (dk_at dksX0_valid_0 2 rfl rfl)
theorem dX0_valid_3 : decode cX0_valid 3 = .ok (.invokevirtual 307, 3) := dk_182 1 51 (dk_at dksX0_valid_0 3 rfl rfl)
theorem dX0_valid_6 : decode cX0_valid 6 = .ok (.ifCond .eq 20, 3) := dk_153 0 20 (dk_at dksX0_valid_0 6 rfl rfl)
theorem dX0_valid_9 : decode cX0_valid 9 = .ok (.aload_n 0, 1) := dk_42 (dk_at dksX0_valid_0 9 rfl rfl)
theorem dX0_valid_10 : decode cX0_valid 10 = .ok (.getfield 143, 3) := dk_180 0 143 (dk_at dksX0_valid_0 10 rfl rfl)
theorem dX0_valid_13 : decode cX0_valid 13 = .ok (.iload_n 1, 1) := dk_27 (dk_at dksX0_valid_0 13 rfl rfl)
theorem dX0_valid_14 : decode cX0_valid 14 = .ok (.baload, 1) := dk_51 (dk_at dksX0_valid_0 14 rfl rfl)
theorem dX0_valid_15 : decode cX0_valid 15 = .ok (.ifCond .eq 7, 3) := dk_153 0 7 (dk_at dksX0_valid_0 15 rfl rfl)
theorem dX0_valid_18 : decode cX0_valid 18 = .ok (.iconst 1, 1) := dk_4 (dk_at dksX0_valid_0 18 rfl rfl)
theorem dX0_valid_19 : decode cX0_valid 19 = .ok (.goto 9, 3) := dk_167 0 9 (dk_at dksX0_valid_0 19 rfl rfl)
theorem dX0_valid_22 : decode cX0_valid 22 = .ok (.iconst 0, 1) := dk_3 (dk_at dksX0_valid_0 22 rfl rfl)
theorem dX0_valid_23 : decode cX0_valid 23 = .ok (.goto 5, 3) := dk_167 0 5 (dk_at dksX0_valid_1 0 rfl rfl)
theorem dX0_valid_26 : decode cX0_valid 26 = .ok (.bipush (-2), 2) := dk_16 254 (dk_at dksX0_valid_1 3 rfl rfl)
theorem dX0_valid_28 : decode cX0_valid 28 = .ok (.ireturn, 1) := dk_172 (dk_at dksX0_valid_1 5 rfl rfl)
abbrev cX0_valids : ByteArray := prog_1_method_66_code
def yX0_valids : MethodName := ⟨RX0, "valids", "()I"⟩
def dkwX0_valids_0 : List UInt8 := [42, 180, 0, 46, 182, 0, 200, 153, 0, 10, 42, 182, 1, 88, 167, 0, 5, 16, 254, 172]
abbrev dktX0_valids_0 : List UInt8 := dkwX0_valids_0 ++ []
theorem dksX0_valids_0 : cX0_valids.data.toList.drop 0 = dktX0_valids_0 := by decide +kernel
theorem dX0_valids_0 : decode cX0_valids 0 = .ok (.aload_n 0, 1) := dk_42 (dk_at dksX0_valids_0 0 rfl rfl)
theorem dX0_valids_1 : decode cX0_valids 1 = .ok (.getfield 46, 3) := dk_180 0 46 (dk_at dksX0_valids_0 1 rfl rfl)
theorem dX0_valids_4 : decode cX0_valids 4 = .ok (.invokevirtual 200, 3) := dk_182 0 200 (dk_at dksX0_valids_0 4 rfl rfl)
theorem dX0_valids_7 : decode cX0_valids 7 = .ok (.ifCond .eq 10, 3) := dk_153 0 10 (dk_at dksX0_valids_0 7 rfl rfl)
theorem dX0_valids_10 : decode cX0_valids 10 = .ok (.aload_n 0, 1) := dk_42 (dk_at dksX0_valids_0 10 rfl rfl)
theorem dX0_valids_11 : decode cX0_valids 11 = .ok (.invokevirtual 344, 3) := dk_182 1 88 (dk_at dksX0_valids_0 11 rfl rfl)
theorem dX0_valids_14 : decode cX0_valids 14 = .ok (.goto 5, 3) := dk_167 0 5 (dk_at dksX0_valids_0 14 rfl rfl)
theorem dX0_valids_17 : decode cX0_valids 17 = .ok (.bipush (-2), 2) := dk_16 254 (dk_at dksX0_valids_0 17 rfl rfl)
theorem dX0_valids_19 : decode cX0_valids 19 = .ok (.ireturn, 1) := dk_172 (dk_at dksX0_valids_0 19 rfl rfl)
abbrev cX0_breaks : ByteArray := prog_1_method_67_code
def yX0_breaks : MethodName := ⟨RX0, "breaks", "(I)I"⟩
def dkwX0_breaks_0 : List UInt8 := [42, 27, 133, 182, 1, 51, 153, 0, 11, 42, 27, 182, 1, 23, 167, 0, 5, 16, 254, 172]
abbrev dktX0_breaks_0 : List UInt8 := dkwX0_breaks_0 ++ []
theorem dksX0_breaks_0 : cX0_breaks.data.toList.drop 0 = dktX0_breaks_0 := by decide +kernel
theorem dX0_breaks_0 : decode cX0_breaks 0 = .ok (.aload_n 0, 1) := dk_42 (dk_at dksX0_breaks_0 0 rfl rfl)
theorem dX0_breaks_1 : decode cX0_breaks 1 = .ok (.iload_n 1, 1) := dk_27 (dk_at dksX0_breaks_0 1 rfl rfl)
theorem dX0_breaks_2 : decode cX0_breaks 2 = .ok (.i2l, 1) := dk_133 (dk_at dksX0_breaks_0 2 rfl rfl)
theorem dX0_breaks_3 : decode cX0_breaks 3 = .ok (.invokevirtual 307, 3) := dk_182 1 51 (dk_at dksX0_breaks_0 3 rfl rfl)
theorem dX0_breaks_6 : decode cX0_breaks 6 = .ok (.ifCond .eq 11, 3) := dk_153 0 11 (dk_at dksX0_breaks_0 6 rfl rfl)
theorem dX0_breaks_9 : decode cX0_breaks 9 = .ok (.aload_n 0, 1) := dk_42 (dk_at dksX0_breaks_0 9 rfl rfl)
theorem dX0_breaks_10 : decode cX0_breaks 10 = .ok (.iload_n 1, 1) := dk_27 (dk_at dksX0_breaks_0 10 rfl rfl)
theorem dX0_breaks_11 : decode cX0_breaks 11 = .ok (.invokevirtual 279, 3) := dk_182 1 23 (dk_at dksX0_breaks_0 11 rfl rfl)
theorem dX0_breaks_14 : decode cX0_breaks 14 = .ok (.goto 5, 3) := dk_167 0 5 (dk_at dksX0_breaks_0 14 rfl rfl)
theorem dX0_breaks_17 : decode cX0_breaks 17 = .ok (.bipush (-2), 2) := dk_16 254 (dk_at dksX0_breaks_0 17 rfl rfl)
theorem dX0_breaks_19 : decode cX0_breaks 19 = .ok (.ireturn, 1) := dk_172 (dk_at dksX0_breaks_0 19 rfl rfl)
abbrev cX0_does : ByteArray := prog_1_method_68_code
def yX0_does : MethodName := ⟨RX0, "does", "(II)I"⟩
def dkwX0_does_1 : List UInt8 := [167, 0, 5, 16, 254, 172]
abbrev dktX0_does_1 : List UInt8 := dkwX0_does_1 ++ []
def dkwX0_does_0 : List UInt8 := [42, 27, 182, 0, 234, 153, 0, 21, 42, 28, 133, 182, 1, 51, 153, 0, 12, 42, 27, 28, 182, 1, 61]
abbrev dktX0_does_0 : List UInt8 := dkwX0_does_0 ++ dktX0_does_1
theorem dksX0_does_0 : cX0_does.data.toList.drop 0 = dktX0_does_0 := by decide +kernel
theorem dksX0_does_1 : cX0_does.data.toList.drop 23 = dktX0_does_1 := dk_seg dksX0_does_0 23 rfl rfl
theorem dX0_does_0 : decode cX0_does 0 = .ok (.aload_n 0, 1) := dk_42 (dk_at dksX0_does_0 0 rfl rfl)
theorem dX0_does_1 : decode cX0_does 1 = .ok (.iload_n 1, 1) := dk_27 (dk_at dksX0_does_0 1 rfl rfl)
theorem dX0_does_2 : decode cX0_does 2 = .ok (.invokevirtual 234, 3) := dk_182 0 234 (dk_at dksX0_does_0 2 rfl rfl)
theorem dX0_does_5 : decode cX0_does 5 = .ok (.ifCond .eq 21, 3) := dk_153 0 21 (dk_at dksX0_does_0 5 rfl rfl)
theorem dX0_does_8 : decode cX0_does 8 = .ok (.aload_n 0, 1) := dk_42 (dk_at dksX0_does_0 8 rfl rfl)
theorem dX0_does_9 : decode cX0_does 9 = .ok (.iload_n 2, 1) := dk_28 (dk_at dksX0_does_0 9 rfl rfl)
theorem dX0_does_10 : decode cX0_does 10 = .ok (.i2l, 1) := dk_133 (dk_at dksX0_does_0 10 rfl rfl)
theorem dX0_does_11 : decode cX0_does 11 = .ok (.invokevirtual 307, 3) := dk_182 1 51 (dk_at dksX0_does_0 11 rfl rfl)
theorem dX0_does_14 : decode cX0_does 14 = .ok (.ifCond .eq 12, 3) := dk_153 0 12 (dk_at dksX0_does_0 14 rfl rfl)
theorem dX0_does_17 : decode cX0_does 17 = .ok (.aload_n 0, 1) := dk_42 (dk_at dksX0_does_0 17 rfl rfl)
theorem dX0_does_18 : decode cX0_does 18 = .ok (.iload_n 1, 1) := dk_27 (dk_at dksX0_does_0 18 rfl rfl)
theorem dX0_does_19 : decode cX0_does 19 = .ok (.iload_n 2, 1) := dk_28 (dk_at dksX0_does_0 19 rfl rfl)
theorem dX0_does_20 : decode cX0_does 20 = .ok (.invokevirtual 317, 3) := dk_182 1 61 (dk_at dksX0_does_0 20 rfl rfl)
theorem dX0_does_23 : decode cX0_does 23 = .ok (.goto 5, 3) := dk_167 0 5 (dk_at dksX0_does_1 0 rfl rfl)
theorem dX0_does_26 : decode cX0_does 26 = .ok (.bipush (-2), 2) := dk_16 254 (dk_at dksX0_does_1 3 rfl rfl)
theorem dX0_does_28 : decode cX0_does 28 = .ok (.ireturn, 1) := dk_172 (dk_at dksX0_does_1 5 rfl rfl)
abbrev cX0_works : ByteArray := prog_1_method_70_code
def yX0_works : MethodName := ⟨RX0, "works", "(I)I"⟩
def dkwX0_works_0 : List UInt8 := [42, 27, 182, 0, 234, 153, 0, 11, 42, 27, 182, 1, 126, 167, 0, 5, 16, 254, 172]
abbrev dktX0_works_0 : List UInt8 := dkwX0_works_0 ++ []
theorem dksX0_works_0 : cX0_works.data.toList.drop 0 = dktX0_works_0 := by decide +kernel
theorem dX0_works_0 : decode cX0_works 0 = .ok (.aload_n 0, 1) := dk_42 (dk_at dksX0_works_0 0 rfl rfl)
theorem dX0_works_1 : decode cX0_works 1 = .ok (.iload_n 1, 1) := dk_27 (dk_at dksX0_works_0 1 rfl rfl)
theorem dX0_works_2 : decode cX0_works 2 = .ok (.invokevirtual 234, 3) := dk_182 0 234 (dk_at dksX0_works_0 2 rfl rfl)
theorem dX0_works_5 : decode cX0_works 5 = .ok (.ifCond .eq 11, 3) := dk_153 0 11 (dk_at dksX0_works_0 5 rfl rfl)
theorem dX0_works_8 : decode cX0_works 8 = .ok (.aload_n 0, 1) := dk_42 (dk_at dksX0_works_0 8 rfl rfl)
theorem dX0_works_9 : decode cX0_works 9 = .ok (.iload_n 1, 1) := dk_27 (dk_at dksX0_works_0 9 rfl rfl)
theorem dX0_works_10 : decode cX0_works 10 = .ok (.invokevirtual 382, 3) := dk_182 1 126 (dk_at dksX0_works_0 10 rfl rfl)
theorem dX0_works_13 : decode cX0_works 13 = .ok (.goto 5, 3) := dk_167 0 5 (dk_at dksX0_works_0 13 rfl rfl)
theorem dX0_works_16 : decode cX0_works 16 = .ok (.bipush (-2), 2) := dk_16 254 (dk_at dksX0_works_0 16 rfl rfl)
theorem dX0_works_18 : decode cX0_works 18 = .ok (.ireturn, 1) := dk_172 (dk_at dksX0_works_0 18 rfl rfl)
abbrev cX0_worksOf : ByteArray := prog_1_method_69_code
def yX0_worksOf : MethodName := ⟨RX0, "worksOf", "(I)I"⟩
def dkwX0_worksOf_1 : List UInt8 := [29, 182, 1, 61, 2, 159, 0, 7, 4, 167, 0, 4, 3, 96, 61, 132, 3, 1, 167, 255, 218, 28, 172]
abbrev dktX0_worksOf_1 : List UInt8 := dkwX0_worksOf_1 ++ []
def dkwX0_worksOf_0 : List UInt8 := [3, 61, 3, 62, 29, 42, 182, 0, 237, 162, 0, 36, 28, 42, 180, 0, 143, 29, 51, 153, 0, 17, 42, 27]
abbrev dktX0_worksOf_0 : List UInt8 := dkwX0_worksOf_0 ++ dktX0_worksOf_1
theorem dksX0_worksOf_0 : cX0_worksOf.data.toList.drop 0 = dktX0_worksOf_0 := by decide +kernel
theorem dksX0_worksOf_1 : cX0_worksOf.data.toList.drop 24 = dktX0_worksOf_1 := dk_seg dksX0_worksOf_0 24 rfl rfl
theorem dX0_worksOf_0 : decode cX0_worksOf 0 = .ok (.iconst 0, 1) := dk_3 (dk_at dksX0_worksOf_0 0 rfl rfl)
theorem dX0_worksOf_1 : decode cX0_worksOf 1 = .ok (.istore_n 2, 1) := dk_61 (dk_at dksX0_worksOf_0 1 rfl rfl)
theorem dX0_worksOf_2 : decode cX0_worksOf 2 = .ok (.iconst 0, 1) := dk_3 (dk_at dksX0_worksOf_0 2 rfl rfl)
theorem dX0_worksOf_3 : decode cX0_worksOf 3 = .ok (.istore_n 3, 1) := dk_62 (dk_at dksX0_worksOf_0 3 rfl rfl)
theorem dX0_worksOf_4 : decode cX0_worksOf 4 = .ok (.iload_n 3, 1) := dk_29 (dk_at dksX0_worksOf_0 4 rfl rfl)
theorem dX0_worksOf_5 : decode cX0_worksOf 5 = .ok (.aload_n 0, 1) := dk_42 (dk_at dksX0_worksOf_0 5 rfl rfl)
theorem dX0_worksOf_6 : decode cX0_worksOf 6 = .ok (.invokevirtual 237, 3) := dk_182 0 237 (dk_at dksX0_worksOf_0 6 rfl rfl)
theorem dX0_worksOf_9 : decode cX0_worksOf 9 = .ok (.if_icmp .ge 36, 3) := dk_162 0 36 (dk_at dksX0_worksOf_0 9 rfl rfl)
theorem dX0_worksOf_12 : decode cX0_worksOf 12 = .ok (.iload_n 2, 1) := dk_28 (dk_at dksX0_worksOf_0 12 rfl rfl)
theorem dX0_worksOf_13 : decode cX0_worksOf 13 = .ok (.aload_n 0, 1) := dk_42 (dk_at dksX0_worksOf_0 13 rfl rfl)
theorem dX0_worksOf_14 : decode cX0_worksOf 14 = .ok (.getfield 143, 3) := dk_180 0 143 (dk_at dksX0_worksOf_0 14 rfl rfl)
theorem dX0_worksOf_17 : decode cX0_worksOf 17 = .ok (.iload_n 3, 1) := dk_29 (dk_at dksX0_worksOf_0 17 rfl rfl)
theorem dX0_worksOf_18 : decode cX0_worksOf 18 = .ok (.baload, 1) := dk_51 (dk_at dksX0_worksOf_0 18 rfl rfl)
theorem dX0_worksOf_19 : decode cX0_worksOf 19 = .ok (.ifCond .eq 17, 3) := dk_153 0 17 (dk_at dksX0_worksOf_0 19 rfl rfl)
theorem dX0_worksOf_22 : decode cX0_worksOf 22 = .ok (.aload_n 0, 1) := dk_42 (dk_at dksX0_worksOf_0 22 rfl rfl)
theorem dX0_worksOf_23 : decode cX0_worksOf 23 = .ok (.iload_n 1, 1) := dk_27 (dk_at dksX0_worksOf_0 23 rfl rfl)
theorem dX0_worksOf_24 : decode cX0_worksOf 24 = .ok (.iload_n 3, 1) := dk_29 (dk_at dksX0_worksOf_1 0 rfl rfl)
theorem dX0_worksOf_25 : decode cX0_worksOf 25 = .ok (.invokevirtual 317, 3) := dk_182 1 61 (dk_at dksX0_worksOf_1 1 rfl rfl)
theorem dX0_worksOf_28 : decode cX0_worksOf 28 = .ok (.iconst (-1), 1) := dk_2 (dk_at dksX0_worksOf_1 4 rfl rfl)
theorem dX0_worksOf_29 : decode cX0_worksOf 29 = .ok (.if_icmp .eq 7, 3) := dk_159 0 7 (dk_at dksX0_worksOf_1 5 rfl rfl)
theorem dX0_worksOf_32 : decode cX0_worksOf 32 = .ok (.iconst 1, 1) := dk_4 (dk_at dksX0_worksOf_1 8 rfl rfl)
theorem dX0_worksOf_33 : decode cX0_worksOf 33 = .ok (.goto 4, 3) := dk_167 0 4 (dk_at dksX0_worksOf_1 9 rfl rfl)
theorem dX0_worksOf_36 : decode cX0_worksOf 36 = .ok (.iconst 0, 1) := dk_3 (dk_at dksX0_worksOf_1 12 rfl rfl)
theorem dX0_worksOf_37 : decode cX0_worksOf 37 = .ok (.iadd, 1) := dk_96 (dk_at dksX0_worksOf_1 13 rfl rfl)
theorem dX0_worksOf_38 : decode cX0_worksOf 38 = .ok (.istore_n 2, 1) := dk_61 (dk_at dksX0_worksOf_1 14 rfl rfl)
theorem dX0_worksOf_39 : decode cX0_worksOf 39 = .ok (.iinc 3 1, 3) := dk_132 3 1 (dk_at dksX0_worksOf_1 15 rfl rfl)
theorem dX0_worksOf_42 : decode cX0_worksOf 42 = .ok (.goto (-38), 3) := dk_167 255 218 (dk_at dksX0_worksOf_1 18 rfl rfl)
theorem dX0_worksOf_45 : decode cX0_worksOf 45 = .ok (.iload_n 2, 1) := dk_28 (dk_at dksX0_worksOf_1 21 rfl rfl)
theorem dX0_worksOf_46 : decode cX0_worksOf 46 = .ok (.ireturn, 1) := dk_172 (dk_at dksX0_worksOf_1 22 rfl rfl)
abbrev cX0_commute : ByteArray := prog_1_method_72_code
def yX0_commute : MethodName := ⟨RX0, "commute", "(II)I"⟩
def dkwX0_commute_1 : List UInt8 := [153, 0, 7, 4, 167, 0, 9, 3, 167, 0, 5, 16, 254, 172]
abbrev dktX0_commute_1 : List UInt8 := dkwX0_commute_1 ++ []
def dkwX0_commute_0 : List UInt8 := [42, 27, 182, 0, 234, 153, 0, 28, 42, 28, 182, 0, 234, 153, 0, 20, 42, 27, 28, 182, 1, 129]
abbrev dktX0_commute_0 : List UInt8 := dkwX0_commute_0 ++ dktX0_commute_1
theorem dksX0_commute_0 : cX0_commute.data.toList.drop 0 = dktX0_commute_0 := by decide +kernel
theorem dksX0_commute_1 : cX0_commute.data.toList.drop 22 = dktX0_commute_1 := dk_seg dksX0_commute_0 22 rfl rfl
theorem dX0_commute_0 : decode cX0_commute 0 = .ok (.aload_n 0, 1) := dk_42 (dk_at dksX0_commute_0 0 rfl rfl)
theorem dX0_commute_1 : decode cX0_commute 1 = .ok (.iload_n 1, 1) := dk_27 (dk_at dksX0_commute_0 1 rfl rfl)
theorem dX0_commute_2 : decode cX0_commute 2 = .ok (.invokevirtual 234, 3) := dk_182 0 234 (dk_at dksX0_commute_0 2 rfl rfl)
theorem dX0_commute_5 : decode cX0_commute 5 = .ok (.ifCond .eq 28, 3) := dk_153 0 28 (dk_at dksX0_commute_0 5 rfl rfl)
theorem dX0_commute_8 : decode cX0_commute 8 = .ok (.aload_n 0, 1) := dk_42 (dk_at dksX0_commute_0 8 rfl rfl)
theorem dX0_commute_9 : decode cX0_commute 9 = .ok (.iload_n 2, 1) := dk_28 (dk_at dksX0_commute_0 9 rfl rfl)
theorem dX0_commute_10 : decode cX0_commute 10 = .ok (.invokevirtual 234, 3) := dk_182 0 234 (dk_at dksX0_commute_0 10 rfl rfl)
theorem dX0_commute_13 : decode cX0_commute 13 = .ok (.ifCond .eq 20, 3) := dk_153 0 20 (dk_at dksX0_commute_0 13 rfl rfl)
theorem dX0_commute_16 : decode cX0_commute 16 = .ok (.aload_n 0, 1) := dk_42 (dk_at dksX0_commute_0 16 rfl rfl)
theorem dX0_commute_17 : decode cX0_commute 17 = .ok (.iload_n 1, 1) := dk_27 (dk_at dksX0_commute_0 17 rfl rfl)
theorem dX0_commute_18 : decode cX0_commute 18 = .ok (.iload_n 2, 1) := dk_28 (dk_at dksX0_commute_0 18 rfl rfl)
theorem dX0_commute_19 : decode cX0_commute 19 = .ok (.invokevirtual 385, 3) := dk_182 1 129 (dk_at dksX0_commute_0 19 rfl rfl)
theorem dX0_commute_22 : decode cX0_commute 22 = .ok (.ifCond .eq 7, 3) := dk_153 0 7 (dk_at dksX0_commute_1 0 rfl rfl)
theorem dX0_commute_25 : decode cX0_commute 25 = .ok (.iconst 1, 1) := dk_4 (dk_at dksX0_commute_1 3 rfl rfl)
theorem dX0_commute_26 : decode cX0_commute 26 = .ok (.goto 9, 3) := dk_167 0 9 (dk_at dksX0_commute_1 4 rfl rfl)
theorem dX0_commute_29 : decode cX0_commute 29 = .ok (.iconst 0, 1) := dk_3 (dk_at dksX0_commute_1 7 rfl rfl)
theorem dX0_commute_30 : decode cX0_commute 30 = .ok (.goto 5, 3) := dk_167 0 5 (dk_at dksX0_commute_1 8 rfl rfl)
theorem dX0_commute_33 : decode cX0_commute 33 = .ok (.bipush (-2), 2) := dk_16 254 (dk_at dksX0_commute_1 11 rfl rfl)
theorem dX0_commute_35 : decode cX0_commute 35 = .ok (.ireturn, 1) := dk_172 (dk_at dksX0_commute_1 13 rfl rfl)
abbrev cX0_isCommuting : ByteArray := prog_1_method_71_code
def yX0_isCommuting : MethodName := ⟨RX0, "isCommuting", "(II)Z"⟩
def dkwX0_isCommuting_3 : List UInt8 := [182, 1, 61, 182, 1, 61, 159, 0, 5, 3, 172, 132, 3, 1, 167, 255, 176, 4, 172]
abbrev dktX0_isCommuting_3 : List UInt8 := dkwX0_isCommuting_3 ++ []
def dkwX0_isCommuting_2 : List UInt8 := [29, 182, 1, 61, 182, 1, 61, 54, 4, 21, 4, 2, 159, 0, 19, 21, 4, 42, 27, 42, 28, 29]
abbrev dktX0_isCommuting_2 : List UInt8 := dkwX0_isCommuting_2 ++ dktX0_isCommuting_3
def dkwX0_isCommuting_1 : List UInt8 := [182, 1, 61, 2, 159, 0, 53, 42, 28, 29, 182, 1, 61, 2, 160, 0, 6, 167, 0, 40, 42, 28, 42, 27]
abbrev dktX0_isCommuting_1 : List UInt8 := dkwX0_isCommuting_1 ++ dktX0_isCommuting_2
def dkwX0_isCommuting_0 : List UInt8 := [3, 62, 29, 42, 182, 0, 237, 162, 0, 78, 42, 180, 0, 143, 29, 51, 153, 0, 63, 42, 27, 29]
abbrev dktX0_isCommuting_0 : List UInt8 := dkwX0_isCommuting_0 ++ dktX0_isCommuting_1
theorem dksX0_isCommuting_0 : cX0_isCommuting.data.toList.drop 0 = dktX0_isCommuting_0 := by decide +kernel
theorem dksX0_isCommuting_1 : cX0_isCommuting.data.toList.drop 22 = dktX0_isCommuting_1 := dk_seg dksX0_isCommuting_0 22 rfl rfl
theorem dksX0_isCommuting_2 : cX0_isCommuting.data.toList.drop 46 = dktX0_isCommuting_2 := dk_seg dksX0_isCommuting_1 24 rfl rfl
theorem dksX0_isCommuting_3 : cX0_isCommuting.data.toList.drop 68 = dktX0_isCommuting_3 := dk_seg dksX0_isCommuting_2 22 rfl rfl
theorem dX0_isCommuting_0 : decode cX0_isCommuting 0 = .ok (.iconst 0, 1) := dk_3 (dk_at dksX0_isCommuting_0 0 rfl rfl)
theorem dX0_isCommuting_1 : decode cX0_isCommuting 1 = .ok (.istore_n 3, 1) := dk_62 (dk_at dksX0_isCommuting_0 1 rfl rfl)
theorem dX0_isCommuting_2 : decode cX0_isCommuting 2 = .ok (.iload_n 3, 1) := dk_29 (dk_at dksX0_isCommuting_0 2 rfl rfl)
theorem dX0_isCommuting_3 : decode cX0_isCommuting 3 = .ok (.aload_n 0, 1) := dk_42 (dk_at dksX0_isCommuting_0 3 rfl rfl)
theorem dX0_isCommuting_4 : decode cX0_isCommuting 4 = .ok (.invokevirtual 237, 3) := dk_182 0 237 (dk_at dksX0_isCommuting_0 4 rfl rfl)
theorem dX0_isCommuting_7 : decode cX0_isCommuting 7 = .ok (.if_icmp .ge 78, 3) := dk_162 0 78 (dk_at dksX0_isCommuting_0 7 rfl rfl)
theorem dX0_isCommuting_10 : decode cX0_isCommuting 10 = .ok (.aload_n 0, 1) := dk_42 (dk_at dksX0_isCommuting_0 10 rfl rfl)
theorem dX0_isCommuting_11 : decode cX0_isCommuting 11 = .ok (.getfield 143, 3) := dk_180 0 143 (dk_at dksX0_isCommuting_0 11 rfl rfl)
theorem dX0_isCommuting_14 : decode cX0_isCommuting 14 = .ok (.iload_n 3, 1) := dk_29 (dk_at dksX0_isCommuting_0 14 rfl rfl)
theorem dX0_isCommuting_15 : decode cX0_isCommuting 15 = .ok (.baload, 1) := dk_51 (dk_at dksX0_isCommuting_0 15 rfl rfl)
theorem dX0_isCommuting_16 : decode cX0_isCommuting 16 = .ok (.ifCond .eq 63, 3) := dk_153 0 63 (dk_at dksX0_isCommuting_0 16 rfl rfl)
theorem dX0_isCommuting_19 : decode cX0_isCommuting 19 = .ok (.aload_n 0, 1) := dk_42 (dk_at dksX0_isCommuting_0 19 rfl rfl)
theorem dX0_isCommuting_20 : decode cX0_isCommuting 20 = .ok (.iload_n 1, 1) := dk_27 (dk_at dksX0_isCommuting_0 20 rfl rfl)
theorem dX0_isCommuting_21 : decode cX0_isCommuting 21 = .ok (.iload_n 3, 1) := dk_29 (dk_at dksX0_isCommuting_0 21 rfl rfl)
theorem dX0_isCommuting_22 : decode cX0_isCommuting 22 = .ok (.invokevirtual 317, 3) := dk_182 1 61 (dk_at dksX0_isCommuting_1 0 rfl rfl)
theorem dX0_isCommuting_25 : decode cX0_isCommuting 25 = .ok (.iconst (-1), 1) := dk_2 (dk_at dksX0_isCommuting_1 3 rfl rfl)
theorem dX0_isCommuting_26 : decode cX0_isCommuting 26 = .ok (.if_icmp .eq 53, 3) := dk_159 0 53 (dk_at dksX0_isCommuting_1 4 rfl rfl)
theorem dX0_isCommuting_29 : decode cX0_isCommuting 29 = .ok (.aload_n 0, 1) := dk_42 (dk_at dksX0_isCommuting_1 7 rfl rfl)
theorem dX0_isCommuting_30 : decode cX0_isCommuting 30 = .ok (.iload_n 2, 1) := dk_28 (dk_at dksX0_isCommuting_1 8 rfl rfl)
theorem dX0_isCommuting_31 : decode cX0_isCommuting 31 = .ok (.iload_n 3, 1) := dk_29 (dk_at dksX0_isCommuting_1 9 rfl rfl)
theorem dX0_isCommuting_32 : decode cX0_isCommuting 32 = .ok (.invokevirtual 317, 3) := dk_182 1 61 (dk_at dksX0_isCommuting_1 10 rfl rfl)
theorem dX0_isCommuting_35 : decode cX0_isCommuting 35 = .ok (.iconst (-1), 1) := dk_2 (dk_at dksX0_isCommuting_1 13 rfl rfl)
theorem dX0_isCommuting_36 : decode cX0_isCommuting 36 = .ok (.if_icmp .ne 6, 3) := dk_160 0 6 (dk_at dksX0_isCommuting_1 14 rfl rfl)
theorem dX0_isCommuting_39 : decode cX0_isCommuting 39 = .ok (.goto 40, 3) := dk_167 0 40 (dk_at dksX0_isCommuting_1 17 rfl rfl)
theorem dX0_isCommuting_42 : decode cX0_isCommuting 42 = .ok (.aload_n 0, 1) := dk_42 (dk_at dksX0_isCommuting_1 20 rfl rfl)
theorem dX0_isCommuting_43 : decode cX0_isCommuting 43 = .ok (.iload_n 2, 1) := dk_28 (dk_at dksX0_isCommuting_1 21 rfl rfl)
theorem dX0_isCommuting_44 : decode cX0_isCommuting 44 = .ok (.aload_n 0, 1) := dk_42 (dk_at dksX0_isCommuting_1 22 rfl rfl)
theorem dX0_isCommuting_45 : decode cX0_isCommuting 45 = .ok (.iload_n 1, 1) := dk_27 (dk_at dksX0_isCommuting_1 23 rfl rfl)
theorem dX0_isCommuting_46 : decode cX0_isCommuting 46 = .ok (.iload_n 3, 1) := dk_29 (dk_at dksX0_isCommuting_2 0 rfl rfl)
theorem dX0_isCommuting_47 : decode cX0_isCommuting 47 = .ok (.invokevirtual 317, 3) := dk_182 1 61 (dk_at dksX0_isCommuting_2 1 rfl rfl)
theorem dX0_isCommuting_50 : decode cX0_isCommuting 50 = .ok (.invokevirtual 317, 3) := dk_182 1 61 (dk_at dksX0_isCommuting_2 4 rfl rfl)
theorem dX0_isCommuting_53 : decode cX0_isCommuting 53 = .ok (.istore 4, 2) := dk_54 4 (dk_at dksX0_isCommuting_2 7 rfl rfl)
theorem dX0_isCommuting_55 : decode cX0_isCommuting 55 = .ok (.iload 4, 2) := dk_21 4 (dk_at dksX0_isCommuting_2 9 rfl rfl)
theorem dX0_isCommuting_57 : decode cX0_isCommuting 57 = .ok (.iconst (-1), 1) := dk_2 (dk_at dksX0_isCommuting_2 11 rfl rfl)
theorem dX0_isCommuting_58 : decode cX0_isCommuting 58 = .ok (.if_icmp .eq 19, 3) := dk_159 0 19 (dk_at dksX0_isCommuting_2 12 rfl rfl)
theorem dX0_isCommuting_61 : decode cX0_isCommuting 61 = .ok (.iload 4, 2) := dk_21 4 (dk_at dksX0_isCommuting_2 15 rfl rfl)
theorem dX0_isCommuting_63 : decode cX0_isCommuting 63 = .ok (.aload_n 0, 1) := dk_42 (dk_at dksX0_isCommuting_2 17 rfl rfl)
theorem dX0_isCommuting_64 : decode cX0_isCommuting 64 = .ok (.iload_n 1, 1) := dk_27 (dk_at dksX0_isCommuting_2 18 rfl rfl)
theorem dX0_isCommuting_65 : decode cX0_isCommuting 65 = .ok (.aload_n 0, 1) := dk_42 (dk_at dksX0_isCommuting_2 19 rfl rfl)
theorem dX0_isCommuting_66 : decode cX0_isCommuting 66 = .ok (.iload_n 2, 1) := dk_28 (dk_at dksX0_isCommuting_2 20 rfl rfl)
theorem dX0_isCommuting_67 : decode cX0_isCommuting 67 = .ok (.iload_n 3, 1) := dk_29 (dk_at dksX0_isCommuting_2 21 rfl rfl)
theorem dX0_isCommuting_68 : decode cX0_isCommuting 68 = .ok (.invokevirtual 317, 3) := dk_182 1 61 (dk_at dksX0_isCommuting_3 0 rfl rfl)
theorem dX0_isCommuting_71 : decode cX0_isCommuting 71 = .ok (.invokevirtual 317, 3) := dk_182 1 61 (dk_at dksX0_isCommuting_3 3 rfl rfl)
theorem dX0_isCommuting_74 : decode cX0_isCommuting 74 = .ok (.if_icmp .eq 5, 3) := dk_159 0 5 (dk_at dksX0_isCommuting_3 6 rfl rfl)
theorem dX0_isCommuting_77 : decode cX0_isCommuting 77 = .ok (.iconst 0, 1) := dk_3 (dk_at dksX0_isCommuting_3 9 rfl rfl)
theorem dX0_isCommuting_78 : decode cX0_isCommuting 78 = .ok (.ireturn, 1) := dk_172 (dk_at dksX0_isCommuting_3 10 rfl rfl)
theorem dX0_isCommuting_79 : decode cX0_isCommuting 79 = .ok (.iinc 3 1, 3) := dk_132 3 1 (dk_at dksX0_isCommuting_3 11 rfl rfl)
theorem dX0_isCommuting_82 : decode cX0_isCommuting 82 = .ok (.goto (-80), 3) := dk_167 255 176 (dk_at dksX0_isCommuting_3 14 rfl rfl)
theorem dX0_isCommuting_85 : decode cX0_isCommuting 85 = .ok (.iconst 1, 1) := dk_4 (dk_at dksX0_isCommuting_3 17 rfl rfl)
theorem dX0_isCommuting_86 : decode cX0_isCommuting 86 = .ok (.ireturn, 1) := dk_172 (dk_at dksX0_isCommuting_3 18 rfl rfl)
abbrev cX0_table : ByteArray := prog_1_method_73_code
def yX0_table : MethodName := ⟨RX0, "table", "()I"⟩
def dkwX0_table_3 : List UInt8 := [60, 132, 3, 1, 167, 255, 220, 132, 2, 1, 167, 255, 194, 27, 172]
abbrev dktX0_table_3 : List UInt8 := dkwX0_table_3 ++ []
def dkwX0_table_2 : List UInt8 := [185, 0, 225, 1, 0, 162, 0, 26, 27, 42, 28, 29, 182, 1, 129, 153, 0, 7, 4, 167, 0, 4, 3, 96]
abbrev dktX0_table_2 : List UInt8 := dkwX0_table_2 ++ dktX0_table_3
def dkwX0_table_1 : List UInt8 := [180, 0, 231, 185, 0, 225, 1, 0, 162, 0, 52, 28, 4, 96, 62, 29, 42, 180, 0, 46, 180, 0, 231]
abbrev dktX0_table_1 : List UInt8 := dkwX0_table_1 ++ dktX0_table_2
def dkwX0_table_0 : List UInt8 := [42, 180, 0, 46, 182, 0, 200, 154, 0, 6, 16, 254, 172, 3, 60, 3, 61, 28, 42, 180, 0, 46]
abbrev dktX0_table_0 : List UInt8 := dkwX0_table_0 ++ dktX0_table_1
theorem dksX0_table_0 : cX0_table.data.toList.drop 0 = dktX0_table_0 := by decide +kernel
theorem dksX0_table_1 : cX0_table.data.toList.drop 22 = dktX0_table_1 := dk_seg dksX0_table_0 22 rfl rfl
theorem dksX0_table_2 : cX0_table.data.toList.drop 45 = dktX0_table_2 := dk_seg dksX0_table_1 23 rfl rfl
theorem dksX0_table_3 : cX0_table.data.toList.drop 69 = dktX0_table_3 := dk_seg dksX0_table_2 24 rfl rfl
theorem dX0_table_0 : decode cX0_table 0 = .ok (.aload_n 0, 1) := dk_42 (dk_at dksX0_table_0 0 rfl rfl)
theorem dX0_table_1 : decode cX0_table 1 = .ok (.getfield 46, 3) := dk_180 0 46 (dk_at dksX0_table_0 1 rfl rfl)
theorem dX0_table_4 : decode cX0_table 4 = .ok (.invokevirtual 200, 3) := dk_182 0 200 (dk_at dksX0_table_0 4 rfl rfl)
theorem dX0_table_7 : decode cX0_table 7 = .ok (.ifCond .ne 6, 3) := dk_154 0 6 (dk_at dksX0_table_0 7 rfl rfl)
theorem dX0_table_10 : decode cX0_table 10 = .ok (.bipush (-2), 2) := dk_16 254 (dk_at dksX0_table_0 10 rfl rfl)
theorem dX0_table_12 : decode cX0_table 12 = .ok (.ireturn, 1) := dk_172 (dk_at dksX0_table_0 12 rfl rfl)
theorem dX0_table_13 : decode cX0_table 13 = .ok (.iconst 0, 1) := dk_3 (dk_at dksX0_table_0 13 rfl rfl)
theorem dX0_table_14 : decode cX0_table 14 = .ok (.istore_n 1, 1) := dk_60 (dk_at dksX0_table_0 14 rfl rfl)
theorem dX0_table_15 : decode cX0_table 15 = .ok (.iconst 0, 1) := dk_3 (dk_at dksX0_table_0 15 rfl rfl)
theorem dX0_table_16 : decode cX0_table 16 = .ok (.istore_n 2, 1) := dk_61 (dk_at dksX0_table_0 16 rfl rfl)
theorem dX0_table_17 : decode cX0_table 17 = .ok (.iload_n 2, 1) := dk_28 (dk_at dksX0_table_0 17 rfl rfl)
theorem dX0_table_18 : decode cX0_table 18 = .ok (.aload_n 0, 1) := dk_42 (dk_at dksX0_table_0 18 rfl rfl)
theorem dX0_table_19 : decode cX0_table 19 = .ok (.getfield 46, 3) := dk_180 0 46 (dk_at dksX0_table_0 19 rfl rfl)
theorem dX0_table_22 : decode cX0_table 22 = .ok (.getfield 231, 3) := dk_180 0 231 (dk_at dksX0_table_1 0 rfl rfl)
theorem dX0_table_25 : decode cX0_table 25 = .ok (.invokeinterface 225 1, 5) := by decide +kernel
theorem dX0_table_30 : decode cX0_table 30 = .ok (.if_icmp .ge 52, 3) := dk_162 0 52 (dk_at dksX0_table_1 8 rfl rfl)
theorem dX0_table_33 : decode cX0_table 33 = .ok (.iload_n 2, 1) := dk_28 (dk_at dksX0_table_1 11 rfl rfl)
theorem dX0_table_34 : decode cX0_table 34 = .ok (.iconst 1, 1) := dk_4 (dk_at dksX0_table_1 12 rfl rfl)
theorem dX0_table_35 : decode cX0_table 35 = .ok (.iadd, 1) := dk_96 (dk_at dksX0_table_1 13 rfl rfl)
theorem dX0_table_36 : decode cX0_table 36 = .ok (.istore_n 3, 1) := dk_62 (dk_at dksX0_table_1 14 rfl rfl)
theorem dX0_table_37 : decode cX0_table 37 = .ok (.iload_n 3, 1) := dk_29 (dk_at dksX0_table_1 15 rfl rfl)
theorem dX0_table_38 : decode cX0_table 38 = .ok (.aload_n 0, 1) := dk_42 (dk_at dksX0_table_1 16 rfl rfl)
theorem dX0_table_39 : decode cX0_table 39 = .ok (.getfield 46, 3) := dk_180 0 46 (dk_at dksX0_table_1 17 rfl rfl)
theorem dX0_table_42 : decode cX0_table 42 = .ok (.getfield 231, 3) := dk_180 0 231 (dk_at dksX0_table_1 20 rfl rfl)
theorem dX0_table_45 : decode cX0_table 45 = .ok (.invokeinterface 225 1, 5) := by decide +kernel
theorem dX0_table_50 : decode cX0_table 50 = .ok (.if_icmp .ge 26, 3) := dk_162 0 26 (dk_at dksX0_table_2 5 rfl rfl)
theorem dX0_table_53 : decode cX0_table 53 = .ok (.iload_n 1, 1) := dk_27 (dk_at dksX0_table_2 8 rfl rfl)
theorem dX0_table_54 : decode cX0_table 54 = .ok (.aload_n 0, 1) := dk_42 (dk_at dksX0_table_2 9 rfl rfl)
theorem dX0_table_55 : decode cX0_table 55 = .ok (.iload_n 2, 1) := dk_28 (dk_at dksX0_table_2 10 rfl rfl)
theorem dX0_table_56 : decode cX0_table 56 = .ok (.iload_n 3, 1) := dk_29 (dk_at dksX0_table_2 11 rfl rfl)
theorem dX0_table_57 : decode cX0_table 57 = .ok (.invokevirtual 385, 3) := dk_182 1 129 (dk_at dksX0_table_2 12 rfl rfl)
theorem dX0_table_60 : decode cX0_table 60 = .ok (.ifCond .eq 7, 3) := dk_153 0 7 (dk_at dksX0_table_2 15 rfl rfl)
theorem dX0_table_63 : decode cX0_table 63 = .ok (.iconst 1, 1) := dk_4 (dk_at dksX0_table_2 18 rfl rfl)
theorem dX0_table_64 : decode cX0_table 64 = .ok (.goto 4, 3) := dk_167 0 4 (dk_at dksX0_table_2 19 rfl rfl)
theorem dX0_table_67 : decode cX0_table 67 = .ok (.iconst 0, 1) := dk_3 (dk_at dksX0_table_2 22 rfl rfl)
theorem dX0_table_68 : decode cX0_table 68 = .ok (.iadd, 1) := dk_96 (dk_at dksX0_table_2 23 rfl rfl)
theorem dX0_table_69 : decode cX0_table 69 = .ok (.istore_n 1, 1) := dk_60 (dk_at dksX0_table_3 0 rfl rfl)
theorem dX0_table_70 : decode cX0_table 70 = .ok (.iinc 3 1, 3) := dk_132 3 1 (dk_at dksX0_table_3 1 rfl rfl)
theorem dX0_table_73 : decode cX0_table 73 = .ok (.goto (-36), 3) := dk_167 255 220 (dk_at dksX0_table_3 4 rfl rfl)
theorem dX0_table_76 : decode cX0_table 76 = .ok (.iinc 2 1, 3) := dk_132 2 1 (dk_at dksX0_table_3 7 rfl rfl)
theorem dX0_table_79 : decode cX0_table 79 = .ok (.goto (-62), 3) := dk_167 255 194 (dk_at dksX0_table_3 10 rfl rfl)
theorem dX0_table_82 : decode cX0_table 82 = .ok (.iload_n 1, 1) := dk_27 (dk_at dksX0_table_3 13 rfl rfl)
theorem dX0_table_83 : decode cX0_table 83 = .ok (.ireturn, 1) := dk_172 (dk_at dksX0_table_3 14 rfl rfl)
abbrev cX0_merge : ByteArray := prog_1_method_74_code
def yX0_merge : MethodName := ⟨RX0, "merge", "(III)I"⟩
def dkwX0_merge_1 : List UInt8 := [153, 0, 13, 42, 27, 28, 29, 182, 1, 67, 167, 0, 5, 16, 254, 172]
abbrev dktX0_merge_1 : List UInt8 := dkwX0_merge_1 ++ []
def dkwX0_merge_0 : List UInt8 := [42, 27, 133, 182, 1, 51, 153, 0, 31, 42, 28, 133, 182, 1, 51, 153, 0, 22, 42, 29, 133, 182, 1, 51]
abbrev dktX0_merge_0 : List UInt8 := dkwX0_merge_0 ++ dktX0_merge_1
theorem dksX0_merge_0 : cX0_merge.data.toList.drop 0 = dktX0_merge_0 := by decide +kernel
theorem dksX0_merge_1 : cX0_merge.data.toList.drop 24 = dktX0_merge_1 := dk_seg dksX0_merge_0 24 rfl rfl
theorem dX0_merge_0 : decode cX0_merge 0 = .ok (.aload_n 0, 1) := dk_42 (dk_at dksX0_merge_0 0 rfl rfl)
theorem dX0_merge_1 : decode cX0_merge 1 = .ok (.iload_n 1, 1) := dk_27 (dk_at dksX0_merge_0 1 rfl rfl)
theorem dX0_merge_2 : decode cX0_merge 2 = .ok (.i2l, 1) := dk_133 (dk_at dksX0_merge_0 2 rfl rfl)
theorem dX0_merge_3 : decode cX0_merge 3 = .ok (.invokevirtual 307, 3) := dk_182 1 51 (dk_at dksX0_merge_0 3 rfl rfl)
theorem dX0_merge_6 : decode cX0_merge 6 = .ok (.ifCond .eq 31, 3) := dk_153 0 31 (dk_at dksX0_merge_0 6 rfl rfl)
theorem dX0_merge_9 : decode cX0_merge 9 = .ok (.aload_n 0, 1) := dk_42 (dk_at dksX0_merge_0 9 rfl rfl)
theorem dX0_merge_10 : decode cX0_merge 10 = .ok (.iload_n 2, 1) := dk_28 (dk_at dksX0_merge_0 10 rfl rfl)
theorem dX0_merge_11 : decode cX0_merge 11 = .ok (.i2l, 1) := dk_133 (dk_at dksX0_merge_0 11 rfl rfl)
theorem dX0_merge_12 : decode cX0_merge 12 = .ok (.invokevirtual 307, 3) := dk_182 1 51 (dk_at dksX0_merge_0 12 rfl rfl)
theorem dX0_merge_15 : decode cX0_merge 15 = .ok (.ifCond .eq 22, 3) := dk_153 0 22 (dk_at dksX0_merge_0 15 rfl rfl)
theorem dX0_merge_18 : decode cX0_merge 18 = .ok (.aload_n 0, 1) := dk_42 (dk_at dksX0_merge_0 18 rfl rfl)
theorem dX0_merge_19 : decode cX0_merge 19 = .ok (.iload_n 3, 1) := dk_29 (dk_at dksX0_merge_0 19 rfl rfl)
theorem dX0_merge_20 : decode cX0_merge 20 = .ok (.i2l, 1) := dk_133 (dk_at dksX0_merge_0 20 rfl rfl)
theorem dX0_merge_21 : decode cX0_merge 21 = .ok (.invokevirtual 307, 3) := dk_182 1 51 (dk_at dksX0_merge_0 21 rfl rfl)
theorem dX0_merge_24 : decode cX0_merge 24 = .ok (.ifCond .eq 13, 3) := dk_153 0 13 (dk_at dksX0_merge_1 0 rfl rfl)
theorem dX0_merge_27 : decode cX0_merge 27 = .ok (.aload_n 0, 1) := dk_42 (dk_at dksX0_merge_1 3 rfl rfl)
theorem dX0_merge_28 : decode cX0_merge 28 = .ok (.iload_n 1, 1) := dk_27 (dk_at dksX0_merge_1 4 rfl rfl)
theorem dX0_merge_29 : decode cX0_merge 29 = .ok (.iload_n 2, 1) := dk_28 (dk_at dksX0_merge_1 5 rfl rfl)
theorem dX0_merge_30 : decode cX0_merge 30 = .ok (.iload_n 3, 1) := dk_29 (dk_at dksX0_merge_1 6 rfl rfl)
theorem dX0_merge_31 : decode cX0_merge 31 = .ok (.invokevirtual 323, 3) := dk_182 1 67 (dk_at dksX0_merge_1 7 rfl rfl)
theorem dX0_merge_34 : decode cX0_merge 34 = .ok (.goto 5, 3) := dk_167 0 5 (dk_at dksX0_merge_1 10 rfl rfl)
theorem dX0_merge_37 : decode cX0_merge 37 = .ok (.bipush (-2), 2) := dk_16 254 (dk_at dksX0_merge_1 13 rfl rfl)
theorem dX0_merge_39 : decode cX0_merge 39 = .ok (.ireturn, 1) := dk_172 (dk_at dksX0_merge_1 15 rfl rfl)
abbrev cX0_even : ByteArray := prog_1_method_75_code
def yX0_even : MethodName := ⟨RX0, "even", "(III)I"⟩
def dkwX0_even_2 : List UInt8 := [3, 167, 0, 5, 16, 254, 172]
abbrev dktX0_even_2 : List UInt8 := dkwX0_even_2 ++ []
def dkwX0_even_1 : List UInt8 := [153, 0, 28, 42, 27, 28, 29, 182, 1, 67, 42, 27, 29, 28, 182, 1, 67, 160, 0, 7, 4, 167, 0, 9]
abbrev dktX0_even_1 : List UInt8 := dkwX0_even_1 ++ dktX0_even_2
def dkwX0_even_0 : List UInt8 := [42, 27, 133, 182, 1, 51, 153, 0, 46, 42, 28, 133, 182, 1, 51, 153, 0, 37, 42, 29, 133, 182, 1, 51]
abbrev dktX0_even_0 : List UInt8 := dkwX0_even_0 ++ dktX0_even_1
theorem dksX0_even_0 : cX0_even.data.toList.drop 0 = dktX0_even_0 := by decide +kernel
theorem dksX0_even_1 : cX0_even.data.toList.drop 24 = dktX0_even_1 := dk_seg dksX0_even_0 24 rfl rfl
theorem dksX0_even_2 : cX0_even.data.toList.drop 48 = dktX0_even_2 := dk_seg dksX0_even_1 24 rfl rfl
theorem dX0_even_0 : decode cX0_even 0 = .ok (.aload_n 0, 1) := dk_42 (dk_at dksX0_even_0 0 rfl rfl)
theorem dX0_even_1 : decode cX0_even 1 = .ok (.iload_n 1, 1) := dk_27 (dk_at dksX0_even_0 1 rfl rfl)
theorem dX0_even_2 : decode cX0_even 2 = .ok (.i2l, 1) := dk_133 (dk_at dksX0_even_0 2 rfl rfl)
theorem dX0_even_3 : decode cX0_even 3 = .ok (.invokevirtual 307, 3) := dk_182 1 51 (dk_at dksX0_even_0 3 rfl rfl)
theorem dX0_even_6 : decode cX0_even 6 = .ok (.ifCond .eq 46, 3) := dk_153 0 46 (dk_at dksX0_even_0 6 rfl rfl)
theorem dX0_even_9 : decode cX0_even 9 = .ok (.aload_n 0, 1) := dk_42 (dk_at dksX0_even_0 9 rfl rfl)
theorem dX0_even_10 : decode cX0_even 10 = .ok (.iload_n 2, 1) := dk_28 (dk_at dksX0_even_0 10 rfl rfl)
theorem dX0_even_11 : decode cX0_even 11 = .ok (.i2l, 1) := dk_133 (dk_at dksX0_even_0 11 rfl rfl)
theorem dX0_even_12 : decode cX0_even 12 = .ok (.invokevirtual 307, 3) := dk_182 1 51 (dk_at dksX0_even_0 12 rfl rfl)
theorem dX0_even_15 : decode cX0_even 15 = .ok (.ifCond .eq 37, 3) := dk_153 0 37 (dk_at dksX0_even_0 15 rfl rfl)
theorem dX0_even_18 : decode cX0_even 18 = .ok (.aload_n 0, 1) := dk_42 (dk_at dksX0_even_0 18 rfl rfl)
theorem dX0_even_19 : decode cX0_even 19 = .ok (.iload_n 3, 1) := dk_29 (dk_at dksX0_even_0 19 rfl rfl)
theorem dX0_even_20 : decode cX0_even 20 = .ok (.i2l, 1) := dk_133 (dk_at dksX0_even_0 20 rfl rfl)
theorem dX0_even_21 : decode cX0_even 21 = .ok (.invokevirtual 307, 3) := dk_182 1 51 (dk_at dksX0_even_0 21 rfl rfl)
theorem dX0_even_24 : decode cX0_even 24 = .ok (.ifCond .eq 28, 3) := dk_153 0 28 (dk_at dksX0_even_1 0 rfl rfl)
theorem dX0_even_27 : decode cX0_even 27 = .ok (.aload_n 0, 1) := dk_42 (dk_at dksX0_even_1 3 rfl rfl)
theorem dX0_even_28 : decode cX0_even 28 = .ok (.iload_n 1, 1) := dk_27 (dk_at dksX0_even_1 4 rfl rfl)
theorem dX0_even_29 : decode cX0_even 29 = .ok (.iload_n 2, 1) := dk_28 (dk_at dksX0_even_1 5 rfl rfl)
theorem dX0_even_30 : decode cX0_even 30 = .ok (.iload_n 3, 1) := dk_29 (dk_at dksX0_even_1 6 rfl rfl)
theorem dX0_even_31 : decode cX0_even 31 = .ok (.invokevirtual 323, 3) := dk_182 1 67 (dk_at dksX0_even_1 7 rfl rfl)
theorem dX0_even_34 : decode cX0_even 34 = .ok (.aload_n 0, 1) := dk_42 (dk_at dksX0_even_1 10 rfl rfl)
theorem dX0_even_35 : decode cX0_even 35 = .ok (.iload_n 1, 1) := dk_27 (dk_at dksX0_even_1 11 rfl rfl)
theorem dX0_even_36 : decode cX0_even 36 = .ok (.iload_n 3, 1) := dk_29 (dk_at dksX0_even_1 12 rfl rfl)
theorem dX0_even_37 : decode cX0_even 37 = .ok (.iload_n 2, 1) := dk_28 (dk_at dksX0_even_1 13 rfl rfl)
theorem dX0_even_38 : decode cX0_even 38 = .ok (.invokevirtual 323, 3) := dk_182 1 67 (dk_at dksX0_even_1 14 rfl rfl)
theorem dX0_even_41 : decode cX0_even 41 = .ok (.if_icmp .ne 7, 3) := dk_160 0 7 (dk_at dksX0_even_1 17 rfl rfl)
theorem dX0_even_44 : decode cX0_even 44 = .ok (.iconst 1, 1) := dk_4 (dk_at dksX0_even_1 20 rfl rfl)
theorem dX0_even_45 : decode cX0_even 45 = .ok (.goto 9, 3) := dk_167 0 9 (dk_at dksX0_even_1 21 rfl rfl)
theorem dX0_even_48 : decode cX0_even 48 = .ok (.iconst 0, 1) := dk_3 (dk_at dksX0_even_2 0 rfl rfl)
theorem dX0_even_49 : decode cX0_even 49 = .ok (.goto 5, 3) := dk_167 0 5 (dk_at dksX0_even_2 1 rfl rfl)
theorem dX0_even_52 : decode cX0_even 52 = .ok (.bipush (-2), 2) := dk_16 254 (dk_at dksX0_even_2 4 rfl rfl)
theorem dX0_even_54 : decode cX0_even 54 = .ok (.ireturn, 1) := dk_172 (dk_at dksX0_even_2 6 rfl rfl)
abbrev cX0_reach : ByteArray := prog_1_method_76_code
def yX0_reach : MethodName := ⟨RX0, "reach", "(II)I"⟩
def dkwX0_reach_1 : List UInt8 := [27, 51, 153, 0, 19, 42, 180, 0, 152, 27, 28, 3, 182, 1, 94, 180, 1, 97, 167, 0, 4, 2, 172]
abbrev dktX0_reach_1 : List UInt8 := dkwX0_reach_1 ++ []
def dkwX0_reach_0 : List UInt8 := [42, 27, 133, 182, 1, 51, 153, 0, 11, 42, 28, 182, 1, 55, 154, 0, 6, 16, 254, 172, 42, 180, 0, 143]
abbrev dktX0_reach_0 : List UInt8 := dkwX0_reach_0 ++ dktX0_reach_1
theorem dksX0_reach_0 : cX0_reach.data.toList.drop 0 = dktX0_reach_0 := by decide +kernel
theorem dksX0_reach_1 : cX0_reach.data.toList.drop 24 = dktX0_reach_1 := dk_seg dksX0_reach_0 24 rfl rfl
theorem dX0_reach_0 : decode cX0_reach 0 = .ok (.aload_n 0, 1) := dk_42 (dk_at dksX0_reach_0 0 rfl rfl)
theorem dX0_reach_1 : decode cX0_reach 1 = .ok (.iload_n 1, 1) := dk_27 (dk_at dksX0_reach_0 1 rfl rfl)
theorem dX0_reach_2 : decode cX0_reach 2 = .ok (.i2l, 1) := dk_133 (dk_at dksX0_reach_0 2 rfl rfl)
theorem dX0_reach_3 : decode cX0_reach 3 = .ok (.invokevirtual 307, 3) := dk_182 1 51 (dk_at dksX0_reach_0 3 rfl rfl)
theorem dX0_reach_6 : decode cX0_reach 6 = .ok (.ifCond .eq 11, 3) := dk_153 0 11 (dk_at dksX0_reach_0 6 rfl rfl)
theorem dX0_reach_9 : decode cX0_reach 9 = .ok (.aload_n 0, 1) := dk_42 (dk_at dksX0_reach_0 9 rfl rfl)
theorem dX0_reach_10 : decode cX0_reach 10 = .ok (.iload_n 2, 1) := dk_28 (dk_at dksX0_reach_0 10 rfl rfl)
theorem dX0_reach_11 : decode cX0_reach 11 = .ok (.invokevirtual 311, 3) := dk_182 1 55 (dk_at dksX0_reach_0 11 rfl rfl)
theorem dX0_reach_14 : decode cX0_reach 14 = .ok (.ifCond .ne 6, 3) := dk_154 0 6 (dk_at dksX0_reach_0 14 rfl rfl)
theorem dX0_reach_17 : decode cX0_reach 17 = .ok (.bipush (-2), 2) := dk_16 254 (dk_at dksX0_reach_0 17 rfl rfl)
theorem dX0_reach_19 : decode cX0_reach 19 = .ok (.ireturn, 1) := dk_172 (dk_at dksX0_reach_0 19 rfl rfl)
theorem dX0_reach_20 : decode cX0_reach 20 = .ok (.aload_n 0, 1) := dk_42 (dk_at dksX0_reach_0 20 rfl rfl)
theorem dX0_reach_21 : decode cX0_reach 21 = .ok (.getfield 143, 3) := dk_180 0 143 (dk_at dksX0_reach_0 21 rfl rfl)
theorem dX0_reach_24 : decode cX0_reach 24 = .ok (.iload_n 1, 1) := dk_27 (dk_at dksX0_reach_1 0 rfl rfl)
theorem dX0_reach_25 : decode cX0_reach 25 = .ok (.baload, 1) := dk_51 (dk_at dksX0_reach_1 1 rfl rfl)
theorem dX0_reach_26 : decode cX0_reach 26 = .ok (.ifCond .eq 19, 3) := dk_153 0 19 (dk_at dksX0_reach_1 2 rfl rfl)
theorem dX0_reach_29 : decode cX0_reach 29 = .ok (.aload_n 0, 1) := dk_42 (dk_at dksX0_reach_1 5 rfl rfl)
theorem dX0_reach_30 : decode cX0_reach 30 = .ok (.getfield 152, 3) := dk_180 0 152 (dk_at dksX0_reach_1 6 rfl rfl)
theorem dX0_reach_33 : decode cX0_reach 33 = .ok (.iload_n 1, 1) := dk_27 (dk_at dksX0_reach_1 9 rfl rfl)
theorem dX0_reach_34 : decode cX0_reach 34 = .ok (.iload_n 2, 1) := dk_28 (dk_at dksX0_reach_1 10 rfl rfl)
theorem dX0_reach_35 : decode cX0_reach 35 = .ok (.iconst 0, 1) := dk_3 (dk_at dksX0_reach_1 11 rfl rfl)
theorem dX0_reach_36 : decode cX0_reach 36 = .ok (.invokevirtual 350, 3) := dk_182 1 94 (dk_at dksX0_reach_1 12 rfl rfl)
theorem dX0_reach_39 : decode cX0_reach 39 = .ok (.getfield 353, 3) := dk_180 1 97 (dk_at dksX0_reach_1 15 rfl rfl)
theorem dX0_reach_42 : decode cX0_reach 42 = .ok (.goto 4, 3) := dk_167 0 4 (dk_at dksX0_reach_1 18 rfl rfl)
theorem dX0_reach_45 : decode cX0_reach 45 = .ok (.iconst (-1), 1) := dk_2 (dk_at dksX0_reach_1 21 rfl rfl)
theorem dX0_reach_46 : decode cX0_reach 46 = .ok (.ireturn, 1) := dk_172 (dk_at dksX0_reach_1 22 rfl rfl)
abbrev cX0_far : ByteArray := prog_1_method_77_code
def yX0_far : MethodName := ⟨RX0, "far", "(II)I"⟩
def dkwX0_far_1 : List UInt8 := [3, 182, 1, 94, 180, 1, 100, 28, 46, 167, 0, 5, 16, 254, 172]
abbrev dktX0_far_1 : List UInt8 := dkwX0_far_1 ++ []
def dkwX0_far_0 : List UInt8 := [42, 27, 133, 182, 1, 51, 153, 0, 30, 42, 28, 133, 182, 1, 51, 153, 0, 21, 42, 180, 0, 152, 27, 6]
abbrev dktX0_far_0 : List UInt8 := dkwX0_far_0 ++ dktX0_far_1
theorem dksX0_far_0 : cX0_far.data.toList.drop 0 = dktX0_far_0 := by decide +kernel
theorem dksX0_far_1 : cX0_far.data.toList.drop 24 = dktX0_far_1 := dk_seg dksX0_far_0 24 rfl rfl
theorem dX0_far_0 : decode cX0_far 0 = .ok (.aload_n 0, 1) := dk_42 (dk_at dksX0_far_0 0 rfl rfl)
theorem dX0_far_1 : decode cX0_far 1 = .ok (.iload_n 1, 1) := dk_27 (dk_at dksX0_far_0 1 rfl rfl)
theorem dX0_far_2 : decode cX0_far 2 = .ok (.i2l, 1) := dk_133 (dk_at dksX0_far_0 2 rfl rfl)
theorem dX0_far_3 : decode cX0_far 3 = .ok (.invokevirtual 307, 3) := dk_182 1 51 (dk_at dksX0_far_0 3 rfl rfl)
theorem dX0_far_6 : decode cX0_far 6 = .ok (.ifCond .eq 30, 3) := dk_153 0 30 (dk_at dksX0_far_0 6 rfl rfl)
theorem dX0_far_9 : decode cX0_far 9 = .ok (.aload_n 0, 1) := dk_42 (dk_at dksX0_far_0 9 rfl rfl)
theorem dX0_far_10 : decode cX0_far 10 = .ok (.iload_n 2, 1) := dk_28 (dk_at dksX0_far_0 10 rfl rfl)
theorem dX0_far_11 : decode cX0_far 11 = .ok (.i2l, 1) := dk_133 (dk_at dksX0_far_0 11 rfl rfl)
theorem dX0_far_12 : decode cX0_far 12 = .ok (.invokevirtual 307, 3) := dk_182 1 51 (dk_at dksX0_far_0 12 rfl rfl)
theorem dX0_far_15 : decode cX0_far 15 = .ok (.ifCond .eq 21, 3) := dk_153 0 21 (dk_at dksX0_far_0 15 rfl rfl)
theorem dX0_far_18 : decode cX0_far 18 = .ok (.aload_n 0, 1) := dk_42 (dk_at dksX0_far_0 18 rfl rfl)
theorem dX0_far_19 : decode cX0_far 19 = .ok (.getfield 152, 3) := dk_180 0 152 (dk_at dksX0_far_0 19 rfl rfl)
theorem dX0_far_22 : decode cX0_far 22 = .ok (.iload_n 1, 1) := dk_27 (dk_at dksX0_far_0 22 rfl rfl)
theorem dX0_far_23 : decode cX0_far 23 = .ok (.iconst 3, 1) := dk_6 (dk_at dksX0_far_0 23 rfl rfl)
theorem dX0_far_24 : decode cX0_far 24 = .ok (.iconst 0, 1) := dk_3 (dk_at dksX0_far_1 0 rfl rfl)
theorem dX0_far_25 : decode cX0_far 25 = .ok (.invokevirtual 350, 3) := dk_182 1 94 (dk_at dksX0_far_1 1 rfl rfl)
theorem dX0_far_28 : decode cX0_far 28 = .ok (.getfield 356, 3) := dk_180 1 100 (dk_at dksX0_far_1 4 rfl rfl)
theorem dX0_far_31 : decode cX0_far 31 = .ok (.iload_n 2, 1) := dk_28 (dk_at dksX0_far_1 7 rfl rfl)
theorem dX0_far_32 : decode cX0_far 32 = .ok (.iaload, 1) := dk_46 (dk_at dksX0_far_1 8 rfl rfl)
theorem dX0_far_33 : decode cX0_far 33 = .ok (.goto 5, 3) := dk_167 0 5 (dk_at dksX0_far_1 9 rfl rfl)
theorem dX0_far_36 : decode cX0_far 36 = .ok (.bipush (-2), 2) := dk_16 254 (dk_at dksX0_far_1 12 rfl rfl)
theorem dX0_far_38 : decode cX0_far 38 = .ok (.ireturn, 1) := dk_172 (dk_at dksX0_far_1 14 rfl rfl)
abbrev cX0_step : ByteArray := prog_1_method_78_code
def yX0_step : MethodName := ⟨RX0, "step", "(II)I"⟩
def dkwX0_step_2 : List UInt8 := [28, 46, 167, 0, 4, 2, 172]
abbrev dktX0_step_2 : List UInt8 := dkwX0_step_2 ++ []
def dkwX0_step_1 : List UInt8 := [180, 0, 152, 27, 6, 3, 182, 1, 94, 180, 1, 100, 28, 46, 158, 0, 15, 42, 180, 0, 152, 180, 1, 132]
abbrev dktX0_step_1 : List UInt8 := dkwX0_step_1 ++ dktX0_step_2
def dkwX0_step_0 : List UInt8 := [42, 27, 133, 182, 1, 51, 153, 0, 12, 42, 28, 133, 182, 1, 51, 154, 0, 6, 16, 254, 172, 42]
abbrev dktX0_step_0 : List UInt8 := dkwX0_step_0 ++ dktX0_step_1
theorem dksX0_step_0 : cX0_step.data.toList.drop 0 = dktX0_step_0 := by decide +kernel
theorem dksX0_step_1 : cX0_step.data.toList.drop 22 = dktX0_step_1 := dk_seg dksX0_step_0 22 rfl rfl
theorem dksX0_step_2 : cX0_step.data.toList.drop 46 = dktX0_step_2 := dk_seg dksX0_step_1 24 rfl rfl
theorem dX0_step_0 : decode cX0_step 0 = .ok (.aload_n 0, 1) := dk_42 (dk_at dksX0_step_0 0 rfl rfl)
theorem dX0_step_1 : decode cX0_step 1 = .ok (.iload_n 1, 1) := dk_27 (dk_at dksX0_step_0 1 rfl rfl)
theorem dX0_step_2 : decode cX0_step 2 = .ok (.i2l, 1) := dk_133 (dk_at dksX0_step_0 2 rfl rfl)
theorem dX0_step_3 : decode cX0_step 3 = .ok (.invokevirtual 307, 3) := dk_182 1 51 (dk_at dksX0_step_0 3 rfl rfl)
theorem dX0_step_6 : decode cX0_step 6 = .ok (.ifCond .eq 12, 3) := dk_153 0 12 (dk_at dksX0_step_0 6 rfl rfl)
theorem dX0_step_9 : decode cX0_step 9 = .ok (.aload_n 0, 1) := dk_42 (dk_at dksX0_step_0 9 rfl rfl)
theorem dX0_step_10 : decode cX0_step 10 = .ok (.iload_n 2, 1) := dk_28 (dk_at dksX0_step_0 10 rfl rfl)
theorem dX0_step_11 : decode cX0_step 11 = .ok (.i2l, 1) := dk_133 (dk_at dksX0_step_0 11 rfl rfl)
theorem dX0_step_12 : decode cX0_step 12 = .ok (.invokevirtual 307, 3) := dk_182 1 51 (dk_at dksX0_step_0 12 rfl rfl)
theorem dX0_step_15 : decode cX0_step 15 = .ok (.ifCond .ne 6, 3) := dk_154 0 6 (dk_at dksX0_step_0 15 rfl rfl)
theorem dX0_step_18 : decode cX0_step 18 = .ok (.bipush (-2), 2) := dk_16 254 (dk_at dksX0_step_0 18 rfl rfl)
theorem dX0_step_20 : decode cX0_step 20 = .ok (.ireturn, 1) := dk_172 (dk_at dksX0_step_0 20 rfl rfl)
theorem dX0_step_21 : decode cX0_step 21 = .ok (.aload_n 0, 1) := dk_42 (dk_at dksX0_step_0 21 rfl rfl)
theorem dX0_step_22 : decode cX0_step 22 = .ok (.getfield 152, 3) := dk_180 0 152 (dk_at dksX0_step_1 0 rfl rfl)
theorem dX0_step_25 : decode cX0_step 25 = .ok (.iload_n 1, 1) := dk_27 (dk_at dksX0_step_1 3 rfl rfl)
theorem dX0_step_26 : decode cX0_step 26 = .ok (.iconst 3, 1) := dk_6 (dk_at dksX0_step_1 4 rfl rfl)
theorem dX0_step_27 : decode cX0_step 27 = .ok (.iconst 0, 1) := dk_3 (dk_at dksX0_step_1 5 rfl rfl)
theorem dX0_step_28 : decode cX0_step 28 = .ok (.invokevirtual 350, 3) := dk_182 1 94 (dk_at dksX0_step_1 6 rfl rfl)
theorem dX0_step_31 : decode cX0_step 31 = .ok (.getfield 356, 3) := dk_180 1 100 (dk_at dksX0_step_1 9 rfl rfl)
theorem dX0_step_34 : decode cX0_step 34 = .ok (.iload_n 2, 1) := dk_28 (dk_at dksX0_step_1 12 rfl rfl)
theorem dX0_step_35 : decode cX0_step 35 = .ok (.iaload, 1) := dk_46 (dk_at dksX0_step_1 13 rfl rfl)
theorem dX0_step_36 : decode cX0_step 36 = .ok (.ifCond .le 15, 3) := dk_158 0 15 (dk_at dksX0_step_1 14 rfl rfl)
theorem dX0_step_39 : decode cX0_step 39 = .ok (.aload_n 0, 1) := dk_42 (dk_at dksX0_step_1 17 rfl rfl)
theorem dX0_step_40 : decode cX0_step 40 = .ok (.getfield 152, 3) := dk_180 0 152 (dk_at dksX0_step_1 18 rfl rfl)
theorem dX0_step_43 : decode cX0_step 43 = .ok (.getfield 388, 3) := dk_180 1 132 (dk_at dksX0_step_1 21 rfl rfl)
theorem dX0_step_46 : decode cX0_step 46 = .ok (.iload_n 2, 1) := dk_28 (dk_at dksX0_step_2 0 rfl rfl)
theorem dX0_step_47 : decode cX0_step 47 = .ok (.iaload, 1) := dk_46 (dk_at dksX0_step_2 1 rfl rfl)
theorem dX0_step_48 : decode cX0_step 48 = .ok (.goto 4, 3) := dk_167 0 4 (dk_at dksX0_step_2 2 rfl rfl)
theorem dX0_step_51 : decode cX0_step 51 = .ok (.iconst (-1), 1) := dk_2 (dk_at dksX0_step_2 5 rfl rfl)
theorem dX0_step_52 : decode cX0_step 52 = .ok (.ireturn, 1) := dk_172 (dk_at dksX0_step_2 6 rfl rfl)
abbrev cX0_freely : ByteArray := prog_1_method_79_code
def yX0_freely : MethodName := ⟨RX0, "freely", "(II)I"⟩
def dkwX0_freely_2 : List UInt8 := [2, 172]
abbrev dktX0_freely_2 : List UInt8 := dkwX0_freely_2 ++ []
def dkwX0_freely_1 : List UInt8 := [27, 51, 153, 0, 22, 42, 180, 0, 152, 27, 28, 42, 180, 1, 14, 182, 1, 94, 180, 1, 97, 167, 0, 4]
abbrev dktX0_freely_1 : List UInt8 := dkwX0_freely_1 ++ dktX0_freely_2
def dkwX0_freely_0 : List UInt8 := [42, 27, 133, 182, 1, 51, 153, 0, 11, 42, 28, 182, 1, 55, 154, 0, 6, 16, 254, 172, 42, 180, 0, 143]
abbrev dktX0_freely_0 : List UInt8 := dkwX0_freely_0 ++ dktX0_freely_1
theorem dksX0_freely_0 : cX0_freely.data.toList.drop 0 = dktX0_freely_0 := by decide +kernel
theorem dksX0_freely_1 : cX0_freely.data.toList.drop 24 = dktX0_freely_1 := dk_seg dksX0_freely_0 24 rfl rfl
theorem dksX0_freely_2 : cX0_freely.data.toList.drop 48 = dktX0_freely_2 := dk_seg dksX0_freely_1 24 rfl rfl
theorem dX0_freely_0 : decode cX0_freely 0 = .ok (.aload_n 0, 1) := dk_42 (dk_at dksX0_freely_0 0 rfl rfl)
theorem dX0_freely_1 : decode cX0_freely 1 = .ok (.iload_n 1, 1) := dk_27 (dk_at dksX0_freely_0 1 rfl rfl)
theorem dX0_freely_2 : decode cX0_freely 2 = .ok (.i2l, 1) := dk_133 (dk_at dksX0_freely_0 2 rfl rfl)
theorem dX0_freely_3 : decode cX0_freely 3 = .ok (.invokevirtual 307, 3) := dk_182 1 51 (dk_at dksX0_freely_0 3 rfl rfl)
theorem dX0_freely_6 : decode cX0_freely 6 = .ok (.ifCond .eq 11, 3) := dk_153 0 11 (dk_at dksX0_freely_0 6 rfl rfl)
theorem dX0_freely_9 : decode cX0_freely 9 = .ok (.aload_n 0, 1) := dk_42 (dk_at dksX0_freely_0 9 rfl rfl)
theorem dX0_freely_10 : decode cX0_freely 10 = .ok (.iload_n 2, 1) := dk_28 (dk_at dksX0_freely_0 10 rfl rfl)
theorem dX0_freely_11 : decode cX0_freely 11 = .ok (.invokevirtual 311, 3) := dk_182 1 55 (dk_at dksX0_freely_0 11 rfl rfl)
theorem dX0_freely_14 : decode cX0_freely 14 = .ok (.ifCond .ne 6, 3) := dk_154 0 6 (dk_at dksX0_freely_0 14 rfl rfl)
theorem dX0_freely_17 : decode cX0_freely 17 = .ok (.bipush (-2), 2) := dk_16 254 (dk_at dksX0_freely_0 17 rfl rfl)
theorem dX0_freely_19 : decode cX0_freely 19 = .ok (.ireturn, 1) := dk_172 (dk_at dksX0_freely_0 19 rfl rfl)
theorem dX0_freely_20 : decode cX0_freely 20 = .ok (.aload_n 0, 1) := dk_42 (dk_at dksX0_freely_0 20 rfl rfl)
theorem dX0_freely_21 : decode cX0_freely 21 = .ok (.getfield 143, 3) := dk_180 0 143 (dk_at dksX0_freely_0 21 rfl rfl)
theorem dX0_freely_24 : decode cX0_freely 24 = .ok (.iload_n 1, 1) := dk_27 (dk_at dksX0_freely_1 0 rfl rfl)
theorem dX0_freely_25 : decode cX0_freely 25 = .ok (.baload, 1) := dk_51 (dk_at dksX0_freely_1 1 rfl rfl)
theorem dX0_freely_26 : decode cX0_freely 26 = .ok (.ifCond .eq 22, 3) := dk_153 0 22 (dk_at dksX0_freely_1 2 rfl rfl)
theorem dX0_freely_29 : decode cX0_freely 29 = .ok (.aload_n 0, 1) := dk_42 (dk_at dksX0_freely_1 5 rfl rfl)
theorem dX0_freely_30 : decode cX0_freely 30 = .ok (.getfield 152, 3) := dk_180 0 152 (dk_at dksX0_freely_1 6 rfl rfl)
theorem dX0_freely_33 : decode cX0_freely 33 = .ok (.iload_n 1, 1) := dk_27 (dk_at dksX0_freely_1 9 rfl rfl)
theorem dX0_freely_34 : decode cX0_freely 34 = .ok (.iload_n 2, 1) := dk_28 (dk_at dksX0_freely_1 10 rfl rfl)
theorem dX0_freely_35 : decode cX0_freely 35 = .ok (.aload_n 0, 1) := dk_42 (dk_at dksX0_freely_1 11 rfl rfl)
theorem dX0_freely_36 : decode cX0_freely 36 = .ok (.getfield 270, 3) := dk_180 1 14 (dk_at dksX0_freely_1 12 rfl rfl)
theorem dX0_freely_39 : decode cX0_freely 39 = .ok (.invokevirtual 350, 3) := dk_182 1 94 (dk_at dksX0_freely_1 15 rfl rfl)
theorem dX0_freely_42 : decode cX0_freely 42 = .ok (.getfield 353, 3) := dk_180 1 97 (dk_at dksX0_freely_1 18 rfl rfl)
theorem dX0_freely_45 : decode cX0_freely 45 = .ok (.goto 4, 3) := dk_167 0 4 (dk_at dksX0_freely_1 21 rfl rfl)
theorem dX0_freely_48 : decode cX0_freely 48 = .ok (.iconst (-1), 1) := dk_2 (dk_at dksX0_freely_2 0 rfl rfl)
theorem dX0_freely_49 : decode cX0_freely 49 = .ok (.ireturn, 1) := dk_172 (dk_at dksX0_freely_2 1 rfl rfl)
abbrev cX0_all : ByteArray := prog_1_method_81_code
def yX0_all : MethodName := ⟨RX0, "all", "(I)I"⟩
def dkwX0_all_0 : List UInt8 := [42, 27, 182, 1, 55, 153, 0, 11, 42, 27, 182, 1, 136, 167, 0, 5, 16, 254, 172]
abbrev dktX0_all_0 : List UInt8 := dkwX0_all_0 ++ []
theorem dksX0_all_0 : cX0_all.data.toList.drop 0 = dktX0_all_0 := by decide +kernel
theorem dX0_all_0 : decode cX0_all 0 = .ok (.aload_n 0, 1) := dk_42 (dk_at dksX0_all_0 0 rfl rfl)
theorem dX0_all_1 : decode cX0_all 1 = .ok (.iload_n 1, 1) := dk_27 (dk_at dksX0_all_0 1 rfl rfl)
theorem dX0_all_2 : decode cX0_all 2 = .ok (.invokevirtual 311, 3) := dk_182 1 55 (dk_at dksX0_all_0 2 rfl rfl)
theorem dX0_all_5 : decode cX0_all 5 = .ok (.ifCond .eq 11, 3) := dk_153 0 11 (dk_at dksX0_all_0 5 rfl rfl)
theorem dX0_all_8 : decode cX0_all 8 = .ok (.aload_n 0, 1) := dk_42 (dk_at dksX0_all_0 8 rfl rfl)
theorem dX0_all_9 : decode cX0_all 9 = .ok (.iload_n 1, 1) := dk_27 (dk_at dksX0_all_0 9 rfl rfl)
theorem dX0_all_10 : decode cX0_all 10 = .ok (.invokevirtual 392, 3) := dk_182 1 136 (dk_at dksX0_all_0 10 rfl rfl)
theorem dX0_all_13 : decode cX0_all 13 = .ok (.goto 5, 3) := dk_167 0 5 (dk_at dksX0_all_0 13 rfl rfl)
theorem dX0_all_16 : decode cX0_all 16 = .ok (.bipush (-2), 2) := dk_16 254 (dk_at dksX0_all_0 16 rfl rfl)
theorem dX0_all_18 : decode cX0_all 18 = .ok (.ireturn, 1) := dk_172 (dk_at dksX0_all_0 18 rfl rfl)
abbrev cX0_allIn : ByteArray := prog_1_method_52_code
def yX0_allIn : MethodName := ⟨RX0, "allIn", "(I)I"⟩
def dkwX0_allIn_0 : List UInt8 := [42, 27, 42, 186, 1, 112, 0, 0, 182, 1, 115, 172]
abbrev dktX0_allIn_0 : List UInt8 := dkwX0_allIn_0 ++ []
theorem dksX0_allIn_0 : cX0_allIn.data.toList.drop 0 = dktX0_allIn_0 := by decide +kernel
theorem dX0_allIn_0 : decode cX0_allIn 0 = .ok (.aload_n 0, 1) := dk_42 (dk_at dksX0_allIn_0 0 rfl rfl)
theorem dX0_allIn_1 : decode cX0_allIn 1 = .ok (.iload_n 1, 1) := dk_27 (dk_at dksX0_allIn_0 1 rfl rfl)
theorem dX0_allIn_2 : decode cX0_allIn 2 = .ok (.aload_n 0, 1) := dk_42 (dk_at dksX0_allIn_0 2 rfl rfl)
theorem dX0_allIn_3 : decode cX0_allIn 3 = .ok (.invokedynamic 368, 5) := by decide +kernel
theorem dX0_allIn_8 : decode cX0_allIn 8 = .ok (.invokevirtual 371, 3) := dk_182 1 115 (dk_at dksX0_allIn_0 8 rfl rfl)
theorem dX0_allIn_11 : decode cX0_allIn 11 = .ok (.ireturn, 1) := dk_172 (dk_at dksX0_allIn_0 11 rfl rfl)
abbrev cX0_lambda_allIn_13 : ByteArray := prog_1_method_152_code
def yX0_lambda_allIn_13 : MethodName := ⟨RX0, "lambda$allIn$13", "(IIII)V"⟩
def dkwX0_lambda_allIn_13_0 : List UInt8 := [42, 21, 4, 182, 2, 87, 177]
abbrev dktX0_lambda_allIn_13_0 : List UInt8 := dkwX0_lambda_allIn_13_0 ++ []
theorem dksX0_lambda_allIn_13_0 : cX0_lambda_allIn_13.data.toList.drop 0 = dktX0_lambda_allIn_13_0 := by decide +kernel
theorem dX0_lambda_allIn_13_0 : decode cX0_lambda_allIn_13 0 = .ok (.aload_n 0, 1) := dk_42 (dk_at dksX0_lambda_allIn_13_0 0 rfl rfl)
theorem dX0_lambda_allIn_13_1 : decode cX0_lambda_allIn_13 1 = .ok (.iload 4, 2) := dk_21 4 (dk_at dksX0_lambda_allIn_13_0 1 rfl rfl)
theorem dX0_lambda_allIn_13_3 : decode cX0_lambda_allIn_13 3 = .ok (.invokevirtual 599, 3) := dk_182 2 87 (dk_at dksX0_lambda_allIn_13_0 3 rfl rfl)
theorem dX0_lambda_allIn_13_6 : decode cX0_lambda_allIn_13 6 = .ok (.return_, 1) := dk_177 (dk_at dksX0_lambda_allIn_13_0 6 rfl rfl)
abbrev cX0_through : ByteArray := prog_1_method_51_code
def yX0_through : MethodName := ⟨RX0, "through", "(ILMergeJudge$Break;)I"⟩
def dkwX0_through_1 : List UInt8 := [62, 132, 4, 1, 167, 255, 233, 29, 172]
abbrev dktX0_through_1 : List UInt8 := dkwX0_through_1 ++ []
def dkwX0_through_0 : List UInt8 := [3, 62, 3, 54, 4, 21, 4, 42, 182, 0, 237, 162, 0, 20, 29, 42, 21, 4, 27, 44, 182, 1, 108, 96]
abbrev dktX0_through_0 : List UInt8 := dkwX0_through_0 ++ dktX0_through_1
theorem dksX0_through_0 : cX0_through.data.toList.drop 0 = dktX0_through_0 := by decide +kernel
theorem dksX0_through_1 : cX0_through.data.toList.drop 24 = dktX0_through_1 := dk_seg dksX0_through_0 24 rfl rfl
theorem dX0_through_0 : decode cX0_through 0 = .ok (.iconst 0, 1) := dk_3 (dk_at dksX0_through_0 0 rfl rfl)
theorem dX0_through_1 : decode cX0_through 1 = .ok (.istore_n 3, 1) := dk_62 (dk_at dksX0_through_0 1 rfl rfl)
theorem dX0_through_2 : decode cX0_through 2 = .ok (.iconst 0, 1) := dk_3 (dk_at dksX0_through_0 2 rfl rfl)
theorem dX0_through_3 : decode cX0_through 3 = .ok (.istore 4, 2) := dk_54 4 (dk_at dksX0_through_0 3 rfl rfl)
theorem dX0_through_5 : decode cX0_through 5 = .ok (.iload 4, 2) := dk_21 4 (dk_at dksX0_through_0 5 rfl rfl)
theorem dX0_through_7 : decode cX0_through 7 = .ok (.aload_n 0, 1) := dk_42 (dk_at dksX0_through_0 7 rfl rfl)
theorem dX0_through_8 : decode cX0_through 8 = .ok (.invokevirtual 237, 3) := dk_182 0 237 (dk_at dksX0_through_0 8 rfl rfl)
theorem dX0_through_11 : decode cX0_through 11 = .ok (.if_icmp .ge 20, 3) := dk_162 0 20 (dk_at dksX0_through_0 11 rfl rfl)
theorem dX0_through_14 : decode cX0_through 14 = .ok (.iload_n 3, 1) := dk_29 (dk_at dksX0_through_0 14 rfl rfl)
theorem dX0_through_15 : decode cX0_through 15 = .ok (.aload_n 0, 1) := dk_42 (dk_at dksX0_through_0 15 rfl rfl)
theorem dX0_through_16 : decode cX0_through 16 = .ok (.iload 4, 2) := dk_21 4 (dk_at dksX0_through_0 16 rfl rfl)
theorem dX0_through_18 : decode cX0_through 18 = .ok (.iload_n 1, 1) := dk_27 (dk_at dksX0_through_0 18 rfl rfl)
theorem dX0_through_19 : decode cX0_through 19 = .ok (.aload_n 2, 1) := dk_44 (dk_at dksX0_through_0 19 rfl rfl)
theorem dX0_through_20 : decode cX0_through 20 = .ok (.invokevirtual 364, 3) := dk_182 1 108 (dk_at dksX0_through_0 20 rfl rfl)
theorem dX0_through_23 : decode cX0_through 23 = .ok (.iadd, 1) := dk_96 (dk_at dksX0_through_0 23 rfl rfl)
theorem dX0_through_24 : decode cX0_through 24 = .ok (.istore_n 3, 1) := dk_62 (dk_at dksX0_through_1 0 rfl rfl)
theorem dX0_through_25 : decode cX0_through 25 = .ok (.iinc 4 1, 3) := dk_132 4 1 (dk_at dksX0_through_1 1 rfl rfl)
theorem dX0_through_28 : decode cX0_through 28 = .ok (.goto (-23), 3) := dk_167 255 233 (dk_at dksX0_through_1 4 rfl rfl)
theorem dX0_through_31 : decode cX0_through 31 = .ok (.iload_n 3, 1) := dk_29 (dk_at dksX0_through_1 7 rfl rfl)
theorem dX0_through_32 : decode cX0_through 32 = .ok (.ireturn, 1) := dk_172 (dk_at dksX0_through_1 8 rfl rfl)
abbrev cX0_pairs : ByteArray := prog_1_method_82_code
def yX0_pairs : MethodName := ⟨RX0, "pairs", "(I)I"⟩
def dkwX0_pairs_1 : List UInt8 := [186, 1, 142, 0, 0, 182, 1, 115, 87, 44, 182, 1, 145, 172]
abbrev dktX0_pairs_1 : List UInt8 := dkwX0_pairs_1 ++ []
def dkwX0_pairs_0 : List UInt8 := [42, 27, 182, 1, 55, 154, 0, 6, 16, 254, 172, 187, 1, 139, 89, 183, 1, 141, 77, 42, 27, 44]
abbrev dktX0_pairs_0 : List UInt8 := dkwX0_pairs_0 ++ dktX0_pairs_1
theorem dksX0_pairs_0 : cX0_pairs.data.toList.drop 0 = dktX0_pairs_0 := by decide +kernel
theorem dksX0_pairs_1 : cX0_pairs.data.toList.drop 22 = dktX0_pairs_1 := dk_seg dksX0_pairs_0 22 rfl rfl
theorem dX0_pairs_0 : decode cX0_pairs 0 = .ok (.aload_n 0, 1) := dk_42 (dk_at dksX0_pairs_0 0 rfl rfl)
theorem dX0_pairs_1 : decode cX0_pairs 1 = .ok (.iload_n 1, 1) := dk_27 (dk_at dksX0_pairs_0 1 rfl rfl)
theorem dX0_pairs_2 : decode cX0_pairs 2 = .ok (.invokevirtual 311, 3) := dk_182 1 55 (dk_at dksX0_pairs_0 2 rfl rfl)
theorem dX0_pairs_5 : decode cX0_pairs 5 = .ok (.ifCond .ne 6, 3) := dk_154 0 6 (dk_at dksX0_pairs_0 5 rfl rfl)
theorem dX0_pairs_8 : decode cX0_pairs 8 = .ok (.bipush (-2), 2) := dk_16 254 (dk_at dksX0_pairs_0 8 rfl rfl)
theorem dX0_pairs_10 : decode cX0_pairs 10 = .ok (.ireturn, 1) := dk_172 (dk_at dksX0_pairs_0 10 rfl rfl)
theorem dX0_pairs_11 : decode cX0_pairs 11 = .ok (.new 395, 3) := dk_187 1 139 (dk_at dksX0_pairs_0 11 rfl rfl)
theorem dX0_pairs_14 : decode cX0_pairs 14 = .ok (.dup, 1) := dk_89 (dk_at dksX0_pairs_0 14 rfl rfl)
theorem dX0_pairs_15 : decode cX0_pairs 15 = .ok (.invokespecial 397, 3) := dk_183 1 141 (dk_at dksX0_pairs_0 15 rfl rfl)
theorem dX0_pairs_18 : decode cX0_pairs 18 = .ok (.astore_n 2, 1) := dk_77 (dk_at dksX0_pairs_0 18 rfl rfl)
theorem dX0_pairs_19 : decode cX0_pairs 19 = .ok (.aload_n 0, 1) := dk_42 (dk_at dksX0_pairs_0 19 rfl rfl)
theorem dX0_pairs_20 : decode cX0_pairs 20 = .ok (.iload_n 1, 1) := dk_27 (dk_at dksX0_pairs_0 20 rfl rfl)
theorem dX0_pairs_21 : decode cX0_pairs 21 = .ok (.aload_n 2, 1) := dk_44 (dk_at dksX0_pairs_0 21 rfl rfl)
theorem dX0_pairs_22 : decode cX0_pairs 22 = .ok (.invokedynamic 398, 5) := by decide +kernel
theorem dX0_pairs_27 : decode cX0_pairs 27 = .ok (.invokevirtual 371, 3) := dk_182 1 115 (dk_at dksX0_pairs_1 5 rfl rfl)
theorem dX0_pairs_30 : decode cX0_pairs 30 = .ok (.pop, 1) := dk_87 (dk_at dksX0_pairs_1 8 rfl rfl)
theorem dX0_pairs_31 : decode cX0_pairs 31 = .ok (.aload_n 2, 1) := dk_44 (dk_at dksX0_pairs_1 9 rfl rfl)
theorem dX0_pairs_32 : decode cX0_pairs 32 = .ok (.invokevirtual 401, 3) := dk_182 1 145 (dk_at dksX0_pairs_1 10 rfl rfl)
theorem dX0_pairs_35 : decode cX0_pairs 35 = .ok (.ireturn, 1) := dk_172 (dk_at dksX0_pairs_1 13 rfl rfl)
abbrev cX0_lambda_pairs_16 : ByteArray := prog_1_method_149_code
def yX0_lambda_pairs_16 : MethodName := ⟨RX0, "lambda$pairs$16", "(Ljava/util/HashSet;IIII)V"⟩
def dkwX0_lambda_pairs_16_0 : List UInt8 := [42, 187, 2, 82, 89, 29, 28, 183, 2, 84, 182, 2, 86, 87, 177]
abbrev dktX0_lambda_pairs_16_0 : List UInt8 := dkwX0_lambda_pairs_16_0 ++ []
theorem dksX0_lambda_pairs_16_0 : cX0_lambda_pairs_16.data.toList.drop 0 = dktX0_lambda_pairs_16_0 := by decide +kernel
theorem dX0_lambda_pairs_16_0 : decode cX0_lambda_pairs_16 0 = .ok (.aload_n 0, 1) := dk_42 (dk_at dksX0_lambda_pairs_16_0 0 rfl rfl)
theorem dX0_lambda_pairs_16_1 : decode cX0_lambda_pairs_16 1 = .ok (.new 594, 3) := dk_187 2 82 (dk_at dksX0_lambda_pairs_16_0 1 rfl rfl)
theorem dX0_lambda_pairs_16_4 : decode cX0_lambda_pairs_16 4 = .ok (.dup, 1) := dk_89 (dk_at dksX0_lambda_pairs_16_0 4 rfl rfl)
theorem dX0_lambda_pairs_16_5 : decode cX0_lambda_pairs_16 5 = .ok (.iload_n 3, 1) := dk_29 (dk_at dksX0_lambda_pairs_16_0 5 rfl rfl)
theorem dX0_lambda_pairs_16_6 : decode cX0_lambda_pairs_16 6 = .ok (.iload_n 2, 1) := dk_28 (dk_at dksX0_lambda_pairs_16_0 6 rfl rfl)
theorem dX0_lambda_pairs_16_7 : decode cX0_lambda_pairs_16 7 = .ok (.invokespecial 596, 3) := dk_183 2 84 (dk_at dksX0_lambda_pairs_16_0 7 rfl rfl)
theorem dX0_lambda_pairs_16_10 : decode cX0_lambda_pairs_16 10 = .ok (.invokevirtual 598, 3) := dk_182 2 86 (dk_at dksX0_lambda_pairs_16_0 10 rfl rfl)
theorem dX0_lambda_pairs_16_13 : decode cX0_lambda_pairs_16 13 = .ok (.pop, 1) := dk_87 (dk_at dksX0_lambda_pairs_16_0 13 rfl rfl)
theorem dX0_lambda_pairs_16_14 : decode cX0_lambda_pairs_16 14 = .ok (.return_, 1) := dk_177 (dk_at dksX0_lambda_pairs_16_0 14 rfl rfl)
abbrev cX0_safe : ByteArray := prog_1_method_83_code
def yX0_safe : MethodName := ⟨RX0, "safe", "(I)I"⟩
def dkwX0_safe_1 : List UInt8 := [16, 254, 172]
abbrev dktX0_safe_1 : List UInt8 := dkwX0_safe_1 ++ []
def dkwX0_safe_0 : List UInt8 := [42, 27, 182, 1, 55, 153, 0, 19, 42, 27, 182, 1, 146, 153, 0, 7, 4, 167, 0, 9, 3, 167, 0, 5]
abbrev dktX0_safe_0 : List UInt8 := dkwX0_safe_0 ++ dktX0_safe_1
theorem dksX0_safe_0 : cX0_safe.data.toList.drop 0 = dktX0_safe_0 := by decide +kernel
theorem dksX0_safe_1 : cX0_safe.data.toList.drop 24 = dktX0_safe_1 := dk_seg dksX0_safe_0 24 rfl rfl
theorem dX0_safe_0 : decode cX0_safe 0 = .ok (.aload_n 0, 1) := dk_42 (dk_at dksX0_safe_0 0 rfl rfl)
theorem dX0_safe_1 : decode cX0_safe 1 = .ok (.iload_n 1, 1) := dk_27 (dk_at dksX0_safe_0 1 rfl rfl)
theorem dX0_safe_2 : decode cX0_safe 2 = .ok (.invokevirtual 311, 3) := dk_182 1 55 (dk_at dksX0_safe_0 2 rfl rfl)
theorem dX0_safe_5 : decode cX0_safe 5 = .ok (.ifCond .eq 19, 3) := dk_153 0 19 (dk_at dksX0_safe_0 5 rfl rfl)
theorem dX0_safe_8 : decode cX0_safe 8 = .ok (.aload_n 0, 1) := dk_42 (dk_at dksX0_safe_0 8 rfl rfl)
theorem dX0_safe_9 : decode cX0_safe 9 = .ok (.iload_n 1, 1) := dk_27 (dk_at dksX0_safe_0 9 rfl rfl)
theorem dX0_safe_10 : decode cX0_safe 10 = .ok (.invokevirtual 402, 3) := dk_182 1 146 (dk_at dksX0_safe_0 10 rfl rfl)
theorem dX0_safe_13 : decode cX0_safe 13 = .ok (.ifCond .eq 7, 3) := dk_153 0 7 (dk_at dksX0_safe_0 13 rfl rfl)
theorem dX0_safe_16 : decode cX0_safe 16 = .ok (.iconst 1, 1) := dk_4 (dk_at dksX0_safe_0 16 rfl rfl)
theorem dX0_safe_17 : decode cX0_safe 17 = .ok (.goto 9, 3) := dk_167 0 9 (dk_at dksX0_safe_0 17 rfl rfl)
theorem dX0_safe_20 : decode cX0_safe 20 = .ok (.iconst 0, 1) := dk_3 (dk_at dksX0_safe_0 20 rfl rfl)
theorem dX0_safe_21 : decode cX0_safe 21 = .ok (.goto 5, 3) := dk_167 0 5 (dk_at dksX0_safe_0 21 rfl rfl)
theorem dX0_safe_24 : decode cX0_safe 24 = .ok (.bipush (-2), 2) := dk_16 254 (dk_at dksX0_safe_1 0 rfl rfl)
theorem dX0_safe_26 : decode cX0_safe 26 = .ok (.ireturn, 1) := dk_172 (dk_at dksX0_safe_1 2 rfl rfl)
abbrev cX0_isSafe : ByteArray := prog_1_method_54_code
def yX0_isSafe : MethodName := ⟨RX0, "isSafe", "(I)Z"⟩
def dkwX0_isSafe_1 : List UInt8 := [158, 0, 5, 3, 172, 132, 2, 1, 167, 255, 228, 4, 172]
abbrev dktX0_isSafe_1 : List UInt8 := dkwX0_isSafe_1 ++ []
def dkwX0_isSafe_0 : List UInt8 := [3, 61, 28, 42, 182, 0, 237, 162, 0, 26, 42, 28, 27, 42, 186, 1, 119, 0, 0, 182, 1, 108]
abbrev dktX0_isSafe_0 : List UInt8 := dkwX0_isSafe_0 ++ dktX0_isSafe_1
theorem dksX0_isSafe_0 : cX0_isSafe.data.toList.drop 0 = dktX0_isSafe_0 := by decide +kernel
theorem dksX0_isSafe_1 : cX0_isSafe.data.toList.drop 22 = dktX0_isSafe_1 := dk_seg dksX0_isSafe_0 22 rfl rfl
theorem dX0_isSafe_0 : decode cX0_isSafe 0 = .ok (.iconst 0, 1) := dk_3 (dk_at dksX0_isSafe_0 0 rfl rfl)
theorem dX0_isSafe_1 : decode cX0_isSafe 1 = .ok (.istore_n 2, 1) := dk_61 (dk_at dksX0_isSafe_0 1 rfl rfl)
theorem dX0_isSafe_2 : decode cX0_isSafe 2 = .ok (.iload_n 2, 1) := dk_28 (dk_at dksX0_isSafe_0 2 rfl rfl)
theorem dX0_isSafe_3 : decode cX0_isSafe 3 = .ok (.aload_n 0, 1) := dk_42 (dk_at dksX0_isSafe_0 3 rfl rfl)
theorem dX0_isSafe_4 : decode cX0_isSafe 4 = .ok (.invokevirtual 237, 3) := dk_182 0 237 (dk_at dksX0_isSafe_0 4 rfl rfl)
theorem dX0_isSafe_7 : decode cX0_isSafe 7 = .ok (.if_icmp .ge 26, 3) := dk_162 0 26 (dk_at dksX0_isSafe_0 7 rfl rfl)
theorem dX0_isSafe_10 : decode cX0_isSafe 10 = .ok (.aload_n 0, 1) := dk_42 (dk_at dksX0_isSafe_0 10 rfl rfl)
theorem dX0_isSafe_11 : decode cX0_isSafe 11 = .ok (.iload_n 2, 1) := dk_28 (dk_at dksX0_isSafe_0 11 rfl rfl)
theorem dX0_isSafe_12 : decode cX0_isSafe 12 = .ok (.iload_n 1, 1) := dk_27 (dk_at dksX0_isSafe_0 12 rfl rfl)
theorem dX0_isSafe_13 : decode cX0_isSafe 13 = .ok (.aload_n 0, 1) := dk_42 (dk_at dksX0_isSafe_0 13 rfl rfl)
theorem dX0_isSafe_14 : decode cX0_isSafe 14 = .ok (.invokedynamic 375, 5) := by decide +kernel
theorem dX0_isSafe_19 : decode cX0_isSafe 19 = .ok (.invokevirtual 364, 3) := dk_182 1 108 (dk_at dksX0_isSafe_0 19 rfl rfl)
theorem dX0_isSafe_22 : decode cX0_isSafe 22 = .ok (.ifCond .le 5, 3) := dk_158 0 5 (dk_at dksX0_isSafe_1 0 rfl rfl)
theorem dX0_isSafe_25 : decode cX0_isSafe 25 = .ok (.iconst 0, 1) := dk_3 (dk_at dksX0_isSafe_1 3 rfl rfl)
theorem dX0_isSafe_26 : decode cX0_isSafe 26 = .ok (.ireturn, 1) := dk_172 (dk_at dksX0_isSafe_1 4 rfl rfl)
theorem dX0_isSafe_27 : decode cX0_isSafe 27 = .ok (.iinc 2 1, 3) := dk_132 2 1 (dk_at dksX0_isSafe_1 5 rfl rfl)
theorem dX0_isSafe_30 : decode cX0_isSafe 30 = .ok (.goto (-28), 3) := dk_167 255 228 (dk_at dksX0_isSafe_1 8 rfl rfl)
theorem dX0_isSafe_33 : decode cX0_isSafe 33 = .ok (.iconst 1, 1) := dk_4 (dk_at dksX0_isSafe_1 11 rfl rfl)
theorem dX0_isSafe_34 : decode cX0_isSafe 34 = .ok (.ireturn, 1) := dk_172 (dk_at dksX0_isSafe_1 12 rfl rfl)
abbrev cX0_lambda_isSafe_14 : ByteArray := prog_1_method_151_code
def yX0_lambda_isSafe_14 : MethodName := ⟨RX0, "lambda$isSafe$14", "(IIII)V"⟩
def dkwX0_lambda_isSafe_14_0 : List UInt8 := [42, 21, 4, 182, 2, 87, 177]
abbrev dktX0_lambda_isSafe_14_0 : List UInt8 := dkwX0_lambda_isSafe_14_0 ++ []
theorem dksX0_lambda_isSafe_14_0 : cX0_lambda_isSafe_14.data.toList.drop 0 = dktX0_lambda_isSafe_14_0 := by decide +kernel
theorem dX0_lambda_isSafe_14_0 : decode cX0_lambda_isSafe_14 0 = .ok (.aload_n 0, 1) := dk_42 (dk_at dksX0_lambda_isSafe_14_0 0 rfl rfl)
theorem dX0_lambda_isSafe_14_1 : decode cX0_lambda_isSafe_14 1 = .ok (.iload 4, 2) := dk_21 4 (dk_at dksX0_lambda_isSafe_14_0 1 rfl rfl)
theorem dX0_lambda_isSafe_14_3 : decode cX0_lambda_isSafe_14 3 = .ok (.invokevirtual 599, 3) := dk_182 2 87 (dk_at dksX0_lambda_isSafe_14_0 3 rfl rfl)
theorem dX0_lambda_isSafe_14_6 : decode cX0_lambda_isSafe_14 6 = .ok (.return_, 1) := dk_177 (dk_at dksX0_lambda_isSafe_14_0 6 rfl rfl)
abbrev cX0_bound : ByteArray := prog_1_method_84_code
def yX0_bound : MethodName := ⟨RX0, "bound", "()I"⟩
def dkwX0_bound_1 : List UInt8 := [153, 0, 5, 27, 172, 132, 1, 255, 167, 255, 239, 2, 172]
abbrev dktX0_bound_1 : List UInt8 := dkwX0_bound_1 ++ []
def dkwX0_bound_0 : List UInt8 := [42, 180, 0, 46, 182, 0, 200, 154, 0, 6, 16, 254, 172, 6, 60, 27, 155, 0, 19, 42, 27, 182, 1, 146]
abbrev dktX0_bound_0 : List UInt8 := dkwX0_bound_0 ++ dktX0_bound_1
theorem dksX0_bound_0 : cX0_bound.data.toList.drop 0 = dktX0_bound_0 := by decide +kernel
theorem dksX0_bound_1 : cX0_bound.data.toList.drop 24 = dktX0_bound_1 := dk_seg dksX0_bound_0 24 rfl rfl
theorem dX0_bound_0 : decode cX0_bound 0 = .ok (.aload_n 0, 1) := dk_42 (dk_at dksX0_bound_0 0 rfl rfl)
theorem dX0_bound_1 : decode cX0_bound 1 = .ok (.getfield 46, 3) := dk_180 0 46 (dk_at dksX0_bound_0 1 rfl rfl)
theorem dX0_bound_4 : decode cX0_bound 4 = .ok (.invokevirtual 200, 3) := dk_182 0 200 (dk_at dksX0_bound_0 4 rfl rfl)
theorem dX0_bound_7 : decode cX0_bound 7 = .ok (.ifCond .ne 6, 3) := dk_154 0 6 (dk_at dksX0_bound_0 7 rfl rfl)
theorem dX0_bound_10 : decode cX0_bound 10 = .ok (.bipush (-2), 2) := dk_16 254 (dk_at dksX0_bound_0 10 rfl rfl)
theorem dX0_bound_12 : decode cX0_bound 12 = .ok (.ireturn, 1) := dk_172 (dk_at dksX0_bound_0 12 rfl rfl)
theorem dX0_bound_13 : decode cX0_bound 13 = .ok (.iconst 3, 1) := dk_6 (dk_at dksX0_bound_0 13 rfl rfl)
theorem dX0_bound_14 : decode cX0_bound 14 = .ok (.istore_n 1, 1) := dk_60 (dk_at dksX0_bound_0 14 rfl rfl)
theorem dX0_bound_15 : decode cX0_bound 15 = .ok (.iload_n 1, 1) := dk_27 (dk_at dksX0_bound_0 15 rfl rfl)
theorem dX0_bound_16 : decode cX0_bound 16 = .ok (.ifCond .lt 19, 3) := dk_155 0 19 (dk_at dksX0_bound_0 16 rfl rfl)
theorem dX0_bound_19 : decode cX0_bound 19 = .ok (.aload_n 0, 1) := dk_42 (dk_at dksX0_bound_0 19 rfl rfl)
theorem dX0_bound_20 : decode cX0_bound 20 = .ok (.iload_n 1, 1) := dk_27 (dk_at dksX0_bound_0 20 rfl rfl)
theorem dX0_bound_21 : decode cX0_bound 21 = .ok (.invokevirtual 402, 3) := dk_182 1 146 (dk_at dksX0_bound_0 21 rfl rfl)
theorem dX0_bound_24 : decode cX0_bound 24 = .ok (.ifCond .eq 5, 3) := dk_153 0 5 (dk_at dksX0_bound_1 0 rfl rfl)
theorem dX0_bound_27 : decode cX0_bound 27 = .ok (.iload_n 1, 1) := dk_27 (dk_at dksX0_bound_1 3 rfl rfl)
theorem dX0_bound_28 : decode cX0_bound 28 = .ok (.ireturn, 1) := dk_172 (dk_at dksX0_bound_1 4 rfl rfl)
theorem dX0_bound_29 : decode cX0_bound 29 = .ok (.iinc 1 (-1), 3) := dk_132 1 255 (dk_at dksX0_bound_1 5 rfl rfl)
theorem dX0_bound_32 : decode cX0_bound 32 = .ok (.goto (-17), 3) := dk_167 255 239 (dk_at dksX0_bound_1 8 rfl rfl)
theorem dX0_bound_35 : decode cX0_bound 35 = .ok (.iconst (-1), 1) := dk_2 (dk_at dksX0_bound_1 11 rfl rfl)
theorem dX0_bound_36 : decode cX0_bound 36 = .ok (.ireturn, 1) := dk_172 (dk_at dksX0_bound_1 12 rfl rfl)
abbrev cX0_least : ByteArray := prog_1_method_85_code
def yX0_least : MethodName := ⟨RX0, "least", "(II)I"⟩
def dkwX0_least_1 : List UInt8 := [27, 182, 1, 149, 28, 182, 1, 152, 167, 0, 5, 16, 254, 172]
abbrev dktX0_least_1 : List UInt8 := dkwX0_least_1 ++ []
def dkwX0_least_0 : List UInt8 := [42, 27, 182, 1, 55, 153, 0, 30, 28, 133, 9, 20, 1, 120, 184, 0, 11, 153, 0, 18, 42, 180, 0, 165]
abbrev dktX0_least_0 : List UInt8 := dkwX0_least_0 ++ dktX0_least_1
theorem dksX0_least_0 : cX0_least.data.toList.drop 0 = dktX0_least_0 := by decide +kernel
theorem dksX0_least_1 : cX0_least.data.toList.drop 24 = dktX0_least_1 := dk_seg dksX0_least_0 24 rfl rfl
theorem dX0_least_0 : decode cX0_least 0 = .ok (.aload_n 0, 1) := dk_42 (dk_at dksX0_least_0 0 rfl rfl)
theorem dX0_least_1 : decode cX0_least 1 = .ok (.iload_n 1, 1) := dk_27 (dk_at dksX0_least_0 1 rfl rfl)
theorem dX0_least_2 : decode cX0_least 2 = .ok (.invokevirtual 311, 3) := dk_182 1 55 (dk_at dksX0_least_0 2 rfl rfl)
theorem dX0_least_5 : decode cX0_least 5 = .ok (.ifCond .eq 30, 3) := dk_153 0 30 (dk_at dksX0_least_0 5 rfl rfl)
theorem dX0_least_8 : decode cX0_least 8 = .ok (.iload_n 2, 1) := dk_28 (dk_at dksX0_least_0 8 rfl rfl)
theorem dX0_least_9 : decode cX0_least 9 = .ok (.i2l, 1) := dk_133 (dk_at dksX0_least_0 9 rfl rfl)
theorem dX0_least_10 : decode cX0_least 10 = .ok (.lconst 0, 1) := dk_9 (dk_at dksX0_least_0 10 rfl rfl)
theorem dX0_least_11 : decode cX0_least 11 = .ok (.ldc2_w 376, 3) := dk_20 1 120 (dk_at dksX0_least_0 11 rfl rfl)
theorem dX0_least_14 : decode cX0_least 14 = .ok (.invokestatic 11, 3) := dk_184 0 11 (dk_at dksX0_least_0 14 rfl rfl)
theorem dX0_least_17 : decode cX0_least 17 = .ok (.ifCond .eq 18, 3) := dk_153 0 18 (dk_at dksX0_least_0 17 rfl rfl)
theorem dX0_least_20 : decode cX0_least 20 = .ok (.aload_n 0, 1) := dk_42 (dk_at dksX0_least_0 20 rfl rfl)
theorem dX0_least_21 : decode cX0_least 21 = .ok (.getfield 165, 3) := dk_180 0 165 (dk_at dksX0_least_0 21 rfl rfl)
theorem dX0_least_24 : decode cX0_least 24 = .ok (.iload_n 1, 1) := dk_27 (dk_at dksX0_least_1 0 rfl rfl)
theorem dX0_least_25 : decode cX0_least 25 = .ok (.invokevirtual 405, 3) := dk_182 1 149 (dk_at dksX0_least_1 1 rfl rfl)
theorem dX0_least_28 : decode cX0_least 28 = .ok (.iload_n 2, 1) := dk_28 (dk_at dksX0_least_1 4 rfl rfl)
theorem dX0_least_29 : decode cX0_least 29 = .ok (.invokevirtual 408, 3) := dk_182 1 152 (dk_at dksX0_least_1 5 rfl rfl)
theorem dX0_least_32 : decode cX0_least 32 = .ok (.goto 5, 3) := dk_167 0 5 (dk_at dksX0_least_1 8 rfl rfl)
theorem dX0_least_35 : decode cX0_least 35 = .ok (.bipush (-2), 2) := dk_16 254 (dk_at dksX0_least_1 11 rfl rfl)
theorem dX0_least_37 : decode cX0_least 37 = .ok (.ireturn, 1) := dk_172 (dk_at dksX0_least_1 13 rfl rfl)
abbrev cX0_culprit : ByteArray := prog_1_method_86_code
def yX0_culprit : MethodName := ⟨RX0, "culprit", "(I)I"⟩
def dkwX0_culprit_1 : List UInt8 := [160, 0, 7, 2, 167, 0, 14, 42, 42, 180, 0, 165, 180, 1, 155, 182, 1, 23, 172]
abbrev dktX0_culprit_1 : List UInt8 := dkwX0_culprit_1 ++ []
def dkwX0_culprit_0 : List UInt8 := [42, 27, 182, 1, 55, 154, 0, 6, 16, 254, 172, 42, 180, 0, 165, 27, 182, 1, 149, 3, 182, 1, 152, 2]
abbrev dktX0_culprit_0 : List UInt8 := dkwX0_culprit_0 ++ dktX0_culprit_1
theorem dksX0_culprit_0 : cX0_culprit.data.toList.drop 0 = dktX0_culprit_0 := by decide +kernel
theorem dksX0_culprit_1 : cX0_culprit.data.toList.drop 24 = dktX0_culprit_1 := dk_seg dksX0_culprit_0 24 rfl rfl
theorem dX0_culprit_0 : decode cX0_culprit 0 = .ok (.aload_n 0, 1) := dk_42 (dk_at dksX0_culprit_0 0 rfl rfl)
theorem dX0_culprit_1 : decode cX0_culprit 1 = .ok (.iload_n 1, 1) := dk_27 (dk_at dksX0_culprit_0 1 rfl rfl)
theorem dX0_culprit_2 : decode cX0_culprit 2 = .ok (.invokevirtual 311, 3) := dk_182 1 55 (dk_at dksX0_culprit_0 2 rfl rfl)
theorem dX0_culprit_5 : decode cX0_culprit 5 = .ok (.ifCond .ne 6, 3) := dk_154 0 6 (dk_at dksX0_culprit_0 5 rfl rfl)
theorem dX0_culprit_8 : decode cX0_culprit 8 = .ok (.bipush (-2), 2) := dk_16 254 (dk_at dksX0_culprit_0 8 rfl rfl)
theorem dX0_culprit_10 : decode cX0_culprit 10 = .ok (.ireturn, 1) := dk_172 (dk_at dksX0_culprit_0 10 rfl rfl)
theorem dX0_culprit_11 : decode cX0_culprit 11 = .ok (.aload_n 0, 1) := dk_42 (dk_at dksX0_culprit_0 11 rfl rfl)
theorem dX0_culprit_12 : decode cX0_culprit 12 = .ok (.getfield 165, 3) := dk_180 0 165 (dk_at dksX0_culprit_0 12 rfl rfl)
theorem dX0_culprit_15 : decode cX0_culprit 15 = .ok (.iload_n 1, 1) := dk_27 (dk_at dksX0_culprit_0 15 rfl rfl)
theorem dX0_culprit_16 : decode cX0_culprit 16 = .ok (.invokevirtual 405, 3) := dk_182 1 149 (dk_at dksX0_culprit_0 16 rfl rfl)
theorem dX0_culprit_19 : decode cX0_culprit 19 = .ok (.iconst 0, 1) := dk_3 (dk_at dksX0_culprit_0 19 rfl rfl)
theorem dX0_culprit_20 : decode cX0_culprit 20 = .ok (.invokevirtual 408, 3) := dk_182 1 152 (dk_at dksX0_culprit_0 20 rfl rfl)
theorem dX0_culprit_23 : decode cX0_culprit 23 = .ok (.iconst (-1), 1) := dk_2 (dk_at dksX0_culprit_0 23 rfl rfl)
theorem dX0_culprit_24 : decode cX0_culprit 24 = .ok (.if_icmp .ne 7, 3) := dk_160 0 7 (dk_at dksX0_culprit_1 0 rfl rfl)
theorem dX0_culprit_27 : decode cX0_culprit 27 = .ok (.iconst (-1), 1) := dk_2 (dk_at dksX0_culprit_1 3 rfl rfl)
theorem dX0_culprit_28 : decode cX0_culprit 28 = .ok (.goto 14, 3) := dk_167 0 14 (dk_at dksX0_culprit_1 4 rfl rfl)
theorem dX0_culprit_31 : decode cX0_culprit 31 = .ok (.aload_n 0, 1) := dk_42 (dk_at dksX0_culprit_1 7 rfl rfl)
theorem dX0_culprit_32 : decode cX0_culprit 32 = .ok (.aload_n 0, 1) := dk_42 (dk_at dksX0_culprit_1 8 rfl rfl)
theorem dX0_culprit_33 : decode cX0_culprit 33 = .ok (.getfield 165, 3) := dk_180 0 165 (dk_at dksX0_culprit_1 9 rfl rfl)
theorem dX0_culprit_36 : decode cX0_culprit 36 = .ok (.getfield 411, 3) := dk_180 1 155 (dk_at dksX0_culprit_1 12 rfl rfl)
theorem dX0_culprit_39 : decode cX0_culprit 39 = .ok (.invokevirtual 279, 3) := dk_182 1 23 (dk_at dksX0_culprit_1 15 rfl rfl)
theorem dX0_culprit_42 : decode cX0_culprit 42 = .ok (.ireturn, 1) := dk_172 (dk_at dksX0_culprit_1 18 rfl rfl)
abbrev cX0_hits : ByteArray := prog_1_method_89_code
def yX0_hits : MethodName := ⟨RX0, "hits", "(II)I"⟩
def dkwX0_hits_1 : List UInt8 := [42, 180, 0, 169, 27, 46, 172]
abbrev dktX0_hits_1 : List UInt8 := dkwX0_hits_1 ++ []
def dkwX0_hits_0 : List UInt8 := [42, 27, 182, 1, 75, 153, 0, 11, 42, 28, 182, 1, 55, 154, 0, 6, 16, 254, 172, 42, 28, 182, 1, 165]
abbrev dktX0_hits_0 : List UInt8 := dkwX0_hits_0 ++ dktX0_hits_1
theorem dksX0_hits_0 : cX0_hits.data.toList.drop 0 = dktX0_hits_0 := by decide +kernel
theorem dksX0_hits_1 : cX0_hits.data.toList.drop 24 = dktX0_hits_1 := dk_seg dksX0_hits_0 24 rfl rfl
theorem dX0_hits_0 : decode cX0_hits 0 = .ok (.aload_n 0, 1) := dk_42 (dk_at dksX0_hits_0 0 rfl rfl)
theorem dX0_hits_1 : decode cX0_hits 1 = .ok (.iload_n 1, 1) := dk_27 (dk_at dksX0_hits_0 1 rfl rfl)
theorem dX0_hits_2 : decode cX0_hits 2 = .ok (.invokevirtual 331, 3) := dk_182 1 75 (dk_at dksX0_hits_0 2 rfl rfl)
theorem dX0_hits_5 : decode cX0_hits 5 = .ok (.ifCond .eq 11, 3) := dk_153 0 11 (dk_at dksX0_hits_0 5 rfl rfl)
theorem dX0_hits_8 : decode cX0_hits 8 = .ok (.aload_n 0, 1) := dk_42 (dk_at dksX0_hits_0 8 rfl rfl)
theorem dX0_hits_9 : decode cX0_hits 9 = .ok (.iload_n 2, 1) := dk_28 (dk_at dksX0_hits_0 9 rfl rfl)
theorem dX0_hits_10 : decode cX0_hits 10 = .ok (.invokevirtual 311, 3) := dk_182 1 55 (dk_at dksX0_hits_0 10 rfl rfl)
theorem dX0_hits_13 : decode cX0_hits 13 = .ok (.ifCond .ne 6, 3) := dk_154 0 6 (dk_at dksX0_hits_0 13 rfl rfl)
theorem dX0_hits_16 : decode cX0_hits 16 = .ok (.bipush (-2), 2) := dk_16 254 (dk_at dksX0_hits_0 16 rfl rfl)
theorem dX0_hits_18 : decode cX0_hits 18 = .ok (.ireturn, 1) := dk_172 (dk_at dksX0_hits_0 18 rfl rfl)
theorem dX0_hits_19 : decode cX0_hits 19 = .ok (.aload_n 0, 1) := dk_42 (dk_at dksX0_hits_0 19 rfl rfl)
theorem dX0_hits_20 : decode cX0_hits 20 = .ok (.iload_n 2, 1) := dk_28 (dk_at dksX0_hits_0 20 rfl rfl)
theorem dX0_hits_21 : decode cX0_hits 21 = .ok (.invokevirtual 421, 3) := dk_182 1 165 (dk_at dksX0_hits_0 21 rfl rfl)
theorem dX0_hits_24 : decode cX0_hits 24 = .ok (.aload_n 0, 1) := dk_42 (dk_at dksX0_hits_1 0 rfl rfl)
theorem dX0_hits_25 : decode cX0_hits 25 = .ok (.getfield 169, 3) := dk_180 0 169 (dk_at dksX0_hits_1 1 rfl rfl)
theorem dX0_hits_28 : decode cX0_hits 28 = .ok (.iload_n 1, 1) := dk_27 (dk_at dksX0_hits_1 4 rfl rfl)
theorem dX0_hits_29 : decode cX0_hits 29 = .ok (.iaload, 1) := dk_46 (dk_at dksX0_hits_1 5 rfl rfl)
theorem dX0_hits_30 : decode cX0_hits 30 = .ok (.ireturn, 1) := dk_172 (dk_at dksX0_hits_1 6 rfl rfl)
abbrev cX0_laysHits : ByteArray := prog_1_method_88_code
def yX0_laysHits : MethodName := ⟨RX0, "laysHits", "(I)V"⟩
def dkwX0_laysHits_0 : List UInt8 := [42, 180, 0, 169, 3, 184, 1, 158, 42, 27, 42, 186, 1, 164, 0, 0, 182, 1, 115, 87, 177]
abbrev dktX0_laysHits_0 : List UInt8 := dkwX0_laysHits_0 ++ []
theorem dksX0_laysHits_0 : cX0_laysHits.data.toList.drop 0 = dktX0_laysHits_0 := by decide +kernel
theorem dX0_laysHits_0 : decode cX0_laysHits 0 = .ok (.aload_n 0, 1) := dk_42 (dk_at dksX0_laysHits_0 0 rfl rfl)
theorem dX0_laysHits_1 : decode cX0_laysHits 1 = .ok (.getfield 169, 3) := dk_180 0 169 (dk_at dksX0_laysHits_0 1 rfl rfl)
theorem dX0_laysHits_4 : decode cX0_laysHits 4 = .ok (.iconst 0, 1) := dk_3 (dk_at dksX0_laysHits_0 4 rfl rfl)
theorem dX0_laysHits_5 : decode cX0_laysHits 5 = .ok (.invokestatic 414, 3) := dk_184 1 158 (dk_at dksX0_laysHits_0 5 rfl rfl)
theorem dX0_laysHits_8 : decode cX0_laysHits 8 = .ok (.aload_n 0, 1) := dk_42 (dk_at dksX0_laysHits_0 8 rfl rfl)
theorem dX0_laysHits_9 : decode cX0_laysHits 9 = .ok (.iload_n 1, 1) := dk_27 (dk_at dksX0_laysHits_0 9 rfl rfl)
theorem dX0_laysHits_10 : decode cX0_laysHits 10 = .ok (.aload_n 0, 1) := dk_42 (dk_at dksX0_laysHits_0 10 rfl rfl)
theorem dX0_laysHits_11 : decode cX0_laysHits 11 = .ok (.invokedynamic 420, 5) := by decide +kernel
theorem dX0_laysHits_16 : decode cX0_laysHits 16 = .ok (.invokevirtual 371, 3) := dk_182 1 115 (dk_at dksX0_laysHits_0 16 rfl rfl)
theorem dX0_laysHits_19 : decode cX0_laysHits 19 = .ok (.pop, 1) := dk_87 (dk_at dksX0_laysHits_0 19 rfl rfl)
theorem dX0_laysHits_20 : decode cX0_laysHits 20 = .ok (.return_, 1) := dk_177 (dk_at dksX0_laysHits_0 20 rfl rfl)
abbrev cX0_tallies : ByteArray := prog_1_method_87_code
def yX0_tallies : MethodName := ⟨RX0, "tallies", "(IIII)V"⟩
def dkwX0_tallies_3 : List UInt8 := [167, 255, 189, 177]
abbrev dktX0_tallies_3 : List UInt8 := dkwX0_tallies_3 ++ []
def dkwX0_tallies_2 : List UInt8 := [180, 1, 29, 21, 4, 185, 1, 33, 2, 0, 154, 0, 7, 4, 167, 0, 4, 3, 96, 79, 132, 5, 1]
abbrev dktX0_tallies_2 : List UInt8 := dkwX0_tallies_2 ++ dktX0_tallies_3
def dkwX0_tallies_1 : List UInt8 := [21, 5, 92, 46, 42, 180, 1, 22, 21, 5, 184, 1, 26, 154, 0, 27, 42, 180, 0, 133, 21, 5, 50]
abbrev dktX0_tallies_1 : List UInt8 := dkwX0_tallies_1 ++ dktX0_tallies_2
def dkwX0_tallies_0 : List UInt8 := [3, 54, 5, 21, 5, 42, 180, 0, 46, 180, 0, 222, 185, 0, 225, 1, 0, 162, 0, 56, 42, 180, 0, 169]
abbrev dktX0_tallies_0 : List UInt8 := dkwX0_tallies_0 ++ dktX0_tallies_1
theorem dksX0_tallies_0 : cX0_tallies.data.toList.drop 0 = dktX0_tallies_0 := by decide +kernel
theorem dksX0_tallies_1 : cX0_tallies.data.toList.drop 24 = dktX0_tallies_1 := dk_seg dksX0_tallies_0 24 rfl rfl
theorem dksX0_tallies_2 : cX0_tallies.data.toList.drop 47 = dktX0_tallies_2 := dk_seg dksX0_tallies_1 23 rfl rfl
theorem dksX0_tallies_3 : cX0_tallies.data.toList.drop 70 = dktX0_tallies_3 := dk_seg dksX0_tallies_2 23 rfl rfl
theorem dX0_tallies_0 : decode cX0_tallies 0 = .ok (.iconst 0, 1) := dk_3 (dk_at dksX0_tallies_0 0 rfl rfl)
theorem dX0_tallies_1 : decode cX0_tallies 1 = .ok (.istore 5, 2) := dk_54 5 (dk_at dksX0_tallies_0 1 rfl rfl)
theorem dX0_tallies_3 : decode cX0_tallies 3 = .ok (.iload 5, 2) := dk_21 5 (dk_at dksX0_tallies_0 3 rfl rfl)
theorem dX0_tallies_5 : decode cX0_tallies 5 = .ok (.aload_n 0, 1) := dk_42 (dk_at dksX0_tallies_0 5 rfl rfl)
theorem dX0_tallies_6 : decode cX0_tallies 6 = .ok (.getfield 46, 3) := dk_180 0 46 (dk_at dksX0_tallies_0 6 rfl rfl)
theorem dX0_tallies_9 : decode cX0_tallies 9 = .ok (.getfield 222, 3) := dk_180 0 222 (dk_at dksX0_tallies_0 9 rfl rfl)
theorem dX0_tallies_12 : decode cX0_tallies 12 = .ok (.invokeinterface 225 1, 5) := by decide +kernel
theorem dX0_tallies_17 : decode cX0_tallies 17 = .ok (.if_icmp .ge 56, 3) := dk_162 0 56 (dk_at dksX0_tallies_0 17 rfl rfl)
theorem dX0_tallies_20 : decode cX0_tallies 20 = .ok (.aload_n 0, 1) := dk_42 (dk_at dksX0_tallies_0 20 rfl rfl)
theorem dX0_tallies_21 : decode cX0_tallies 21 = .ok (.getfield 169, 3) := dk_180 0 169 (dk_at dksX0_tallies_0 21 rfl rfl)
theorem dX0_tallies_24 : decode cX0_tallies 24 = .ok (.iload 5, 2) := dk_21 5 (dk_at dksX0_tallies_1 0 rfl rfl)
theorem dX0_tallies_26 : decode cX0_tallies 26 = .ok (.dup2, 1) := dk_92 (dk_at dksX0_tallies_1 2 rfl rfl)
theorem dX0_tallies_27 : decode cX0_tallies 27 = .ok (.iaload, 1) := dk_46 (dk_at dksX0_tallies_1 3 rfl rfl)
theorem dX0_tallies_28 : decode cX0_tallies 28 = .ok (.aload_n 0, 1) := dk_42 (dk_at dksX0_tallies_1 4 rfl rfl)
theorem dX0_tallies_29 : decode cX0_tallies 29 = .ok (.getfield 278, 3) := dk_180 1 22 (dk_at dksX0_tallies_1 5 rfl rfl)
theorem dX0_tallies_32 : decode cX0_tallies 32 = .ok (.iload 5, 2) := dk_21 5 (dk_at dksX0_tallies_1 8 rfl rfl)
theorem dX0_tallies_34 : decode cX0_tallies 34 = .ok (.invokestatic 282, 3) := dk_184 1 26 (dk_at dksX0_tallies_1 10 rfl rfl)
theorem dX0_tallies_37 : decode cX0_tallies 37 = .ok (.ifCond .ne 27, 3) := dk_154 0 27 (dk_at dksX0_tallies_1 13 rfl rfl)
theorem dX0_tallies_40 : decode cX0_tallies 40 = .ok (.aload_n 0, 1) := dk_42 (dk_at dksX0_tallies_1 16 rfl rfl)
theorem dX0_tallies_41 : decode cX0_tallies 41 = .ok (.getfield 133, 3) := dk_180 0 133 (dk_at dksX0_tallies_1 17 rfl rfl)
theorem dX0_tallies_44 : decode cX0_tallies 44 = .ok (.iload 5, 2) := dk_21 5 (dk_at dksX0_tallies_1 20 rfl rfl)
theorem dX0_tallies_46 : decode cX0_tallies 46 = .ok (.aaload, 1) := dk_50 (dk_at dksX0_tallies_1 22 rfl rfl)
theorem dX0_tallies_47 : decode cX0_tallies 47 = .ok (.getfield 285, 3) := dk_180 1 29 (dk_at dksX0_tallies_2 0 rfl rfl)
theorem dX0_tallies_50 : decode cX0_tallies 50 = .ok (.iload 4, 2) := dk_21 4 (dk_at dksX0_tallies_2 3 rfl rfl)
theorem dX0_tallies_52 : decode cX0_tallies 52 = .ok (.invokeinterface 289 2, 5) := by decide +kernel
theorem dX0_tallies_57 : decode cX0_tallies 57 = .ok (.ifCond .ne 7, 3) := dk_154 0 7 (dk_at dksX0_tallies_2 10 rfl rfl)
theorem dX0_tallies_60 : decode cX0_tallies 60 = .ok (.iconst 1, 1) := dk_4 (dk_at dksX0_tallies_2 13 rfl rfl)
theorem dX0_tallies_61 : decode cX0_tallies 61 = .ok (.goto 4, 3) := dk_167 0 4 (dk_at dksX0_tallies_2 14 rfl rfl)
theorem dX0_tallies_64 : decode cX0_tallies 64 = .ok (.iconst 0, 1) := dk_3 (dk_at dksX0_tallies_2 17 rfl rfl)
theorem dX0_tallies_65 : decode cX0_tallies 65 = .ok (.iadd, 1) := dk_96 (dk_at dksX0_tallies_2 18 rfl rfl)
theorem dX0_tallies_66 : decode cX0_tallies 66 = .ok (.iastore, 1) := dk_79 (dk_at dksX0_tallies_2 19 rfl rfl)
theorem dX0_tallies_67 : decode cX0_tallies 67 = .ok (.iinc 5 1, 3) := dk_132 5 1 (dk_at dksX0_tallies_2 20 rfl rfl)
theorem dX0_tallies_70 : decode cX0_tallies 70 = .ok (.goto (-67), 3) := dk_167 255 189 (dk_at dksX0_tallies_3 0 rfl rfl)
theorem dX0_tallies_73 : decode cX0_tallies 73 = .ok (.return_, 1) := dk_177 (dk_at dksX0_tallies_3 3 rfl rfl)
abbrev cX0_worst : ByteArray := prog_1_method_90_code
def yX0_worst : MethodName := ⟨RX0, "worst", "(I)I"⟩
def dkwX0_worst_3 : List UInt8 := [28, 172]
abbrev dktX0_worst_3 : List UInt8 := dkwX0_worst_3 ++ []
def dkwX0_worst_2 : List UInt8 := [160, 0, 7, 3, 167, 0, 9, 42, 180, 0, 169, 28, 46, 164, 0, 5, 29, 61, 132, 3, 1, 167, 255, 211]
abbrev dktX0_worst_2 : List UInt8 := dkwX0_worst_2 ++ dktX0_worst_3
def dkwX0_worst_1 : List UInt8 := [180, 0, 46, 180, 0, 222, 185, 0, 225, 1, 0, 162, 0, 35, 42, 180, 0, 169, 29, 46, 28, 2]
abbrev dktX0_worst_1 : List UInt8 := dkwX0_worst_1 ++ dktX0_worst_2
def dkwX0_worst_0 : List UInt8 := [42, 27, 182, 1, 55, 154, 0, 6, 16, 254, 172, 42, 27, 182, 1, 165, 2, 61, 3, 62, 29, 42]
abbrev dktX0_worst_0 : List UInt8 := dkwX0_worst_0 ++ dktX0_worst_1
theorem dksX0_worst_0 : cX0_worst.data.toList.drop 0 = dktX0_worst_0 := by decide +kernel
theorem dksX0_worst_1 : cX0_worst.data.toList.drop 22 = dktX0_worst_1 := dk_seg dksX0_worst_0 22 rfl rfl
theorem dksX0_worst_2 : cX0_worst.data.toList.drop 44 = dktX0_worst_2 := dk_seg dksX0_worst_1 22 rfl rfl
theorem dksX0_worst_3 : cX0_worst.data.toList.drop 68 = dktX0_worst_3 := dk_seg dksX0_worst_2 24 rfl rfl
theorem dX0_worst_0 : decode cX0_worst 0 = .ok (.aload_n 0, 1) := dk_42 (dk_at dksX0_worst_0 0 rfl rfl)
theorem dX0_worst_1 : decode cX0_worst 1 = .ok (.iload_n 1, 1) := dk_27 (dk_at dksX0_worst_0 1 rfl rfl)
theorem dX0_worst_2 : decode cX0_worst 2 = .ok (.invokevirtual 311, 3) := dk_182 1 55 (dk_at dksX0_worst_0 2 rfl rfl)
theorem dX0_worst_5 : decode cX0_worst 5 = .ok (.ifCond .ne 6, 3) := dk_154 0 6 (dk_at dksX0_worst_0 5 rfl rfl)
theorem dX0_worst_8 : decode cX0_worst 8 = .ok (.bipush (-2), 2) := dk_16 254 (dk_at dksX0_worst_0 8 rfl rfl)
theorem dX0_worst_10 : decode cX0_worst 10 = .ok (.ireturn, 1) := dk_172 (dk_at dksX0_worst_0 10 rfl rfl)
theorem dX0_worst_11 : decode cX0_worst 11 = .ok (.aload_n 0, 1) := dk_42 (dk_at dksX0_worst_0 11 rfl rfl)
theorem dX0_worst_12 : decode cX0_worst 12 = .ok (.iload_n 1, 1) := dk_27 (dk_at dksX0_worst_0 12 rfl rfl)
theorem dX0_worst_13 : decode cX0_worst 13 = .ok (.invokevirtual 421, 3) := dk_182 1 165 (dk_at dksX0_worst_0 13 rfl rfl)
theorem dX0_worst_16 : decode cX0_worst 16 = .ok (.iconst (-1), 1) := dk_2 (dk_at dksX0_worst_0 16 rfl rfl)
theorem dX0_worst_17 : decode cX0_worst 17 = .ok (.istore_n 2, 1) := dk_61 (dk_at dksX0_worst_0 17 rfl rfl)
theorem dX0_worst_18 : decode cX0_worst 18 = .ok (.iconst 0, 1) := dk_3 (dk_at dksX0_worst_0 18 rfl rfl)
theorem dX0_worst_19 : decode cX0_worst 19 = .ok (.istore_n 3, 1) := dk_62 (dk_at dksX0_worst_0 19 rfl rfl)
theorem dX0_worst_20 : decode cX0_worst 20 = .ok (.iload_n 3, 1) := dk_29 (dk_at dksX0_worst_0 20 rfl rfl)
theorem dX0_worst_21 : decode cX0_worst 21 = .ok (.aload_n 0, 1) := dk_42 (dk_at dksX0_worst_0 21 rfl rfl)
theorem dX0_worst_22 : decode cX0_worst 22 = .ok (.getfield 46, 3) := dk_180 0 46 (dk_at dksX0_worst_1 0 rfl rfl)
theorem dX0_worst_25 : decode cX0_worst 25 = .ok (.getfield 222, 3) := dk_180 0 222 (dk_at dksX0_worst_1 3 rfl rfl)
theorem dX0_worst_28 : decode cX0_worst 28 = .ok (.invokeinterface 225 1, 5) := by decide +kernel
theorem dX0_worst_33 : decode cX0_worst 33 = .ok (.if_icmp .ge 35, 3) := dk_162 0 35 (dk_at dksX0_worst_1 11 rfl rfl)
theorem dX0_worst_36 : decode cX0_worst 36 = .ok (.aload_n 0, 1) := dk_42 (dk_at dksX0_worst_1 14 rfl rfl)
theorem dX0_worst_37 : decode cX0_worst 37 = .ok (.getfield 169, 3) := dk_180 0 169 (dk_at dksX0_worst_1 15 rfl rfl)
theorem dX0_worst_40 : decode cX0_worst 40 = .ok (.iload_n 3, 1) := dk_29 (dk_at dksX0_worst_1 18 rfl rfl)
theorem dX0_worst_41 : decode cX0_worst 41 = .ok (.iaload, 1) := dk_46 (dk_at dksX0_worst_1 19 rfl rfl)
theorem dX0_worst_42 : decode cX0_worst 42 = .ok (.iload_n 2, 1) := dk_28 (dk_at dksX0_worst_1 20 rfl rfl)
theorem dX0_worst_43 : decode cX0_worst 43 = .ok (.iconst (-1), 1) := dk_2 (dk_at dksX0_worst_1 21 rfl rfl)
theorem dX0_worst_44 : decode cX0_worst 44 = .ok (.if_icmp .ne 7, 3) := dk_160 0 7 (dk_at dksX0_worst_2 0 rfl rfl)
theorem dX0_worst_47 : decode cX0_worst 47 = .ok (.iconst 0, 1) := dk_3 (dk_at dksX0_worst_2 3 rfl rfl)
theorem dX0_worst_48 : decode cX0_worst 48 = .ok (.goto 9, 3) := dk_167 0 9 (dk_at dksX0_worst_2 4 rfl rfl)
theorem dX0_worst_51 : decode cX0_worst 51 = .ok (.aload_n 0, 1) := dk_42 (dk_at dksX0_worst_2 7 rfl rfl)
theorem dX0_worst_52 : decode cX0_worst 52 = .ok (.getfield 169, 3) := dk_180 0 169 (dk_at dksX0_worst_2 8 rfl rfl)
theorem dX0_worst_55 : decode cX0_worst 55 = .ok (.iload_n 2, 1) := dk_28 (dk_at dksX0_worst_2 11 rfl rfl)
theorem dX0_worst_56 : decode cX0_worst 56 = .ok (.iaload, 1) := dk_46 (dk_at dksX0_worst_2 12 rfl rfl)
theorem dX0_worst_57 : decode cX0_worst 57 = .ok (.if_icmp .le 5, 3) := dk_164 0 5 (dk_at dksX0_worst_2 13 rfl rfl)
theorem dX0_worst_60 : decode cX0_worst 60 = .ok (.iload_n 3, 1) := dk_29 (dk_at dksX0_worst_2 16 rfl rfl)
theorem dX0_worst_61 : decode cX0_worst 61 = .ok (.istore_n 2, 1) := dk_61 (dk_at dksX0_worst_2 17 rfl rfl)
theorem dX0_worst_62 : decode cX0_worst 62 = .ok (.iinc 3 1, 3) := dk_132 3 1 (dk_at dksX0_worst_2 18 rfl rfl)
theorem dX0_worst_65 : decode cX0_worst 65 = .ok (.goto (-45), 3) := dk_167 255 211 (dk_at dksX0_worst_2 21 rfl rfl)
theorem dX0_worst_68 : decode cX0_worst 68 = .ok (.iload_n 2, 1) := dk_28 (dk_at dksX0_worst_3 0 rfl rfl)
theorem dX0_worst_69 : decode cX0_worst 69 = .ok (.ireturn, 1) := dk_172 (dk_at dksX0_worst_3 1 rfl rfl)
abbrev cX0_known : ByteArray := prog_1_method_92_code
def yX0_known : MethodName := ⟨RX0, "known", "(I)I"⟩
def dkwX0_known_1 : List UInt8 := [192, 0, 73, 182, 1, 168, 153, 0, 7, 4, 167, 0, 9, 3, 167, 0, 5, 16, 254, 172]
abbrev dktX0_known_1 : List UInt8 := dkwX0_known_1 ++ []
def dkwX0_known_0 : List UInt8 := [42, 27, 182, 1, 75, 153, 0, 34, 42, 42, 180, 0, 46, 180, 0, 222, 27, 185, 0, 246, 2, 0]
abbrev dktX0_known_0 : List UInt8 := dkwX0_known_0 ++ dktX0_known_1
theorem dksX0_known_0 : cX0_known.data.toList.drop 0 = dktX0_known_0 := by decide +kernel
theorem dksX0_known_1 : cX0_known.data.toList.drop 22 = dktX0_known_1 := dk_seg dksX0_known_0 22 rfl rfl
theorem dX0_known_0 : decode cX0_known 0 = .ok (.aload_n 0, 1) := dk_42 (dk_at dksX0_known_0 0 rfl rfl)
theorem dX0_known_1 : decode cX0_known 1 = .ok (.iload_n 1, 1) := dk_27 (dk_at dksX0_known_0 1 rfl rfl)
theorem dX0_known_2 : decode cX0_known 2 = .ok (.invokevirtual 331, 3) := dk_182 1 75 (dk_at dksX0_known_0 2 rfl rfl)
theorem dX0_known_5 : decode cX0_known 5 = .ok (.ifCond .eq 34, 3) := dk_153 0 34 (dk_at dksX0_known_0 5 rfl rfl)
theorem dX0_known_8 : decode cX0_known 8 = .ok (.aload_n 0, 1) := dk_42 (dk_at dksX0_known_0 8 rfl rfl)
theorem dX0_known_9 : decode cX0_known 9 = .ok (.aload_n 0, 1) := dk_42 (dk_at dksX0_known_0 9 rfl rfl)
theorem dX0_known_10 : decode cX0_known 10 = .ok (.getfield 46, 3) := dk_180 0 46 (dk_at dksX0_known_0 10 rfl rfl)
theorem dX0_known_13 : decode cX0_known 13 = .ok (.getfield 222, 3) := dk_180 0 222 (dk_at dksX0_known_0 13 rfl rfl)
theorem dX0_known_16 : decode cX0_known 16 = .ok (.iload_n 1, 1) := dk_27 (dk_at dksX0_known_0 16 rfl rfl)
theorem dX0_known_17 : decode cX0_known 17 = .ok (.invokeinterface 246 2, 5) := by decide +kernel
theorem dX0_known_22 : decode cX0_known 22 = .ok (.checkcast 73, 3) := dk_192 0 73 (dk_at dksX0_known_1 0 rfl rfl)
theorem dX0_known_25 : decode cX0_known 25 = .ok (.invokevirtual 424, 3) := dk_182 1 168 (dk_at dksX0_known_1 3 rfl rfl)
theorem dX0_known_28 : decode cX0_known 28 = .ok (.ifCond .eq 7, 3) := dk_153 0 7 (dk_at dksX0_known_1 6 rfl rfl)
theorem dX0_known_31 : decode cX0_known 31 = .ok (.iconst 1, 1) := dk_4 (dk_at dksX0_known_1 9 rfl rfl)
theorem dX0_known_32 : decode cX0_known 32 = .ok (.goto 9, 3) := dk_167 0 9 (dk_at dksX0_known_1 10 rfl rfl)
theorem dX0_known_35 : decode cX0_known 35 = .ok (.iconst 0, 1) := dk_3 (dk_at dksX0_known_1 13 rfl rfl)
theorem dX0_known_36 : decode cX0_known 36 = .ok (.goto 5, 3) := dk_167 0 5 (dk_at dksX0_known_1 14 rfl rfl)
theorem dX0_known_39 : decode cX0_known 39 = .ok (.bipush (-2), 2) := dk_16 254 (dk_at dksX0_known_1 17 rfl rfl)
theorem dX0_known_41 : decode cX0_known 41 = .ok (.ireturn, 1) := dk_172 (dk_at dksX0_known_1 19 rfl rfl)
abbrev cX0_isKnown : ByteArray := prog_1_method_91_code
def yX0_isKnown : MethodName := ⟨RX0, "isKnown", "(LMergeJudge$Told;)Z"⟩
def dkwX0_isKnown_1 : List UInt8 := [159, 0, 7, 4, 167, 0, 4, 3, 172]
abbrev dktX0_isKnown_1 : List UInt8 := dkwX0_isKnown_1 ++ []
def dkwX0_isKnown_0 : List UInt8 := [43, 180, 0, 77, 5, 162, 0, 24, 42, 180, 0, 46, 180, 1, 45, 43, 3, 182, 0, 72, 46, 5]
abbrev dktX0_isKnown_0 : List UInt8 := dkwX0_isKnown_0 ++ dktX0_isKnown_1
theorem dksX0_isKnown_0 : cX0_isKnown.data.toList.drop 0 = dktX0_isKnown_0 := by decide +kernel
theorem dksX0_isKnown_1 : cX0_isKnown.data.toList.drop 22 = dktX0_isKnown_1 := dk_seg dksX0_isKnown_0 22 rfl rfl
theorem dX0_isKnown_0 : decode cX0_isKnown 0 = .ok (.aload_n 1, 1) := dk_43 (dk_at dksX0_isKnown_0 0 rfl rfl)
theorem dX0_isKnown_1 : decode cX0_isKnown 1 = .ok (.getfield 77, 3) := dk_180 0 77 (dk_at dksX0_isKnown_0 1 rfl rfl)
theorem dX0_isKnown_4 : decode cX0_isKnown 4 = .ok (.iconst 2, 1) := dk_5 (dk_at dksX0_isKnown_0 4 rfl rfl)
theorem dX0_isKnown_5 : decode cX0_isKnown 5 = .ok (.if_icmp .ge 24, 3) := dk_162 0 24 (dk_at dksX0_isKnown_0 5 rfl rfl)
theorem dX0_isKnown_8 : decode cX0_isKnown 8 = .ok (.aload_n 0, 1) := dk_42 (dk_at dksX0_isKnown_0 8 rfl rfl)
theorem dX0_isKnown_9 : decode cX0_isKnown 9 = .ok (.getfield 46, 3) := dk_180 0 46 (dk_at dksX0_isKnown_0 9 rfl rfl)
theorem dX0_isKnown_12 : decode cX0_isKnown 12 = .ok (.getfield 301, 3) := dk_180 1 45 (dk_at dksX0_isKnown_0 12 rfl rfl)
theorem dX0_isKnown_15 : decode cX0_isKnown 15 = .ok (.aload_n 1, 1) := dk_43 (dk_at dksX0_isKnown_0 15 rfl rfl)
theorem dX0_isKnown_16 : decode cX0_isKnown 16 = .ok (.iconst 0, 1) := dk_3 (dk_at dksX0_isKnown_0 16 rfl rfl)
theorem dX0_isKnown_17 : decode cX0_isKnown 17 = .ok (.invokevirtual 72, 3) := dk_182 0 72 (dk_at dksX0_isKnown_0 17 rfl rfl)
theorem dX0_isKnown_20 : decode cX0_isKnown 20 = .ok (.iaload, 1) := dk_46 (dk_at dksX0_isKnown_0 20 rfl rfl)
theorem dX0_isKnown_21 : decode cX0_isKnown 21 = .ok (.iconst 2, 1) := dk_5 (dk_at dksX0_isKnown_0 21 rfl rfl)
theorem dX0_isKnown_22 : decode cX0_isKnown 22 = .ok (.if_icmp .eq 7, 3) := dk_159 0 7 (dk_at dksX0_isKnown_1 0 rfl rfl)
theorem dX0_isKnown_25 : decode cX0_isKnown 25 = .ok (.iconst 1, 1) := dk_4 (dk_at dksX0_isKnown_1 3 rfl rfl)
theorem dX0_isKnown_26 : decode cX0_isKnown 26 = .ok (.goto 4, 3) := dk_167 0 4 (dk_at dksX0_isKnown_1 4 rfl rfl)
theorem dX0_isKnown_29 : decode cX0_isKnown 29 = .ok (.iconst 0, 1) := dk_3 (dk_at dksX0_isKnown_1 7 rfl rfl)
theorem dX0_isKnown_30 : decode cX0_isKnown 30 = .ok (.ireturn, 1) := dk_172 (dk_at dksX0_isKnown_1 8 rfl rfl)
abbrev cX0_alone : ByteArray := prog_1_method_96_code
def yX0_alone : MethodName := ⟨RX0, "alone", "(II)I"⟩
def dkwX0_alone_1 : List UInt8 := [167, 0, 5, 16, 254, 172]
abbrev dktX0_alone_1 : List UInt8 := dkwX0_alone_1 ++ []
def dkwX0_alone_0 : List UInt8 := [42, 27, 182, 1, 75, 153, 0, 20, 42, 28, 182, 1, 55, 153, 0, 12, 42, 27, 28, 182, 1, 176]
abbrev dktX0_alone_0 : List UInt8 := dkwX0_alone_0 ++ dktX0_alone_1
theorem dksX0_alone_0 : cX0_alone.data.toList.drop 0 = dktX0_alone_0 := by decide +kernel
theorem dksX0_alone_1 : cX0_alone.data.toList.drop 22 = dktX0_alone_1 := dk_seg dksX0_alone_0 22 rfl rfl
theorem dX0_alone_0 : decode cX0_alone 0 = .ok (.aload_n 0, 1) := dk_42 (dk_at dksX0_alone_0 0 rfl rfl)
theorem dX0_alone_1 : decode cX0_alone 1 = .ok (.iload_n 1, 1) := dk_27 (dk_at dksX0_alone_0 1 rfl rfl)
theorem dX0_alone_2 : decode cX0_alone 2 = .ok (.invokevirtual 331, 3) := dk_182 1 75 (dk_at dksX0_alone_0 2 rfl rfl)
theorem dX0_alone_5 : decode cX0_alone 5 = .ok (.ifCond .eq 20, 3) := dk_153 0 20 (dk_at dksX0_alone_0 5 rfl rfl)
theorem dX0_alone_8 : decode cX0_alone 8 = .ok (.aload_n 0, 1) := dk_42 (dk_at dksX0_alone_0 8 rfl rfl)
theorem dX0_alone_9 : decode cX0_alone 9 = .ok (.iload_n 2, 1) := dk_28 (dk_at dksX0_alone_0 9 rfl rfl)
theorem dX0_alone_10 : decode cX0_alone 10 = .ok (.invokevirtual 311, 3) := dk_182 1 55 (dk_at dksX0_alone_0 10 rfl rfl)
theorem dX0_alone_13 : decode cX0_alone 13 = .ok (.ifCond .eq 12, 3) := dk_153 0 12 (dk_at dksX0_alone_0 13 rfl rfl)
theorem dX0_alone_16 : decode cX0_alone 16 = .ok (.aload_n 0, 1) := dk_42 (dk_at dksX0_alone_0 16 rfl rfl)
theorem dX0_alone_17 : decode cX0_alone 17 = .ok (.iload_n 1, 1) := dk_27 (dk_at dksX0_alone_0 17 rfl rfl)
theorem dX0_alone_18 : decode cX0_alone 18 = .ok (.iload_n 2, 1) := dk_28 (dk_at dksX0_alone_0 18 rfl rfl)
theorem dX0_alone_19 : decode cX0_alone 19 = .ok (.invokevirtual 432, 3) := dk_182 1 176 (dk_at dksX0_alone_0 19 rfl rfl)
theorem dX0_alone_22 : decode cX0_alone 22 = .ok (.goto 5, 3) := dk_167 0 5 (dk_at dksX0_alone_1 0 rfl rfl)
theorem dX0_alone_25 : decode cX0_alone 25 = .ok (.bipush (-2), 2) := dk_16 254 (dk_at dksX0_alone_1 3 rfl rfl)
theorem dX0_alone_27 : decode cX0_alone 27 = .ok (.ireturn, 1) := dk_172 (dk_at dksX0_alone_1 5 rfl rfl)
abbrev cX0_aloneIn : ByteArray := prog_1_method_95_code
def yX0_aloneIn : MethodName := ⟨RX0, "aloneIn", "(II)I"⟩
def dkwX0_aloneIn_1 : List UInt8 := [167, 0, 4, 3, 62, 42, 42, 180, 0, 46, 180, 1, 15, 182, 1, 18, 29, 172]
abbrev dktX0_aloneIn_1 : List UInt8 := dkwX0_aloneIn_1 ++ []
def dkwX0_aloneIn_0 : List UInt8 := [42, 42, 182, 1, 78, 4, 27, 120, 2, 130, 126, 182, 1, 18, 42, 28, 182, 1, 146, 153, 0, 7, 4]
abbrev dktX0_aloneIn_0 : List UInt8 := dkwX0_aloneIn_0 ++ dktX0_aloneIn_1
theorem dksX0_aloneIn_0 : cX0_aloneIn.data.toList.drop 0 = dktX0_aloneIn_0 := by decide +kernel
theorem dksX0_aloneIn_1 : cX0_aloneIn.data.toList.drop 23 = dktX0_aloneIn_1 := dk_seg dksX0_aloneIn_0 23 rfl rfl
theorem dX0_aloneIn_0 : decode cX0_aloneIn 0 = .ok (.aload_n 0, 1) := dk_42 (dk_at dksX0_aloneIn_0 0 rfl rfl)
theorem dX0_aloneIn_1 : decode cX0_aloneIn 1 = .ok (.aload_n 0, 1) := dk_42 (dk_at dksX0_aloneIn_0 1 rfl rfl)
theorem dX0_aloneIn_2 : decode cX0_aloneIn 2 = .ok (.invokevirtual 334, 3) := dk_182 1 78 (dk_at dksX0_aloneIn_0 2 rfl rfl)
theorem dX0_aloneIn_5 : decode cX0_aloneIn 5 = .ok (.iconst 1, 1) := dk_4 (dk_at dksX0_aloneIn_0 5 rfl rfl)
theorem dX0_aloneIn_6 : decode cX0_aloneIn 6 = .ok (.iload_n 1, 1) := dk_27 (dk_at dksX0_aloneIn_0 6 rfl rfl)
theorem dX0_aloneIn_7 : decode cX0_aloneIn 7 = .ok (.ishl, 1) := dk_120 (dk_at dksX0_aloneIn_0 7 rfl rfl)
theorem dX0_aloneIn_8 : decode cX0_aloneIn 8 = .ok (.iconst (-1), 1) := dk_2 (dk_at dksX0_aloneIn_0 8 rfl rfl)
theorem dX0_aloneIn_9 : decode cX0_aloneIn 9 = .ok (.ixor, 1) := dk_130 (dk_at dksX0_aloneIn_0 9 rfl rfl)
theorem dX0_aloneIn_10 : decode cX0_aloneIn 10 = .ok (.iand, 1) := dk_126 (dk_at dksX0_aloneIn_0 10 rfl rfl)
theorem dX0_aloneIn_11 : decode cX0_aloneIn 11 = .ok (.invokevirtual 274, 3) := dk_182 1 18 (dk_at dksX0_aloneIn_0 11 rfl rfl)
theorem dX0_aloneIn_14 : decode cX0_aloneIn 14 = .ok (.aload_n 0, 1) := dk_42 (dk_at dksX0_aloneIn_0 14 rfl rfl)
theorem dX0_aloneIn_15 : decode cX0_aloneIn 15 = .ok (.iload_n 2, 1) := dk_28 (dk_at dksX0_aloneIn_0 15 rfl rfl)
theorem dX0_aloneIn_16 : decode cX0_aloneIn 16 = .ok (.invokevirtual 402, 3) := dk_182 1 146 (dk_at dksX0_aloneIn_0 16 rfl rfl)
theorem dX0_aloneIn_19 : decode cX0_aloneIn 19 = .ok (.ifCond .eq 7, 3) := dk_153 0 7 (dk_at dksX0_aloneIn_0 19 rfl rfl)
theorem dX0_aloneIn_22 : decode cX0_aloneIn 22 = .ok (.iconst 1, 1) := dk_4 (dk_at dksX0_aloneIn_0 22 rfl rfl)
theorem dX0_aloneIn_23 : decode cX0_aloneIn 23 = .ok (.goto 4, 3) := dk_167 0 4 (dk_at dksX0_aloneIn_1 0 rfl rfl)
theorem dX0_aloneIn_26 : decode cX0_aloneIn 26 = .ok (.iconst 0, 1) := dk_3 (dk_at dksX0_aloneIn_1 3 rfl rfl)
theorem dX0_aloneIn_27 : decode cX0_aloneIn 27 = .ok (.istore_n 3, 1) := dk_62 (dk_at dksX0_aloneIn_1 4 rfl rfl)
theorem dX0_aloneIn_28 : decode cX0_aloneIn 28 = .ok (.aload_n 0, 1) := dk_42 (dk_at dksX0_aloneIn_1 5 rfl rfl)
theorem dX0_aloneIn_29 : decode cX0_aloneIn 29 = .ok (.aload_n 0, 1) := dk_42 (dk_at dksX0_aloneIn_1 6 rfl rfl)
theorem dX0_aloneIn_30 : decode cX0_aloneIn 30 = .ok (.getfield 46, 3) := dk_180 0 46 (dk_at dksX0_aloneIn_1 7 rfl rfl)
theorem dX0_aloneIn_33 : decode cX0_aloneIn 33 = .ok (.getfield 271, 3) := dk_180 1 15 (dk_at dksX0_aloneIn_1 10 rfl rfl)
theorem dX0_aloneIn_36 : decode cX0_aloneIn 36 = .ok (.invokevirtual 274, 3) := dk_182 1 18 (dk_at dksX0_aloneIn_1 13 rfl rfl)
theorem dX0_aloneIn_39 : decode cX0_aloneIn 39 = .ok (.iload_n 3, 1) := dk_29 (dk_at dksX0_aloneIn_1 16 rfl rfl)
theorem dX0_aloneIn_40 : decode cX0_aloneIn 40 = .ok (.ireturn, 1) := dk_172 (dk_at dksX0_aloneIn_1 17 rfl rfl)
abbrev cX0_fine : ByteArray := prog_1_method_97_code
def yX0_fine : MethodName := ⟨RX0, "fine", "(I)I"⟩
def dkwX0_fine_2 : List UInt8 := [167, 255, 226, 28, 172]
abbrev dktX0_fine_2 : List UInt8 := dkwX0_fine_2 ++ []
def dkwX0_fine_1 : List UInt8 := [185, 0, 225, 1, 0, 162, 0, 20, 28, 42, 29, 27, 182, 1, 176, 29, 120, 128, 61, 132, 3, 1]
abbrev dktX0_fine_1 : List UInt8 := dkwX0_fine_1 ++ dktX0_fine_2
def dkwX0_fine_0 : List UInt8 := [42, 27, 182, 1, 55, 154, 0, 6, 16, 254, 172, 3, 61, 3, 62, 29, 42, 180, 0, 46, 180, 0, 222]
abbrev dktX0_fine_0 : List UInt8 := dkwX0_fine_0 ++ dktX0_fine_1
theorem dksX0_fine_0 : cX0_fine.data.toList.drop 0 = dktX0_fine_0 := by decide +kernel
theorem dksX0_fine_1 : cX0_fine.data.toList.drop 23 = dktX0_fine_1 := dk_seg dksX0_fine_0 23 rfl rfl
theorem dksX0_fine_2 : cX0_fine.data.toList.drop 45 = dktX0_fine_2 := dk_seg dksX0_fine_1 22 rfl rfl
theorem dX0_fine_0 : decode cX0_fine 0 = .ok (.aload_n 0, 1) := dk_42 (dk_at dksX0_fine_0 0 rfl rfl)
theorem dX0_fine_1 : decode cX0_fine 1 = .ok (.iload_n 1, 1) := dk_27 (dk_at dksX0_fine_0 1 rfl rfl)
theorem dX0_fine_2 : decode cX0_fine 2 = .ok (.invokevirtual 311, 3) := dk_182 1 55 (dk_at dksX0_fine_0 2 rfl rfl)
theorem dX0_fine_5 : decode cX0_fine 5 = .ok (.ifCond .ne 6, 3) := dk_154 0 6 (dk_at dksX0_fine_0 5 rfl rfl)
theorem dX0_fine_8 : decode cX0_fine 8 = .ok (.bipush (-2), 2) := dk_16 254 (dk_at dksX0_fine_0 8 rfl rfl)
theorem dX0_fine_10 : decode cX0_fine 10 = .ok (.ireturn, 1) := dk_172 (dk_at dksX0_fine_0 10 rfl rfl)
theorem dX0_fine_11 : decode cX0_fine 11 = .ok (.iconst 0, 1) := dk_3 (dk_at dksX0_fine_0 11 rfl rfl)
theorem dX0_fine_12 : decode cX0_fine 12 = .ok (.istore_n 2, 1) := dk_61 (dk_at dksX0_fine_0 12 rfl rfl)
theorem dX0_fine_13 : decode cX0_fine 13 = .ok (.iconst 0, 1) := dk_3 (dk_at dksX0_fine_0 13 rfl rfl)
theorem dX0_fine_14 : decode cX0_fine 14 = .ok (.istore_n 3, 1) := dk_62 (dk_at dksX0_fine_0 14 rfl rfl)
theorem dX0_fine_15 : decode cX0_fine 15 = .ok (.iload_n 3, 1) := dk_29 (dk_at dksX0_fine_0 15 rfl rfl)
theorem dX0_fine_16 : decode cX0_fine 16 = .ok (.aload_n 0, 1) := dk_42 (dk_at dksX0_fine_0 16 rfl rfl)
theorem dX0_fine_17 : decode cX0_fine 17 = .ok (.getfield 46, 3) := dk_180 0 46 (dk_at dksX0_fine_0 17 rfl rfl)
theorem dX0_fine_20 : decode cX0_fine 20 = .ok (.getfield 222, 3) := dk_180 0 222 (dk_at dksX0_fine_0 20 rfl rfl)
theorem dX0_fine_23 : decode cX0_fine 23 = .ok (.invokeinterface 225 1, 5) := by decide +kernel
theorem dX0_fine_28 : decode cX0_fine 28 = .ok (.if_icmp .ge 20, 3) := dk_162 0 20 (dk_at dksX0_fine_1 5 rfl rfl)
theorem dX0_fine_31 : decode cX0_fine 31 = .ok (.iload_n 2, 1) := dk_28 (dk_at dksX0_fine_1 8 rfl rfl)
theorem dX0_fine_32 : decode cX0_fine 32 = .ok (.aload_n 0, 1) := dk_42 (dk_at dksX0_fine_1 9 rfl rfl)
theorem dX0_fine_33 : decode cX0_fine 33 = .ok (.iload_n 3, 1) := dk_29 (dk_at dksX0_fine_1 10 rfl rfl)
theorem dX0_fine_34 : decode cX0_fine 34 = .ok (.iload_n 1, 1) := dk_27 (dk_at dksX0_fine_1 11 rfl rfl)
theorem dX0_fine_35 : decode cX0_fine 35 = .ok (.invokevirtual 432, 3) := dk_182 1 176 (dk_at dksX0_fine_1 12 rfl rfl)
theorem dX0_fine_38 : decode cX0_fine 38 = .ok (.iload_n 3, 1) := dk_29 (dk_at dksX0_fine_1 15 rfl rfl)
theorem dX0_fine_39 : decode cX0_fine 39 = .ok (.ishl, 1) := dk_120 (dk_at dksX0_fine_1 16 rfl rfl)
theorem dX0_fine_40 : decode cX0_fine 40 = .ok (.ior, 1) := dk_128 (dk_at dksX0_fine_1 17 rfl rfl)
theorem dX0_fine_41 : decode cX0_fine 41 = .ok (.istore_n 2, 1) := dk_61 (dk_at dksX0_fine_1 18 rfl rfl)
theorem dX0_fine_42 : decode cX0_fine 42 = .ok (.iinc 3 1, 3) := dk_132 3 1 (dk_at dksX0_fine_1 19 rfl rfl)
theorem dX0_fine_45 : decode cX0_fine 45 = .ok (.goto (-30), 3) := dk_167 255 226 (dk_at dksX0_fine_2 0 rfl rfl)
theorem dX0_fine_48 : decode cX0_fine 48 = .ok (.iload_n 2, 1) := dk_28 (dk_at dksX0_fine_2 3 rfl rfl)
theorem dX0_fine_49 : decode cX0_fine 49 = .ok (.ireturn, 1) := dk_172 (dk_at dksX0_fine_2 4 rfl rfl)
abbrev cX0_fewest : ByteArray := prog_1_method_98_code
def yX0_fewest : MethodName := ⟨RX0, "fewest", "(I)I"⟩
def dkwX0_fewest_1 : List UInt8 := [2, 160, 0, 7, 2, 167, 0, 7, 28, 184, 1, 185, 172]
abbrev dktX0_fewest_1 : List UInt8 := dkwX0_fewest_1 ++ []
def dkwX0_fewest_0 : List UInt8 := [42, 27, 182, 1, 55, 154, 0, 6, 16, 254, 172, 42, 180, 0, 176, 27, 182, 1, 179, 180, 1, 182, 61, 28]
abbrev dktX0_fewest_0 : List UInt8 := dkwX0_fewest_0 ++ dktX0_fewest_1
theorem dksX0_fewest_0 : cX0_fewest.data.toList.drop 0 = dktX0_fewest_0 := by decide +kernel
theorem dksX0_fewest_1 : cX0_fewest.data.toList.drop 24 = dktX0_fewest_1 := dk_seg dksX0_fewest_0 24 rfl rfl
theorem dX0_fewest_0 : decode cX0_fewest 0 = .ok (.aload_n 0, 1) := dk_42 (dk_at dksX0_fewest_0 0 rfl rfl)
theorem dX0_fewest_1 : decode cX0_fewest 1 = .ok (.iload_n 1, 1) := dk_27 (dk_at dksX0_fewest_0 1 rfl rfl)
theorem dX0_fewest_2 : decode cX0_fewest 2 = .ok (.invokevirtual 311, 3) := dk_182 1 55 (dk_at dksX0_fewest_0 2 rfl rfl)
theorem dX0_fewest_5 : decode cX0_fewest 5 = .ok (.ifCond .ne 6, 3) := dk_154 0 6 (dk_at dksX0_fewest_0 5 rfl rfl)
theorem dX0_fewest_8 : decode cX0_fewest 8 = .ok (.bipush (-2), 2) := dk_16 254 (dk_at dksX0_fewest_0 8 rfl rfl)
theorem dX0_fewest_10 : decode cX0_fewest 10 = .ok (.ireturn, 1) := dk_172 (dk_at dksX0_fewest_0 10 rfl rfl)
theorem dX0_fewest_11 : decode cX0_fewest 11 = .ok (.aload_n 0, 1) := dk_42 (dk_at dksX0_fewest_0 11 rfl rfl)
theorem dX0_fewest_12 : decode cX0_fewest 12 = .ok (.getfield 176, 3) := dk_180 0 176 (dk_at dksX0_fewest_0 12 rfl rfl)
theorem dX0_fewest_15 : decode cX0_fewest 15 = .ok (.iload_n 1, 1) := dk_27 (dk_at dksX0_fewest_0 15 rfl rfl)
theorem dX0_fewest_16 : decode cX0_fewest 16 = .ok (.invokevirtual 435, 3) := dk_182 1 179 (dk_at dksX0_fewest_0 16 rfl rfl)
theorem dX0_fewest_19 : decode cX0_fewest 19 = .ok (.getfield 438, 3) := dk_180 1 182 (dk_at dksX0_fewest_0 19 rfl rfl)
theorem dX0_fewest_22 : decode cX0_fewest 22 = .ok (.istore_n 2, 1) := dk_61 (dk_at dksX0_fewest_0 22 rfl rfl)
theorem dX0_fewest_23 : decode cX0_fewest 23 = .ok (.iload_n 2, 1) := dk_28 (dk_at dksX0_fewest_0 23 rfl rfl)
theorem dX0_fewest_24 : decode cX0_fewest 24 = .ok (.iconst (-1), 1) := dk_2 (dk_at dksX0_fewest_1 0 rfl rfl)
theorem dX0_fewest_25 : decode cX0_fewest 25 = .ok (.if_icmp .ne 7, 3) := dk_160 0 7 (dk_at dksX0_fewest_1 1 rfl rfl)
theorem dX0_fewest_28 : decode cX0_fewest 28 = .ok (.iconst (-1), 1) := dk_2 (dk_at dksX0_fewest_1 4 rfl rfl)
theorem dX0_fewest_29 : decode cX0_fewest 29 = .ok (.goto 7, 3) := dk_167 0 7 (dk_at dksX0_fewest_1 5 rfl rfl)
theorem dX0_fewest_32 : decode cX0_fewest 32 = .ok (.iload_n 2, 1) := dk_28 (dk_at dksX0_fewest_1 8 rfl rfl)
theorem dX0_fewest_33 : decode cX0_fewest 33 = .ok (.invokestatic 441, 3) := dk_184 1 185 (dk_at dksX0_fewest_1 9 rfl rfl)
theorem dX0_fewest_36 : decode cX0_fewest 36 = .ok (.ireturn, 1) := dk_172 (dk_at dksX0_fewest_1 12 rfl rfl)
abbrev cX0_size : ByteArray := prog_1_method_3_code
def yX0_size : MethodName := ⟨RX0, "size", "(I)I"⟩
theorem dX0_size_0 : decode cX0_size 0 = .ok (.iload_n 0, 1) := by decide +kernel
theorem dX0_size_1 : decode cX0_size 1 = .ok (.invokestatic 1, 3) := by decide +kernel
theorem dX0_size_4 : decode cX0_size 4 = .ok (.ireturn, 1) := by decide +kernel
abbrev cX0_locks : ByteArray := prog_1_method_99_code
def yX0_locks : MethodName := ⟨RX0, "locks", "(I)I"⟩
def dkwX0_locks_1 : List UInt8 := [172]
abbrev dktX0_locks_1 : List UInt8 := dkwX0_locks_1 ++ []
def dkwX0_locks_0 : List UInt8 := [42, 27, 182, 1, 55, 153, 0, 17, 42, 180, 0, 176, 27, 182, 1, 179, 180, 1, 182, 167, 0, 5, 16, 254]
abbrev dktX0_locks_0 : List UInt8 := dkwX0_locks_0 ++ dktX0_locks_1
theorem dksX0_locks_0 : cX0_locks.data.toList.drop 0 = dktX0_locks_0 := by decide +kernel
theorem dksX0_locks_1 : cX0_locks.data.toList.drop 24 = dktX0_locks_1 := dk_seg dksX0_locks_0 24 rfl rfl
theorem dX0_locks_0 : decode cX0_locks 0 = .ok (.aload_n 0, 1) := dk_42 (dk_at dksX0_locks_0 0 rfl rfl)
theorem dX0_locks_1 : decode cX0_locks 1 = .ok (.iload_n 1, 1) := dk_27 (dk_at dksX0_locks_0 1 rfl rfl)
theorem dX0_locks_2 : decode cX0_locks 2 = .ok (.invokevirtual 311, 3) := dk_182 1 55 (dk_at dksX0_locks_0 2 rfl rfl)
theorem dX0_locks_5 : decode cX0_locks 5 = .ok (.ifCond .eq 17, 3) := dk_153 0 17 (dk_at dksX0_locks_0 5 rfl rfl)
theorem dX0_locks_8 : decode cX0_locks 8 = .ok (.aload_n 0, 1) := dk_42 (dk_at dksX0_locks_0 8 rfl rfl)
theorem dX0_locks_9 : decode cX0_locks 9 = .ok (.getfield 176, 3) := dk_180 0 176 (dk_at dksX0_locks_0 9 rfl rfl)
theorem dX0_locks_12 : decode cX0_locks 12 = .ok (.iload_n 1, 1) := dk_27 (dk_at dksX0_locks_0 12 rfl rfl)
theorem dX0_locks_13 : decode cX0_locks 13 = .ok (.invokevirtual 435, 3) := dk_182 1 179 (dk_at dksX0_locks_0 13 rfl rfl)
theorem dX0_locks_16 : decode cX0_locks 16 = .ok (.getfield 438, 3) := dk_180 1 182 (dk_at dksX0_locks_0 16 rfl rfl)
theorem dX0_locks_19 : decode cX0_locks 19 = .ok (.goto 5, 3) := dk_167 0 5 (dk_at dksX0_locks_0 19 rfl rfl)
theorem dX0_locks_22 : decode cX0_locks 22 = .ok (.bipush (-2), 2) := dk_16 254 (dk_at dksX0_locks_0 22 rfl rfl)
theorem dX0_locks_24 : decode cX0_locks 24 = .ok (.ireturn, 1) := dk_172 (dk_at dksX0_locks_1 0 rfl rfl)
abbrev cX0_needed : ByteArray := prog_1_method_100_code
def yX0_needed : MethodName := ⟨RX0, "needed", "(I)I"⟩
def dkwX0_needed_1 : List UInt8 := [172]
abbrev dktX0_needed_1 : List UInt8 := dkwX0_needed_1 ++ []
def dkwX0_needed_0 : List UInt8 := [42, 27, 182, 1, 55, 153, 0, 17, 42, 180, 0, 176, 27, 182, 1, 179, 180, 1, 187, 167, 0, 5, 16, 254]
abbrev dktX0_needed_0 : List UInt8 := dkwX0_needed_0 ++ dktX0_needed_1
theorem dksX0_needed_0 : cX0_needed.data.toList.drop 0 = dktX0_needed_0 := by decide +kernel
theorem dksX0_needed_1 : cX0_needed.data.toList.drop 24 = dktX0_needed_1 := dk_seg dksX0_needed_0 24 rfl rfl
theorem dX0_needed_0 : decode cX0_needed 0 = .ok (.aload_n 0, 1) := dk_42 (dk_at dksX0_needed_0 0 rfl rfl)
theorem dX0_needed_1 : decode cX0_needed 1 = .ok (.iload_n 1, 1) := dk_27 (dk_at dksX0_needed_0 1 rfl rfl)
theorem dX0_needed_2 : decode cX0_needed 2 = .ok (.invokevirtual 311, 3) := dk_182 1 55 (dk_at dksX0_needed_0 2 rfl rfl)
theorem dX0_needed_5 : decode cX0_needed 5 = .ok (.ifCond .eq 17, 3) := dk_153 0 17 (dk_at dksX0_needed_0 5 rfl rfl)
theorem dX0_needed_8 : decode cX0_needed 8 = .ok (.aload_n 0, 1) := dk_42 (dk_at dksX0_needed_0 8 rfl rfl)
theorem dX0_needed_9 : decode cX0_needed 9 = .ok (.getfield 176, 3) := dk_180 0 176 (dk_at dksX0_needed_0 9 rfl rfl)
theorem dX0_needed_12 : decode cX0_needed 12 = .ok (.iload_n 1, 1) := dk_27 (dk_at dksX0_needed_0 12 rfl rfl)
theorem dX0_needed_13 : decode cX0_needed 13 = .ok (.invokevirtual 435, 3) := dk_182 1 179 (dk_at dksX0_needed_0 13 rfl rfl)
theorem dX0_needed_16 : decode cX0_needed 16 = .ok (.getfield 443, 3) := dk_180 1 187 (dk_at dksX0_needed_0 16 rfl rfl)
theorem dX0_needed_19 : decode cX0_needed 19 = .ok (.goto 5, 3) := dk_167 0 5 (dk_at dksX0_needed_0 19 rfl rfl)
theorem dX0_needed_22 : decode cX0_needed 22 = .ok (.bipush (-2), 2) := dk_16 254 (dk_at dksX0_needed_0 22 rfl rfl)
theorem dX0_needed_24 : decode cX0_needed 24 = .ok (.ireturn, 1) := dk_172 (dk_at dksX0_needed_1 0 rfl rfl)
abbrev cX0_blame : ByteArray := prog_1_method_101_code
def yX0_blame : MethodName := ⟨RX0, "blame", "()I"⟩
def dkwX0_blame_3 : List UInt8 := [21, 4, 60, 132, 3, 1, 167, 255, 201, 28, 172]
abbrev dktX0_blame_3 : List UInt8 := dkwX0_blame_3 ++ []
def dkwX0_blame_2 : List UInt8 := [130, 126, 42, 186, 1, 190, 0, 0, 182, 1, 84, 54, 4, 21, 4, 27, 161, 0, 6, 167, 0, 8, 29, 61]
abbrev dktX0_blame_2 : List UInt8 := dkwX0_blame_2 ++ dktX0_blame_3
def dkwX0_blame_1 : List UInt8 := [42, 180, 0, 46, 180, 0, 222, 185, 0, 225, 1, 0, 162, 0, 45, 42, 42, 182, 1, 78, 4, 29, 120, 2]
abbrev dktX0_blame_1 : List UInt8 := dkwX0_blame_1 ++ dktX0_blame_2
def dkwX0_blame_0 : List UInt8 := [42, 180, 0, 46, 182, 0, 200, 154, 0, 6, 16, 254, 172, 42, 4, 182, 1, 136, 60, 2, 61, 3, 62, 29]
abbrev dktX0_blame_0 : List UInt8 := dkwX0_blame_0 ++ dktX0_blame_1
theorem dksX0_blame_0 : cX0_blame.data.toList.drop 0 = dktX0_blame_0 := by decide +kernel
theorem dksX0_blame_1 : cX0_blame.data.toList.drop 24 = dktX0_blame_1 := dk_seg dksX0_blame_0 24 rfl rfl
theorem dksX0_blame_2 : cX0_blame.data.toList.drop 48 = dktX0_blame_2 := dk_seg dksX0_blame_1 24 rfl rfl
theorem dksX0_blame_3 : cX0_blame.data.toList.drop 72 = dktX0_blame_3 := dk_seg dksX0_blame_2 24 rfl rfl
theorem dX0_blame_0 : decode cX0_blame 0 = .ok (.aload_n 0, 1) := dk_42 (dk_at dksX0_blame_0 0 rfl rfl)
theorem dX0_blame_1 : decode cX0_blame 1 = .ok (.getfield 46, 3) := dk_180 0 46 (dk_at dksX0_blame_0 1 rfl rfl)
theorem dX0_blame_4 : decode cX0_blame 4 = .ok (.invokevirtual 200, 3) := dk_182 0 200 (dk_at dksX0_blame_0 4 rfl rfl)
theorem dX0_blame_7 : decode cX0_blame 7 = .ok (.ifCond .ne 6, 3) := dk_154 0 6 (dk_at dksX0_blame_0 7 rfl rfl)
theorem dX0_blame_10 : decode cX0_blame 10 = .ok (.bipush (-2), 2) := dk_16 254 (dk_at dksX0_blame_0 10 rfl rfl)
theorem dX0_blame_12 : decode cX0_blame 12 = .ok (.ireturn, 1) := dk_172 (dk_at dksX0_blame_0 12 rfl rfl)
theorem dX0_blame_13 : decode cX0_blame 13 = .ok (.aload_n 0, 1) := dk_42 (dk_at dksX0_blame_0 13 rfl rfl)
theorem dX0_blame_14 : decode cX0_blame 14 = .ok (.iconst 1, 1) := dk_4 (dk_at dksX0_blame_0 14 rfl rfl)
theorem dX0_blame_15 : decode cX0_blame 15 = .ok (.invokevirtual 392, 3) := dk_182 1 136 (dk_at dksX0_blame_0 15 rfl rfl)
theorem dX0_blame_18 : decode cX0_blame 18 = .ok (.istore_n 1, 1) := dk_60 (dk_at dksX0_blame_0 18 rfl rfl)
theorem dX0_blame_19 : decode cX0_blame 19 = .ok (.iconst (-1), 1) := dk_2 (dk_at dksX0_blame_0 19 rfl rfl)
theorem dX0_blame_20 : decode cX0_blame 20 = .ok (.istore_n 2, 1) := dk_61 (dk_at dksX0_blame_0 20 rfl rfl)
theorem dX0_blame_21 : decode cX0_blame 21 = .ok (.iconst 0, 1) := dk_3 (dk_at dksX0_blame_0 21 rfl rfl)
theorem dX0_blame_22 : decode cX0_blame 22 = .ok (.istore_n 3, 1) := dk_62 (dk_at dksX0_blame_0 22 rfl rfl)
theorem dX0_blame_23 : decode cX0_blame 23 = .ok (.iload_n 3, 1) := dk_29 (dk_at dksX0_blame_0 23 rfl rfl)
theorem dX0_blame_24 : decode cX0_blame 24 = .ok (.aload_n 0, 1) := dk_42 (dk_at dksX0_blame_1 0 rfl rfl)
theorem dX0_blame_25 : decode cX0_blame 25 = .ok (.getfield 46, 3) := dk_180 0 46 (dk_at dksX0_blame_1 1 rfl rfl)
theorem dX0_blame_28 : decode cX0_blame 28 = .ok (.getfield 222, 3) := dk_180 0 222 (dk_at dksX0_blame_1 4 rfl rfl)
theorem dX0_blame_31 : decode cX0_blame 31 = .ok (.invokeinterface 225 1, 5) := by decide +kernel
theorem dX0_blame_36 : decode cX0_blame 36 = .ok (.if_icmp .ge 45, 3) := dk_162 0 45 (dk_at dksX0_blame_1 12 rfl rfl)
theorem dX0_blame_39 : decode cX0_blame 39 = .ok (.aload_n 0, 1) := dk_42 (dk_at dksX0_blame_1 15 rfl rfl)
theorem dX0_blame_40 : decode cX0_blame 40 = .ok (.aload_n 0, 1) := dk_42 (dk_at dksX0_blame_1 16 rfl rfl)
theorem dX0_blame_41 : decode cX0_blame 41 = .ok (.invokevirtual 334, 3) := dk_182 1 78 (dk_at dksX0_blame_1 17 rfl rfl)
theorem dX0_blame_44 : decode cX0_blame 44 = .ok (.iconst 1, 1) := dk_4 (dk_at dksX0_blame_1 20 rfl rfl)
theorem dX0_blame_45 : decode cX0_blame 45 = .ok (.iload_n 3, 1) := dk_29 (dk_at dksX0_blame_1 21 rfl rfl)
theorem dX0_blame_46 : decode cX0_blame 46 = .ok (.ishl, 1) := dk_120 (dk_at dksX0_blame_1 22 rfl rfl)
theorem dX0_blame_47 : decode cX0_blame 47 = .ok (.iconst (-1), 1) := dk_2 (dk_at dksX0_blame_1 23 rfl rfl)
theorem dX0_blame_48 : decode cX0_blame 48 = .ok (.ixor, 1) := dk_130 (dk_at dksX0_blame_2 0 rfl rfl)
theorem dX0_blame_49 : decode cX0_blame 49 = .ok (.iand, 1) := dk_126 (dk_at dksX0_blame_2 1 rfl rfl)
theorem dX0_blame_50 : decode cX0_blame 50 = .ok (.aload_n 0, 1) := dk_42 (dk_at dksX0_blame_2 2 rfl rfl)
theorem dX0_blame_51 : decode cX0_blame 51 = .ok (.invokedynamic 446, 5) := by decide +kernel
theorem dX0_blame_56 : decode cX0_blame 56 = .ok (.invokevirtual 340, 3) := dk_182 1 84 (dk_at dksX0_blame_2 8 rfl rfl)
theorem dX0_blame_59 : decode cX0_blame 59 = .ok (.istore 4, 2) := dk_54 4 (dk_at dksX0_blame_2 11 rfl rfl)
theorem dX0_blame_61 : decode cX0_blame 61 = .ok (.iload 4, 2) := dk_21 4 (dk_at dksX0_blame_2 13 rfl rfl)
theorem dX0_blame_63 : decode cX0_blame 63 = .ok (.iload_n 1, 1) := dk_27 (dk_at dksX0_blame_2 15 rfl rfl)
theorem dX0_blame_64 : decode cX0_blame 64 = .ok (.if_icmp .lt 6, 3) := dk_161 0 6 (dk_at dksX0_blame_2 16 rfl rfl)
theorem dX0_blame_67 : decode cX0_blame 67 = .ok (.goto 8, 3) := dk_167 0 8 (dk_at dksX0_blame_2 19 rfl rfl)
theorem dX0_blame_70 : decode cX0_blame 70 = .ok (.iload_n 3, 1) := dk_29 (dk_at dksX0_blame_2 22 rfl rfl)
theorem dX0_blame_71 : decode cX0_blame 71 = .ok (.istore_n 2, 1) := dk_61 (dk_at dksX0_blame_2 23 rfl rfl)
theorem dX0_blame_72 : decode cX0_blame 72 = .ok (.iload 4, 2) := dk_21 4 (dk_at dksX0_blame_3 0 rfl rfl)
theorem dX0_blame_74 : decode cX0_blame 74 = .ok (.istore_n 1, 1) := dk_60 (dk_at dksX0_blame_3 2 rfl rfl)
theorem dX0_blame_75 : decode cX0_blame 75 = .ok (.iinc 3 1, 3) := dk_132 3 1 (dk_at dksX0_blame_3 3 rfl rfl)
theorem dX0_blame_78 : decode cX0_blame 78 = .ok (.goto (-55), 3) := dk_167 255 201 (dk_at dksX0_blame_3 6 rfl rfl)
theorem dX0_blame_81 : decode cX0_blame 81 = .ok (.iload_n 2, 1) := dk_28 (dk_at dksX0_blame_3 9 rfl rfl)
theorem dX0_blame_82 : decode cX0_blame 82 = .ok (.ireturn, 1) := dk_172 (dk_at dksX0_blame_3 10 rfl rfl)
abbrev cX0_lambda_blame_17 : ByteArray := prog_1_method_148_code
def yX0_lambda_blame_17 : MethodName := ⟨RX0, "lambda$blame$17", "()I"⟩
def dkwX0_lambda_blame_17_0 : List UInt8 := [42, 4, 182, 1, 136, 172]
abbrev dktX0_lambda_blame_17_0 : List UInt8 := dkwX0_lambda_blame_17_0 ++ []
theorem dksX0_lambda_blame_17_0 : cX0_lambda_blame_17.data.toList.drop 0 = dktX0_lambda_blame_17_0 := by decide +kernel
theorem dX0_lambda_blame_17_0 : decode cX0_lambda_blame_17 0 = .ok (.aload_n 0, 1) := dk_42 (dk_at dksX0_lambda_blame_17_0 0 rfl rfl)
theorem dX0_lambda_blame_17_1 : decode cX0_lambda_blame_17 1 = .ok (.iconst 1, 1) := dk_4 (dk_at dksX0_lambda_blame_17_0 1 rfl rfl)
theorem dX0_lambda_blame_17_2 : decode cX0_lambda_blame_17 2 = .ok (.invokevirtual 392, 3) := dk_182 1 136 (dk_at dksX0_lambda_blame_17_0 2 rfl rfl)
theorem dX0_lambda_blame_17_5 : decode cX0_lambda_blame_17 5 = .ok (.ireturn, 1) := dk_172 (dk_at dksX0_lambda_blame_17_0 5 rfl rfl)
abbrev cX0_cure : ByteArray := prog_1_method_102_code
def yX0_cure : MethodName := ⟨RX0, "cure", "()I"⟩
def dkwX0_cure_4 : List UInt8 := [167, 255, 209, 42, 180, 0, 46, 180, 1, 45, 29, 21, 4, 79, 132, 3, 1, 167, 255, 167, 28, 172]
abbrev dktX0_cure_4 : List UInt8 := dkwX0_cure_4 ++ []
def dkwX0_cure_3 : List UInt8 := [21, 6, 27, 161, 0, 6, 167, 0, 14, 16, 10, 29, 104, 21, 5, 96, 61, 21, 6, 60, 132, 5, 1]
abbrev dktX0_cure_3 : List UInt8 := dkwX0_cure_3 ++ dktX0_cure_4
def dkwX0_cure_2 : List UInt8 := [21, 5, 7, 162, 0, 47, 42, 180, 0, 46, 180, 1, 45, 29, 21, 5, 79, 42, 4, 182, 1, 136, 54, 6]
abbrev dktX0_cure_2 : List UInt8 := dkwX0_cure_2 ++ dktX0_cure_3
def dkwX0_cure_1 : List UInt8 := [42, 180, 0, 46, 180, 0, 219, 162, 0, 84, 42, 180, 0, 46, 180, 1, 45, 29, 46, 54, 4, 3, 54, 5]
abbrev dktX0_cure_1 : List UInt8 := dkwX0_cure_1 ++ dktX0_cure_2
def dkwX0_cure_0 : List UInt8 := [42, 180, 0, 46, 182, 0, 200, 154, 0, 6, 16, 254, 172, 42, 4, 182, 1, 136, 60, 2, 61, 3, 62, 29]
abbrev dktX0_cure_0 : List UInt8 := dkwX0_cure_0 ++ dktX0_cure_1
theorem dksX0_cure_0 : cX0_cure.data.toList.drop 0 = dktX0_cure_0 := by decide +kernel
theorem dksX0_cure_1 : cX0_cure.data.toList.drop 24 = dktX0_cure_1 := dk_seg dksX0_cure_0 24 rfl rfl
theorem dksX0_cure_2 : cX0_cure.data.toList.drop 48 = dktX0_cure_2 := dk_seg dksX0_cure_1 24 rfl rfl
theorem dksX0_cure_3 : cX0_cure.data.toList.drop 72 = dktX0_cure_3 := dk_seg dksX0_cure_2 24 rfl rfl
theorem dksX0_cure_4 : cX0_cure.data.toList.drop 95 = dktX0_cure_4 := dk_seg dksX0_cure_3 23 rfl rfl
theorem dX0_cure_0 : decode cX0_cure 0 = .ok (.aload_n 0, 1) := dk_42 (dk_at dksX0_cure_0 0 rfl rfl)
theorem dX0_cure_1 : decode cX0_cure 1 = .ok (.getfield 46, 3) := dk_180 0 46 (dk_at dksX0_cure_0 1 rfl rfl)
theorem dX0_cure_4 : decode cX0_cure 4 = .ok (.invokevirtual 200, 3) := dk_182 0 200 (dk_at dksX0_cure_0 4 rfl rfl)
theorem dX0_cure_7 : decode cX0_cure 7 = .ok (.ifCond .ne 6, 3) := dk_154 0 6 (dk_at dksX0_cure_0 7 rfl rfl)
theorem dX0_cure_10 : decode cX0_cure 10 = .ok (.bipush (-2), 2) := dk_16 254 (dk_at dksX0_cure_0 10 rfl rfl)
theorem dX0_cure_12 : decode cX0_cure 12 = .ok (.ireturn, 1) := dk_172 (dk_at dksX0_cure_0 12 rfl rfl)
theorem dX0_cure_13 : decode cX0_cure 13 = .ok (.aload_n 0, 1) := dk_42 (dk_at dksX0_cure_0 13 rfl rfl)
theorem dX0_cure_14 : decode cX0_cure 14 = .ok (.iconst 1, 1) := dk_4 (dk_at dksX0_cure_0 14 rfl rfl)
theorem dX0_cure_15 : decode cX0_cure 15 = .ok (.invokevirtual 392, 3) := dk_182 1 136 (dk_at dksX0_cure_0 15 rfl rfl)
theorem dX0_cure_18 : decode cX0_cure 18 = .ok (.istore_n 1, 1) := dk_60 (dk_at dksX0_cure_0 18 rfl rfl)
theorem dX0_cure_19 : decode cX0_cure 19 = .ok (.iconst (-1), 1) := dk_2 (dk_at dksX0_cure_0 19 rfl rfl)
theorem dX0_cure_20 : decode cX0_cure 20 = .ok (.istore_n 2, 1) := dk_61 (dk_at dksX0_cure_0 20 rfl rfl)
theorem dX0_cure_21 : decode cX0_cure 21 = .ok (.iconst 0, 1) := dk_3 (dk_at dksX0_cure_0 21 rfl rfl)
theorem dX0_cure_22 : decode cX0_cure 22 = .ok (.istore_n 3, 1) := dk_62 (dk_at dksX0_cure_0 22 rfl rfl)
theorem dX0_cure_23 : decode cX0_cure 23 = .ok (.iload_n 3, 1) := dk_29 (dk_at dksX0_cure_0 23 rfl rfl)
theorem dX0_cure_24 : decode cX0_cure 24 = .ok (.aload_n 0, 1) := dk_42 (dk_at dksX0_cure_1 0 rfl rfl)
theorem dX0_cure_25 : decode cX0_cure 25 = .ok (.getfield 46, 3) := dk_180 0 46 (dk_at dksX0_cure_1 1 rfl rfl)
theorem dX0_cure_28 : decode cX0_cure 28 = .ok (.getfield 219, 3) := dk_180 0 219 (dk_at dksX0_cure_1 4 rfl rfl)
theorem dX0_cure_31 : decode cX0_cure 31 = .ok (.if_icmp .ge 84, 3) := dk_162 0 84 (dk_at dksX0_cure_1 7 rfl rfl)
theorem dX0_cure_34 : decode cX0_cure 34 = .ok (.aload_n 0, 1) := dk_42 (dk_at dksX0_cure_1 10 rfl rfl)
theorem dX0_cure_35 : decode cX0_cure 35 = .ok (.getfield 46, 3) := dk_180 0 46 (dk_at dksX0_cure_1 11 rfl rfl)
theorem dX0_cure_38 : decode cX0_cure 38 = .ok (.getfield 301, 3) := dk_180 1 45 (dk_at dksX0_cure_1 14 rfl rfl)
theorem dX0_cure_41 : decode cX0_cure 41 = .ok (.iload_n 3, 1) := dk_29 (dk_at dksX0_cure_1 17 rfl rfl)
theorem dX0_cure_42 : decode cX0_cure 42 = .ok (.iaload, 1) := dk_46 (dk_at dksX0_cure_1 18 rfl rfl)
theorem dX0_cure_43 : decode cX0_cure 43 = .ok (.istore 4, 2) := dk_54 4 (dk_at dksX0_cure_1 19 rfl rfl)
theorem dX0_cure_45 : decode cX0_cure 45 = .ok (.iconst 0, 1) := dk_3 (dk_at dksX0_cure_1 21 rfl rfl)
theorem dX0_cure_46 : decode cX0_cure 46 = .ok (.istore 5, 2) := dk_54 5 (dk_at dksX0_cure_1 22 rfl rfl)
theorem dX0_cure_48 : decode cX0_cure 48 = .ok (.iload 5, 2) := dk_21 5 (dk_at dksX0_cure_2 0 rfl rfl)
theorem dX0_cure_50 : decode cX0_cure 50 = .ok (.iconst 4, 1) := dk_7 (dk_at dksX0_cure_2 2 rfl rfl)
theorem dX0_cure_51 : decode cX0_cure 51 = .ok (.if_icmp .ge 47, 3) := dk_162 0 47 (dk_at dksX0_cure_2 3 rfl rfl)
theorem dX0_cure_54 : decode cX0_cure 54 = .ok (.aload_n 0, 1) := dk_42 (dk_at dksX0_cure_2 6 rfl rfl)
theorem dX0_cure_55 : decode cX0_cure 55 = .ok (.getfield 46, 3) := dk_180 0 46 (dk_at dksX0_cure_2 7 rfl rfl)
theorem dX0_cure_58 : decode cX0_cure 58 = .ok (.getfield 301, 3) := dk_180 1 45 (dk_at dksX0_cure_2 10 rfl rfl)
theorem dX0_cure_61 : decode cX0_cure 61 = .ok (.iload_n 3, 1) := dk_29 (dk_at dksX0_cure_2 13 rfl rfl)
theorem dX0_cure_62 : decode cX0_cure 62 = .ok (.iload 5, 2) := dk_21 5 (dk_at dksX0_cure_2 14 rfl rfl)
theorem dX0_cure_64 : decode cX0_cure 64 = .ok (.iastore, 1) := dk_79 (dk_at dksX0_cure_2 16 rfl rfl)
theorem dX0_cure_65 : decode cX0_cure 65 = .ok (.aload_n 0, 1) := dk_42 (dk_at dksX0_cure_2 17 rfl rfl)
theorem dX0_cure_66 : decode cX0_cure 66 = .ok (.iconst 1, 1) := dk_4 (dk_at dksX0_cure_2 18 rfl rfl)
theorem dX0_cure_67 : decode cX0_cure 67 = .ok (.invokevirtual 392, 3) := dk_182 1 136 (dk_at dksX0_cure_2 19 rfl rfl)
theorem dX0_cure_70 : decode cX0_cure 70 = .ok (.istore 6, 2) := dk_54 6 (dk_at dksX0_cure_2 22 rfl rfl)
theorem dX0_cure_72 : decode cX0_cure 72 = .ok (.iload 6, 2) := dk_21 6 (dk_at dksX0_cure_3 0 rfl rfl)
theorem dX0_cure_74 : decode cX0_cure 74 = .ok (.iload_n 1, 1) := dk_27 (dk_at dksX0_cure_3 2 rfl rfl)
theorem dX0_cure_75 : decode cX0_cure 75 = .ok (.if_icmp .lt 6, 3) := dk_161 0 6 (dk_at dksX0_cure_3 3 rfl rfl)
theorem dX0_cure_78 : decode cX0_cure 78 = .ok (.goto 14, 3) := dk_167 0 14 (dk_at dksX0_cure_3 6 rfl rfl)
theorem dX0_cure_81 : decode cX0_cure 81 = .ok (.bipush 10, 2) := dk_16 10 (dk_at dksX0_cure_3 9 rfl rfl)
theorem dX0_cure_83 : decode cX0_cure 83 = .ok (.iload_n 3, 1) := dk_29 (dk_at dksX0_cure_3 11 rfl rfl)
theorem dX0_cure_84 : decode cX0_cure 84 = .ok (.imul, 1) := dk_104 (dk_at dksX0_cure_3 12 rfl rfl)
theorem dX0_cure_85 : decode cX0_cure 85 = .ok (.iload 5, 2) := dk_21 5 (dk_at dksX0_cure_3 13 rfl rfl)
theorem dX0_cure_87 : decode cX0_cure 87 = .ok (.iadd, 1) := dk_96 (dk_at dksX0_cure_3 15 rfl rfl)
theorem dX0_cure_88 : decode cX0_cure 88 = .ok (.istore_n 2, 1) := dk_61 (dk_at dksX0_cure_3 16 rfl rfl)
theorem dX0_cure_89 : decode cX0_cure 89 = .ok (.iload 6, 2) := dk_21 6 (dk_at dksX0_cure_3 17 rfl rfl)
theorem dX0_cure_91 : decode cX0_cure 91 = .ok (.istore_n 1, 1) := dk_60 (dk_at dksX0_cure_3 19 rfl rfl)
theorem dX0_cure_92 : decode cX0_cure 92 = .ok (.iinc 5 1, 3) := dk_132 5 1 (dk_at dksX0_cure_3 20 rfl rfl)
theorem dX0_cure_95 : decode cX0_cure 95 = .ok (.goto (-47), 3) := dk_167 255 209 (dk_at dksX0_cure_4 0 rfl rfl)
theorem dX0_cure_98 : decode cX0_cure 98 = .ok (.aload_n 0, 1) := dk_42 (dk_at dksX0_cure_4 3 rfl rfl)
theorem dX0_cure_99 : decode cX0_cure 99 = .ok (.getfield 46, 3) := dk_180 0 46 (dk_at dksX0_cure_4 4 rfl rfl)
theorem dX0_cure_102 : decode cX0_cure 102 = .ok (.getfield 301, 3) := dk_180 1 45 (dk_at dksX0_cure_4 7 rfl rfl)
theorem dX0_cure_105 : decode cX0_cure 105 = .ok (.iload_n 3, 1) := dk_29 (dk_at dksX0_cure_4 10 rfl rfl)
theorem dX0_cure_106 : decode cX0_cure 106 = .ok (.iload 4, 2) := dk_21 4 (dk_at dksX0_cure_4 11 rfl rfl)
theorem dX0_cure_108 : decode cX0_cure 108 = .ok (.iastore, 1) := dk_79 (dk_at dksX0_cure_4 13 rfl rfl)
theorem dX0_cure_109 : decode cX0_cure 109 = .ok (.iinc 3 1, 3) := dk_132 3 1 (dk_at dksX0_cure_4 14 rfl rfl)
theorem dX0_cure_112 : decode cX0_cure 112 = .ok (.goto (-89), 3) := dk_167 255 167 (dk_at dksX0_cure_4 17 rfl rfl)
theorem dX0_cure_115 : decode cX0_cure 115 = .ok (.iload_n 2, 1) := dk_28 (dk_at dksX0_cure_4 20 rfl rfl)
theorem dX0_cure_116 : decode cX0_cure 116 = .ok (.ireturn, 1) := dk_172 (dk_at dksX0_cure_4 21 rfl rfl)
abbrev cX0_fits : ByteArray := prog_1_method_106_code
def yX0_fits : MethodName := ⟨RX0, "fits", "(I)I"⟩
def dkwX0_fits_1 : List UInt8 := [172]
abbrev dktX0_fits_1 : List UInt8 := dkwX0_fits_1 ++ []
def dkwX0_fits_0 : List UInt8 := [42, 27, 182, 1, 204, 61, 28, 153, 0, 7, 28, 167, 0, 13, 42, 42, 180, 0, 19, 27, 50, 182, 1, 207]
abbrev dktX0_fits_0 : List UInt8 := dkwX0_fits_0 ++ dktX0_fits_1
theorem dksX0_fits_0 : cX0_fits.data.toList.drop 0 = dktX0_fits_0 := by decide +kernel
theorem dksX0_fits_1 : cX0_fits.data.toList.drop 24 = dktX0_fits_1 := dk_seg dksX0_fits_0 24 rfl rfl
theorem dX0_fits_0 : decode cX0_fits 0 = .ok (.aload_n 0, 1) := dk_42 (dk_at dksX0_fits_0 0 rfl rfl)
theorem dX0_fits_1 : decode cX0_fits 1 = .ok (.iload_n 1, 1) := dk_27 (dk_at dksX0_fits_0 1 rfl rfl)
theorem dX0_fits_2 : decode cX0_fits 2 = .ok (.invokevirtual 460, 3) := dk_182 1 204 (dk_at dksX0_fits_0 2 rfl rfl)
theorem dX0_fits_5 : decode cX0_fits 5 = .ok (.istore_n 2, 1) := dk_61 (dk_at dksX0_fits_0 5 rfl rfl)
theorem dX0_fits_6 : decode cX0_fits 6 = .ok (.iload_n 2, 1) := dk_28 (dk_at dksX0_fits_0 6 rfl rfl)
theorem dX0_fits_7 : decode cX0_fits 7 = .ok (.ifCond .eq 7, 3) := dk_153 0 7 (dk_at dksX0_fits_0 7 rfl rfl)
theorem dX0_fits_10 : decode cX0_fits 10 = .ok (.iload_n 2, 1) := dk_28 (dk_at dksX0_fits_0 10 rfl rfl)
theorem dX0_fits_11 : decode cX0_fits 11 = .ok (.goto 13, 3) := dk_167 0 13 (dk_at dksX0_fits_0 11 rfl rfl)
theorem dX0_fits_14 : decode cX0_fits 14 = .ok (.aload_n 0, 1) := dk_42 (dk_at dksX0_fits_0 14 rfl rfl)
theorem dX0_fits_15 : decode cX0_fits 15 = .ok (.aload_n 0, 1) := dk_42 (dk_at dksX0_fits_0 15 rfl rfl)
theorem dX0_fits_16 : decode cX0_fits 16 = .ok (.getfield 19, 3) := dk_180 0 19 (dk_at dksX0_fits_0 16 rfl rfl)
theorem dX0_fits_19 : decode cX0_fits 19 = .ok (.iload_n 1, 1) := dk_27 (dk_at dksX0_fits_0 19 rfl rfl)
theorem dX0_fits_20 : decode cX0_fits 20 = .ok (.aaload, 1) := dk_50 (dk_at dksX0_fits_0 20 rfl rfl)
theorem dX0_fits_21 : decode cX0_fits 21 = .ok (.invokevirtual 463, 3) := dk_182 1 207 (dk_at dksX0_fits_0 21 rfl rfl)
theorem dX0_fits_24 : decode cX0_fits 24 = .ok (.ireturn, 1) := dk_172 (dk_at dksX0_fits_1 0 rfl rfl)
abbrev cX0_whyNot : ByteArray := prog_1_method_103_code
def yX0_whyNot : MethodName := ⟨RX0, "whyNot", "(I)I"⟩
def dkwX0_whyNot_3 : List UInt8 := [16, 254, 172, 132, 3, 1, 167, 255, 230, 3, 172]
abbrev dktX0_whyNot_3 : List UInt8 := dkwX0_whyNot_3 ++ []
def dkwX0_whyNot_2 : List UInt8 := [172, 3, 62, 29, 44, 182, 1, 195, 162, 0, 24, 42, 44, 29, 182, 1, 197, 182, 1, 51, 154, 0, 6]
abbrev dktX0_whyNot_2 : List UInt8 := dkwX0_whyNot_2 ++ dktX0_whyNot_3
def dkwX0_whyNot_1 : List UInt8 := [27, 50, 77, 44, 180, 1, 191, 199, 0, 6, 16, 250, 172, 44, 182, 1, 195, 6, 112, 153, 0, 6, 16, 254]
abbrev dktX0_whyNot_1 : List UInt8 := dkwX0_whyNot_1 ++ dktX0_whyNot_2
def dkwX0_whyNot_0 : List UInt8 := [27, 184, 0, 15, 153, 0, 13, 42, 180, 0, 46, 182, 0, 200, 154, 0, 6, 16, 254, 172, 42, 180, 0, 19]
abbrev dktX0_whyNot_0 : List UInt8 := dkwX0_whyNot_0 ++ dktX0_whyNot_1
theorem dksX0_whyNot_0 : cX0_whyNot.data.toList.drop 0 = dktX0_whyNot_0 := by decide +kernel
theorem dksX0_whyNot_1 : cX0_whyNot.data.toList.drop 24 = dktX0_whyNot_1 := dk_seg dksX0_whyNot_0 24 rfl rfl
theorem dksX0_whyNot_2 : cX0_whyNot.data.toList.drop 48 = dktX0_whyNot_2 := dk_seg dksX0_whyNot_1 24 rfl rfl
theorem dksX0_whyNot_3 : cX0_whyNot.data.toList.drop 71 = dktX0_whyNot_3 := dk_seg dksX0_whyNot_2 23 rfl rfl
theorem dX0_whyNot_0 : decode cX0_whyNot 0 = .ok (.iload_n 1, 1) := dk_27 (dk_at dksX0_whyNot_0 0 rfl rfl)
theorem dX0_whyNot_1 : decode cX0_whyNot 1 = .ok (.invokestatic 15, 3) := dk_184 0 15 (dk_at dksX0_whyNot_0 1 rfl rfl)
theorem dX0_whyNot_4 : decode cX0_whyNot 4 = .ok (.ifCond .eq 13, 3) := dk_153 0 13 (dk_at dksX0_whyNot_0 4 rfl rfl)
theorem dX0_whyNot_7 : decode cX0_whyNot 7 = .ok (.aload_n 0, 1) := dk_42 (dk_at dksX0_whyNot_0 7 rfl rfl)
theorem dX0_whyNot_8 : decode cX0_whyNot 8 = .ok (.getfield 46, 3) := dk_180 0 46 (dk_at dksX0_whyNot_0 8 rfl rfl)
theorem dX0_whyNot_11 : decode cX0_whyNot 11 = .ok (.invokevirtual 200, 3) := dk_182 0 200 (dk_at dksX0_whyNot_0 11 rfl rfl)
theorem dX0_whyNot_14 : decode cX0_whyNot 14 = .ok (.ifCond .ne 6, 3) := dk_154 0 6 (dk_at dksX0_whyNot_0 14 rfl rfl)
theorem dX0_whyNot_17 : decode cX0_whyNot 17 = .ok (.bipush (-2), 2) := dk_16 254 (dk_at dksX0_whyNot_0 17 rfl rfl)
theorem dX0_whyNot_19 : decode cX0_whyNot 19 = .ok (.ireturn, 1) := dk_172 (dk_at dksX0_whyNot_0 19 rfl rfl)
theorem dX0_whyNot_20 : decode cX0_whyNot 20 = .ok (.aload_n 0, 1) := dk_42 (dk_at dksX0_whyNot_0 20 rfl rfl)
theorem dX0_whyNot_21 : decode cX0_whyNot 21 = .ok (.getfield 19, 3) := dk_180 0 19 (dk_at dksX0_whyNot_0 21 rfl rfl)
theorem dX0_whyNot_24 : decode cX0_whyNot 24 = .ok (.iload_n 1, 1) := dk_27 (dk_at dksX0_whyNot_1 0 rfl rfl)
theorem dX0_whyNot_25 : decode cX0_whyNot 25 = .ok (.aaload, 1) := dk_50 (dk_at dksX0_whyNot_1 1 rfl rfl)
theorem dX0_whyNot_26 : decode cX0_whyNot 26 = .ok (.astore_n 2, 1) := dk_77 (dk_at dksX0_whyNot_1 2 rfl rfl)
theorem dX0_whyNot_27 : decode cX0_whyNot 27 = .ok (.aload_n 2, 1) := dk_44 (dk_at dksX0_whyNot_1 3 rfl rfl)
theorem dX0_whyNot_28 : decode cX0_whyNot 28 = .ok (.getfield 447, 3) := dk_180 1 191 (dk_at dksX0_whyNot_1 4 rfl rfl)
theorem dX0_whyNot_31 : decode cX0_whyNot 31 = .ok (.ifnonnull 6, 3) := dk_199 0 6 (dk_at dksX0_whyNot_1 7 rfl rfl)
theorem dX0_whyNot_34 : decode cX0_whyNot 34 = .ok (.bipush (-6), 2) := dk_16 250 (dk_at dksX0_whyNot_1 10 rfl rfl)
theorem dX0_whyNot_36 : decode cX0_whyNot 36 = .ok (.ireturn, 1) := dk_172 (dk_at dksX0_whyNot_1 12 rfl rfl)
theorem dX0_whyNot_37 : decode cX0_whyNot 37 = .ok (.aload_n 2, 1) := dk_44 (dk_at dksX0_whyNot_1 13 rfl rfl)
theorem dX0_whyNot_38 : decode cX0_whyNot 38 = .ok (.invokevirtual 451, 3) := dk_182 1 195 (dk_at dksX0_whyNot_1 14 rfl rfl)
theorem dX0_whyNot_41 : decode cX0_whyNot 41 = .ok (.iconst 3, 1) := dk_6 (dk_at dksX0_whyNot_1 17 rfl rfl)
theorem dX0_whyNot_42 : decode cX0_whyNot 42 = .ok (.irem, 1) := dk_112 (dk_at dksX0_whyNot_1 18 rfl rfl)
theorem dX0_whyNot_43 : decode cX0_whyNot 43 = .ok (.ifCond .eq 6, 3) := dk_153 0 6 (dk_at dksX0_whyNot_1 19 rfl rfl)
theorem dX0_whyNot_46 : decode cX0_whyNot 46 = .ok (.bipush (-2), 2) := dk_16 254 (dk_at dksX0_whyNot_1 22 rfl rfl)
theorem dX0_whyNot_48 : decode cX0_whyNot 48 = .ok (.ireturn, 1) := dk_172 (dk_at dksX0_whyNot_2 0 rfl rfl)
theorem dX0_whyNot_49 : decode cX0_whyNot 49 = .ok (.iconst 0, 1) := dk_3 (dk_at dksX0_whyNot_2 1 rfl rfl)
theorem dX0_whyNot_50 : decode cX0_whyNot 50 = .ok (.istore_n 3, 1) := dk_62 (dk_at dksX0_whyNot_2 2 rfl rfl)
theorem dX0_whyNot_51 : decode cX0_whyNot 51 = .ok (.iload_n 3, 1) := dk_29 (dk_at dksX0_whyNot_2 3 rfl rfl)
theorem dX0_whyNot_52 : decode cX0_whyNot 52 = .ok (.aload_n 2, 1) := dk_44 (dk_at dksX0_whyNot_2 4 rfl rfl)
theorem dX0_whyNot_53 : decode cX0_whyNot 53 = .ok (.invokevirtual 451, 3) := dk_182 1 195 (dk_at dksX0_whyNot_2 5 rfl rfl)
theorem dX0_whyNot_56 : decode cX0_whyNot 56 = .ok (.if_icmp .ge 24, 3) := dk_162 0 24 (dk_at dksX0_whyNot_2 8 rfl rfl)
theorem dX0_whyNot_59 : decode cX0_whyNot 59 = .ok (.aload_n 0, 1) := dk_42 (dk_at dksX0_whyNot_2 11 rfl rfl)
theorem dX0_whyNot_60 : decode cX0_whyNot 60 = .ok (.aload_n 2, 1) := dk_44 (dk_at dksX0_whyNot_2 12 rfl rfl)
theorem dX0_whyNot_61 : decode cX0_whyNot 61 = .ok (.iload_n 3, 1) := dk_29 (dk_at dksX0_whyNot_2 13 rfl rfl)
theorem dX0_whyNot_62 : decode cX0_whyNot 62 = .ok (.invokevirtual 453, 3) := dk_182 1 197 (dk_at dksX0_whyNot_2 14 rfl rfl)
theorem dX0_whyNot_65 : decode cX0_whyNot 65 = .ok (.invokevirtual 307, 3) := dk_182 1 51 (dk_at dksX0_whyNot_2 17 rfl rfl)
theorem dX0_whyNot_68 : decode cX0_whyNot 68 = .ok (.ifCond .ne 6, 3) := dk_154 0 6 (dk_at dksX0_whyNot_2 20 rfl rfl)
theorem dX0_whyNot_71 : decode cX0_whyNot 71 = .ok (.bipush (-2), 2) := dk_16 254 (dk_at dksX0_whyNot_3 0 rfl rfl)
theorem dX0_whyNot_73 : decode cX0_whyNot 73 = .ok (.ireturn, 1) := dk_172 (dk_at dksX0_whyNot_3 2 rfl rfl)
theorem dX0_whyNot_74 : decode cX0_whyNot 74 = .ok (.iinc 3 1, 3) := dk_132 3 1 (dk_at dksX0_whyNot_3 3 rfl rfl)
theorem dX0_whyNot_77 : decode cX0_whyNot 77 = .ok (.goto (-26), 3) := dk_167 255 230 (dk_at dksX0_whyNot_3 6 rfl rfl)
theorem dX0_whyNot_80 : decode cX0_whyNot 80 = .ok (.iconst 0, 1) := dk_3 (dk_at dksX0_whyNot_3 9 rfl rfl)
theorem dX0_whyNot_81 : decode cX0_whyNot 81 = .ok (.ireturn, 1) := dk_172 (dk_at dksX0_whyNot_3 10 rfl rfl)
abbrev cX0_basesOf : ByteArray := prog_1_method_105_code
def yX0_basesOf : MethodName := ⟨RX0, "basesOf", "(LMergeJudge$Slot;)I"⟩
def dkwX0_basesOf_1 : List UInt8 := [154, 0, 6, 167, 0, 11, 132, 2, 1, 42, 29, 181, 0, 159, 132, 3, 255, 167, 255, 229, 28, 172]
abbrev dktX0_basesOf_1 : List UInt8 := dkwX0_basesOf_1 ++ []
def dkwX0_basesOf_0 : List UInt8 := [3, 61, 42, 2, 181, 0, 159, 42, 182, 0, 237, 4, 100, 62, 29, 155, 0, 29, 42, 43, 29, 182, 1, 200]
abbrev dktX0_basesOf_0 : List UInt8 := dkwX0_basesOf_0 ++ dktX0_basesOf_1
theorem dksX0_basesOf_0 : cX0_basesOf.data.toList.drop 0 = dktX0_basesOf_0 := by decide +kernel
theorem dksX0_basesOf_1 : cX0_basesOf.data.toList.drop 24 = dktX0_basesOf_1 := dk_seg dksX0_basesOf_0 24 rfl rfl
theorem dX0_basesOf_0 : decode cX0_basesOf 0 = .ok (.iconst 0, 1) := dk_3 (dk_at dksX0_basesOf_0 0 rfl rfl)
theorem dX0_basesOf_1 : decode cX0_basesOf 1 = .ok (.istore_n 2, 1) := dk_61 (dk_at dksX0_basesOf_0 1 rfl rfl)
theorem dX0_basesOf_2 : decode cX0_basesOf 2 = .ok (.aload_n 0, 1) := dk_42 (dk_at dksX0_basesOf_0 2 rfl rfl)
theorem dX0_basesOf_3 : decode cX0_basesOf 3 = .ok (.iconst (-1), 1) := dk_2 (dk_at dksX0_basesOf_0 3 rfl rfl)
theorem dX0_basesOf_4 : decode cX0_basesOf 4 = .ok (.putfield 159, 3) := dk_181 0 159 (dk_at dksX0_basesOf_0 4 rfl rfl)
theorem dX0_basesOf_7 : decode cX0_basesOf 7 = .ok (.aload_n 0, 1) := dk_42 (dk_at dksX0_basesOf_0 7 rfl rfl)
theorem dX0_basesOf_8 : decode cX0_basesOf 8 = .ok (.invokevirtual 237, 3) := dk_182 0 237 (dk_at dksX0_basesOf_0 8 rfl rfl)
theorem dX0_basesOf_11 : decode cX0_basesOf 11 = .ok (.iconst 1, 1) := dk_4 (dk_at dksX0_basesOf_0 11 rfl rfl)
theorem dX0_basesOf_12 : decode cX0_basesOf 12 = .ok (.isub, 1) := dk_100 (dk_at dksX0_basesOf_0 12 rfl rfl)
theorem dX0_basesOf_13 : decode cX0_basesOf 13 = .ok (.istore_n 3, 1) := dk_62 (dk_at dksX0_basesOf_0 13 rfl rfl)
theorem dX0_basesOf_14 : decode cX0_basesOf 14 = .ok (.iload_n 3, 1) := dk_29 (dk_at dksX0_basesOf_0 14 rfl rfl)
theorem dX0_basesOf_15 : decode cX0_basesOf 15 = .ok (.ifCond .lt 29, 3) := dk_155 0 29 (dk_at dksX0_basesOf_0 15 rfl rfl)
theorem dX0_basesOf_18 : decode cX0_basesOf 18 = .ok (.aload_n 0, 1) := dk_42 (dk_at dksX0_basesOf_0 18 rfl rfl)
theorem dX0_basesOf_19 : decode cX0_basesOf 19 = .ok (.aload_n 1, 1) := dk_43 (dk_at dksX0_basesOf_0 19 rfl rfl)
theorem dX0_basesOf_20 : decode cX0_basesOf 20 = .ok (.iload_n 3, 1) := dk_29 (dk_at dksX0_basesOf_0 20 rfl rfl)
theorem dX0_basesOf_21 : decode cX0_basesOf 21 = .ok (.invokevirtual 456, 3) := dk_182 1 200 (dk_at dksX0_basesOf_0 21 rfl rfl)
theorem dX0_basesOf_24 : decode cX0_basesOf 24 = .ok (.ifCond .ne 6, 3) := dk_154 0 6 (dk_at dksX0_basesOf_1 0 rfl rfl)
theorem dX0_basesOf_27 : decode cX0_basesOf 27 = .ok (.goto 11, 3) := dk_167 0 11 (dk_at dksX0_basesOf_1 3 rfl rfl)
theorem dX0_basesOf_30 : decode cX0_basesOf 30 = .ok (.iinc 2 1, 3) := dk_132 2 1 (dk_at dksX0_basesOf_1 6 rfl rfl)
theorem dX0_basesOf_33 : decode cX0_basesOf 33 = .ok (.aload_n 0, 1) := dk_42 (dk_at dksX0_basesOf_1 9 rfl rfl)
theorem dX0_basesOf_34 : decode cX0_basesOf 34 = .ok (.iload_n 3, 1) := dk_29 (dk_at dksX0_basesOf_1 10 rfl rfl)
theorem dX0_basesOf_35 : decode cX0_basesOf 35 = .ok (.putfield 159, 3) := dk_181 0 159 (dk_at dksX0_basesOf_1 11 rfl rfl)
theorem dX0_basesOf_38 : decode cX0_basesOf 38 = .ok (.iinc 3 (-1), 3) := dk_132 3 255 (dk_at dksX0_basesOf_1 14 rfl rfl)
theorem dX0_basesOf_41 : decode cX0_basesOf 41 = .ok (.goto (-27), 3) := dk_167 255 229 (dk_at dksX0_basesOf_1 17 rfl rfl)
theorem dX0_basesOf_44 : decode cX0_basesOf 44 = .ok (.iload_n 2, 1) := dk_28 (dk_at dksX0_basesOf_1 20 rfl rfl)
theorem dX0_basesOf_45 : decode cX0_basesOf 45 = .ok (.ireturn, 1) := dk_172 (dk_at dksX0_basesOf_1 21 rfl rfl)
abbrev cX0_isSo : ByteArray := prog_1_method_104_code
def yX0_isSo : MethodName := ⟨RX0, "isSo", "(LMergeJudge$Slot;I)Z"⟩
def dkwX0_isSo_2 : List UInt8 := [167, 255, 212, 42, 180, 0, 143, 28, 51, 172]
abbrev dktX0_isSo_2 : List UInt8 := dkwX0_isSo_2 ++ []
def dkwX0_isSo_1 : List UInt8 := [182, 1, 197, 136, 182, 1, 67, 133, 43, 29, 5, 96, 182, 1, 197, 148, 153, 0, 5, 3, 172, 132, 3, 3]
abbrev dktX0_isSo_1 : List UInt8 := dkwX0_isSo_1 ++ dktX0_isSo_2
def dkwX0_isSo_0 : List UInt8 := [3, 62, 29, 43, 182, 1, 195, 162, 0, 42, 42, 28, 43, 29, 182, 1, 197, 136, 43, 29, 4, 96]
abbrev dktX0_isSo_0 : List UInt8 := dkwX0_isSo_0 ++ dktX0_isSo_1
theorem dksX0_isSo_0 : cX0_isSo.data.toList.drop 0 = dktX0_isSo_0 := by decide +kernel
theorem dksX0_isSo_1 : cX0_isSo.data.toList.drop 22 = dktX0_isSo_1 := dk_seg dksX0_isSo_0 22 rfl rfl
theorem dksX0_isSo_2 : cX0_isSo.data.toList.drop 46 = dktX0_isSo_2 := dk_seg dksX0_isSo_1 24 rfl rfl
theorem dX0_isSo_0 : decode cX0_isSo 0 = .ok (.iconst 0, 1) := dk_3 (dk_at dksX0_isSo_0 0 rfl rfl)
theorem dX0_isSo_1 : decode cX0_isSo 1 = .ok (.istore_n 3, 1) := dk_62 (dk_at dksX0_isSo_0 1 rfl rfl)
theorem dX0_isSo_2 : decode cX0_isSo 2 = .ok (.iload_n 3, 1) := dk_29 (dk_at dksX0_isSo_0 2 rfl rfl)
theorem dX0_isSo_3 : decode cX0_isSo 3 = .ok (.aload_n 1, 1) := dk_43 (dk_at dksX0_isSo_0 3 rfl rfl)
theorem dX0_isSo_4 : decode cX0_isSo 4 = .ok (.invokevirtual 451, 3) := dk_182 1 195 (dk_at dksX0_isSo_0 4 rfl rfl)
theorem dX0_isSo_7 : decode cX0_isSo 7 = .ok (.if_icmp .ge 42, 3) := dk_162 0 42 (dk_at dksX0_isSo_0 7 rfl rfl)
theorem dX0_isSo_10 : decode cX0_isSo 10 = .ok (.aload_n 0, 1) := dk_42 (dk_at dksX0_isSo_0 10 rfl rfl)
theorem dX0_isSo_11 : decode cX0_isSo 11 = .ok (.iload_n 2, 1) := dk_28 (dk_at dksX0_isSo_0 11 rfl rfl)
theorem dX0_isSo_12 : decode cX0_isSo 12 = .ok (.aload_n 1, 1) := dk_43 (dk_at dksX0_isSo_0 12 rfl rfl)
theorem dX0_isSo_13 : decode cX0_isSo 13 = .ok (.iload_n 3, 1) := dk_29 (dk_at dksX0_isSo_0 13 rfl rfl)
theorem dX0_isSo_14 : decode cX0_isSo 14 = .ok (.invokevirtual 453, 3) := dk_182 1 197 (dk_at dksX0_isSo_0 14 rfl rfl)
theorem dX0_isSo_17 : decode cX0_isSo 17 = .ok (.l2i, 1) := dk_136 (dk_at dksX0_isSo_0 17 rfl rfl)
theorem dX0_isSo_18 : decode cX0_isSo 18 = .ok (.aload_n 1, 1) := dk_43 (dk_at dksX0_isSo_0 18 rfl rfl)
theorem dX0_isSo_19 : decode cX0_isSo 19 = .ok (.iload_n 3, 1) := dk_29 (dk_at dksX0_isSo_0 19 rfl rfl)
theorem dX0_isSo_20 : decode cX0_isSo 20 = .ok (.iconst 1, 1) := dk_4 (dk_at dksX0_isSo_0 20 rfl rfl)
theorem dX0_isSo_21 : decode cX0_isSo 21 = .ok (.iadd, 1) := dk_96 (dk_at dksX0_isSo_0 21 rfl rfl)
theorem dX0_isSo_22 : decode cX0_isSo 22 = .ok (.invokevirtual 453, 3) := dk_182 1 197 (dk_at dksX0_isSo_1 0 rfl rfl)
theorem dX0_isSo_25 : decode cX0_isSo 25 = .ok (.l2i, 1) := dk_136 (dk_at dksX0_isSo_1 3 rfl rfl)
theorem dX0_isSo_26 : decode cX0_isSo 26 = .ok (.invokevirtual 323, 3) := dk_182 1 67 (dk_at dksX0_isSo_1 4 rfl rfl)
theorem dX0_isSo_29 : decode cX0_isSo 29 = .ok (.i2l, 1) := dk_133 (dk_at dksX0_isSo_1 7 rfl rfl)
theorem dX0_isSo_30 : decode cX0_isSo 30 = .ok (.aload_n 1, 1) := dk_43 (dk_at dksX0_isSo_1 8 rfl rfl)
theorem dX0_isSo_31 : decode cX0_isSo 31 = .ok (.iload_n 3, 1) := dk_29 (dk_at dksX0_isSo_1 9 rfl rfl)
theorem dX0_isSo_32 : decode cX0_isSo 32 = .ok (.iconst 2, 1) := dk_5 (dk_at dksX0_isSo_1 10 rfl rfl)
theorem dX0_isSo_33 : decode cX0_isSo 33 = .ok (.iadd, 1) := dk_96 (dk_at dksX0_isSo_1 11 rfl rfl)
theorem dX0_isSo_34 : decode cX0_isSo 34 = .ok (.invokevirtual 453, 3) := dk_182 1 197 (dk_at dksX0_isSo_1 12 rfl rfl)
theorem dX0_isSo_37 : decode cX0_isSo 37 = .ok (.lcmp, 1) := dk_148 (dk_at dksX0_isSo_1 15 rfl rfl)
theorem dX0_isSo_38 : decode cX0_isSo 38 = .ok (.ifCond .eq 5, 3) := dk_153 0 5 (dk_at dksX0_isSo_1 16 rfl rfl)
theorem dX0_isSo_41 : decode cX0_isSo 41 = .ok (.iconst 0, 1) := dk_3 (dk_at dksX0_isSo_1 19 rfl rfl)
theorem dX0_isSo_42 : decode cX0_isSo 42 = .ok (.ireturn, 1) := dk_172 (dk_at dksX0_isSo_1 20 rfl rfl)
theorem dX0_isSo_43 : decode cX0_isSo 43 = .ok (.iinc 3 3, 3) := dk_132 3 3 (dk_at dksX0_isSo_1 21 rfl rfl)
theorem dX0_isSo_46 : decode cX0_isSo 46 = .ok (.goto (-44), 3) := dk_167 255 212 (dk_at dksX0_isSo_2 0 rfl rfl)
theorem dX0_isSo_49 : decode cX0_isSo 49 = .ok (.aload_n 0, 1) := dk_42 (dk_at dksX0_isSo_2 3 rfl rfl)
theorem dX0_isSo_50 : decode cX0_isSo 50 = .ok (.getfield 143, 3) := dk_180 0 143 (dk_at dksX0_isSo_2 4 rfl rfl)
theorem dX0_isSo_53 : decode cX0_isSo 53 = .ok (.iload_n 2, 1) := dk_28 (dk_at dksX0_isSo_2 7 rfl rfl)
theorem dX0_isSo_54 : decode cX0_isSo 54 = .ok (.baload, 1) := dk_51 (dk_at dksX0_isSo_2 8 rfl rfl)
theorem dX0_isSo_55 : decode cX0_isSo 55 = .ok (.ireturn, 1) := dk_172 (dk_at dksX0_isSo_2 9 rfl rfl)
abbrev cX0_which : ByteArray := prog_1_method_107_code
def yX0_which : MethodName := ⟨RX0, "which", "(I)I"⟩
def dkwX0_which_1 : List UInt8 := [180, 0, 159, 172]
abbrev dktX0_which_1 : List UInt8 := dkwX0_which_1 ++ []
def dkwX0_which_0 : List UInt8 := [42, 27, 182, 1, 204, 61, 28, 153, 0, 5, 28, 172, 42, 42, 180, 0, 19, 27, 50, 182, 1, 207, 87, 42]
abbrev dktX0_which_0 : List UInt8 := dkwX0_which_0 ++ dktX0_which_1
theorem dksX0_which_0 : cX0_which.data.toList.drop 0 = dktX0_which_0 := by decide +kernel
theorem dksX0_which_1 : cX0_which.data.toList.drop 24 = dktX0_which_1 := dk_seg dksX0_which_0 24 rfl rfl
theorem dX0_which_0 : decode cX0_which 0 = .ok (.aload_n 0, 1) := dk_42 (dk_at dksX0_which_0 0 rfl rfl)
theorem dX0_which_1 : decode cX0_which 1 = .ok (.iload_n 1, 1) := dk_27 (dk_at dksX0_which_0 1 rfl rfl)
theorem dX0_which_2 : decode cX0_which 2 = .ok (.invokevirtual 460, 3) := dk_182 1 204 (dk_at dksX0_which_0 2 rfl rfl)
theorem dX0_which_5 : decode cX0_which 5 = .ok (.istore_n 2, 1) := dk_61 (dk_at dksX0_which_0 5 rfl rfl)
theorem dX0_which_6 : decode cX0_which 6 = .ok (.iload_n 2, 1) := dk_28 (dk_at dksX0_which_0 6 rfl rfl)
theorem dX0_which_7 : decode cX0_which 7 = .ok (.ifCond .eq 5, 3) := dk_153 0 5 (dk_at dksX0_which_0 7 rfl rfl)
theorem dX0_which_10 : decode cX0_which 10 = .ok (.iload_n 2, 1) := dk_28 (dk_at dksX0_which_0 10 rfl rfl)
theorem dX0_which_11 : decode cX0_which 11 = .ok (.ireturn, 1) := dk_172 (dk_at dksX0_which_0 11 rfl rfl)
theorem dX0_which_12 : decode cX0_which 12 = .ok (.aload_n 0, 1) := dk_42 (dk_at dksX0_which_0 12 rfl rfl)
theorem dX0_which_13 : decode cX0_which 13 = .ok (.aload_n 0, 1) := dk_42 (dk_at dksX0_which_0 13 rfl rfl)
theorem dX0_which_14 : decode cX0_which 14 = .ok (.getfield 19, 3) := dk_180 0 19 (dk_at dksX0_which_0 14 rfl rfl)
theorem dX0_which_17 : decode cX0_which 17 = .ok (.iload_n 1, 1) := dk_27 (dk_at dksX0_which_0 17 rfl rfl)
theorem dX0_which_18 : decode cX0_which 18 = .ok (.aaload, 1) := dk_50 (dk_at dksX0_which_0 18 rfl rfl)
theorem dX0_which_19 : decode cX0_which 19 = .ok (.invokevirtual 463, 3) := dk_182 1 207 (dk_at dksX0_which_0 19 rfl rfl)
theorem dX0_which_22 : decode cX0_which 22 = .ok (.pop, 1) := dk_87 (dk_at dksX0_which_0 22 rfl rfl)
theorem dX0_which_23 : decode cX0_which 23 = .ok (.aload_n 0, 1) := dk_42 (dk_at dksX0_which_0 23 rfl rfl)
theorem dX0_which_24 : decode cX0_which 24 = .ok (.getfield 159, 3) := dk_180 0 159 (dk_at dksX0_which_1 0 rfl rfl)
theorem dX0_which_27 : decode cX0_which 27 = .ok (.ireturn, 1) := dk_172 (dk_at dksX0_which_1 3 rfl rfl)
abbrev cX0_laws : ByteArray := prog_1_method_109_code
def yX0_laws : MethodName := ⟨RX0, "laws", "(I)I"⟩
def dkwX0_laws_2 : List UInt8 := [128, 62, 132, 4, 1, 167, 255, 220, 29, 172]
abbrev dktX0_laws_2 : List UInt8 := dkwX0_laws_2 ++ []
def dkwX0_laws_1 : List UInt8 := [42, 21, 4, 42, 27, 186, 1, 211, 0, 0, 182, 1, 214, 158, 0, 10, 4, 21, 4, 120, 167, 0, 4, 3]
abbrev dktX0_laws_1 : List UInt8 := dkwX0_laws_1 ++ dktX0_laws_2
def dkwX0_laws_0 : List UInt8 := [42, 27, 182, 1, 204, 61, 28, 153, 0, 5, 28, 172, 3, 62, 3, 54, 4, 21, 4, 7, 162, 0, 36, 29]
abbrev dktX0_laws_0 : List UInt8 := dkwX0_laws_0 ++ dktX0_laws_1
theorem dksX0_laws_0 : cX0_laws.data.toList.drop 0 = dktX0_laws_0 := by decide +kernel
theorem dksX0_laws_1 : cX0_laws.data.toList.drop 24 = dktX0_laws_1 := dk_seg dksX0_laws_0 24 rfl rfl
theorem dksX0_laws_2 : cX0_laws.data.toList.drop 48 = dktX0_laws_2 := dk_seg dksX0_laws_1 24 rfl rfl
theorem dX0_laws_0 : decode cX0_laws 0 = .ok (.aload_n 0, 1) := dk_42 (dk_at dksX0_laws_0 0 rfl rfl)
theorem dX0_laws_1 : decode cX0_laws 1 = .ok (.iload_n 1, 1) := dk_27 (dk_at dksX0_laws_0 1 rfl rfl)
theorem dX0_laws_2 : decode cX0_laws 2 = .ok (.invokevirtual 460, 3) := dk_182 1 204 (dk_at dksX0_laws_0 2 rfl rfl)
theorem dX0_laws_5 : decode cX0_laws 5 = .ok (.istore_n 2, 1) := dk_61 (dk_at dksX0_laws_0 5 rfl rfl)
theorem dX0_laws_6 : decode cX0_laws 6 = .ok (.iload_n 2, 1) := dk_28 (dk_at dksX0_laws_0 6 rfl rfl)
theorem dX0_laws_7 : decode cX0_laws 7 = .ok (.ifCond .eq 5, 3) := dk_153 0 5 (dk_at dksX0_laws_0 7 rfl rfl)
theorem dX0_laws_10 : decode cX0_laws 10 = .ok (.iload_n 2, 1) := dk_28 (dk_at dksX0_laws_0 10 rfl rfl)
theorem dX0_laws_11 : decode cX0_laws 11 = .ok (.ireturn, 1) := dk_172 (dk_at dksX0_laws_0 11 rfl rfl)
theorem dX0_laws_12 : decode cX0_laws 12 = .ok (.iconst 0, 1) := dk_3 (dk_at dksX0_laws_0 12 rfl rfl)
theorem dX0_laws_13 : decode cX0_laws 13 = .ok (.istore_n 3, 1) := dk_62 (dk_at dksX0_laws_0 13 rfl rfl)
theorem dX0_laws_14 : decode cX0_laws 14 = .ok (.iconst 0, 1) := dk_3 (dk_at dksX0_laws_0 14 rfl rfl)
theorem dX0_laws_15 : decode cX0_laws 15 = .ok (.istore 4, 2) := dk_54 4 (dk_at dksX0_laws_0 15 rfl rfl)
theorem dX0_laws_17 : decode cX0_laws 17 = .ok (.iload 4, 2) := dk_21 4 (dk_at dksX0_laws_0 17 rfl rfl)
theorem dX0_laws_19 : decode cX0_laws 19 = .ok (.iconst 4, 1) := dk_7 (dk_at dksX0_laws_0 19 rfl rfl)
theorem dX0_laws_20 : decode cX0_laws 20 = .ok (.if_icmp .ge 36, 3) := dk_162 0 36 (dk_at dksX0_laws_0 20 rfl rfl)
theorem dX0_laws_23 : decode cX0_laws 23 = .ok (.iload_n 3, 1) := dk_29 (dk_at dksX0_laws_0 23 rfl rfl)
theorem dX0_laws_24 : decode cX0_laws 24 = .ok (.aload_n 0, 1) := dk_42 (dk_at dksX0_laws_1 0 rfl rfl)
theorem dX0_laws_25 : decode cX0_laws 25 = .ok (.iload 4, 2) := dk_21 4 (dk_at dksX0_laws_1 1 rfl rfl)
theorem dX0_laws_27 : decode cX0_laws 27 = .ok (.aload_n 0, 1) := dk_42 (dk_at dksX0_laws_1 3 rfl rfl)
theorem dX0_laws_28 : decode cX0_laws 28 = .ok (.iload_n 1, 1) := dk_27 (dk_at dksX0_laws_1 4 rfl rfl)
theorem dX0_laws_29 : decode cX0_laws 29 = .ok (.invokedynamic 467, 5) := by decide +kernel
theorem dX0_laws_34 : decode cX0_laws 34 = .ok (.invokevirtual 470, 3) := dk_182 1 214 (dk_at dksX0_laws_1 10 rfl rfl)
theorem dX0_laws_37 : decode cX0_laws 37 = .ok (.ifCond .le 10, 3) := dk_158 0 10 (dk_at dksX0_laws_1 13 rfl rfl)
theorem dX0_laws_40 : decode cX0_laws 40 = .ok (.iconst 1, 1) := dk_4 (dk_at dksX0_laws_1 16 rfl rfl)
theorem dX0_laws_41 : decode cX0_laws 41 = .ok (.iload 4, 2) := dk_21 4 (dk_at dksX0_laws_1 17 rfl rfl)
theorem dX0_laws_43 : decode cX0_laws 43 = .ok (.ishl, 1) := dk_120 (dk_at dksX0_laws_1 19 rfl rfl)
theorem dX0_laws_44 : decode cX0_laws 44 = .ok (.goto 4, 3) := dk_167 0 4 (dk_at dksX0_laws_1 20 rfl rfl)
theorem dX0_laws_47 : decode cX0_laws 47 = .ok (.iconst 0, 1) := dk_3 (dk_at dksX0_laws_1 23 rfl rfl)
theorem dX0_laws_48 : decode cX0_laws 48 = .ok (.ior, 1) := dk_128 (dk_at dksX0_laws_2 0 rfl rfl)
theorem dX0_laws_49 : decode cX0_laws 49 = .ok (.istore_n 3, 1) := dk_62 (dk_at dksX0_laws_2 1 rfl rfl)
theorem dX0_laws_50 : decode cX0_laws 50 = .ok (.iinc 4 1, 3) := dk_132 4 1 (dk_at dksX0_laws_2 2 rfl rfl)
theorem dX0_laws_53 : decode cX0_laws 53 = .ok (.goto (-36), 3) := dk_167 255 220 (dk_at dksX0_laws_2 5 rfl rfl)
theorem dX0_laws_56 : decode cX0_laws 56 = .ok (.iload_n 3, 1) := dk_29 (dk_at dksX0_laws_2 8 rfl rfl)
theorem dX0_laws_57 : decode cX0_laws 57 = .ok (.ireturn, 1) := dk_172 (dk_at dksX0_laws_2 9 rfl rfl)
abbrev cX0_lambda_laws_18 : ByteArray := prog_1_method_147_code
def yX0_lambda_laws_18 : MethodName := ⟨RX0, "lambda$laws$18", "(I)I"⟩
def dkwX0_lambda_laws_18_0 : List UInt8 := [42, 42, 180, 0, 19, 27, 50, 182, 1, 207, 172]
abbrev dktX0_lambda_laws_18_0 : List UInt8 := dkwX0_lambda_laws_18_0 ++ []
theorem dksX0_lambda_laws_18_0 : cX0_lambda_laws_18.data.toList.drop 0 = dktX0_lambda_laws_18_0 := by decide +kernel
theorem dX0_lambda_laws_18_0 : decode cX0_lambda_laws_18 0 = .ok (.aload_n 0, 1) := dk_42 (dk_at dksX0_lambda_laws_18_0 0 rfl rfl)
theorem dX0_lambda_laws_18_1 : decode cX0_lambda_laws_18 1 = .ok (.aload_n 0, 1) := dk_42 (dk_at dksX0_lambda_laws_18_0 1 rfl rfl)
theorem dX0_lambda_laws_18_2 : decode cX0_lambda_laws_18 2 = .ok (.getfield 19, 3) := dk_180 0 19 (dk_at dksX0_lambda_laws_18_0 2 rfl rfl)
theorem dX0_lambda_laws_18_5 : decode cX0_lambda_laws_18 5 = .ok (.iload_n 1, 1) := dk_27 (dk_at dksX0_lambda_laws_18_0 5 rfl rfl)
theorem dX0_lambda_laws_18_6 : decode cX0_lambda_laws_18 6 = .ok (.aaload, 1) := dk_50 (dk_at dksX0_lambda_laws_18_0 6 rfl rfl)
theorem dX0_lambda_laws_18_7 : decode cX0_lambda_laws_18 7 = .ok (.invokevirtual 463, 3) := dk_182 1 207 (dk_at dksX0_lambda_laws_18_0 7 rfl rfl)
theorem dX0_lambda_laws_18_10 : decode cX0_lambda_laws_18 10 = .ok (.ireturn, 1) := dk_172 (dk_at dksX0_lambda_laws_18_0 10 rfl rfl)
abbrev cX0_byLaw : ByteArray := prog_1_method_108_code
def yX0_byLaw : MethodName := ⟨RX0, "byLaw", "(ILMergeJudge$Answer;)I"⟩
def dkwX0_byLaw_1 : List UInt8 := [180, 1, 8, 182, 0, 120, 181, 0, 56, 29, 172]
abbrev dktX0_byLaw_1 : List UInt8 := dkwX0_byLaw_1 ++ []
def dkwX0_byLaw_0 : List UInt8 := [42, 42, 27, 182, 0, 120, 181, 0, 56, 44, 185, 1, 172, 1, 0, 62, 42, 42, 42, 180, 0, 46]
abbrev dktX0_byLaw_0 : List UInt8 := dkwX0_byLaw_0 ++ dktX0_byLaw_1
theorem dksX0_byLaw_0 : cX0_byLaw.data.toList.drop 0 = dktX0_byLaw_0 := by decide +kernel
theorem dksX0_byLaw_1 : cX0_byLaw.data.toList.drop 22 = dktX0_byLaw_1 := dk_seg dksX0_byLaw_0 22 rfl rfl
theorem dX0_byLaw_0 : decode cX0_byLaw 0 = .ok (.aload_n 0, 1) := dk_42 (dk_at dksX0_byLaw_0 0 rfl rfl)
theorem dX0_byLaw_1 : decode cX0_byLaw 1 = .ok (.aload_n 0, 1) := dk_42 (dk_at dksX0_byLaw_0 1 rfl rfl)
theorem dX0_byLaw_2 : decode cX0_byLaw 2 = .ok (.iload_n 1, 1) := dk_27 (dk_at dksX0_byLaw_0 2 rfl rfl)
theorem dX0_byLaw_3 : decode cX0_byLaw 3 = .ok (.invokevirtual 120, 3) := dk_182 0 120 (dk_at dksX0_byLaw_0 3 rfl rfl)
theorem dX0_byLaw_6 : decode cX0_byLaw 6 = .ok (.putfield 56, 3) := dk_181 0 56 (dk_at dksX0_byLaw_0 6 rfl rfl)
theorem dX0_byLaw_9 : decode cX0_byLaw 9 = .ok (.aload_n 2, 1) := dk_44 (dk_at dksX0_byLaw_0 9 rfl rfl)
theorem dX0_byLaw_10 : decode cX0_byLaw 10 = .ok (.invokeinterface 428 1, 5) := by decide +kernel
theorem dX0_byLaw_15 : decode cX0_byLaw 15 = .ok (.istore_n 3, 1) := dk_62 (dk_at dksX0_byLaw_0 15 rfl rfl)
theorem dX0_byLaw_16 : decode cX0_byLaw 16 = .ok (.aload_n 0, 1) := dk_42 (dk_at dksX0_byLaw_0 16 rfl rfl)
theorem dX0_byLaw_17 : decode cX0_byLaw 17 = .ok (.aload_n 0, 1) := dk_42 (dk_at dksX0_byLaw_0 17 rfl rfl)
theorem dX0_byLaw_18 : decode cX0_byLaw 18 = .ok (.aload_n 0, 1) := dk_42 (dk_at dksX0_byLaw_0 18 rfl rfl)
theorem dX0_byLaw_19 : decode cX0_byLaw 19 = .ok (.getfield 46, 3) := dk_180 0 46 (dk_at dksX0_byLaw_0 19 rfl rfl)
theorem dX0_byLaw_22 : decode cX0_byLaw 22 = .ok (.getfield 264, 3) := dk_180 1 8 (dk_at dksX0_byLaw_1 0 rfl rfl)
theorem dX0_byLaw_25 : decode cX0_byLaw 25 = .ok (.invokevirtual 120, 3) := dk_182 0 120 (dk_at dksX0_byLaw_1 3 rfl rfl)
theorem dX0_byLaw_28 : decode cX0_byLaw 28 = .ok (.putfield 56, 3) := dk_181 0 56 (dk_at dksX0_byLaw_1 6 rfl rfl)
theorem dX0_byLaw_31 : decode cX0_byLaw 31 = .ok (.iload_n 3, 1) := dk_29 (dk_at dksX0_byLaw_1 9 rfl rfl)
theorem dX0_byLaw_32 : decode cX0_byLaw 32 = .ok (.ireturn, 1) := dk_172 (dk_at dksX0_byLaw_1 10 rfl rfl)
abbrev cX0_by : ByteArray := prog_1_method_110_code
def yX0_by : MethodName := ⟨RX0, "by", "(I)I"⟩
def dkwX0_by_1 : List UInt8 := [186, 1, 220, 0, 0, 182, 1, 214, 167, 0, 5, 16, 254, 172]
abbrev dktX0_by_1 : List UInt8 := dkwX0_by_1 ++ []
def dkwX0_by_0 : List UInt8 := [42, 180, 0, 46, 182, 0, 200, 153, 0, 24, 27, 184, 1, 217, 153, 0, 17, 42, 27, 42]
abbrev dktX0_by_0 : List UInt8 := dkwX0_by_0 ++ dktX0_by_1
theorem dksX0_by_0 : cX0_by.data.toList.drop 0 = dktX0_by_0 := by decide +kernel
theorem dksX0_by_1 : cX0_by.data.toList.drop 20 = dktX0_by_1 := dk_seg dksX0_by_0 20 rfl rfl
theorem dX0_by_0 : decode cX0_by 0 = .ok (.aload_n 0, 1) := dk_42 (dk_at dksX0_by_0 0 rfl rfl)
theorem dX0_by_1 : decode cX0_by 1 = .ok (.getfield 46, 3) := dk_180 0 46 (dk_at dksX0_by_0 1 rfl rfl)
theorem dX0_by_4 : decode cX0_by 4 = .ok (.invokevirtual 200, 3) := dk_182 0 200 (dk_at dksX0_by_0 4 rfl rfl)
theorem dX0_by_7 : decode cX0_by 7 = .ok (.ifCond .eq 24, 3) := dk_153 0 24 (dk_at dksX0_by_0 7 rfl rfl)
theorem dX0_by_10 : decode cX0_by 10 = .ok (.iload_n 1, 1) := dk_27 (dk_at dksX0_by_0 10 rfl rfl)
theorem dX0_by_11 : decode cX0_by 11 = .ok (.invokestatic 473, 3) := dk_184 1 217 (dk_at dksX0_by_0 11 rfl rfl)
theorem dX0_by_14 : decode cX0_by 14 = .ok (.ifCond .eq 17, 3) := dk_153 0 17 (dk_at dksX0_by_0 14 rfl rfl)
theorem dX0_by_17 : decode cX0_by 17 = .ok (.aload_n 0, 1) := dk_42 (dk_at dksX0_by_0 17 rfl rfl)
theorem dX0_by_18 : decode cX0_by 18 = .ok (.iload_n 1, 1) := dk_27 (dk_at dksX0_by_0 18 rfl rfl)
theorem dX0_by_19 : decode cX0_by 19 = .ok (.aload_n 0, 1) := dk_42 (dk_at dksX0_by_0 19 rfl rfl)
theorem dX0_by_20 : decode cX0_by 20 = .ok (.invokedynamic 476, 5) := by decide +kernel
theorem dX0_by_25 : decode cX0_by 25 = .ok (.invokevirtual 470, 3) := dk_182 1 214 (dk_at dksX0_by_1 5 rfl rfl)
theorem dX0_by_28 : decode cX0_by 28 = .ok (.goto 5, 3) := dk_167 0 5 (dk_at dksX0_by_1 8 rfl rfl)
theorem dX0_by_31 : decode cX0_by 31 = .ok (.bipush (-2), 2) := dk_16 254 (dk_at dksX0_by_1 11 rfl rfl)
theorem dX0_by_33 : decode cX0_by 33 = .ok (.ireturn, 1) := dk_172 (dk_at dksX0_by_1 13 rfl rfl)
abbrev cX0_isLaw : ByteArray := prog_1_method_26_code
def yX0_isLaw : MethodName := ⟨RX0, "isLaw", "(I)Z"⟩
def dkwX0_isLaw_0 : List UInt8 := [26, 133, 9, 20, 0, 9, 184, 0, 11, 172]
abbrev dktX0_isLaw_0 : List UInt8 := dkwX0_isLaw_0 ++ []
theorem dksX0_isLaw_0 : cX0_isLaw.data.toList.drop 0 = dktX0_isLaw_0 := by decide +kernel
theorem dX0_isLaw_0 : decode cX0_isLaw 0 = .ok (.iload_n 0, 1) := dk_26 (dk_at dksX0_isLaw_0 0 rfl rfl)
theorem dX0_isLaw_1 : decode cX0_isLaw 1 = .ok (.i2l, 1) := dk_133 (dk_at dksX0_isLaw_0 1 rfl rfl)
theorem dX0_isLaw_2 : decode cX0_isLaw 2 = .ok (.lconst 0, 1) := dk_9 (dk_at dksX0_isLaw_0 2 rfl rfl)
theorem dX0_isLaw_3 : decode cX0_isLaw 3 = .ok (.ldc2_w 9, 3) := dk_20 0 9 (dk_at dksX0_isLaw_0 3 rfl rfl)
theorem dX0_isLaw_6 : decode cX0_isLaw 6 = .ok (.invokestatic 11, 3) := dk_184 0 11 (dk_at dksX0_isLaw_0 6 rfl rfl)
theorem dX0_isLaw_9 : decode cX0_isLaw 9 = .ok (.ireturn, 1) := dk_172 (dk_at dksX0_isLaw_0 9 rfl rfl)
abbrev cX0_lambda_by_19 : ByteArray := prog_1_method_146_code
def yX0_lambda_by_19 : MethodName := ⟨RX0, "lambda$by$19", "()I"⟩
def dkwX0_lambda_by_19_0 : List UInt8 := [42, 4, 182, 1, 136, 172]
abbrev dktX0_lambda_by_19_0 : List UInt8 := dkwX0_lambda_by_19_0 ++ []
theorem dksX0_lambda_by_19_0 : cX0_lambda_by_19.data.toList.drop 0 = dktX0_lambda_by_19_0 := by decide +kernel
theorem dX0_lambda_by_19_0 : decode cX0_lambda_by_19 0 = .ok (.aload_n 0, 1) := dk_42 (dk_at dksX0_lambda_by_19_0 0 rfl rfl)
theorem dX0_lambda_by_19_1 : decode cX0_lambda_by_19 1 = .ok (.iconst 1, 1) := dk_4 (dk_at dksX0_lambda_by_19_0 1 rfl rfl)
theorem dX0_lambda_by_19_2 : decode cX0_lambda_by_19 2 = .ok (.invokevirtual 392, 3) := dk_182 1 136 (dk_at dksX0_lambda_by_19_0 2 rfl rfl)
theorem dX0_lambda_by_19_5 : decode cX0_lambda_by_19 5 = .ok (.ireturn, 1) := dk_172 (dk_at dksX0_lambda_by_19_0 5 rfl rfl)
abbrev cX0_law : ByteArray := prog_1_method_111_code
def yX0_law : MethodName := ⟨RX0, "law", "()I"⟩
def dkwX0_law_1 : List UInt8 := [182, 1, 221, 42, 27, 182, 1, 221, 162, 0, 5, 28, 60, 132, 2, 1, 167, 255, 233, 27, 172]
abbrev dktX0_law_1 : List UInt8 := dkwX0_law_1 ++ []
def dkwX0_law_0 : List UInt8 := [42, 180, 0, 46, 182, 0, 200, 154, 0, 6, 16, 254, 172, 3, 60, 4, 61, 28, 7, 162, 0, 24, 42, 28]
abbrev dktX0_law_0 : List UInt8 := dkwX0_law_0 ++ dktX0_law_1
theorem dksX0_law_0 : cX0_law.data.toList.drop 0 = dktX0_law_0 := by decide +kernel
theorem dksX0_law_1 : cX0_law.data.toList.drop 24 = dktX0_law_1 := dk_seg dksX0_law_0 24 rfl rfl
theorem dX0_law_0 : decode cX0_law 0 = .ok (.aload_n 0, 1) := dk_42 (dk_at dksX0_law_0 0 rfl rfl)
theorem dX0_law_1 : decode cX0_law 1 = .ok (.getfield 46, 3) := dk_180 0 46 (dk_at dksX0_law_0 1 rfl rfl)
theorem dX0_law_4 : decode cX0_law 4 = .ok (.invokevirtual 200, 3) := dk_182 0 200 (dk_at dksX0_law_0 4 rfl rfl)
theorem dX0_law_7 : decode cX0_law 7 = .ok (.ifCond .ne 6, 3) := dk_154 0 6 (dk_at dksX0_law_0 7 rfl rfl)
theorem dX0_law_10 : decode cX0_law 10 = .ok (.bipush (-2), 2) := dk_16 254 (dk_at dksX0_law_0 10 rfl rfl)
theorem dX0_law_12 : decode cX0_law 12 = .ok (.ireturn, 1) := dk_172 (dk_at dksX0_law_0 12 rfl rfl)
theorem dX0_law_13 : decode cX0_law 13 = .ok (.iconst 0, 1) := dk_3 (dk_at dksX0_law_0 13 rfl rfl)
theorem dX0_law_14 : decode cX0_law 14 = .ok (.istore_n 1, 1) := dk_60 (dk_at dksX0_law_0 14 rfl rfl)
theorem dX0_law_15 : decode cX0_law 15 = .ok (.iconst 1, 1) := dk_4 (dk_at dksX0_law_0 15 rfl rfl)
theorem dX0_law_16 : decode cX0_law 16 = .ok (.istore_n 2, 1) := dk_61 (dk_at dksX0_law_0 16 rfl rfl)
theorem dX0_law_17 : decode cX0_law 17 = .ok (.iload_n 2, 1) := dk_28 (dk_at dksX0_law_0 17 rfl rfl)
theorem dX0_law_18 : decode cX0_law 18 = .ok (.iconst 4, 1) := dk_7 (dk_at dksX0_law_0 18 rfl rfl)
theorem dX0_law_19 : decode cX0_law 19 = .ok (.if_icmp .ge 24, 3) := dk_162 0 24 (dk_at dksX0_law_0 19 rfl rfl)
theorem dX0_law_22 : decode cX0_law 22 = .ok (.aload_n 0, 1) := dk_42 (dk_at dksX0_law_0 22 rfl rfl)
theorem dX0_law_23 : decode cX0_law 23 = .ok (.iload_n 2, 1) := dk_28 (dk_at dksX0_law_0 23 rfl rfl)
theorem dX0_law_24 : decode cX0_law 24 = .ok (.invokevirtual 477, 3) := dk_182 1 221 (dk_at dksX0_law_1 0 rfl rfl)
theorem dX0_law_27 : decode cX0_law 27 = .ok (.aload_n 0, 1) := dk_42 (dk_at dksX0_law_1 3 rfl rfl)
theorem dX0_law_28 : decode cX0_law 28 = .ok (.iload_n 1, 1) := dk_27 (dk_at dksX0_law_1 4 rfl rfl)
theorem dX0_law_29 : decode cX0_law 29 = .ok (.invokevirtual 477, 3) := dk_182 1 221 (dk_at dksX0_law_1 5 rfl rfl)
theorem dX0_law_32 : decode cX0_law 32 = .ok (.if_icmp .ge 5, 3) := dk_162 0 5 (dk_at dksX0_law_1 8 rfl rfl)
theorem dX0_law_35 : decode cX0_law 35 = .ok (.iload_n 2, 1) := dk_28 (dk_at dksX0_law_1 11 rfl rfl)
theorem dX0_law_36 : decode cX0_law 36 = .ok (.istore_n 1, 1) := dk_60 (dk_at dksX0_law_1 12 rfl rfl)
theorem dX0_law_37 : decode cX0_law 37 = .ok (.iinc 2 1, 3) := dk_132 2 1 (dk_at dksX0_law_1 13 rfl rfl)
theorem dX0_law_40 : decode cX0_law 40 = .ok (.goto (-23), 3) := dk_167 255 233 (dk_at dksX0_law_1 16 rfl rfl)
theorem dX0_law_43 : decode cX0_law 43 = .ok (.iload_n 1, 1) := dk_27 (dk_at dksX0_law_1 19 rfl rfl)
theorem dX0_law_44 : decode cX0_law 44 = .ok (.ireturn, 1) := dk_172 (dk_at dksX0_law_1 20 rfl rfl)
abbrev cX0_worth : ByteArray := prog_1_method_112_code
def yX0_worth : MethodName := ⟨RX0, "worth", "(I)I"⟩
def dkwX0_worth_1 : List UInt8 := [42, 27, 42, 186, 1, 224, 0, 0, 182, 1, 84, 167, 0, 5, 16, 254, 172]
abbrev dktX0_worth_1 : List UInt8 := dkwX0_worth_1 ++ []
def dkwX0_worth_0 : List UInt8 := [42, 180, 0, 46, 182, 0, 200, 153, 0, 31, 27, 133, 9, 42, 182, 1, 78, 133, 184, 0, 11, 153, 0, 17]
abbrev dktX0_worth_0 : List UInt8 := dkwX0_worth_0 ++ dktX0_worth_1
theorem dksX0_worth_0 : cX0_worth.data.toList.drop 0 = dktX0_worth_0 := by decide +kernel
theorem dksX0_worth_1 : cX0_worth.data.toList.drop 24 = dktX0_worth_1 := dk_seg dksX0_worth_0 24 rfl rfl
theorem dX0_worth_0 : decode cX0_worth 0 = .ok (.aload_n 0, 1) := dk_42 (dk_at dksX0_worth_0 0 rfl rfl)
theorem dX0_worth_1 : decode cX0_worth 1 = .ok (.getfield 46, 3) := dk_180 0 46 (dk_at dksX0_worth_0 1 rfl rfl)
theorem dX0_worth_4 : decode cX0_worth 4 = .ok (.invokevirtual 200, 3) := dk_182 0 200 (dk_at dksX0_worth_0 4 rfl rfl)
theorem dX0_worth_7 : decode cX0_worth 7 = .ok (.ifCond .eq 31, 3) := dk_153 0 31 (dk_at dksX0_worth_0 7 rfl rfl)
theorem dX0_worth_10 : decode cX0_worth 10 = .ok (.iload_n 1, 1) := dk_27 (dk_at dksX0_worth_0 10 rfl rfl)
theorem dX0_worth_11 : decode cX0_worth 11 = .ok (.i2l, 1) := dk_133 (dk_at dksX0_worth_0 11 rfl rfl)
theorem dX0_worth_12 : decode cX0_worth 12 = .ok (.lconst 0, 1) := dk_9 (dk_at dksX0_worth_0 12 rfl rfl)
theorem dX0_worth_13 : decode cX0_worth 13 = .ok (.aload_n 0, 1) := dk_42 (dk_at dksX0_worth_0 13 rfl rfl)
theorem dX0_worth_14 : decode cX0_worth 14 = .ok (.invokevirtual 334, 3) := dk_182 1 78 (dk_at dksX0_worth_0 14 rfl rfl)
theorem dX0_worth_17 : decode cX0_worth 17 = .ok (.i2l, 1) := dk_133 (dk_at dksX0_worth_0 17 rfl rfl)
theorem dX0_worth_18 : decode cX0_worth 18 = .ok (.invokestatic 11, 3) := dk_184 0 11 (dk_at dksX0_worth_0 18 rfl rfl)
theorem dX0_worth_21 : decode cX0_worth 21 = .ok (.ifCond .eq 17, 3) := dk_153 0 17 (dk_at dksX0_worth_0 21 rfl rfl)
theorem dX0_worth_24 : decode cX0_worth 24 = .ok (.aload_n 0, 1) := dk_42 (dk_at dksX0_worth_1 0 rfl rfl)
theorem dX0_worth_25 : decode cX0_worth 25 = .ok (.iload_n 1, 1) := dk_27 (dk_at dksX0_worth_1 1 rfl rfl)
theorem dX0_worth_26 : decode cX0_worth 26 = .ok (.aload_n 0, 1) := dk_42 (dk_at dksX0_worth_1 2 rfl rfl)
theorem dX0_worth_27 : decode cX0_worth 27 = .ok (.invokedynamic 480, 5) := by decide +kernel
theorem dX0_worth_32 : decode cX0_worth 32 = .ok (.invokevirtual 340, 3) := dk_182 1 84 (dk_at dksX0_worth_1 8 rfl rfl)
theorem dX0_worth_35 : decode cX0_worth 35 = .ok (.goto 5, 3) := dk_167 0 5 (dk_at dksX0_worth_1 11 rfl rfl)
theorem dX0_worth_38 : decode cX0_worth 38 = .ok (.bipush (-2), 2) := dk_16 254 (dk_at dksX0_worth_1 14 rfl rfl)
theorem dX0_worth_40 : decode cX0_worth 40 = .ok (.ireturn, 1) := dk_172 (dk_at dksX0_worth_1 16 rfl rfl)
abbrev cX0_lambda_worth_20 : ByteArray := prog_1_method_145_code
def yX0_lambda_worth_20 : MethodName := ⟨RX0, "lambda$worth$20", "()I"⟩
def dkwX0_lambda_worth_20_0 : List UInt8 := [42, 4, 182, 1, 136, 172]
abbrev dktX0_lambda_worth_20_0 : List UInt8 := dkwX0_lambda_worth_20_0 ++ []
theorem dksX0_lambda_worth_20_0 : cX0_lambda_worth_20.data.toList.drop 0 = dktX0_lambda_worth_20_0 := by decide +kernel
theorem dX0_lambda_worth_20_0 : decode cX0_lambda_worth_20 0 = .ok (.aload_n 0, 1) := dk_42 (dk_at dksX0_lambda_worth_20_0 0 rfl rfl)
theorem dX0_lambda_worth_20_1 : decode cX0_lambda_worth_20 1 = .ok (.iconst 1, 1) := dk_4 (dk_at dksX0_lambda_worth_20_0 1 rfl rfl)
theorem dX0_lambda_worth_20_2 : decode cX0_lambda_worth_20 2 = .ok (.invokevirtual 392, 3) := dk_182 1 136 (dk_at dksX0_lambda_worth_20_0 2 rfl rfl)
theorem dX0_lambda_worth_20_5 : decode cX0_lambda_worth_20 5 = .ok (.ireturn, 1) := dk_172 (dk_at dksX0_lambda_worth_20_0 5 rfl rfl)
abbrev cX0_share : ByteArray := prog_1_method_116_code
def yX0_share : MethodName := ⟨RX0, "share", "(II)I"⟩
def dkwX0_share_5 : List UInt8 := [184, 1, 243, 136, 172]
abbrev dktX0_share_5 : List UInt8 := dkwX0_share_5 ++ []
def dkwX0_share_4 : List UInt8 := [21, 6, 182, 1, 240, 100, 133, 105, 97, 55, 4, 132, 6, 1, 167, 255, 186, 22, 4, 29, 184, 1, 225, 28]
abbrev dktX0_share_4 : List UInt8 := dkwX0_share_4 ++ dktX0_share_5
def dkwX0_share_3 : List UInt8 := [184, 1, 225, 29, 21, 7, 100, 4, 100, 184, 1, 225, 105, 42, 21, 6, 4, 27, 120, 128, 182, 1, 240, 42]
abbrev dktX0_share_3 : List UInt8 := dkwX0_share_3 ++ dktX0_share_4
def dkwX0_share_2 : List UInt8 := [21, 6, 27, 184, 1, 26, 153, 0, 6, 167, 0, 49, 21, 6, 184, 1, 185, 54, 7, 22, 4, 21, 7]
abbrev dktX0_share_2 : List UInt8 := dkwX0_share_2 ++ dktX0_share_3
def dkwX0_share_1 : List UInt8 := [180, 0, 222, 185, 0, 225, 1, 0, 62, 9, 55, 4, 3, 54, 6, 21, 6, 42, 182, 1, 78, 163, 0, 67]
abbrev dktX0_share_1 : List UInt8 := dkwX0_share_1 ++ dktX0_share_2
def dkwX0_share_0 : List UInt8 := [42, 27, 182, 1, 75, 153, 0, 10, 28, 184, 1, 236, 154, 0, 7, 19, 1, 239, 172, 42, 180, 0, 46]
abbrev dktX0_share_0 : List UInt8 := dkwX0_share_0 ++ dktX0_share_1
theorem dksX0_share_0 : cX0_share.data.toList.drop 0 = dktX0_share_0 := by decide +kernel
theorem dksX0_share_1 : cX0_share.data.toList.drop 23 = dktX0_share_1 := dk_seg dksX0_share_0 23 rfl rfl
theorem dksX0_share_2 : cX0_share.data.toList.drop 47 = dktX0_share_2 := dk_seg dksX0_share_1 24 rfl rfl
theorem dksX0_share_3 : cX0_share.data.toList.drop 70 = dktX0_share_3 := dk_seg dksX0_share_2 23 rfl rfl
theorem dksX0_share_4 : cX0_share.data.toList.drop 94 = dktX0_share_4 := dk_seg dksX0_share_3 24 rfl rfl
theorem dksX0_share_5 : cX0_share.data.toList.drop 118 = dktX0_share_5 := dk_seg dksX0_share_4 24 rfl rfl
theorem dX0_share_0 : decode cX0_share 0 = .ok (.aload_n 0, 1) := dk_42 (dk_at dksX0_share_0 0 rfl rfl)
theorem dX0_share_1 : decode cX0_share 1 = .ok (.iload_n 1, 1) := dk_27 (dk_at dksX0_share_0 1 rfl rfl)
theorem dX0_share_2 : decode cX0_share 2 = .ok (.invokevirtual 331, 3) := dk_182 1 75 (dk_at dksX0_share_0 2 rfl rfl)
theorem dX0_share_5 : decode cX0_share 5 = .ok (.ifCond .eq 10, 3) := dk_153 0 10 (dk_at dksX0_share_0 5 rfl rfl)
theorem dX0_share_8 : decode cX0_share 8 = .ok (.iload_n 2, 1) := dk_28 (dk_at dksX0_share_0 8 rfl rfl)
theorem dX0_share_9 : decode cX0_share 9 = .ok (.invokestatic 492, 3) := dk_184 1 236 (dk_at dksX0_share_0 9 rfl rfl)
theorem dX0_share_12 : decode cX0_share 12 = .ok (.ifCond .ne 7, 3) := dk_154 0 7 (dk_at dksX0_share_0 12 rfl rfl)
theorem dX0_share_15 : decode cX0_share 15 = .ok (.ldc_w 495, 3) := dk_19 1 239 (dk_at dksX0_share_0 15 rfl rfl)
theorem dX0_share_18 : decode cX0_share 18 = .ok (.ireturn, 1) := dk_172 (dk_at dksX0_share_0 18 rfl rfl)
theorem dX0_share_19 : decode cX0_share 19 = .ok (.aload_n 0, 1) := dk_42 (dk_at dksX0_share_0 19 rfl rfl)
theorem dX0_share_20 : decode cX0_share 20 = .ok (.getfield 46, 3) := dk_180 0 46 (dk_at dksX0_share_0 20 rfl rfl)
theorem dX0_share_23 : decode cX0_share 23 = .ok (.getfield 222, 3) := dk_180 0 222 (dk_at dksX0_share_1 0 rfl rfl)
theorem dX0_share_26 : decode cX0_share 26 = .ok (.invokeinterface 225 1, 5) := by decide +kernel
theorem dX0_share_31 : decode cX0_share 31 = .ok (.istore_n 3, 1) := dk_62 (dk_at dksX0_share_1 8 rfl rfl)
theorem dX0_share_32 : decode cX0_share 32 = .ok (.lconst 0, 1) := dk_9 (dk_at dksX0_share_1 9 rfl rfl)
theorem dX0_share_33 : decode cX0_share 33 = .ok (.lstore 4, 2) := dk_55 4 (dk_at dksX0_share_1 10 rfl rfl)
theorem dX0_share_35 : decode cX0_share 35 = .ok (.iconst 0, 1) := dk_3 (dk_at dksX0_share_1 12 rfl rfl)
theorem dX0_share_36 : decode cX0_share 36 = .ok (.istore 6, 2) := dk_54 6 (dk_at dksX0_share_1 13 rfl rfl)
theorem dX0_share_38 : decode cX0_share 38 = .ok (.iload 6, 2) := dk_21 6 (dk_at dksX0_share_1 15 rfl rfl)
theorem dX0_share_40 : decode cX0_share 40 = .ok (.aload_n 0, 1) := dk_42 (dk_at dksX0_share_1 17 rfl rfl)
theorem dX0_share_41 : decode cX0_share 41 = .ok (.invokevirtual 334, 3) := dk_182 1 78 (dk_at dksX0_share_1 18 rfl rfl)
theorem dX0_share_44 : decode cX0_share 44 = .ok (.if_icmp .gt 67, 3) := dk_163 0 67 (dk_at dksX0_share_1 21 rfl rfl)
theorem dX0_share_47 : decode cX0_share 47 = .ok (.iload 6, 2) := dk_21 6 (dk_at dksX0_share_2 0 rfl rfl)
theorem dX0_share_49 : decode cX0_share 49 = .ok (.iload_n 1, 1) := dk_27 (dk_at dksX0_share_2 2 rfl rfl)
theorem dX0_share_50 : decode cX0_share 50 = .ok (.invokestatic 282, 3) := dk_184 1 26 (dk_at dksX0_share_2 3 rfl rfl)
theorem dX0_share_53 : decode cX0_share 53 = .ok (.ifCond .eq 6, 3) := dk_153 0 6 (dk_at dksX0_share_2 6 rfl rfl)
theorem dX0_share_56 : decode cX0_share 56 = .ok (.goto 49, 3) := dk_167 0 49 (dk_at dksX0_share_2 9 rfl rfl)
theorem dX0_share_59 : decode cX0_share 59 = .ok (.iload 6, 2) := dk_21 6 (dk_at dksX0_share_2 12 rfl rfl)
theorem dX0_share_61 : decode cX0_share 61 = .ok (.invokestatic 441, 3) := dk_184 1 185 (dk_at dksX0_share_2 14 rfl rfl)
theorem dX0_share_64 : decode cX0_share 64 = .ok (.istore 7, 2) := dk_54 7 (dk_at dksX0_share_2 17 rfl rfl)
theorem dX0_share_66 : decode cX0_share 66 = .ok (.lload 4, 2) := dk_22 4 (dk_at dksX0_share_2 19 rfl rfl)
theorem dX0_share_68 : decode cX0_share 68 = .ok (.iload 7, 2) := dk_21 7 (dk_at dksX0_share_2 21 rfl rfl)
theorem dX0_share_70 : decode cX0_share 70 = .ok (.invokestatic 481, 3) := dk_184 1 225 (dk_at dksX0_share_3 0 rfl rfl)
theorem dX0_share_73 : decode cX0_share 73 = .ok (.iload_n 3, 1) := dk_29 (dk_at dksX0_share_3 3 rfl rfl)
theorem dX0_share_74 : decode cX0_share 74 = .ok (.iload 7, 2) := dk_21 7 (dk_at dksX0_share_3 4 rfl rfl)
theorem dX0_share_76 : decode cX0_share 76 = .ok (.isub, 1) := dk_100 (dk_at dksX0_share_3 6 rfl rfl)
theorem dX0_share_77 : decode cX0_share 77 = .ok (.iconst 1, 1) := dk_4 (dk_at dksX0_share_3 7 rfl rfl)
theorem dX0_share_78 : decode cX0_share 78 = .ok (.isub, 1) := dk_100 (dk_at dksX0_share_3 8 rfl rfl)
theorem dX0_share_79 : decode cX0_share 79 = .ok (.invokestatic 481, 3) := dk_184 1 225 (dk_at dksX0_share_3 9 rfl rfl)
theorem dX0_share_82 : decode cX0_share 82 = .ok (.lmul, 1) := dk_105 (dk_at dksX0_share_3 12 rfl rfl)
theorem dX0_share_83 : decode cX0_share 83 = .ok (.aload_n 0, 1) := dk_42 (dk_at dksX0_share_3 13 rfl rfl)
theorem dX0_share_84 : decode cX0_share 84 = .ok (.iload 6, 2) := dk_21 6 (dk_at dksX0_share_3 14 rfl rfl)
theorem dX0_share_86 : decode cX0_share 86 = .ok (.iconst 1, 1) := dk_4 (dk_at dksX0_share_3 16 rfl rfl)
theorem dX0_share_87 : decode cX0_share 87 = .ok (.iload_n 1, 1) := dk_27 (dk_at dksX0_share_3 17 rfl rfl)
theorem dX0_share_88 : decode cX0_share 88 = .ok (.ishl, 1) := dk_120 (dk_at dksX0_share_3 18 rfl rfl)
theorem dX0_share_89 : decode cX0_share 89 = .ok (.ior, 1) := dk_128 (dk_at dksX0_share_3 19 rfl rfl)
theorem dX0_share_90 : decode cX0_share 90 = .ok (.invokevirtual 496, 3) := dk_182 1 240 (dk_at dksX0_share_3 20 rfl rfl)
theorem dX0_share_93 : decode cX0_share 93 = .ok (.aload_n 0, 1) := dk_42 (dk_at dksX0_share_3 23 rfl rfl)
theorem dX0_share_94 : decode cX0_share 94 = .ok (.iload 6, 2) := dk_21 6 (dk_at dksX0_share_4 0 rfl rfl)
theorem dX0_share_96 : decode cX0_share 96 = .ok (.invokevirtual 496, 3) := dk_182 1 240 (dk_at dksX0_share_4 2 rfl rfl)
theorem dX0_share_99 : decode cX0_share 99 = .ok (.isub, 1) := dk_100 (dk_at dksX0_share_4 5 rfl rfl)
theorem dX0_share_100 : decode cX0_share 100 = .ok (.i2l, 1) := dk_133 (dk_at dksX0_share_4 6 rfl rfl)
theorem dX0_share_101 : decode cX0_share 101 = .ok (.lmul, 1) := dk_105 (dk_at dksX0_share_4 7 rfl rfl)
theorem dX0_share_102 : decode cX0_share 102 = .ok (.ladd, 1) := dk_97 (dk_at dksX0_share_4 8 rfl rfl)
theorem dX0_share_103 : decode cX0_share 103 = .ok (.lstore 4, 2) := dk_55 4 (dk_at dksX0_share_4 9 rfl rfl)
theorem dX0_share_105 : decode cX0_share 105 = .ok (.iinc 6 1, 3) := dk_132 6 1 (dk_at dksX0_share_4 11 rfl rfl)
theorem dX0_share_108 : decode cX0_share 108 = .ok (.goto (-70), 3) := dk_167 255 186 (dk_at dksX0_share_4 14 rfl rfl)
theorem dX0_share_111 : decode cX0_share 111 = .ok (.lload 4, 2) := dk_22 4 (dk_at dksX0_share_4 17 rfl rfl)
theorem dX0_share_113 : decode cX0_share 113 = .ok (.iload_n 3, 1) := dk_29 (dk_at dksX0_share_4 19 rfl rfl)
theorem dX0_share_114 : decode cX0_share 114 = .ok (.invokestatic 481, 3) := dk_184 1 225 (dk_at dksX0_share_4 20 rfl rfl)
theorem dX0_share_117 : decode cX0_share 117 = .ok (.iload_n 2, 1) := dk_28 (dk_at dksX0_share_4 23 rfl rfl)
theorem dX0_share_118 : decode cX0_share 118 = .ok (.invokestatic 499, 3) := dk_184 1 243 (dk_at dksX0_share_5 0 rfl rfl)
theorem dX0_share_121 : decode cX0_share 121 = .ok (.l2i, 1) := dk_136 (dk_at dksX0_share_5 3 rfl rfl)
theorem dX0_share_122 : decode cX0_share 122 = .ok (.ireturn, 1) := dk_172 (dk_at dksX0_share_5 4 rfl rfl)
abbrev cX0_isBit : ByteArray := prog_1_method_27_code
def yX0_isBit : MethodName := ⟨RX0, "isBit", "(I)Z"⟩
def dkwX0_isBit_0 : List UInt8 := [26, 133, 9, 10, 184, 0, 11, 172]
abbrev dktX0_isBit_0 : List UInt8 := dkwX0_isBit_0 ++ []
theorem dksX0_isBit_0 : cX0_isBit.data.toList.drop 0 = dktX0_isBit_0 := by decide +kernel
theorem dX0_isBit_0 : decode cX0_isBit 0 = .ok (.iload_n 0, 1) := dk_26 (dk_at dksX0_isBit_0 0 rfl rfl)
theorem dX0_isBit_1 : decode cX0_isBit 1 = .ok (.i2l, 1) := dk_133 (dk_at dksX0_isBit_0 1 rfl rfl)
theorem dX0_isBit_2 : decode cX0_isBit 2 = .ok (.lconst 0, 1) := dk_9 (dk_at dksX0_isBit_0 2 rfl rfl)
theorem dX0_isBit_3 : decode cX0_isBit 3 = .ok (.lconst 1, 1) := dk_10 (dk_at dksX0_isBit_0 3 rfl rfl)
theorem dX0_isBit_4 : decode cX0_isBit 4 = .ok (.invokestatic 11, 3) := dk_184 0 11 (dk_at dksX0_isBit_0 4 rfl rfl)
theorem dX0_isBit_7 : decode cX0_isBit 7 = .ok (.ireturn, 1) := dk_172 (dk_at dksX0_isBit_0 7 rfl rfl)
abbrev cX0_factorial : ByteArray := prog_1_method_113_code
def yX0_factorial : MethodName := ⟨RX0, "factorial", "(I)J"⟩
def dkwX0_factorial_0 : List UInt8 := [26, 5, 162, 0, 7, 10, 167, 0, 12, 26, 133, 26, 4, 100, 184, 1, 225, 105, 173]
abbrev dktX0_factorial_0 : List UInt8 := dkwX0_factorial_0 ++ []
theorem dksX0_factorial_0 : cX0_factorial.data.toList.drop 0 = dktX0_factorial_0 := by decide +kernel
theorem dX0_factorial_0 : decode cX0_factorial 0 = .ok (.iload_n 0, 1) := dk_26 (dk_at dksX0_factorial_0 0 rfl rfl)
theorem dX0_factorial_1 : decode cX0_factorial 1 = .ok (.iconst 2, 1) := dk_5 (dk_at dksX0_factorial_0 1 rfl rfl)
theorem dX0_factorial_2 : decode cX0_factorial 2 = .ok (.if_icmp .ge 7, 3) := dk_162 0 7 (dk_at dksX0_factorial_0 2 rfl rfl)
theorem dX0_factorial_5 : decode cX0_factorial 5 = .ok (.lconst 1, 1) := dk_10 (dk_at dksX0_factorial_0 5 rfl rfl)
theorem dX0_factorial_6 : decode cX0_factorial 6 = .ok (.goto 12, 3) := dk_167 0 12 (dk_at dksX0_factorial_0 6 rfl rfl)
theorem dX0_factorial_9 : decode cX0_factorial 9 = .ok (.iload_n 0, 1) := dk_26 (dk_at dksX0_factorial_0 9 rfl rfl)
theorem dX0_factorial_10 : decode cX0_factorial 10 = .ok (.i2l, 1) := dk_133 (dk_at dksX0_factorial_0 10 rfl rfl)
theorem dX0_factorial_11 : decode cX0_factorial 11 = .ok (.iload_n 0, 1) := dk_26 (dk_at dksX0_factorial_0 11 rfl rfl)
theorem dX0_factorial_12 : decode cX0_factorial 12 = .ok (.iconst 1, 1) := dk_4 (dk_at dksX0_factorial_0 12 rfl rfl)
theorem dX0_factorial_13 : decode cX0_factorial 13 = .ok (.isub, 1) := dk_100 (dk_at dksX0_factorial_0 13 rfl rfl)
theorem dX0_factorial_14 : decode cX0_factorial 14 = .ok (.invokestatic 481, 3) := dk_184 1 225 (dk_at dksX0_factorial_0 14 rfl rfl)
theorem dX0_factorial_17 : decode cX0_factorial 17 = .ok (.lmul, 1) := dk_105 (dk_at dksX0_factorial_0 17 rfl rfl)
theorem dX0_factorial_18 : decode cX0_factorial 18 = .ok (.lreturn, 1) := dk_173 (dk_at dksX0_factorial_0 18 rfl rfl)
abbrev cX0_part : ByteArray := prog_1_method_115_code
def yX0_part : MethodName := ⟨RX0, "part", "(JJI)J"⟩
def dkwX0_part_0 : List UInt8 := [21, 4, 154, 0, 7, 30, 167, 0, 4, 32, 30, 32, 184, 1, 232, 109, 173]
abbrev dktX0_part_0 : List UInt8 := dkwX0_part_0 ++ []
theorem dksX0_part_0 : cX0_part.data.toList.drop 0 = dktX0_part_0 := by decide +kernel
theorem dX0_part_0 : decode cX0_part 0 = .ok (.iload 4, 2) := dk_21 4 (dk_at dksX0_part_0 0 rfl rfl)
theorem dX0_part_2 : decode cX0_part 2 = .ok (.ifCond .ne 7, 3) := dk_154 0 7 (dk_at dksX0_part_0 2 rfl rfl)
theorem dX0_part_5 : decode cX0_part 5 = .ok (.lload_n 0, 1) := dk_30 (dk_at dksX0_part_0 5 rfl rfl)
theorem dX0_part_6 : decode cX0_part 6 = .ok (.goto 4, 3) := dk_167 0 4 (dk_at dksX0_part_0 6 rfl rfl)
theorem dX0_part_9 : decode cX0_part 9 = .ok (.lload_n 2, 1) := dk_32 (dk_at dksX0_part_0 9 rfl rfl)
theorem dX0_part_10 : decode cX0_part 10 = .ok (.lload_n 0, 1) := dk_30 (dk_at dksX0_part_0 10 rfl rfl)
theorem dX0_part_11 : decode cX0_part 11 = .ok (.lload_n 2, 1) := dk_32 (dk_at dksX0_part_0 11 rfl rfl)
theorem dX0_part_12 : decode cX0_part 12 = .ok (.invokestatic 488, 3) := dk_184 1 232 (dk_at dksX0_part_0 12 rfl rfl)
theorem dX0_part_15 : decode cX0_part 15 = .ok (.ldiv, 1) := dk_109 (dk_at dksX0_part_0 15 rfl rfl)
theorem dX0_part_16 : decode cX0_part 16 = .ok (.lreturn, 1) := dk_173 (dk_at dksX0_part_0 16 rfl rfl)
abbrev cX0_common : ByteArray := prog_1_method_114_code
def yX0_common : MethodName := ⟨RX0, "common", "(JJ)J"⟩
def dkwX0_common_0 : List UInt8 := [32, 9, 148, 154, 0, 10, 30, 184, 1, 228, 167, 0, 10, 32, 30, 32, 113, 184, 1, 232, 173]
abbrev dktX0_common_0 : List UInt8 := dkwX0_common_0 ++ []
theorem dksX0_common_0 : cX0_common.data.toList.drop 0 = dktX0_common_0 := by decide +kernel
theorem dX0_common_0 : decode cX0_common 0 = .ok (.lload_n 2, 1) := dk_32 (dk_at dksX0_common_0 0 rfl rfl)
theorem dX0_common_1 : decode cX0_common 1 = .ok (.lconst 0, 1) := dk_9 (dk_at dksX0_common_0 1 rfl rfl)
theorem dX0_common_2 : decode cX0_common 2 = .ok (.lcmp, 1) := dk_148 (dk_at dksX0_common_0 2 rfl rfl)
theorem dX0_common_3 : decode cX0_common 3 = .ok (.ifCond .ne 10, 3) := dk_154 0 10 (dk_at dksX0_common_0 3 rfl rfl)
theorem dX0_common_6 : decode cX0_common 6 = .ok (.lload_n 0, 1) := dk_30 (dk_at dksX0_common_0 6 rfl rfl)
theorem dX0_common_7 : decode cX0_common 7 = .ok (.invokestatic 484, 3) := dk_184 1 228 (dk_at dksX0_common_0 7 rfl rfl)
theorem dX0_common_10 : decode cX0_common 10 = .ok (.goto 10, 3) := dk_167 0 10 (dk_at dksX0_common_0 10 rfl rfl)
theorem dX0_common_13 : decode cX0_common 13 = .ok (.lload_n 2, 1) := dk_32 (dk_at dksX0_common_0 13 rfl rfl)
theorem dX0_common_14 : decode cX0_common 14 = .ok (.lload_n 0, 1) := dk_30 (dk_at dksX0_common_0 14 rfl rfl)
theorem dX0_common_15 : decode cX0_common 15 = .ok (.lload_n 2, 1) := dk_32 (dk_at dksX0_common_0 15 rfl rfl)
theorem dX0_common_16 : decode cX0_common 16 = .ok (.lrem, 1) := dk_113 (dk_at dksX0_common_0 16 rfl rfl)
theorem dX0_common_17 : decode cX0_common 17 = .ok (.invokestatic 488, 3) := dk_184 1 232 (dk_at dksX0_common_0 17 rfl rfl)
theorem dX0_common_20 : decode cX0_common 20 = .ok (.lreturn, 1) := dk_173 (dk_at dksX0_common_0 20 rfl rfl)
abbrev cX0_rests : ByteArray := prog_1_method_119_code
def yX0_rests : MethodName := ⟨RX0, "rests", "(II)I"⟩
def dkwX0_rests_2 : List UInt8 := [3, 128, 62, 132, 4, 1, 167, 255, 219, 29, 172]
abbrev dktX0_rests_2 : List UInt8 := dkwX0_rests_2 ++ []
def dkwX0_rests_1 : List UInt8 := [42, 27, 28, 21, 4, 5, 112, 21, 4, 5, 108, 182, 1, 254, 153, 0, 10, 4, 21, 4, 120, 167, 0, 4]
abbrev dktX0_rests_1 : List UInt8 := dkwX0_rests_1 ++ dktX0_rests_2
def dkwX0_rests_0 : List UInt8 := [42, 27, 28, 182, 1, 251, 154, 0, 6, 16, 254, 172, 3, 62, 3, 54, 4, 21, 4, 7, 162, 0, 37, 29]
abbrev dktX0_rests_0 : List UInt8 := dkwX0_rests_0 ++ dktX0_rests_1
theorem dksX0_rests_0 : cX0_rests.data.toList.drop 0 = dktX0_rests_0 := by decide +kernel
theorem dksX0_rests_1 : cX0_rests.data.toList.drop 24 = dktX0_rests_1 := dk_seg dksX0_rests_0 24 rfl rfl
theorem dksX0_rests_2 : cX0_rests.data.toList.drop 48 = dktX0_rests_2 := dk_seg dksX0_rests_1 24 rfl rfl
theorem dX0_rests_0 : decode cX0_rests 0 = .ok (.aload_n 0, 1) := dk_42 (dk_at dksX0_rests_0 0 rfl rfl)
theorem dX0_rests_1 : decode cX0_rests 1 = .ok (.iload_n 1, 1) := dk_27 (dk_at dksX0_rests_0 1 rfl rfl)
theorem dX0_rests_2 : decode cX0_rests 2 = .ok (.iload_n 2, 1) := dk_28 (dk_at dksX0_rests_0 2 rfl rfl)
theorem dX0_rests_3 : decode cX0_rests 3 = .ok (.invokevirtual 507, 3) := dk_182 1 251 (dk_at dksX0_rests_0 3 rfl rfl)
theorem dX0_rests_6 : decode cX0_rests 6 = .ok (.ifCond .ne 6, 3) := dk_154 0 6 (dk_at dksX0_rests_0 6 rfl rfl)
theorem dX0_rests_9 : decode cX0_rests 9 = .ok (.bipush (-2), 2) := dk_16 254 (dk_at dksX0_rests_0 9 rfl rfl)
theorem dX0_rests_11 : decode cX0_rests 11 = .ok (.ireturn, 1) := dk_172 (dk_at dksX0_rests_0 11 rfl rfl)
theorem dX0_rests_12 : decode cX0_rests 12 = .ok (.iconst 0, 1) := dk_3 (dk_at dksX0_rests_0 12 rfl rfl)
theorem dX0_rests_13 : decode cX0_rests 13 = .ok (.istore_n 3, 1) := dk_62 (dk_at dksX0_rests_0 13 rfl rfl)
theorem dX0_rests_14 : decode cX0_rests 14 = .ok (.iconst 0, 1) := dk_3 (dk_at dksX0_rests_0 14 rfl rfl)
theorem dX0_rests_15 : decode cX0_rests 15 = .ok (.istore 4, 2) := dk_54 4 (dk_at dksX0_rests_0 15 rfl rfl)
theorem dX0_rests_17 : decode cX0_rests 17 = .ok (.iload 4, 2) := dk_21 4 (dk_at dksX0_rests_0 17 rfl rfl)
theorem dX0_rests_19 : decode cX0_rests 19 = .ok (.iconst 4, 1) := dk_7 (dk_at dksX0_rests_0 19 rfl rfl)
theorem dX0_rests_20 : decode cX0_rests 20 = .ok (.if_icmp .ge 37, 3) := dk_162 0 37 (dk_at dksX0_rests_0 20 rfl rfl)
theorem dX0_rests_23 : decode cX0_rests 23 = .ok (.iload_n 3, 1) := dk_29 (dk_at dksX0_rests_0 23 rfl rfl)
theorem dX0_rests_24 : decode cX0_rests 24 = .ok (.aload_n 0, 1) := dk_42 (dk_at dksX0_rests_1 0 rfl rfl)
theorem dX0_rests_25 : decode cX0_rests 25 = .ok (.iload_n 1, 1) := dk_27 (dk_at dksX0_rests_1 1 rfl rfl)
theorem dX0_rests_26 : decode cX0_rests 26 = .ok (.iload_n 2, 1) := dk_28 (dk_at dksX0_rests_1 2 rfl rfl)
theorem dX0_rests_27 : decode cX0_rests 27 = .ok (.iload 4, 2) := dk_21 4 (dk_at dksX0_rests_1 3 rfl rfl)
theorem dX0_rests_29 : decode cX0_rests 29 = .ok (.iconst 2, 1) := dk_5 (dk_at dksX0_rests_1 5 rfl rfl)
theorem dX0_rests_30 : decode cX0_rests 30 = .ok (.irem, 1) := dk_112 (dk_at dksX0_rests_1 6 rfl rfl)
theorem dX0_rests_31 : decode cX0_rests 31 = .ok (.iload 4, 2) := dk_21 4 (dk_at dksX0_rests_1 7 rfl rfl)
theorem dX0_rests_33 : decode cX0_rests 33 = .ok (.iconst 2, 1) := dk_5 (dk_at dksX0_rests_1 9 rfl rfl)
theorem dX0_rests_34 : decode cX0_rests 34 = .ok (.idiv, 1) := dk_108 (dk_at dksX0_rests_1 10 rfl rfl)
theorem dX0_rests_35 : decode cX0_rests 35 = .ok (.invokevirtual 510, 3) := dk_182 1 254 (dk_at dksX0_rests_1 11 rfl rfl)
theorem dX0_rests_38 : decode cX0_rests 38 = .ok (.ifCond .eq 10, 3) := dk_153 0 10 (dk_at dksX0_rests_1 14 rfl rfl)
theorem dX0_rests_41 : decode cX0_rests 41 = .ok (.iconst 1, 1) := dk_4 (dk_at dksX0_rests_1 17 rfl rfl)
theorem dX0_rests_42 : decode cX0_rests 42 = .ok (.iload 4, 2) := dk_21 4 (dk_at dksX0_rests_1 18 rfl rfl)
theorem dX0_rests_44 : decode cX0_rests 44 = .ok (.ishl, 1) := dk_120 (dk_at dksX0_rests_1 20 rfl rfl)
theorem dX0_rests_45 : decode cX0_rests 45 = .ok (.goto 4, 3) := dk_167 0 4 (dk_at dksX0_rests_1 21 rfl rfl)
theorem dX0_rests_48 : decode cX0_rests 48 = .ok (.iconst 0, 1) := dk_3 (dk_at dksX0_rests_2 0 rfl rfl)
theorem dX0_rests_49 : decode cX0_rests 49 = .ok (.ior, 1) := dk_128 (dk_at dksX0_rests_2 1 rfl rfl)
theorem dX0_rests_50 : decode cX0_rests 50 = .ok (.istore_n 3, 1) := dk_62 (dk_at dksX0_rests_2 2 rfl rfl)
theorem dX0_rests_51 : decode cX0_rests 51 = .ok (.iinc 4 1, 3) := dk_132 4 1 (dk_at dksX0_rests_2 3 rfl rfl)
theorem dX0_rests_54 : decode cX0_rests 54 = .ok (.goto (-37), 3) := dk_167 255 219 (dk_at dksX0_rests_2 6 rfl rfl)
theorem dX0_rests_57 : decode cX0_rests 57 = .ok (.iload_n 3, 1) := dk_29 (dk_at dksX0_rests_2 9 rfl rfl)
theorem dX0_rests_58 : decode cX0_rests 58 = .ok (.ireturn, 1) := dk_172 (dk_at dksX0_rests_2 10 rfl rfl)
abbrev cX0_areTwo : ByteArray := prog_1_method_23_code
def yX0_areTwo : MethodName := ⟨RX0, "areTwo", "(II)Z"⟩
def dkwX0_areTwo_1 : List UInt8 := [167, 0, 4, 3, 172]
abbrev dktX0_areTwo_1 : List UInt8 := dkwX0_areTwo_1 ++ []
def dkwX0_areTwo_0 : List UInt8 := [42, 27, 182, 0, 234, 153, 0, 20, 42, 28, 182, 0, 234, 153, 0, 12, 27, 28, 159, 0, 7, 4]
abbrev dktX0_areTwo_0 : List UInt8 := dkwX0_areTwo_0 ++ dktX0_areTwo_1
theorem dksX0_areTwo_0 : cX0_areTwo.data.toList.drop 0 = dktX0_areTwo_0 := by decide +kernel
theorem dksX0_areTwo_1 : cX0_areTwo.data.toList.drop 22 = dktX0_areTwo_1 := dk_seg dksX0_areTwo_0 22 rfl rfl
theorem dX0_areTwo_0 : decode cX0_areTwo 0 = .ok (.aload_n 0, 1) := dk_42 (dk_at dksX0_areTwo_0 0 rfl rfl)
theorem dX0_areTwo_1 : decode cX0_areTwo 1 = .ok (.iload_n 1, 1) := dk_27 (dk_at dksX0_areTwo_0 1 rfl rfl)
theorem dX0_areTwo_2 : decode cX0_areTwo 2 = .ok (.invokevirtual 234, 3) := dk_182 0 234 (dk_at dksX0_areTwo_0 2 rfl rfl)
theorem dX0_areTwo_5 : decode cX0_areTwo 5 = .ok (.ifCond .eq 20, 3) := dk_153 0 20 (dk_at dksX0_areTwo_0 5 rfl rfl)
theorem dX0_areTwo_8 : decode cX0_areTwo 8 = .ok (.aload_n 0, 1) := dk_42 (dk_at dksX0_areTwo_0 8 rfl rfl)
theorem dX0_areTwo_9 : decode cX0_areTwo 9 = .ok (.iload_n 2, 1) := dk_28 (dk_at dksX0_areTwo_0 9 rfl rfl)
theorem dX0_areTwo_10 : decode cX0_areTwo 10 = .ok (.invokevirtual 234, 3) := dk_182 0 234 (dk_at dksX0_areTwo_0 10 rfl rfl)
theorem dX0_areTwo_13 : decode cX0_areTwo 13 = .ok (.ifCond .eq 12, 3) := dk_153 0 12 (dk_at dksX0_areTwo_0 13 rfl rfl)
theorem dX0_areTwo_16 : decode cX0_areTwo 16 = .ok (.iload_n 1, 1) := dk_27 (dk_at dksX0_areTwo_0 16 rfl rfl)
theorem dX0_areTwo_17 : decode cX0_areTwo 17 = .ok (.iload_n 2, 1) := dk_28 (dk_at dksX0_areTwo_0 17 rfl rfl)
theorem dX0_areTwo_18 : decode cX0_areTwo 18 = .ok (.if_icmp .eq 7, 3) := dk_159 0 7 (dk_at dksX0_areTwo_0 18 rfl rfl)
theorem dX0_areTwo_21 : decode cX0_areTwo 21 = .ok (.iconst 1, 1) := dk_4 (dk_at dksX0_areTwo_0 21 rfl rfl)
theorem dX0_areTwo_22 : decode cX0_areTwo 22 = .ok (.goto 4, 3) := dk_167 0 4 (dk_at dksX0_areTwo_1 0 rfl rfl)
theorem dX0_areTwo_25 : decode cX0_areTwo 25 = .ok (.iconst 0, 1) := dk_3 (dk_at dksX0_areTwo_1 3 rfl rfl)
theorem dX0_areTwo_26 : decode cX0_areTwo 26 = .ok (.ireturn, 1) := dk_172 (dk_at dksX0_areTwo_1 4 rfl rfl)
abbrev cX0_isRest : ByteArray := prog_1_method_118_code
def yX0_isRest : MethodName := ⟨RX0, "isRest", "(IIII)Z"⟩
def dkwX0_isRest_2 : List UInt8 := [182, 1, 247, 163, 0, 7, 4, 167, 0, 4, 3, 172]
abbrev dktX0_isRest_2 : List UInt8 := dkwX0_isRest_2 ++ []
def dkwX0_isRest_1 : List UInt8 := [163, 0, 32, 42, 28, 27, 28, 29, 4, 21, 4, 100, 182, 1, 247, 42, 28, 27, 28, 29, 21, 4]
abbrev dktX0_isRest_1 : List UInt8 := dkwX0_isRest_1 ++ dktX0_isRest_2
def dkwX0_isRest_0 : List UInt8 := [42, 27, 27, 28, 4, 29, 100, 21, 4, 182, 1, 247, 42, 27, 27, 28, 29, 21, 4, 182, 1, 247]
abbrev dktX0_isRest_0 : List UInt8 := dkwX0_isRest_0 ++ dktX0_isRest_1
theorem dksX0_isRest_0 : cX0_isRest.data.toList.drop 0 = dktX0_isRest_0 := by decide +kernel
theorem dksX0_isRest_1 : cX0_isRest.data.toList.drop 22 = dktX0_isRest_1 := dk_seg dksX0_isRest_0 22 rfl rfl
theorem dksX0_isRest_2 : cX0_isRest.data.toList.drop 44 = dktX0_isRest_2 := dk_seg dksX0_isRest_1 22 rfl rfl
theorem dX0_isRest_0 : decode cX0_isRest 0 = .ok (.aload_n 0, 1) := dk_42 (dk_at dksX0_isRest_0 0 rfl rfl)
theorem dX0_isRest_1 : decode cX0_isRest 1 = .ok (.iload_n 1, 1) := dk_27 (dk_at dksX0_isRest_0 1 rfl rfl)
theorem dX0_isRest_2 : decode cX0_isRest 2 = .ok (.iload_n 1, 1) := dk_27 (dk_at dksX0_isRest_0 2 rfl rfl)
theorem dX0_isRest_3 : decode cX0_isRest 3 = .ok (.iload_n 2, 1) := dk_28 (dk_at dksX0_isRest_0 3 rfl rfl)
theorem dX0_isRest_4 : decode cX0_isRest 4 = .ok (.iconst 1, 1) := dk_4 (dk_at dksX0_isRest_0 4 rfl rfl)
theorem dX0_isRest_5 : decode cX0_isRest 5 = .ok (.iload_n 3, 1) := dk_29 (dk_at dksX0_isRest_0 5 rfl rfl)
theorem dX0_isRest_6 : decode cX0_isRest 6 = .ok (.isub, 1) := dk_100 (dk_at dksX0_isRest_0 6 rfl rfl)
theorem dX0_isRest_7 : decode cX0_isRest 7 = .ok (.iload 4, 2) := dk_21 4 (dk_at dksX0_isRest_0 7 rfl rfl)
theorem dX0_isRest_9 : decode cX0_isRest 9 = .ok (.invokevirtual 503, 3) := dk_182 1 247 (dk_at dksX0_isRest_0 9 rfl rfl)
theorem dX0_isRest_12 : decode cX0_isRest 12 = .ok (.aload_n 0, 1) := dk_42 (dk_at dksX0_isRest_0 12 rfl rfl)
theorem dX0_isRest_13 : decode cX0_isRest 13 = .ok (.iload_n 1, 1) := dk_27 (dk_at dksX0_isRest_0 13 rfl rfl)
theorem dX0_isRest_14 : decode cX0_isRest 14 = .ok (.iload_n 1, 1) := dk_27 (dk_at dksX0_isRest_0 14 rfl rfl)
theorem dX0_isRest_15 : decode cX0_isRest 15 = .ok (.iload_n 2, 1) := dk_28 (dk_at dksX0_isRest_0 15 rfl rfl)
theorem dX0_isRest_16 : decode cX0_isRest 16 = .ok (.iload_n 3, 1) := dk_29 (dk_at dksX0_isRest_0 16 rfl rfl)
theorem dX0_isRest_17 : decode cX0_isRest 17 = .ok (.iload 4, 2) := dk_21 4 (dk_at dksX0_isRest_0 17 rfl rfl)
theorem dX0_isRest_19 : decode cX0_isRest 19 = .ok (.invokevirtual 503, 3) := dk_182 1 247 (dk_at dksX0_isRest_0 19 rfl rfl)
theorem dX0_isRest_22 : decode cX0_isRest 22 = .ok (.if_icmp .gt 32, 3) := dk_163 0 32 (dk_at dksX0_isRest_1 0 rfl rfl)
theorem dX0_isRest_25 : decode cX0_isRest 25 = .ok (.aload_n 0, 1) := dk_42 (dk_at dksX0_isRest_1 3 rfl rfl)
theorem dX0_isRest_26 : decode cX0_isRest 26 = .ok (.iload_n 2, 1) := dk_28 (dk_at dksX0_isRest_1 4 rfl rfl)
theorem dX0_isRest_27 : decode cX0_isRest 27 = .ok (.iload_n 1, 1) := dk_27 (dk_at dksX0_isRest_1 5 rfl rfl)
theorem dX0_isRest_28 : decode cX0_isRest 28 = .ok (.iload_n 2, 1) := dk_28 (dk_at dksX0_isRest_1 6 rfl rfl)
theorem dX0_isRest_29 : decode cX0_isRest 29 = .ok (.iload_n 3, 1) := dk_29 (dk_at dksX0_isRest_1 7 rfl rfl)
theorem dX0_isRest_30 : decode cX0_isRest 30 = .ok (.iconst 1, 1) := dk_4 (dk_at dksX0_isRest_1 8 rfl rfl)
theorem dX0_isRest_31 : decode cX0_isRest 31 = .ok (.iload 4, 2) := dk_21 4 (dk_at dksX0_isRest_1 9 rfl rfl)
theorem dX0_isRest_33 : decode cX0_isRest 33 = .ok (.isub, 1) := dk_100 (dk_at dksX0_isRest_1 11 rfl rfl)
theorem dX0_isRest_34 : decode cX0_isRest 34 = .ok (.invokevirtual 503, 3) := dk_182 1 247 (dk_at dksX0_isRest_1 12 rfl rfl)
theorem dX0_isRest_37 : decode cX0_isRest 37 = .ok (.aload_n 0, 1) := dk_42 (dk_at dksX0_isRest_1 15 rfl rfl)
theorem dX0_isRest_38 : decode cX0_isRest 38 = .ok (.iload_n 2, 1) := dk_28 (dk_at dksX0_isRest_1 16 rfl rfl)
theorem dX0_isRest_39 : decode cX0_isRest 39 = .ok (.iload_n 1, 1) := dk_27 (dk_at dksX0_isRest_1 17 rfl rfl)
theorem dX0_isRest_40 : decode cX0_isRest 40 = .ok (.iload_n 2, 1) := dk_28 (dk_at dksX0_isRest_1 18 rfl rfl)
theorem dX0_isRest_41 : decode cX0_isRest 41 = .ok (.iload_n 3, 1) := dk_29 (dk_at dksX0_isRest_1 19 rfl rfl)
theorem dX0_isRest_42 : decode cX0_isRest 42 = .ok (.iload 4, 2) := dk_21 4 (dk_at dksX0_isRest_1 20 rfl rfl)
theorem dX0_isRest_44 : decode cX0_isRest 44 = .ok (.invokevirtual 503, 3) := dk_182 1 247 (dk_at dksX0_isRest_2 0 rfl rfl)
theorem dX0_isRest_47 : decode cX0_isRest 47 = .ok (.if_icmp .gt 7, 3) := dk_163 0 7 (dk_at dksX0_isRest_2 3 rfl rfl)
theorem dX0_isRest_50 : decode cX0_isRest 50 = .ok (.iconst 1, 1) := dk_4 (dk_at dksX0_isRest_2 6 rfl rfl)
theorem dX0_isRest_51 : decode cX0_isRest 51 = .ok (.goto 4, 3) := dk_167 0 4 (dk_at dksX0_isRest_2 7 rfl rfl)
theorem dX0_isRest_54 : decode cX0_isRest 54 = .ok (.iconst 0, 1) := dk_3 (dk_at dksX0_isRest_2 10 rfl rfl)
theorem dX0_isRest_55 : decode cX0_isRest 55 = .ok (.ireturn, 1) := dk_172 (dk_at dksX0_isRest_2 11 rfl rfl)
abbrev cX0_getsOf : ByteArray := prog_1_method_117_code
def yX0_getsOf : MethodName := ⟨RX0, "getsOf", "(IIIII)I"⟩
def dkwX0_getsOf_2 : List UInt8 := [54, 6, 42, 42, 180, 0, 46, 180, 1, 11, 181, 1, 14, 21, 6, 172]
abbrev dktX0_getsOf_2 : List UInt8 := dkwX0_getsOf_2 ++ []
def dkwX0_getsOf_1 : List UInt8 := [182, 1, 126, 42, 4, 182, 1, 136, 100, 5, 27, 28, 160, 0, 8, 21, 4, 167, 0, 5, 21, 5, 104, 100]
abbrev dktX0_getsOf_1 : List UInt8 := dkwX0_getsOf_1 ++ dktX0_getsOf_2
def dkwX0_getsOf_0 : List UInt8 := [42, 42, 180, 0, 46, 180, 1, 11, 21, 4, 28, 120, 128, 21, 5, 29, 120, 128, 181, 1, 14, 42, 27]
abbrev dktX0_getsOf_0 : List UInt8 := dkwX0_getsOf_0 ++ dktX0_getsOf_1
theorem dksX0_getsOf_0 : cX0_getsOf.data.toList.drop 0 = dktX0_getsOf_0 := by decide +kernel
theorem dksX0_getsOf_1 : cX0_getsOf.data.toList.drop 23 = dktX0_getsOf_1 := dk_seg dksX0_getsOf_0 23 rfl rfl
theorem dksX0_getsOf_2 : cX0_getsOf.data.toList.drop 47 = dktX0_getsOf_2 := dk_seg dksX0_getsOf_1 24 rfl rfl
theorem dX0_getsOf_0 : decode cX0_getsOf 0 = .ok (.aload_n 0, 1) := dk_42 (dk_at dksX0_getsOf_0 0 rfl rfl)
theorem dX0_getsOf_1 : decode cX0_getsOf 1 = .ok (.aload_n 0, 1) := dk_42 (dk_at dksX0_getsOf_0 1 rfl rfl)
theorem dX0_getsOf_2 : decode cX0_getsOf 2 = .ok (.getfield 46, 3) := dk_180 0 46 (dk_at dksX0_getsOf_0 2 rfl rfl)
theorem dX0_getsOf_5 : decode cX0_getsOf 5 = .ok (.getfield 267, 3) := dk_180 1 11 (dk_at dksX0_getsOf_0 5 rfl rfl)
theorem dX0_getsOf_8 : decode cX0_getsOf 8 = .ok (.iload 4, 2) := dk_21 4 (dk_at dksX0_getsOf_0 8 rfl rfl)
theorem dX0_getsOf_10 : decode cX0_getsOf 10 = .ok (.iload_n 2, 1) := dk_28 (dk_at dksX0_getsOf_0 10 rfl rfl)
theorem dX0_getsOf_11 : decode cX0_getsOf 11 = .ok (.ishl, 1) := dk_120 (dk_at dksX0_getsOf_0 11 rfl rfl)
theorem dX0_getsOf_12 : decode cX0_getsOf 12 = .ok (.ior, 1) := dk_128 (dk_at dksX0_getsOf_0 12 rfl rfl)
theorem dX0_getsOf_13 : decode cX0_getsOf 13 = .ok (.iload 5, 2) := dk_21 5 (dk_at dksX0_getsOf_0 13 rfl rfl)
theorem dX0_getsOf_15 : decode cX0_getsOf 15 = .ok (.iload_n 3, 1) := dk_29 (dk_at dksX0_getsOf_0 15 rfl rfl)
theorem dX0_getsOf_16 : decode cX0_getsOf 16 = .ok (.ishl, 1) := dk_120 (dk_at dksX0_getsOf_0 16 rfl rfl)
theorem dX0_getsOf_17 : decode cX0_getsOf 17 = .ok (.ior, 1) := dk_128 (dk_at dksX0_getsOf_0 17 rfl rfl)
theorem dX0_getsOf_18 : decode cX0_getsOf 18 = .ok (.putfield 270, 3) := dk_181 1 14 (dk_at dksX0_getsOf_0 18 rfl rfl)
theorem dX0_getsOf_21 : decode cX0_getsOf 21 = .ok (.aload_n 0, 1) := dk_42 (dk_at dksX0_getsOf_0 21 rfl rfl)
theorem dX0_getsOf_22 : decode cX0_getsOf 22 = .ok (.iload_n 1, 1) := dk_27 (dk_at dksX0_getsOf_0 22 rfl rfl)
theorem dX0_getsOf_23 : decode cX0_getsOf 23 = .ok (.invokevirtual 382, 3) := dk_182 1 126 (dk_at dksX0_getsOf_1 0 rfl rfl)
theorem dX0_getsOf_26 : decode cX0_getsOf 26 = .ok (.aload_n 0, 1) := dk_42 (dk_at dksX0_getsOf_1 3 rfl rfl)
theorem dX0_getsOf_27 : decode cX0_getsOf 27 = .ok (.iconst 1, 1) := dk_4 (dk_at dksX0_getsOf_1 4 rfl rfl)
theorem dX0_getsOf_28 : decode cX0_getsOf 28 = .ok (.invokevirtual 392, 3) := dk_182 1 136 (dk_at dksX0_getsOf_1 5 rfl rfl)
theorem dX0_getsOf_31 : decode cX0_getsOf 31 = .ok (.isub, 1) := dk_100 (dk_at dksX0_getsOf_1 8 rfl rfl)
theorem dX0_getsOf_32 : decode cX0_getsOf 32 = .ok (.iconst 2, 1) := dk_5 (dk_at dksX0_getsOf_1 9 rfl rfl)
theorem dX0_getsOf_33 : decode cX0_getsOf 33 = .ok (.iload_n 1, 1) := dk_27 (dk_at dksX0_getsOf_1 10 rfl rfl)
theorem dX0_getsOf_34 : decode cX0_getsOf 34 = .ok (.iload_n 2, 1) := dk_28 (dk_at dksX0_getsOf_1 11 rfl rfl)
theorem dX0_getsOf_35 : decode cX0_getsOf 35 = .ok (.if_icmp .ne 8, 3) := dk_160 0 8 (dk_at dksX0_getsOf_1 12 rfl rfl)
theorem dX0_getsOf_38 : decode cX0_getsOf 38 = .ok (.iload 4, 2) := dk_21 4 (dk_at dksX0_getsOf_1 15 rfl rfl)
theorem dX0_getsOf_40 : decode cX0_getsOf 40 = .ok (.goto 5, 3) := dk_167 0 5 (dk_at dksX0_getsOf_1 17 rfl rfl)
theorem dX0_getsOf_43 : decode cX0_getsOf 43 = .ok (.iload 5, 2) := dk_21 5 (dk_at dksX0_getsOf_1 20 rfl rfl)
theorem dX0_getsOf_45 : decode cX0_getsOf 45 = .ok (.imul, 1) := dk_104 (dk_at dksX0_getsOf_1 22 rfl rfl)
theorem dX0_getsOf_46 : decode cX0_getsOf 46 = .ok (.isub, 1) := dk_100 (dk_at dksX0_getsOf_1 23 rfl rfl)
theorem dX0_getsOf_47 : decode cX0_getsOf 47 = .ok (.istore 6, 2) := dk_54 6 (dk_at dksX0_getsOf_2 0 rfl rfl)
theorem dX0_getsOf_49 : decode cX0_getsOf 49 = .ok (.aload_n 0, 1) := dk_42 (dk_at dksX0_getsOf_2 2 rfl rfl)
theorem dX0_getsOf_50 : decode cX0_getsOf 50 = .ok (.aload_n 0, 1) := dk_42 (dk_at dksX0_getsOf_2 3 rfl rfl)
theorem dX0_getsOf_51 : decode cX0_getsOf 51 = .ok (.getfield 46, 3) := dk_180 0 46 (dk_at dksX0_getsOf_2 4 rfl rfl)
theorem dX0_getsOf_54 : decode cX0_getsOf 54 = .ok (.getfield 267, 3) := dk_180 1 11 (dk_at dksX0_getsOf_2 7 rfl rfl)
theorem dX0_getsOf_57 : decode cX0_getsOf 57 = .ok (.putfield 270, 3) := dk_181 1 14 (dk_at dksX0_getsOf_2 10 rfl rfl)
theorem dX0_getsOf_60 : decode cX0_getsOf 60 = .ok (.iload 6, 2) := dk_21 6 (dk_at dksX0_getsOf_2 13 rfl rfl)
theorem dX0_getsOf_62 : decode cX0_getsOf 62 = .ok (.ireturn, 1) := dk_172 (dk_at dksX0_getsOf_2 15 rfl rfl)
abbrev cX0_gets : ByteArray := prog_1_method_120_code
def yX0_gets : MethodName := ⟨RX0, "gets", "(IIII)I"⟩
def dkwX0_gets_1 : List UInt8 := [42, 27, 27, 28, 29, 21, 4, 182, 1, 247, 167, 0, 6, 19, 1, 239, 172]
abbrev dktX0_gets_1 : List UInt8 := dkwX0_gets_1 ++ []
def dkwX0_gets_0 : List UInt8 := [42, 27, 28, 182, 1, 251, 153, 0, 31, 29, 184, 1, 236, 153, 0, 24, 21, 4, 184, 1, 236, 153, 0, 16]
abbrev dktX0_gets_0 : List UInt8 := dkwX0_gets_0 ++ dktX0_gets_1
theorem dksX0_gets_0 : cX0_gets.data.toList.drop 0 = dktX0_gets_0 := by decide +kernel
theorem dksX0_gets_1 : cX0_gets.data.toList.drop 24 = dktX0_gets_1 := dk_seg dksX0_gets_0 24 rfl rfl
theorem dX0_gets_0 : decode cX0_gets 0 = .ok (.aload_n 0, 1) := dk_42 (dk_at dksX0_gets_0 0 rfl rfl)
theorem dX0_gets_1 : decode cX0_gets 1 = .ok (.iload_n 1, 1) := dk_27 (dk_at dksX0_gets_0 1 rfl rfl)
theorem dX0_gets_2 : decode cX0_gets 2 = .ok (.iload_n 2, 1) := dk_28 (dk_at dksX0_gets_0 2 rfl rfl)
theorem dX0_gets_3 : decode cX0_gets 3 = .ok (.invokevirtual 507, 3) := dk_182 1 251 (dk_at dksX0_gets_0 3 rfl rfl)
theorem dX0_gets_6 : decode cX0_gets 6 = .ok (.ifCond .eq 31, 3) := dk_153 0 31 (dk_at dksX0_gets_0 6 rfl rfl)
theorem dX0_gets_9 : decode cX0_gets 9 = .ok (.iload_n 3, 1) := dk_29 (dk_at dksX0_gets_0 9 rfl rfl)
theorem dX0_gets_10 : decode cX0_gets 10 = .ok (.invokestatic 492, 3) := dk_184 1 236 (dk_at dksX0_gets_0 10 rfl rfl)
theorem dX0_gets_13 : decode cX0_gets 13 = .ok (.ifCond .eq 24, 3) := dk_153 0 24 (dk_at dksX0_gets_0 13 rfl rfl)
theorem dX0_gets_16 : decode cX0_gets 16 = .ok (.iload 4, 2) := dk_21 4 (dk_at dksX0_gets_0 16 rfl rfl)
theorem dX0_gets_18 : decode cX0_gets 18 = .ok (.invokestatic 492, 3) := dk_184 1 236 (dk_at dksX0_gets_0 18 rfl rfl)
theorem dX0_gets_21 : decode cX0_gets 21 = .ok (.ifCond .eq 16, 3) := dk_153 0 16 (dk_at dksX0_gets_0 21 rfl rfl)
theorem dX0_gets_24 : decode cX0_gets 24 = .ok (.aload_n 0, 1) := dk_42 (dk_at dksX0_gets_1 0 rfl rfl)
theorem dX0_gets_25 : decode cX0_gets 25 = .ok (.iload_n 1, 1) := dk_27 (dk_at dksX0_gets_1 1 rfl rfl)
theorem dX0_gets_26 : decode cX0_gets 26 = .ok (.iload_n 1, 1) := dk_27 (dk_at dksX0_gets_1 2 rfl rfl)
theorem dX0_gets_27 : decode cX0_gets 27 = .ok (.iload_n 2, 1) := dk_28 (dk_at dksX0_gets_1 3 rfl rfl)
theorem dX0_gets_28 : decode cX0_gets 28 = .ok (.iload_n 3, 1) := dk_29 (dk_at dksX0_gets_1 4 rfl rfl)
theorem dX0_gets_29 : decode cX0_gets 29 = .ok (.iload 4, 2) := dk_21 4 (dk_at dksX0_gets_1 5 rfl rfl)
theorem dX0_gets_31 : decode cX0_gets 31 = .ok (.invokevirtual 503, 3) := dk_182 1 247 (dk_at dksX0_gets_1 7 rfl rfl)
theorem dX0_gets_34 : decode cX0_gets 34 = .ok (.goto 6, 3) := dk_167 0 6 (dk_at dksX0_gets_1 10 rfl rfl)
theorem dX0_gets_37 : decode cX0_gets 37 = .ok (.ldc_w 495, 3) := dk_19 1 239 (dk_at dksX0_gets_1 13 rfl rfl)
theorem dX0_gets_40 : decode cX0_gets 40 = .ok (.ireturn, 1) := dk_172 (dk_at dksX0_gets_1 16 rfl rfl)
abbrev cX0_chance : ByteArray := prog_1_method_123_code
def yX0_chance : MethodName := ⟨RX0, "chance", "(I)J"⟩
def dkwX0_chance_2 : List UInt8 := [184, 1, 243, 167, 0, 6, 20, 2, 16, 173]
abbrev dktX0_chance_2 : List UInt8 := dkwX0_chance_2 ++ []
def dkwX0_chance_1 : List UInt8 := [182, 2, 10, 20, 2, 14, 42, 180, 0, 46, 180, 0, 222, 185, 0, 225, 1, 0, 184, 2, 2, 27]
abbrev dktX0_chance_1 : List UInt8 := dkwX0_chance_1 ++ dktX0_chance_2
def dkwX0_chance_0 : List UInt8 := [42, 180, 0, 46, 182, 0, 200, 153, 0, 45, 27, 184, 1, 236, 153, 0, 38, 42, 42, 186, 2, 9, 0, 0]
abbrev dktX0_chance_0 : List UInt8 := dkwX0_chance_0 ++ dktX0_chance_1
theorem dksX0_chance_0 : cX0_chance.data.toList.drop 0 = dktX0_chance_0 := by decide +kernel
theorem dksX0_chance_1 : cX0_chance.data.toList.drop 24 = dktX0_chance_1 := dk_seg dksX0_chance_0 24 rfl rfl
theorem dksX0_chance_2 : cX0_chance.data.toList.drop 46 = dktX0_chance_2 := dk_seg dksX0_chance_1 22 rfl rfl
theorem dX0_chance_0 : decode cX0_chance 0 = .ok (.aload_n 0, 1) := dk_42 (dk_at dksX0_chance_0 0 rfl rfl)
theorem dX0_chance_1 : decode cX0_chance 1 = .ok (.getfield 46, 3) := dk_180 0 46 (dk_at dksX0_chance_0 1 rfl rfl)
theorem dX0_chance_4 : decode cX0_chance 4 = .ok (.invokevirtual 200, 3) := dk_182 0 200 (dk_at dksX0_chance_0 4 rfl rfl)
theorem dX0_chance_7 : decode cX0_chance 7 = .ok (.ifCond .eq 45, 3) := dk_153 0 45 (dk_at dksX0_chance_0 7 rfl rfl)
theorem dX0_chance_10 : decode cX0_chance 10 = .ok (.iload_n 1, 1) := dk_27 (dk_at dksX0_chance_0 10 rfl rfl)
theorem dX0_chance_11 : decode cX0_chance 11 = .ok (.invokestatic 492, 3) := dk_184 1 236 (dk_at dksX0_chance_0 11 rfl rfl)
theorem dX0_chance_14 : decode cX0_chance 14 = .ok (.ifCond .eq 38, 3) := dk_153 0 38 (dk_at dksX0_chance_0 14 rfl rfl)
theorem dX0_chance_17 : decode cX0_chance 17 = .ok (.aload_n 0, 1) := dk_42 (dk_at dksX0_chance_0 17 rfl rfl)
theorem dX0_chance_18 : decode cX0_chance 18 = .ok (.aload_n 0, 1) := dk_42 (dk_at dksX0_chance_0 18 rfl rfl)
theorem dX0_chance_19 : decode cX0_chance 19 = .ok (.invokedynamic 521, 5) := by decide +kernel
theorem dX0_chance_24 : decode cX0_chance 24 = .ok (.invokevirtual 522, 3) := dk_182 2 10 (dk_at dksX0_chance_1 0 rfl rfl)
theorem dX0_chance_27 : decode cX0_chance 27 = .ok (.ldc2_w 526, 3) := dk_20 2 14 (dk_at dksX0_chance_1 3 rfl rfl)
theorem dX0_chance_30 : decode cX0_chance 30 = .ok (.aload_n 0, 1) := dk_42 (dk_at dksX0_chance_1 6 rfl rfl)
theorem dX0_chance_31 : decode cX0_chance 31 = .ok (.getfield 46, 3) := dk_180 0 46 (dk_at dksX0_chance_1 7 rfl rfl)
theorem dX0_chance_34 : decode cX0_chance 34 = .ok (.getfield 222, 3) := dk_180 0 222 (dk_at dksX0_chance_1 10 rfl rfl)
theorem dX0_chance_37 : decode cX0_chance 37 = .ok (.invokeinterface 225 1, 5) := by decide +kernel
theorem dX0_chance_42 : decode cX0_chance 42 = .ok (.invokestatic 514, 3) := dk_184 2 2 (dk_at dksX0_chance_1 18 rfl rfl)
theorem dX0_chance_45 : decode cX0_chance 45 = .ok (.iload_n 1, 1) := dk_27 (dk_at dksX0_chance_1 21 rfl rfl)
theorem dX0_chance_46 : decode cX0_chance 46 = .ok (.invokestatic 499, 3) := dk_184 1 243 (dk_at dksX0_chance_2 0 rfl rfl)
theorem dX0_chance_49 : decode cX0_chance 49 = .ok (.goto 6, 3) := dk_167 0 6 (dk_at dksX0_chance_2 3 rfl rfl)
theorem dX0_chance_52 : decode cX0_chance 52 = .ok (.ldc2_w 528, 3) := dk_20 2 16 (dk_at dksX0_chance_2 6 rfl rfl)
theorem dX0_chance_55 : decode cX0_chance 55 = .ok (.lreturn, 1) := dk_173 (dk_at dksX0_chance_2 9 rfl rfl)
abbrev cX0_lambda_chance_21 : ByteArray := prog_1_method_144_code
def yX0_lambda_chance_21 : MethodName := ⟨RX0, "lambda$chance$21", "()I"⟩
def dkwX0_lambda_chance_21_0 : List UInt8 := [42, 4, 182, 1, 146, 153, 0, 7, 4, 167, 0, 4, 3, 172]
abbrev dktX0_lambda_chance_21_0 : List UInt8 := dkwX0_lambda_chance_21_0 ++ []
theorem dksX0_lambda_chance_21_0 : cX0_lambda_chance_21.data.toList.drop 0 = dktX0_lambda_chance_21_0 := by decide +kernel
theorem dX0_lambda_chance_21_0 : decode cX0_lambda_chance_21 0 = .ok (.aload_n 0, 1) := dk_42 (dk_at dksX0_lambda_chance_21_0 0 rfl rfl)
theorem dX0_lambda_chance_21_1 : decode cX0_lambda_chance_21 1 = .ok (.iconst 1, 1) := dk_4 (dk_at dksX0_lambda_chance_21_0 1 rfl rfl)
theorem dX0_lambda_chance_21_2 : decode cX0_lambda_chance_21 2 = .ok (.invokevirtual 402, 3) := dk_182 1 146 (dk_at dksX0_lambda_chance_21_0 2 rfl rfl)
theorem dX0_lambda_chance_21_5 : decode cX0_lambda_chance_21 5 = .ok (.ifCond .eq 7, 3) := dk_153 0 7 (dk_at dksX0_lambda_chance_21_0 5 rfl rfl)
theorem dX0_lambda_chance_21_8 : decode cX0_lambda_chance_21 8 = .ok (.iconst 1, 1) := dk_4 (dk_at dksX0_lambda_chance_21_0 8 rfl rfl)
theorem dX0_lambda_chance_21_9 : decode cX0_lambda_chance_21 9 = .ok (.goto 4, 3) := dk_167 0 4 (dk_at dksX0_lambda_chance_21_0 9 rfl rfl)
theorem dX0_lambda_chance_21_12 : decode cX0_lambda_chance_21 12 = .ok (.iconst 0, 1) := dk_3 (dk_at dksX0_lambda_chance_21_0 12 rfl rfl)
theorem dX0_lambda_chance_21_13 : decode cX0_lambda_chance_21 13 = .ok (.ireturn, 1) := dk_172 (dk_at dksX0_lambda_chance_21_0 13 rfl rfl)
abbrev cX0_sum : ByteArray := prog_1_method_122_code
def yX0_sum : MethodName := ⟨RX0, "sum", "(LMergeJudge$Answer;)J"⟩
def dkwX0_sum_3 : List UInt8 := [21, 4, 2, 130, 126, 43, 182, 1, 84, 133, 105, 97, 65, 132, 4, 1, 167, 255, 176, 32, 173]
abbrev dktX0_sum_3 : List UInt8 := dkwX0_sum_3 ++ []
def dkwX0_sum_2 : List UInt8 := [180, 0, 222, 185, 0, 225, 1, 0, 21, 4, 184, 1, 185, 100, 184, 2, 2, 105, 42, 42, 182, 1, 78]
abbrev dktX0_sum_2 : List UInt8 := dkwX0_sum_2 ++ dktX0_sum_3
def dkwX0_sum_1 : List UInt8 := [21, 4, 184, 1, 185, 184, 2, 2, 16, 10, 42, 180, 0, 46, 180, 2, 6, 100, 133, 42, 180, 0, 46]
abbrev dktX0_sum_1 : List UInt8 := dkwX0_sum_1 ++ dktX0_sum_2
def dkwX0_sum_0 : List UInt8 := [9, 65, 3, 54, 4, 21, 4, 42, 182, 1, 78, 163, 0, 77, 32, 42, 180, 0, 46, 180, 2, 6, 133]
abbrev dktX0_sum_0 : List UInt8 := dkwX0_sum_0 ++ dktX0_sum_1
theorem dksX0_sum_0 : cX0_sum.data.toList.drop 0 = dktX0_sum_0 := by decide +kernel
theorem dksX0_sum_1 : cX0_sum.data.toList.drop 23 = dktX0_sum_1 := dk_seg dksX0_sum_0 23 rfl rfl
theorem dksX0_sum_2 : cX0_sum.data.toList.drop 46 = dktX0_sum_2 := dk_seg dksX0_sum_1 23 rfl rfl
theorem dksX0_sum_3 : cX0_sum.data.toList.drop 69 = dktX0_sum_3 := dk_seg dksX0_sum_2 23 rfl rfl
theorem dX0_sum_0 : decode cX0_sum 0 = .ok (.lconst 0, 1) := dk_9 (dk_at dksX0_sum_0 0 rfl rfl)
theorem dX0_sum_1 : decode cX0_sum 1 = .ok (.lstore_n 2, 1) := dk_65 (dk_at dksX0_sum_0 1 rfl rfl)
theorem dX0_sum_2 : decode cX0_sum 2 = .ok (.iconst 0, 1) := dk_3 (dk_at dksX0_sum_0 2 rfl rfl)
theorem dX0_sum_3 : decode cX0_sum 3 = .ok (.istore 4, 2) := dk_54 4 (dk_at dksX0_sum_0 3 rfl rfl)
theorem dX0_sum_5 : decode cX0_sum 5 = .ok (.iload 4, 2) := dk_21 4 (dk_at dksX0_sum_0 5 rfl rfl)
theorem dX0_sum_7 : decode cX0_sum 7 = .ok (.aload_n 0, 1) := dk_42 (dk_at dksX0_sum_0 7 rfl rfl)
theorem dX0_sum_8 : decode cX0_sum 8 = .ok (.invokevirtual 334, 3) := dk_182 1 78 (dk_at dksX0_sum_0 8 rfl rfl)
theorem dX0_sum_11 : decode cX0_sum 11 = .ok (.if_icmp .gt 77, 3) := dk_163 0 77 (dk_at dksX0_sum_0 11 rfl rfl)
theorem dX0_sum_14 : decode cX0_sum 14 = .ok (.lload_n 2, 1) := dk_32 (dk_at dksX0_sum_0 14 rfl rfl)
theorem dX0_sum_15 : decode cX0_sum 15 = .ok (.aload_n 0, 1) := dk_42 (dk_at dksX0_sum_0 15 rfl rfl)
theorem dX0_sum_16 : decode cX0_sum 16 = .ok (.getfield 46, 3) := dk_180 0 46 (dk_at dksX0_sum_0 16 rfl rfl)
theorem dX0_sum_19 : decode cX0_sum 19 = .ok (.getfield 518, 3) := dk_180 2 6 (dk_at dksX0_sum_0 19 rfl rfl)
theorem dX0_sum_22 : decode cX0_sum 22 = .ok (.i2l, 1) := dk_133 (dk_at dksX0_sum_0 22 rfl rfl)
theorem dX0_sum_23 : decode cX0_sum 23 = .ok (.iload 4, 2) := dk_21 4 (dk_at dksX0_sum_1 0 rfl rfl)
theorem dX0_sum_25 : decode cX0_sum 25 = .ok (.invokestatic 441, 3) := dk_184 1 185 (dk_at dksX0_sum_1 2 rfl rfl)
theorem dX0_sum_28 : decode cX0_sum 28 = .ok (.invokestatic 514, 3) := dk_184 2 2 (dk_at dksX0_sum_1 5 rfl rfl)
theorem dX0_sum_31 : decode cX0_sum 31 = .ok (.bipush 10, 2) := dk_16 10 (dk_at dksX0_sum_1 8 rfl rfl)
theorem dX0_sum_33 : decode cX0_sum 33 = .ok (.aload_n 0, 1) := dk_42 (dk_at dksX0_sum_1 10 rfl rfl)
theorem dX0_sum_34 : decode cX0_sum 34 = .ok (.getfield 46, 3) := dk_180 0 46 (dk_at dksX0_sum_1 11 rfl rfl)
theorem dX0_sum_37 : decode cX0_sum 37 = .ok (.getfield 518, 3) := dk_180 2 6 (dk_at dksX0_sum_1 14 rfl rfl)
theorem dX0_sum_40 : decode cX0_sum 40 = .ok (.isub, 1) := dk_100 (dk_at dksX0_sum_1 17 rfl rfl)
theorem dX0_sum_41 : decode cX0_sum 41 = .ok (.i2l, 1) := dk_133 (dk_at dksX0_sum_1 18 rfl rfl)
theorem dX0_sum_42 : decode cX0_sum 42 = .ok (.aload_n 0, 1) := dk_42 (dk_at dksX0_sum_1 19 rfl rfl)
theorem dX0_sum_43 : decode cX0_sum 43 = .ok (.getfield 46, 3) := dk_180 0 46 (dk_at dksX0_sum_1 20 rfl rfl)
theorem dX0_sum_46 : decode cX0_sum 46 = .ok (.getfield 222, 3) := dk_180 0 222 (dk_at dksX0_sum_2 0 rfl rfl)
theorem dX0_sum_49 : decode cX0_sum 49 = .ok (.invokeinterface 225 1, 5) := by decide +kernel
theorem dX0_sum_54 : decode cX0_sum 54 = .ok (.iload 4, 2) := dk_21 4 (dk_at dksX0_sum_2 8 rfl rfl)
theorem dX0_sum_56 : decode cX0_sum 56 = .ok (.invokestatic 441, 3) := dk_184 1 185 (dk_at dksX0_sum_2 10 rfl rfl)
theorem dX0_sum_59 : decode cX0_sum 59 = .ok (.isub, 1) := dk_100 (dk_at dksX0_sum_2 13 rfl rfl)
theorem dX0_sum_60 : decode cX0_sum 60 = .ok (.invokestatic 514, 3) := dk_184 2 2 (dk_at dksX0_sum_2 14 rfl rfl)
theorem dX0_sum_63 : decode cX0_sum 63 = .ok (.lmul, 1) := dk_105 (dk_at dksX0_sum_2 17 rfl rfl)
theorem dX0_sum_64 : decode cX0_sum 64 = .ok (.aload_n 0, 1) := dk_42 (dk_at dksX0_sum_2 18 rfl rfl)
theorem dX0_sum_65 : decode cX0_sum 65 = .ok (.aload_n 0, 1) := dk_42 (dk_at dksX0_sum_2 19 rfl rfl)
theorem dX0_sum_66 : decode cX0_sum 66 = .ok (.invokevirtual 334, 3) := dk_182 1 78 (dk_at dksX0_sum_2 20 rfl rfl)
theorem dX0_sum_69 : decode cX0_sum 69 = .ok (.iload 4, 2) := dk_21 4 (dk_at dksX0_sum_3 0 rfl rfl)
theorem dX0_sum_71 : decode cX0_sum 71 = .ok (.iconst (-1), 1) := dk_2 (dk_at dksX0_sum_3 2 rfl rfl)
theorem dX0_sum_72 : decode cX0_sum 72 = .ok (.ixor, 1) := dk_130 (dk_at dksX0_sum_3 3 rfl rfl)
theorem dX0_sum_73 : decode cX0_sum 73 = .ok (.iand, 1) := dk_126 (dk_at dksX0_sum_3 4 rfl rfl)
theorem dX0_sum_74 : decode cX0_sum 74 = .ok (.aload_n 1, 1) := dk_43 (dk_at dksX0_sum_3 5 rfl rfl)
theorem dX0_sum_75 : decode cX0_sum 75 = .ok (.invokevirtual 340, 3) := dk_182 1 84 (dk_at dksX0_sum_3 6 rfl rfl)
theorem dX0_sum_78 : decode cX0_sum 78 = .ok (.i2l, 1) := dk_133 (dk_at dksX0_sum_3 9 rfl rfl)
theorem dX0_sum_79 : decode cX0_sum 79 = .ok (.lmul, 1) := dk_105 (dk_at dksX0_sum_3 10 rfl rfl)
theorem dX0_sum_80 : decode cX0_sum 80 = .ok (.ladd, 1) := dk_97 (dk_at dksX0_sum_3 11 rfl rfl)
theorem dX0_sum_81 : decode cX0_sum 81 = .ok (.lstore_n 2, 1) := dk_65 (dk_at dksX0_sum_3 12 rfl rfl)
theorem dX0_sum_82 : decode cX0_sum 82 = .ok (.iinc 4 1, 3) := dk_132 4 1 (dk_at dksX0_sum_3 13 rfl rfl)
theorem dX0_sum_85 : decode cX0_sum 85 = .ok (.goto (-80), 3) := dk_167 255 176 (dk_at dksX0_sum_3 16 rfl rfl)
theorem dX0_sum_88 : decode cX0_sum 88 = .ok (.lload_n 2, 1) := dk_32 (dk_at dksX0_sum_3 19 rfl rfl)
theorem dX0_sum_89 : decode cX0_sum 89 = .ok (.lreturn, 1) := dk_173 (dk_at dksX0_sum_3 20 rfl rfl)
abbrev cX0_power : ByteArray := prog_1_method_121_code
def yX0_power : MethodName := ⟨RX0, "power", "(JI)J"⟩
def dkwX0_power_0 : List UInt8 := [28, 154, 0, 7, 10, 167, 0, 12, 30, 30, 28, 4, 100, 184, 2, 2, 105, 173]
abbrev dktX0_power_0 : List UInt8 := dkwX0_power_0 ++ []
theorem dksX0_power_0 : cX0_power.data.toList.drop 0 = dktX0_power_0 := by decide +kernel
theorem dX0_power_0 : decode cX0_power 0 = .ok (.iload_n 2, 1) := dk_28 (dk_at dksX0_power_0 0 rfl rfl)
theorem dX0_power_1 : decode cX0_power 1 = .ok (.ifCond .ne 7, 3) := dk_154 0 7 (dk_at dksX0_power_0 1 rfl rfl)
theorem dX0_power_4 : decode cX0_power 4 = .ok (.lconst 1, 1) := dk_10 (dk_at dksX0_power_0 4 rfl rfl)
theorem dX0_power_5 : decode cX0_power 5 = .ok (.goto 12, 3) := dk_167 0 12 (dk_at dksX0_power_0 5 rfl rfl)
theorem dX0_power_8 : decode cX0_power 8 = .ok (.lload_n 0, 1) := dk_30 (dk_at dksX0_power_0 8 rfl rfl)
theorem dX0_power_9 : decode cX0_power 9 = .ok (.lload_n 0, 1) := dk_30 (dk_at dksX0_power_0 9 rfl rfl)
theorem dX0_power_10 : decode cX0_power 10 = .ok (.iload_n 2, 1) := dk_28 (dk_at dksX0_power_0 10 rfl rfl)
theorem dX0_power_11 : decode cX0_power 11 = .ok (.iconst 1, 1) := dk_4 (dk_at dksX0_power_0 11 rfl rfl)
theorem dX0_power_12 : decode cX0_power 12 = .ok (.isub, 1) := dk_100 (dk_at dksX0_power_0 12 rfl rfl)
theorem dX0_power_13 : decode cX0_power 13 = .ok (.invokestatic 514, 3) := dk_184 2 2 (dk_at dksX0_power_0 13 rfl rfl)
theorem dX0_power_16 : decode cX0_power 16 = .ok (.lmul, 1) := dk_105 (dk_at dksX0_power_0 16 rfl rfl)
theorem dX0_power_17 : decode cX0_power 17 = .ok (.lreturn, 1) := dk_173 (dk_at dksX0_power_0 17 rfl rfl)
abbrev cX0_mean : ByteArray := prog_1_method_124_code
def yX0_mean : MethodName := ⟨RX0, "mean", "(I)J"⟩
def dkwX0_mean_2 : List UInt8 := [184, 1, 243, 167, 0, 6, 20, 2, 16, 173]
abbrev dktX0_mean_2 : List UInt8 := dkwX0_mean_2 ++ []
def dkwX0_mean_1 : List UInt8 := [182, 2, 10, 20, 2, 14, 42, 180, 0, 46, 180, 0, 222, 185, 0, 225, 1, 0, 184, 2, 2, 27]
abbrev dktX0_mean_1 : List UInt8 := dkwX0_mean_1 ++ dktX0_mean_2
def dkwX0_mean_0 : List UInt8 := [42, 180, 0, 46, 182, 0, 200, 153, 0, 45, 27, 184, 1, 236, 153, 0, 38, 42, 42, 186, 1, 81, 0, 0]
abbrev dktX0_mean_0 : List UInt8 := dkwX0_mean_0 ++ dktX0_mean_1
theorem dksX0_mean_0 : cX0_mean.data.toList.drop 0 = dktX0_mean_0 := by decide +kernel
theorem dksX0_mean_1 : cX0_mean.data.toList.drop 24 = dktX0_mean_1 := dk_seg dksX0_mean_0 24 rfl rfl
theorem dksX0_mean_2 : cX0_mean.data.toList.drop 46 = dktX0_mean_2 := dk_seg dksX0_mean_1 22 rfl rfl
theorem dX0_mean_0 : decode cX0_mean 0 = .ok (.aload_n 0, 1) := dk_42 (dk_at dksX0_mean_0 0 rfl rfl)
theorem dX0_mean_1 : decode cX0_mean 1 = .ok (.getfield 46, 3) := dk_180 0 46 (dk_at dksX0_mean_0 1 rfl rfl)
theorem dX0_mean_4 : decode cX0_mean 4 = .ok (.invokevirtual 200, 3) := dk_182 0 200 (dk_at dksX0_mean_0 4 rfl rfl)
theorem dX0_mean_7 : decode cX0_mean 7 = .ok (.ifCond .eq 45, 3) := dk_153 0 45 (dk_at dksX0_mean_0 7 rfl rfl)
theorem dX0_mean_10 : decode cX0_mean 10 = .ok (.iload_n 1, 1) := dk_27 (dk_at dksX0_mean_0 10 rfl rfl)
theorem dX0_mean_11 : decode cX0_mean 11 = .ok (.invokestatic 492, 3) := dk_184 1 236 (dk_at dksX0_mean_0 11 rfl rfl)
theorem dX0_mean_14 : decode cX0_mean 14 = .ok (.ifCond .eq 38, 3) := dk_153 0 38 (dk_at dksX0_mean_0 14 rfl rfl)
theorem dX0_mean_17 : decode cX0_mean 17 = .ok (.aload_n 0, 1) := dk_42 (dk_at dksX0_mean_0 17 rfl rfl)
theorem dX0_mean_18 : decode cX0_mean 18 = .ok (.aload_n 0, 1) := dk_42 (dk_at dksX0_mean_0 18 rfl rfl)
theorem dX0_mean_19 : decode cX0_mean 19 = .ok (.invokedynamic 337, 5) := by decide +kernel
theorem dX0_mean_24 : decode cX0_mean 24 = .ok (.invokevirtual 522, 3) := dk_182 2 10 (dk_at dksX0_mean_1 0 rfl rfl)
theorem dX0_mean_27 : decode cX0_mean 27 = .ok (.ldc2_w 526, 3) := dk_20 2 14 (dk_at dksX0_mean_1 3 rfl rfl)
theorem dX0_mean_30 : decode cX0_mean 30 = .ok (.aload_n 0, 1) := dk_42 (dk_at dksX0_mean_1 6 rfl rfl)
theorem dX0_mean_31 : decode cX0_mean 31 = .ok (.getfield 46, 3) := dk_180 0 46 (dk_at dksX0_mean_1 7 rfl rfl)
theorem dX0_mean_34 : decode cX0_mean 34 = .ok (.getfield 222, 3) := dk_180 0 222 (dk_at dksX0_mean_1 10 rfl rfl)
theorem dX0_mean_37 : decode cX0_mean 37 = .ok (.invokeinterface 225 1, 5) := by decide +kernel
theorem dX0_mean_42 : decode cX0_mean 42 = .ok (.invokestatic 514, 3) := dk_184 2 2 (dk_at dksX0_mean_1 18 rfl rfl)
theorem dX0_mean_45 : decode cX0_mean 45 = .ok (.iload_n 1, 1) := dk_27 (dk_at dksX0_mean_1 21 rfl rfl)
theorem dX0_mean_46 : decode cX0_mean 46 = .ok (.invokestatic 499, 3) := dk_184 1 243 (dk_at dksX0_mean_2 0 rfl rfl)
theorem dX0_mean_49 : decode cX0_mean 49 = .ok (.goto 6, 3) := dk_167 0 6 (dk_at dksX0_mean_2 3 rfl rfl)
theorem dX0_mean_52 : decode cX0_mean 52 = .ok (.ldc2_w 528, 3) := dk_20 2 16 (dk_at dksX0_mean_2 6 rfl rfl)
theorem dX0_mean_55 : decode cX0_mean 55 = .ok (.lreturn, 1) := dk_173 (dk_at dksX0_mean_2 9 rfl rfl)
abbrev cX0_drawn : ByteArray := prog_1_method_127_code
def yX0_drawn : MethodName := ⟨RX0, "drawn", "(II)I"⟩
def dkwX0_drawn_2 : List UInt8 := [2, 130, 126, 42, 186, 2, 35, 0, 0, 182, 1, 84, 172]
abbrev dktX0_drawn_2 : List UInt8 := dkwX0_drawn_2 ++ []
def dkwX0_drawn_1 : List UInt8 := [16, 254, 172, 42, 27, 133, 182, 2, 31, 62, 28, 154, 0, 7, 29, 167, 0, 21, 42, 42, 182, 1, 78, 29]
abbrev dktX0_drawn_1 : List UInt8 := dkwX0_drawn_1 ++ dktX0_drawn_2
def dkwX0_drawn_0 : List UInt8 := [42, 180, 0, 46, 182, 0, 200, 153, 0, 17, 27, 184, 2, 28, 153, 0, 10, 28, 184, 1, 236, 154, 0, 6]
abbrev dktX0_drawn_0 : List UInt8 := dkwX0_drawn_0 ++ dktX0_drawn_1
theorem dksX0_drawn_0 : cX0_drawn.data.toList.drop 0 = dktX0_drawn_0 := by decide +kernel
theorem dksX0_drawn_1 : cX0_drawn.data.toList.drop 24 = dktX0_drawn_1 := dk_seg dksX0_drawn_0 24 rfl rfl
theorem dksX0_drawn_2 : cX0_drawn.data.toList.drop 48 = dktX0_drawn_2 := dk_seg dksX0_drawn_1 24 rfl rfl
theorem dX0_drawn_0 : decode cX0_drawn 0 = .ok (.aload_n 0, 1) := dk_42 (dk_at dksX0_drawn_0 0 rfl rfl)
theorem dX0_drawn_1 : decode cX0_drawn 1 = .ok (.getfield 46, 3) := dk_180 0 46 (dk_at dksX0_drawn_0 1 rfl rfl)
theorem dX0_drawn_4 : decode cX0_drawn 4 = .ok (.invokevirtual 200, 3) := dk_182 0 200 (dk_at dksX0_drawn_0 4 rfl rfl)
theorem dX0_drawn_7 : decode cX0_drawn 7 = .ok (.ifCond .eq 17, 3) := dk_153 0 17 (dk_at dksX0_drawn_0 7 rfl rfl)
theorem dX0_drawn_10 : decode cX0_drawn 10 = .ok (.iload_n 1, 1) := dk_27 (dk_at dksX0_drawn_0 10 rfl rfl)
theorem dX0_drawn_11 : decode cX0_drawn 11 = .ok (.invokestatic 540, 3) := dk_184 2 28 (dk_at dksX0_drawn_0 11 rfl rfl)
theorem dX0_drawn_14 : decode cX0_drawn 14 = .ok (.ifCond .eq 10, 3) := dk_153 0 10 (dk_at dksX0_drawn_0 14 rfl rfl)
theorem dX0_drawn_17 : decode cX0_drawn 17 = .ok (.iload_n 2, 1) := dk_28 (dk_at dksX0_drawn_0 17 rfl rfl)
theorem dX0_drawn_18 : decode cX0_drawn 18 = .ok (.invokestatic 492, 3) := dk_184 1 236 (dk_at dksX0_drawn_0 18 rfl rfl)
theorem dX0_drawn_21 : decode cX0_drawn 21 = .ok (.ifCond .ne 6, 3) := dk_154 0 6 (dk_at dksX0_drawn_0 21 rfl rfl)
theorem dX0_drawn_24 : decode cX0_drawn 24 = .ok (.bipush (-2), 2) := dk_16 254 (dk_at dksX0_drawn_1 0 rfl rfl)
theorem dX0_drawn_26 : decode cX0_drawn 26 = .ok (.ireturn, 1) := dk_172 (dk_at dksX0_drawn_1 2 rfl rfl)
theorem dX0_drawn_27 : decode cX0_drawn 27 = .ok (.aload_n 0, 1) := dk_42 (dk_at dksX0_drawn_1 3 rfl rfl)
theorem dX0_drawn_28 : decode cX0_drawn 28 = .ok (.iload_n 1, 1) := dk_27 (dk_at dksX0_drawn_1 4 rfl rfl)
theorem dX0_drawn_29 : decode cX0_drawn 29 = .ok (.i2l, 1) := dk_133 (dk_at dksX0_drawn_1 5 rfl rfl)
theorem dX0_drawn_30 : decode cX0_drawn 30 = .ok (.invokevirtual 543, 3) := dk_182 2 31 (dk_at dksX0_drawn_1 6 rfl rfl)
theorem dX0_drawn_33 : decode cX0_drawn 33 = .ok (.istore_n 3, 1) := dk_62 (dk_at dksX0_drawn_1 9 rfl rfl)
theorem dX0_drawn_34 : decode cX0_drawn 34 = .ok (.iload_n 2, 1) := dk_28 (dk_at dksX0_drawn_1 10 rfl rfl)
theorem dX0_drawn_35 : decode cX0_drawn 35 = .ok (.ifCond .ne 7, 3) := dk_154 0 7 (dk_at dksX0_drawn_1 11 rfl rfl)
theorem dX0_drawn_38 : decode cX0_drawn 38 = .ok (.iload_n 3, 1) := dk_29 (dk_at dksX0_drawn_1 14 rfl rfl)
theorem dX0_drawn_39 : decode cX0_drawn 39 = .ok (.goto 21, 3) := dk_167 0 21 (dk_at dksX0_drawn_1 15 rfl rfl)
theorem dX0_drawn_42 : decode cX0_drawn 42 = .ok (.aload_n 0, 1) := dk_42 (dk_at dksX0_drawn_1 18 rfl rfl)
theorem dX0_drawn_43 : decode cX0_drawn 43 = .ok (.aload_n 0, 1) := dk_42 (dk_at dksX0_drawn_1 19 rfl rfl)
theorem dX0_drawn_44 : decode cX0_drawn 44 = .ok (.invokevirtual 334, 3) := dk_182 1 78 (dk_at dksX0_drawn_1 20 rfl rfl)
theorem dX0_drawn_47 : decode cX0_drawn 47 = .ok (.iload_n 3, 1) := dk_29 (dk_at dksX0_drawn_1 23 rfl rfl)
theorem dX0_drawn_48 : decode cX0_drawn 48 = .ok (.iconst (-1), 1) := dk_2 (dk_at dksX0_drawn_2 0 rfl rfl)
theorem dX0_drawn_49 : decode cX0_drawn 49 = .ok (.ixor, 1) := dk_130 (dk_at dksX0_drawn_2 1 rfl rfl)
theorem dX0_drawn_50 : decode cX0_drawn 50 = .ok (.iand, 1) := dk_126 (dk_at dksX0_drawn_2 2 rfl rfl)
theorem dX0_drawn_51 : decode cX0_drawn 51 = .ok (.aload_n 0, 1) := dk_42 (dk_at dksX0_drawn_2 3 rfl rfl)
theorem dX0_drawn_52 : decode cX0_drawn 52 = .ok (.invokedynamic 547, 5) := by decide +kernel
theorem dX0_drawn_57 : decode cX0_drawn 57 = .ok (.invokevirtual 340, 3) := dk_182 1 84 (dk_at dksX0_drawn_2 9 rfl rfl)
theorem dX0_drawn_60 : decode cX0_drawn 60 = .ok (.ireturn, 1) := dk_172 (dk_at dksX0_drawn_2 12 rfl rfl)
abbrev cX0_isSeed : ByteArray := prog_1_method_126_code
def yX0_isSeed : MethodName := ⟨RX0, "isSeed", "(I)Z"⟩
def dkwX0_isSeed_0 : List UInt8 := [26, 133, 9, 20, 2, 26, 184, 0, 11, 172]
abbrev dktX0_isSeed_0 : List UInt8 := dkwX0_isSeed_0 ++ []
theorem dksX0_isSeed_0 : cX0_isSeed.data.toList.drop 0 = dktX0_isSeed_0 := by decide +kernel
theorem dX0_isSeed_0 : decode cX0_isSeed 0 = .ok (.iload_n 0, 1) := dk_26 (dk_at dksX0_isSeed_0 0 rfl rfl)
theorem dX0_isSeed_1 : decode cX0_isSeed 1 = .ok (.i2l, 1) := dk_133 (dk_at dksX0_isSeed_0 1 rfl rfl)
theorem dX0_isSeed_2 : decode cX0_isSeed 2 = .ok (.lconst 0, 1) := dk_9 (dk_at dksX0_isSeed_0 2 rfl rfl)
theorem dX0_isSeed_3 : decode cX0_isSeed 3 = .ok (.ldc2_w 538, 3) := dk_20 2 26 (dk_at dksX0_isSeed_0 3 rfl rfl)
theorem dX0_isSeed_6 : decode cX0_isSeed 6 = .ok (.invokestatic 11, 3) := dk_184 0 11 (dk_at dksX0_isSeed_0 6 rfl rfl)
theorem dX0_isSeed_9 : decode cX0_isSeed 9 = .ok (.ireturn, 1) := dk_172 (dk_at dksX0_isSeed_0 9 rfl rfl)
abbrev cX0_drawsOf : ByteArray := prog_1_method_125_code
def yX0_drawsOf : MethodName := ⟨RX0, "drawsOf", "(J)I"⟩
def dkwX0_drawsOf_3 : List UInt8 := [167, 0, 4, 3, 128, 62, 132, 6, 1, 167, 255, 187, 29, 172]
abbrev dktX0_drawsOf_3 : List UInt8 := dkwX0_drawsOf_3 ++ []
def dkwX0_drawsOf_2 : List UInt8 := [20, 2, 24, 109, 20, 2, 14, 113, 42, 180, 0, 46, 180, 2, 6, 133, 148, 156, 0, 10, 4, 21, 6, 120]
abbrev dktX0_drawsOf_2 : List UInt8 := dkwX0_drawsOf_2 ++ dktX0_drawsOf_3
def dkwX0_drawsOf_1 : List UInt8 := [162, 0, 58, 20, 2, 18, 22, 4, 105, 20, 2, 20, 97, 20, 2, 22, 113, 55, 4, 29, 22, 4]
abbrev dktX0_drawsOf_1 : List UInt8 := dkwX0_drawsOf_1 ++ dktX0_drawsOf_2
def dkwX0_drawsOf_0 : List UInt8 := [3, 62, 31, 55, 4, 3, 54, 6, 21, 6, 42, 180, 0, 46, 180, 0, 222, 185, 0, 225, 1, 0]
abbrev dktX0_drawsOf_0 : List UInt8 := dkwX0_drawsOf_0 ++ dktX0_drawsOf_1
theorem dksX0_drawsOf_0 : cX0_drawsOf.data.toList.drop 0 = dktX0_drawsOf_0 := by decide +kernel
theorem dksX0_drawsOf_1 : cX0_drawsOf.data.toList.drop 22 = dktX0_drawsOf_1 := dk_seg dksX0_drawsOf_0 22 rfl rfl
theorem dksX0_drawsOf_2 : cX0_drawsOf.data.toList.drop 44 = dktX0_drawsOf_2 := dk_seg dksX0_drawsOf_1 22 rfl rfl
theorem dksX0_drawsOf_3 : cX0_drawsOf.data.toList.drop 68 = dktX0_drawsOf_3 := dk_seg dksX0_drawsOf_2 24 rfl rfl
theorem dX0_drawsOf_0 : decode cX0_drawsOf 0 = .ok (.iconst 0, 1) := dk_3 (dk_at dksX0_drawsOf_0 0 rfl rfl)
theorem dX0_drawsOf_1 : decode cX0_drawsOf 1 = .ok (.istore_n 3, 1) := dk_62 (dk_at dksX0_drawsOf_0 1 rfl rfl)
theorem dX0_drawsOf_2 : decode cX0_drawsOf 2 = .ok (.lload_n 1, 1) := dk_31 (dk_at dksX0_drawsOf_0 2 rfl rfl)
theorem dX0_drawsOf_3 : decode cX0_drawsOf 3 = .ok (.lstore 4, 2) := dk_55 4 (dk_at dksX0_drawsOf_0 3 rfl rfl)
theorem dX0_drawsOf_5 : decode cX0_drawsOf 5 = .ok (.iconst 0, 1) := dk_3 (dk_at dksX0_drawsOf_0 5 rfl rfl)
theorem dX0_drawsOf_6 : decode cX0_drawsOf 6 = .ok (.istore 6, 2) := dk_54 6 (dk_at dksX0_drawsOf_0 6 rfl rfl)
theorem dX0_drawsOf_8 : decode cX0_drawsOf 8 = .ok (.iload 6, 2) := dk_21 6 (dk_at dksX0_drawsOf_0 8 rfl rfl)
theorem dX0_drawsOf_10 : decode cX0_drawsOf 10 = .ok (.aload_n 0, 1) := dk_42 (dk_at dksX0_drawsOf_0 10 rfl rfl)
theorem dX0_drawsOf_11 : decode cX0_drawsOf 11 = .ok (.getfield 46, 3) := dk_180 0 46 (dk_at dksX0_drawsOf_0 11 rfl rfl)
theorem dX0_drawsOf_14 : decode cX0_drawsOf 14 = .ok (.getfield 222, 3) := dk_180 0 222 (dk_at dksX0_drawsOf_0 14 rfl rfl)
theorem dX0_drawsOf_17 : decode cX0_drawsOf 17 = .ok (.invokeinterface 225 1, 5) := by decide +kernel
theorem dX0_drawsOf_22 : decode cX0_drawsOf 22 = .ok (.if_icmp .ge 58, 3) := dk_162 0 58 (dk_at dksX0_drawsOf_1 0 rfl rfl)
theorem dX0_drawsOf_25 : decode cX0_drawsOf 25 = .ok (.ldc2_w 530, 3) := dk_20 2 18 (dk_at dksX0_drawsOf_1 3 rfl rfl)
theorem dX0_drawsOf_28 : decode cX0_drawsOf 28 = .ok (.lload 4, 2) := dk_22 4 (dk_at dksX0_drawsOf_1 6 rfl rfl)
theorem dX0_drawsOf_30 : decode cX0_drawsOf 30 = .ok (.lmul, 1) := dk_105 (dk_at dksX0_drawsOf_1 8 rfl rfl)
theorem dX0_drawsOf_31 : decode cX0_drawsOf 31 = .ok (.ldc2_w 532, 3) := dk_20 2 20 (dk_at dksX0_drawsOf_1 9 rfl rfl)
theorem dX0_drawsOf_34 : decode cX0_drawsOf 34 = .ok (.ladd, 1) := dk_97 (dk_at dksX0_drawsOf_1 12 rfl rfl)
theorem dX0_drawsOf_35 : decode cX0_drawsOf 35 = .ok (.ldc2_w 534, 3) := dk_20 2 22 (dk_at dksX0_drawsOf_1 13 rfl rfl)
theorem dX0_drawsOf_38 : decode cX0_drawsOf 38 = .ok (.lrem, 1) := dk_113 (dk_at dksX0_drawsOf_1 16 rfl rfl)
theorem dX0_drawsOf_39 : decode cX0_drawsOf 39 = .ok (.lstore 4, 2) := dk_55 4 (dk_at dksX0_drawsOf_1 17 rfl rfl)
theorem dX0_drawsOf_41 : decode cX0_drawsOf 41 = .ok (.iload_n 3, 1) := dk_29 (dk_at dksX0_drawsOf_1 19 rfl rfl)
theorem dX0_drawsOf_42 : decode cX0_drawsOf 42 = .ok (.lload 4, 2) := dk_22 4 (dk_at dksX0_drawsOf_1 20 rfl rfl)
theorem dX0_drawsOf_44 : decode cX0_drawsOf 44 = .ok (.ldc2_w 536, 3) := dk_20 2 24 (dk_at dksX0_drawsOf_2 0 rfl rfl)
theorem dX0_drawsOf_47 : decode cX0_drawsOf 47 = .ok (.ldiv, 1) := dk_109 (dk_at dksX0_drawsOf_2 3 rfl rfl)
theorem dX0_drawsOf_48 : decode cX0_drawsOf 48 = .ok (.ldc2_w 526, 3) := dk_20 2 14 (dk_at dksX0_drawsOf_2 4 rfl rfl)
theorem dX0_drawsOf_51 : decode cX0_drawsOf 51 = .ok (.lrem, 1) := dk_113 (dk_at dksX0_drawsOf_2 7 rfl rfl)
theorem dX0_drawsOf_52 : decode cX0_drawsOf 52 = .ok (.aload_n 0, 1) := dk_42 (dk_at dksX0_drawsOf_2 8 rfl rfl)
theorem dX0_drawsOf_53 : decode cX0_drawsOf 53 = .ok (.getfield 46, 3) := dk_180 0 46 (dk_at dksX0_drawsOf_2 9 rfl rfl)
theorem dX0_drawsOf_56 : decode cX0_drawsOf 56 = .ok (.getfield 518, 3) := dk_180 2 6 (dk_at dksX0_drawsOf_2 12 rfl rfl)
theorem dX0_drawsOf_59 : decode cX0_drawsOf 59 = .ok (.i2l, 1) := dk_133 (dk_at dksX0_drawsOf_2 15 rfl rfl)
theorem dX0_drawsOf_60 : decode cX0_drawsOf 60 = .ok (.lcmp, 1) := dk_148 (dk_at dksX0_drawsOf_2 16 rfl rfl)
theorem dX0_drawsOf_61 : decode cX0_drawsOf 61 = .ok (.ifCond .ge 10, 3) := dk_156 0 10 (dk_at dksX0_drawsOf_2 17 rfl rfl)
theorem dX0_drawsOf_64 : decode cX0_drawsOf 64 = .ok (.iconst 1, 1) := dk_4 (dk_at dksX0_drawsOf_2 20 rfl rfl)
theorem dX0_drawsOf_65 : decode cX0_drawsOf 65 = .ok (.iload 6, 2) := dk_21 6 (dk_at dksX0_drawsOf_2 21 rfl rfl)
theorem dX0_drawsOf_67 : decode cX0_drawsOf 67 = .ok (.ishl, 1) := dk_120 (dk_at dksX0_drawsOf_2 23 rfl rfl)
theorem dX0_drawsOf_68 : decode cX0_drawsOf 68 = .ok (.goto 4, 3) := dk_167 0 4 (dk_at dksX0_drawsOf_3 0 rfl rfl)
theorem dX0_drawsOf_71 : decode cX0_drawsOf 71 = .ok (.iconst 0, 1) := dk_3 (dk_at dksX0_drawsOf_3 3 rfl rfl)
theorem dX0_drawsOf_72 : decode cX0_drawsOf 72 = .ok (.ior, 1) := dk_128 (dk_at dksX0_drawsOf_3 4 rfl rfl)
theorem dX0_drawsOf_73 : decode cX0_drawsOf 73 = .ok (.istore_n 3, 1) := dk_62 (dk_at dksX0_drawsOf_3 5 rfl rfl)
theorem dX0_drawsOf_74 : decode cX0_drawsOf 74 = .ok (.iinc 6 1, 3) := dk_132 6 1 (dk_at dksX0_drawsOf_3 6 rfl rfl)
theorem dX0_drawsOf_77 : decode cX0_drawsOf 77 = .ok (.goto (-69), 3) := dk_167 255 187 (dk_at dksX0_drawsOf_3 9 rfl rfl)
theorem dX0_drawsOf_80 : decode cX0_drawsOf 80 = .ok (.iload_n 3, 1) := dk_29 (dk_at dksX0_drawsOf_3 12 rfl rfl)
theorem dX0_drawsOf_81 : decode cX0_drawsOf 81 = .ok (.ireturn, 1) := dk_172 (dk_at dksX0_drawsOf_3 13 rfl rfl)
abbrev cX0_lambda_drawn_22 : ByteArray := prog_1_method_143_code
def yX0_lambda_drawn_22 : MethodName := ⟨RX0, "lambda$drawn$22", "()I"⟩
def dkwX0_lambda_drawn_22_0 : List UInt8 := [42, 4, 182, 1, 136, 172]
abbrev dktX0_lambda_drawn_22_0 : List UInt8 := dkwX0_lambda_drawn_22_0 ++ []
theorem dksX0_lambda_drawn_22_0 : cX0_lambda_drawn_22.data.toList.drop 0 = dktX0_lambda_drawn_22_0 := by decide +kernel
theorem dX0_lambda_drawn_22_0 : decode cX0_lambda_drawn_22 0 = .ok (.aload_n 0, 1) := dk_42 (dk_at dksX0_lambda_drawn_22_0 0 rfl rfl)
theorem dX0_lambda_drawn_22_1 : decode cX0_lambda_drawn_22 1 = .ok (.iconst 1, 1) := dk_4 (dk_at dksX0_lambda_drawn_22_0 1 rfl rfl)
theorem dX0_lambda_drawn_22_2 : decode cX0_lambda_drawn_22 2 = .ok (.invokevirtual 392, 3) := dk_182 1 136 (dk_at dksX0_lambda_drawn_22_0 2 rfl rfl)
theorem dX0_lambda_drawn_22_5 : decode cX0_lambda_drawn_22 5 = .ok (.ireturn, 1) := dk_172 (dk_at dksX0_lambda_drawn_22_0 5 rfl rfl)
abbrev cX0_luck : ByteArray := prog_1_method_128_code
def yX0_luck : MethodName := ⟨RX0, "luck", "(II)I"⟩
def dkwX0_luck_3 : List UInt8 := [182, 1, 84, 96, 62, 132, 4, 1, 167, 255, 217, 29, 172]
abbrev dktX0_luck_3 : List UInt8 := dkwX0_luck_3 ++ []
def dkwX0_luck_2 : List UInt8 := [182, 1, 78, 42, 27, 133, 21, 4, 133, 97, 182, 2, 31, 2, 130, 126, 42, 186, 2, 38, 0, 0]
abbrev dktX0_luck_2 : List UInt8 := dkwX0_luck_2 ++ dktX0_luck_3
def dkwX0_luck_1 : List UInt8 := [184, 0, 11, 154, 0, 6, 16, 254, 172, 3, 62, 3, 54, 4, 21, 4, 28, 162, 0, 39, 29, 42, 42]
abbrev dktX0_luck_1 : List UInt8 := dkwX0_luck_1 ++ dktX0_luck_2
def dkwX0_luck_0 : List UInt8 := [42, 180, 0, 46, 182, 0, 200, 153, 0, 22, 27, 184, 2, 28, 153, 0, 15, 28, 133, 10, 20, 2, 36]
abbrev dktX0_luck_0 : List UInt8 := dkwX0_luck_0 ++ dktX0_luck_1
theorem dksX0_luck_0 : cX0_luck.data.toList.drop 0 = dktX0_luck_0 := by decide +kernel
theorem dksX0_luck_1 : cX0_luck.data.toList.drop 23 = dktX0_luck_1 := dk_seg dksX0_luck_0 23 rfl rfl
theorem dksX0_luck_2 : cX0_luck.data.toList.drop 46 = dktX0_luck_2 := dk_seg dksX0_luck_1 23 rfl rfl
theorem dksX0_luck_3 : cX0_luck.data.toList.drop 68 = dktX0_luck_3 := dk_seg dksX0_luck_2 22 rfl rfl
theorem dX0_luck_0 : decode cX0_luck 0 = .ok (.aload_n 0, 1) := dk_42 (dk_at dksX0_luck_0 0 rfl rfl)
theorem dX0_luck_1 : decode cX0_luck 1 = .ok (.getfield 46, 3) := dk_180 0 46 (dk_at dksX0_luck_0 1 rfl rfl)
theorem dX0_luck_4 : decode cX0_luck 4 = .ok (.invokevirtual 200, 3) := dk_182 0 200 (dk_at dksX0_luck_0 4 rfl rfl)
theorem dX0_luck_7 : decode cX0_luck 7 = .ok (.ifCond .eq 22, 3) := dk_153 0 22 (dk_at dksX0_luck_0 7 rfl rfl)
theorem dX0_luck_10 : decode cX0_luck 10 = .ok (.iload_n 1, 1) := dk_27 (dk_at dksX0_luck_0 10 rfl rfl)
theorem dX0_luck_11 : decode cX0_luck 11 = .ok (.invokestatic 540, 3) := dk_184 2 28 (dk_at dksX0_luck_0 11 rfl rfl)
theorem dX0_luck_14 : decode cX0_luck 14 = .ok (.ifCond .eq 15, 3) := dk_153 0 15 (dk_at dksX0_luck_0 14 rfl rfl)
theorem dX0_luck_17 : decode cX0_luck 17 = .ok (.iload_n 2, 1) := dk_28 (dk_at dksX0_luck_0 17 rfl rfl)
theorem dX0_luck_18 : decode cX0_luck 18 = .ok (.i2l, 1) := dk_133 (dk_at dksX0_luck_0 18 rfl rfl)
theorem dX0_luck_19 : decode cX0_luck 19 = .ok (.lconst 1, 1) := dk_10 (dk_at dksX0_luck_0 19 rfl rfl)
theorem dX0_luck_20 : decode cX0_luck 20 = .ok (.ldc2_w 548, 3) := dk_20 2 36 (dk_at dksX0_luck_0 20 rfl rfl)
theorem dX0_luck_23 : decode cX0_luck 23 = .ok (.invokestatic 11, 3) := dk_184 0 11 (dk_at dksX0_luck_1 0 rfl rfl)
theorem dX0_luck_26 : decode cX0_luck 26 = .ok (.ifCond .ne 6, 3) := dk_154 0 6 (dk_at dksX0_luck_1 3 rfl rfl)
theorem dX0_luck_29 : decode cX0_luck 29 = .ok (.bipush (-2), 2) := dk_16 254 (dk_at dksX0_luck_1 6 rfl rfl)
theorem dX0_luck_31 : decode cX0_luck 31 = .ok (.ireturn, 1) := dk_172 (dk_at dksX0_luck_1 8 rfl rfl)
theorem dX0_luck_32 : decode cX0_luck 32 = .ok (.iconst 0, 1) := dk_3 (dk_at dksX0_luck_1 9 rfl rfl)
theorem dX0_luck_33 : decode cX0_luck 33 = .ok (.istore_n 3, 1) := dk_62 (dk_at dksX0_luck_1 10 rfl rfl)
theorem dX0_luck_34 : decode cX0_luck 34 = .ok (.iconst 0, 1) := dk_3 (dk_at dksX0_luck_1 11 rfl rfl)
theorem dX0_luck_35 : decode cX0_luck 35 = .ok (.istore 4, 2) := dk_54 4 (dk_at dksX0_luck_1 12 rfl rfl)
theorem dX0_luck_37 : decode cX0_luck 37 = .ok (.iload 4, 2) := dk_21 4 (dk_at dksX0_luck_1 14 rfl rfl)
theorem dX0_luck_39 : decode cX0_luck 39 = .ok (.iload_n 2, 1) := dk_28 (dk_at dksX0_luck_1 16 rfl rfl)
theorem dX0_luck_40 : decode cX0_luck 40 = .ok (.if_icmp .ge 39, 3) := dk_162 0 39 (dk_at dksX0_luck_1 17 rfl rfl)
theorem dX0_luck_43 : decode cX0_luck 43 = .ok (.iload_n 3, 1) := dk_29 (dk_at dksX0_luck_1 20 rfl rfl)
theorem dX0_luck_44 : decode cX0_luck 44 = .ok (.aload_n 0, 1) := dk_42 (dk_at dksX0_luck_1 21 rfl rfl)
theorem dX0_luck_45 : decode cX0_luck 45 = .ok (.aload_n 0, 1) := dk_42 (dk_at dksX0_luck_1 22 rfl rfl)
theorem dX0_luck_46 : decode cX0_luck 46 = .ok (.invokevirtual 334, 3) := dk_182 1 78 (dk_at dksX0_luck_2 0 rfl rfl)
theorem dX0_luck_49 : decode cX0_luck 49 = .ok (.aload_n 0, 1) := dk_42 (dk_at dksX0_luck_2 3 rfl rfl)
theorem dX0_luck_50 : decode cX0_luck 50 = .ok (.iload_n 1, 1) := dk_27 (dk_at dksX0_luck_2 4 rfl rfl)
theorem dX0_luck_51 : decode cX0_luck 51 = .ok (.i2l, 1) := dk_133 (dk_at dksX0_luck_2 5 rfl rfl)
theorem dX0_luck_52 : decode cX0_luck 52 = .ok (.iload 4, 2) := dk_21 4 (dk_at dksX0_luck_2 6 rfl rfl)
theorem dX0_luck_54 : decode cX0_luck 54 = .ok (.i2l, 1) := dk_133 (dk_at dksX0_luck_2 8 rfl rfl)
theorem dX0_luck_55 : decode cX0_luck 55 = .ok (.ladd, 1) := dk_97 (dk_at dksX0_luck_2 9 rfl rfl)
theorem dX0_luck_56 : decode cX0_luck 56 = .ok (.invokevirtual 543, 3) := dk_182 2 31 (dk_at dksX0_luck_2 10 rfl rfl)
theorem dX0_luck_59 : decode cX0_luck 59 = .ok (.iconst (-1), 1) := dk_2 (dk_at dksX0_luck_2 13 rfl rfl)
theorem dX0_luck_60 : decode cX0_luck 60 = .ok (.ixor, 1) := dk_130 (dk_at dksX0_luck_2 14 rfl rfl)
theorem dX0_luck_61 : decode cX0_luck 61 = .ok (.iand, 1) := dk_126 (dk_at dksX0_luck_2 15 rfl rfl)
theorem dX0_luck_62 : decode cX0_luck 62 = .ok (.aload_n 0, 1) := dk_42 (dk_at dksX0_luck_2 16 rfl rfl)
theorem dX0_luck_63 : decode cX0_luck 63 = .ok (.invokedynamic 550, 5) := by decide +kernel
theorem dX0_luck_68 : decode cX0_luck 68 = .ok (.invokevirtual 340, 3) := dk_182 1 84 (dk_at dksX0_luck_3 0 rfl rfl)
theorem dX0_luck_71 : decode cX0_luck 71 = .ok (.iadd, 1) := dk_96 (dk_at dksX0_luck_3 3 rfl rfl)
theorem dX0_luck_72 : decode cX0_luck 72 = .ok (.istore_n 3, 1) := dk_62 (dk_at dksX0_luck_3 4 rfl rfl)
theorem dX0_luck_73 : decode cX0_luck 73 = .ok (.iinc 4 1, 3) := dk_132 4 1 (dk_at dksX0_luck_3 5 rfl rfl)
theorem dX0_luck_76 : decode cX0_luck 76 = .ok (.goto (-39), 3) := dk_167 255 217 (dk_at dksX0_luck_3 8 rfl rfl)
theorem dX0_luck_79 : decode cX0_luck 79 = .ok (.iload_n 3, 1) := dk_29 (dk_at dksX0_luck_3 11 rfl rfl)
theorem dX0_luck_80 : decode cX0_luck 80 = .ok (.ireturn, 1) := dk_172 (dk_at dksX0_luck_3 12 rfl rfl)
abbrev cX0_lambda_luck_23 : ByteArray := prog_1_method_142_code
def yX0_lambda_luck_23 : MethodName := ⟨RX0, "lambda$luck$23", "()I"⟩
def dkwX0_lambda_luck_23_0 : List UInt8 := [42, 4, 182, 1, 146, 153, 0, 7, 4, 167, 0, 4, 3, 172]
abbrev dktX0_lambda_luck_23_0 : List UInt8 := dkwX0_lambda_luck_23_0 ++ []
theorem dksX0_lambda_luck_23_0 : cX0_lambda_luck_23.data.toList.drop 0 = dktX0_lambda_luck_23_0 := by decide +kernel
theorem dX0_lambda_luck_23_0 : decode cX0_lambda_luck_23 0 = .ok (.aload_n 0, 1) := dk_42 (dk_at dksX0_lambda_luck_23_0 0 rfl rfl)
theorem dX0_lambda_luck_23_1 : decode cX0_lambda_luck_23 1 = .ok (.iconst 1, 1) := dk_4 (dk_at dksX0_lambda_luck_23_0 1 rfl rfl)
theorem dX0_lambda_luck_23_2 : decode cX0_lambda_luck_23 2 = .ok (.invokevirtual 402, 3) := dk_182 1 146 (dk_at dksX0_lambda_luck_23_0 2 rfl rfl)
theorem dX0_lambda_luck_23_5 : decode cX0_lambda_luck_23 5 = .ok (.ifCond .eq 7, 3) := dk_153 0 7 (dk_at dksX0_lambda_luck_23_0 5 rfl rfl)
theorem dX0_lambda_luck_23_8 : decode cX0_lambda_luck_23 8 = .ok (.iconst 1, 1) := dk_4 (dk_at dksX0_lambda_luck_23_0 8 rfl rfl)
theorem dX0_lambda_luck_23_9 : decode cX0_lambda_luck_23 9 = .ok (.goto 4, 3) := dk_167 0 4 (dk_at dksX0_lambda_luck_23_0 9 rfl rfl)
theorem dX0_lambda_luck_23_12 : decode cX0_lambda_luck_23 12 = .ok (.iconst 0, 1) := dk_3 (dk_at dksX0_lambda_luck_23_0 12 rfl rfl)
theorem dX0_lambda_luck_23_13 : decode cX0_lambda_luck_23 13 = .ok (.ireturn, 1) := dk_172 (dk_at dksX0_lambda_luck_23_0 13 rfl rfl)
abbrev cX0_lock : ByteArray := prog_1_method_131_code
def yX0_lock : MethodName := ⟨RX0, "lock", "(I)I"⟩
def dkwX0_lock_1 : List UInt8 := [180, 1, 15, 182, 2, 58, 167, 0, 5, 16, 254, 172]
abbrev dktX0_lock_1 : List UInt8 := dkwX0_lock_1 ++ []
def dkwX0_lock_0 : List UInt8 := [42, 27, 182, 0, 234, 153, 0, 28, 42, 42, 180, 0, 46, 180, 1, 11, 4, 27, 120, 128, 42, 180, 0, 46]
abbrev dktX0_lock_0 : List UInt8 := dkwX0_lock_0 ++ dktX0_lock_1
theorem dksX0_lock_0 : cX0_lock.data.toList.drop 0 = dktX0_lock_0 := by decide +kernel
theorem dksX0_lock_1 : cX0_lock.data.toList.drop 24 = dktX0_lock_1 := dk_seg dksX0_lock_0 24 rfl rfl
theorem dX0_lock_0 : decode cX0_lock 0 = .ok (.aload_n 0, 1) := dk_42 (dk_at dksX0_lock_0 0 rfl rfl)
theorem dX0_lock_1 : decode cX0_lock 1 = .ok (.iload_n 1, 1) := dk_27 (dk_at dksX0_lock_0 1 rfl rfl)
theorem dX0_lock_2 : decode cX0_lock 2 = .ok (.invokevirtual 234, 3) := dk_182 0 234 (dk_at dksX0_lock_0 2 rfl rfl)
theorem dX0_lock_5 : decode cX0_lock 5 = .ok (.ifCond .eq 28, 3) := dk_153 0 28 (dk_at dksX0_lock_0 5 rfl rfl)
theorem dX0_lock_8 : decode cX0_lock 8 = .ok (.aload_n 0, 1) := dk_42 (dk_at dksX0_lock_0 8 rfl rfl)
theorem dX0_lock_9 : decode cX0_lock 9 = .ok (.aload_n 0, 1) := dk_42 (dk_at dksX0_lock_0 9 rfl rfl)
theorem dX0_lock_10 : decode cX0_lock 10 = .ok (.getfield 46, 3) := dk_180 0 46 (dk_at dksX0_lock_0 10 rfl rfl)
theorem dX0_lock_13 : decode cX0_lock 13 = .ok (.getfield 267, 3) := dk_180 1 11 (dk_at dksX0_lock_0 13 rfl rfl)
theorem dX0_lock_16 : decode cX0_lock 16 = .ok (.iconst 1, 1) := dk_4 (dk_at dksX0_lock_0 16 rfl rfl)
theorem dX0_lock_17 : decode cX0_lock 17 = .ok (.iload_n 1, 1) := dk_27 (dk_at dksX0_lock_0 17 rfl rfl)
theorem dX0_lock_18 : decode cX0_lock 18 = .ok (.ishl, 1) := dk_120 (dk_at dksX0_lock_0 18 rfl rfl)
theorem dX0_lock_19 : decode cX0_lock 19 = .ok (.ior, 1) := dk_128 (dk_at dksX0_lock_0 19 rfl rfl)
theorem dX0_lock_20 : decode cX0_lock 20 = .ok (.aload_n 0, 1) := dk_42 (dk_at dksX0_lock_0 20 rfl rfl)
theorem dX0_lock_21 : decode cX0_lock 21 = .ok (.getfield 46, 3) := dk_180 0 46 (dk_at dksX0_lock_0 21 rfl rfl)
theorem dX0_lock_24 : decode cX0_lock 24 = .ok (.getfield 271, 3) := dk_180 1 15 (dk_at dksX0_lock_1 0 rfl rfl)
theorem dX0_lock_27 : decode cX0_lock 27 = .ok (.invokevirtual 570, 3) := dk_182 2 58 (dk_at dksX0_lock_1 3 rfl rfl)
theorem dX0_lock_30 : decode cX0_lock 30 = .ok (.goto 5, 3) := dk_167 0 5 (dk_at dksX0_lock_1 6 rfl rfl)
theorem dX0_lock_33 : decode cX0_lock 33 = .ok (.bipush (-2), 2) := dk_16 254 (dk_at dksX0_lock_1 9 rfl rfl)
theorem dX0_lock_35 : decode cX0_lock 35 = .ok (.ireturn, 1) := dk_172 (dk_at dksX0_lock_1 11 rfl rfl)
abbrev cX0_acts : ByteArray := prog_1_method_129_code
def yX0_acts : MethodName := ⟨RX0, "acts", "(II)I"⟩
def dkwX0_acts_3 : List UInt8 := [42, 4, 182, 1, 136, 172]
abbrev dktX0_acts_3 : List UInt8 := dkwX0_acts_3 ++ []
def dkwX0_acts_2 : List UInt8 := [42, 29, 21, 4, 186, 2, 44, 0, 0, 183, 2, 48, 185, 2, 51, 2, 0, 87, 42, 27, 28, 182, 2, 55]
abbrev dktX0_acts_2 : List UInt8 := dkwX0_acts_2 ++ dktX0_acts_3
def dkwX0_acts_1 : List UInt8 := [180, 1, 11, 62, 42, 180, 0, 46, 180, 1, 15, 54, 4, 42, 180, 0, 46, 180, 2, 39, 187, 2, 42, 89]
abbrev dktX0_acts_1 : List UInt8 := dkwX0_acts_1 ++ dktX0_acts_2
def dkwX0_acts_0 : List UInt8 := [42, 180, 0, 46, 180, 2, 39, 185, 0, 225, 1, 0, 16, 20, 160, 0, 6, 16, 251, 172, 42, 180, 0, 46]
abbrev dktX0_acts_0 : List UInt8 := dkwX0_acts_0 ++ dktX0_acts_1
theorem dksX0_acts_0 : cX0_acts.data.toList.drop 0 = dktX0_acts_0 := by decide +kernel
theorem dksX0_acts_1 : cX0_acts.data.toList.drop 24 = dktX0_acts_1 := dk_seg dksX0_acts_0 24 rfl rfl
theorem dksX0_acts_2 : cX0_acts.data.toList.drop 48 = dktX0_acts_2 := dk_seg dksX0_acts_1 24 rfl rfl
theorem dksX0_acts_3 : cX0_acts.data.toList.drop 72 = dktX0_acts_3 := dk_seg dksX0_acts_2 24 rfl rfl
theorem dX0_acts_0 : decode cX0_acts 0 = .ok (.aload_n 0, 1) := dk_42 (dk_at dksX0_acts_0 0 rfl rfl)
theorem dX0_acts_1 : decode cX0_acts 1 = .ok (.getfield 46, 3) := dk_180 0 46 (dk_at dksX0_acts_0 1 rfl rfl)
theorem dX0_acts_4 : decode cX0_acts 4 = .ok (.getfield 551, 3) := dk_180 2 39 (dk_at dksX0_acts_0 4 rfl rfl)
theorem dX0_acts_7 : decode cX0_acts 7 = .ok (.invokeinterface 225 1, 5) := by decide +kernel
theorem dX0_acts_12 : decode cX0_acts 12 = .ok (.bipush 20, 2) := dk_16 20 (dk_at dksX0_acts_0 12 rfl rfl)
theorem dX0_acts_14 : decode cX0_acts 14 = .ok (.if_icmp .ne 6, 3) := dk_160 0 6 (dk_at dksX0_acts_0 14 rfl rfl)
theorem dX0_acts_17 : decode cX0_acts 17 = .ok (.bipush (-5), 2) := dk_16 251 (dk_at dksX0_acts_0 17 rfl rfl)
theorem dX0_acts_19 : decode cX0_acts 19 = .ok (.ireturn, 1) := dk_172 (dk_at dksX0_acts_0 19 rfl rfl)
theorem dX0_acts_20 : decode cX0_acts 20 = .ok (.aload_n 0, 1) := dk_42 (dk_at dksX0_acts_0 20 rfl rfl)
theorem dX0_acts_21 : decode cX0_acts 21 = .ok (.getfield 46, 3) := dk_180 0 46 (dk_at dksX0_acts_0 21 rfl rfl)
theorem dX0_acts_24 : decode cX0_acts 24 = .ok (.getfield 267, 3) := dk_180 1 11 (dk_at dksX0_acts_1 0 rfl rfl)
theorem dX0_acts_27 : decode cX0_acts 27 = .ok (.istore_n 3, 1) := dk_62 (dk_at dksX0_acts_1 3 rfl rfl)
theorem dX0_acts_28 : decode cX0_acts 28 = .ok (.aload_n 0, 1) := dk_42 (dk_at dksX0_acts_1 4 rfl rfl)
theorem dX0_acts_29 : decode cX0_acts 29 = .ok (.getfield 46, 3) := dk_180 0 46 (dk_at dksX0_acts_1 5 rfl rfl)
theorem dX0_acts_32 : decode cX0_acts 32 = .ok (.getfield 271, 3) := dk_180 1 15 (dk_at dksX0_acts_1 8 rfl rfl)
theorem dX0_acts_35 : decode cX0_acts 35 = .ok (.istore 4, 2) := dk_54 4 (dk_at dksX0_acts_1 11 rfl rfl)
theorem dX0_acts_37 : decode cX0_acts 37 = .ok (.aload_n 0, 1) := dk_42 (dk_at dksX0_acts_1 13 rfl rfl)
theorem dX0_acts_38 : decode cX0_acts 38 = .ok (.getfield 46, 3) := dk_180 0 46 (dk_at dksX0_acts_1 14 rfl rfl)
theorem dX0_acts_41 : decode cX0_acts 41 = .ok (.getfield 551, 3) := dk_180 2 39 (dk_at dksX0_acts_1 17 rfl rfl)
theorem dX0_acts_44 : decode cX0_acts 44 = .ok (.new 554, 3) := dk_187 2 42 (dk_at dksX0_acts_1 20 rfl rfl)
theorem dX0_acts_47 : decode cX0_acts 47 = .ok (.dup, 1) := dk_89 (dk_at dksX0_acts_1 23 rfl rfl)
theorem dX0_acts_48 : decode cX0_acts 48 = .ok (.aload_n 0, 1) := dk_42 (dk_at dksX0_acts_2 0 rfl rfl)
theorem dX0_acts_49 : decode cX0_acts 49 = .ok (.iload_n 3, 1) := dk_29 (dk_at dksX0_acts_2 1 rfl rfl)
theorem dX0_acts_50 : decode cX0_acts 50 = .ok (.iload 4, 2) := dk_21 4 (dk_at dksX0_acts_2 2 rfl rfl)
theorem dX0_acts_52 : decode cX0_acts 52 = .ok (.invokedynamic 556, 5) := by decide +kernel
theorem dX0_acts_57 : decode cX0_acts 57 = .ok (.invokespecial 560, 3) := dk_183 2 48 (dk_at dksX0_acts_2 9 rfl rfl)
theorem dX0_acts_60 : decode cX0_acts 60 = .ok (.invokeinterface 563 2, 5) := by decide +kernel
theorem dX0_acts_65 : decode cX0_acts 65 = .ok (.pop, 1) := dk_87 (dk_at dksX0_acts_2 17 rfl rfl)
theorem dX0_acts_66 : decode cX0_acts 66 = .ok (.aload_n 0, 1) := dk_42 (dk_at dksX0_acts_2 18 rfl rfl)
theorem dX0_acts_67 : decode cX0_acts 67 = .ok (.iload_n 1, 1) := dk_27 (dk_at dksX0_acts_2 19 rfl rfl)
theorem dX0_acts_68 : decode cX0_acts 68 = .ok (.iload_n 2, 1) := dk_28 (dk_at dksX0_acts_2 20 rfl rfl)
theorem dX0_acts_69 : decode cX0_acts 69 = .ok (.invokevirtual 567, 3) := dk_182 2 55 (dk_at dksX0_acts_2 21 rfl rfl)
theorem dX0_acts_72 : decode cX0_acts 72 = .ok (.aload_n 0, 1) := dk_42 (dk_at dksX0_acts_3 0 rfl rfl)
theorem dX0_acts_73 : decode cX0_acts 73 = .ok (.iconst 1, 1) := dk_4 (dk_at dksX0_acts_3 1 rfl rfl)
theorem dX0_acts_74 : decode cX0_acts 74 = .ok (.invokevirtual 392, 3) := dk_182 1 136 (dk_at dksX0_acts_3 2 rfl rfl)
theorem dX0_acts_77 : decode cX0_acts 77 = .ok (.ireturn, 1) := dk_172 (dk_at dksX0_acts_3 5 rfl rfl)
abbrev cX0_lambda_acts_24 : ByteArray := prog_1_method_141_code
def yX0_lambda_acts_24 : MethodName := ⟨RX0, "lambda$acts$24", "(II)V"⟩
def dkwX0_lambda_acts_24_0 : List UInt8 := [42, 27, 28, 182, 2, 55, 177]
abbrev dktX0_lambda_acts_24_0 : List UInt8 := dkwX0_lambda_acts_24_0 ++ []
theorem dksX0_lambda_acts_24_0 : cX0_lambda_acts_24.data.toList.drop 0 = dktX0_lambda_acts_24_0 := by decide +kernel
theorem dX0_lambda_acts_24_0 : decode cX0_lambda_acts_24 0 = .ok (.aload_n 0, 1) := dk_42 (dk_at dksX0_lambda_acts_24_0 0 rfl rfl)
theorem dX0_lambda_acts_24_1 : decode cX0_lambda_acts_24 1 = .ok (.iload_n 1, 1) := dk_27 (dk_at dksX0_lambda_acts_24_0 1 rfl rfl)
theorem dX0_lambda_acts_24_2 : decode cX0_lambda_acts_24 2 = .ok (.iload_n 2, 1) := dk_28 (dk_at dksX0_lambda_acts_24_0 2 rfl rfl)
theorem dX0_lambda_acts_24_3 : decode cX0_lambda_acts_24 3 = .ok (.invokevirtual 567, 3) := dk_182 2 55 (dk_at dksX0_lambda_acts_24_0 3 rfl rfl)
theorem dX0_lambda_acts_24_6 : decode cX0_lambda_acts_24 6 = .ok (.return_, 1) := dk_177 (dk_at dksX0_lambda_acts_24_0 6 rfl rfl)
abbrev cX0_puts : ByteArray := prog_1_method_130_code
def yX0_puts : MethodName := ⟨RX0, "puts", "(II)V"⟩
def dkwX0_puts_0 : List UInt8 := [42, 180, 0, 46, 27, 181, 1, 11, 42, 180, 0, 46, 28, 181, 1, 15, 42, 182, 0, 207, 177]
abbrev dktX0_puts_0 : List UInt8 := dkwX0_puts_0 ++ []
theorem dksX0_puts_0 : cX0_puts.data.toList.drop 0 = dktX0_puts_0 := by decide +kernel
theorem dX0_puts_0 : decode cX0_puts 0 = .ok (.aload_n 0, 1) := dk_42 (dk_at dksX0_puts_0 0 rfl rfl)
theorem dX0_puts_1 : decode cX0_puts 1 = .ok (.getfield 46, 3) := dk_180 0 46 (dk_at dksX0_puts_0 1 rfl rfl)
theorem dX0_puts_4 : decode cX0_puts 4 = .ok (.iload_n 1, 1) := dk_27 (dk_at dksX0_puts_0 4 rfl rfl)
theorem dX0_puts_5 : decode cX0_puts 5 = .ok (.putfield 267, 3) := dk_181 1 11 (dk_at dksX0_puts_0 5 rfl rfl)
theorem dX0_puts_8 : decode cX0_puts 8 = .ok (.aload_n 0, 1) := dk_42 (dk_at dksX0_puts_0 8 rfl rfl)
theorem dX0_puts_9 : decode cX0_puts 9 = .ok (.getfield 46, 3) := dk_180 0 46 (dk_at dksX0_puts_0 9 rfl rfl)
theorem dX0_puts_12 : decode cX0_puts 12 = .ok (.iload_n 2, 1) := dk_28 (dk_at dksX0_puts_0 12 rfl rfl)
theorem dX0_puts_13 : decode cX0_puts 13 = .ok (.putfield 271, 3) := dk_181 1 15 (dk_at dksX0_puts_0 13 rfl rfl)
theorem dX0_puts_16 : decode cX0_puts 16 = .ok (.aload_n 0, 1) := dk_42 (dk_at dksX0_puts_0 16 rfl rfl)
theorem dX0_puts_17 : decode cX0_puts 17 = .ok (.invokevirtual 207, 3) := dk_182 0 207 (dk_at dksX0_puts_0 17 rfl rfl)
theorem dX0_puts_20 : decode cX0_puts 20 = .ok (.return_, 1) := dk_177 (dk_at dksX0_puts_0 20 rfl rfl)
abbrev cX0_frees : ByteArray := prog_1_method_132_code
def yX0_frees : MethodName := ⟨RX0, "frees", "(I)I"⟩
def dkwX0_frees_1 : List UInt8 := [180, 0, 46, 180, 1, 15, 182, 2, 58, 167, 0, 5, 16, 254, 172]
abbrev dktX0_frees_1 : List UInt8 := dkwX0_frees_1 ++ []
def dkwX0_frees_0 : List UInt8 := [42, 27, 182, 0, 234, 153, 0, 30, 42, 42, 180, 0, 46, 180, 1, 11, 4, 27, 120, 2, 130, 126, 42]
abbrev dktX0_frees_0 : List UInt8 := dkwX0_frees_0 ++ dktX0_frees_1
theorem dksX0_frees_0 : cX0_frees.data.toList.drop 0 = dktX0_frees_0 := by decide +kernel
theorem dksX0_frees_1 : cX0_frees.data.toList.drop 23 = dktX0_frees_1 := dk_seg dksX0_frees_0 23 rfl rfl
theorem dX0_frees_0 : decode cX0_frees 0 = .ok (.aload_n 0, 1) := dk_42 (dk_at dksX0_frees_0 0 rfl rfl)
theorem dX0_frees_1 : decode cX0_frees 1 = .ok (.iload_n 1, 1) := dk_27 (dk_at dksX0_frees_0 1 rfl rfl)
theorem dX0_frees_2 : decode cX0_frees 2 = .ok (.invokevirtual 234, 3) := dk_182 0 234 (dk_at dksX0_frees_0 2 rfl rfl)
theorem dX0_frees_5 : decode cX0_frees 5 = .ok (.ifCond .eq 30, 3) := dk_153 0 30 (dk_at dksX0_frees_0 5 rfl rfl)
theorem dX0_frees_8 : decode cX0_frees 8 = .ok (.aload_n 0, 1) := dk_42 (dk_at dksX0_frees_0 8 rfl rfl)
theorem dX0_frees_9 : decode cX0_frees 9 = .ok (.aload_n 0, 1) := dk_42 (dk_at dksX0_frees_0 9 rfl rfl)
theorem dX0_frees_10 : decode cX0_frees 10 = .ok (.getfield 46, 3) := dk_180 0 46 (dk_at dksX0_frees_0 10 rfl rfl)
theorem dX0_frees_13 : decode cX0_frees 13 = .ok (.getfield 267, 3) := dk_180 1 11 (dk_at dksX0_frees_0 13 rfl rfl)
theorem dX0_frees_16 : decode cX0_frees 16 = .ok (.iconst 1, 1) := dk_4 (dk_at dksX0_frees_0 16 rfl rfl)
theorem dX0_frees_17 : decode cX0_frees 17 = .ok (.iload_n 1, 1) := dk_27 (dk_at dksX0_frees_0 17 rfl rfl)
theorem dX0_frees_18 : decode cX0_frees 18 = .ok (.ishl, 1) := dk_120 (dk_at dksX0_frees_0 18 rfl rfl)
theorem dX0_frees_19 : decode cX0_frees 19 = .ok (.iconst (-1), 1) := dk_2 (dk_at dksX0_frees_0 19 rfl rfl)
theorem dX0_frees_20 : decode cX0_frees 20 = .ok (.ixor, 1) := dk_130 (dk_at dksX0_frees_0 20 rfl rfl)
theorem dX0_frees_21 : decode cX0_frees 21 = .ok (.iand, 1) := dk_126 (dk_at dksX0_frees_0 21 rfl rfl)
theorem dX0_frees_22 : decode cX0_frees 22 = .ok (.aload_n 0, 1) := dk_42 (dk_at dksX0_frees_0 22 rfl rfl)
theorem dX0_frees_23 : decode cX0_frees 23 = .ok (.getfield 46, 3) := dk_180 0 46 (dk_at dksX0_frees_1 0 rfl rfl)
theorem dX0_frees_26 : decode cX0_frees 26 = .ok (.getfield 271, 3) := dk_180 1 15 (dk_at dksX0_frees_1 3 rfl rfl)
theorem dX0_frees_29 : decode cX0_frees 29 = .ok (.invokevirtual 570, 3) := dk_182 2 58 (dk_at dksX0_frees_1 6 rfl rfl)
theorem dX0_frees_32 : decode cX0_frees 32 = .ok (.goto 5, 3) := dk_167 0 5 (dk_at dksX0_frees_1 9 rfl rfl)
theorem dX0_frees_35 : decode cX0_frees 35 = .ok (.bipush (-2), 2) := dk_16 254 (dk_at dksX0_frees_1 12 rfl rfl)
theorem dX0_frees_37 : decode cX0_frees 37 = .ok (.ireturn, 1) := dk_172 (dk_at dksX0_frees_1 14 rfl rfl)
abbrev cX0_drops : ByteArray := prog_1_method_133_code
def yX0_drops : MethodName := ⟨RX0, "drops", "(I)I"⟩
def dkwX0_drops_1 : List UInt8 := [27, 120, 128, 182, 2, 58, 167, 0, 5, 16, 254, 172]
abbrev dktX0_drops_1 : List UInt8 := dkwX0_drops_1 ++ []
def dkwX0_drops_0 : List UInt8 := [42, 27, 182, 1, 75, 153, 0, 28, 42, 42, 180, 0, 46, 180, 1, 11, 42, 180, 0, 46, 180, 1, 15, 4]
abbrev dktX0_drops_0 : List UInt8 := dkwX0_drops_0 ++ dktX0_drops_1
theorem dksX0_drops_0 : cX0_drops.data.toList.drop 0 = dktX0_drops_0 := by decide +kernel
theorem dksX0_drops_1 : cX0_drops.data.toList.drop 24 = dktX0_drops_1 := dk_seg dksX0_drops_0 24 rfl rfl
theorem dX0_drops_0 : decode cX0_drops 0 = .ok (.aload_n 0, 1) := dk_42 (dk_at dksX0_drops_0 0 rfl rfl)
theorem dX0_drops_1 : decode cX0_drops 1 = .ok (.iload_n 1, 1) := dk_27 (dk_at dksX0_drops_0 1 rfl rfl)
theorem dX0_drops_2 : decode cX0_drops 2 = .ok (.invokevirtual 331, 3) := dk_182 1 75 (dk_at dksX0_drops_0 2 rfl rfl)
theorem dX0_drops_5 : decode cX0_drops 5 = .ok (.ifCond .eq 28, 3) := dk_153 0 28 (dk_at dksX0_drops_0 5 rfl rfl)
theorem dX0_drops_8 : decode cX0_drops 8 = .ok (.aload_n 0, 1) := dk_42 (dk_at dksX0_drops_0 8 rfl rfl)
theorem dX0_drops_9 : decode cX0_drops 9 = .ok (.aload_n 0, 1) := dk_42 (dk_at dksX0_drops_0 9 rfl rfl)
theorem dX0_drops_10 : decode cX0_drops 10 = .ok (.getfield 46, 3) := dk_180 0 46 (dk_at dksX0_drops_0 10 rfl rfl)
theorem dX0_drops_13 : decode cX0_drops 13 = .ok (.getfield 267, 3) := dk_180 1 11 (dk_at dksX0_drops_0 13 rfl rfl)
theorem dX0_drops_16 : decode cX0_drops 16 = .ok (.aload_n 0, 1) := dk_42 (dk_at dksX0_drops_0 16 rfl rfl)
theorem dX0_drops_17 : decode cX0_drops 17 = .ok (.getfield 46, 3) := dk_180 0 46 (dk_at dksX0_drops_0 17 rfl rfl)
theorem dX0_drops_20 : decode cX0_drops 20 = .ok (.getfield 271, 3) := dk_180 1 15 (dk_at dksX0_drops_0 20 rfl rfl)
theorem dX0_drops_23 : decode cX0_drops 23 = .ok (.iconst 1, 1) := dk_4 (dk_at dksX0_drops_0 23 rfl rfl)
theorem dX0_drops_24 : decode cX0_drops 24 = .ok (.iload_n 1, 1) := dk_27 (dk_at dksX0_drops_1 0 rfl rfl)
theorem dX0_drops_25 : decode cX0_drops 25 = .ok (.ishl, 1) := dk_120 (dk_at dksX0_drops_1 1 rfl rfl)
theorem dX0_drops_26 : decode cX0_drops 26 = .ok (.ior, 1) := dk_128 (dk_at dksX0_drops_1 2 rfl rfl)
theorem dX0_drops_27 : decode cX0_drops 27 = .ok (.invokevirtual 570, 3) := dk_182 2 58 (dk_at dksX0_drops_1 3 rfl rfl)
theorem dX0_drops_30 : decode cX0_drops 30 = .ok (.goto 5, 3) := dk_167 0 5 (dk_at dksX0_drops_1 6 rfl rfl)
theorem dX0_drops_33 : decode cX0_drops 33 = .ok (.bipush (-2), 2) := dk_16 254 (dk_at dksX0_drops_1 9 rfl rfl)
theorem dX0_drops_35 : decode cX0_drops 35 = .ok (.ireturn, 1) := dk_172 (dk_at dksX0_drops_1 11 rfl rfl)
abbrev cX0_undo : ByteArray := prog_1_method_135_code
def yX0_undo : MethodName := ⟨RX0, "undo", "()I"⟩
def dkwX0_undo_1 : List UInt8 := [185, 2, 71, 1, 0, 153, 0, 8, 16, 251, 167, 0, 7, 42, 182, 2, 74, 172]
abbrev dktX0_undo_1 : List UInt8 := dkwX0_undo_1 ++ []
def dkwX0_undo_0 : List UInt8 := [42, 180, 0, 46, 182, 0, 200, 154, 0, 6, 16, 254, 172, 42, 180, 0, 46, 180, 2, 39]
abbrev dktX0_undo_0 : List UInt8 := dkwX0_undo_0 ++ dktX0_undo_1
theorem dksX0_undo_0 : cX0_undo.data.toList.drop 0 = dktX0_undo_0 := by decide +kernel
theorem dksX0_undo_1 : cX0_undo.data.toList.drop 20 = dktX0_undo_1 := dk_seg dksX0_undo_0 20 rfl rfl
theorem dX0_undo_0 : decode cX0_undo 0 = .ok (.aload_n 0, 1) := dk_42 (dk_at dksX0_undo_0 0 rfl rfl)
theorem dX0_undo_1 : decode cX0_undo 1 = .ok (.getfield 46, 3) := dk_180 0 46 (dk_at dksX0_undo_0 1 rfl rfl)
theorem dX0_undo_4 : decode cX0_undo 4 = .ok (.invokevirtual 200, 3) := dk_182 0 200 (dk_at dksX0_undo_0 4 rfl rfl)
theorem dX0_undo_7 : decode cX0_undo 7 = .ok (.ifCond .ne 6, 3) := dk_154 0 6 (dk_at dksX0_undo_0 7 rfl rfl)
theorem dX0_undo_10 : decode cX0_undo 10 = .ok (.bipush (-2), 2) := dk_16 254 (dk_at dksX0_undo_0 10 rfl rfl)
theorem dX0_undo_12 : decode cX0_undo 12 = .ok (.ireturn, 1) := dk_172 (dk_at dksX0_undo_0 12 rfl rfl)
theorem dX0_undo_13 : decode cX0_undo 13 = .ok (.aload_n 0, 1) := dk_42 (dk_at dksX0_undo_0 13 rfl rfl)
theorem dX0_undo_14 : decode cX0_undo 14 = .ok (.getfield 46, 3) := dk_180 0 46 (dk_at dksX0_undo_0 14 rfl rfl)
theorem dX0_undo_17 : decode cX0_undo 17 = .ok (.getfield 551, 3) := dk_180 2 39 (dk_at dksX0_undo_0 17 rfl rfl)
theorem dX0_undo_20 : decode cX0_undo 20 = .ok (.invokeinterface 583 1, 5) := by decide +kernel
theorem dX0_undo_25 : decode cX0_undo 25 = .ok (.ifCond .eq 8, 3) := dk_153 0 8 (dk_at dksX0_undo_1 5 rfl rfl)
theorem dX0_undo_28 : decode cX0_undo 28 = .ok (.bipush (-5), 2) := dk_16 251 (dk_at dksX0_undo_1 8 rfl rfl)
theorem dX0_undo_30 : decode cX0_undo 30 = .ok (.goto 7, 3) := dk_167 0 7 (dk_at dksX0_undo_1 10 rfl rfl)
theorem dX0_undo_33 : decode cX0_undo 33 = .ok (.aload_n 0, 1) := dk_42 (dk_at dksX0_undo_1 13 rfl rfl)
theorem dX0_undo_34 : decode cX0_undo 34 = .ok (.invokevirtual 586, 3) := dk_182 2 74 (dk_at dksX0_undo_1 14 rfl rfl)
theorem dX0_undo_37 : decode cX0_undo 37 = .ok (.ireturn, 1) := dk_172 (dk_at dksX0_undo_1 17 rfl rfl)
abbrev cX0_takesBack : ByteArray := prog_1_method_134_code
def yX0_takesBack : MethodName := ⟨RX0, "takesBack", "()I"⟩
def dkwX0_takesBack_2 : List UInt8 := [185, 0, 225, 1, 0, 172]
abbrev dktX0_takesBack_2 : List UInt8 := dkwX0_takesBack_2 ++ []
def dkwX0_takesBack_1 : List UInt8 := [185, 2, 60, 2, 0, 192, 2, 42, 180, 2, 63, 185, 2, 67, 1, 0, 42, 180, 0, 46, 180, 2, 39]
abbrev dktX0_takesBack_1 : List UInt8 := dkwX0_takesBack_1 ++ dktX0_takesBack_2
def dkwX0_takesBack_0 : List UInt8 := [42, 180, 0, 46, 180, 2, 39, 42, 180, 0, 46, 180, 2, 39, 185, 0, 225, 1, 0, 4, 100]
abbrev dktX0_takesBack_0 : List UInt8 := dkwX0_takesBack_0 ++ dktX0_takesBack_1
theorem dksX0_takesBack_0 : cX0_takesBack.data.toList.drop 0 = dktX0_takesBack_0 := by decide +kernel
theorem dksX0_takesBack_1 : cX0_takesBack.data.toList.drop 21 = dktX0_takesBack_1 := dk_seg dksX0_takesBack_0 21 rfl rfl
theorem dksX0_takesBack_2 : cX0_takesBack.data.toList.drop 44 = dktX0_takesBack_2 := dk_seg dksX0_takesBack_1 23 rfl rfl
theorem dX0_takesBack_0 : decode cX0_takesBack 0 = .ok (.aload_n 0, 1) := dk_42 (dk_at dksX0_takesBack_0 0 rfl rfl)
theorem dX0_takesBack_1 : decode cX0_takesBack 1 = .ok (.getfield 46, 3) := dk_180 0 46 (dk_at dksX0_takesBack_0 1 rfl rfl)
theorem dX0_takesBack_4 : decode cX0_takesBack 4 = .ok (.getfield 551, 3) := dk_180 2 39 (dk_at dksX0_takesBack_0 4 rfl rfl)
theorem dX0_takesBack_7 : decode cX0_takesBack 7 = .ok (.aload_n 0, 1) := dk_42 (dk_at dksX0_takesBack_0 7 rfl rfl)
theorem dX0_takesBack_8 : decode cX0_takesBack 8 = .ok (.getfield 46, 3) := dk_180 0 46 (dk_at dksX0_takesBack_0 8 rfl rfl)
theorem dX0_takesBack_11 : decode cX0_takesBack 11 = .ok (.getfield 551, 3) := dk_180 2 39 (dk_at dksX0_takesBack_0 11 rfl rfl)
theorem dX0_takesBack_14 : decode cX0_takesBack 14 = .ok (.invokeinterface 225 1, 5) := by decide +kernel
theorem dX0_takesBack_19 : decode cX0_takesBack 19 = .ok (.iconst 1, 1) := dk_4 (dk_at dksX0_takesBack_0 19 rfl rfl)
theorem dX0_takesBack_20 : decode cX0_takesBack 20 = .ok (.isub, 1) := dk_100 (dk_at dksX0_takesBack_0 20 rfl rfl)
theorem dX0_takesBack_21 : decode cX0_takesBack 21 = .ok (.invokeinterface 572 2, 5) := by decide +kernel
theorem dX0_takesBack_26 : decode cX0_takesBack 26 = .ok (.checkcast 554, 3) := dk_192 2 42 (dk_at dksX0_takesBack_1 5 rfl rfl)
theorem dX0_takesBack_29 : decode cX0_takesBack 29 = .ok (.getfield 575, 3) := dk_180 2 63 (dk_at dksX0_takesBack_1 8 rfl rfl)
theorem dX0_takesBack_32 : decode cX0_takesBack 32 = .ok (.invokeinterface 579 1, 5) := by decide +kernel
theorem dX0_takesBack_37 : decode cX0_takesBack 37 = .ok (.aload_n 0, 1) := dk_42 (dk_at dksX0_takesBack_1 16 rfl rfl)
theorem dX0_takesBack_38 : decode cX0_takesBack 38 = .ok (.getfield 46, 3) := dk_180 0 46 (dk_at dksX0_takesBack_1 17 rfl rfl)
theorem dX0_takesBack_41 : decode cX0_takesBack 41 = .ok (.getfield 551, 3) := dk_180 2 39 (dk_at dksX0_takesBack_1 20 rfl rfl)
theorem dX0_takesBack_44 : decode cX0_takesBack 44 = .ok (.invokeinterface 225 1, 5) := by decide +kernel
theorem dX0_takesBack_49 : decode cX0_takesBack 49 = .ok (.ireturn, 1) := dk_172 (dk_at dksX0_takesBack_2 5 rfl rfl)
abbrev cX0_anew : ByteArray := prog_1_method_136_code
def yX0_anew : MethodName := ⟨RX0, "anew", "()I"⟩
def dkwX0_anew_2 : List UInt8 := [182, 2, 74, 87, 167, 255, 236, 27, 172]
abbrev dktX0_anew_2 : List UInt8 := dkwX0_anew_2 ++ []
def dkwX0_anew_1 : List UInt8 := [185, 0, 225, 1, 0, 60, 42, 180, 0, 46, 180, 2, 39, 185, 2, 71, 1, 0, 154, 0, 11, 42]
abbrev dktX0_anew_1 : List UInt8 := dkwX0_anew_1 ++ dktX0_anew_2
def dkwX0_anew_0 : List UInt8 := [42, 180, 0, 46, 182, 0, 200, 154, 0, 6, 16, 254, 172, 42, 180, 0, 46, 180, 2, 39]
abbrev dktX0_anew_0 : List UInt8 := dkwX0_anew_0 ++ dktX0_anew_1
theorem dksX0_anew_0 : cX0_anew.data.toList.drop 0 = dktX0_anew_0 := by decide +kernel
theorem dksX0_anew_1 : cX0_anew.data.toList.drop 20 = dktX0_anew_1 := dk_seg dksX0_anew_0 20 rfl rfl
theorem dksX0_anew_2 : cX0_anew.data.toList.drop 42 = dktX0_anew_2 := dk_seg dksX0_anew_1 22 rfl rfl
theorem dX0_anew_0 : decode cX0_anew 0 = .ok (.aload_n 0, 1) := dk_42 (dk_at dksX0_anew_0 0 rfl rfl)
theorem dX0_anew_1 : decode cX0_anew 1 = .ok (.getfield 46, 3) := dk_180 0 46 (dk_at dksX0_anew_0 1 rfl rfl)
theorem dX0_anew_4 : decode cX0_anew 4 = .ok (.invokevirtual 200, 3) := dk_182 0 200 (dk_at dksX0_anew_0 4 rfl rfl)
theorem dX0_anew_7 : decode cX0_anew 7 = .ok (.ifCond .ne 6, 3) := dk_154 0 6 (dk_at dksX0_anew_0 7 rfl rfl)
theorem dX0_anew_10 : decode cX0_anew 10 = .ok (.bipush (-2), 2) := dk_16 254 (dk_at dksX0_anew_0 10 rfl rfl)
theorem dX0_anew_12 : decode cX0_anew 12 = .ok (.ireturn, 1) := dk_172 (dk_at dksX0_anew_0 12 rfl rfl)
theorem dX0_anew_13 : decode cX0_anew 13 = .ok (.aload_n 0, 1) := dk_42 (dk_at dksX0_anew_0 13 rfl rfl)
theorem dX0_anew_14 : decode cX0_anew 14 = .ok (.getfield 46, 3) := dk_180 0 46 (dk_at dksX0_anew_0 14 rfl rfl)
theorem dX0_anew_17 : decode cX0_anew 17 = .ok (.getfield 551, 3) := dk_180 2 39 (dk_at dksX0_anew_0 17 rfl rfl)
theorem dX0_anew_20 : decode cX0_anew 20 = .ok (.invokeinterface 225 1, 5) := by decide +kernel
theorem dX0_anew_25 : decode cX0_anew 25 = .ok (.istore_n 1, 1) := dk_60 (dk_at dksX0_anew_1 5 rfl rfl)
theorem dX0_anew_26 : decode cX0_anew 26 = .ok (.aload_n 0, 1) := dk_42 (dk_at dksX0_anew_1 6 rfl rfl)
theorem dX0_anew_27 : decode cX0_anew 27 = .ok (.getfield 46, 3) := dk_180 0 46 (dk_at dksX0_anew_1 7 rfl rfl)
theorem dX0_anew_30 : decode cX0_anew 30 = .ok (.getfield 551, 3) := dk_180 2 39 (dk_at dksX0_anew_1 10 rfl rfl)
theorem dX0_anew_33 : decode cX0_anew 33 = .ok (.invokeinterface 583 1, 5) := by decide +kernel
theorem dX0_anew_38 : decode cX0_anew 38 = .ok (.ifCond .ne 11, 3) := dk_154 0 11 (dk_at dksX0_anew_1 18 rfl rfl)
theorem dX0_anew_41 : decode cX0_anew 41 = .ok (.aload_n 0, 1) := dk_42 (dk_at dksX0_anew_1 21 rfl rfl)
theorem dX0_anew_42 : decode cX0_anew 42 = .ok (.invokevirtual 586, 3) := dk_182 2 74 (dk_at dksX0_anew_2 0 rfl rfl)
theorem dX0_anew_45 : decode cX0_anew 45 = .ok (.pop, 1) := dk_87 (dk_at dksX0_anew_2 3 rfl rfl)
theorem dX0_anew_46 : decode cX0_anew 46 = .ok (.goto (-20), 3) := dk_167 255 236 (dk_at dksX0_anew_2 4 rfl rfl)
theorem dX0_anew_49 : decode cX0_anew 49 = .ok (.iload_n 1, 1) := dk_27 (dk_at dksX0_anew_2 7 rfl rfl)
theorem dX0_anew_50 : decode cX0_anew 50 = .ok (.ireturn, 1) := dk_172 (dk_at dksX0_anew_2 8 rfl rfl)
abbrev cX0_rate : ByteArray := prog_1_method_137_code
def yX0_rate : MethodName := ⟨RX0, "rate", "(II)I"⟩
def dkwX0_rate_2 : List UInt8 := [27, 46, 62, 42, 180, 0, 46, 180, 1, 45, 27, 28, 79, 29, 172]
abbrev dktX0_rate_2 : List UInt8 := dkwX0_rate_2 ++ []
def dkwX0_rate_1 : List UInt8 := [180, 0, 46, 180, 2, 39, 185, 2, 71, 1, 0, 154, 0, 6, 16, 251, 172, 42, 180, 0, 46, 180, 1, 45]
abbrev dktX0_rate_1 : List UInt8 := dkwX0_rate_1 ++ dktX0_rate_2
def dkwX0_rate_0 : List UInt8 := [42, 27, 182, 1, 91, 153, 0, 15, 28, 133, 9, 20, 0, 9, 184, 0, 11, 154, 0, 6, 16, 254, 172, 42]
abbrev dktX0_rate_0 : List UInt8 := dkwX0_rate_0 ++ dktX0_rate_1
theorem dksX0_rate_0 : cX0_rate.data.toList.drop 0 = dktX0_rate_0 := by decide +kernel
theorem dksX0_rate_1 : cX0_rate.data.toList.drop 24 = dktX0_rate_1 := dk_seg dksX0_rate_0 24 rfl rfl
theorem dksX0_rate_2 : cX0_rate.data.toList.drop 48 = dktX0_rate_2 := dk_seg dksX0_rate_1 24 rfl rfl
theorem dX0_rate_0 : decode cX0_rate 0 = .ok (.aload_n 0, 1) := dk_42 (dk_at dksX0_rate_0 0 rfl rfl)
theorem dX0_rate_1 : decode cX0_rate 1 = .ok (.iload_n 1, 1) := dk_27 (dk_at dksX0_rate_0 1 rfl rfl)
theorem dX0_rate_2 : decode cX0_rate 2 = .ok (.invokevirtual 347, 3) := dk_182 1 91 (dk_at dksX0_rate_0 2 rfl rfl)
theorem dX0_rate_5 : decode cX0_rate 5 = .ok (.ifCond .eq 15, 3) := dk_153 0 15 (dk_at dksX0_rate_0 5 rfl rfl)
theorem dX0_rate_8 : decode cX0_rate 8 = .ok (.iload_n 2, 1) := dk_28 (dk_at dksX0_rate_0 8 rfl rfl)
theorem dX0_rate_9 : decode cX0_rate 9 = .ok (.i2l, 1) := dk_133 (dk_at dksX0_rate_0 9 rfl rfl)
theorem dX0_rate_10 : decode cX0_rate 10 = .ok (.lconst 0, 1) := dk_9 (dk_at dksX0_rate_0 10 rfl rfl)
theorem dX0_rate_11 : decode cX0_rate 11 = .ok (.ldc2_w 9, 3) := dk_20 0 9 (dk_at dksX0_rate_0 11 rfl rfl)
theorem dX0_rate_14 : decode cX0_rate 14 = .ok (.invokestatic 11, 3) := dk_184 0 11 (dk_at dksX0_rate_0 14 rfl rfl)
theorem dX0_rate_17 : decode cX0_rate 17 = .ok (.ifCond .ne 6, 3) := dk_154 0 6 (dk_at dksX0_rate_0 17 rfl rfl)
theorem dX0_rate_20 : decode cX0_rate 20 = .ok (.bipush (-2), 2) := dk_16 254 (dk_at dksX0_rate_0 20 rfl rfl)
theorem dX0_rate_22 : decode cX0_rate 22 = .ok (.ireturn, 1) := dk_172 (dk_at dksX0_rate_0 22 rfl rfl)
theorem dX0_rate_23 : decode cX0_rate 23 = .ok (.aload_n 0, 1) := dk_42 (dk_at dksX0_rate_0 23 rfl rfl)
theorem dX0_rate_24 : decode cX0_rate 24 = .ok (.getfield 46, 3) := dk_180 0 46 (dk_at dksX0_rate_1 0 rfl rfl)
theorem dX0_rate_27 : decode cX0_rate 27 = .ok (.getfield 551, 3) := dk_180 2 39 (dk_at dksX0_rate_1 3 rfl rfl)
theorem dX0_rate_30 : decode cX0_rate 30 = .ok (.invokeinterface 583 1, 5) := by decide +kernel
theorem dX0_rate_35 : decode cX0_rate 35 = .ok (.ifCond .ne 6, 3) := dk_154 0 6 (dk_at dksX0_rate_1 11 rfl rfl)
theorem dX0_rate_38 : decode cX0_rate 38 = .ok (.bipush (-5), 2) := dk_16 251 (dk_at dksX0_rate_1 14 rfl rfl)
theorem dX0_rate_40 : decode cX0_rate 40 = .ok (.ireturn, 1) := dk_172 (dk_at dksX0_rate_1 16 rfl rfl)
theorem dX0_rate_41 : decode cX0_rate 41 = .ok (.aload_n 0, 1) := dk_42 (dk_at dksX0_rate_1 17 rfl rfl)
theorem dX0_rate_42 : decode cX0_rate 42 = .ok (.getfield 46, 3) := dk_180 0 46 (dk_at dksX0_rate_1 18 rfl rfl)
theorem dX0_rate_45 : decode cX0_rate 45 = .ok (.getfield 301, 3) := dk_180 1 45 (dk_at dksX0_rate_1 21 rfl rfl)
theorem dX0_rate_48 : decode cX0_rate 48 = .ok (.iload_n 1, 1) := dk_27 (dk_at dksX0_rate_2 0 rfl rfl)
theorem dX0_rate_49 : decode cX0_rate 49 = .ok (.iaload, 1) := dk_46 (dk_at dksX0_rate_2 1 rfl rfl)
theorem dX0_rate_50 : decode cX0_rate 50 = .ok (.istore_n 3, 1) := dk_62 (dk_at dksX0_rate_2 2 rfl rfl)
theorem dX0_rate_51 : decode cX0_rate 51 = .ok (.aload_n 0, 1) := dk_42 (dk_at dksX0_rate_2 3 rfl rfl)
theorem dX0_rate_52 : decode cX0_rate 52 = .ok (.getfield 46, 3) := dk_180 0 46 (dk_at dksX0_rate_2 4 rfl rfl)
theorem dX0_rate_55 : decode cX0_rate 55 = .ok (.getfield 301, 3) := dk_180 1 45 (dk_at dksX0_rate_2 7 rfl rfl)
theorem dX0_rate_58 : decode cX0_rate 58 = .ok (.iload_n 1, 1) := dk_27 (dk_at dksX0_rate_2 10 rfl rfl)
theorem dX0_rate_59 : decode cX0_rate 59 = .ok (.iload_n 2, 1) := dk_28 (dk_at dksX0_rate_2 11 rfl rfl)
theorem dX0_rate_60 : decode cX0_rate 60 = .ok (.iastore, 1) := dk_79 (dk_at dksX0_rate_2 12 rfl rfl)
theorem dX0_rate_61 : decode cX0_rate 61 = .ok (.iload_n 3, 1) := dk_29 (dk_at dksX0_rate_2 13 rfl rfl)
theorem dX0_rate_62 : decode cX0_rate 62 = .ok (.ireturn, 1) := dk_172 (dk_at dksX0_rate_2 14 rfl rfl)
abbrev cX0_count : ByteArray := prog_1_method_138_code
def yX0_count : MethodName := ⟨RX0, "count", "(I)I"⟩
def dkwX0_count_7 : List UInt8 := [199, 0, 7, 3, 167, 0, 4, 4, 96, 61, 132, 5, 1, 167, 255, 224, 28, 172, 2, 172]
abbrev dktX0_count_7 : List UInt8 := dkwX0_count_7 ++ []
def dkwX0_count_6 : List UInt8 := [54, 4, 3, 54, 5, 21, 5, 21, 4, 162, 0, 31, 45, 21, 5, 50, 58, 6, 28, 25, 6, 180, 1, 191]
abbrev dktX0_count_6 : List UInt8 := dkwX0_count_6 ++ dktX0_count_7
def dkwX0_count_5 : List UInt8 := [172, 42, 180, 0, 46, 180, 0, 210, 172, 42, 180, 0, 188, 172, 3, 61, 42, 180, 0, 19, 78, 45, 190]
abbrev dktX0_count_5 : List UInt8 := dkwX0_count_5 ++ dktX0_count_6
def dkwX0_count_4 : List UInt8 := [180, 0, 46, 180, 0, 231, 185, 0, 225, 1, 0, 172, 42, 180, 0, 46, 180, 2, 39, 185, 0, 225, 1, 0]
abbrev dktX0_count_4 : List UInt8 := dkwX0_count_4 ++ dktX0_count_5
def dkwX0_count_3 : List UInt8 := [42, 180, 0, 46, 180, 0, 219, 172, 42, 180, 0, 46, 180, 0, 222, 185, 0, 225, 1, 0, 172, 42]
abbrev dktX0_count_3 : List UInt8 := dkwX0_count_3 ++ dktX0_count_4
def dkwX0_count_2 : List UInt8 := [42, 180, 0, 46, 180, 0, 50, 172, 42, 180, 0, 46, 180, 1, 8, 172, 42, 180, 0, 46, 180, 2, 6, 172]
abbrev dktX0_count_2 : List UInt8 := dkwX0_count_2 ++ dktX0_count_3
def dkwX0_count_1 : List UInt8 := [170, 0, 0, 0, 0, 0, 190, 0, 0, 0, 0, 0, 0, 0, 9, 0, 0, 0, 55, 0, 0, 0, 63, 0, 0, 0, 71, 0, 0, 0, 79, 0, 0, 0, 87, 0, 0, 0, 100, 0, 0, 0, 113, 0, 0, 0, 126, 0, 0, 0, 134, 0, 0, 0, 139]
abbrev dktX0_count_1 : List UInt8 := dkwX0_count_1 ++ dktX0_count_2
def dkwX0_count_0 : List UInt8 := [27]
abbrev dktX0_count_0 : List UInt8 := dkwX0_count_0 ++ dktX0_count_1
theorem dksX0_count_0 : cX0_count.data.toList.drop 0 = dktX0_count_0 := by decide +kernel
theorem dksX0_count_1 : cX0_count.data.toList.drop 1 = dktX0_count_1 := dk_seg dksX0_count_0 1 rfl rfl
theorem dksX0_count_2 : cX0_count.data.toList.drop 56 = dktX0_count_2 := dk_seg dksX0_count_1 55 rfl rfl
theorem dksX0_count_3 : cX0_count.data.toList.drop 80 = dktX0_count_3 := dk_seg dksX0_count_2 24 rfl rfl
theorem dksX0_count_4 : cX0_count.data.toList.drop 102 = dktX0_count_4 := dk_seg dksX0_count_3 22 rfl rfl
theorem dksX0_count_5 : cX0_count.data.toList.drop 126 = dktX0_count_5 := dk_seg dksX0_count_4 24 rfl rfl
theorem dksX0_count_6 : cX0_count.data.toList.drop 149 = dktX0_count_6 := dk_seg dksX0_count_5 23 rfl rfl
theorem dksX0_count_7 : cX0_count.data.toList.drop 173 = dktX0_count_7 := dk_seg dksX0_count_6 24 rfl rfl
theorem dX0_count_0 : decode cX0_count 0 = .ok (.iload_n 1, 1) := dk_27 (dk_at dksX0_count_0 0 rfl rfl)
theorem dX0_count_1 : decode cX0_count 1 = .ok (.tableswitch 190 0 9 #[55, 63, 71, 79, 87, 100, 113, 126, 134, 139], 55) := by decide +kernel
theorem dX0_count_56 : decode cX0_count 56 = .ok (.aload_n 0, 1) := dk_42 (dk_at dksX0_count_2 0 rfl rfl)
theorem dX0_count_57 : decode cX0_count 57 = .ok (.getfield 46, 3) := dk_180 0 46 (dk_at dksX0_count_2 1 rfl rfl)
theorem dX0_count_60 : decode cX0_count 60 = .ok (.getfield 50, 3) := dk_180 0 50 (dk_at dksX0_count_2 4 rfl rfl)
theorem dX0_count_63 : decode cX0_count 63 = .ok (.ireturn, 1) := dk_172 (dk_at dksX0_count_2 7 rfl rfl)
theorem dX0_count_64 : decode cX0_count 64 = .ok (.aload_n 0, 1) := dk_42 (dk_at dksX0_count_2 8 rfl rfl)
theorem dX0_count_65 : decode cX0_count 65 = .ok (.getfield 46, 3) := dk_180 0 46 (dk_at dksX0_count_2 9 rfl rfl)
theorem dX0_count_68 : decode cX0_count 68 = .ok (.getfield 264, 3) := dk_180 1 8 (dk_at dksX0_count_2 12 rfl rfl)
theorem dX0_count_71 : decode cX0_count 71 = .ok (.ireturn, 1) := dk_172 (dk_at dksX0_count_2 15 rfl rfl)
theorem dX0_count_72 : decode cX0_count 72 = .ok (.aload_n 0, 1) := dk_42 (dk_at dksX0_count_2 16 rfl rfl)
theorem dX0_count_73 : decode cX0_count 73 = .ok (.getfield 46, 3) := dk_180 0 46 (dk_at dksX0_count_2 17 rfl rfl)
theorem dX0_count_76 : decode cX0_count 76 = .ok (.getfield 518, 3) := dk_180 2 6 (dk_at dksX0_count_2 20 rfl rfl)
theorem dX0_count_79 : decode cX0_count 79 = .ok (.ireturn, 1) := dk_172 (dk_at dksX0_count_2 23 rfl rfl)
theorem dX0_count_80 : decode cX0_count 80 = .ok (.aload_n 0, 1) := dk_42 (dk_at dksX0_count_3 0 rfl rfl)
theorem dX0_count_81 : decode cX0_count 81 = .ok (.getfield 46, 3) := dk_180 0 46 (dk_at dksX0_count_3 1 rfl rfl)
theorem dX0_count_84 : decode cX0_count 84 = .ok (.getfield 219, 3) := dk_180 0 219 (dk_at dksX0_count_3 4 rfl rfl)
theorem dX0_count_87 : decode cX0_count 87 = .ok (.ireturn, 1) := dk_172 (dk_at dksX0_count_3 7 rfl rfl)
theorem dX0_count_88 : decode cX0_count 88 = .ok (.aload_n 0, 1) := dk_42 (dk_at dksX0_count_3 8 rfl rfl)
theorem dX0_count_89 : decode cX0_count 89 = .ok (.getfield 46, 3) := dk_180 0 46 (dk_at dksX0_count_3 9 rfl rfl)
theorem dX0_count_92 : decode cX0_count 92 = .ok (.getfield 222, 3) := dk_180 0 222 (dk_at dksX0_count_3 12 rfl rfl)
theorem dX0_count_95 : decode cX0_count 95 = .ok (.invokeinterface 225 1, 5) := by decide +kernel
theorem dX0_count_100 : decode cX0_count 100 = .ok (.ireturn, 1) := dk_172 (dk_at dksX0_count_3 20 rfl rfl)
theorem dX0_count_101 : decode cX0_count 101 = .ok (.aload_n 0, 1) := dk_42 (dk_at dksX0_count_3 21 rfl rfl)
theorem dX0_count_102 : decode cX0_count 102 = .ok (.getfield 46, 3) := dk_180 0 46 (dk_at dksX0_count_4 0 rfl rfl)
theorem dX0_count_105 : decode cX0_count 105 = .ok (.getfield 231, 3) := dk_180 0 231 (dk_at dksX0_count_4 3 rfl rfl)
theorem dX0_count_108 : decode cX0_count 108 = .ok (.invokeinterface 225 1, 5) := by decide +kernel
theorem dX0_count_113 : decode cX0_count 113 = .ok (.ireturn, 1) := dk_172 (dk_at dksX0_count_4 11 rfl rfl)
theorem dX0_count_114 : decode cX0_count 114 = .ok (.aload_n 0, 1) := dk_42 (dk_at dksX0_count_4 12 rfl rfl)
theorem dX0_count_115 : decode cX0_count 115 = .ok (.getfield 46, 3) := dk_180 0 46 (dk_at dksX0_count_4 13 rfl rfl)
theorem dX0_count_118 : decode cX0_count 118 = .ok (.getfield 551, 3) := dk_180 2 39 (dk_at dksX0_count_4 16 rfl rfl)
theorem dX0_count_121 : decode cX0_count 121 = .ok (.invokeinterface 225 1, 5) := by decide +kernel
theorem dX0_count_126 : decode cX0_count 126 = .ok (.ireturn, 1) := dk_172 (dk_at dksX0_count_5 0 rfl rfl)
theorem dX0_count_127 : decode cX0_count 127 = .ok (.aload_n 0, 1) := dk_42 (dk_at dksX0_count_5 1 rfl rfl)
theorem dX0_count_128 : decode cX0_count 128 = .ok (.getfield 46, 3) := dk_180 0 46 (dk_at dksX0_count_5 2 rfl rfl)
theorem dX0_count_131 : decode cX0_count 131 = .ok (.getfield 210, 3) := dk_180 0 210 (dk_at dksX0_count_5 5 rfl rfl)
theorem dX0_count_134 : decode cX0_count 134 = .ok (.ireturn, 1) := dk_172 (dk_at dksX0_count_5 8 rfl rfl)
theorem dX0_count_135 : decode cX0_count 135 = .ok (.aload_n 0, 1) := dk_42 (dk_at dksX0_count_5 9 rfl rfl)
theorem dX0_count_136 : decode cX0_count 136 = .ok (.getfield 188, 3) := dk_180 0 188 (dk_at dksX0_count_5 10 rfl rfl)
theorem dX0_count_139 : decode cX0_count 139 = .ok (.ireturn, 1) := dk_172 (dk_at dksX0_count_5 13 rfl rfl)
theorem dX0_count_140 : decode cX0_count 140 = .ok (.iconst 0, 1) := dk_3 (dk_at dksX0_count_5 14 rfl rfl)
theorem dX0_count_141 : decode cX0_count 141 = .ok (.istore_n 2, 1) := dk_61 (dk_at dksX0_count_5 15 rfl rfl)
theorem dX0_count_142 : decode cX0_count 142 = .ok (.aload_n 0, 1) := dk_42 (dk_at dksX0_count_5 16 rfl rfl)
theorem dX0_count_143 : decode cX0_count 143 = .ok (.getfield 19, 3) := dk_180 0 19 (dk_at dksX0_count_5 17 rfl rfl)
theorem dX0_count_146 : decode cX0_count 146 = .ok (.astore_n 3, 1) := dk_78 (dk_at dksX0_count_5 20 rfl rfl)
theorem dX0_count_147 : decode cX0_count 147 = .ok (.aload_n 3, 1) := dk_45 (dk_at dksX0_count_5 21 rfl rfl)
theorem dX0_count_148 : decode cX0_count 148 = .ok (.arraylength, 1) := dk_190 (dk_at dksX0_count_5 22 rfl rfl)
theorem dX0_count_149 : decode cX0_count 149 = .ok (.istore 4, 2) := dk_54 4 (dk_at dksX0_count_6 0 rfl rfl)
theorem dX0_count_151 : decode cX0_count 151 = .ok (.iconst 0, 1) := dk_3 (dk_at dksX0_count_6 2 rfl rfl)
theorem dX0_count_152 : decode cX0_count 152 = .ok (.istore 5, 2) := dk_54 5 (dk_at dksX0_count_6 3 rfl rfl)
theorem dX0_count_154 : decode cX0_count 154 = .ok (.iload 5, 2) := dk_21 5 (dk_at dksX0_count_6 5 rfl rfl)
theorem dX0_count_156 : decode cX0_count 156 = .ok (.iload 4, 2) := dk_21 4 (dk_at dksX0_count_6 7 rfl rfl)
theorem dX0_count_158 : decode cX0_count 158 = .ok (.if_icmp .ge 31, 3) := dk_162 0 31 (dk_at dksX0_count_6 9 rfl rfl)
theorem dX0_count_161 : decode cX0_count 161 = .ok (.aload_n 3, 1) := dk_45 (dk_at dksX0_count_6 12 rfl rfl)
theorem dX0_count_162 : decode cX0_count 162 = .ok (.iload 5, 2) := dk_21 5 (dk_at dksX0_count_6 13 rfl rfl)
theorem dX0_count_164 : decode cX0_count 164 = .ok (.aaload, 1) := dk_50 (dk_at dksX0_count_6 15 rfl rfl)
theorem dX0_count_165 : decode cX0_count 165 = .ok (.astore 6, 2) := dk_58 6 (dk_at dksX0_count_6 16 rfl rfl)
theorem dX0_count_167 : decode cX0_count 167 = .ok (.iload_n 2, 1) := dk_28 (dk_at dksX0_count_6 18 rfl rfl)
theorem dX0_count_168 : decode cX0_count 168 = .ok (.aload 6, 2) := dk_25 6 (dk_at dksX0_count_6 19 rfl rfl)
theorem dX0_count_170 : decode cX0_count 170 = .ok (.getfield 447, 3) := dk_180 1 191 (dk_at dksX0_count_6 21 rfl rfl)
theorem dX0_count_173 : decode cX0_count 173 = .ok (.ifnonnull 7, 3) := dk_199 0 7 (dk_at dksX0_count_7 0 rfl rfl)
theorem dX0_count_176 : decode cX0_count 176 = .ok (.iconst 0, 1) := dk_3 (dk_at dksX0_count_7 3 rfl rfl)
theorem dX0_count_177 : decode cX0_count 177 = .ok (.goto 4, 3) := dk_167 0 4 (dk_at dksX0_count_7 4 rfl rfl)
theorem dX0_count_180 : decode cX0_count 180 = .ok (.iconst 1, 1) := dk_4 (dk_at dksX0_count_7 7 rfl rfl)
theorem dX0_count_181 : decode cX0_count 181 = .ok (.iadd, 1) := dk_96 (dk_at dksX0_count_7 8 rfl rfl)
theorem dX0_count_182 : decode cX0_count 182 = .ok (.istore_n 2, 1) := dk_61 (dk_at dksX0_count_7 9 rfl rfl)
theorem dX0_count_183 : decode cX0_count 183 = .ok (.iinc 5 1, 3) := dk_132 5 1 (dk_at dksX0_count_7 10 rfl rfl)
theorem dX0_count_186 : decode cX0_count 186 = .ok (.goto (-32), 3) := dk_167 255 224 (dk_at dksX0_count_7 13 rfl rfl)
theorem dX0_count_189 : decode cX0_count 189 = .ok (.iload_n 2, 1) := dk_28 (dk_at dksX0_count_7 16 rfl rfl)
theorem dX0_count_190 : decode cX0_count 190 = .ok (.ireturn, 1) := dk_172 (dk_at dksX0_count_7 17 rfl rfl)
theorem dX0_count_191 : decode cX0_count 191 = .ok (.iconst (-1), 1) := dk_2 (dk_at dksX0_count_7 18 rfl rfl)
theorem dX0_count_192 : decode cX0_count 192 = .ok (.ireturn, 1) := dk_172 (dk_at dksX0_count_7 19 rfl rfl)
abbrev cX0_image : ByteArray := prog_1_method_139_code
def yX0_image : MethodName := ⟨RX0, "image", "(I)I"⟩
def dkwX0_image_1 : List UInt8 := [182, 2, 79, 83, 3, 172]
abbrev dktX0_image_1 : List UInt8 := dkwX0_image_1 ++ []
def dkwX0_image_0 : List UInt8 := [27, 133, 9, 20, 2, 77, 184, 0, 11, 154, 0, 6, 16, 254, 172, 42, 180, 0, 110, 27, 42, 180, 0, 46]
abbrev dktX0_image_0 : List UInt8 := dkwX0_image_0 ++ dktX0_image_1
theorem dksX0_image_0 : cX0_image.data.toList.drop 0 = dktX0_image_0 := by decide +kernel
theorem dksX0_image_1 : cX0_image.data.toList.drop 24 = dktX0_image_1 := dk_seg dksX0_image_0 24 rfl rfl
theorem dX0_image_0 : decode cX0_image 0 = .ok (.iload_n 1, 1) := dk_27 (dk_at dksX0_image_0 0 rfl rfl)
theorem dX0_image_1 : decode cX0_image 1 = .ok (.i2l, 1) := dk_133 (dk_at dksX0_image_0 1 rfl rfl)
theorem dX0_image_2 : decode cX0_image 2 = .ok (.lconst 0, 1) := dk_9 (dk_at dksX0_image_0 2 rfl rfl)
theorem dX0_image_3 : decode cX0_image 3 = .ok (.ldc2_w 589, 3) := dk_20 2 77 (dk_at dksX0_image_0 3 rfl rfl)
theorem dX0_image_6 : decode cX0_image 6 = .ok (.invokestatic 11, 3) := dk_184 0 11 (dk_at dksX0_image_0 6 rfl rfl)
theorem dX0_image_9 : decode cX0_image 9 = .ok (.ifCond .ne 6, 3) := dk_154 0 6 (dk_at dksX0_image_0 9 rfl rfl)
theorem dX0_image_12 : decode cX0_image 12 = .ok (.bipush (-2), 2) := dk_16 254 (dk_at dksX0_image_0 12 rfl rfl)
theorem dX0_image_14 : decode cX0_image 14 = .ok (.ireturn, 1) := dk_172 (dk_at dksX0_image_0 14 rfl rfl)
theorem dX0_image_15 : decode cX0_image 15 = .ok (.aload_n 0, 1) := dk_42 (dk_at dksX0_image_0 15 rfl rfl)
theorem dX0_image_16 : decode cX0_image 16 = .ok (.getfield 110, 3) := dk_180 0 110 (dk_at dksX0_image_0 16 rfl rfl)
theorem dX0_image_19 : decode cX0_image 19 = .ok (.iload_n 1, 1) := dk_27 (dk_at dksX0_image_0 19 rfl rfl)
theorem dX0_image_20 : decode cX0_image 20 = .ok (.aload_n 0, 1) := dk_42 (dk_at dksX0_image_0 20 rfl rfl)
theorem dX0_image_21 : decode cX0_image 21 = .ok (.getfield 46, 3) := dk_180 0 46 (dk_at dksX0_image_0 21 rfl rfl)
theorem dX0_image_24 : decode cX0_image 24 = .ok (.invokevirtual 591, 3) := dk_182 2 79 (dk_at dksX0_image_1 0 rfl rfl)
theorem dX0_image_27 : decode cX0_image 27 = .ok (.aastore, 1) := dk_83 (dk_at dksX0_image_1 3 rfl rfl)
theorem dX0_image_28 : decode cX0_image 28 = .ok (.iconst 0, 1) := dk_3 (dk_at dksX0_image_1 4 rfl rfl)
theorem dX0_image_29 : decode cX0_image 29 = .ok (.ireturn, 1) := dk_172 (dk_at dksX0_image_1 5 rfl rfl)
abbrev cX0_back : ByteArray := prog_1_method_140_code
def yX0_back : MethodName := ⟨RX0, "back", "(I)I"⟩
def dkwX0_back_1 : List UInt8 := [16, 250, 172, 42, 42, 180, 0, 110, 27, 50, 182, 2, 79, 181, 0, 46, 42, 182, 0, 207, 3, 172]
abbrev dktX0_back_1 : List UInt8 := dkwX0_back_1 ++ []
def dkwX0_back_0 : List UInt8 := [27, 133, 9, 20, 2, 77, 184, 0, 11, 154, 0, 6, 16, 254, 172, 42, 180, 0, 110, 27, 50, 199, 0, 6]
abbrev dktX0_back_0 : List UInt8 := dkwX0_back_0 ++ dktX0_back_1
theorem dksX0_back_0 : cX0_back.data.toList.drop 0 = dktX0_back_0 := by decide +kernel
theorem dksX0_back_1 : cX0_back.data.toList.drop 24 = dktX0_back_1 := dk_seg dksX0_back_0 24 rfl rfl
theorem dX0_back_0 : decode cX0_back 0 = .ok (.iload_n 1, 1) := dk_27 (dk_at dksX0_back_0 0 rfl rfl)
theorem dX0_back_1 : decode cX0_back 1 = .ok (.i2l, 1) := dk_133 (dk_at dksX0_back_0 1 rfl rfl)
theorem dX0_back_2 : decode cX0_back 2 = .ok (.lconst 0, 1) := dk_9 (dk_at dksX0_back_0 2 rfl rfl)
theorem dX0_back_3 : decode cX0_back 3 = .ok (.ldc2_w 589, 3) := dk_20 2 77 (dk_at dksX0_back_0 3 rfl rfl)
theorem dX0_back_6 : decode cX0_back 6 = .ok (.invokestatic 11, 3) := dk_184 0 11 (dk_at dksX0_back_0 6 rfl rfl)
theorem dX0_back_9 : decode cX0_back 9 = .ok (.ifCond .ne 6, 3) := dk_154 0 6 (dk_at dksX0_back_0 9 rfl rfl)
theorem dX0_back_12 : decode cX0_back 12 = .ok (.bipush (-2), 2) := dk_16 254 (dk_at dksX0_back_0 12 rfl rfl)
theorem dX0_back_14 : decode cX0_back 14 = .ok (.ireturn, 1) := dk_172 (dk_at dksX0_back_0 14 rfl rfl)
theorem dX0_back_15 : decode cX0_back 15 = .ok (.aload_n 0, 1) := dk_42 (dk_at dksX0_back_0 15 rfl rfl)
theorem dX0_back_16 : decode cX0_back 16 = .ok (.getfield 110, 3) := dk_180 0 110 (dk_at dksX0_back_0 16 rfl rfl)
theorem dX0_back_19 : decode cX0_back 19 = .ok (.iload_n 1, 1) := dk_27 (dk_at dksX0_back_0 19 rfl rfl)
theorem dX0_back_20 : decode cX0_back 20 = .ok (.aaload, 1) := dk_50 (dk_at dksX0_back_0 20 rfl rfl)
theorem dX0_back_21 : decode cX0_back 21 = .ok (.ifnonnull 6, 3) := dk_199 0 6 (dk_at dksX0_back_0 21 rfl rfl)
theorem dX0_back_24 : decode cX0_back 24 = .ok (.bipush (-6), 2) := dk_16 250 (dk_at dksX0_back_1 0 rfl rfl)
theorem dX0_back_26 : decode cX0_back 26 = .ok (.ireturn, 1) := dk_172 (dk_at dksX0_back_1 2 rfl rfl)
theorem dX0_back_27 : decode cX0_back 27 = .ok (.aload_n 0, 1) := dk_42 (dk_at dksX0_back_1 3 rfl rfl)
theorem dX0_back_28 : decode cX0_back 28 = .ok (.aload_n 0, 1) := dk_42 (dk_at dksX0_back_1 4 rfl rfl)
theorem dX0_back_29 : decode cX0_back 29 = .ok (.getfield 110, 3) := dk_180 0 110 (dk_at dksX0_back_1 5 rfl rfl)
theorem dX0_back_32 : decode cX0_back 32 = .ok (.iload_n 1, 1) := dk_27 (dk_at dksX0_back_1 8 rfl rfl)
theorem dX0_back_33 : decode cX0_back 33 = .ok (.aaload, 1) := dk_50 (dk_at dksX0_back_1 9 rfl rfl)
theorem dX0_back_34 : decode cX0_back 34 = .ok (.invokevirtual 591, 3) := dk_182 2 79 (dk_at dksX0_back_1 10 rfl rfl)
theorem dX0_back_37 : decode cX0_back 37 = .ok (.putfield 46, 3) := dk_181 0 46 (dk_at dksX0_back_1 13 rfl rfl)
theorem dX0_back_40 : decode cX0_back 40 = .ok (.aload_n 0, 1) := dk_42 (dk_at dksX0_back_1 16 rfl rfl)
theorem dX0_back_41 : decode cX0_back 41 = .ok (.invokevirtual 207, 3) := dk_182 0 207 (dk_at dksX0_back_1 17 rfl rfl)
theorem dX0_back_44 : decode cX0_back 44 = .ok (.iconst 0, 1) := dk_3 (dk_at dksX0_back_1 20 rfl rfl)
theorem dX0_back_45 : decode cX0_back 45 = .ok (.ireturn, 1) := dk_172 (dk_at dksX0_back_1 21 rfl rfl)
theorem q167 : (Jvm.Cond.initialized "MergeJudge") ∈ lw_all := lw_g (lw_at lw_m1 1 rfl) rfl
theorem q219 : (Jvm.Cond.instanceMethod ({ cls := "MergeJudge", name := "row", desc := "(III)I" } : Jvm.MethodName)) ∈ lw_all := lw_g (lw_at lw_m1 53 rfl) rfl
theorem q220 : (Jvm.Cond.selects "MergeJudge" ({ cls := "MergeJudge", name := "row", desc := "(III)I" } : Jvm.MethodName) ({ cls := "MergeJudge", name := "row", desc := "(III)I" } : Jvm.MethodName)) ∈ lw_all := lw_g (lw_at lw_m1 54 rfl) rfl
theorem q221 : (Jvm.Cond.code ({ cls := "MergeJudge", name := "row", desc := "(III)I" } : Jvm.MethodName) prog_1_method_5_code (4 : Nat) (Option.some Jvm.ClassFile.FieldType.int)) ∈ lw_all := lw_g (lw_at lw_m1 55 rfl) rfl
theorem q222 : (Jvm.Cond.methodLink "MergeJudge" (15 : Nat) ({ cls := "MergeJudge", name := "isSlot", desc := "(I)Z" } : Jvm.MethodName)) ∈ lw_all := lw_g (lw_at lw_m1 56 rfl) rfl
theorem q223 : (Jvm.Cond.static ({ cls := "MergeJudge", name := "isSlot", desc := "(I)Z" } : Jvm.MethodName)) ∈ lw_all := lw_g (lw_at lw_m1 57 rfl) rfl
theorem q224 : (Jvm.Cond.code ({ cls := "MergeJudge", name := "isSlot", desc := "(I)Z" } : Jvm.MethodName) prog_1_method_4_code (1 : Nat) (Option.some Jvm.ClassFile.FieldType.boolean)) ∈ lw_all := lw_g (lw_at lw_m1 58 rfl) rfl
theorem q225 : (Jvm.Cond.constantLong "MergeJudge" (9 : Nat) (3 : Int64)) ∈ lw_all := lw_g (lw_at lw_m1 59 rfl) rfl
theorem q226 : (Jvm.Cond.methodLink "MergeJudge" (11 : Nat) ({ cls := "MergeJudge", name := "in", desc := "(JJJ)Z" } : Jvm.MethodName)) ∈ lw_all := lw_g (lw_at lw_m1 60 rfl) rfl
theorem q227 : (Jvm.Cond.static ({ cls := "MergeJudge", name := "in", desc := "(JJJ)Z" } : Jvm.MethodName)) ∈ lw_all := lw_g (lw_at lw_m1 61 rfl) rfl
theorem q228 : (Jvm.Cond.code ({ cls := "MergeJudge", name := "in", desc := "(JJJ)Z" } : Jvm.MethodName) prog_1_method_1_code (6 : Nat) (Option.some Jvm.ClassFile.FieldType.boolean)) ∈ lw_all := lw_g (lw_at lw_m1 62 rfl) rfl
theorem q229 : (Jvm.Cond.methodLink "MergeJudge" (23 : Nat) ({ cls := "MergeJudge$Slot", name := "begins", desc := "(II)Z" } : Jvm.MethodName)) ∈ lw_all := lw_g (lw_at lw_m1 63 rfl) rfl
theorem q326 : (Jvm.Cond.instanceMethod ({ cls := "MergeJudge", name := "write", desc := "(IIJ)I" } : Jvm.MethodName)) ∈ lw_all := lw_g (lw_at lw_m1 160 rfl) rfl
theorem q327 : (Jvm.Cond.selects "MergeJudge" ({ cls := "MergeJudge", name := "write", desc := "(IIJ)I" } : Jvm.MethodName) ({ cls := "MergeJudge", name := "write", desc := "(IIJ)I" } : Jvm.MethodName)) ∈ lw_all := lw_g (lw_at lw_m1 161 rfl) rfl
theorem q328 : (Jvm.Cond.code ({ cls := "MergeJudge", name := "write", desc := "(IIJ)I" } : Jvm.MethodName) prog_1_method_6_code (5 : Nat) (Option.some Jvm.ClassFile.FieldType.int)) ∈ lw_all := lw_g (lw_at lw_m1 162 rfl) rfl
theorem q329 : (Jvm.Cond.methodLink "MergeJudge" (29 : Nat) ({ cls := "MergeJudge$Slot", name := "puts", desc := "(IJ)I" } : Jvm.MethodName)) ∈ lw_all := lw_g (lw_at lw_m1 163 rfl) rfl
theorem q405 : (Jvm.Cond.instanceMethod ({ cls := "MergeJudge", name := "paste", desc := "(IIIII)I" } : Jvm.MethodName)) ∈ lw_all := lw_g (lw_at lw_m1 239 rfl) rfl
theorem q406 : (Jvm.Cond.selects "MergeJudge" ({ cls := "MergeJudge", name := "paste", desc := "(IIIII)I" } : Jvm.MethodName) ({ cls := "MergeJudge", name := "paste", desc := "(IIIII)I" } : Jvm.MethodName)) ∈ lw_all := lw_g (lw_at lw_m2 0 rfl) rfl
theorem q407 : (Jvm.Cond.code ({ cls := "MergeJudge", name := "paste", desc := "(IIIII)I" } : Jvm.MethodName) prog_1_method_7_code (6 : Nat) (Option.some Jvm.ClassFile.FieldType.int)) ∈ lw_all := lw_g (lw_at lw_m2 1 rfl) rfl
theorem q408 : (Jvm.Cond.methodLink "MergeJudge" (33 : Nat) ({ cls := "MergeJudge$Slot", name := "pastes", desc := "(ILMergeJudge$Slot;II)I" } : Jvm.MethodName)) ∈ lw_all := lw_g (lw_at lw_m2 2 rfl) rfl
theorem q421 : (Jvm.Cond.instantiable "MergeJudge" (20 : Nat)) ∈ lw_all := lw_g (lw_at lw_m2 15 rfl) rfl
theorem q423 : (Jvm.Cond.instanceMethod ({ cls := "MergeJudge", name := "<init>", desc := "()V" } : Jvm.MethodName)) ∈ lw_all := lw_g (lw_at lw_m2 17 rfl) rfl
theorem q424 : (Jvm.Cond.code ({ cls := "MergeJudge", name := "<init>", desc := "()V" } : Jvm.MethodName) prog_1_method_15_code (1 : Nat) (Option.none : Option Jvm.ClassFile.FieldType)) ∈ lw_all := lw_g (lw_at lw_m2 18 rfl) rfl
theorem q425 : (Jvm.Cond.methodLink "MergeJudge" (102 : Nat) ({ cls := "java/lang/Object", name := "<init>", desc := "()V" } : Jvm.MethodName)) ∈ lw_all := lw_g (lw_at lw_m2 19 rfl) rfl
theorem q426 : (Jvm.Cond.classLink "MergeJudge" (24 : Nat) "MergeJudge$Slot") ∈ lw_all := lw_g (lw_at lw_m2 20 rfl) rfl
theorem q428 : (Jvm.Cond.methodLinkNest "MergeJudge" (108 : Nat) ({ cls := "MergeJudge$Slot", name := "<init>", desc := "()V" } : Jvm.MethodName) "MergeJudge") ∈ lw_tbl := lw_at lw_m2 22 rfl
theorem q433 : (Jvm.Cond.fieldLinkNest "MergeJudge" (447 : Nat) "MergeJudge$Slot" "held" "Ljava/lang/Object;" "MergeJudge") ∈ lw_tbl := lw_at lw_m2 27 rfl
theorem q437 : (Jvm.Cond.classLink "MergeJudge" (51 : Nat) "MergeJudge$Base") ∈ lw_all := lw_g (lw_at lw_m2 31 rfl) rfl
theorem q439 : (Jvm.Cond.methodLinkNest "MergeJudge" (109 : Nat) ({ cls := "MergeJudge$Base", name := "<init>", desc := "()V" } : Jvm.MethodName) "MergeJudge") ∈ lw_tbl := lw_at lw_m2 33 rfl
theorem q478 : (Jvm.Cond.fieldLinkNest "MergeJudge" (222 : Nat) "MergeJudge$Base" "rules" "Ljava/util/List;" "MergeJudge") ∈ lw_tbl := lw_at lw_m2 72 rfl
theorem q483 : (Jvm.Cond.fieldLinkNest "MergeJudge" (231 : Nat) "MergeJudge$Base" "ops" "Ljava/util/List;" "MergeJudge") ∈ lw_tbl := lw_at lw_m2 77 rfl
theorem q485 : (Jvm.Cond.fieldLinkNest "MergeJudge" (551 : Nat) "MergeJudge$Base" "acts" "Ljava/util/List;" "MergeJudge") ∈ lw_tbl := lw_at lw_m2 79 rfl
theorem q488 : (Jvm.Cond.fieldLinkNest "MergeJudge" (301 : Nat) "MergeJudge$Base" "kinds" "[I" "MergeJudge") ∈ lw_tbl := lw_at lw_m2 82 rfl
theorem q490 : (Jvm.Cond.fieldLinkNest "MergeJudge" (50 : Nat) "MergeJudge$Base" "top" "I" "MergeJudge") ∈ lw_tbl := lw_at lw_m2 84 rfl
theorem q494 : (Jvm.Cond.fieldLinkNest "MergeJudge" (264 : Nat) "MergeJudge$Base" "law" "I" "MergeJudge") ∈ lw_tbl := lw_at lw_m2 88 rfl
theorem q497 : (Jvm.Cond.fieldLinkNest "MergeJudge" (518 : Nat) "MergeJudge$Base" "odds" "I" "MergeJudge") ∈ lw_tbl := lw_at lw_m2 91 rfl
theorem q500 : (Jvm.Cond.fieldLinkNest "MergeJudge" (219 : Nat) "MergeJudge$Base" "cells" "I" "MergeJudge") ∈ lw_tbl := lw_at lw_m2 94 rfl
theorem q502 : (Jvm.Cond.fieldLinkNest "MergeJudge" (271 : Nat) "MergeJudge$Base" "dropped" "I" "MergeJudge") ∈ lw_tbl := lw_at lw_m2 96 rfl
theorem q505 : (Jvm.Cond.fieldLinkNest "MergeJudge" (267 : Nat) "MergeJudge$Base" "locked" "I" "MergeJudge") ∈ lw_tbl := lw_at lw_m2 99 rfl
theorem q508 : (Jvm.Cond.fieldLinkNest "MergeJudge" (210 : Nat) "MergeJudge$Base" "lines" "I" "MergeJudge") ∈ lw_tbl := lw_at lw_m2 102 rfl
theorem q533 : (Jvm.Cond.classLink "MergeJudge" (114 : Nat) "MergeJudge$Merging") ∈ lw_all := lw_g (lw_at lw_m2 127 rfl) rfl
theorem q535 : (Jvm.Cond.methodLink "MergeJudge" (120 : Nat) ({ cls := "MergeJudge", name := "clashOf", desc := "(I)LMergeJudge$Merge;" } : Jvm.MethodName)) ∈ lw_all := lw_g (lw_at lw_m2 129 rfl) rfl
theorem q536 : (Jvm.Cond.privateMethod ({ cls := "MergeJudge", name := "clashOf", desc := "(I)LMergeJudge$Merge;" } : Jvm.MethodName)) ∈ lw_tbl := lw_at lw_m2 130 rfl
theorem q537 : (Jvm.Cond.instanceMethod ({ cls := "MergeJudge", name := "clashOf", desc := "(I)LMergeJudge$Merge;" } : Jvm.MethodName)) ∈ lw_all := lw_g (lw_at lw_m2 131 rfl) rfl
theorem q538 : (Jvm.Cond.code ({ cls := "MergeJudge", name := "clashOf", desc := "(I)LMergeJudge$Merge;" } : Jvm.MethodName) prog_1_method_12_code (2 : Nat) (Option.some (Jvm.ClassFile.FieldType.object "MergeJudge$Merge"))) ∈ lw_all := lw_g (lw_at lw_m2 132 rfl) rfl
theorem q539 : (Jvm.Cond.static ({ cls := "MergeJudge", name := "lambda$clashOf$0", desc := "(III)I" } : Jvm.MethodName)) ∈ lw_all := lw_g (lw_at lw_m2 133 rfl) rfl
theorem q540 : (Jvm.Cond.code ({ cls := "MergeJudge", name := "lambda$clashOf$0", desc := "(III)I" } : Jvm.MethodName) prog_1_method_165_code (3 : Nat) (Option.some Jvm.ClassFile.FieldType.int)) ∈ lw_all := lw_g (lw_at lw_m2 134 rfl) rfl
theorem q541 : (Jvm.Cond.static ({ cls := "MergeJudge", name := "lambda$clashOf$1", desc := "(III)I" } : Jvm.MethodName)) ∈ lw_all := lw_g (lw_at lw_m2 135 rfl) rfl
theorem q542 : (Jvm.Cond.code ({ cls := "MergeJudge", name := "lambda$clashOf$1", desc := "(III)I" } : Jvm.MethodName) prog_1_method_164_code (3 : Nat) (Option.some Jvm.ClassFile.FieldType.int)) ∈ lw_all := lw_g (lw_at lw_m2 136 rfl) rfl
theorem q543 : (Jvm.Cond.static ({ cls := "MergeJudge", name := "larger", desc := "(III)I" } : Jvm.MethodName)) ∈ lw_all := lw_g (lw_at lw_m2 137 rfl) rfl
theorem q544 : (Jvm.Cond.code ({ cls := "MergeJudge", name := "larger", desc := "(III)I" } : Jvm.MethodName) prog_1_method_8_code (3 : Nat) (Option.some Jvm.ClassFile.FieldType.int)) ∈ lw_all := lw_g (lw_at lw_m2 138 rfl) rfl
theorem q545 : (Jvm.Cond.methodLink "MergeJudge" (37 : Nat) ({ cls := "java/lang/Math", name := "max", desc := "(II)I" } : Jvm.MethodName)) ∈ lw_all := lw_g (lw_at lw_m2 139 rfl) rfl
theorem q548 : (Jvm.Cond.static ({ cls := "MergeJudge", name := "lambda$clashOf$2", desc := "(III)I" } : Jvm.MethodName)) ∈ lw_all := lw_g (lw_at lw_m2 142 rfl) rfl
theorem q549 : (Jvm.Cond.code ({ cls := "MergeJudge", name := "lambda$clashOf$2", desc := "(III)I" } : Jvm.MethodName) prog_1_method_163_code (3 : Nat) (Option.some Jvm.ClassFile.FieldType.int)) ∈ lw_all := lw_g (lw_at lw_m2 143 rfl) rfl
theorem q550 : (Jvm.Cond.classLink "MergeJudge" (131 : Nat) "MergeJudge$Ruling") ∈ lw_all := lw_g (lw_at lw_m2 144 rfl) rfl
theorem q552 : (Jvm.Cond.classLink "MergeJudge" (137 : Nat) "MergeJudge$Stepping") ∈ lw_all := lw_g (lw_at lw_m2 146 rfl) rfl
theorem q554 : (Jvm.Cond.classLink "MergeJudge" (147 : Nat) "MergeJudge$Side") ∈ lw_all := lw_g (lw_at lw_m2 148 rfl) rfl
theorem q556 : (Jvm.Cond.methodLinkNest "MergeJudge" (149 : Nat) ({ cls := "MergeJudge$Side", name := "<init>", desc := "(LMergeJudge;)V" } : Jvm.MethodName) "MergeJudge") ∈ lw_tbl := lw_at lw_m2 150 rfl
theorem q562 : (Jvm.Cond.fieldLinkNest "MergeJudge" (356 : Nat) "MergeJudge$Side" "far" "[I" "MergeJudge") ∈ lw_tbl := lw_at lw_m2 156 rfl
theorem q564 : (Jvm.Cond.fieldLinkNest "MergeJudge" (388 : Nat) "MergeJudge$Side" "first" "[I" "MergeJudge") ∈ lw_tbl := lw_at lw_m2 158 rfl
theorem q567 : (Jvm.Cond.fieldLinkNest "MergeJudge" (353 : Nat) "MergeJudge$Side" "many" "I" "MergeJudge") ∈ lw_tbl := lw_at lw_m2 161 rfl
theorem q581 : (Jvm.Cond.classLink "MergeJudge" (162 : Nat) "MergeJudge$Least") ∈ lw_all := lw_g (lw_at lw_m2 175 rfl) rfl
theorem q583 : (Jvm.Cond.methodLinkNest "MergeJudge" (164 : Nat) ({ cls := "MergeJudge$Least", name := "<init>", desc := "(LMergeJudge;)V" } : Jvm.MethodName) "MergeJudge") ∈ lw_tbl := lw_at lw_m2 177 rfl
theorem q591 : (Jvm.Cond.fieldLinkNest "MergeJudge" (411 : Nat) "MergeJudge$Least" "merged" "I" "MergeJudge") ∈ lw_tbl := lw_at lw_m2 185 rfl
theorem q607 : (Jvm.Cond.classLink "MergeJudge" (173 : Nat) "MergeJudge$Locks") ∈ lw_all := lw_g (lw_at lw_m2 201 rfl) rfl
theorem q609 : (Jvm.Cond.methodLinkNest "MergeJudge" (175 : Nat) ({ cls := "MergeJudge$Locks", name := "<init>", desc := "(LMergeJudge;)V" } : Jvm.MethodName) "MergeJudge") ∈ lw_tbl := lw_at lw_m2 203 rfl
theorem q614 : (Jvm.Cond.fieldLinkNest "MergeJudge" (438 : Nat) "MergeJudge$Locks" "best" "I" "MergeJudge") ∈ lw_tbl := lw_at lw_m2 208 rfl
theorem q616 : (Jvm.Cond.fieldLinkNest "MergeJudge" (443 : Nat) "MergeJudge$Locks" "needed" "I" "MergeJudge") ∈ lw_tbl := lw_at lw_m2 210 rfl
theorem q626 : (Jvm.Cond.methodLink "MergeJudge" (180 : Nat) ({ cls := "MergeJudge$Merging", name := "<init>", desc := "(LMergeJudge$Merge;)V" } : Jvm.MethodName)) ∈ lw_all := lw_g (lw_at lw_m2 220 rfl) rfl
theorem q631 : (Jvm.Cond.fieldLinkNest "MergeJudge" (304 : Nat) "MergeJudge$Merging" "merge" "LMergeJudge$Merge;" "MergeJudge") ∈ lw_tbl := lw_at lw_m2 225 rfl
theorem q635 : (Jvm.Cond.static ({ cls := "MergeJudge", name := "smaller", desc := "(III)I" } : Jvm.MethodName)) ∈ lw_all := lw_g (lw_at lw_m2 229 rfl) rfl
theorem q636 : (Jvm.Cond.code ({ cls := "MergeJudge", name := "smaller", desc := "(III)I" } : Jvm.MethodName) prog_1_method_9_code (3 : Nat) (Option.some Jvm.ClassFile.FieldType.int)) ∈ lw_all := lw_g (lw_at lw_m2 230 rfl) rfl
theorem q637 : (Jvm.Cond.methodLink "MergeJudge" (43 : Nat) ({ cls := "java/lang/Math", name := "min", desc := "(II)I" } : Jvm.MethodName)) ∈ lw_all := lw_g (lw_at lw_m2 231 rfl) rfl
theorem q640 : (Jvm.Cond.privateMethod ({ cls := "MergeJudge", name := "sums", desc := "(III)I" } : Jvm.MethodName)) ∈ lw_tbl := lw_at lw_m2 234 rfl
theorem q641 : (Jvm.Cond.instanceMethod ({ cls := "MergeJudge", name := "sums", desc := "(III)I" } : Jvm.MethodName)) ∈ lw_all := lw_g (lw_at lw_m2 235 rfl) rfl
theorem q642 : (Jvm.Cond.code ({ cls := "MergeJudge", name := "sums", desc := "(III)I" } : Jvm.MethodName) prog_1_method_10_code (4 : Nat) (Option.some Jvm.ClassFile.FieldType.int)) ∈ lw_all := lw_g (lw_at lw_m2 236 rfl) rfl
theorem q643 : (Jvm.Cond.privateMethod ({ cls := "MergeJudge", name := "late", desc := "(III)I" } : Jvm.MethodName)) ∈ lw_tbl := lw_at lw_m2 237 rfl
theorem q644 : (Jvm.Cond.instanceMethod ({ cls := "MergeJudge", name := "late", desc := "(III)I" } : Jvm.MethodName)) ∈ lw_all := lw_g (lw_at lw_m2 238 rfl) rfl
theorem q645 : (Jvm.Cond.code ({ cls := "MergeJudge", name := "late", desc := "(III)I" } : Jvm.MethodName) prog_1_method_11_code (4 : Nat) (Option.some Jvm.ClassFile.FieldType.int)) ∈ lw_all := lw_g (lw_at lw_m2 239 rfl) rfl
theorem q646 : (Jvm.Cond.interfaceEntry "MergeJudge" (60 : Nat)) ∈ lw_tbl := lw_at lw_m3 0 rfl
theorem q647 : (Jvm.Cond.methodLink "MergeJudge" (60 : Nat) ({ cls := "MergeJudge$Merge", name := "of", desc := "(III)I" } : Jvm.MethodName)) ∈ lw_all := lw_g (lw_at lw_m3 1 rfl) rfl
theorem q650 : (Jvm.Cond.fieldLink "MergeJudge" (19 : Nat) "MergeJudge" "slots" "[LMergeJudge$Slot;") ∈ lw_all := lw_g (lw_at lw_m3 4 rfl) rfl
theorem q653 : (Jvm.Cond.fieldLink "MergeJudge" (46 : Nat) "MergeJudge" "now" "LMergeJudge$Base;") ∈ lw_all := lw_g (lw_at lw_m3 7 rfl) rfl
theorem q654 : (Jvm.Cond.fieldLink "MergeJudge" (110 : Nat) "MergeJudge" "images" "[LMergeJudge$Base;") ∈ lw_all := lw_g (lw_at lw_m3 8 rfl) rfl
theorem q655 : (Jvm.Cond.fieldLink "MergeJudge" (116 : Nat) "MergeJudge" "merges" "[LMergeJudge$Merging;") ∈ lw_all := lw_g (lw_at lw_m3 9 rfl) rfl
theorem q656 : (Jvm.Cond.fieldLink "MergeJudge" (56 : Nat) "MergeJudge" "clash" "LMergeJudge$Merge;") ∈ lw_all := lw_g (lw_at lw_m3 10 rfl) rfl
theorem q657 : (Jvm.Cond.fieldLink "MergeJudge" (124 : Nat) "MergeJudge" "tape" "[B") ∈ lw_all := lw_g (lw_at lw_m3 11 rfl) rfl
theorem q658 : (Jvm.Cond.fieldLink "MergeJudge" (188 : Nat) "MergeJudge" "taped" "I") ∈ lw_all := lw_g (lw_at lw_m3 12 rfl) rfl
theorem q659 : (Jvm.Cond.fieldLink "MergeJudge" (204 : Nat) "MergeJudge" "faultKind" "I") ∈ lw_all := lw_g (lw_at lw_m3 13 rfl) rfl
theorem q660 : (Jvm.Cond.fieldLink "MergeJudge" (128 : Nat) "MergeJudge" "faultPlace" "I") ∈ lw_all := lw_g (lw_at lw_m3 14 rfl) rfl
theorem q661 : (Jvm.Cond.fieldLink "MergeJudge" (133 : Nat) "MergeJudge" "rules" "[LMergeJudge$Ruling;") ∈ lw_all := lw_g (lw_at lw_m3 15 rfl) rfl
theorem q662 : (Jvm.Cond.fieldLink "MergeJudge" (139 : Nat) "MergeJudge" "steps" "[LMergeJudge$Stepping;") ∈ lw_all := lw_g (lw_at lw_m3 16 rfl) rfl
theorem q664 : (Jvm.Cond.fieldLink "MergeJudge" (143 : Nat) "MergeJudge" "isValid" "[Z") ∈ lw_all := lw_g (lw_at lw_m3 18 rfl) rfl
theorem q665 : (Jvm.Cond.fieldLink "MergeJudge" (278 : Nat) "MergeJudge" "dropped" "I") ∈ lw_all := lw_g (lw_at lw_m3 19 rfl) rfl
theorem q667 : (Jvm.Cond.fieldLink "MergeJudge" (270 : Nat) "MergeJudge" "locked" "I") ∈ lw_all := lw_g (lw_at lw_m3 21 rfl) rfl
theorem q669 : (Jvm.Cond.fieldLink "MergeJudge" (152 : Nat) "MergeJudge" "side" "LMergeJudge$Side;") ∈ lw_all := lw_g (lw_at lw_m3 23 rfl) rfl
theorem q670 : (Jvm.Cond.fieldLink "MergeJudge" (156 : Nat) "MergeJudge" "free" "LMergeJudge$Side;") ∈ lw_all := lw_g (lw_at lw_m3 24 rfl) rfl
theorem q671 : (Jvm.Cond.fieldLink "MergeJudge" (159 : Nat) "MergeJudge" "latest" "I") ∈ lw_all := lw_g (lw_at lw_m3 25 rfl) rfl
theorem q672 : (Jvm.Cond.fieldLink "MergeJudge" (165 : Nat) "MergeJudge" "smallest" "LMergeJudge$Least;") ∈ lw_all := lw_g (lw_at lw_m3 26 rfl) rfl
theorem q673 : (Jvm.Cond.fieldLink "MergeJudge" (169 : Nat) "MergeJudge" "often" "[I") ∈ lw_all := lw_g (lw_at lw_m3 27 rfl) rfl
theorem q674 : (Jvm.Cond.fieldLink "MergeJudge" (176 : Nat) "MergeJudge" "locks" "LMergeJudge$Locks;") ∈ lw_all := lw_g (lw_at lw_m3 28 rfl) rfl
theorem q675 : (Jvm.Cond.laysFinal "MergeJudge" "MergeJudge" "slots" "[LMergeJudge$Slot;") ∈ lw_all := lw_g (lw_at lw_m3 29 rfl) rfl
theorem q676 : (Jvm.Cond.soleField "MergeJudge" "slots") ∈ lw_all := lw_g (lw_at lw_m3 30 rfl) rfl
theorem q677 : (Jvm.Cond.lays "MergeJudge" "MergeJudge" "now" "LMergeJudge$Base;") ∈ lw_all := lw_g (lw_at lw_m3 31 rfl) rfl
theorem q678 : (Jvm.Cond.soleField "MergeJudge" "now") ∈ lw_all := lw_g (lw_at lw_m3 32 rfl) rfl
theorem q679 : (Jvm.Cond.laysFinal "MergeJudge" "MergeJudge" "images" "[LMergeJudge$Base;") ∈ lw_all := lw_g (lw_at lw_m3 33 rfl) rfl
theorem q680 : (Jvm.Cond.soleField "MergeJudge" "images") ∈ lw_all := lw_g (lw_at lw_m3 34 rfl) rfl
theorem q681 : (Jvm.Cond.laysFinal "MergeJudge" "MergeJudge" "merges" "[LMergeJudge$Merging;") ∈ lw_all := lw_g (lw_at lw_m3 35 rfl) rfl
theorem q682 : (Jvm.Cond.soleField "MergeJudge" "merges") ∈ lw_all := lw_g (lw_at lw_m3 36 rfl) rfl
theorem q683 : (Jvm.Cond.lays "MergeJudge" "MergeJudge" "clash" "LMergeJudge$Merge;") ∈ lw_all := lw_g (lw_at lw_m3 37 rfl) rfl
theorem q684 : (Jvm.Cond.soleField "MergeJudge" "clash") ∈ lw_all := lw_g (lw_at lw_m3 38 rfl) rfl
theorem q685 : (Jvm.Cond.laysFinal "MergeJudge" "MergeJudge" "tape" "[B") ∈ lw_all := lw_g (lw_at lw_m3 39 rfl) rfl
theorem q686 : (Jvm.Cond.soleField "MergeJudge" "tape") ∈ lw_all := lw_g (lw_at lw_m3 40 rfl) rfl
theorem q687 : (Jvm.Cond.lays "MergeJudge" "MergeJudge" "taped" "I") ∈ lw_all := lw_g (lw_at lw_m3 41 rfl) rfl
theorem q688 : (Jvm.Cond.soleField "MergeJudge" "taped") ∈ lw_all := lw_g (lw_at lw_m3 42 rfl) rfl
theorem q689 : (Jvm.Cond.lays "MergeJudge" "MergeJudge" "faultKind" "I") ∈ lw_all := lw_g (lw_at lw_m3 43 rfl) rfl
theorem q690 : (Jvm.Cond.soleField "MergeJudge" "faultKind") ∈ lw_all := lw_g (lw_at lw_m3 44 rfl) rfl
theorem q691 : (Jvm.Cond.lays "MergeJudge" "MergeJudge" "faultPlace" "I") ∈ lw_all := lw_g (lw_at lw_m3 45 rfl) rfl
theorem q692 : (Jvm.Cond.soleField "MergeJudge" "faultPlace") ∈ lw_all := lw_g (lw_at lw_m3 46 rfl) rfl
theorem q693 : (Jvm.Cond.laysFinal "MergeJudge" "MergeJudge" "rules" "[LMergeJudge$Ruling;") ∈ lw_all := lw_g (lw_at lw_m3 47 rfl) rfl
theorem q694 : (Jvm.Cond.soleField "MergeJudge" "rules") ∈ lw_all := lw_g (lw_at lw_m3 48 rfl) rfl
theorem q695 : (Jvm.Cond.laysFinal "MergeJudge" "MergeJudge" "steps" "[LMergeJudge$Stepping;") ∈ lw_all := lw_g (lw_at lw_m3 49 rfl) rfl
theorem q696 : (Jvm.Cond.soleField "MergeJudge" "steps") ∈ lw_all := lw_g (lw_at lw_m3 50 rfl) rfl
theorem q697 : (Jvm.Cond.laysFinal "MergeJudge" "MergeJudge" "isValid" "[Z") ∈ lw_all := lw_g (lw_at lw_m3 51 rfl) rfl
theorem q698 : (Jvm.Cond.soleField "MergeJudge" "isValid") ∈ lw_all := lw_g (lw_at lw_m3 52 rfl) rfl
theorem q699 : (Jvm.Cond.lays "MergeJudge" "MergeJudge" "dropped" "I") ∈ lw_all := lw_g (lw_at lw_m3 53 rfl) rfl
theorem q700 : (Jvm.Cond.soleField "MergeJudge" "dropped") ∈ lw_all := lw_g (lw_at lw_m3 54 rfl) rfl
theorem q701 : (Jvm.Cond.lays "MergeJudge" "MergeJudge" "locked" "I") ∈ lw_all := lw_g (lw_at lw_m3 55 rfl) rfl
theorem q702 : (Jvm.Cond.soleField "MergeJudge" "locked") ∈ lw_all := lw_g (lw_at lw_m3 56 rfl) rfl
theorem q703 : (Jvm.Cond.laysFinal "MergeJudge" "MergeJudge" "side" "LMergeJudge$Side;") ∈ lw_all := lw_g (lw_at lw_m3 57 rfl) rfl
theorem q704 : (Jvm.Cond.soleField "MergeJudge" "side") ∈ lw_all := lw_g (lw_at lw_m3 58 rfl) rfl
theorem q705 : (Jvm.Cond.laysFinal "MergeJudge" "MergeJudge" "free" "LMergeJudge$Side;") ∈ lw_all := lw_g (lw_at lw_m3 59 rfl) rfl
theorem q706 : (Jvm.Cond.soleField "MergeJudge" "free") ∈ lw_all := lw_g (lw_at lw_m3 60 rfl) rfl
theorem q707 : (Jvm.Cond.lays "MergeJudge" "MergeJudge" "latest" "I") ∈ lw_all := lw_g (lw_at lw_m3 61 rfl) rfl
theorem q708 : (Jvm.Cond.soleField "MergeJudge" "latest") ∈ lw_all := lw_g (lw_at lw_m3 62 rfl) rfl
theorem q709 : (Jvm.Cond.laysFinal "MergeJudge" "MergeJudge" "smallest" "LMergeJudge$Least;") ∈ lw_all := lw_g (lw_at lw_m3 63 rfl) rfl
theorem q710 : (Jvm.Cond.soleField "MergeJudge" "smallest") ∈ lw_all := lw_g (lw_at lw_m3 64 rfl) rfl
theorem q711 : (Jvm.Cond.laysFinal "MergeJudge" "MergeJudge" "often" "[I") ∈ lw_all := lw_g (lw_at lw_m3 65 rfl) rfl
theorem q712 : (Jvm.Cond.soleField "MergeJudge" "often") ∈ lw_all := lw_g (lw_at lw_m3 66 rfl) rfl
theorem q713 : (Jvm.Cond.laysFinal "MergeJudge" "MergeJudge" "locks" "LMergeJudge$Locks;") ∈ lw_all := lw_g (lw_at lw_m3 67 rfl) rfl
theorem q714 : (Jvm.Cond.soleField "MergeJudge" "locks") ∈ lw_all := lw_g (lw_at lw_m3 68 rfl) rfl
theorem q715 : (Jvm.Cond.superclass "MergeJudge" "java/lang/Object") ∈ lw_all := lw_g (lw_at lw_m3 69 rfl) rfl
theorem q717 : (Jvm.Cond.instanceMethod ({ cls := "MergeJudge", name := "feed", desc := "(IIIII)I" } : Jvm.MethodName)) ∈ lw_all := lw_g (lw_at lw_m3 71 rfl) rfl
theorem q718 : (Jvm.Cond.selects "MergeJudge" ({ cls := "MergeJudge", name := "feed", desc := "(IIIII)I" } : Jvm.MethodName) ({ cls := "MergeJudge", name := "feed", desc := "(IIIII)I" } : Jvm.MethodName)) ∈ lw_all := lw_g (lw_at lw_m3 72 rfl) rfl
theorem q719 : (Jvm.Cond.code ({ cls := "MergeJudge", name := "feed", desc := "(IIIII)I" } : Jvm.MethodName) prog_1_method_16_code (8 : Nat) (Option.some Jvm.ClassFile.FieldType.int)) ∈ lw_all := lw_g (lw_at lw_m3 73 rfl) rfl
theorem q721 : (Jvm.Cond.instanceMethod ({ cls := "MergeJudge", name := "end", desc := "(I)I" } : Jvm.MethodName)) ∈ lw_all := lw_g (lw_at lw_m3 75 rfl) rfl
theorem q722 : (Jvm.Cond.selects "MergeJudge" ({ cls := "MergeJudge", name := "end", desc := "(I)I" } : Jvm.MethodName) ({ cls := "MergeJudge", name := "end", desc := "(I)I" } : Jvm.MethodName)) ∈ lw_all := lw_g (lw_at lw_m3 76 rfl) rfl
theorem q723 : (Jvm.Cond.code ({ cls := "MergeJudge", name := "end", desc := "(I)I" } : Jvm.MethodName) prog_1_method_17_code (2 : Nat) (Option.some Jvm.ClassFile.FieldType.int)) ∈ lw_all := lw_g (lw_at lw_m3 77 rfl) rfl
theorem q725 : (Jvm.Cond.instanceMethod ({ cls := "MergeJudge", name := "base", desc := "()I" } : Jvm.MethodName)) ∈ lw_all := lw_g (lw_at lw_m3 79 rfl) rfl
theorem q726 : (Jvm.Cond.selects "MergeJudge" ({ cls := "MergeJudge", name := "base", desc := "()I" } : Jvm.MethodName) ({ cls := "MergeJudge", name := "base", desc := "()I" } : Jvm.MethodName)) ∈ lw_all := lw_g (lw_at lw_m3 80 rfl) rfl
theorem q727 : (Jvm.Cond.codeWith ({ cls := "MergeJudge", name := "base", desc := "()I" } : Jvm.MethodName) prog_1_method_18_code (4 : Nat) (Option.some Jvm.ClassFile.FieldType.int) [((0 : Nat), (63 : Nat), (70 : Nat), (213 : Nat)), ((0 : Nat), (63 : Nat), (97 : Nat), (0 : Nat)), ((70 : Nat), (90 : Nat), (97 : Nat), (0 : Nat))]) ∈ lw_all := lw_g (lw_at lw_m3 81 rfl) rfl
theorem q728 : (Jvm.Cond.classLink "MergeJudge" (213 : Nat) "MergeJudge$Fault") ∈ lw_all := lw_g (lw_at lw_m3 82 rfl) rfl
theorem q729 : (Jvm.Cond.classLink "MergeJudge" (191 : Nat) "MergeJudge$Reader") ∈ lw_all := lw_g (lw_at lw_m3 83 rfl) rfl
theorem q731 : (Jvm.Cond.methodLink "MergeJudge" (193 : Nat) ({ cls := "MergeJudge$Reader", name := "<init>", desc := "([BI)V" } : Jvm.MethodName)) ∈ lw_all := lw_g (lw_at lw_m3 85 rfl) rfl
theorem q847 : (Jvm.Cond.selects "MergeJudge" ({ cls := "java/lang/Object", name := "hashCode", desc := "()I" } : Jvm.MethodName) ({ cls := "java/lang/Object", name := "hashCode", desc := "()I" } : Jvm.MethodName)) ∈ lw_all := lw_g (lw_at lw_m3 201 rfl) rfl
theorem q1012 : (Jvm.Cond.selects "MergeJudge" ({ cls := "java/lang/Object", name := "getClass", desc := "()Ljava/lang/Class;" } : Jvm.MethodName) ({ cls := "java/lang/Object", name := "getClass", desc := "()Ljava/lang/Class;" } : Jvm.MethodName)) ∈ lw_all := lw_g (lw_at lw_m4 126 rfl) rfl
theorem q1279 : (Jvm.Cond.selects "MergeJudge" ({ cls := "java/lang/Object", name := "equals", desc := "(Ljava/lang/Object;)Z" } : Jvm.MethodName) ({ cls := "java/lang/Object", name := "equals", desc := "(Ljava/lang/Object;)Z" } : Jvm.MethodName)) ∈ lw_all := lw_g (lw_at lw_m5 153 rfl) rfl
theorem q1682 : (Jvm.Cond.methodLink "MergeJudge" (196 : Nat) ({ cls := "MergeJudge$Reader", name := "reads", desc := "()LMergeJudge$Base;" } : Jvm.MethodName)) ∈ lw_all := lw_g (lw_at lw_m7 76 rfl) rfl
theorem q1718 : (Jvm.Cond.fieldLinkNest "MergeJudge" (215 : Nat) "MergeJudge$Fault" "kind" "I" "MergeJudge") ∈ lw_tbl := lw_at lw_m7 112 rfl
theorem q1720 : (Jvm.Cond.fieldLinkNest "MergeJudge" (216 : Nat) "MergeJudge$Fault" "place" "I" "MergeJudge") ∈ lw_tbl := lw_at lw_m7 114 rfl
theorem q1791 : (Jvm.Cond.fieldLinkNest "MergeJudge" (77 : Nat) "MergeJudge$Told" "kind" "I" "MergeJudge") ∈ lw_tbl := lw_at lw_m7 185 rfl
theorem q1839 : (Jvm.Cond.methodLink "MergeJudge" (200 : Nat) ({ cls := "MergeJudge$Base", name := "is", desc := "()Z" } : Jvm.MethodName)) ∈ lw_all := lw_g (lw_at lw_m7 233 rfl) rfl
theorem q1843 : (Jvm.Cond.methodLink "MergeJudge" (207 : Nat) ({ cls := "MergeJudge", name := "lays", desc := "()V" } : Jvm.MethodName)) ∈ lw_all := lw_g (lw_at lw_m7 237 rfl) rfl
theorem q1844 : (Jvm.Cond.privateMethod ({ cls := "MergeJudge", name := "lays", desc := "()V" } : Jvm.MethodName)) ∈ lw_tbl := lw_at lw_m7 238 rfl
theorem q1845 : (Jvm.Cond.instanceMethod ({ cls := "MergeJudge", name := "lays", desc := "()V" } : Jvm.MethodName)) ∈ lw_all := lw_g (lw_at lw_m7 239 rfl) rfl
theorem q1846 : (Jvm.Cond.code ({ cls := "MergeJudge", name := "lays", desc := "()V" } : Jvm.MethodName) prog_1_method_32_code (2 : Nat) (Option.none : Option Jvm.ClassFile.FieldType)) ∈ lw_all := lw_g (lw_at lw_m8 0 rfl) rfl
theorem q1847 : (Jvm.Cond.interfaceEntry "MergeJudge" (225 : Nat)) ∈ lw_tbl := lw_at lw_m8 1 rfl
theorem q1848 : (Jvm.Cond.methodLink "MergeJudge" (225 : Nat) ({ cls := "java/util/List", name := "size", desc := "()I" } : Jvm.MethodName)) ∈ lw_all := lw_g (lw_at lw_m8 2 rfl) rfl
theorem q1850 : (Jvm.Cond.interfaceEntry "MergeJudge" (246 : Nat)) ∈ lw_tbl := lw_at lw_m8 4 rfl
theorem q1851 : (Jvm.Cond.methodLink "MergeJudge" (246 : Nat) ({ cls := "java/util/List", name := "get", desc := "(I)Ljava/lang/Object;" } : Jvm.MethodName)) ∈ lw_all := lw_g (lw_at lw_m8 5 rfl) rfl
theorem q1867 : (Jvm.Cond.classLink "MergeJudge" (73 : Nat) "MergeJudge$Told") ∈ lw_all := lw_g (lw_at lw_m8 21 rfl) rfl
theorem q1868 : (Jvm.Cond.methodLink "MergeJudge" (250 : Nat) ({ cls := "MergeJudge", name := "ruleOf", desc := "(LMergeJudge$Told;)LMergeJudge$Rule;" } : Jvm.MethodName)) ∈ lw_all := lw_g (lw_at lw_m8 22 rfl) rfl
theorem q1869 : (Jvm.Cond.privateMethod ({ cls := "MergeJudge", name := "ruleOf", desc := "(LMergeJudge$Told;)LMergeJudge$Rule;" } : Jvm.MethodName)) ∈ lw_tbl := lw_at lw_m8 23 rfl
theorem q1870 : (Jvm.Cond.instanceMethod ({ cls := "MergeJudge", name := "ruleOf", desc := "(LMergeJudge$Told;)LMergeJudge$Rule;" } : Jvm.MethodName)) ∈ lw_all := lw_g (lw_at lw_m8 24 rfl) rfl
theorem q1871 : (Jvm.Cond.code ({ cls := "MergeJudge", name := "ruleOf", desc := "(LMergeJudge$Told;)LMergeJudge$Rule;" } : Jvm.MethodName) prog_1_method_13_code (6 : Nat) (Option.some (Jvm.ClassFile.FieldType.object "MergeJudge$Rule"))) ∈ lw_all := lw_g (lw_at lw_m8 25 rfl) rfl
theorem q1872 : (Jvm.Cond.methodLink "MergeJudge" (72 : Nat) ({ cls := "MergeJudge$Told", name := "number", desc := "(I)I" } : Jvm.MethodName)) ∈ lw_all := lw_g (lw_at lw_m8 26 rfl) rfl
theorem q1876 : (Jvm.Cond.privateMethod ({ cls := "MergeJudge", name := "lambda$ruleOf$3", desc := "(III)Z" } : Jvm.MethodName)) ∈ lw_tbl := lw_at lw_m8 30 rfl
theorem q1877 : (Jvm.Cond.instanceMethod ({ cls := "MergeJudge", name := "lambda$ruleOf$3", desc := "(III)Z" } : Jvm.MethodName)) ∈ lw_all := lw_g (lw_at lw_m8 31 rfl) rfl
theorem q1878 : (Jvm.Cond.code ({ cls := "MergeJudge", name := "lambda$ruleOf$3", desc := "(III)Z" } : Jvm.MethodName) prog_1_method_162_code (4 : Nat) (Option.some Jvm.ClassFile.FieldType.boolean)) ∈ lw_all := lw_g (lw_at lw_m8 32 rfl) rfl
theorem q1879 : (Jvm.Cond.methodLink "MergeJudge" (243 : Nat) ({ cls := "MergeJudge", name := "valueOf", desc := "(II)I" } : Jvm.MethodName)) ∈ lw_all := lw_g (lw_at lw_m8 33 rfl) rfl
theorem q1880 : (Jvm.Cond.privateMethod ({ cls := "MergeJudge", name := "valueOf", desc := "(II)I" } : Jvm.MethodName)) ∈ lw_tbl := lw_at lw_m8 34 rfl
theorem q1881 : (Jvm.Cond.instanceMethod ({ cls := "MergeJudge", name := "valueOf", desc := "(II)I" } : Jvm.MethodName)) ∈ lw_all := lw_g (lw_at lw_m8 35 rfl) rfl
theorem q1882 : (Jvm.Cond.code ({ cls := "MergeJudge", name := "valueOf", desc := "(II)I" } : Jvm.MethodName) prog_1_method_30_code (3 : Nat) (Option.some Jvm.ClassFile.FieldType.int)) ∈ lw_all := lw_g (lw_at lw_m8 36 rfl) rfl
theorem q1883 : (Jvm.Cond.methodLink "MergeJudge" (240 : Nat) ({ cls := "MergeJudge", name := "unit", desc := "(I)I" } : Jvm.MethodName)) ∈ lw_all := lw_g (lw_at lw_m8 37 rfl) rfl
theorem q1884 : (Jvm.Cond.privateMethod ({ cls := "MergeJudge", name := "unit", desc := "(I)I" } : Jvm.MethodName)) ∈ lw_tbl := lw_at lw_m8 38 rfl
theorem q1885 : (Jvm.Cond.instanceMethod ({ cls := "MergeJudge", name := "unit", desc := "(I)I" } : Jvm.MethodName)) ∈ lw_all := lw_g (lw_at lw_m8 39 rfl) rfl
theorem q1886 : (Jvm.Cond.code ({ cls := "MergeJudge", name := "unit", desc := "(I)I" } : Jvm.MethodName) prog_1_method_29_code (4 : Nat) (Option.some Jvm.ClassFile.FieldType.int)) ∈ lw_all := lw_g (lw_at lw_m8 40 rfl) rfl
theorem q1887 : (Jvm.Cond.privateMethod ({ cls := "MergeJudge", name := "lambda$ruleOf$4", desc := "(III)Z" } : Jvm.MethodName)) ∈ lw_tbl := lw_at lw_m8 41 rfl
theorem q1888 : (Jvm.Cond.instanceMethod ({ cls := "MergeJudge", name := "lambda$ruleOf$4", desc := "(III)Z" } : Jvm.MethodName)) ∈ lw_all := lw_g (lw_at lw_m8 42 rfl) rfl
theorem q1889 : (Jvm.Cond.code ({ cls := "MergeJudge", name := "lambda$ruleOf$4", desc := "(III)Z" } : Jvm.MethodName) prog_1_method_161_code (4 : Nat) (Option.some Jvm.ClassFile.FieldType.boolean)) ∈ lw_all := lw_g (lw_at lw_m8 43 rfl) rfl
theorem q1890 : (Jvm.Cond.privateMethod ({ cls := "MergeJudge", name := "lambda$ruleOf$5", desc := "(III)Z" } : Jvm.MethodName)) ∈ lw_tbl := lw_at lw_m8 44 rfl
theorem q1891 : (Jvm.Cond.instanceMethod ({ cls := "MergeJudge", name := "lambda$ruleOf$5", desc := "(III)Z" } : Jvm.MethodName)) ∈ lw_all := lw_g (lw_at lw_m8 45 rfl) rfl
theorem q1892 : (Jvm.Cond.code ({ cls := "MergeJudge", name := "lambda$ruleOf$5", desc := "(III)Z" } : Jvm.MethodName) prog_1_method_160_code (4 : Nat) (Option.some Jvm.ClassFile.FieldType.boolean)) ∈ lw_all := lw_g (lw_at lw_m8 46 rfl) rfl
theorem q1893 : (Jvm.Cond.privateMethod ({ cls := "MergeJudge", name := "lambda$ruleOf$6", desc := "(IIII)Z" } : Jvm.MethodName)) ∈ lw_tbl := lw_at lw_m8 47 rfl
theorem q1894 : (Jvm.Cond.instanceMethod ({ cls := "MergeJudge", name := "lambda$ruleOf$6", desc := "(IIII)Z" } : Jvm.MethodName)) ∈ lw_all := lw_g (lw_at lw_m8 48 rfl) rfl
theorem q1895 : (Jvm.Cond.code ({ cls := "MergeJudge", name := "lambda$ruleOf$6", desc := "(IIII)Z" } : Jvm.MethodName) prog_1_method_159_code (5 : Nat) (Option.some Jvm.ClassFile.FieldType.boolean)) ∈ lw_all := lw_g (lw_at lw_m8 49 rfl) rfl
theorem q1896 : (Jvm.Cond.privateMethod ({ cls := "MergeJudge", name := "lambda$ruleOf$7", desc := "(III)Z" } : Jvm.MethodName)) ∈ lw_tbl := lw_at lw_m8 50 rfl
theorem q1897 : (Jvm.Cond.instanceMethod ({ cls := "MergeJudge", name := "lambda$ruleOf$7", desc := "(III)Z" } : Jvm.MethodName)) ∈ lw_all := lw_g (lw_at lw_m8 51 rfl) rfl
theorem q1898 : (Jvm.Cond.code ({ cls := "MergeJudge", name := "lambda$ruleOf$7", desc := "(III)Z" } : Jvm.MethodName) prog_1_method_158_code (4 : Nat) (Option.some Jvm.ClassFile.FieldType.boolean)) ∈ lw_all := lw_g (lw_at lw_m8 52 rfl) rfl
theorem q1899 : (Jvm.Cond.privateMethod ({ cls := "MergeJudge", name := "lambda$ruleOf$8", desc := "(IIIII)Z" } : Jvm.MethodName)) ∈ lw_tbl := lw_at lw_m8 53 rfl
theorem q1900 : (Jvm.Cond.instanceMethod ({ cls := "MergeJudge", name := "lambda$ruleOf$8", desc := "(IIIII)Z" } : Jvm.MethodName)) ∈ lw_all := lw_g (lw_at lw_m8 54 rfl) rfl
theorem q1901 : (Jvm.Cond.code ({ cls := "MergeJudge", name := "lambda$ruleOf$8", desc := "(IIIII)Z" } : Jvm.MethodName) prog_1_method_157_code (6 : Nat) (Option.some Jvm.ClassFile.FieldType.boolean)) ∈ lw_all := lw_g (lw_at lw_m8 55 rfl) rfl
theorem q1902 : (Jvm.Cond.methodLink "MergeJudge" (254 : Nat) ({ cls := "MergeJudge$Ruling", name := "<init>", desc := "(LMergeJudge$Rule;)V" } : Jvm.MethodName)) ∈ lw_all := lw_g (lw_at lw_m8 56 rfl) rfl
theorem q1907 : (Jvm.Cond.fieldLinkNest "MergeJudge" (285 : Nat) "MergeJudge$Ruling" "rule" "LMergeJudge$Rule;" "MergeJudge") ∈ lw_tbl := lw_at lw_m8 61 rfl
theorem q1912 : (Jvm.Cond.methodLink "MergeJudge" (257 : Nat) ({ cls := "MergeJudge", name := "stepOf", desc := "(LMergeJudge$Told;)LMergeJudge$Step;" } : Jvm.MethodName)) ∈ lw_all := lw_g (lw_at lw_m8 66 rfl) rfl
theorem q1913 : (Jvm.Cond.privateMethod ({ cls := "MergeJudge", name := "stepOf", desc := "(LMergeJudge$Told;)LMergeJudge$Step;" } : Jvm.MethodName)) ∈ lw_tbl := lw_at lw_m8 67 rfl
theorem q1914 : (Jvm.Cond.instanceMethod ({ cls := "MergeJudge", name := "stepOf", desc := "(LMergeJudge$Told;)LMergeJudge$Step;" } : Jvm.MethodName)) ∈ lw_all := lw_g (lw_at lw_m8 68 rfl) rfl
theorem q1915 : (Jvm.Cond.code ({ cls := "MergeJudge", name := "stepOf", desc := "(LMergeJudge$Told;)LMergeJudge$Step;" } : Jvm.MethodName) prog_1_method_14_code (5 : Nat) (Option.some (Jvm.ClassFile.FieldType.object "MergeJudge$Step"))) ∈ lw_all := lw_g (lw_at lw_m8 69 rfl) rfl
theorem q1916 : (Jvm.Cond.privateMethod ({ cls := "MergeJudge", name := "lambda$stepOf$9", desc := "(III)I" } : Jvm.MethodName)) ∈ lw_tbl := lw_at lw_m8 70 rfl
theorem q1917 : (Jvm.Cond.instanceMethod ({ cls := "MergeJudge", name := "lambda$stepOf$9", desc := "(III)I" } : Jvm.MethodName)) ∈ lw_all := lw_g (lw_at lw_m8 71 rfl) rfl
theorem q1918 : (Jvm.Cond.code ({ cls := "MergeJudge", name := "lambda$stepOf$9", desc := "(III)I" } : Jvm.MethodName) prog_1_method_156_code (4 : Nat) (Option.some Jvm.ClassFile.FieldType.int)) ∈ lw_all := lw_g (lw_at lw_m8 72 rfl) rfl
theorem q1919 : (Jvm.Cond.methodLink "MergeJudge" (602 : Nat) ({ cls := "MergeJudge", name := "with", desc := "(III)I" } : Jvm.MethodName)) ∈ lw_all := lw_g (lw_at lw_m8 73 rfl) rfl
theorem q1920 : (Jvm.Cond.privateMethod ({ cls := "MergeJudge", name := "with", desc := "(III)I" } : Jvm.MethodName)) ∈ lw_tbl := lw_at lw_m8 74 rfl
theorem q1921 : (Jvm.Cond.instanceMethod ({ cls := "MergeJudge", name := "with", desc := "(III)I" } : Jvm.MethodName)) ∈ lw_all := lw_g (lw_at lw_m8 75 rfl) rfl
theorem q1922 : (Jvm.Cond.code ({ cls := "MergeJudge", name := "with", desc := "(III)I" } : Jvm.MethodName) prog_1_method_31_code (4 : Nat) (Option.some Jvm.ClassFile.FieldType.int)) ∈ lw_all := lw_g (lw_at lw_m8 76 rfl) rfl
theorem q1923 : (Jvm.Cond.privateMethod ({ cls := "MergeJudge", name := "lambda$stepOf$10", desc := "(III)I" } : Jvm.MethodName)) ∈ lw_tbl := lw_at lw_m8 77 rfl
theorem q1924 : (Jvm.Cond.instanceMethod ({ cls := "MergeJudge", name := "lambda$stepOf$10", desc := "(III)I" } : Jvm.MethodName)) ∈ lw_all := lw_g (lw_at lw_m8 78 rfl) rfl
theorem q1925 : (Jvm.Cond.code ({ cls := "MergeJudge", name := "lambda$stepOf$10", desc := "(III)I" } : Jvm.MethodName) prog_1_method_155_code (4 : Nat) (Option.some Jvm.ClassFile.FieldType.int)) ∈ lw_all := lw_g (lw_at lw_m8 79 rfl) rfl
theorem q1926 : (Jvm.Cond.privateMethod ({ cls := "MergeJudge", name := "lambda$stepOf$11", desc := "(III)I" } : Jvm.MethodName)) ∈ lw_tbl := lw_at lw_m8 80 rfl
theorem q1927 : (Jvm.Cond.instanceMethod ({ cls := "MergeJudge", name := "lambda$stepOf$11", desc := "(III)I" } : Jvm.MethodName)) ∈ lw_all := lw_g (lw_at lw_m8 81 rfl) rfl
theorem q1928 : (Jvm.Cond.code ({ cls := "MergeJudge", name := "lambda$stepOf$11", desc := "(III)I" } : Jvm.MethodName) prog_1_method_154_code (4 : Nat) (Option.some Jvm.ClassFile.FieldType.int)) ∈ lw_all := lw_g (lw_at lw_m8 82 rfl) rfl
theorem q1929 : (Jvm.Cond.privateMethod ({ cls := "MergeJudge", name := "lambda$stepOf$12", desc := "(IIII)I" } : Jvm.MethodName)) ∈ lw_tbl := lw_at lw_m8 83 rfl
theorem q1930 : (Jvm.Cond.instanceMethod ({ cls := "MergeJudge", name := "lambda$stepOf$12", desc := "(IIII)I" } : Jvm.MethodName)) ∈ lw_all := lw_g (lw_at lw_m8 84 rfl) rfl
theorem q1931 : (Jvm.Cond.code ({ cls := "MergeJudge", name := "lambda$stepOf$12", desc := "(IIII)I" } : Jvm.MethodName) prog_1_method_153_code (5 : Nat) (Option.some Jvm.ClassFile.FieldType.int)) ∈ lw_all := lw_g (lw_at lw_m8 85 rfl) rfl
theorem q1932 : (Jvm.Cond.methodLink "MergeJudge" (261 : Nat) ({ cls := "MergeJudge$Stepping", name := "<init>", desc := "(LMergeJudge$Step;)V" } : Jvm.MethodName)) ∈ lw_all := lw_g (lw_at lw_m8 86 rfl) rfl
theorem q1937 : (Jvm.Cond.fieldLinkNest "MergeJudge" (293 : Nat) "MergeJudge$Stepping" "step" "LMergeJudge$Step;" "MergeJudge") ∈ lw_tbl := lw_at lw_m8 91 rfl
theorem q1941 : (Jvm.Cond.methodLink "MergeJudge" (274 : Nat) ({ cls := "MergeJudge", name := "counts", desc := "(I)V" } : Jvm.MethodName)) ∈ lw_all := lw_g (lw_at lw_m8 95 rfl) rfl
theorem q1942 : (Jvm.Cond.privateMethod ({ cls := "MergeJudge", name := "counts", desc := "(I)V" } : Jvm.MethodName)) ∈ lw_tbl := lw_at lw_m8 96 rfl
theorem q1943 : (Jvm.Cond.instanceMethod ({ cls := "MergeJudge", name := "counts", desc := "(I)V" } : Jvm.MethodName)) ∈ lw_all := lw_g (lw_at lw_m8 97 rfl) rfl
theorem q1944 : (Jvm.Cond.code ({ cls := "MergeJudge", name := "counts", desc := "(I)V" } : Jvm.MethodName) prog_1_method_33_code (3 : Nat) (Option.none : Option Jvm.ClassFile.FieldType)) ∈ lw_all := lw_g (lw_at lw_m8 98 rfl) rfl
theorem q1945 : (Jvm.Cond.methodLink "MergeJudge" (237 : Nat) ({ cls := "MergeJudge", name := "states0", desc := "()I" } : Jvm.MethodName)) ∈ lw_all := lw_g (lw_at lw_m8 99 rfl) rfl
theorem q1946 : (Jvm.Cond.privateMethod ({ cls := "MergeJudge", name := "states0", desc := "()I" } : Jvm.MethodName)) ∈ lw_tbl := lw_at lw_m8 100 rfl
theorem q1947 : (Jvm.Cond.instanceMethod ({ cls := "MergeJudge", name := "states0", desc := "()I" } : Jvm.MethodName)) ∈ lw_all := lw_g (lw_at lw_m8 101 rfl) rfl
theorem q1948 : (Jvm.Cond.code ({ cls := "MergeJudge", name := "states0", desc := "()I" } : Jvm.MethodName) prog_1_method_28_code (3 : Nat) (Option.some Jvm.ClassFile.FieldType.int)) ∈ lw_all := lw_g (lw_at lw_m8 102 rfl) rfl
theorem q1949 : (Jvm.Cond.methodLink "MergeJudge" (279 : Nat) ({ cls := "MergeJudge", name := "breaksIn", desc := "(I)I" } : Jvm.MethodName)) ∈ lw_all := lw_g (lw_at lw_m8 103 rfl) rfl
theorem q1950 : (Jvm.Cond.privateMethod ({ cls := "MergeJudge", name := "breaksIn", desc := "(I)I" } : Jvm.MethodName)) ∈ lw_tbl := lw_at lw_m8 104 rfl
theorem q1951 : (Jvm.Cond.instanceMethod ({ cls := "MergeJudge", name := "breaksIn", desc := "(I)I" } : Jvm.MethodName)) ∈ lw_all := lw_g (lw_at lw_m8 105 rfl) rfl
theorem q1952 : (Jvm.Cond.code ({ cls := "MergeJudge", name := "breaksIn", desc := "(I)I" } : Jvm.MethodName) prog_1_method_34_code (3 : Nat) (Option.some Jvm.ClassFile.FieldType.int)) ∈ lw_all := lw_g (lw_at lw_m8 106 rfl) rfl
theorem q1953 : (Jvm.Cond.methodLink "MergeJudge" (282 : Nat) ({ cls := "MergeJudge", name := "isOn", desc := "(II)Z" } : Jvm.MethodName)) ∈ lw_all := lw_g (lw_at lw_m8 107 rfl) rfl
theorem q1954 : (Jvm.Cond.static ({ cls := "MergeJudge", name := "isOn", desc := "(II)Z" } : Jvm.MethodName)) ∈ lw_all := lw_g (lw_at lw_m8 108 rfl) rfl
theorem q1955 : (Jvm.Cond.code ({ cls := "MergeJudge", name := "isOn", desc := "(II)Z" } : Jvm.MethodName) prog_1_method_2_code (2 : Nat) (Option.some Jvm.ClassFile.FieldType.boolean)) ∈ lw_all := lw_g (lw_at lw_m8 109 rfl) rfl
theorem q1956 : (Jvm.Cond.interfaceEntry "MergeJudge" (289 : Nat)) ∈ lw_tbl := lw_at lw_m8 110 rfl
theorem q1957 : (Jvm.Cond.methodLink "MergeJudge" (289 : Nat) ({ cls := "MergeJudge$Rule", name := "holds", desc := "(I)Z" } : Jvm.MethodName)) ∈ lw_all := lw_g (lw_at lw_m8 111 rfl) rfl
theorem q1961 : (Jvm.Cond.instanceMethod ({ cls := "MergeJudge", name := "fault", desc := "(I)I" } : Jvm.MethodName)) ∈ lw_all := lw_g (lw_at lw_m8 115 rfl) rfl
theorem q1962 : (Jvm.Cond.selects "MergeJudge" ({ cls := "MergeJudge", name := "fault", desc := "(I)I" } : Jvm.MethodName) ({ cls := "MergeJudge", name := "fault", desc := "(I)I" } : Jvm.MethodName)) ∈ lw_all := lw_g (lw_at lw_m8 116 rfl) rfl
theorem q1963 : (Jvm.Cond.code ({ cls := "MergeJudge", name := "fault", desc := "(I)I" } : Jvm.MethodName) prog_1_method_19_code (2 : Nat) (Option.some Jvm.ClassFile.FieldType.int)) ∈ lw_all := lw_g (lw_at lw_m8 117 rfl) rfl
theorem q1965 : (Jvm.Cond.instanceMethod ({ cls := "MergeJudge", name := "weight", desc := "(I)I" } : Jvm.MethodName)) ∈ lw_all := lw_g (lw_at lw_m8 119 rfl) rfl
theorem q1966 : (Jvm.Cond.selects "MergeJudge" ({ cls := "MergeJudge", name := "weight", desc := "(I)I" } : Jvm.MethodName) ({ cls := "MergeJudge", name := "weight", desc := "(I)I" } : Jvm.MethodName)) ∈ lw_all := lw_g (lw_at lw_m8 120 rfl) rfl
theorem q1967 : (Jvm.Cond.code ({ cls := "MergeJudge", name := "weight", desc := "(I)I" } : Jvm.MethodName) prog_1_method_37_code (4 : Nat) (Option.some Jvm.ClassFile.FieldType.int)) ∈ lw_all := lw_g (lw_at lw_m8 121 rfl) rfl
theorem q1968 : (Jvm.Cond.methodLink "MergeJudge" (307 : Nat) ({ cls := "MergeJudge", name := "isState", desc := "(J)Z" } : Jvm.MethodName)) ∈ lw_all := lw_g (lw_at lw_m8 122 rfl) rfl
theorem q1969 : (Jvm.Cond.privateMethod ({ cls := "MergeJudge", name := "isState", desc := "(J)Z" } : Jvm.MethodName)) ∈ lw_tbl := lw_at lw_m8 123 rfl
theorem q1970 : (Jvm.Cond.instanceMethod ({ cls := "MergeJudge", name := "isState", desc := "(J)Z" } : Jvm.MethodName)) ∈ lw_all := lw_g (lw_at lw_m8 124 rfl) rfl
theorem q1971 : (Jvm.Cond.code ({ cls := "MergeJudge", name := "isState", desc := "(J)Z" } : Jvm.MethodName) prog_1_method_24_code (3 : Nat) (Option.some Jvm.ClassFile.FieldType.boolean)) ∈ lw_all := lw_g (lw_at lw_m8 125 rfl) rfl
theorem q1973 : (Jvm.Cond.instanceMethod ({ cls := "MergeJudge", name := "bare", desc := "(I)I" } : Jvm.MethodName)) ∈ lw_all := lw_g (lw_at lw_m8 127 rfl) rfl
theorem q1974 : (Jvm.Cond.selects "MergeJudge" ({ cls := "MergeJudge", name := "bare", desc := "(I)I" } : Jvm.MethodName) ({ cls := "MergeJudge", name := "bare", desc := "(I)I" } : Jvm.MethodName)) ∈ lw_all := lw_g (lw_at lw_m8 128 rfl) rfl
theorem q1975 : (Jvm.Cond.code ({ cls := "MergeJudge", name := "bare", desc := "(I)I" } : Jvm.MethodName) prog_1_method_38_code (4 : Nat) (Option.some Jvm.ClassFile.FieldType.int)) ∈ lw_all := lw_g (lw_at lw_m8 129 rfl) rfl
theorem q1976 : (Jvm.Cond.methodLink "MergeJudge" (311 : Nat) ({ cls := "MergeJudge", name := "isDeep", desc := "(I)Z" } : Jvm.MethodName)) ∈ lw_all := lw_g (lw_at lw_m8 130 rfl) rfl
theorem q1977 : (Jvm.Cond.privateMethod ({ cls := "MergeJudge", name := "isDeep", desc := "(I)Z" } : Jvm.MethodName)) ∈ lw_tbl := lw_at lw_m8 131 rfl
theorem q1978 : (Jvm.Cond.instanceMethod ({ cls := "MergeJudge", name := "isDeep", desc := "(I)Z" } : Jvm.MethodName)) ∈ lw_all := lw_g (lw_at lw_m8 132 rfl) rfl
theorem q1979 : (Jvm.Cond.code ({ cls := "MergeJudge", name := "isDeep", desc := "(I)Z" } : Jvm.MethodName) prog_1_method_25_code (2 : Nat) (Option.some Jvm.ClassFile.FieldType.boolean)) ∈ lw_all := lw_g (lw_at lw_m8 133 rfl) rfl
theorem q1980 : (Jvm.Cond.methodLink "MergeJudge" (314 : Nat) ({ cls := "MergeJudge", name := "bad", desc := "(II)I" } : Jvm.MethodName)) ∈ lw_all := lw_g (lw_at lw_m8 134 rfl) rfl
theorem q1981 : (Jvm.Cond.instanceMethod ({ cls := "MergeJudge", name := "bad", desc := "(II)I" } : Jvm.MethodName)) ∈ lw_all := lw_g (lw_at lw_m8 135 rfl) rfl
theorem q1982 : (Jvm.Cond.selects "MergeJudge" ({ cls := "MergeJudge", name := "bad", desc := "(II)I" } : Jvm.MethodName) ({ cls := "MergeJudge", name := "bad", desc := "(II)I" } : Jvm.MethodName)) ∈ lw_all := lw_g (lw_at lw_m8 136 rfl) rfl
theorem q1983 : (Jvm.Cond.code ({ cls := "MergeJudge", name := "bad", desc := "(II)I" } : Jvm.MethodName) prog_1_method_80_code (3 : Nat) (Option.some Jvm.ClassFile.FieldType.int)) ∈ lw_all := lw_g (lw_at lw_m8 137 rfl) rfl
theorem q1984 : (Jvm.Cond.privateMethod ({ cls := "MergeJudge", name := "lambda$bad$15", desc := "(IIII)V" } : Jvm.MethodName)) ∈ lw_tbl := lw_at lw_m8 138 rfl
theorem q1985 : (Jvm.Cond.instanceMethod ({ cls := "MergeJudge", name := "lambda$bad$15", desc := "(IIII)V" } : Jvm.MethodName)) ∈ lw_all := lw_g (lw_at lw_m8 139 rfl) rfl
theorem q1986 : (Jvm.Cond.code ({ cls := "MergeJudge", name := "lambda$bad$15", desc := "(IIII)V" } : Jvm.MethodName) prog_1_method_150_code (5 : Nat) (Option.none : Option Jvm.ClassFile.FieldType)) ∈ lw_all := lw_g (lw_at lw_m8 140 rfl) rfl
theorem q1987 : (Jvm.Cond.methodLink "MergeJudge" (599 : Nat) ({ cls := "MergeJudge", name := "tells", desc := "(I)V" } : Jvm.MethodName)) ∈ lw_all := lw_g (lw_at lw_m8 141 rfl) rfl
theorem q1988 : (Jvm.Cond.privateMethod ({ cls := "MergeJudge", name := "tells", desc := "(I)V" } : Jvm.MethodName)) ∈ lw_tbl := lw_at lw_m8 142 rfl
theorem q1989 : (Jvm.Cond.instanceMethod ({ cls := "MergeJudge", name := "tells", desc := "(I)V" } : Jvm.MethodName)) ∈ lw_all := lw_g (lw_at lw_m8 143 rfl) rfl
theorem q1990 : (Jvm.Cond.code ({ cls := "MergeJudge", name := "tells", desc := "(I)V" } : Jvm.MethodName) prog_1_method_53_code (2 : Nat) (Option.none : Option Jvm.ClassFile.FieldType)) ∈ lw_all := lw_g (lw_at lw_m8 144 rfl) rfl
theorem q1991 : (Jvm.Cond.methodLink "MergeJudge" (364 : Nat) ({ cls := "MergeJudge", name := "breaksFrom", desc := "(IILMergeJudge$Break;)I" } : Jvm.MethodName)) ∈ lw_all := lw_g (lw_at lw_m8 145 rfl) rfl
theorem q1992 : (Jvm.Cond.privateMethod ({ cls := "MergeJudge", name := "breaksFrom", desc := "(IILMergeJudge$Break;)I" } : Jvm.MethodName)) ∈ lw_tbl := lw_at lw_m8 146 rfl
theorem q1993 : (Jvm.Cond.instanceMethod ({ cls := "MergeJudge", name := "breaksFrom", desc := "(IILMergeJudge$Break;)I" } : Jvm.MethodName)) ∈ lw_all := lw_g (lw_at lw_m8 147 rfl) rfl
theorem q1994 : (Jvm.Cond.code ({ cls := "MergeJudge", name := "breaksFrom", desc := "(IILMergeJudge$Break;)I" } : Jvm.MethodName) prog_1_method_50_code (8 : Nat) (Option.some Jvm.ClassFile.FieldType.int)) ∈ lw_all := lw_g (lw_at lw_m8 148 rfl) rfl
theorem q1995 : (Jvm.Cond.methodLink "MergeJudge" (350 : Nat) ({ cls := "MergeJudge$Side", name := "of", desc := "(III)LMergeJudge$Side;" } : Jvm.MethodName)) ∈ lw_all := lw_g (lw_at lw_m8 149 rfl) rfl
theorem q2010 : (Jvm.Cond.privateMethod ({ cls := "MergeJudge", name := "stepIn", desc := "(II)I" } : Jvm.MethodName)) ∈ lw_tbl := lw_at lw_m8 164 rfl
theorem q2011 : (Jvm.Cond.instanceMethod ({ cls := "MergeJudge", name := "stepIn", desc := "(II)I" } : Jvm.MethodName)) ∈ lw_all := lw_g (lw_at lw_m8 165 rfl) rfl
theorem q2012 : (Jvm.Cond.code ({ cls := "MergeJudge", name := "stepIn", desc := "(II)I" } : Jvm.MethodName) prog_1_method_35_code (4 : Nat) (Option.some Jvm.ClassFile.FieldType.int)) ∈ lw_all := lw_g (lw_at lw_m8 166 rfl) rfl
theorem q2013 : (Jvm.Cond.interfaceEntry "MergeJudge" (297 : Nat)) ∈ lw_tbl := lw_at lw_m8 167 rfl
theorem q2014 : (Jvm.Cond.methodLink "MergeJudge" (297 : Nat) ({ cls := "MergeJudge$Step", name := "from", desc := "(I)I" } : Jvm.MethodName)) ∈ lw_all := lw_g (lw_at lw_m8 168 rfl) rfl
theorem q2017 : (Jvm.Cond.methodLink "MergeJudge" (323 : Nat) ({ cls := "MergeJudge", name := "mergeOf", desc := "(III)I" } : Jvm.MethodName)) ∈ lw_all := lw_g (lw_at lw_m8 171 rfl) rfl
theorem q2018 : (Jvm.Cond.privateMethod ({ cls := "MergeJudge", name := "mergeOf", desc := "(III)I" } : Jvm.MethodName)) ∈ lw_tbl := lw_at lw_m8 172 rfl
theorem q2019 : (Jvm.Cond.instanceMethod ({ cls := "MergeJudge", name := "mergeOf", desc := "(III)I" } : Jvm.MethodName)) ∈ lw_all := lw_g (lw_at lw_m8 173 rfl) rfl
theorem q2020 : (Jvm.Cond.code ({ cls := "MergeJudge", name := "mergeOf", desc := "(III)I" } : Jvm.MethodName) prog_1_method_36_code (6 : Nat) (Option.some Jvm.ClassFile.FieldType.int)) ∈ lw_all := lw_g (lw_at lw_m8 174 rfl) rfl
theorem q2021 : (Jvm.Cond.interfaceEntry "MergeJudge" (359 : Nat)) ∈ lw_tbl := lw_at lw_m8 175 rfl
theorem q2022 : (Jvm.Cond.methodLink "MergeJudge" (359 : Nat) ({ cls := "MergeJudge$Break", name := "of", desc := "(IIII)V" } : Jvm.MethodName)) ∈ lw_all := lw_g (lw_at lw_m8 176 rfl) rfl
theorem q2026 : (Jvm.Cond.instanceMethod ({ cls := "MergeJudge", name := "calm", desc := "(I)I" } : Jvm.MethodName)) ∈ lw_all := lw_g (lw_at lw_m8 180 rfl) rfl
theorem q2027 : (Jvm.Cond.selects "MergeJudge" ({ cls := "MergeJudge", name := "calm", desc := "(I)I" } : Jvm.MethodName) ({ cls := "MergeJudge", name := "calm", desc := "(I)I" } : Jvm.MethodName)) ∈ lw_all := lw_g (lw_at lw_m8 181 rfl) rfl
theorem q2028 : (Jvm.Cond.code ({ cls := "MergeJudge", name := "calm", desc := "(I)I" } : Jvm.MethodName) prog_1_method_39_code (3 : Nat) (Option.some Jvm.ClassFile.FieldType.int)) ∈ lw_all := lw_g (lw_at lw_m8 182 rfl) rfl
theorem q2030 : (Jvm.Cond.instanceMethod ({ cls := "MergeJudge", name := "hot", desc := "(I)I" } : Jvm.MethodName)) ∈ lw_all := lw_g (lw_at lw_m8 184 rfl) rfl
theorem q2031 : (Jvm.Cond.selects "MergeJudge" ({ cls := "MergeJudge", name := "hot", desc := "(I)I" } : Jvm.MethodName) ({ cls := "MergeJudge", name := "hot", desc := "(I)I" } : Jvm.MethodName)) ∈ lw_all := lw_g (lw_at lw_m8 185 rfl) rfl
theorem q2032 : (Jvm.Cond.code ({ cls := "MergeJudge", name := "hot", desc := "(I)I" } : Jvm.MethodName) prog_1_method_40_code (6 : Nat) (Option.some Jvm.ClassFile.FieldType.int)) ∈ lw_all := lw_g (lw_at lw_m8 186 rfl) rfl
theorem q2034 : (Jvm.Cond.instanceMethod ({ cls := "MergeJudge", name := "opens", desc := "(I)I" } : Jvm.MethodName)) ∈ lw_all := lw_g (lw_at lw_m8 188 rfl) rfl
theorem q2035 : (Jvm.Cond.selects "MergeJudge" ({ cls := "MergeJudge", name := "opens", desc := "(I)I" } : Jvm.MethodName) ({ cls := "MergeJudge", name := "opens", desc := "(I)I" } : Jvm.MethodName)) ∈ lw_all := lw_g (lw_at lw_m8 189 rfl) rfl
theorem q2036 : (Jvm.Cond.code ({ cls := "MergeJudge", name := "opens", desc := "(I)I" } : Jvm.MethodName) prog_1_method_41_code (4 : Nat) (Option.some Jvm.ClassFile.FieldType.int)) ∈ lw_all := lw_g (lw_at lw_m8 190 rfl) rfl
theorem q2037 : (Jvm.Cond.methodLink "MergeJudge" (317 : Nat) ({ cls := "MergeJudge", name := "stepIn", desc := "(II)I" } : Jvm.MethodName)) ∈ lw_all := lw_g (lw_at lw_m8 191 rfl) rfl
theorem q2039 : (Jvm.Cond.instanceMethod ({ cls := "MergeJudge", name := "dead", desc := "()I" } : Jvm.MethodName)) ∈ lw_all := lw_g (lw_at lw_m8 193 rfl) rfl
theorem q2040 : (Jvm.Cond.selects "MergeJudge" ({ cls := "MergeJudge", name := "dead", desc := "()I" } : Jvm.MethodName) ({ cls := "MergeJudge", name := "dead", desc := "()I" } : Jvm.MethodName)) ∈ lw_all := lw_g (lw_at lw_m8 194 rfl) rfl
theorem q2041 : (Jvm.Cond.code ({ cls := "MergeJudge", name := "dead", desc := "()I" } : Jvm.MethodName) prog_1_method_42_code (3 : Nat) (Option.some Jvm.ClassFile.FieldType.int)) ∈ lw_all := lw_g (lw_at lw_m8 195 rfl) rfl
theorem q2042 : (Jvm.Cond.methodLink "MergeJudge" (320 : Nat) ({ cls := "MergeJudge", name := "opens", desc := "(I)I" } : Jvm.MethodName)) ∈ lw_all := lw_g (lw_at lw_m8 196 rfl) rfl
theorem q2044 : (Jvm.Cond.instanceMethod ({ cls := "MergeJudge", name := "clashes", desc := "(II)I" } : Jvm.MethodName)) ∈ lw_all := lw_g (lw_at lw_m8 198 rfl) rfl
theorem q2045 : (Jvm.Cond.selects "MergeJudge" ({ cls := "MergeJudge", name := "clashes", desc := "(II)I" } : Jvm.MethodName) ({ cls := "MergeJudge", name := "clashes", desc := "(II)I" } : Jvm.MethodName)) ∈ lw_all := lw_g (lw_at lw_m8 199 rfl) rfl
theorem q2046 : (Jvm.Cond.code ({ cls := "MergeJudge", name := "clashes", desc := "(II)I" } : Jvm.MethodName) prog_1_method_43_code (5 : Nat) (Option.some Jvm.ClassFile.FieldType.int)) ∈ lw_all := lw_g (lw_at lw_m8 200 rfl) rfl
theorem q2047 : (Jvm.Cond.methodLink "MergeJudge" (234 : Nat) ({ cls := "MergeJudge", name := "isOp", desc := "(I)Z" } : Jvm.MethodName)) ∈ lw_all := lw_g (lw_at lw_m8 201 rfl) rfl
theorem q2048 : (Jvm.Cond.privateMethod ({ cls := "MergeJudge", name := "isOp", desc := "(I)Z" } : Jvm.MethodName)) ∈ lw_tbl := lw_at lw_m8 202 rfl
theorem q2049 : (Jvm.Cond.instanceMethod ({ cls := "MergeJudge", name := "isOp", desc := "(I)Z" } : Jvm.MethodName)) ∈ lw_all := lw_g (lw_at lw_m8 203 rfl) rfl
theorem q2050 : (Jvm.Cond.code ({ cls := "MergeJudge", name := "isOp", desc := "(I)Z" } : Jvm.MethodName) prog_1_method_22_code (2 : Nat) (Option.some Jvm.ClassFile.FieldType.boolean)) ∈ lw_all := lw_g (lw_at lw_m8 204 rfl) rfl
theorem q2052 : (Jvm.Cond.instanceMethod ({ cls := "MergeJudge", name := "nearest", desc := "(I)I" } : Jvm.MethodName)) ∈ lw_all := lw_g (lw_at lw_m8 206 rfl) rfl
theorem q2053 : (Jvm.Cond.selects "MergeJudge" ({ cls := "MergeJudge", name := "nearest", desc := "(I)I" } : Jvm.MethodName) ({ cls := "MergeJudge", name := "nearest", desc := "(I)I" } : Jvm.MethodName)) ∈ lw_all := lw_g (lw_at lw_m8 207 rfl) rfl
theorem q2054 : (Jvm.Cond.code ({ cls := "MergeJudge", name := "nearest", desc := "(I)I" } : Jvm.MethodName) prog_1_method_44_code (7 : Nat) (Option.some Jvm.ClassFile.FieldType.int)) ∈ lw_all := lw_g (lw_at lw_m8 208 rfl) rfl
theorem q2055 : (Jvm.Cond.constant "MergeJudge" (326 : Nat) (10000000 : Int32)) ∈ lw_all := lw_g (lw_at lw_m8 209 rfl) rfl
theorem q2057 : (Jvm.Cond.instanceMethod ({ cls := "MergeJudge", name := "hard", desc := "()I" } : Jvm.MethodName)) ∈ lw_all := lw_g (lw_at lw_m8 211 rfl) rfl
theorem q2058 : (Jvm.Cond.selects "MergeJudge" ({ cls := "MergeJudge", name := "hard", desc := "()I" } : Jvm.MethodName) ({ cls := "MergeJudge", name := "hard", desc := "()I" } : Jvm.MethodName)) ∈ lw_all := lw_g (lw_at lw_m8 212 rfl) rfl
theorem q2059 : (Jvm.Cond.code ({ cls := "MergeJudge", name := "hard", desc := "()I" } : Jvm.MethodName) prog_1_method_46_code (3 : Nat) (Option.some Jvm.ClassFile.FieldType.int)) ∈ lw_all := lw_g (lw_at lw_m8 213 rfl) rfl
theorem q2060 : (Jvm.Cond.methodLink "MergeJudge" (327 : Nat) ({ cls := "MergeJudge", name := "brokenBy", desc := "(LMergeJudge$Rule;)I" } : Jvm.MethodName)) ∈ lw_all := lw_g (lw_at lw_m8 214 rfl) rfl
theorem q2061 : (Jvm.Cond.privateMethod ({ cls := "MergeJudge", name := "brokenBy", desc := "(LMergeJudge$Rule;)I" } : Jvm.MethodName)) ∈ lw_tbl := lw_at lw_m8 215 rfl
theorem q2062 : (Jvm.Cond.instanceMethod ({ cls := "MergeJudge", name := "brokenBy", desc := "(LMergeJudge$Rule;)I" } : Jvm.MethodName)) ∈ lw_all := lw_g (lw_at lw_m8 216 rfl) rfl
theorem q2063 : (Jvm.Cond.code ({ cls := "MergeJudge", name := "brokenBy", desc := "(LMergeJudge$Rule;)I" } : Jvm.MethodName) prog_1_method_45_code (4 : Nat) (Option.some Jvm.ClassFile.FieldType.int)) ∈ lw_all := lw_g (lw_at lw_m8 217 rfl) rfl
theorem q2065 : (Jvm.Cond.instanceMethod ({ cls := "MergeJudge", name := "spare", desc := "(I)I" } : Jvm.MethodName)) ∈ lw_all := lw_g (lw_at lw_m8 219 rfl) rfl
theorem q2066 : (Jvm.Cond.selects "MergeJudge" ({ cls := "MergeJudge", name := "spare", desc := "(I)I" } : Jvm.MethodName) ({ cls := "MergeJudge", name := "spare", desc := "(I)I" } : Jvm.MethodName)) ∈ lw_all := lw_g (lw_at lw_m8 220 rfl) rfl
theorem q2067 : (Jvm.Cond.code ({ cls := "MergeJudge", name := "spare", desc := "(I)I" } : Jvm.MethodName) prog_1_method_47_code (2 : Nat) (Option.some Jvm.ClassFile.FieldType.int)) ∈ lw_all := lw_g (lw_at lw_m8 221 rfl) rfl
theorem q2068 : (Jvm.Cond.methodLink "MergeJudge" (331 : Nat) ({ cls := "MergeJudge", name := "isRule", desc := "(I)Z" } : Jvm.MethodName)) ∈ lw_all := lw_g (lw_at lw_m8 222 rfl) rfl
theorem q2069 : (Jvm.Cond.privateMethod ({ cls := "MergeJudge", name := "isRule", desc := "(I)Z" } : Jvm.MethodName)) ∈ lw_tbl := lw_at lw_m8 223 rfl
theorem q2070 : (Jvm.Cond.instanceMethod ({ cls := "MergeJudge", name := "isRule", desc := "(I)Z" } : Jvm.MethodName)) ∈ lw_all := lw_g (lw_at lw_m8 224 rfl) rfl
theorem q2071 : (Jvm.Cond.code ({ cls := "MergeJudge", name := "isRule", desc := "(I)Z" } : Jvm.MethodName) prog_1_method_21_code (2 : Nat) (Option.some Jvm.ClassFile.FieldType.boolean)) ∈ lw_all := lw_g (lw_at lw_m8 225 rfl) rfl
theorem q2072 : (Jvm.Cond.methodLink "MergeJudge" (334 : Nat) ({ cls := "MergeJudge", name := "every", desc := "()I" } : Jvm.MethodName)) ∈ lw_all := lw_g (lw_at lw_m8 226 rfl) rfl
theorem q2073 : (Jvm.Cond.privateMethod ({ cls := "MergeJudge", name := "every", desc := "()I" } : Jvm.MethodName)) ∈ lw_tbl := lw_at lw_m8 227 rfl
theorem q2074 : (Jvm.Cond.instanceMethod ({ cls := "MergeJudge", name := "every", desc := "()I" } : Jvm.MethodName)) ∈ lw_all := lw_g (lw_at lw_m8 228 rfl) rfl
theorem q2075 : (Jvm.Cond.code ({ cls := "MergeJudge", name := "every", desc := "()I" } : Jvm.MethodName) prog_1_method_93_code (1 : Nat) (Option.some Jvm.ClassFile.FieldType.int)) ∈ lw_all := lw_g (lw_at lw_m8 229 rfl) rfl
theorem q2076 : (Jvm.Cond.privateMethod ({ cls := "MergeJudge", name := "validsNow", desc := "()I" } : Jvm.MethodName)) ∈ lw_tbl := lw_at lw_m8 230 rfl
theorem q2077 : (Jvm.Cond.instanceMethod ({ cls := "MergeJudge", name := "validsNow", desc := "()I" } : Jvm.MethodName)) ∈ lw_all := lw_g (lw_at lw_m8 231 rfl) rfl
theorem q2078 : (Jvm.Cond.code ({ cls := "MergeJudge", name := "validsNow", desc := "()I" } : Jvm.MethodName) prog_1_method_65_code (3 : Nat) (Option.some Jvm.ClassFile.FieldType.int)) ∈ lw_all := lw_g (lw_at lw_m8 232 rfl) rfl
theorem q2079 : (Jvm.Cond.methodLink "MergeJudge" (340 : Nat) ({ cls := "MergeJudge", name := "under", desc := "(ILMergeJudge$Answer;)I" } : Jvm.MethodName)) ∈ lw_all := lw_g (lw_at lw_m8 233 rfl) rfl
theorem q2080 : (Jvm.Cond.privateMethod ({ cls := "MergeJudge", name := "under", desc := "(ILMergeJudge$Answer;)I" } : Jvm.MethodName)) ∈ lw_tbl := lw_at lw_m8 234 rfl
theorem q2081 : (Jvm.Cond.instanceMethod ({ cls := "MergeJudge", name := "under", desc := "(ILMergeJudge$Answer;)I" } : Jvm.MethodName)) ∈ lw_all := lw_g (lw_at lw_m8 235 rfl) rfl
theorem q2082 : (Jvm.Cond.code ({ cls := "MergeJudge", name := "under", desc := "(ILMergeJudge$Answer;)I" } : Jvm.MethodName) prog_1_method_94_code (4 : Nat) (Option.some Jvm.ClassFile.FieldType.int)) ∈ lw_all := lw_g (lw_at lw_m8 236 rfl) rfl
theorem q2083 : (Jvm.Cond.interfaceEntry "MergeJudge" (428 : Nat)) ∈ lw_tbl := lw_at lw_m8 237 rfl
theorem q2084 : (Jvm.Cond.methodLink "MergeJudge" (428 : Nat) ({ cls := "MergeJudge$Answer", name := "now", desc := "()I" } : Jvm.MethodName)) ∈ lw_all := lw_g (lw_at lw_m8 238 rfl) rfl
theorem q2087 : (Jvm.Cond.methodLink "MergeJudge" (344 : Nat) ({ cls := "MergeJudge", name := "validsNow", desc := "()I" } : Jvm.MethodName)) ∈ lw_all := lw_g (lw_at lw_m9 1 rfl) rfl
theorem q2089 : (Jvm.Cond.instanceMethod ({ cls := "MergeJudge", name := "room", desc := "(I)I" } : Jvm.MethodName)) ∈ lw_all := lw_g (lw_at lw_m9 3 rfl) rfl
theorem q2090 : (Jvm.Cond.selects "MergeJudge" ({ cls := "MergeJudge", name := "room", desc := "(I)I" } : Jvm.MethodName) ({ cls := "MergeJudge", name := "room", desc := "(I)I" } : Jvm.MethodName)) ∈ lw_all := lw_g (lw_at lw_m9 4 rfl) rfl
theorem q2091 : (Jvm.Cond.code ({ cls := "MergeJudge", name := "room", desc := "(I)I" } : Jvm.MethodName) prog_1_method_48_code (4 : Nat) (Option.some Jvm.ClassFile.FieldType.int)) ∈ lw_all := lw_g (lw_at lw_m9 5 rfl) rfl
theorem q2092 : (Jvm.Cond.methodLink "MergeJudge" (347 : Nat) ({ cls := "MergeJudge", name := "isCell", desc := "(I)Z" } : Jvm.MethodName)) ∈ lw_all := lw_g (lw_at lw_m9 6 rfl) rfl
theorem q2093 : (Jvm.Cond.privateMethod ({ cls := "MergeJudge", name := "isCell", desc := "(I)Z" } : Jvm.MethodName)) ∈ lw_tbl := lw_at lw_m9 7 rfl
theorem q2094 : (Jvm.Cond.instanceMethod ({ cls := "MergeJudge", name := "isCell", desc := "(I)Z" } : Jvm.MethodName)) ∈ lw_all := lw_g (lw_at lw_m9 8 rfl) rfl
theorem q2095 : (Jvm.Cond.code ({ cls := "MergeJudge", name := "isCell", desc := "(I)Z" } : Jvm.MethodName) prog_1_method_20_code (2 : Nat) (Option.some Jvm.ClassFile.FieldType.boolean)) ∈ lw_all := lw_g (lw_at lw_m9 9 rfl) rfl
theorem q2097 : (Jvm.Cond.instanceMethod ({ cls := "MergeJudge", name := "asked", desc := "(II)I" } : Jvm.MethodName)) ∈ lw_all := lw_g (lw_at lw_m9 11 rfl) rfl
theorem q2098 : (Jvm.Cond.selects "MergeJudge" ({ cls := "MergeJudge", name := "asked", desc := "(II)I" } : Jvm.MethodName) ({ cls := "MergeJudge", name := "asked", desc := "(II)I" } : Jvm.MethodName)) ∈ lw_all := lw_g (lw_at lw_m9 12 rfl) rfl
theorem q2099 : (Jvm.Cond.code ({ cls := "MergeJudge", name := "asked", desc := "(II)I" } : Jvm.MethodName) prog_1_method_49_code (4 : Nat) (Option.some Jvm.ClassFile.FieldType.int)) ∈ lw_all := lw_g (lw_at lw_m9 13 rfl) rfl
theorem q2101 : (Jvm.Cond.instanceMethod ({ cls := "MergeJudge", name := "cell", desc := "(I)I" } : Jvm.MethodName)) ∈ lw_all := lw_g (lw_at lw_m9 15 rfl) rfl
theorem q2102 : (Jvm.Cond.selects "MergeJudge" ({ cls := "MergeJudge", name := "cell", desc := "(I)I" } : Jvm.MethodName) ({ cls := "MergeJudge", name := "cell", desc := "(I)I" } : Jvm.MethodName)) ∈ lw_all := lw_g (lw_at lw_m9 16 rfl) rfl
theorem q2103 : (Jvm.Cond.code ({ cls := "MergeJudge", name := "cell", desc := "(I)I" } : Jvm.MethodName) prog_1_method_55_code (2 : Nat) (Option.some Jvm.ClassFile.FieldType.int)) ∈ lw_all := lw_g (lw_at lw_m9 17 rfl) rfl
theorem q2105 : (Jvm.Cond.instanceMethod ({ cls := "MergeJudge", name := "rule", desc := "(II)I" } : Jvm.MethodName)) ∈ lw_all := lw_g (lw_at lw_m9 19 rfl) rfl
theorem q2106 : (Jvm.Cond.selects "MergeJudge" ({ cls := "MergeJudge", name := "rule", desc := "(II)I" } : Jvm.MethodName) ({ cls := "MergeJudge", name := "rule", desc := "(II)I" } : Jvm.MethodName)) ∈ lw_all := lw_g (lw_at lw_m9 20 rfl) rfl
theorem q2107 : (Jvm.Cond.code ({ cls := "MergeJudge", name := "rule", desc := "(II)I" } : Jvm.MethodName) prog_1_method_57_code (3 : Nat) (Option.some Jvm.ClassFile.FieldType.int)) ∈ lw_all := lw_g (lw_at lw_m9 21 rfl) rfl
theorem q2108 : (Jvm.Cond.constantLong "MergeJudge" (376 : Nat) (4 : Int64)) ∈ lw_all := lw_g (lw_at lw_m9 22 rfl) rfl
theorem q2109 : (Jvm.Cond.methodLink "MergeJudge" (378 : Nat) ({ cls := "MergeJudge", name := "numberOf", desc := "(LMergeJudge$Told;I)I" } : Jvm.MethodName)) ∈ lw_all := lw_g (lw_at lw_m9 23 rfl) rfl
theorem q2110 : (Jvm.Cond.static ({ cls := "MergeJudge", name := "numberOf", desc := "(LMergeJudge$Told;I)I" } : Jvm.MethodName)) ∈ lw_all := lw_g (lw_at lw_m9 24 rfl) rfl
theorem q2111 : (Jvm.Cond.code ({ cls := "MergeJudge", name := "numberOf", desc := "(LMergeJudge$Told;I)I" } : Jvm.MethodName) prog_1_method_56_code (2 : Nat) (Option.some Jvm.ClassFile.FieldType.int)) ∈ lw_all := lw_g (lw_at lw_m9 25 rfl) rfl
theorem q2113 : (Jvm.Cond.instanceMethod ({ cls := "MergeJudge", name := "op", desc := "(II)I" } : Jvm.MethodName)) ∈ lw_all := lw_g (lw_at lw_m9 27 rfl) rfl
theorem q2114 : (Jvm.Cond.selects "MergeJudge" ({ cls := "MergeJudge", name := "op", desc := "(II)I" } : Jvm.MethodName) ({ cls := "MergeJudge", name := "op", desc := "(II)I" } : Jvm.MethodName)) ∈ lw_all := lw_g (lw_at lw_m9 28 rfl) rfl
theorem q2115 : (Jvm.Cond.code ({ cls := "MergeJudge", name := "op", desc := "(II)I" } : Jvm.MethodName) prog_1_method_58_code (3 : Nat) (Option.some Jvm.ClassFile.FieldType.int)) ∈ lw_all := lw_g (lw_at lw_m9 29 rfl) rfl
theorem q2117 : (Jvm.Cond.instanceMethod ({ cls := "MergeJudge", name := "states", desc := "()I" } : Jvm.MethodName)) ∈ lw_all := lw_g (lw_at lw_m9 31 rfl) rfl
theorem q2118 : (Jvm.Cond.selects "MergeJudge" ({ cls := "MergeJudge", name := "states", desc := "()I" } : Jvm.MethodName) ({ cls := "MergeJudge", name := "states", desc := "()I" } : Jvm.MethodName)) ∈ lw_all := lw_g (lw_at lw_m9 32 rfl) rfl
theorem q2119 : (Jvm.Cond.code ({ cls := "MergeJudge", name := "states", desc := "()I" } : Jvm.MethodName) prog_1_method_59_code (1 : Nat) (Option.some Jvm.ClassFile.FieldType.int)) ∈ lw_all := lw_g (lw_at lw_m9 33 rfl) rfl
theorem q2121 : (Jvm.Cond.instanceMethod ({ cls := "MergeJudge", name := "value", desc := "(II)I" } : Jvm.MethodName)) ∈ lw_all := lw_g (lw_at lw_m9 35 rfl) rfl
theorem q2122 : (Jvm.Cond.selects "MergeJudge" ({ cls := "MergeJudge", name := "value", desc := "(II)I" } : Jvm.MethodName) ({ cls := "MergeJudge", name := "value", desc := "(II)I" } : Jvm.MethodName)) ∈ lw_all := lw_g (lw_at lw_m9 36 rfl) rfl
theorem q2123 : (Jvm.Cond.code ({ cls := "MergeJudge", name := "value", desc := "(II)I" } : Jvm.MethodName) prog_1_method_60_code (3 : Nat) (Option.some Jvm.ClassFile.FieldType.int)) ∈ lw_all := lw_g (lw_at lw_m9 37 rfl) rfl
theorem q2125 : (Jvm.Cond.instanceMethod ({ cls := "MergeJudge", name := "holds", desc := "(II)I" } : Jvm.MethodName)) ∈ lw_all := lw_g (lw_at lw_m9 39 rfl) rfl
theorem q2126 : (Jvm.Cond.selects "MergeJudge" ({ cls := "MergeJudge", name := "holds", desc := "(II)I" } : Jvm.MethodName) ({ cls := "MergeJudge", name := "holds", desc := "(II)I" } : Jvm.MethodName)) ∈ lw_all := lw_g (lw_at lw_m9 40 rfl) rfl
theorem q2127 : (Jvm.Cond.code ({ cls := "MergeJudge", name := "holds", desc := "(II)I" } : Jvm.MethodName) prog_1_method_61_code (3 : Nat) (Option.some Jvm.ClassFile.FieldType.int)) ∈ lw_all := lw_g (lw_at lw_m9 41 rfl) rfl
theorem q2129 : (Jvm.Cond.instanceMethod ({ cls := "MergeJudge", name := "dropped", desc := "()I" } : Jvm.MethodName)) ∈ lw_all := lw_g (lw_at lw_m9 43 rfl) rfl
theorem q2130 : (Jvm.Cond.selects "MergeJudge" ({ cls := "MergeJudge", name := "dropped", desc := "()I" } : Jvm.MethodName) ({ cls := "MergeJudge", name := "dropped", desc := "()I" } : Jvm.MethodName)) ∈ lw_all := lw_g (lw_at lw_m9 44 rfl) rfl
theorem q2131 : (Jvm.Cond.code ({ cls := "MergeJudge", name := "dropped", desc := "()I" } : Jvm.MethodName) prog_1_method_62_code (1 : Nat) (Option.some Jvm.ClassFile.FieldType.int)) ∈ lw_all := lw_g (lw_at lw_m9 45 rfl) rfl
theorem q2133 : (Jvm.Cond.instanceMethod ({ cls := "MergeJudge", name := "locked", desc := "()I" } : Jvm.MethodName)) ∈ lw_all := lw_g (lw_at lw_m9 47 rfl) rfl
theorem q2134 : (Jvm.Cond.selects "MergeJudge" ({ cls := "MergeJudge", name := "locked", desc := "()I" } : Jvm.MethodName) ({ cls := "MergeJudge", name := "locked", desc := "()I" } : Jvm.MethodName)) ∈ lw_all := lw_g (lw_at lw_m9 48 rfl) rfl
theorem q2135 : (Jvm.Cond.code ({ cls := "MergeJudge", name := "locked", desc := "()I" } : Jvm.MethodName) prog_1_method_63_code (1 : Nat) (Option.some Jvm.ClassFile.FieldType.int)) ∈ lw_all := lw_g (lw_at lw_m9 49 rfl) rfl
theorem q2137 : (Jvm.Cond.instanceMethod ({ cls := "MergeJudge", name := "valid", desc := "(I)I" } : Jvm.MethodName)) ∈ lw_all := lw_g (lw_at lw_m9 51 rfl) rfl
theorem q2138 : (Jvm.Cond.selects "MergeJudge" ({ cls := "MergeJudge", name := "valid", desc := "(I)I" } : Jvm.MethodName) ({ cls := "MergeJudge", name := "valid", desc := "(I)I" } : Jvm.MethodName)) ∈ lw_all := lw_g (lw_at lw_m9 52 rfl) rfl
theorem q2139 : (Jvm.Cond.code ({ cls := "MergeJudge", name := "valid", desc := "(I)I" } : Jvm.MethodName) prog_1_method_64_code (2 : Nat) (Option.some Jvm.ClassFile.FieldType.int)) ∈ lw_all := lw_g (lw_at lw_m9 53 rfl) rfl
theorem q2141 : (Jvm.Cond.instanceMethod ({ cls := "MergeJudge", name := "valids", desc := "()I" } : Jvm.MethodName)) ∈ lw_all := lw_g (lw_at lw_m9 55 rfl) rfl
theorem q2142 : (Jvm.Cond.selects "MergeJudge" ({ cls := "MergeJudge", name := "valids", desc := "()I" } : Jvm.MethodName) ({ cls := "MergeJudge", name := "valids", desc := "()I" } : Jvm.MethodName)) ∈ lw_all := lw_g (lw_at lw_m9 56 rfl) rfl
theorem q2143 : (Jvm.Cond.code ({ cls := "MergeJudge", name := "valids", desc := "()I" } : Jvm.MethodName) prog_1_method_66_code (1 : Nat) (Option.some Jvm.ClassFile.FieldType.int)) ∈ lw_all := lw_g (lw_at lw_m9 57 rfl) rfl
theorem q2145 : (Jvm.Cond.instanceMethod ({ cls := "MergeJudge", name := "breaks", desc := "(I)I" } : Jvm.MethodName)) ∈ lw_all := lw_g (lw_at lw_m9 59 rfl) rfl
theorem q2146 : (Jvm.Cond.selects "MergeJudge" ({ cls := "MergeJudge", name := "breaks", desc := "(I)I" } : Jvm.MethodName) ({ cls := "MergeJudge", name := "breaks", desc := "(I)I" } : Jvm.MethodName)) ∈ lw_all := lw_g (lw_at lw_m9 60 rfl) rfl
theorem q2147 : (Jvm.Cond.code ({ cls := "MergeJudge", name := "breaks", desc := "(I)I" } : Jvm.MethodName) prog_1_method_67_code (2 : Nat) (Option.some Jvm.ClassFile.FieldType.int)) ∈ lw_all := lw_g (lw_at lw_m9 61 rfl) rfl
theorem q2149 : (Jvm.Cond.instanceMethod ({ cls := "MergeJudge", name := "does", desc := "(II)I" } : Jvm.MethodName)) ∈ lw_all := lw_g (lw_at lw_m9 63 rfl) rfl
theorem q2150 : (Jvm.Cond.selects "MergeJudge" ({ cls := "MergeJudge", name := "does", desc := "(II)I" } : Jvm.MethodName) ({ cls := "MergeJudge", name := "does", desc := "(II)I" } : Jvm.MethodName)) ∈ lw_all := lw_g (lw_at lw_m9 64 rfl) rfl
theorem q2151 : (Jvm.Cond.code ({ cls := "MergeJudge", name := "does", desc := "(II)I" } : Jvm.MethodName) prog_1_method_68_code (3 : Nat) (Option.some Jvm.ClassFile.FieldType.int)) ∈ lw_all := lw_g (lw_at lw_m9 65 rfl) rfl
theorem q2153 : (Jvm.Cond.instanceMethod ({ cls := "MergeJudge", name := "works", desc := "(I)I" } : Jvm.MethodName)) ∈ lw_all := lw_g (lw_at lw_m9 67 rfl) rfl
theorem q2154 : (Jvm.Cond.selects "MergeJudge" ({ cls := "MergeJudge", name := "works", desc := "(I)I" } : Jvm.MethodName) ({ cls := "MergeJudge", name := "works", desc := "(I)I" } : Jvm.MethodName)) ∈ lw_all := lw_g (lw_at lw_m9 68 rfl) rfl
theorem q2155 : (Jvm.Cond.code ({ cls := "MergeJudge", name := "works", desc := "(I)I" } : Jvm.MethodName) prog_1_method_70_code (2 : Nat) (Option.some Jvm.ClassFile.FieldType.int)) ∈ lw_all := lw_g (lw_at lw_m9 69 rfl) rfl
theorem q2156 : (Jvm.Cond.methodLink "MergeJudge" (382 : Nat) ({ cls := "MergeJudge", name := "worksOf", desc := "(I)I" } : Jvm.MethodName)) ∈ lw_all := lw_g (lw_at lw_m9 70 rfl) rfl
theorem q2157 : (Jvm.Cond.privateMethod ({ cls := "MergeJudge", name := "worksOf", desc := "(I)I" } : Jvm.MethodName)) ∈ lw_tbl := lw_at lw_m9 71 rfl
theorem q2158 : (Jvm.Cond.instanceMethod ({ cls := "MergeJudge", name := "worksOf", desc := "(I)I" } : Jvm.MethodName)) ∈ lw_all := lw_g (lw_at lw_m9 72 rfl) rfl
theorem q2159 : (Jvm.Cond.code ({ cls := "MergeJudge", name := "worksOf", desc := "(I)I" } : Jvm.MethodName) prog_1_method_69_code (4 : Nat) (Option.some Jvm.ClassFile.FieldType.int)) ∈ lw_all := lw_g (lw_at lw_m9 73 rfl) rfl
theorem q2161 : (Jvm.Cond.instanceMethod ({ cls := "MergeJudge", name := "commute", desc := "(II)I" } : Jvm.MethodName)) ∈ lw_all := lw_g (lw_at lw_m9 75 rfl) rfl
theorem q2162 : (Jvm.Cond.selects "MergeJudge" ({ cls := "MergeJudge", name := "commute", desc := "(II)I" } : Jvm.MethodName) ({ cls := "MergeJudge", name := "commute", desc := "(II)I" } : Jvm.MethodName)) ∈ lw_all := lw_g (lw_at lw_m9 76 rfl) rfl
theorem q2163 : (Jvm.Cond.code ({ cls := "MergeJudge", name := "commute", desc := "(II)I" } : Jvm.MethodName) prog_1_method_72_code (3 : Nat) (Option.some Jvm.ClassFile.FieldType.int)) ∈ lw_all := lw_g (lw_at lw_m9 77 rfl) rfl
theorem q2164 : (Jvm.Cond.methodLink "MergeJudge" (385 : Nat) ({ cls := "MergeJudge", name := "isCommuting", desc := "(II)Z" } : Jvm.MethodName)) ∈ lw_all := lw_g (lw_at lw_m9 78 rfl) rfl
theorem q2165 : (Jvm.Cond.privateMethod ({ cls := "MergeJudge", name := "isCommuting", desc := "(II)Z" } : Jvm.MethodName)) ∈ lw_tbl := lw_at lw_m9 79 rfl
theorem q2166 : (Jvm.Cond.instanceMethod ({ cls := "MergeJudge", name := "isCommuting", desc := "(II)Z" } : Jvm.MethodName)) ∈ lw_all := lw_g (lw_at lw_m9 80 rfl) rfl
theorem q2167 : (Jvm.Cond.code ({ cls := "MergeJudge", name := "isCommuting", desc := "(II)Z" } : Jvm.MethodName) prog_1_method_71_code (5 : Nat) (Option.some Jvm.ClassFile.FieldType.boolean)) ∈ lw_all := lw_g (lw_at lw_m9 81 rfl) rfl
theorem q2169 : (Jvm.Cond.instanceMethod ({ cls := "MergeJudge", name := "table", desc := "()I" } : Jvm.MethodName)) ∈ lw_all := lw_g (lw_at lw_m9 83 rfl) rfl
theorem q2170 : (Jvm.Cond.selects "MergeJudge" ({ cls := "MergeJudge", name := "table", desc := "()I" } : Jvm.MethodName) ({ cls := "MergeJudge", name := "table", desc := "()I" } : Jvm.MethodName)) ∈ lw_all := lw_g (lw_at lw_m9 84 rfl) rfl
theorem q2171 : (Jvm.Cond.code ({ cls := "MergeJudge", name := "table", desc := "()I" } : Jvm.MethodName) prog_1_method_73_code (4 : Nat) (Option.some Jvm.ClassFile.FieldType.int)) ∈ lw_all := lw_g (lw_at lw_m9 85 rfl) rfl
theorem q2173 : (Jvm.Cond.instanceMethod ({ cls := "MergeJudge", name := "merge", desc := "(III)I" } : Jvm.MethodName)) ∈ lw_all := lw_g (lw_at lw_m9 87 rfl) rfl
theorem q2174 : (Jvm.Cond.selects "MergeJudge" ({ cls := "MergeJudge", name := "merge", desc := "(III)I" } : Jvm.MethodName) ({ cls := "MergeJudge", name := "merge", desc := "(III)I" } : Jvm.MethodName)) ∈ lw_all := lw_g (lw_at lw_m9 88 rfl) rfl
theorem q2175 : (Jvm.Cond.code ({ cls := "MergeJudge", name := "merge", desc := "(III)I" } : Jvm.MethodName) prog_1_method_74_code (4 : Nat) (Option.some Jvm.ClassFile.FieldType.int)) ∈ lw_all := lw_g (lw_at lw_m9 89 rfl) rfl
theorem q2177 : (Jvm.Cond.instanceMethod ({ cls := "MergeJudge", name := "even", desc := "(III)I" } : Jvm.MethodName)) ∈ lw_all := lw_g (lw_at lw_m9 91 rfl) rfl
theorem q2178 : (Jvm.Cond.selects "MergeJudge" ({ cls := "MergeJudge", name := "even", desc := "(III)I" } : Jvm.MethodName) ({ cls := "MergeJudge", name := "even", desc := "(III)I" } : Jvm.MethodName)) ∈ lw_all := lw_g (lw_at lw_m9 92 rfl) rfl
theorem q2179 : (Jvm.Cond.code ({ cls := "MergeJudge", name := "even", desc := "(III)I" } : Jvm.MethodName) prog_1_method_75_code (4 : Nat) (Option.some Jvm.ClassFile.FieldType.int)) ∈ lw_all := lw_g (lw_at lw_m9 93 rfl) rfl
theorem q2181 : (Jvm.Cond.instanceMethod ({ cls := "MergeJudge", name := "reach", desc := "(II)I" } : Jvm.MethodName)) ∈ lw_all := lw_g (lw_at lw_m9 95 rfl) rfl
theorem q2182 : (Jvm.Cond.selects "MergeJudge" ({ cls := "MergeJudge", name := "reach", desc := "(II)I" } : Jvm.MethodName) ({ cls := "MergeJudge", name := "reach", desc := "(II)I" } : Jvm.MethodName)) ∈ lw_all := lw_g (lw_at lw_m9 96 rfl) rfl
theorem q2183 : (Jvm.Cond.code ({ cls := "MergeJudge", name := "reach", desc := "(II)I" } : Jvm.MethodName) prog_1_method_76_code (3 : Nat) (Option.some Jvm.ClassFile.FieldType.int)) ∈ lw_all := lw_g (lw_at lw_m9 97 rfl) rfl
theorem q2185 : (Jvm.Cond.instanceMethod ({ cls := "MergeJudge", name := "far", desc := "(II)I" } : Jvm.MethodName)) ∈ lw_all := lw_g (lw_at lw_m9 99 rfl) rfl
theorem q2186 : (Jvm.Cond.selects "MergeJudge" ({ cls := "MergeJudge", name := "far", desc := "(II)I" } : Jvm.MethodName) ({ cls := "MergeJudge", name := "far", desc := "(II)I" } : Jvm.MethodName)) ∈ lw_all := lw_g (lw_at lw_m9 100 rfl) rfl
theorem q2187 : (Jvm.Cond.code ({ cls := "MergeJudge", name := "far", desc := "(II)I" } : Jvm.MethodName) prog_1_method_77_code (3 : Nat) (Option.some Jvm.ClassFile.FieldType.int)) ∈ lw_all := lw_g (lw_at lw_m9 101 rfl) rfl
theorem q2189 : (Jvm.Cond.instanceMethod ({ cls := "MergeJudge", name := "step", desc := "(II)I" } : Jvm.MethodName)) ∈ lw_all := lw_g (lw_at lw_m9 103 rfl) rfl
theorem q2190 : (Jvm.Cond.selects "MergeJudge" ({ cls := "MergeJudge", name := "step", desc := "(II)I" } : Jvm.MethodName) ({ cls := "MergeJudge", name := "step", desc := "(II)I" } : Jvm.MethodName)) ∈ lw_all := lw_g (lw_at lw_m9 104 rfl) rfl
theorem q2191 : (Jvm.Cond.code ({ cls := "MergeJudge", name := "step", desc := "(II)I" } : Jvm.MethodName) prog_1_method_78_code (3 : Nat) (Option.some Jvm.ClassFile.FieldType.int)) ∈ lw_all := lw_g (lw_at lw_m9 105 rfl) rfl
theorem q2193 : (Jvm.Cond.instanceMethod ({ cls := "MergeJudge", name := "freely", desc := "(II)I" } : Jvm.MethodName)) ∈ lw_all := lw_g (lw_at lw_m9 107 rfl) rfl
theorem q2194 : (Jvm.Cond.selects "MergeJudge" ({ cls := "MergeJudge", name := "freely", desc := "(II)I" } : Jvm.MethodName) ({ cls := "MergeJudge", name := "freely", desc := "(II)I" } : Jvm.MethodName)) ∈ lw_all := lw_g (lw_at lw_m9 108 rfl) rfl
theorem q2195 : (Jvm.Cond.code ({ cls := "MergeJudge", name := "freely", desc := "(II)I" } : Jvm.MethodName) prog_1_method_79_code (3 : Nat) (Option.some Jvm.ClassFile.FieldType.int)) ∈ lw_all := lw_g (lw_at lw_m9 109 rfl) rfl
theorem q2198 : (Jvm.Cond.instanceMethod ({ cls := "MergeJudge", name := "all", desc := "(I)I" } : Jvm.MethodName)) ∈ lw_all := lw_g (lw_at lw_m9 112 rfl) rfl
theorem q2199 : (Jvm.Cond.selects "MergeJudge" ({ cls := "MergeJudge", name := "all", desc := "(I)I" } : Jvm.MethodName) ({ cls := "MergeJudge", name := "all", desc := "(I)I" } : Jvm.MethodName)) ∈ lw_all := lw_g (lw_at lw_m9 113 rfl) rfl
theorem q2200 : (Jvm.Cond.code ({ cls := "MergeJudge", name := "all", desc := "(I)I" } : Jvm.MethodName) prog_1_method_81_code (2 : Nat) (Option.some Jvm.ClassFile.FieldType.int)) ∈ lw_all := lw_g (lw_at lw_m9 114 rfl) rfl
theorem q2201 : (Jvm.Cond.methodLink "MergeJudge" (392 : Nat) ({ cls := "MergeJudge", name := "allIn", desc := "(I)I" } : Jvm.MethodName)) ∈ lw_all := lw_g (lw_at lw_m9 115 rfl) rfl
theorem q2202 : (Jvm.Cond.privateMethod ({ cls := "MergeJudge", name := "allIn", desc := "(I)I" } : Jvm.MethodName)) ∈ lw_tbl := lw_at lw_m9 116 rfl
theorem q2203 : (Jvm.Cond.instanceMethod ({ cls := "MergeJudge", name := "allIn", desc := "(I)I" } : Jvm.MethodName)) ∈ lw_all := lw_g (lw_at lw_m9 117 rfl) rfl
theorem q2204 : (Jvm.Cond.code ({ cls := "MergeJudge", name := "allIn", desc := "(I)I" } : Jvm.MethodName) prog_1_method_52_code (2 : Nat) (Option.some Jvm.ClassFile.FieldType.int)) ∈ lw_all := lw_g (lw_at lw_m9 118 rfl) rfl
theorem q2205 : (Jvm.Cond.privateMethod ({ cls := "MergeJudge", name := "lambda$allIn$13", desc := "(IIII)V" } : Jvm.MethodName)) ∈ lw_tbl := lw_at lw_m9 119 rfl
theorem q2206 : (Jvm.Cond.instanceMethod ({ cls := "MergeJudge", name := "lambda$allIn$13", desc := "(IIII)V" } : Jvm.MethodName)) ∈ lw_all := lw_g (lw_at lw_m9 120 rfl) rfl
theorem q2207 : (Jvm.Cond.code ({ cls := "MergeJudge", name := "lambda$allIn$13", desc := "(IIII)V" } : Jvm.MethodName) prog_1_method_152_code (5 : Nat) (Option.none : Option Jvm.ClassFile.FieldType)) ∈ lw_all := lw_g (lw_at lw_m9 121 rfl) rfl
theorem q2208 : (Jvm.Cond.methodLink "MergeJudge" (371 : Nat) ({ cls := "MergeJudge", name := "through", desc := "(ILMergeJudge$Break;)I" } : Jvm.MethodName)) ∈ lw_all := lw_g (lw_at lw_m9 122 rfl) rfl
theorem q2209 : (Jvm.Cond.privateMethod ({ cls := "MergeJudge", name := "through", desc := "(ILMergeJudge$Break;)I" } : Jvm.MethodName)) ∈ lw_tbl := lw_at lw_m9 123 rfl
theorem q2210 : (Jvm.Cond.instanceMethod ({ cls := "MergeJudge", name := "through", desc := "(ILMergeJudge$Break;)I" } : Jvm.MethodName)) ∈ lw_all := lw_g (lw_at lw_m9 124 rfl) rfl
theorem q2211 : (Jvm.Cond.code ({ cls := "MergeJudge", name := "through", desc := "(ILMergeJudge$Break;)I" } : Jvm.MethodName) prog_1_method_51_code (5 : Nat) (Option.some Jvm.ClassFile.FieldType.int)) ∈ lw_all := lw_g (lw_at lw_m9 125 rfl) rfl
theorem q2213 : (Jvm.Cond.instanceMethod ({ cls := "MergeJudge", name := "pairs", desc := "(I)I" } : Jvm.MethodName)) ∈ lw_all := lw_g (lw_at lw_m9 127 rfl) rfl
theorem q2214 : (Jvm.Cond.selects "MergeJudge" ({ cls := "MergeJudge", name := "pairs", desc := "(I)I" } : Jvm.MethodName) ({ cls := "MergeJudge", name := "pairs", desc := "(I)I" } : Jvm.MethodName)) ∈ lw_all := lw_g (lw_at lw_m9 128 rfl) rfl
theorem q2215 : (Jvm.Cond.code ({ cls := "MergeJudge", name := "pairs", desc := "(I)I" } : Jvm.MethodName) prog_1_method_82_code (3 : Nat) (Option.some Jvm.ClassFile.FieldType.int)) ∈ lw_all := lw_g (lw_at lw_m9 129 rfl) rfl
theorem q2216 : (Jvm.Cond.classLink "MergeJudge" (395 : Nat) "java/util/HashSet") ∈ lw_all := lw_g (lw_at lw_m9 130 rfl) rfl
theorem q2218 : (Jvm.Cond.methodLink "MergeJudge" (397 : Nat) ({ cls := "java/util/HashSet", name := "<init>", desc := "()V" } : Jvm.MethodName)) ∈ lw_all := lw_g (lw_at lw_m9 132 rfl) rfl
theorem q2231 : (Jvm.Cond.static ({ cls := "MergeJudge", name := "lambda$pairs$16", desc := "(Ljava/util/HashSet;IIII)V" } : Jvm.MethodName)) ∈ lw_all := lw_g (lw_at lw_m9 145 rfl) rfl
theorem q2232 : (Jvm.Cond.code ({ cls := "MergeJudge", name := "lambda$pairs$16", desc := "(Ljava/util/HashSet;IIII)V" } : Jvm.MethodName) prog_1_method_149_code (5 : Nat) (Option.none : Option Jvm.ClassFile.FieldType)) ∈ lw_all := lw_g (lw_at lw_m9 146 rfl) rfl
theorem q2233 : (Jvm.Cond.classLink "MergeJudge" (594 : Nat) "MergeJudge$Pair") ∈ lw_all := lw_g (lw_at lw_m9 147 rfl) rfl
theorem q2235 : (Jvm.Cond.methodLink "MergeJudge" (596 : Nat) ({ cls := "MergeJudge$Pair", name := "<init>", desc := "(II)V" } : Jvm.MethodName)) ∈ lw_all := lw_g (lw_at lw_m9 149 rfl) rfl
theorem q2248 : (Jvm.Cond.methodLink "MergeJudge" (598 : Nat) ({ cls := "java/util/HashSet", name := "add", desc := "(Ljava/lang/Object;)Z" } : Jvm.MethodName)) ∈ lw_all := lw_g (lw_at lw_m9 162 rfl) rfl
theorem q2255 : (Jvm.Cond.methodLink "MergeJudge" (401 : Nat) ({ cls := "java/util/HashSet", name := "size", desc := "()I" } : Jvm.MethodName)) ∈ lw_all := lw_g (lw_at lw_m9 169 rfl) rfl
theorem q2264 : (Jvm.Cond.instanceMethod ({ cls := "MergeJudge", name := "safe", desc := "(I)I" } : Jvm.MethodName)) ∈ lw_all := lw_g (lw_at lw_m9 178 rfl) rfl
theorem q2265 : (Jvm.Cond.selects "MergeJudge" ({ cls := "MergeJudge", name := "safe", desc := "(I)I" } : Jvm.MethodName) ({ cls := "MergeJudge", name := "safe", desc := "(I)I" } : Jvm.MethodName)) ∈ lw_all := lw_g (lw_at lw_m9 179 rfl) rfl
theorem q2266 : (Jvm.Cond.code ({ cls := "MergeJudge", name := "safe", desc := "(I)I" } : Jvm.MethodName) prog_1_method_83_code (2 : Nat) (Option.some Jvm.ClassFile.FieldType.int)) ∈ lw_all := lw_g (lw_at lw_m9 180 rfl) rfl
theorem q2267 : (Jvm.Cond.methodLink "MergeJudge" (402 : Nat) ({ cls := "MergeJudge", name := "isSafe", desc := "(I)Z" } : Jvm.MethodName)) ∈ lw_all := lw_g (lw_at lw_m9 181 rfl) rfl
theorem q2268 : (Jvm.Cond.privateMethod ({ cls := "MergeJudge", name := "isSafe", desc := "(I)Z" } : Jvm.MethodName)) ∈ lw_tbl := lw_at lw_m9 182 rfl
theorem q2269 : (Jvm.Cond.instanceMethod ({ cls := "MergeJudge", name := "isSafe", desc := "(I)Z" } : Jvm.MethodName)) ∈ lw_all := lw_g (lw_at lw_m9 183 rfl) rfl
theorem q2270 : (Jvm.Cond.code ({ cls := "MergeJudge", name := "isSafe", desc := "(I)Z" } : Jvm.MethodName) prog_1_method_54_code (3 : Nat) (Option.some Jvm.ClassFile.FieldType.boolean)) ∈ lw_all := lw_g (lw_at lw_m9 184 rfl) rfl
theorem q2271 : (Jvm.Cond.privateMethod ({ cls := "MergeJudge", name := "lambda$isSafe$14", desc := "(IIII)V" } : Jvm.MethodName)) ∈ lw_tbl := lw_at lw_m9 185 rfl
theorem q2272 : (Jvm.Cond.instanceMethod ({ cls := "MergeJudge", name := "lambda$isSafe$14", desc := "(IIII)V" } : Jvm.MethodName)) ∈ lw_all := lw_g (lw_at lw_m9 186 rfl) rfl
theorem q2273 : (Jvm.Cond.code ({ cls := "MergeJudge", name := "lambda$isSafe$14", desc := "(IIII)V" } : Jvm.MethodName) prog_1_method_151_code (5 : Nat) (Option.none : Option Jvm.ClassFile.FieldType)) ∈ lw_all := lw_g (lw_at lw_m9 187 rfl) rfl
theorem q2275 : (Jvm.Cond.instanceMethod ({ cls := "MergeJudge", name := "bound", desc := "()I" } : Jvm.MethodName)) ∈ lw_all := lw_g (lw_at lw_m9 189 rfl) rfl
theorem q2276 : (Jvm.Cond.selects "MergeJudge" ({ cls := "MergeJudge", name := "bound", desc := "()I" } : Jvm.MethodName) ({ cls := "MergeJudge", name := "bound", desc := "()I" } : Jvm.MethodName)) ∈ lw_all := lw_g (lw_at lw_m9 190 rfl) rfl
theorem q2277 : (Jvm.Cond.code ({ cls := "MergeJudge", name := "bound", desc := "()I" } : Jvm.MethodName) prog_1_method_84_code (2 : Nat) (Option.some Jvm.ClassFile.FieldType.int)) ∈ lw_all := lw_g (lw_at lw_m9 191 rfl) rfl
theorem q2279 : (Jvm.Cond.instanceMethod ({ cls := "MergeJudge", name := "least", desc := "(II)I" } : Jvm.MethodName)) ∈ lw_all := lw_g (lw_at lw_m9 193 rfl) rfl
theorem q2280 : (Jvm.Cond.selects "MergeJudge" ({ cls := "MergeJudge", name := "least", desc := "(II)I" } : Jvm.MethodName) ({ cls := "MergeJudge", name := "least", desc := "(II)I" } : Jvm.MethodName)) ∈ lw_all := lw_g (lw_at lw_m9 194 rfl) rfl
theorem q2281 : (Jvm.Cond.code ({ cls := "MergeJudge", name := "least", desc := "(II)I" } : Jvm.MethodName) prog_1_method_85_code (3 : Nat) (Option.some Jvm.ClassFile.FieldType.int)) ∈ lw_all := lw_g (lw_at lw_m9 195 rfl) rfl
theorem q2282 : (Jvm.Cond.methodLink "MergeJudge" (405 : Nat) ({ cls := "MergeJudge$Least", name := "of", desc := "(I)LMergeJudge$Least;" } : Jvm.MethodName)) ∈ lw_all := lw_g (lw_at lw_m9 196 rfl) rfl
theorem q2291 : (Jvm.Cond.methodLink "MergeJudge" (408 : Nat) ({ cls := "MergeJudge$Least", name := "what", desc := "(I)I" } : Jvm.MethodName)) ∈ lw_all := lw_g (lw_at lw_m9 205 rfl) rfl
theorem q2296 : (Jvm.Cond.instanceMethod ({ cls := "MergeJudge", name := "culprit", desc := "(I)I" } : Jvm.MethodName)) ∈ lw_all := lw_g (lw_at lw_m9 210 rfl) rfl
theorem q2297 : (Jvm.Cond.selects "MergeJudge" ({ cls := "MergeJudge", name := "culprit", desc := "(I)I" } : Jvm.MethodName) ({ cls := "MergeJudge", name := "culprit", desc := "(I)I" } : Jvm.MethodName)) ∈ lw_all := lw_g (lw_at lw_m9 211 rfl) rfl
theorem q2298 : (Jvm.Cond.code ({ cls := "MergeJudge", name := "culprit", desc := "(I)I" } : Jvm.MethodName) prog_1_method_86_code (2 : Nat) (Option.some Jvm.ClassFile.FieldType.int)) ∈ lw_all := lw_g (lw_at lw_m9 212 rfl) rfl
theorem q2300 : (Jvm.Cond.instanceMethod ({ cls := "MergeJudge", name := "hits", desc := "(II)I" } : Jvm.MethodName)) ∈ lw_all := lw_g (lw_at lw_m9 214 rfl) rfl
theorem q2301 : (Jvm.Cond.selects "MergeJudge" ({ cls := "MergeJudge", name := "hits", desc := "(II)I" } : Jvm.MethodName) ({ cls := "MergeJudge", name := "hits", desc := "(II)I" } : Jvm.MethodName)) ∈ lw_all := lw_g (lw_at lw_m9 215 rfl) rfl
theorem q2302 : (Jvm.Cond.code ({ cls := "MergeJudge", name := "hits", desc := "(II)I" } : Jvm.MethodName) prog_1_method_89_code (3 : Nat) (Option.some Jvm.ClassFile.FieldType.int)) ∈ lw_all := lw_g (lw_at lw_m9 216 rfl) rfl
theorem q2303 : (Jvm.Cond.methodLink "MergeJudge" (421 : Nat) ({ cls := "MergeJudge", name := "laysHits", desc := "(I)V" } : Jvm.MethodName)) ∈ lw_all := lw_g (lw_at lw_m9 217 rfl) rfl
theorem q2304 : (Jvm.Cond.privateMethod ({ cls := "MergeJudge", name := "laysHits", desc := "(I)V" } : Jvm.MethodName)) ∈ lw_tbl := lw_at lw_m9 218 rfl
theorem q2305 : (Jvm.Cond.instanceMethod ({ cls := "MergeJudge", name := "laysHits", desc := "(I)V" } : Jvm.MethodName)) ∈ lw_all := lw_g (lw_at lw_m9 219 rfl) rfl
theorem q2306 : (Jvm.Cond.code ({ cls := "MergeJudge", name := "laysHits", desc := "(I)V" } : Jvm.MethodName) prog_1_method_88_code (2 : Nat) (Option.none : Option Jvm.ClassFile.FieldType)) ∈ lw_all := lw_g (lw_at lw_m9 220 rfl) rfl
theorem q2307 : (Jvm.Cond.methodLink "MergeJudge" (414 : Nat) ({ cls := "java/util/Arrays", name := "fill", desc := "([II)V" } : Jvm.MethodName)) ∈ lw_all := lw_g (lw_at lw_m9 221 rfl) rfl
theorem q2308 : (Jvm.Cond.privateMethod ({ cls := "MergeJudge", name := "tallies", desc := "(IIII)V" } : Jvm.MethodName)) ∈ lw_tbl := lw_at lw_m9 222 rfl
theorem q2309 : (Jvm.Cond.instanceMethod ({ cls := "MergeJudge", name := "tallies", desc := "(IIII)V" } : Jvm.MethodName)) ∈ lw_all := lw_g (lw_at lw_m9 223 rfl) rfl
theorem q2310 : (Jvm.Cond.code ({ cls := "MergeJudge", name := "tallies", desc := "(IIII)V" } : Jvm.MethodName) prog_1_method_87_code (6 : Nat) (Option.none : Option Jvm.ClassFile.FieldType)) ∈ lw_all := lw_g (lw_at lw_m9 224 rfl) rfl
theorem q2312 : (Jvm.Cond.instanceMethod ({ cls := "MergeJudge", name := "worst", desc := "(I)I" } : Jvm.MethodName)) ∈ lw_all := lw_g (lw_at lw_m9 226 rfl) rfl
theorem q2313 : (Jvm.Cond.selects "MergeJudge" ({ cls := "MergeJudge", name := "worst", desc := "(I)I" } : Jvm.MethodName) ({ cls := "MergeJudge", name := "worst", desc := "(I)I" } : Jvm.MethodName)) ∈ lw_all := lw_g (lw_at lw_m9 227 rfl) rfl
theorem q2314 : (Jvm.Cond.code ({ cls := "MergeJudge", name := "worst", desc := "(I)I" } : Jvm.MethodName) prog_1_method_90_code (4 : Nat) (Option.some Jvm.ClassFile.FieldType.int)) ∈ lw_all := lw_g (lw_at lw_m9 228 rfl) rfl
theorem q2316 : (Jvm.Cond.instanceMethod ({ cls := "MergeJudge", name := "known", desc := "(I)I" } : Jvm.MethodName)) ∈ lw_all := lw_g (lw_at lw_m9 230 rfl) rfl
theorem q2317 : (Jvm.Cond.selects "MergeJudge" ({ cls := "MergeJudge", name := "known", desc := "(I)I" } : Jvm.MethodName) ({ cls := "MergeJudge", name := "known", desc := "(I)I" } : Jvm.MethodName)) ∈ lw_all := lw_g (lw_at lw_m9 231 rfl) rfl
theorem q2318 : (Jvm.Cond.code ({ cls := "MergeJudge", name := "known", desc := "(I)I" } : Jvm.MethodName) prog_1_method_92_code (2 : Nat) (Option.some Jvm.ClassFile.FieldType.int)) ∈ lw_all := lw_g (lw_at lw_m9 232 rfl) rfl
theorem q2319 : (Jvm.Cond.methodLink "MergeJudge" (424 : Nat) ({ cls := "MergeJudge", name := "isKnown", desc := "(LMergeJudge$Told;)Z" } : Jvm.MethodName)) ∈ lw_all := lw_g (lw_at lw_m9 233 rfl) rfl
theorem q2320 : (Jvm.Cond.privateMethod ({ cls := "MergeJudge", name := "isKnown", desc := "(LMergeJudge$Told;)Z" } : Jvm.MethodName)) ∈ lw_tbl := lw_at lw_m9 234 rfl
theorem q2321 : (Jvm.Cond.instanceMethod ({ cls := "MergeJudge", name := "isKnown", desc := "(LMergeJudge$Told;)Z" } : Jvm.MethodName)) ∈ lw_all := lw_g (lw_at lw_m9 235 rfl) rfl
theorem q2322 : (Jvm.Cond.code ({ cls := "MergeJudge", name := "isKnown", desc := "(LMergeJudge$Told;)Z" } : Jvm.MethodName) prog_1_method_91_code (2 : Nat) (Option.some Jvm.ClassFile.FieldType.boolean)) ∈ lw_all := lw_g (lw_at lw_m9 236 rfl) rfl
theorem q2324 : (Jvm.Cond.instanceMethod ({ cls := "MergeJudge", name := "alone", desc := "(II)I" } : Jvm.MethodName)) ∈ lw_all := lw_g (lw_at lw_m9 238 rfl) rfl
theorem q2325 : (Jvm.Cond.selects "MergeJudge" ({ cls := "MergeJudge", name := "alone", desc := "(II)I" } : Jvm.MethodName) ({ cls := "MergeJudge", name := "alone", desc := "(II)I" } : Jvm.MethodName)) ∈ lw_all := lw_g (lw_at lw_m9 239 rfl) rfl
theorem q2326 : (Jvm.Cond.code ({ cls := "MergeJudge", name := "alone", desc := "(II)I" } : Jvm.MethodName) prog_1_method_96_code (3 : Nat) (Option.some Jvm.ClassFile.FieldType.int)) ∈ lw_all := lw_g (lw_at lw_m10 0 rfl) rfl
theorem q2327 : (Jvm.Cond.methodLink "MergeJudge" (432 : Nat) ({ cls := "MergeJudge", name := "aloneIn", desc := "(II)I" } : Jvm.MethodName)) ∈ lw_all := lw_g (lw_at lw_m10 1 rfl) rfl
theorem q2328 : (Jvm.Cond.privateMethod ({ cls := "MergeJudge", name := "aloneIn", desc := "(II)I" } : Jvm.MethodName)) ∈ lw_tbl := lw_at lw_m10 2 rfl
theorem q2329 : (Jvm.Cond.instanceMethod ({ cls := "MergeJudge", name := "aloneIn", desc := "(II)I" } : Jvm.MethodName)) ∈ lw_all := lw_g (lw_at lw_m10 3 rfl) rfl
theorem q2330 : (Jvm.Cond.code ({ cls := "MergeJudge", name := "aloneIn", desc := "(II)I" } : Jvm.MethodName) prog_1_method_95_code (4 : Nat) (Option.some Jvm.ClassFile.FieldType.int)) ∈ lw_all := lw_g (lw_at lw_m10 4 rfl) rfl
theorem q2332 : (Jvm.Cond.instanceMethod ({ cls := "MergeJudge", name := "fine", desc := "(I)I" } : Jvm.MethodName)) ∈ lw_all := lw_g (lw_at lw_m10 6 rfl) rfl
theorem q2333 : (Jvm.Cond.selects "MergeJudge" ({ cls := "MergeJudge", name := "fine", desc := "(I)I" } : Jvm.MethodName) ({ cls := "MergeJudge", name := "fine", desc := "(I)I" } : Jvm.MethodName)) ∈ lw_all := lw_g (lw_at lw_m10 7 rfl) rfl
theorem q2334 : (Jvm.Cond.code ({ cls := "MergeJudge", name := "fine", desc := "(I)I" } : Jvm.MethodName) prog_1_method_97_code (4 : Nat) (Option.some Jvm.ClassFile.FieldType.int)) ∈ lw_all := lw_g (lw_at lw_m10 8 rfl) rfl
theorem q2336 : (Jvm.Cond.instanceMethod ({ cls := "MergeJudge", name := "fewest", desc := "(I)I" } : Jvm.MethodName)) ∈ lw_all := lw_g (lw_at lw_m10 10 rfl) rfl
theorem q2337 : (Jvm.Cond.selects "MergeJudge" ({ cls := "MergeJudge", name := "fewest", desc := "(I)I" } : Jvm.MethodName) ({ cls := "MergeJudge", name := "fewest", desc := "(I)I" } : Jvm.MethodName)) ∈ lw_all := lw_g (lw_at lw_m10 11 rfl) rfl
theorem q2338 : (Jvm.Cond.code ({ cls := "MergeJudge", name := "fewest", desc := "(I)I" } : Jvm.MethodName) prog_1_method_98_code (3 : Nat) (Option.some Jvm.ClassFile.FieldType.int)) ∈ lw_all := lw_g (lw_at lw_m10 12 rfl) rfl
theorem q2339 : (Jvm.Cond.methodLink "MergeJudge" (435 : Nat) ({ cls := "MergeJudge$Locks", name := "of", desc := "(I)LMergeJudge$Locks;" } : Jvm.MethodName)) ∈ lw_all := lw_g (lw_at lw_m10 13 rfl) rfl
theorem q2347 : (Jvm.Cond.static ({ cls := "MergeJudge", name := "size", desc := "(I)I" } : Jvm.MethodName)) ∈ lw_all := lw_g (lw_at lw_m10 21 rfl) rfl
theorem q2348 : (Jvm.Cond.code ({ cls := "MergeJudge", name := "size", desc := "(I)I" } : Jvm.MethodName) prog_1_method_3_code (1 : Nat) (Option.some Jvm.ClassFile.FieldType.int)) ∈ lw_all := lw_g (lw_at lw_m10 22 rfl) rfl
theorem q2349 : (Jvm.Cond.methodLink "MergeJudge" (1 : Nat) ({ cls := "java/lang/Integer", name := "bitCount", desc := "(I)I" } : Jvm.MethodName)) ∈ lw_all := lw_g (lw_at lw_m10 23 rfl) rfl
theorem q2355 : (Jvm.Cond.methodLink "MergeJudge" (441 : Nat) ({ cls := "MergeJudge", name := "size", desc := "(I)I" } : Jvm.MethodName)) ∈ lw_all := lw_g (lw_at lw_m10 29 rfl) rfl
theorem q2357 : (Jvm.Cond.instanceMethod ({ cls := "MergeJudge", name := "locks", desc := "(I)I" } : Jvm.MethodName)) ∈ lw_all := lw_g (lw_at lw_m10 31 rfl) rfl
theorem q2358 : (Jvm.Cond.selects "MergeJudge" ({ cls := "MergeJudge", name := "locks", desc := "(I)I" } : Jvm.MethodName) ({ cls := "MergeJudge", name := "locks", desc := "(I)I" } : Jvm.MethodName)) ∈ lw_all := lw_g (lw_at lw_m10 32 rfl) rfl
theorem q2359 : (Jvm.Cond.code ({ cls := "MergeJudge", name := "locks", desc := "(I)I" } : Jvm.MethodName) prog_1_method_99_code (2 : Nat) (Option.some Jvm.ClassFile.FieldType.int)) ∈ lw_all := lw_g (lw_at lw_m10 33 rfl) rfl
theorem q2361 : (Jvm.Cond.instanceMethod ({ cls := "MergeJudge", name := "needed", desc := "(I)I" } : Jvm.MethodName)) ∈ lw_all := lw_g (lw_at lw_m10 35 rfl) rfl
theorem q2362 : (Jvm.Cond.selects "MergeJudge" ({ cls := "MergeJudge", name := "needed", desc := "(I)I" } : Jvm.MethodName) ({ cls := "MergeJudge", name := "needed", desc := "(I)I" } : Jvm.MethodName)) ∈ lw_all := lw_g (lw_at lw_m10 36 rfl) rfl
theorem q2363 : (Jvm.Cond.code ({ cls := "MergeJudge", name := "needed", desc := "(I)I" } : Jvm.MethodName) prog_1_method_100_code (2 : Nat) (Option.some Jvm.ClassFile.FieldType.int)) ∈ lw_all := lw_g (lw_at lw_m10 37 rfl) rfl
theorem q2365 : (Jvm.Cond.instanceMethod ({ cls := "MergeJudge", name := "blame", desc := "()I" } : Jvm.MethodName)) ∈ lw_all := lw_g (lw_at lw_m10 39 rfl) rfl
theorem q2366 : (Jvm.Cond.selects "MergeJudge" ({ cls := "MergeJudge", name := "blame", desc := "()I" } : Jvm.MethodName) ({ cls := "MergeJudge", name := "blame", desc := "()I" } : Jvm.MethodName)) ∈ lw_all := lw_g (lw_at lw_m10 40 rfl) rfl
theorem q2367 : (Jvm.Cond.code ({ cls := "MergeJudge", name := "blame", desc := "()I" } : Jvm.MethodName) prog_1_method_101_code (5 : Nat) (Option.some Jvm.ClassFile.FieldType.int)) ∈ lw_all := lw_g (lw_at lw_m10 41 rfl) rfl
theorem q2368 : (Jvm.Cond.privateMethod ({ cls := "MergeJudge", name := "lambda$blame$17", desc := "()I" } : Jvm.MethodName)) ∈ lw_tbl := lw_at lw_m10 42 rfl
theorem q2369 : (Jvm.Cond.instanceMethod ({ cls := "MergeJudge", name := "lambda$blame$17", desc := "()I" } : Jvm.MethodName)) ∈ lw_all := lw_g (lw_at lw_m10 43 rfl) rfl
theorem q2370 : (Jvm.Cond.code ({ cls := "MergeJudge", name := "lambda$blame$17", desc := "()I" } : Jvm.MethodName) prog_1_method_148_code (1 : Nat) (Option.some Jvm.ClassFile.FieldType.int)) ∈ lw_all := lw_g (lw_at lw_m10 44 rfl) rfl
theorem q2372 : (Jvm.Cond.instanceMethod ({ cls := "MergeJudge", name := "cure", desc := "()I" } : Jvm.MethodName)) ∈ lw_all := lw_g (lw_at lw_m10 46 rfl) rfl
theorem q2373 : (Jvm.Cond.selects "MergeJudge" ({ cls := "MergeJudge", name := "cure", desc := "()I" } : Jvm.MethodName) ({ cls := "MergeJudge", name := "cure", desc := "()I" } : Jvm.MethodName)) ∈ lw_all := lw_g (lw_at lw_m10 47 rfl) rfl
theorem q2374 : (Jvm.Cond.code ({ cls := "MergeJudge", name := "cure", desc := "()I" } : Jvm.MethodName) prog_1_method_102_code (7 : Nat) (Option.some Jvm.ClassFile.FieldType.int)) ∈ lw_all := lw_g (lw_at lw_m10 48 rfl) rfl
theorem q2376 : (Jvm.Cond.instanceMethod ({ cls := "MergeJudge", name := "fits", desc := "(I)I" } : Jvm.MethodName)) ∈ lw_all := lw_g (lw_at lw_m10 50 rfl) rfl
theorem q2377 : (Jvm.Cond.selects "MergeJudge" ({ cls := "MergeJudge", name := "fits", desc := "(I)I" } : Jvm.MethodName) ({ cls := "MergeJudge", name := "fits", desc := "(I)I" } : Jvm.MethodName)) ∈ lw_all := lw_g (lw_at lw_m10 51 rfl) rfl
theorem q2378 : (Jvm.Cond.code ({ cls := "MergeJudge", name := "fits", desc := "(I)I" } : Jvm.MethodName) prog_1_method_106_code (3 : Nat) (Option.some Jvm.ClassFile.FieldType.int)) ∈ lw_all := lw_g (lw_at lw_m10 52 rfl) rfl
theorem q2379 : (Jvm.Cond.methodLink "MergeJudge" (460 : Nat) ({ cls := "MergeJudge", name := "whyNot", desc := "(I)I" } : Jvm.MethodName)) ∈ lw_all := lw_g (lw_at lw_m10 53 rfl) rfl
theorem q2380 : (Jvm.Cond.privateMethod ({ cls := "MergeJudge", name := "whyNot", desc := "(I)I" } : Jvm.MethodName)) ∈ lw_tbl := lw_at lw_m10 54 rfl
theorem q2381 : (Jvm.Cond.instanceMethod ({ cls := "MergeJudge", name := "whyNot", desc := "(I)I" } : Jvm.MethodName)) ∈ lw_all := lw_g (lw_at lw_m10 55 rfl) rfl
theorem q2382 : (Jvm.Cond.code ({ cls := "MergeJudge", name := "whyNot", desc := "(I)I" } : Jvm.MethodName) prog_1_method_103_code (4 : Nat) (Option.some Jvm.ClassFile.FieldType.int)) ∈ lw_all := lw_g (lw_at lw_m10 56 rfl) rfl
theorem q2383 : (Jvm.Cond.methodLink "MergeJudge" (451 : Nat) ({ cls := "MergeJudge$Slot", name := "many", desc := "()I" } : Jvm.MethodName)) ∈ lw_all := lw_g (lw_at lw_m10 57 rfl) rfl
theorem q2387 : (Jvm.Cond.methodLink "MergeJudge" (453 : Nat) ({ cls := "MergeJudge$Slot", name := "number", desc := "(I)J" } : Jvm.MethodName)) ∈ lw_all := lw_g (lw_at lw_m10 61 rfl) rfl
theorem q2391 : (Jvm.Cond.methodLink "MergeJudge" (463 : Nat) ({ cls := "MergeJudge", name := "basesOf", desc := "(LMergeJudge$Slot;)I" } : Jvm.MethodName)) ∈ lw_all := lw_g (lw_at lw_m10 65 rfl) rfl
theorem q2392 : (Jvm.Cond.privateMethod ({ cls := "MergeJudge", name := "basesOf", desc := "(LMergeJudge$Slot;)I" } : Jvm.MethodName)) ∈ lw_tbl := lw_at lw_m10 66 rfl
theorem q2393 : (Jvm.Cond.instanceMethod ({ cls := "MergeJudge", name := "basesOf", desc := "(LMergeJudge$Slot;)I" } : Jvm.MethodName)) ∈ lw_all := lw_g (lw_at lw_m10 67 rfl) rfl
theorem q2394 : (Jvm.Cond.code ({ cls := "MergeJudge", name := "basesOf", desc := "(LMergeJudge$Slot;)I" } : Jvm.MethodName) prog_1_method_105_code (4 : Nat) (Option.some Jvm.ClassFile.FieldType.int)) ∈ lw_all := lw_g (lw_at lw_m10 68 rfl) rfl
theorem q2395 : (Jvm.Cond.methodLink "MergeJudge" (456 : Nat) ({ cls := "MergeJudge", name := "isSo", desc := "(LMergeJudge$Slot;I)Z" } : Jvm.MethodName)) ∈ lw_all := lw_g (lw_at lw_m10 69 rfl) rfl
theorem q2396 : (Jvm.Cond.privateMethod ({ cls := "MergeJudge", name := "isSo", desc := "(LMergeJudge$Slot;I)Z" } : Jvm.MethodName)) ∈ lw_tbl := lw_at lw_m10 70 rfl
theorem q2397 : (Jvm.Cond.instanceMethod ({ cls := "MergeJudge", name := "isSo", desc := "(LMergeJudge$Slot;I)Z" } : Jvm.MethodName)) ∈ lw_all := lw_g (lw_at lw_m10 71 rfl) rfl
theorem q2398 : (Jvm.Cond.code ({ cls := "MergeJudge", name := "isSo", desc := "(LMergeJudge$Slot;I)Z" } : Jvm.MethodName) prog_1_method_104_code (4 : Nat) (Option.some Jvm.ClassFile.FieldType.boolean)) ∈ lw_all := lw_g (lw_at lw_m10 72 rfl) rfl
theorem q2400 : (Jvm.Cond.instanceMethod ({ cls := "MergeJudge", name := "which", desc := "(I)I" } : Jvm.MethodName)) ∈ lw_all := lw_g (lw_at lw_m10 74 rfl) rfl
theorem q2401 : (Jvm.Cond.selects "MergeJudge" ({ cls := "MergeJudge", name := "which", desc := "(I)I" } : Jvm.MethodName) ({ cls := "MergeJudge", name := "which", desc := "(I)I" } : Jvm.MethodName)) ∈ lw_all := lw_g (lw_at lw_m10 75 rfl) rfl
theorem q2402 : (Jvm.Cond.code ({ cls := "MergeJudge", name := "which", desc := "(I)I" } : Jvm.MethodName) prog_1_method_107_code (3 : Nat) (Option.some Jvm.ClassFile.FieldType.int)) ∈ lw_all := lw_g (lw_at lw_m10 76 rfl) rfl
theorem q2404 : (Jvm.Cond.instanceMethod ({ cls := "MergeJudge", name := "laws", desc := "(I)I" } : Jvm.MethodName)) ∈ lw_all := lw_g (lw_at lw_m10 78 rfl) rfl
theorem q2405 : (Jvm.Cond.selects "MergeJudge" ({ cls := "MergeJudge", name := "laws", desc := "(I)I" } : Jvm.MethodName) ({ cls := "MergeJudge", name := "laws", desc := "(I)I" } : Jvm.MethodName)) ∈ lw_all := lw_g (lw_at lw_m10 79 rfl) rfl
theorem q2406 : (Jvm.Cond.code ({ cls := "MergeJudge", name := "laws", desc := "(I)I" } : Jvm.MethodName) prog_1_method_109_code (5 : Nat) (Option.some Jvm.ClassFile.FieldType.int)) ∈ lw_all := lw_g (lw_at lw_m10 80 rfl) rfl
theorem q2407 : (Jvm.Cond.privateMethod ({ cls := "MergeJudge", name := "lambda$laws$18", desc := "(I)I" } : Jvm.MethodName)) ∈ lw_tbl := lw_at lw_m10 81 rfl
theorem q2408 : (Jvm.Cond.instanceMethod ({ cls := "MergeJudge", name := "lambda$laws$18", desc := "(I)I" } : Jvm.MethodName)) ∈ lw_all := lw_g (lw_at lw_m10 82 rfl) rfl
theorem q2409 : (Jvm.Cond.code ({ cls := "MergeJudge", name := "lambda$laws$18", desc := "(I)I" } : Jvm.MethodName) prog_1_method_147_code (2 : Nat) (Option.some Jvm.ClassFile.FieldType.int)) ∈ lw_all := lw_g (lw_at lw_m10 83 rfl) rfl
theorem q2410 : (Jvm.Cond.methodLink "MergeJudge" (470 : Nat) ({ cls := "MergeJudge", name := "byLaw", desc := "(ILMergeJudge$Answer;)I" } : Jvm.MethodName)) ∈ lw_all := lw_g (lw_at lw_m10 84 rfl) rfl
theorem q2411 : (Jvm.Cond.privateMethod ({ cls := "MergeJudge", name := "byLaw", desc := "(ILMergeJudge$Answer;)I" } : Jvm.MethodName)) ∈ lw_tbl := lw_at lw_m10 85 rfl
theorem q2412 : (Jvm.Cond.instanceMethod ({ cls := "MergeJudge", name := "byLaw", desc := "(ILMergeJudge$Answer;)I" } : Jvm.MethodName)) ∈ lw_all := lw_g (lw_at lw_m10 86 rfl) rfl
theorem q2413 : (Jvm.Cond.code ({ cls := "MergeJudge", name := "byLaw", desc := "(ILMergeJudge$Answer;)I" } : Jvm.MethodName) prog_1_method_108_code (4 : Nat) (Option.some Jvm.ClassFile.FieldType.int)) ∈ lw_all := lw_g (lw_at lw_m10 87 rfl) rfl
theorem q2415 : (Jvm.Cond.instanceMethod ({ cls := "MergeJudge", name := "by", desc := "(I)I" } : Jvm.MethodName)) ∈ lw_all := lw_g (lw_at lw_m10 89 rfl) rfl
theorem q2416 : (Jvm.Cond.selects "MergeJudge" ({ cls := "MergeJudge", name := "by", desc := "(I)I" } : Jvm.MethodName) ({ cls := "MergeJudge", name := "by", desc := "(I)I" } : Jvm.MethodName)) ∈ lw_all := lw_g (lw_at lw_m10 90 rfl) rfl
theorem q2417 : (Jvm.Cond.code ({ cls := "MergeJudge", name := "by", desc := "(I)I" } : Jvm.MethodName) prog_1_method_110_code (2 : Nat) (Option.some Jvm.ClassFile.FieldType.int)) ∈ lw_all := lw_g (lw_at lw_m10 91 rfl) rfl
theorem q2418 : (Jvm.Cond.methodLink "MergeJudge" (473 : Nat) ({ cls := "MergeJudge", name := "isLaw", desc := "(I)Z" } : Jvm.MethodName)) ∈ lw_all := lw_g (lw_at lw_m10 92 rfl) rfl
theorem q2419 : (Jvm.Cond.static ({ cls := "MergeJudge", name := "isLaw", desc := "(I)Z" } : Jvm.MethodName)) ∈ lw_all := lw_g (lw_at lw_m10 93 rfl) rfl
theorem q2420 : (Jvm.Cond.code ({ cls := "MergeJudge", name := "isLaw", desc := "(I)Z" } : Jvm.MethodName) prog_1_method_26_code (1 : Nat) (Option.some Jvm.ClassFile.FieldType.boolean)) ∈ lw_all := lw_g (lw_at lw_m10 94 rfl) rfl
theorem q2421 : (Jvm.Cond.privateMethod ({ cls := "MergeJudge", name := "lambda$by$19", desc := "()I" } : Jvm.MethodName)) ∈ lw_tbl := lw_at lw_m10 95 rfl
theorem q2422 : (Jvm.Cond.instanceMethod ({ cls := "MergeJudge", name := "lambda$by$19", desc := "()I" } : Jvm.MethodName)) ∈ lw_all := lw_g (lw_at lw_m10 96 rfl) rfl
theorem q2423 : (Jvm.Cond.code ({ cls := "MergeJudge", name := "lambda$by$19", desc := "()I" } : Jvm.MethodName) prog_1_method_146_code (1 : Nat) (Option.some Jvm.ClassFile.FieldType.int)) ∈ lw_all := lw_g (lw_at lw_m10 97 rfl) rfl
theorem q2425 : (Jvm.Cond.instanceMethod ({ cls := "MergeJudge", name := "law", desc := "()I" } : Jvm.MethodName)) ∈ lw_all := lw_g (lw_at lw_m10 99 rfl) rfl
theorem q2426 : (Jvm.Cond.selects "MergeJudge" ({ cls := "MergeJudge", name := "law", desc := "()I" } : Jvm.MethodName) ({ cls := "MergeJudge", name := "law", desc := "()I" } : Jvm.MethodName)) ∈ lw_all := lw_g (lw_at lw_m10 100 rfl) rfl
theorem q2427 : (Jvm.Cond.code ({ cls := "MergeJudge", name := "law", desc := "()I" } : Jvm.MethodName) prog_1_method_111_code (3 : Nat) (Option.some Jvm.ClassFile.FieldType.int)) ∈ lw_all := lw_g (lw_at lw_m10 101 rfl) rfl
theorem q2428 : (Jvm.Cond.methodLink "MergeJudge" (477 : Nat) ({ cls := "MergeJudge", name := "by", desc := "(I)I" } : Jvm.MethodName)) ∈ lw_all := lw_g (lw_at lw_m10 102 rfl) rfl
theorem q2430 : (Jvm.Cond.instanceMethod ({ cls := "MergeJudge", name := "worth", desc := "(I)I" } : Jvm.MethodName)) ∈ lw_all := lw_g (lw_at lw_m10 104 rfl) rfl
theorem q2431 : (Jvm.Cond.selects "MergeJudge" ({ cls := "MergeJudge", name := "worth", desc := "(I)I" } : Jvm.MethodName) ({ cls := "MergeJudge", name := "worth", desc := "(I)I" } : Jvm.MethodName)) ∈ lw_all := lw_g (lw_at lw_m10 105 rfl) rfl
theorem q2432 : (Jvm.Cond.code ({ cls := "MergeJudge", name := "worth", desc := "(I)I" } : Jvm.MethodName) prog_1_method_112_code (2 : Nat) (Option.some Jvm.ClassFile.FieldType.int)) ∈ lw_all := lw_g (lw_at lw_m10 106 rfl) rfl
theorem q2433 : (Jvm.Cond.privateMethod ({ cls := "MergeJudge", name := "lambda$worth$20", desc := "()I" } : Jvm.MethodName)) ∈ lw_tbl := lw_at lw_m10 107 rfl
theorem q2434 : (Jvm.Cond.instanceMethod ({ cls := "MergeJudge", name := "lambda$worth$20", desc := "()I" } : Jvm.MethodName)) ∈ lw_all := lw_g (lw_at lw_m10 108 rfl) rfl
theorem q2435 : (Jvm.Cond.code ({ cls := "MergeJudge", name := "lambda$worth$20", desc := "()I" } : Jvm.MethodName) prog_1_method_145_code (1 : Nat) (Option.some Jvm.ClassFile.FieldType.int)) ∈ lw_all := lw_g (lw_at lw_m10 109 rfl) rfl
theorem q2437 : (Jvm.Cond.instanceMethod ({ cls := "MergeJudge", name := "share", desc := "(II)I" } : Jvm.MethodName)) ∈ lw_all := lw_g (lw_at lw_m10 111 rfl) rfl
theorem q2438 : (Jvm.Cond.selects "MergeJudge" ({ cls := "MergeJudge", name := "share", desc := "(II)I" } : Jvm.MethodName) ({ cls := "MergeJudge", name := "share", desc := "(II)I" } : Jvm.MethodName)) ∈ lw_all := lw_g (lw_at lw_m10 112 rfl) rfl
theorem q2439 : (Jvm.Cond.code ({ cls := "MergeJudge", name := "share", desc := "(II)I" } : Jvm.MethodName) prog_1_method_116_code (8 : Nat) (Option.some Jvm.ClassFile.FieldType.int)) ∈ lw_all := lw_g (lw_at lw_m10 113 rfl) rfl
theorem q2440 : (Jvm.Cond.methodLink "MergeJudge" (492 : Nat) ({ cls := "MergeJudge", name := "isBit", desc := "(I)Z" } : Jvm.MethodName)) ∈ lw_all := lw_g (lw_at lw_m10 114 rfl) rfl
theorem q2441 : (Jvm.Cond.static ({ cls := "MergeJudge", name := "isBit", desc := "(I)Z" } : Jvm.MethodName)) ∈ lw_all := lw_g (lw_at lw_m10 115 rfl) rfl
theorem q2442 : (Jvm.Cond.code ({ cls := "MergeJudge", name := "isBit", desc := "(I)Z" } : Jvm.MethodName) prog_1_method_27_code (1 : Nat) (Option.some Jvm.ClassFile.FieldType.boolean)) ∈ lw_all := lw_g (lw_at lw_m10 116 rfl) rfl
theorem q2443 : (Jvm.Cond.constant "MergeJudge" (495 : Nat) (-1000000 : Int32)) ∈ lw_all := lw_g (lw_at lw_m10 117 rfl) rfl
theorem q2444 : (Jvm.Cond.methodLink "MergeJudge" (481 : Nat) ({ cls := "MergeJudge", name := "factorial", desc := "(I)J" } : Jvm.MethodName)) ∈ lw_all := lw_g (lw_at lw_m10 118 rfl) rfl
theorem q2445 : (Jvm.Cond.static ({ cls := "MergeJudge", name := "factorial", desc := "(I)J" } : Jvm.MethodName)) ∈ lw_all := lw_g (lw_at lw_m10 119 rfl) rfl
theorem q2446 : (Jvm.Cond.code ({ cls := "MergeJudge", name := "factorial", desc := "(I)J" } : Jvm.MethodName) prog_1_method_113_code (1 : Nat) (Option.some Jvm.ClassFile.FieldType.long)) ∈ lw_all := lw_g (lw_at lw_m10 120 rfl) rfl
theorem q2447 : (Jvm.Cond.methodLink "MergeJudge" (496 : Nat) ({ cls := "MergeJudge", name := "worth", desc := "(I)I" } : Jvm.MethodName)) ∈ lw_all := lw_g (lw_at lw_m10 121 rfl) rfl
theorem q2448 : (Jvm.Cond.methodLink "MergeJudge" (499 : Nat) ({ cls := "MergeJudge", name := "part", desc := "(JJI)J" } : Jvm.MethodName)) ∈ lw_all := lw_g (lw_at lw_m10 122 rfl) rfl
theorem q2449 : (Jvm.Cond.static ({ cls := "MergeJudge", name := "part", desc := "(JJI)J" } : Jvm.MethodName)) ∈ lw_all := lw_g (lw_at lw_m10 123 rfl) rfl
theorem q2450 : (Jvm.Cond.code ({ cls := "MergeJudge", name := "part", desc := "(JJI)J" } : Jvm.MethodName) prog_1_method_115_code (5 : Nat) (Option.some Jvm.ClassFile.FieldType.long)) ∈ lw_all := lw_g (lw_at lw_m10 124 rfl) rfl
theorem q2451 : (Jvm.Cond.methodLink "MergeJudge" (488 : Nat) ({ cls := "MergeJudge", name := "common", desc := "(JJ)J" } : Jvm.MethodName)) ∈ lw_all := lw_g (lw_at lw_m10 125 rfl) rfl
theorem q2452 : (Jvm.Cond.static ({ cls := "MergeJudge", name := "common", desc := "(JJ)J" } : Jvm.MethodName)) ∈ lw_all := lw_g (lw_at lw_m10 126 rfl) rfl
theorem q2453 : (Jvm.Cond.code ({ cls := "MergeJudge", name := "common", desc := "(JJ)J" } : Jvm.MethodName) prog_1_method_114_code (4 : Nat) (Option.some Jvm.ClassFile.FieldType.long)) ∈ lw_all := lw_g (lw_at lw_m10 127 rfl) rfl
theorem q2454 : (Jvm.Cond.methodLink "MergeJudge" (484 : Nat) ({ cls := "java/lang/Math", name := "abs", desc := "(J)J" } : Jvm.MethodName)) ∈ lw_all := lw_g (lw_at lw_m10 128 rfl) rfl
theorem q2458 : (Jvm.Cond.instanceMethod ({ cls := "MergeJudge", name := "rests", desc := "(II)I" } : Jvm.MethodName)) ∈ lw_all := lw_g (lw_at lw_m10 132 rfl) rfl
theorem q2459 : (Jvm.Cond.selects "MergeJudge" ({ cls := "MergeJudge", name := "rests", desc := "(II)I" } : Jvm.MethodName) ({ cls := "MergeJudge", name := "rests", desc := "(II)I" } : Jvm.MethodName)) ∈ lw_all := lw_g (lw_at lw_m10 133 rfl) rfl
theorem q2460 : (Jvm.Cond.code ({ cls := "MergeJudge", name := "rests", desc := "(II)I" } : Jvm.MethodName) prog_1_method_119_code (5 : Nat) (Option.some Jvm.ClassFile.FieldType.int)) ∈ lw_all := lw_g (lw_at lw_m10 134 rfl) rfl
theorem q2461 : (Jvm.Cond.methodLink "MergeJudge" (507 : Nat) ({ cls := "MergeJudge", name := "areTwo", desc := "(II)Z" } : Jvm.MethodName)) ∈ lw_all := lw_g (lw_at lw_m10 135 rfl) rfl
theorem q2462 : (Jvm.Cond.privateMethod ({ cls := "MergeJudge", name := "areTwo", desc := "(II)Z" } : Jvm.MethodName)) ∈ lw_tbl := lw_at lw_m10 136 rfl
theorem q2463 : (Jvm.Cond.instanceMethod ({ cls := "MergeJudge", name := "areTwo", desc := "(II)Z" } : Jvm.MethodName)) ∈ lw_all := lw_g (lw_at lw_m10 137 rfl) rfl
theorem q2464 : (Jvm.Cond.code ({ cls := "MergeJudge", name := "areTwo", desc := "(II)Z" } : Jvm.MethodName) prog_1_method_23_code (3 : Nat) (Option.some Jvm.ClassFile.FieldType.boolean)) ∈ lw_all := lw_g (lw_at lw_m10 138 rfl) rfl
theorem q2465 : (Jvm.Cond.methodLink "MergeJudge" (510 : Nat) ({ cls := "MergeJudge", name := "isRest", desc := "(IIII)Z" } : Jvm.MethodName)) ∈ lw_all := lw_g (lw_at lw_m10 139 rfl) rfl
theorem q2466 : (Jvm.Cond.privateMethod ({ cls := "MergeJudge", name := "isRest", desc := "(IIII)Z" } : Jvm.MethodName)) ∈ lw_tbl := lw_at lw_m10 140 rfl
theorem q2467 : (Jvm.Cond.instanceMethod ({ cls := "MergeJudge", name := "isRest", desc := "(IIII)Z" } : Jvm.MethodName)) ∈ lw_all := lw_g (lw_at lw_m10 141 rfl) rfl
theorem q2468 : (Jvm.Cond.code ({ cls := "MergeJudge", name := "isRest", desc := "(IIII)Z" } : Jvm.MethodName) prog_1_method_118_code (5 : Nat) (Option.some Jvm.ClassFile.FieldType.boolean)) ∈ lw_all := lw_g (lw_at lw_m10 142 rfl) rfl
theorem q2469 : (Jvm.Cond.methodLink "MergeJudge" (503 : Nat) ({ cls := "MergeJudge", name := "getsOf", desc := "(IIIII)I" } : Jvm.MethodName)) ∈ lw_all := lw_g (lw_at lw_m10 143 rfl) rfl
theorem q2470 : (Jvm.Cond.privateMethod ({ cls := "MergeJudge", name := "getsOf", desc := "(IIIII)I" } : Jvm.MethodName)) ∈ lw_tbl := lw_at lw_m10 144 rfl
theorem q2471 : (Jvm.Cond.instanceMethod ({ cls := "MergeJudge", name := "getsOf", desc := "(IIIII)I" } : Jvm.MethodName)) ∈ lw_all := lw_g (lw_at lw_m10 145 rfl) rfl
theorem q2472 : (Jvm.Cond.code ({ cls := "MergeJudge", name := "getsOf", desc := "(IIIII)I" } : Jvm.MethodName) prog_1_method_117_code (7 : Nat) (Option.some Jvm.ClassFile.FieldType.int)) ∈ lw_all := lw_g (lw_at lw_m10 146 rfl) rfl
theorem q2474 : (Jvm.Cond.instanceMethod ({ cls := "MergeJudge", name := "gets", desc := "(IIII)I" } : Jvm.MethodName)) ∈ lw_all := lw_g (lw_at lw_m10 148 rfl) rfl
theorem q2475 : (Jvm.Cond.selects "MergeJudge" ({ cls := "MergeJudge", name := "gets", desc := "(IIII)I" } : Jvm.MethodName) ({ cls := "MergeJudge", name := "gets", desc := "(IIII)I" } : Jvm.MethodName)) ∈ lw_all := lw_g (lw_at lw_m10 149 rfl) rfl
theorem q2476 : (Jvm.Cond.code ({ cls := "MergeJudge", name := "gets", desc := "(IIII)I" } : Jvm.MethodName) prog_1_method_120_code (5 : Nat) (Option.some Jvm.ClassFile.FieldType.int)) ∈ lw_all := lw_g (lw_at lw_m10 150 rfl) rfl
theorem q2478 : (Jvm.Cond.instanceMethod ({ cls := "MergeJudge", name := "chance", desc := "(I)J" } : Jvm.MethodName)) ∈ lw_all := lw_g (lw_at lw_m10 152 rfl) rfl
theorem q2479 : (Jvm.Cond.selects "MergeJudge" ({ cls := "MergeJudge", name := "chance", desc := "(I)J" } : Jvm.MethodName) ({ cls := "MergeJudge", name := "chance", desc := "(I)J" } : Jvm.MethodName)) ∈ lw_all := lw_g (lw_at lw_m10 153 rfl) rfl
theorem q2480 : (Jvm.Cond.code ({ cls := "MergeJudge", name := "chance", desc := "(I)J" } : Jvm.MethodName) prog_1_method_123_code (2 : Nat) (Option.some Jvm.ClassFile.FieldType.long)) ∈ lw_all := lw_g (lw_at lw_m10 154 rfl) rfl
theorem q2481 : (Jvm.Cond.privateMethod ({ cls := "MergeJudge", name := "lambda$chance$21", desc := "()I" } : Jvm.MethodName)) ∈ lw_tbl := lw_at lw_m10 155 rfl
theorem q2482 : (Jvm.Cond.instanceMethod ({ cls := "MergeJudge", name := "lambda$chance$21", desc := "()I" } : Jvm.MethodName)) ∈ lw_all := lw_g (lw_at lw_m10 156 rfl) rfl
theorem q2483 : (Jvm.Cond.code ({ cls := "MergeJudge", name := "lambda$chance$21", desc := "()I" } : Jvm.MethodName) prog_1_method_144_code (1 : Nat) (Option.some Jvm.ClassFile.FieldType.int)) ∈ lw_all := lw_g (lw_at lw_m10 157 rfl) rfl
theorem q2484 : (Jvm.Cond.methodLink "MergeJudge" (522 : Nat) ({ cls := "MergeJudge", name := "sum", desc := "(LMergeJudge$Answer;)J" } : Jvm.MethodName)) ∈ lw_all := lw_g (lw_at lw_m10 158 rfl) rfl
theorem q2485 : (Jvm.Cond.privateMethod ({ cls := "MergeJudge", name := "sum", desc := "(LMergeJudge$Answer;)J" } : Jvm.MethodName)) ∈ lw_tbl := lw_at lw_m10 159 rfl
theorem q2486 : (Jvm.Cond.instanceMethod ({ cls := "MergeJudge", name := "sum", desc := "(LMergeJudge$Answer;)J" } : Jvm.MethodName)) ∈ lw_all := lw_g (lw_at lw_m10 160 rfl) rfl
theorem q2487 : (Jvm.Cond.code ({ cls := "MergeJudge", name := "sum", desc := "(LMergeJudge$Answer;)J" } : Jvm.MethodName) prog_1_method_122_code (5 : Nat) (Option.some Jvm.ClassFile.FieldType.long)) ∈ lw_all := lw_g (lw_at lw_m10 161 rfl) rfl
theorem q2488 : (Jvm.Cond.methodLink "MergeJudge" (514 : Nat) ({ cls := "MergeJudge", name := "power", desc := "(JI)J" } : Jvm.MethodName)) ∈ lw_all := lw_g (lw_at lw_m10 162 rfl) rfl
theorem q2489 : (Jvm.Cond.static ({ cls := "MergeJudge", name := "power", desc := "(JI)J" } : Jvm.MethodName)) ∈ lw_all := lw_g (lw_at lw_m10 163 rfl) rfl
theorem q2490 : (Jvm.Cond.code ({ cls := "MergeJudge", name := "power", desc := "(JI)J" } : Jvm.MethodName) prog_1_method_121_code (3 : Nat) (Option.some Jvm.ClassFile.FieldType.long)) ∈ lw_all := lw_g (lw_at lw_m10 164 rfl) rfl
theorem q2491 : (Jvm.Cond.constantLong "MergeJudge" (526 : Nat) (10 : Int64)) ∈ lw_all := lw_g (lw_at lw_m10 165 rfl) rfl
theorem q2492 : (Jvm.Cond.constantLong "MergeJudge" (528 : Nat) (-2 : Int64)) ∈ lw_all := lw_g (lw_at lw_m10 166 rfl) rfl
theorem q2494 : (Jvm.Cond.instanceMethod ({ cls := "MergeJudge", name := "mean", desc := "(I)J" } : Jvm.MethodName)) ∈ lw_all := lw_g (lw_at lw_m10 168 rfl) rfl
theorem q2495 : (Jvm.Cond.selects "MergeJudge" ({ cls := "MergeJudge", name := "mean", desc := "(I)J" } : Jvm.MethodName) ({ cls := "MergeJudge", name := "mean", desc := "(I)J" } : Jvm.MethodName)) ∈ lw_all := lw_g (lw_at lw_m10 169 rfl) rfl
theorem q2496 : (Jvm.Cond.code ({ cls := "MergeJudge", name := "mean", desc := "(I)J" } : Jvm.MethodName) prog_1_method_124_code (2 : Nat) (Option.some Jvm.ClassFile.FieldType.long)) ∈ lw_all := lw_g (lw_at lw_m10 170 rfl) rfl
theorem q2498 : (Jvm.Cond.instanceMethod ({ cls := "MergeJudge", name := "drawn", desc := "(II)I" } : Jvm.MethodName)) ∈ lw_all := lw_g (lw_at lw_m10 172 rfl) rfl
theorem q2499 : (Jvm.Cond.selects "MergeJudge" ({ cls := "MergeJudge", name := "drawn", desc := "(II)I" } : Jvm.MethodName) ({ cls := "MergeJudge", name := "drawn", desc := "(II)I" } : Jvm.MethodName)) ∈ lw_all := lw_g (lw_at lw_m10 173 rfl) rfl
theorem q2500 : (Jvm.Cond.code ({ cls := "MergeJudge", name := "drawn", desc := "(II)I" } : Jvm.MethodName) prog_1_method_127_code (4 : Nat) (Option.some Jvm.ClassFile.FieldType.int)) ∈ lw_all := lw_g (lw_at lw_m10 174 rfl) rfl
theorem q2501 : (Jvm.Cond.methodLink "MergeJudge" (540 : Nat) ({ cls := "MergeJudge", name := "isSeed", desc := "(I)Z" } : Jvm.MethodName)) ∈ lw_all := lw_g (lw_at lw_m10 175 rfl) rfl
theorem q2502 : (Jvm.Cond.static ({ cls := "MergeJudge", name := "isSeed", desc := "(I)Z" } : Jvm.MethodName)) ∈ lw_all := lw_g (lw_at lw_m10 176 rfl) rfl
theorem q2503 : (Jvm.Cond.code ({ cls := "MergeJudge", name := "isSeed", desc := "(I)Z" } : Jvm.MethodName) prog_1_method_126_code (1 : Nat) (Option.some Jvm.ClassFile.FieldType.boolean)) ∈ lw_all := lw_g (lw_at lw_m10 177 rfl) rfl
theorem q2504 : (Jvm.Cond.constantLong "MergeJudge" (538 : Nat) (2000000000 : Int64)) ∈ lw_all := lw_g (lw_at lw_m10 178 rfl) rfl
theorem q2505 : (Jvm.Cond.methodLink "MergeJudge" (543 : Nat) ({ cls := "MergeJudge", name := "drawsOf", desc := "(J)I" } : Jvm.MethodName)) ∈ lw_all := lw_g (lw_at lw_m10 179 rfl) rfl
theorem q2506 : (Jvm.Cond.privateMethod ({ cls := "MergeJudge", name := "drawsOf", desc := "(J)I" } : Jvm.MethodName)) ∈ lw_tbl := lw_at lw_m10 180 rfl
theorem q2507 : (Jvm.Cond.instanceMethod ({ cls := "MergeJudge", name := "drawsOf", desc := "(J)I" } : Jvm.MethodName)) ∈ lw_all := lw_g (lw_at lw_m10 181 rfl) rfl
theorem q2508 : (Jvm.Cond.code ({ cls := "MergeJudge", name := "drawsOf", desc := "(J)I" } : Jvm.MethodName) prog_1_method_125_code (7 : Nat) (Option.some Jvm.ClassFile.FieldType.int)) ∈ lw_all := lw_g (lw_at lw_m10 182 rfl) rfl
theorem q2509 : (Jvm.Cond.constantLong "MergeJudge" (530 : Nat) (1103515245 : Int64)) ∈ lw_all := lw_g (lw_at lw_m10 183 rfl) rfl
theorem q2510 : (Jvm.Cond.constantLong "MergeJudge" (532 : Nat) (12345 : Int64)) ∈ lw_all := lw_g (lw_at lw_m10 184 rfl) rfl
theorem q2511 : (Jvm.Cond.constantLong "MergeJudge" (534 : Nat) (2147483648 : Int64)) ∈ lw_all := lw_g (lw_at lw_m10 185 rfl) rfl
theorem q2512 : (Jvm.Cond.constantLong "MergeJudge" (536 : Nat) (65536 : Int64)) ∈ lw_all := lw_g (lw_at lw_m10 186 rfl) rfl
theorem q2513 : (Jvm.Cond.privateMethod ({ cls := "MergeJudge", name := "lambda$drawn$22", desc := "()I" } : Jvm.MethodName)) ∈ lw_tbl := lw_at lw_m10 187 rfl
theorem q2514 : (Jvm.Cond.instanceMethod ({ cls := "MergeJudge", name := "lambda$drawn$22", desc := "()I" } : Jvm.MethodName)) ∈ lw_all := lw_g (lw_at lw_m10 188 rfl) rfl
theorem q2515 : (Jvm.Cond.code ({ cls := "MergeJudge", name := "lambda$drawn$22", desc := "()I" } : Jvm.MethodName) prog_1_method_143_code (1 : Nat) (Option.some Jvm.ClassFile.FieldType.int)) ∈ lw_all := lw_g (lw_at lw_m10 189 rfl) rfl
theorem q2517 : (Jvm.Cond.instanceMethod ({ cls := "MergeJudge", name := "luck", desc := "(II)I" } : Jvm.MethodName)) ∈ lw_all := lw_g (lw_at lw_m10 191 rfl) rfl
theorem q2518 : (Jvm.Cond.selects "MergeJudge" ({ cls := "MergeJudge", name := "luck", desc := "(II)I" } : Jvm.MethodName) ({ cls := "MergeJudge", name := "luck", desc := "(II)I" } : Jvm.MethodName)) ∈ lw_all := lw_g (lw_at lw_m10 192 rfl) rfl
theorem q2519 : (Jvm.Cond.code ({ cls := "MergeJudge", name := "luck", desc := "(II)I" } : Jvm.MethodName) prog_1_method_128_code (5 : Nat) (Option.some Jvm.ClassFile.FieldType.int)) ∈ lw_all := lw_g (lw_at lw_m10 193 rfl) rfl
theorem q2520 : (Jvm.Cond.constantLong "MergeJudge" (548 : Nat) (20 : Int64)) ∈ lw_all := lw_g (lw_at lw_m10 194 rfl) rfl
theorem q2521 : (Jvm.Cond.privateMethod ({ cls := "MergeJudge", name := "lambda$luck$23", desc := "()I" } : Jvm.MethodName)) ∈ lw_tbl := lw_at lw_m10 195 rfl
theorem q2522 : (Jvm.Cond.instanceMethod ({ cls := "MergeJudge", name := "lambda$luck$23", desc := "()I" } : Jvm.MethodName)) ∈ lw_all := lw_g (lw_at lw_m10 196 rfl) rfl
theorem q2523 : (Jvm.Cond.code ({ cls := "MergeJudge", name := "lambda$luck$23", desc := "()I" } : Jvm.MethodName) prog_1_method_142_code (1 : Nat) (Option.some Jvm.ClassFile.FieldType.int)) ∈ lw_all := lw_g (lw_at lw_m10 197 rfl) rfl
theorem q2525 : (Jvm.Cond.instanceMethod ({ cls := "MergeJudge", name := "lock", desc := "(I)I" } : Jvm.MethodName)) ∈ lw_all := lw_g (lw_at lw_m10 199 rfl) rfl
theorem q2526 : (Jvm.Cond.selects "MergeJudge" ({ cls := "MergeJudge", name := "lock", desc := "(I)I" } : Jvm.MethodName) ({ cls := "MergeJudge", name := "lock", desc := "(I)I" } : Jvm.MethodName)) ∈ lw_all := lw_g (lw_at lw_m10 200 rfl) rfl
theorem q2527 : (Jvm.Cond.code ({ cls := "MergeJudge", name := "lock", desc := "(I)I" } : Jvm.MethodName) prog_1_method_131_code (2 : Nat) (Option.some Jvm.ClassFile.FieldType.int)) ∈ lw_all := lw_g (lw_at lw_m10 201 rfl) rfl
theorem q2528 : (Jvm.Cond.methodLink "MergeJudge" (570 : Nat) ({ cls := "MergeJudge", name := "acts", desc := "(II)I" } : Jvm.MethodName)) ∈ lw_all := lw_g (lw_at lw_m10 202 rfl) rfl
theorem q2529 : (Jvm.Cond.privateMethod ({ cls := "MergeJudge", name := "acts", desc := "(II)I" } : Jvm.MethodName)) ∈ lw_tbl := lw_at lw_m10 203 rfl
theorem q2530 : (Jvm.Cond.instanceMethod ({ cls := "MergeJudge", name := "acts", desc := "(II)I" } : Jvm.MethodName)) ∈ lw_all := lw_g (lw_at lw_m10 204 rfl) rfl
theorem q2531 : (Jvm.Cond.code ({ cls := "MergeJudge", name := "acts", desc := "(II)I" } : Jvm.MethodName) prog_1_method_129_code (5 : Nat) (Option.some Jvm.ClassFile.FieldType.int)) ∈ lw_all := lw_g (lw_at lw_m10 205 rfl) rfl
theorem q2532 : (Jvm.Cond.classLink "MergeJudge" (554 : Nat) "MergeJudge$Act") ∈ lw_all := lw_g (lw_at lw_m10 206 rfl) rfl
theorem q2534 : (Jvm.Cond.privateMethod ({ cls := "MergeJudge", name := "lambda$acts$24", desc := "(II)V" } : Jvm.MethodName)) ∈ lw_tbl := lw_at lw_m10 208 rfl
theorem q2535 : (Jvm.Cond.instanceMethod ({ cls := "MergeJudge", name := "lambda$acts$24", desc := "(II)V" } : Jvm.MethodName)) ∈ lw_all := lw_g (lw_at lw_m10 209 rfl) rfl
theorem q2536 : (Jvm.Cond.code ({ cls := "MergeJudge", name := "lambda$acts$24", desc := "(II)V" } : Jvm.MethodName) prog_1_method_141_code (3 : Nat) (Option.none : Option Jvm.ClassFile.FieldType)) ∈ lw_all := lw_g (lw_at lw_m10 210 rfl) rfl
theorem q2537 : (Jvm.Cond.methodLink "MergeJudge" (567 : Nat) ({ cls := "MergeJudge", name := "puts", desc := "(II)V" } : Jvm.MethodName)) ∈ lw_all := lw_g (lw_at lw_m10 211 rfl) rfl
theorem q2538 : (Jvm.Cond.privateMethod ({ cls := "MergeJudge", name := "puts", desc := "(II)V" } : Jvm.MethodName)) ∈ lw_tbl := lw_at lw_m10 212 rfl
theorem q2539 : (Jvm.Cond.instanceMethod ({ cls := "MergeJudge", name := "puts", desc := "(II)V" } : Jvm.MethodName)) ∈ lw_all := lw_g (lw_at lw_m10 213 rfl) rfl
theorem q2540 : (Jvm.Cond.code ({ cls := "MergeJudge", name := "puts", desc := "(II)V" } : Jvm.MethodName) prog_1_method_130_code (3 : Nat) (Option.none : Option Jvm.ClassFile.FieldType)) ∈ lw_all := lw_g (lw_at lw_m10 214 rfl) rfl
theorem q2541 : (Jvm.Cond.methodLink "MergeJudge" (560 : Nat) ({ cls := "MergeJudge$Act", name := "<init>", desc := "(LMergeJudge$Undo;)V" } : Jvm.MethodName)) ∈ lw_all := lw_g (lw_at lw_m10 215 rfl) rfl
theorem q2546 : (Jvm.Cond.fieldLinkNest "MergeJudge" (575 : Nat) "MergeJudge$Act" "undo" "LMergeJudge$Undo;" "MergeJudge") ∈ lw_tbl := lw_at lw_m10 220 rfl
theorem q2550 : (Jvm.Cond.interfaceEntry "MergeJudge" (563 : Nat)) ∈ lw_tbl := lw_at lw_m10 224 rfl
theorem q2551 : (Jvm.Cond.methodLink "MergeJudge" (563 : Nat) ({ cls := "java/util/List", name := "add", desc := "(Ljava/lang/Object;)Z" } : Jvm.MethodName)) ∈ lw_all := lw_g (lw_at lw_m10 225 rfl) rfl
theorem q2553 : (Jvm.Cond.instanceMethod ({ cls := "MergeJudge", name := "frees", desc := "(I)I" } : Jvm.MethodName)) ∈ lw_all := lw_g (lw_at lw_m10 227 rfl) rfl
theorem q2554 : (Jvm.Cond.selects "MergeJudge" ({ cls := "MergeJudge", name := "frees", desc := "(I)I" } : Jvm.MethodName) ({ cls := "MergeJudge", name := "frees", desc := "(I)I" } : Jvm.MethodName)) ∈ lw_all := lw_g (lw_at lw_m10 228 rfl) rfl
theorem q2555 : (Jvm.Cond.code ({ cls := "MergeJudge", name := "frees", desc := "(I)I" } : Jvm.MethodName) prog_1_method_132_code (2 : Nat) (Option.some Jvm.ClassFile.FieldType.int)) ∈ lw_all := lw_g (lw_at lw_m10 229 rfl) rfl
theorem q2557 : (Jvm.Cond.instanceMethod ({ cls := "MergeJudge", name := "drops", desc := "(I)I" } : Jvm.MethodName)) ∈ lw_all := lw_g (lw_at lw_m10 231 rfl) rfl
theorem q2558 : (Jvm.Cond.selects "MergeJudge" ({ cls := "MergeJudge", name := "drops", desc := "(I)I" } : Jvm.MethodName) ({ cls := "MergeJudge", name := "drops", desc := "(I)I" } : Jvm.MethodName)) ∈ lw_all := lw_g (lw_at lw_m10 232 rfl) rfl
theorem q2559 : (Jvm.Cond.code ({ cls := "MergeJudge", name := "drops", desc := "(I)I" } : Jvm.MethodName) prog_1_method_133_code (2 : Nat) (Option.some Jvm.ClassFile.FieldType.int)) ∈ lw_all := lw_g (lw_at lw_m10 233 rfl) rfl
theorem q2561 : (Jvm.Cond.instanceMethod ({ cls := "MergeJudge", name := "undo", desc := "()I" } : Jvm.MethodName)) ∈ lw_all := lw_g (lw_at lw_m10 235 rfl) rfl
theorem q2562 : (Jvm.Cond.selects "MergeJudge" ({ cls := "MergeJudge", name := "undo", desc := "()I" } : Jvm.MethodName) ({ cls := "MergeJudge", name := "undo", desc := "()I" } : Jvm.MethodName)) ∈ lw_all := lw_g (lw_at lw_m10 236 rfl) rfl
theorem q2563 : (Jvm.Cond.code ({ cls := "MergeJudge", name := "undo", desc := "()I" } : Jvm.MethodName) prog_1_method_135_code (1 : Nat) (Option.some Jvm.ClassFile.FieldType.int)) ∈ lw_all := lw_g (lw_at lw_m10 237 rfl) rfl
theorem q2564 : (Jvm.Cond.interfaceEntry "MergeJudge" (583 : Nat)) ∈ lw_tbl := lw_at lw_m10 238 rfl
theorem q2565 : (Jvm.Cond.methodLink "MergeJudge" (583 : Nat) ({ cls := "java/util/List", name := "isEmpty", desc := "()Z" } : Jvm.MethodName)) ∈ lw_all := lw_g (lw_at lw_m10 239 rfl) rfl
theorem q2573 : (Jvm.Cond.methodLink "MergeJudge" (586 : Nat) ({ cls := "MergeJudge", name := "takesBack", desc := "()I" } : Jvm.MethodName)) ∈ lw_all := lw_g (lw_at lw_m11 7 rfl) rfl
theorem q2574 : (Jvm.Cond.privateMethod ({ cls := "MergeJudge", name := "takesBack", desc := "()I" } : Jvm.MethodName)) ∈ lw_tbl := lw_at lw_m11 8 rfl
theorem q2575 : (Jvm.Cond.instanceMethod ({ cls := "MergeJudge", name := "takesBack", desc := "()I" } : Jvm.MethodName)) ∈ lw_all := lw_g (lw_at lw_m11 9 rfl) rfl
theorem q2576 : (Jvm.Cond.code ({ cls := "MergeJudge", name := "takesBack", desc := "()I" } : Jvm.MethodName) prog_1_method_134_code (1 : Nat) (Option.some Jvm.ClassFile.FieldType.int)) ∈ lw_all := lw_g (lw_at lw_m11 10 rfl) rfl
theorem q2577 : (Jvm.Cond.interfaceEntry "MergeJudge" (572 : Nat)) ∈ lw_tbl := lw_at lw_m11 11 rfl
theorem q2578 : (Jvm.Cond.methodLink "MergeJudge" (572 : Nat) ({ cls := "java/util/List", name := "remove", desc := "(I)Ljava/lang/Object;" } : Jvm.MethodName)) ∈ lw_all := lw_g (lw_at lw_m11 12 rfl) rfl
theorem q2591 : (Jvm.Cond.interfaceEntry "MergeJudge" (579 : Nat)) ∈ lw_tbl := lw_at lw_m11 25 rfl
theorem q2592 : (Jvm.Cond.methodLink "MergeJudge" (579 : Nat) ({ cls := "MergeJudge$Undo", name := "back", desc := "()V" } : Jvm.MethodName)) ∈ lw_all := lw_g (lw_at lw_m11 26 rfl) rfl
theorem q2596 : (Jvm.Cond.instanceMethod ({ cls := "MergeJudge", name := "anew", desc := "()I" } : Jvm.MethodName)) ∈ lw_all := lw_g (lw_at lw_m11 30 rfl) rfl
theorem q2597 : (Jvm.Cond.selects "MergeJudge" ({ cls := "MergeJudge", name := "anew", desc := "()I" } : Jvm.MethodName) ({ cls := "MergeJudge", name := "anew", desc := "()I" } : Jvm.MethodName)) ∈ lw_all := lw_g (lw_at lw_m11 31 rfl) rfl
theorem q2598 : (Jvm.Cond.code ({ cls := "MergeJudge", name := "anew", desc := "()I" } : Jvm.MethodName) prog_1_method_136_code (2 : Nat) (Option.some Jvm.ClassFile.FieldType.int)) ∈ lw_all := lw_g (lw_at lw_m11 32 rfl) rfl
theorem q2600 : (Jvm.Cond.instanceMethod ({ cls := "MergeJudge", name := "rate", desc := "(II)I" } : Jvm.MethodName)) ∈ lw_all := lw_g (lw_at lw_m11 34 rfl) rfl
theorem q2601 : (Jvm.Cond.selects "MergeJudge" ({ cls := "MergeJudge", name := "rate", desc := "(II)I" } : Jvm.MethodName) ({ cls := "MergeJudge", name := "rate", desc := "(II)I" } : Jvm.MethodName)) ∈ lw_all := lw_g (lw_at lw_m11 35 rfl) rfl
theorem q2602 : (Jvm.Cond.code ({ cls := "MergeJudge", name := "rate", desc := "(II)I" } : Jvm.MethodName) prog_1_method_137_code (4 : Nat) (Option.some Jvm.ClassFile.FieldType.int)) ∈ lw_all := lw_g (lw_at lw_m11 36 rfl) rfl
theorem q2604 : (Jvm.Cond.instanceMethod ({ cls := "MergeJudge", name := "count", desc := "(I)I" } : Jvm.MethodName)) ∈ lw_all := lw_g (lw_at lw_m11 38 rfl) rfl
theorem q2605 : (Jvm.Cond.selects "MergeJudge" ({ cls := "MergeJudge", name := "count", desc := "(I)I" } : Jvm.MethodName) ({ cls := "MergeJudge", name := "count", desc := "(I)I" } : Jvm.MethodName)) ∈ lw_all := lw_g (lw_at lw_m11 39 rfl) rfl
theorem q2606 : (Jvm.Cond.code ({ cls := "MergeJudge", name := "count", desc := "(I)I" } : Jvm.MethodName) prog_1_method_138_code (7 : Nat) (Option.some Jvm.ClassFile.FieldType.int)) ∈ lw_all := lw_g (lw_at lw_m11 40 rfl) rfl
theorem q2608 : (Jvm.Cond.instanceMethod ({ cls := "MergeJudge", name := "image", desc := "(I)I" } : Jvm.MethodName)) ∈ lw_all := lw_g (lw_at lw_m11 42 rfl) rfl
theorem q2609 : (Jvm.Cond.selects "MergeJudge" ({ cls := "MergeJudge", name := "image", desc := "(I)I" } : Jvm.MethodName) ({ cls := "MergeJudge", name := "image", desc := "(I)I" } : Jvm.MethodName)) ∈ lw_all := lw_g (lw_at lw_m11 43 rfl) rfl
theorem q2610 : (Jvm.Cond.code ({ cls := "MergeJudge", name := "image", desc := "(I)I" } : Jvm.MethodName) prog_1_method_139_code (2 : Nat) (Option.some Jvm.ClassFile.FieldType.int)) ∈ lw_all := lw_g (lw_at lw_m11 44 rfl) rfl
theorem q2611 : (Jvm.Cond.constantLong "MergeJudge" (589 : Nat) (2 : Int64)) ∈ lw_all := lw_g (lw_at lw_m11 45 rfl) rfl
theorem q2612 : (Jvm.Cond.methodLink "MergeJudge" (591 : Nat) ({ cls := "MergeJudge$Base", name := "same", desc := "()LMergeJudge$Base;" } : Jvm.MethodName)) ∈ lw_all := lw_g (lw_at lw_m11 46 rfl) rfl
theorem q2650 : (Jvm.Cond.instanceMethod ({ cls := "MergeJudge", name := "back", desc := "(I)I" } : Jvm.MethodName)) ∈ lw_all := lw_g (lw_at lw_m11 84 rfl) rfl
theorem q2651 : (Jvm.Cond.selects "MergeJudge" ({ cls := "MergeJudge", name := "back", desc := "(I)I" } : Jvm.MethodName) ({ cls := "MergeJudge", name := "back", desc := "(I)I" } : Jvm.MethodName)) ∈ lw_all := lw_g (lw_at lw_m11 85 rfl) rfl
theorem q2652 : (Jvm.Cond.code ({ cls := "MergeJudge", name := "back", desc := "(I)I" } : Jvm.MethodName) prog_1_method_140_code (2 : Nat) (Option.some Jvm.ClassFile.FieldType.int)) ∈ lw_all := lw_g (lw_at lw_m11 86 rfl) rfl
theorem q3521 : (Jvm.Cond.castable "MergeJudge" "java/lang/Object") ∈ lw_tbl := lw_at lw_m14 235 rfl
theorem in_X0 : ∀ w ∈ wsX00, w ∈ lw_all := lw_in wsX00 [675, 677, 679, 681, 683, 685, 687, 689, 691, 693, 695, 697, 699, 701, 703, 705, 707, 709, 711, 713] (by decide +kernel) (by decide +kernel)
