/-! MADE OBJECTS: the forwarders' codes, their first steps (printed by gen/mkload.py) -/
def cF0 : ByteArray := ⟨#[27, 28, 29, 184, 0, 17, 172]⟩
theorem cF0_l : cF0.data.toList = [27, 28, 29, 184, 0, 17, 172] := rfl
theorem dF0_0 : decode cF0 0 = .ok (.iload_n 1, 1) := by decide +kernel
theorem dF0_1 : decode cF0 1 = .ok (.iload_n 2, 1) := by decide +kernel
theorem dF0_2 : decode cF0 2 = .ok (.iload_n 3, 1) := by decide +kernel
theorem dF0_3 : decode cF0 3 = .ok (.invokestatic 17, 3) := by decide +kernel
theorem dF0_6 : decode cF0 6 = .ok (.ireturn, 1) := by decide +kernel
theorem fl_0 (q : Nat) (x1 : Int32) (x2 : Int32) (x3 : Int32) : fwLoad cF0 [] 4 3 q [] [.int x1, .int x2, .int x3] (([.int x1, .int x2, .int x3] : List Value).reverse ++ []) := by
  intro p l e R s m args below meth c H cells slots Q hx hb hr cell hc hvm hs ls hl kk
  have hl : lv_has ls 4 [(0, .ref q), (1, .int x1), (2, .int x2), (3, .int x3)] := hl
  refine lv_iload_n hx hb dF0_0 rfl (lv_at hl 1 rfl) ?_
  refine lv_iload_n hx hb dF0_1 rfl (lv_at hl 2 rfl) ?_
  refine lv_iload_n hx hb dF0_2 rfl (lv_at hl 3 rfl) ?_
  exact kk
def cF1 : ByteArray := ⟨#[42, 180, 0, 15, 27, 28, 29, 182, 0, 22, 172]⟩
theorem cF1_l : cF1.data.toList = [42, 180, 0, 15, 27, 28, 29, 182, 0, 22, 172] := rfl
theorem dF1_0 : decode cF1 0 = .ok (.aload_n 0, 1) := by decide +kernel
theorem dF1_1 : decode cF1 1 = .ok (.getfield 15, 3) := by decide +kernel
theorem dF1_4 : decode cF1 4 = .ok (.iload_n 1, 1) := by decide +kernel
theorem dF1_5 : decode cF1 5 = .ok (.iload_n 2, 1) := by decide +kernel
theorem dF1_6 : decode cF1 6 = .ok (.iload_n 3, 1) := by decide +kernel
theorem dF1_7 : decode cF1 7 = .ok (.invokevirtual 22, 3) := by decide +kernel
theorem dF1_10 : decode cF1 10 = .ok (.ireturn, 1) := by decide +kernel
theorem fl_1 (q : Nat) (a : Nat) (x1 : Int32) (x2 : Int32) (x3 : Int32) : fwLoad cF1 [15] 4 7 q [.ref a] [.int x1, .int x2, .int x3] (([.int x1, .int x2, .int x3] : List Value).reverse ++ [.ref a]) := by
  intro p l e R s m args below meth c H cells slots Q hx hb hr cell hc hvm hs ls hl kk
  have hl : lv_has ls 4 [(0, .ref q), (1, .int x1), (2, .int x2), (3, .int x3)] := hl
  refine lv_aload_n hx hb dF1_0 rfl (lv_at hl 0 rfl) ?_
  refine fw_get hx (i := 0) (v := .ref a) (hr 0 15 rfl) hc hvm (hs 0 _ rfl) (by rw [hb]; exact dF1_1) ?_
  refine lv_iload_n hx hb dF1_4 rfl (lv_at hl 1 rfl) ?_
  refine lv_iload_n hx hb dF1_5 rfl (lv_at hl 2 rfl) ?_
  refine lv_iload_n hx hb dF1_6 rfl (lv_at hl 3 rfl) ?_
  exact kk
def cF2 : ByteArray := ⟨#[42, 180, 0, 18, 42, 180, 0, 20, 42, 180, 0, 22, 27, 182, 0, 30, 172]⟩
theorem cF2_l : cF2.data.toList = [42, 180, 0, 18, 42, 180, 0, 20, 42, 180, 0, 22, 27, 182, 0, 30, 172] := rfl
theorem dF2_0 : decode cF2 0 = .ok (.aload_n 0, 1) := by decide +kernel
theorem dF2_1 : decode cF2 1 = .ok (.getfield 18, 3) := by decide +kernel
theorem dF2_4 : decode cF2 4 = .ok (.aload_n 0, 1) := by decide +kernel
theorem dF2_5 : decode cF2 5 = .ok (.getfield 20, 3) := by decide +kernel
theorem dF2_8 : decode cF2 8 = .ok (.aload_n 0, 1) := by decide +kernel
theorem dF2_9 : decode cF2 9 = .ok (.getfield 22, 3) := by decide +kernel
theorem dF2_12 : decode cF2 12 = .ok (.iload_n 1, 1) := by decide +kernel
theorem dF2_13 : decode cF2 13 = .ok (.invokevirtual 30, 3) := by decide +kernel
theorem dF2_16 : decode cF2 16 = .ok (.ireturn, 1) := by decide +kernel
theorem fl_2 (q : Nat) (a : Nat) (c1 : Int32) (c2 : Int32) (x1 : Int32) : fwLoad cF2 [18, 20, 22] 2 13 q [.ref a, .int c1, .int c2] [.int x1] (([.int c1, .int c2, .int x1] : List Value).reverse ++ [.ref a]) := by
  intro p l e R s m args below meth c H cells slots Q hx hb hr cell hc hvm hs ls hl kk
  have hl : lv_has ls 2 [(0, .ref q), (1, .int x1)] := hl
  refine lv_aload_n hx hb dF2_0 rfl (lv_at hl 0 rfl) ?_
  refine fw_get hx (i := 0) (v := .ref a) (hr 0 18 rfl) hc hvm (hs 0 _ rfl) (by rw [hb]; exact dF2_1) ?_
  refine lv_aload_n hx hb dF2_4 rfl (lv_at hl 0 rfl) ?_
  refine fw_get hx (i := 1) (v := .int c1) (hr 1 20 rfl) hc hvm (hs 1 _ rfl) (by rw [hb]; exact dF2_5) ?_
  refine lv_aload_n hx hb dF2_8 rfl (lv_at hl 0 rfl) ?_
  refine fw_get hx (i := 2) (v := .int c2) (hr 2 22 rfl) hc hvm (hs 2 _ rfl) (by rw [hb]; exact dF2_9) ?_
  refine lv_iload_n hx hb dF2_12 rfl (lv_at hl 1 rfl) ?_
  exact kk
def cF3 : ByteArray := ⟨#[42, 180, 0, 19, 42, 180, 0, 21, 42, 180, 0, 23, 42, 180, 0, 25, 27, 182, 0, 33, 172]⟩
theorem cF3_l : cF3.data.toList = [42, 180, 0, 19, 42, 180, 0, 21, 42, 180, 0, 23, 42, 180, 0, 25, 27, 182, 0, 33, 172] := rfl
theorem dF3_0 : decode cF3 0 = .ok (.aload_n 0, 1) := by decide +kernel
theorem dF3_1 : decode cF3 1 = .ok (.getfield 19, 3) := by decide +kernel
theorem dF3_4 : decode cF3 4 = .ok (.aload_n 0, 1) := by decide +kernel
theorem dF3_5 : decode cF3 5 = .ok (.getfield 21, 3) := by decide +kernel
theorem dF3_8 : decode cF3 8 = .ok (.aload_n 0, 1) := by decide +kernel
theorem dF3_9 : decode cF3 9 = .ok (.getfield 23, 3) := by decide +kernel
theorem dF3_12 : decode cF3 12 = .ok (.aload_n 0, 1) := by decide +kernel
theorem dF3_13 : decode cF3 13 = .ok (.getfield 25, 3) := by decide +kernel
theorem dF3_16 : decode cF3 16 = .ok (.iload_n 1, 1) := by decide +kernel
theorem dF3_17 : decode cF3 17 = .ok (.invokevirtual 33, 3) := by decide +kernel
theorem dF3_20 : decode cF3 20 = .ok (.ireturn, 1) := by decide +kernel
theorem fl_3 (q : Nat) (a : Nat) (c1 : Int32) (c2 : Int32) (c3 : Int32) (x1 : Int32) : fwLoad cF3 [19, 21, 23, 25] 2 17 q [.ref a, .int c1, .int c2, .int c3] [.int x1] (([.int c1, .int c2, .int c3, .int x1] : List Value).reverse ++ [.ref a]) := by
  intro p l e R s m args below meth c H cells slots Q hx hb hr cell hc hvm hs ls hl kk
  have hl : lv_has ls 2 [(0, .ref q), (1, .int x1)] := hl
  refine lv_aload_n hx hb dF3_0 rfl (lv_at hl 0 rfl) ?_
  refine fw_get hx (i := 0) (v := .ref a) (hr 0 19 rfl) hc hvm (hs 0 _ rfl) (by rw [hb]; exact dF3_1) ?_
  refine lv_aload_n hx hb dF3_4 rfl (lv_at hl 0 rfl) ?_
  refine fw_get hx (i := 1) (v := .int c1) (hr 1 21 rfl) hc hvm (hs 1 _ rfl) (by rw [hb]; exact dF3_5) ?_
  refine lv_aload_n hx hb dF3_8 rfl (lv_at hl 0 rfl) ?_
  refine fw_get hx (i := 2) (v := .int c2) (hr 2 23 rfl) hc hvm (hs 2 _ rfl) (by rw [hb]; exact dF3_9) ?_
  refine lv_aload_n hx hb dF3_12 rfl (lv_at hl 0 rfl) ?_
  refine fw_get hx (i := 3) (v := .int c3) (hr 3 25 rfl) hc hvm (hs 3 _ rfl) (by rw [hb]; exact dF3_13) ?_
  refine lv_iload_n hx hb dF3_16 rfl (lv_at hl 1 rfl) ?_
  exact kk
def cF4 : ByteArray := ⟨#[42, 180, 0, 20, 42, 180, 0, 22, 42, 180, 0, 24, 42, 180, 0, 26, 42, 180, 0, 28, 27, 182, 0, 36, 172]⟩
theorem cF4_l : cF4.data.toList = [42, 180, 0, 20, 42, 180, 0, 22, 42, 180, 0, 24, 42, 180, 0, 26, 42, 180, 0, 28, 27, 182, 0, 36, 172] := rfl
theorem dF4_0 : decode cF4 0 = .ok (.aload_n 0, 1) := by decide +kernel
theorem dF4_1 : decode cF4 1 = .ok (.getfield 20, 3) := by decide +kernel
theorem dF4_4 : decode cF4 4 = .ok (.aload_n 0, 1) := by decide +kernel
theorem dF4_5 : decode cF4 5 = .ok (.getfield 22, 3) := by decide +kernel
theorem dF4_8 : decode cF4 8 = .ok (.aload_n 0, 1) := by decide +kernel
theorem dF4_9 : decode cF4 9 = .ok (.getfield 24, 3) := by decide +kernel
theorem dF4_12 : decode cF4 12 = .ok (.aload_n 0, 1) := by decide +kernel
theorem dF4_13 : decode cF4 13 = .ok (.getfield 26, 3) := by decide +kernel
theorem dF4_16 : decode cF4 16 = .ok (.aload_n 0, 1) := by decide +kernel
theorem dF4_17 : decode cF4 17 = .ok (.getfield 28, 3) := by decide +kernel
theorem dF4_20 : decode cF4 20 = .ok (.iload_n 1, 1) := by decide +kernel
theorem dF4_21 : decode cF4 21 = .ok (.invokevirtual 36, 3) := by decide +kernel
theorem dF4_24 : decode cF4 24 = .ok (.ireturn, 1) := by decide +kernel
theorem fl_4 (q : Nat) (a : Nat) (c1 : Int32) (c2 : Int32) (c3 : Int32) (c4 : Int32) (x1 : Int32) : fwLoad cF4 [20, 22, 24, 26, 28] 2 21 q [.ref a, .int c1, .int c2, .int c3, .int c4] [.int x1] (([.int c1, .int c2, .int c3, .int c4, .int x1] : List Value).reverse ++ [.ref a]) := by
  intro p l e R s m args below meth c H cells slots Q hx hb hr cell hc hvm hs ls hl kk
  have hl : lv_has ls 2 [(0, .ref q), (1, .int x1)] := hl
  refine lv_aload_n hx hb dF4_0 rfl (lv_at hl 0 rfl) ?_
  refine fw_get hx (i := 0) (v := .ref a) (hr 0 20 rfl) hc hvm (hs 0 _ rfl) (by rw [hb]; exact dF4_1) ?_
  refine lv_aload_n hx hb dF4_4 rfl (lv_at hl 0 rfl) ?_
  refine fw_get hx (i := 1) (v := .int c1) (hr 1 22 rfl) hc hvm (hs 1 _ rfl) (by rw [hb]; exact dF4_5) ?_
  refine lv_aload_n hx hb dF4_8 rfl (lv_at hl 0 rfl) ?_
  refine fw_get hx (i := 2) (v := .int c2) (hr 2 24 rfl) hc hvm (hs 2 _ rfl) (by rw [hb]; exact dF4_9) ?_
  refine lv_aload_n hx hb dF4_12 rfl (lv_at hl 0 rfl) ?_
  refine fw_get hx (i := 3) (v := .int c3) (hr 3 26 rfl) hc hvm (hs 3 _ rfl) (by rw [hb]; exact dF4_13) ?_
  refine lv_aload_n hx hb dF4_16 rfl (lv_at hl 0 rfl) ?_
  refine fw_get hx (i := 4) (v := .int c4) (hr 4 28 rfl) hc hvm (hs 4 _ rfl) (by rw [hb]; exact dF4_17) ?_
  refine lv_iload_n hx hb dF4_20 rfl (lv_at hl 1 rfl) ?_
  exact kk
def cF5 : ByteArray := ⟨#[42, 180, 0, 15, 27, 28, 29, 21, 4, 182, 0, 22, 177]⟩
theorem cF5_l : cF5.data.toList = [42, 180, 0, 15, 27, 28, 29, 21, 4, 182, 0, 22, 177] := rfl
theorem dF5_0 : decode cF5 0 = .ok (.aload_n 0, 1) := by decide +kernel
theorem dF5_1 : decode cF5 1 = .ok (.getfield 15, 3) := by decide +kernel
theorem dF5_4 : decode cF5 4 = .ok (.iload_n 1, 1) := by decide +kernel
theorem dF5_5 : decode cF5 5 = .ok (.iload_n 2, 1) := by decide +kernel
theorem dF5_6 : decode cF5 6 = .ok (.iload_n 3, 1) := by decide +kernel
theorem dF5_7 : decode cF5 7 = .ok (.iload 4, 2) := by decide +kernel
theorem dF5_9 : decode cF5 9 = .ok (.invokevirtual 22, 3) := by decide +kernel
theorem dF5_12 : decode cF5 12 = .ok (.return_, 1) := by decide +kernel
theorem fl_5 (q : Nat) (a : Nat) (x1 : Int32) (x2 : Int32) (x3 : Int32) (x4 : Int32) : fwLoad cF5 [15] 5 9 q [.ref a] [.int x1, .int x2, .int x3, .int x4] (([.int x1, .int x2, .int x3, .int x4] : List Value).reverse ++ [.ref a]) := by
  intro p l e R s m args below meth c H cells slots Q hx hb hr cell hc hvm hs ls hl kk
  have hl : lv_has ls 5 [(0, .ref q), (1, .int x1), (2, .int x2), (3, .int x3), (4, .int x4)] := hl
  refine lv_aload_n hx hb dF5_0 rfl (lv_at hl 0 rfl) ?_
  refine fw_get hx (i := 0) (v := .ref a) (hr 0 15 rfl) hc hvm (hs 0 _ rfl) (by rw [hb]; exact dF5_1) ?_
  refine lv_iload_n hx hb dF5_4 rfl (lv_at hl 1 rfl) ?_
  refine lv_iload_n hx hb dF5_5 rfl (lv_at hl 2 rfl) ?_
  refine lv_iload_n hx hb dF5_6 rfl (lv_at hl 3 rfl) ?_
  refine lv_iload hx hb dF5_7 (lv_at hl 4 rfl) ?_
  exact kk
def cF6 : ByteArray := ⟨#[42, 180, 0, 15, 182, 0, 22, 172]⟩
theorem cF6_l : cF6.data.toList = [42, 180, 0, 15, 182, 0, 22, 172] := rfl
theorem dF6_0 : decode cF6 0 = .ok (.aload_n 0, 1) := by decide +kernel
theorem dF6_1 : decode cF6 1 = .ok (.getfield 15, 3) := by decide +kernel
theorem dF6_4 : decode cF6 4 = .ok (.invokevirtual 22, 3) := by decide +kernel
theorem dF6_7 : decode cF6 7 = .ok (.ireturn, 1) := by decide +kernel
theorem fl_6 (q : Nat) (a : Nat) : fwLoad cF6 [15] 1 4 q [.ref a] [] (([] : List Value).reverse ++ [.ref a]) := by
  intro p l e R s m args below meth c H cells slots Q hx hb hr cell hc hvm hs ls hl kk
  have hl : lv_has ls 1 [(0, .ref q)] := hl
  refine lv_aload_n hx hb dF6_0 rfl (lv_at hl 0 rfl) ?_
  refine fw_get hx (i := 0) (v := .ref a) (hr 0 15 rfl) hc hvm (hs 0 _ rfl) (by rw [hb]; exact dF6_1) ?_
  exact kk
def cF7 : ByteArray := ⟨#[42, 180, 0, 15, 27, 28, 29, 21, 4, 184, 0, 23, 177]⟩
theorem cF7_l : cF7.data.toList = [42, 180, 0, 15, 27, 28, 29, 21, 4, 184, 0, 23, 177] := rfl
theorem dF7_0 : decode cF7 0 = .ok (.aload_n 0, 1) := by decide +kernel
theorem dF7_1 : decode cF7 1 = .ok (.getfield 15, 3) := by decide +kernel
theorem dF7_4 : decode cF7 4 = .ok (.iload_n 1, 1) := by decide +kernel
theorem dF7_5 : decode cF7 5 = .ok (.iload_n 2, 1) := by decide +kernel
theorem dF7_6 : decode cF7 6 = .ok (.iload_n 3, 1) := by decide +kernel
theorem dF7_7 : decode cF7 7 = .ok (.iload 4, 2) := by decide +kernel
theorem dF7_9 : decode cF7 9 = .ok (.invokestatic 23, 3) := by decide +kernel
theorem dF7_12 : decode cF7 12 = .ok (.return_, 1) := by decide +kernel
theorem fl_7 (q : Nat) (a : Nat) (x1 : Int32) (x2 : Int32) (x3 : Int32) (x4 : Int32) : fwLoad cF7 [15] 5 9 q [.ref a] [.int x1, .int x2, .int x3, .int x4] (([.ref a, .int x1, .int x2, .int x3, .int x4] : List Value).reverse ++ []) := by
  intro p l e R s m args below meth c H cells slots Q hx hb hr cell hc hvm hs ls hl kk
  have hl : lv_has ls 5 [(0, .ref q), (1, .int x1), (2, .int x2), (3, .int x3), (4, .int x4)] := hl
  refine lv_aload_n hx hb dF7_0 rfl (lv_at hl 0 rfl) ?_
  refine fw_get hx (i := 0) (v := .ref a) (hr 0 15 rfl) hc hvm (hs 0 _ rfl) (by rw [hb]; exact dF7_1) ?_
  refine lv_iload_n hx hb dF7_4 rfl (lv_at hl 1 rfl) ?_
  refine lv_iload_n hx hb dF7_5 rfl (lv_at hl 2 rfl) ?_
  refine lv_iload_n hx hb dF7_6 rfl (lv_at hl 3 rfl) ?_
  refine lv_iload hx hb dF7_7 (lv_at hl 4 rfl) ?_
  exact kk
def cF8 : ByteArray := ⟨#[42, 180, 0, 17, 42, 180, 0, 19, 182, 0, 27, 172]⟩
theorem cF8_l : cF8.data.toList = [42, 180, 0, 17, 42, 180, 0, 19, 182, 0, 27, 172] := rfl
theorem dF8_0 : decode cF8 0 = .ok (.aload_n 0, 1) := by decide +kernel
theorem dF8_1 : decode cF8 1 = .ok (.getfield 17, 3) := by decide +kernel
theorem dF8_4 : decode cF8 4 = .ok (.aload_n 0, 1) := by decide +kernel
theorem dF8_5 : decode cF8 5 = .ok (.getfield 19, 3) := by decide +kernel
theorem dF8_8 : decode cF8 8 = .ok (.invokevirtual 27, 3) := by decide +kernel
theorem dF8_11 : decode cF8 11 = .ok (.ireturn, 1) := by decide +kernel
theorem fl_8 (q : Nat) (a : Nat) (c1 : Int32) : fwLoad cF8 [17, 19] 1 8 q [.ref a, .int c1] [] (([.int c1] : List Value).reverse ++ [.ref a]) := by
  intro p l e R s m args below meth c H cells slots Q hx hb hr cell hc hvm hs ls hl kk
  have hl : lv_has ls 1 [(0, .ref q)] := hl
  refine lv_aload_n hx hb dF8_0 rfl (lv_at hl 0 rfl) ?_
  refine fw_get hx (i := 0) (v := .ref a) (hr 0 17 rfl) hc hvm (hs 0 _ rfl) (by rw [hb]; exact dF8_1) ?_
  refine lv_aload_n hx hb dF8_4 rfl (lv_at hl 0 rfl) ?_
  refine fw_get hx (i := 1) (v := .int c1) (hr 1 19 rfl) hc hvm (hs 1 _ rfl) (by rw [hb]; exact dF8_5) ?_
  exact kk
def cF9 : ByteArray := ⟨#[42, 180, 0, 18, 42, 180, 0, 20, 42, 180, 0, 22, 182, 0, 29, 177]⟩
theorem cF9_l : cF9.data.toList = [42, 180, 0, 18, 42, 180, 0, 20, 42, 180, 0, 22, 182, 0, 29, 177] := rfl
theorem dF9_0 : decode cF9 0 = .ok (.aload_n 0, 1) := by decide +kernel
theorem dF9_1 : decode cF9 1 = .ok (.getfield 18, 3) := by decide +kernel
theorem dF9_4 : decode cF9 4 = .ok (.aload_n 0, 1) := by decide +kernel
theorem dF9_5 : decode cF9 5 = .ok (.getfield 20, 3) := by decide +kernel
theorem dF9_8 : decode cF9 8 = .ok (.aload_n 0, 1) := by decide +kernel
theorem dF9_9 : decode cF9 9 = .ok (.getfield 22, 3) := by decide +kernel
theorem dF9_12 : decode cF9 12 = .ok (.invokevirtual 29, 3) := by decide +kernel
theorem dF9_15 : decode cF9 15 = .ok (.return_, 1) := by decide +kernel
theorem fl_9 (q : Nat) (a : Nat) (c1 : Int32) (c2 : Int32) : fwLoad cF9 [18, 20, 22] 1 12 q [.ref a, .int c1, .int c2] [] (([.int c1, .int c2] : List Value).reverse ++ [.ref a]) := by
  intro p l e R s m args below meth c H cells slots Q hx hb hr cell hc hvm hs ls hl kk
  have hl : lv_has ls 1 [(0, .ref q)] := hl
  refine lv_aload_n hx hb dF9_0 rfl (lv_at hl 0 rfl) ?_
  refine fw_get hx (i := 0) (v := .ref a) (hr 0 18 rfl) hc hvm (hs 0 _ rfl) (by rw [hb]; exact dF9_1) ?_
  refine lv_aload_n hx hb dF9_4 rfl (lv_at hl 0 rfl) ?_
  refine fw_get hx (i := 1) (v := .int c1) (hr 1 20 rfl) hc hvm (hs 1 _ rfl) (by rw [hb]; exact dF9_5) ?_
  refine lv_aload_n hx hb dF9_8 rfl (lv_at hl 0 rfl) ?_
  refine fw_get hx (i := 2) (v := .int c2) (hr 2 22 rfl) hc hvm (hs 2 _ rfl) (by rw [hb]; exact dF9_9) ?_
  exact kk
