/-! MADE OBJECTS: the sites, one by one (printed by gen/mkfwd.py) -/
def sh0 : Lambda.Shape := { iface := "", name := "", sam := ⟨[], none⟩, captured := [], kind := 0, implClass := "", implName := "", implDesc := ⟨[], none⟩, implItf := false, inst := ⟨[], none⟩ }
def jSw : List Cond := [siteWord_1_1, siteWord_1_2, siteWord_1_3, siteWord_1_4, siteWord_1_5, siteWord_1_6, siteWord_1_7, siteWord_1_8, siteWord_1_9, siteWord_1_10, siteWord_1_11, siteWord_1_12, siteWord_1_13, siteWord_1_14, siteWord_1_15, siteWord_1_16, siteWord_1_17, siteWord_1_18, siteWord_1_19, siteWord_1_20, siteWord_1_21, siteWord_1_22, siteWord_1_23, siteWord_1_24, siteWord_1_25, siteWord_1_26, siteWord_1_27, siteWord_1_28, siteWord_1_29, siteWord_1_30, siteWord_1_31, siteWord_1_32, siteWord_1_33, siteWord_1_34]
def jSh (k : Nat) : Lambda.Shape := ((jSw[k]?).bind jShOf).getD sh0
theorem fk_0 : fwOk (jSh 0) "MergeJudge" [27, 28, 29, 184, 0, 17, 172] 4 (some .int) 17 14 16 13 [] = true := by decide +kernel
theorem fk_1 : fwOk (jSh 1) "MergeJudge" [27, 28, 29, 184, 0, 17, 172] 4 (some .int) 17 14 16 13 [] = true := by decide +kernel
theorem fk_2 : fwOk (jSh 2) "MergeJudge" [27, 28, 29, 184, 0, 17, 172] 4 (some .int) 17 14 16 13 [] = true := by decide +kernel
theorem fk_3 : fwOk (jSh 3) "MergeJudge" [27, 28, 29, 184, 0, 17, 172] 4 (some .int) 17 14 16 13 [] = true := by decide +kernel
theorem fk_4 : fwOk (jSh 4) "MergeJudge" [27, 28, 29, 184, 0, 17, 172] 4 (some .int) 17 14 16 13 [] = true := by decide +kernel
theorem fk_5 : fwOk (jSh 5) "MergeJudge" [27, 28, 29, 184, 0, 17, 172] 4 (some .int) 17 14 16 13 [] = true := by decide +kernel
theorem fk_6 : fwOk (jSh 6) "MergeJudge" [42, 180, 0, 15, 27, 28, 29, 182, 0, 22, 172] 4 (some .int) 22 19 21 18 [15] = true := by decide +kernel
theorem fk_7 : fwOk (jSh 7) "MergeJudge" [42, 180, 0, 15, 27, 28, 29, 182, 0, 22, 172] 4 (some .int) 22 19 21 18 [15] = true := by decide +kernel
theorem fk_8 : fwOk (jSh 8) "MergeJudge" [42, 180, 0, 18, 42, 180, 0, 20, 42, 180, 0, 22, 27, 182, 0, 30, 172] 2 (some .boolean) 30 26 29 25 [18, 20, 22] = true := by decide +kernel
theorem fk_9 : fwOk (jSh 9) "MergeJudge" [42, 180, 0, 18, 42, 180, 0, 20, 42, 180, 0, 22, 27, 182, 0, 30, 172] 2 (some .boolean) 30 26 29 25 [18, 20, 22] = true := by decide +kernel
theorem fk_10 : fwOk (jSh 10) "MergeJudge" [42, 180, 0, 18, 42, 180, 0, 20, 42, 180, 0, 22, 27, 182, 0, 30, 172] 2 (some .boolean) 30 26 29 25 [18, 20, 22] = true := by decide +kernel
theorem fk_11 : fwOk (jSh 11) "MergeJudge" [42, 180, 0, 19, 42, 180, 0, 21, 42, 180, 0, 23, 42, 180, 0, 25, 27, 182, 0, 33, 172] 2 (some .boolean) 33 29 32 28 [19, 21, 23, 25] = true := by decide +kernel
theorem fk_12 : fwOk (jSh 12) "MergeJudge" [42, 180, 0, 18, 42, 180, 0, 20, 42, 180, 0, 22, 27, 182, 0, 30, 172] 2 (some .boolean) 30 26 29 25 [18, 20, 22] = true := by decide +kernel
theorem fk_13 : fwOk (jSh 13) "MergeJudge" [42, 180, 0, 20, 42, 180, 0, 22, 42, 180, 0, 24, 42, 180, 0, 26, 42, 180, 0, 28, 27, 182, 0, 36, 172] 2 (some .boolean) 36 32 35 31 [20, 22, 24, 26, 28] = true := by decide +kernel
theorem fk_14 : fwOk (jSh 14) "MergeJudge" [42, 180, 0, 18, 42, 180, 0, 20, 42, 180, 0, 22, 27, 182, 0, 30, 172] 2 (some .int) 30 26 29 25 [18, 20, 22] = true := by decide +kernel
theorem fk_15 : fwOk (jSh 15) "MergeJudge" [42, 180, 0, 18, 42, 180, 0, 20, 42, 180, 0, 22, 27, 182, 0, 30, 172] 2 (some .int) 30 26 29 25 [18, 20, 22] = true := by decide +kernel
theorem fk_16 : fwOk (jSh 16) "MergeJudge" [42, 180, 0, 18, 42, 180, 0, 20, 42, 180, 0, 22, 27, 182, 0, 30, 172] 2 (some .int) 30 26 29 25 [18, 20, 22] = true := by decide +kernel
theorem fk_17 : fwOk (jSh 17) "MergeJudge" [42, 180, 0, 19, 42, 180, 0, 21, 42, 180, 0, 23, 42, 180, 0, 25, 27, 182, 0, 33, 172] 2 (some .int) 33 29 32 28 [19, 21, 23, 25] = true := by decide +kernel
theorem fk_18 : fwOk (jSh 18) "MergeJudge" [42, 180, 0, 15, 27, 28, 29, 21, 4, 182, 0, 22, 177] 5 none 22 19 21 18 [15] = true := by decide +kernel
theorem fk_19 : fwOk (jSh 19) "MergeJudge" [42, 180, 0, 15, 182, 0, 22, 172] 1 (some .int) 22 19 21 18 [15] = true := by decide +kernel
theorem fk_20 : fwOk (jSh 20) "MergeJudge" [42, 180, 0, 15, 27, 28, 29, 21, 4, 182, 0, 22, 177] 5 none 22 19 21 18 [15] = true := by decide +kernel
theorem fk_21 : fwOk (jSh 21) "MergeJudge" [42, 180, 0, 15, 27, 28, 29, 21, 4, 184, 0, 23, 177] 5 none 23 19 22 18 [15] = true := by decide +kernel
theorem fk_22 : fwOk (jSh 22) "MergeJudge" [42, 180, 0, 15, 27, 28, 29, 21, 4, 182, 0, 22, 177] 5 none 22 19 21 18 [15] = true := by decide +kernel
theorem fk_23 : fwOk (jSh 23) "MergeJudge$Least" [42, 180, 0, 15, 27, 28, 29, 21, 4, 182, 0, 22, 177] 5 none 22 19 21 18 [15] = true := by decide +kernel
theorem fk_24 : fwOk (jSh 24) "MergeJudge" [42, 180, 0, 15, 27, 28, 29, 21, 4, 182, 0, 22, 177] 5 none 22 19 21 18 [15] = true := by decide +kernel
theorem fk_25 : fwOk (jSh 25) "MergeJudge" [42, 180, 0, 15, 182, 0, 22, 172] 1 (some .int) 22 19 21 18 [15] = true := by decide +kernel
theorem fk_26 : fwOk (jSh 26) "MergeJudge" [42, 180, 0, 17, 42, 180, 0, 19, 182, 0, 27, 172] 1 (some .int) 27 23 26 22 [17, 19] = true := by decide +kernel
theorem fk_27 : fwOk (jSh 27) "MergeJudge" [42, 180, 0, 15, 182, 0, 22, 172] 1 (some .int) 22 19 21 18 [15] = true := by decide +kernel
theorem fk_28 : fwOk (jSh 28) "MergeJudge" [42, 180, 0, 15, 182, 0, 22, 172] 1 (some .int) 22 19 21 18 [15] = true := by decide +kernel
theorem fk_29 : fwOk (jSh 29) "MergeJudge" [42, 180, 0, 15, 182, 0, 22, 172] 1 (some .int) 22 19 21 18 [15] = true := by decide +kernel
theorem fk_30 : fwOk (jSh 30) "MergeJudge" [42, 180, 0, 15, 182, 0, 22, 172] 1 (some .int) 22 19 21 18 [15] = true := by decide +kernel
theorem fk_31 : fwOk (jSh 31) "MergeJudge" [42, 180, 0, 15, 182, 0, 22, 172] 1 (some .int) 22 19 21 18 [15] = true := by decide +kernel
theorem fk_32 : fwOk (jSh 32) "MergeJudge" [42, 180, 0, 15, 182, 0, 22, 172] 1 (some .int) 22 19 21 18 [15] = true := by decide +kernel
theorem fk_33 : fwOk (jSh 33) "MergeJudge" [42, 180, 0, 18, 42, 180, 0, 20, 42, 180, 0, 22, 182, 0, 29, 177] 1 none 29 25 28 24 [18, 20, 22] = true := by decide +kernel
