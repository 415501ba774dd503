/-! THE COMPONENT as transformers over its heap, and the walks (printed by gen/genh.py) -/
/-! MergeJudge$Pair.hashCode()I -/
def hX13_hashCode (j : JX) (Λ : JLam) (a0 : Nat) (G : HG) (post : Int32 → HG → Prop) : Prop :=
  gtI G a0 13 0 fun x1 => gtI G a0 13 1 fun x2 => post (((64 : Int32) * x1) + x2) G
abbrev rhX13_hashCode (fr lo : Nat) : Room := { frames := fr + 1, cells := 0, slots := 0, locals := lo + 40 }
theorem mhX13_hashCode (l : Launch) (Z : (Nat → Prop) → State → Heap → Prop) (D : va_G) (j : JX) (Λ : JLam) (fr lo : Nat) (E : JE l Z D j Λ fr lo) (a0 : Nat) (G : HG) (post : Int32 → HG → Prop) (hf : hX13_hashCode j Λ a0 G post) : HMi l yX13_hashCode (ws_ yX13_hashCode cX13_hashCode 1 (some .int)) (rhX13_hashCode fr lo) D jC (jty j.1) Z G [.ref a0] post 0 0 := by
  refine h_openi E.1 (by decide) (by exact Nat.le_of_ble_eq_true rfl) (fun p e s m args below meth c ls A0 Q X hI hnd hnm hl hret => ?_)
  have X : XC p s m args meth c cX13_hashCode 1 RX13 D jC (jty j.1) A0 Z := X
  have hx := X.1
  have hb := X.2.1
  have hown := X.2.2.2.1
  have hts := X.2.2.2.2.1
  have hl : lv_has ls 1 [(0, .ref a0)] := by exact hl
  unfold hX13_hashCode at hf
  obtain ⟨H, eH⟩ : ∃ H, H = s.heap := ⟨_, rfl⟩
  obtain ⟨locs, eL⟩ : ∃ locs : List Loc, locs = [] := ⟨_, rfl⟩
  have hI : HI D jC G A0 s.heap H locs := by rw [eH, eL]; exact hI
  rw [← eL]
  suffices h : W p l e (rhX13_hashCode fr lo) s m args below meth c H locs 0 0 Q (F0 m 0 ls []) by rw [eH] at h; exact h
  clear eH eL
  refine lv_bipush (v := 64) hx hb dX13_hashCode_0 (by decide) ?_
  refine lv_aload_n hx hb dX13_hashCode_2 rfl (lv_at hl 0 rfl) ?_
  refine hr_gtI X hI (rfl : jC.1[13]? = some (RX13, TX13, 2)) in_X13 0 (Nat.le_of_ble_eq_true rfl) hf q2241 (fun _ h => h) dX13_hashCode_3 (fun x1 hf => ?_)
  refine lv_imul hx hb dX13_hashCode_6 ?_
  refine lv_aload_n hx hb dX13_hashCode_7 rfl (lv_at hl 0 rfl) ?_
  refine hr_gtI X hI (rfl : jC.1[13]? = some (RX13, TX13, 2)) in_X13 1 (Nat.le_of_ble_eq_true rfl) hf q2242 (fun _ h => h) dX13_hashCode_8 (fun x2 hf => ?_)
  refine lv_iadd hx hb dX13_hashCode_11 ?_
  exact hret hf hI dX13_hashCode_12 (Nat.le_refl _) (Nat.le_refl _)
/-! MergeJudge.worth(I)I -/
def hX0_worth (j : JX) (Λ : JLam) (a0 : Nat) (p1 : Int32) (mc ms : Nat) (G : HG) (post : Int32 → HG → Prop) : Prop :=
  gtQ G a0 0 1 fun q1 => nnq q1 fun a2 => isO G a2 2 (hX2_is j Λ a2 G fun x4 G3 => (x4 = 0 → (post ((-2) : Int32) G3)) ∧ (¬ x4 = 0 → (isO G3 a0 0 (hX0_every j Λ a0 G3 fun x7 G6 => hX0_in j Λ p1.toInt64 (0 : Int64) x7.toInt64 G6 fun x9 G8 => (x9 = 0 → (post ((-2) : Int32) G8)) ∧ (¬ x9 = 0 → (1 ≤ mc ∧ 1 ≤ ms ∧ mkO G8 (.inr (51, .ref a0 :: ([] : List Int32).map .int)) fun a11 G12 => isO G12 a0 0 (∃ m13 m14 : Nat, m13 ≤ mc - 1 ∧ m14 ≤ ms - 1 ∧ hX0_under j Λ a0 p1 a11 m13 m14 G12 fun x16 G15 => post x16 G15)))))))
abbrev rhX0_worth (fr lo mc ms : Nat) : Room := { frames := fr + 5, cells := mc, slots := ms, locals := lo + 3200 }
theorem mhX0_worth (l : Launch) (Z : (Nat → Prop) → State → Heap → Prop) (D : va_G) (j : JX) (Λ : JLam) (fr lo : Nat) (E : JE l Z D j Λ fr lo) (a0 : Nat) (p1 : Int32) (mc ms : Nat) (G : HG) (post : Int32 → HG → Prop) (hf : hX0_worth j Λ a0 p1 mc ms G post) : HMi l yX0_worth (ws_ yX0_worth cX0_worth 2 (some .int)) (rhX0_worth fr lo mc ms) D jC (jty j.1) Z G [.ref a0, .int p1] post mc ms := by
  obtain ⟨MC, eMC⟩ : ∃ MC, MC = mc := ⟨_, rfl⟩
  obtain ⟨MS, eMS⟩ : ∃ MS, MS = ms := ⟨_, rfl⟩
  suffices goal : HMi l yX0_worth (ws_ yX0_worth cX0_worth 2 (some .int)) (rhX0_worth fr lo MC MS) D jC (jty j.1) Z G [.ref a0, .int p1] post MC MS by rw [eMC, eMS] at goal; exact goal
  have hm0_ : 0 + mc ≤ MC ∧ 0 + ms ≤ MS := by omega
  clear eMC eMS
  refine h_openi E.1 (by decide) (by exact Nat.le_of_ble_eq_true rfl) (fun p e s m args below meth c ls A0 Q X hI hnd hnm hl hret => ?_)
  have X : XC p s m args meth c cX0_worth 2 RX0 D jC (jty j.1) A0 Z := X
  have hx := X.1
  have hb := X.2.1
  have hown := X.2.2.2.1
  have hts := X.2.2.2.2.1
  have hl : lv_has ls 2 [(0, .ref a0), (1, .int p1)] := by exact hl
  unfold hX0_worth at hf
  obtain ⟨H, eH⟩ : ∃ H, H = s.heap := ⟨_, rfl⟩
  obtain ⟨locs, eL⟩ : ∃ locs : List Loc, locs = [] := ⟨_, rfl⟩
  have hI : HI D jC G A0 s.heap H locs := by rw [eH, eL]; exact hI
  rw [← eL]
  obtain ⟨cells, eC⟩ : ∃ n : Nat, n = 0 := ⟨_, rfl⟩
  obtain ⟨slots, eS⟩ : ∃ n : Nat, n = 0 := ⟨_, rfl⟩
  have hm : cells + mc ≤ MC ∧ slots + ms ≤ MS := by rw [eC, eS]; exact hm0_
  suffices h : W p l e (rhX0_worth fr lo MC MS) s m args below meth c H locs cells slots Q (F0 m 0 ls []) by rw [eH, eC, eS] at h; exact h
  clear eH eL eC eS
  refine lv_aload_n hx hb dX0_worth_0 rfl (lv_at hl 0 rfl) ?_
  refine hr_gtQ X hI (rfl : jC.1[0]? = some (RX0, TX0, 20)) in_X0 1 (Nat.le_of_ble_eq_true rfl) hf q653 (fun _ h => h) dX0_worth_1 (fun q1 hf => ?_)
  obtain ⟨a2, ea2, hf⟩ := hf
  revert hl hf
  subst ea2
  intro hl hf
  have hl : lv_has ls 2 [(0, .ref a0), (1, .int p1)] := hl
  obtain ⟨_, _, hO, hf⟩ := hf
  refine h_ki X hI (h_runV (As := []) X hI (h_recv X hI hO (show jC.1[2]? = some (RX2, TX2, 11) from rfl)) (mhX2_is l Z D j Λ fr lo E a2 G _ hf H.size) (cwV 0 hts (lw_V q1839 q1840 q1841 q169 q1842) rfl rfl rfl (by decide +kernel) (by show fr + 1 + 1 ≤ fr + 5 ∧ 8 + (1 + 11) + (lo + 40) ≤ lo + 3200; omega)) rfl hl.1 (Nat.le_of_ble_eq_true rfl) dX0_worth_4 ⟨hm0 hm.1, hm0 hm.2⟩ rfl) (fun x4 G3 H locs hf hI => ?_)
  clear hO
  refine lv_if_eq (tgt := 38) hx hb dX0_worth_7 (by decide) (fun c5 => ?_) (fun c5 => ?_)
  · have hf := hf.1 c5
    refine lv_bipush (v := -2) hx hb dX0_worth_38 (by decide) ?_
    exact hret hf hI dX0_worth_40 (hmC hm.1) (hmC hm.2)
  · have hf := hf.2 c5
    refine lv_iload_n hx hb dX0_worth_10 rfl (lv_at hl 1 rfl) ?_
    refine lv_i2l hx hb dX0_worth_11 rfl ?_
    refine lv_lconst (v := 0) hx hb dX0_worth_12 (by decide) ?_
    refine lv_aload_n hx hb dX0_worth_13 rfl (lv_at hl 0 rfl) ?_
    obtain ⟨_, _, hO, hf⟩ := hf
    refine h_ki X hI (h_runV (As := []) X hI (h_recv X hI hO (show jC.1[0]? = some (RX0, TX0, 20) from rfl)) (mhX0_every l Z D j Λ fr lo E a0 G3 _ hf H.size) (cwV 0 hts (lw_V q2072 q2074 qs54 q167 q2075) rfl rfl rfl (by decide +kernel) (by show fr + 2 + 1 ≤ fr + 5 ∧ 8 + (1 + 11) + (lo + 60) ≤ lo + 3200; omega)) rfl hl.1 (Nat.le_of_ble_eq_true rfl) dX0_worth_14 ⟨hm0 hm.1, hm0 hm.2⟩ rfl) (fun x7 G6 H locs hf hI => ?_)
    clear hO
    refine lv_i2l hx hb dX0_worth_17 rfl ?_
    refine h_ki X hI (h_runS (As := [.long p1.toInt64, .long 0, .long x7.toInt64]) X hI (mhX0_in l Z D j Λ fr lo E p1.toInt64 (0 : Int64) x7.toInt64 G6 _ hf H.size) (va_cwS 3 hts (lw_S q226 q227 q167 q228) rfl rfl rfl (by decide +kernel) (by show fr + 1 + 1 ≤ fr + 5 ∧ 8 + (6 + 11) + (lo + 40) ≤ lo + 3200; omega)) rfl hl.1 (Nat.le_of_ble_eq_true rfl) dX0_worth_18 ⟨hm0 hm.1, hm0 hm.2⟩ rfl) (fun x9 G8 H locs hf hI => ?_)
    refine lv_if_eq (tgt := 38) hx hb dX0_worth_21 (by decide) (fun c10 => ?_) (fun c10 => ?_)
    · have hf := hf.1 c10
      refine lv_bipush (v := -2) hx hb dX0_worth_38 (by decide) ?_
      exact hret hf hI dX0_worth_40 (hmC hm.1) (hmC hm.2)
    · have hf := hf.2 c10
      refine lv_aload_n hx hb dX0_worth_24 rfl (lv_at hl 0 rfl) ?_
      refine lv_iload_n hx hb dX0_worth_25 rfl (lv_at hl 1 rfl) ?_
      refine lv_aload_n hx hb dX0_worth_26 rfl (lv_at hl 0 rfl) ?_
      obtain ⟨hb1, hb2, hf⟩ := hf
      refine E.2.2.2.1 28 yX0_worth 27 480 a0 [] rfl (rest := [.int p1, .ref a0]) X hI hnd hl.1 (Nat.le_of_ble_eq_true rfl) dX0_worth_27 (by show 3200 ≤ lo + 3200; omega) (hmA hm.1 hb1) (hmA hm.2 hb2) hf (fun a11 G12 H hf hI => ?_)
      have hm := And.intro (hmB hm.1 hb1) (hmB hm.2 hb2)
      clear hb1 hb2
      obtain ⟨_, _, hO, hf⟩ := hf
      obtain ⟨m13, m14, hb1, hb2, hf⟩ := hf
      refine h_ki X hI (h_runV (As := [.int p1, .ref a11]) X hI (h_recv X hI hO (show jC.1[0]? = some (RX0, TX0, 20) from rfl)) (mhX0_under l Z D j Λ fr lo E a0 p1 a11 m13 m14 G12 _ hf H.size) (cwV 2 hts (lw_V q2079 q2081 qs56 q167 q2082) rfl rfl rfl (by decide +kernel) (by show fr + 4 + 1 ≤ fr + 5 ∧ 8 + (4 + 11) + (lo + 105) ≤ lo + 3200; omega)) rfl hl.1 (Nat.le_of_ble_eq_true rfl) dX0_worth_32 ⟨hmA hm.1 hb1, hmA hm.2 hb2⟩ rfl) (fun x16 G15 H locs hf hI => ?_)
      have hm := And.intro (hmB hm.1 hb1) (hmB hm.2 hb2)
      clear hb1 hb2
      clear hO
      refine lv_goto (tgt := 40) hx hb dX0_worth_35 (by decide) ?_
      exact hret hf hI dX0_worth_40 (hmC hm.1) (hmC hm.2)
/-! MergeJudge.lambda$worth$20()I -/
def hX0_lambda_worth_20 (j : JX) (Λ : JLam) (a0 : Nat) (mc ms : Nat) (G : HG) (post : Int32 → HG → Prop) : Prop :=
  isO G a0 0 (∃ m1 m2 : Nat, m1 ≤ mc ∧ m2 ≤ ms ∧ hX0_allIn j Λ a0 (1 : Int32) m1 m2 G fun x4 G3 => post x4 G3)
abbrev rhX0_lambda_worth_20 (fr lo mc ms : Nat) : Room := { frames := fr + 7, cells := mc, slots := ms, locals := lo + 3221 }
theorem mhX0_lambda_worth_20 (l : Launch) (Z : (Nat → Prop) → State → Heap → Prop) (D : va_G) (j : JX) (Λ : JLam) (fr lo : Nat) (E : JE l Z D j Λ fr lo) (a0 : Nat) (mc ms : Nat) (G : HG) (post : Int32 → HG → Prop) (hf : hX0_lambda_worth_20 j Λ a0 mc ms G post) : HMi l yX0_lambda_worth_20 (ws_ yX0_lambda_worth_20 cX0_lambda_worth_20 1 (some .int)) (rhX0_lambda_worth_20 fr lo mc ms) D jC (jty j.1) Z G [.ref a0] post mc ms := by
  obtain ⟨MC, eMC⟩ : ∃ MC, MC = mc := ⟨_, rfl⟩
  obtain ⟨MS, eMS⟩ : ∃ MS, MS = ms := ⟨_, rfl⟩
  suffices goal : HMi l yX0_lambda_worth_20 (ws_ yX0_lambda_worth_20 cX0_lambda_worth_20 1 (some .int)) (rhX0_lambda_worth_20 fr lo MC MS) D jC (jty j.1) Z G [.ref a0] post MC MS by rw [eMC, eMS] at goal; exact goal
  have hm0_ : 0 + mc ≤ MC ∧ 0 + ms ≤ MS := by omega
  clear eMC eMS
  refine h_openi E.1 (by decide) (by exact Nat.le_of_ble_eq_true rfl) (fun p e s m args below meth c ls A0 Q X hI hnd hnm hl hret => ?_)
  have X : XC p s m args meth c cX0_lambda_worth_20 1 RX0 D jC (jty j.1) A0 Z := X
  have hx := X.1
  have hb := X.2.1
  have hown := X.2.2.2.1
  have hts := X.2.2.2.2.1
  have hl : lv_has ls 1 [(0, .ref a0)] := by exact hl
  unfold hX0_lambda_worth_20 at hf
  obtain ⟨H, eH⟩ : ∃ H, H = s.heap := ⟨_, rfl⟩
  obtain ⟨locs, eL⟩ : ∃ locs : List Loc, locs = [] := ⟨_, rfl⟩
  have hI : HI D jC G A0 s.heap H locs := by rw [eH, eL]; exact hI
  rw [← eL]
  obtain ⟨cells, eC⟩ : ∃ n : Nat, n = 0 := ⟨_, rfl⟩
  obtain ⟨slots, eS⟩ : ∃ n : Nat, n = 0 := ⟨_, rfl⟩
  have hm : cells + mc ≤ MC ∧ slots + ms ≤ MS := by rw [eC, eS]; exact hm0_
  suffices h : W p l e (rhX0_lambda_worth_20 fr lo MC MS) s m args below meth c H locs cells slots Q (F0 m 0 ls []) by rw [eH, eC, eS] at h; exact h
  clear eH eL eC eS
  refine lv_aload_n hx hb dX0_lambda_worth_20_0 rfl (lv_at hl 0 rfl) ?_
  refine lv_iconst (v := 1) hx hb dX0_lambda_worth_20_1 (by decide) ?_
  obtain ⟨_, _, hO, hf⟩ := hf
  obtain ⟨m1, m2, hb1, hb2, hf⟩ := hf
  refine h_ki X hI (h_runV (As := [.int 1]) X hI (h_recv X hI hO (show jC.1[0]? = some (RX0, TX0, 20) from rfl)) (mhX0_allIn l Z D j Λ fr lo E a0 (1 : Int32) m1 m2 G _ hf H.size) (cwV 1 hts (lw_V q2201 q2203 qs60 q167 q2204) rfl rfl rfl (by decide +kernel) (by show fr + 6 + 1 ≤ fr + 7 ∧ 8 + (2 + 11) + (lo + 3200) ≤ lo + 3221; omega)) rfl hl.1 (Nat.le_of_ble_eq_true rfl) dX0_lambda_worth_20_2 ⟨hmA hm.1 hb1, hmA hm.2 hb2⟩ rfl) (fun x4 G3 H locs hf hI => ?_)
  have hm := And.intro (hmB hm.1 hb1) (hmB hm.2 hb2)
  clear hb1 hb2
  clear hO
  exact hret hf hI dX0_lambda_worth_20_5 (hmC hm.1) (hmC hm.2)
/-! MergeJudge.isBit(I)Z -/
def hX0_isBit (j : JX) (Λ : JLam) (p0 : Int32) (G : HG) (post : Int32 → HG → Prop) : Prop :=
  hX0_in j Λ p0.toInt64 (0 : Int64) (1 : Int64) G fun x2 G1 => zB x2 ∧ post x2 G1
abbrev rhX0_isBit (fr lo : Nat) : Room := { frames := fr + 2, cells := 0, slots := 0, locals := lo + 65 }
theorem mhX0_isBit (l : Launch) (Z : (Nat → Prop) → State → Heap → Prop) (D : va_G) (j : JX) (Λ : JLam) (fr lo : Nat) (E : JE l Z D j Λ fr lo) (p0 : Int32) (G : HG) (post : Int32 → HG → Prop) (hf : hX0_isBit j Λ p0 G post) : HMi l yX0_isBit (ws_ yX0_isBit cX0_isBit 1 (some .boolean)) (rhX0_isBit fr lo) D jC (jty j.1) Z G [.int p0] post 0 0 := by
  refine h_openz E.1 (by decide) (by exact Nat.le_of_ble_eq_true rfl) (fun p e s m args below meth c ls A0 Q X hI hnd hnm hl hret => ?_)
  have X : XC p s m args meth c cX0_isBit 1 RX0 D jC (jty j.1) A0 Z := X
  have hx := X.1
  have hb := X.2.1
  have hown := X.2.2.2.1
  have hts := X.2.2.2.2.1
  have hl : lv_has ls 1 [(0, .int p0)] := by exact hl
  unfold hX0_isBit at hf
  obtain ⟨H, eH⟩ : ∃ H, H = s.heap := ⟨_, rfl⟩
  obtain ⟨locs, eL⟩ : ∃ locs : List Loc, locs = [] := ⟨_, rfl⟩
  have hI : HI D jC G A0 s.heap H locs := by rw [eH, eL]; exact hI
  rw [← eL]
  suffices h : W p l e (rhX0_isBit fr lo) s m args below meth c H locs 0 0 Q (F0 m 0 ls []) by rw [eH] at h; exact h
  clear eH eL
  refine lv_iload_n hx hb dX0_isBit_0 rfl (lv_at hl 0 rfl) ?_
  refine lv_i2l hx hb dX0_isBit_1 rfl ?_
  refine lv_lconst (v := 0) hx hb dX0_isBit_2 (by decide) ?_
  refine lv_lconst (v := 1) hx hb dX0_isBit_3 (by decide) ?_
  refine h_ki X hI (h_runS (As := [.long p0.toInt64, .long 0, .long 1]) X hI (mhX0_in l Z D j Λ fr lo E p0.toInt64 (0 : Int64) (1 : Int64) G _ hf H.size) (va_cwS 3 hts (lw_S q226 q227 q167 q228) rfl rfl rfl (by decide +kernel) (by show fr + 1 + 1 ≤ fr + 2 ∧ 8 + (6 + 11) + (lo + 40) ≤ lo + 65; omega)) rfl hl.1 (Nat.le_of_ble_eq_true rfl) dX0_isBit_4 ⟨Nat.le_refl _, Nat.le_refl _⟩ rfl) (fun x2 G1 H locs hf hI => ?_)
  obtain ⟨hz, hf⟩ := hf
  exact hret (zB_n hz) hf hI dX0_isBit_7 (Nat.le_refl _) (Nat.le_refl _)
/-! MergeJudge.areTwo(II)Z -/
def hX0_areTwo (j : JX) (Λ : JLam) (a0 : Nat) (p1 : Int32) (p2 : Int32) (G : HG) (post : Int32 → HG → Prop) : Prop :=
  isO G a0 0 (hX0_isOp j Λ a0 p1 G fun x2 G1 => (x2 = 0 → (post (0 : Int32) G1)) ∧ (¬ x2 = 0 → (isO G1 a0 0 (hX0_isOp j Λ a0 p2 G1 fun x5 G4 => (x5 = 0 → (post (0 : Int32) G4)) ∧ (¬ x5 = 0 → ((p1 = p2 → (post (0 : Int32) G4)) ∧ (¬ p1 = p2 → (post (1 : Int32) G4))))))))
abbrev rhX0_areTwo (fr lo : Nat) : Room := { frames := fr + 3, cells := 0, slots := 0, locals := lo + 86 }
theorem mhX0_areTwo (l : Launch) (Z : (Nat → Prop) → State → Heap → Prop) (D : va_G) (j : JX) (Λ : JLam) (fr lo : Nat) (E : JE l Z D j Λ fr lo) (a0 : Nat) (p1 : Int32) (p2 : Int32) (G : HG) (post : Int32 → HG → Prop) (hf : hX0_areTwo j Λ a0 p1 p2 G post) : HMi l yX0_areTwo (ws_ yX0_areTwo cX0_areTwo 3 (some .boolean)) (rhX0_areTwo fr lo) D jC (jty j.1) Z G [.ref a0, .int p1, .int p2] post 0 0 := by
  refine h_openz E.1 (by decide) (by exact Nat.le_of_ble_eq_true rfl) (fun p e s m args below meth c ls A0 Q X hI hnd hnm hl hret => ?_)
  have X : XC p s m args meth c cX0_areTwo 3 RX0 D jC (jty j.1) A0 Z := X
  have hx := X.1
  have hb := X.2.1
  have hown := X.2.2.2.1
  have hts := X.2.2.2.2.1
  have hl : lv_has ls 3 [(0, .ref a0), (1, .int p1), (2, .int p2)] := by exact hl
  unfold hX0_areTwo at hf
  obtain ⟨H, eH⟩ : ∃ H, H = s.heap := ⟨_, rfl⟩
  obtain ⟨locs, eL⟩ : ∃ locs : List Loc, locs = [] := ⟨_, rfl⟩
  have hI : HI D jC G A0 s.heap H locs := by rw [eH, eL]; exact hI
  rw [← eL]
  suffices h : W p l e (rhX0_areTwo fr lo) s m args below meth c H locs 0 0 Q (F0 m 0 ls []) by rw [eH] at h; exact h
  clear eH eL
  refine lv_aload_n hx hb dX0_areTwo_0 rfl (lv_at hl 0 rfl) ?_
  refine lv_iload_n hx hb dX0_areTwo_1 rfl (lv_at hl 1 rfl) ?_
  obtain ⟨_, _, hO, hf⟩ := hf
  refine h_ki X hI (h_runV (As := [.int p1]) X hI (h_recv X hI hO (show jC.1[0]? = some (RX0, TX0, 20) from rfl)) (mhX0_isOp l Z D j Λ fr lo E a0 p1 G _ hf H.size) (cwV 1 hts (lw_V q2047 q2049 qs51 q167 q2050) rfl rfl rfl (by decide +kernel) (by show fr + 2 + 1 ≤ fr + 3 ∧ 8 + (2 + 11) + (lo + 65) ≤ lo + 86; omega)) rfl hl.1 (Nat.le_of_ble_eq_true rfl) dX0_areTwo_2 ⟨Nat.le_refl _, Nat.le_refl _⟩ rfl) (fun x2 G1 H locs hf hI => ?_)
  clear hO
  refine lv_if_eq (tgt := 25) hx hb dX0_areTwo_5 (by decide) (fun c3 => ?_) (fun c3 => ?_)
  · have hf := hf.1 c3
    refine lv_iconst (v := 0) hx hb dX0_areTwo_25 (by decide) ?_
    exact hret rfl hf hI dX0_areTwo_26 (Nat.le_refl _) (Nat.le_refl _)
  · have hf := hf.2 c3
    refine lv_aload_n hx hb dX0_areTwo_8 rfl (lv_at hl 0 rfl) ?_
    refine lv_iload_n hx hb dX0_areTwo_9 rfl (lv_at hl 2 rfl) ?_
    obtain ⟨_, _, hO, hf⟩ := hf
    refine h_ki X hI (h_runV (As := [.int p2]) X hI (h_recv X hI hO (show jC.1[0]? = some (RX0, TX0, 20) from rfl)) (mhX0_isOp l Z D j Λ fr lo E a0 p2 G1 _ hf H.size) (cwV 1 hts (lw_V q2047 q2049 qs51 q167 q2050) rfl rfl rfl (by decide +kernel) (by show fr + 2 + 1 ≤ fr + 3 ∧ 8 + (2 + 11) + (lo + 65) ≤ lo + 86; omega)) rfl hl.1 (Nat.le_of_ble_eq_true rfl) dX0_areTwo_10 ⟨Nat.le_refl _, Nat.le_refl _⟩ rfl) (fun x5 G4 H locs hf hI => ?_)
    clear hO
    refine lv_if_eq (tgt := 25) hx hb dX0_areTwo_13 (by decide) (fun c6 => ?_) (fun c6 => ?_)
    · have hf := hf.1 c6
      refine lv_iconst (v := 0) hx hb dX0_areTwo_25 (by decide) ?_
      exact hret rfl hf hI dX0_areTwo_26 (Nat.le_refl _) (Nat.le_refl _)
    · have hf := hf.2 c6
      refine lv_iload_n hx hb dX0_areTwo_16 rfl (lv_at hl 1 rfl) ?_
      refine lv_iload_n hx hb dX0_areTwo_17 rfl (lv_at hl 2 rfl) ?_
      refine lv_icmp_eq (tgt := 25) hx hb dX0_areTwo_18 (by decide) (fun c7 => ?_) (fun c7 => ?_)
      · have hf := hf.1 c7
        refine lv_iconst (v := 0) hx hb dX0_areTwo_25 (by decide) ?_
        exact hret rfl hf hI dX0_areTwo_26 (Nat.le_refl _) (Nat.le_refl _)
      · have hf := hf.2 c7
        refine lv_iconst (v := 1) hx hb dX0_areTwo_21 (by decide) ?_
        refine lv_goto (tgt := 26) hx hb dX0_areTwo_22 (by decide) ?_
        exact hret rfl hf hI dX0_areTwo_26 (Nat.le_refl _) (Nat.le_refl _)
/-! MergeJudge.getsOf(IIIII)I -/
def hX0_getsOf_b45 (j : JX) (Λ : JLam) (a0 : Nat) (p1 : Int32) (p2 : Int32) (p3 : Int32) (p4 : Int32) (p5 : Int32) (post : Int32 → HG → Prop) (z0 : Int32) (z1 : Int32) (z2 : Int32) (mc ms : Nat) (G : HG) : Prop :=
  gtQ G a0 0 1 fun q12 => nnq q12 fun a13 => gtI G a13 2 9 fun x14 => ptV G a0 0 13 (.int x14) fun G15 => post (z0 - (z1 * z2)) G15
def hX0_getsOf (j : JX) (Λ : JLam) (a0 : Nat) (p1 : Int32) (p2 : Int32) (p3 : Int32) (p4 : Int32) (p5 : Int32) (mc ms : Nat) (G : HG) (post : Int32 → HG → Prop) : Prop :=
  gtQ G a0 0 1 fun q1 => nnq q1 fun a2 => gtI G a2 2 9 fun x3 => ptV G a0 0 13 (.int ((x3 ||| (p4 <<< (p2 &&& 31))) ||| (p5 <<< (p3 &&& 31)))) fun G4 => isO G4 a0 0 (hX0_worksOf j Λ a0 p1 G4 fun x6 G5 => isO G5 a0 0 (∃ m7 m8 : Nat, m7 ≤ mc ∧ m8 ≤ ms ∧ hX0_allIn j Λ a0 (1 : Int32) m7 m8 G5 fun x10 G9 => (p1 = p2 → (hX0_getsOf_b45 j Λ a0 p1 p2 p3 p4 p5 post (x6 - x10) (2 : Int32) p4 (mc - m7) (ms - m8) G9)) ∧ (¬ p1 = p2 → (hX0_getsOf_b45 j Λ a0 p1 p2 p3 p4 p5 post (x6 - x10) (2 : Int32) p5 (mc - m7) (ms - m8) G9))))
abbrev rhX0_getsOf (fr lo mc ms : Nat) : Room := { frames := fr + 7, cells := mc, slots := ms, locals := lo + 3221 }
theorem mhX0_getsOf (l : Launch) (Z : (Nat → Prop) → State → Heap → Prop) (D : va_G) (j : JX) (Λ : JLam) (fr lo : Nat) (E : JE l Z D j Λ fr lo) (a0 : Nat) (p1 : Int32) (p2 : Int32) (p3 : Int32) (p4 : Int32) (p5 : Int32) (mc ms : Nat) (G : HG) (post : Int32 → HG → Prop) (hf : hX0_getsOf j Λ a0 p1 p2 p3 p4 p5 mc ms G post) : HMi l yX0_getsOf (ws_ yX0_getsOf cX0_getsOf 7 (some .int)) (rhX0_getsOf fr lo mc ms) D jC (jty j.1) Z G [.ref a0, .int p1, .int p2, .int p3, .int p4, .int p5] post mc ms := by
  obtain ⟨MC, eMC⟩ : ∃ MC, MC = mc := ⟨_, rfl⟩
  obtain ⟨MS, eMS⟩ : ∃ MS, MS = ms := ⟨_, rfl⟩
  suffices goal : HMi l yX0_getsOf (ws_ yX0_getsOf cX0_getsOf 7 (some .int)) (rhX0_getsOf fr lo MC MS) D jC (jty j.1) Z G [.ref a0, .int p1, .int p2, .int p3, .int p4, .int p5] post MC MS by rw [eMC, eMS] at goal; exact goal
  have hm0_ : 0 + mc ≤ MC ∧ 0 + ms ≤ MS := by omega
  clear eMC eMS
  refine h_openi E.1 (by decide) (by exact Nat.le_of_ble_eq_true rfl) (fun p e s m args below meth c ls A0 Q X hI hnd hnm hl hret => ?_)
  have X : XC p s m args meth c cX0_getsOf 7 RX0 D jC (jty j.1) A0 Z := X
  have hx := X.1
  have hb := X.2.1
  have hown := X.2.2.2.1
  have hts := X.2.2.2.2.1
  have J45 : ∀ (z0 : Int32) (z1 : Int32) (z2 : Int32) (mc ms : Nat) (G : HG), hX0_getsOf_b45 j Λ a0 p1 p2 p3 p4 p5 post z0 z1 z2 mc ms G → ∀ (cells slots : Nat), cells + mc ≤ MC ∧ slots + ms ≤ MS → ∀ (H : Heap) (locs : List Loc), HI D jC G A0 s.heap H locs → ∀ (ls : Array Slot), lv_has ls 7 [(0, .ref a0)] → W p l e (rhX0_getsOf fr lo MC MS) s m args below meth c H locs cells slots Q (F0 m 45 ls [.int z2, .int z1, .int z0]) := by
    intro z0 z1 z2 mc ms G hf cells slots hm H locs hI ls hl
    unfold hX0_getsOf_b45 at hf
    refine lv_imul hx hb dX0_getsOf_45 ?_
    refine lv_isub hx hb dX0_getsOf_46 ?_
    refine lv_istore (lv' := [(6, .int (z0 - (z1 * z2))), (0, .ref a0)]) hx hb dX0_getsOf_47 hl (by decide) rfl (fun ls hl => ?_)
    refine lv_aload_n hx hb dX0_getsOf_49 rfl (lv_at hl 1 rfl) ?_
    refine lv_aload_n hx hb dX0_getsOf_50 rfl (lv_at hl 1 rfl) ?_
    refine hr_gtQ X hI (rfl : jC.1[0]? = some (RX0, TX0, 20)) in_X0 1 (Nat.le_of_ble_eq_true rfl) hf q653 (fun _ h => h) dX0_getsOf_51 (fun q12 hf => ?_)
    obtain ⟨a13, ea13, hf⟩ := hf
    revert hl hf
    subst ea13
    intro hl hf
    have hl : lv_has ls 7 [(6, .int (z0 - (z1 * z2))), (0, .ref a0)] := hl
    refine hr_gtIN X hI (rfl : jC.1[2]? = some (RX2, TX2, 11)) in_X2 9 (Nat.le_of_ble_eq_true rfl) hf (E.nw X q505 rfl) (fun _ h => h) dX0_getsOf_54 (fun x14 hf => ?_)
    refine hr_pt X hI (rfl : jC.1[0]? = some (RX0, TX0, 20)) in_X0 13 (Nat.le_of_ble_eq_true rfl) tyX0 tyX0_ok nmX0 hf q667 (fun _ h => h) rfl rfl rfl dX0_getsOf_57 (fun G15 H locs hf hI => ?_)
    refine lv_iload hx hb dX0_getsOf_60 (lv_at hl 0 rfl) ?_
    exact hret hf hI dX0_getsOf_62 (hmC hm.1) (hmC hm.2)
  have hl : lv_has ls 7 [(0, .ref a0), (1, .int p1), (2, .int p2), (3, .int p3), (4, .int p4), (5, .int p5)] := by exact hl
  unfold hX0_getsOf at hf
  obtain ⟨H, eH⟩ : ∃ H, H = s.heap := ⟨_, rfl⟩
  obtain ⟨locs, eL⟩ : ∃ locs : List Loc, locs = [] := ⟨_, rfl⟩
  have hI : HI D jC G A0 s.heap H locs := by rw [eH, eL]; exact hI
  rw [← eL]
  obtain ⟨cells, eC⟩ : ∃ n : Nat, n = 0 := ⟨_, rfl⟩
  obtain ⟨slots, eS⟩ : ∃ n : Nat, n = 0 := ⟨_, rfl⟩
  have hm : cells + mc ≤ MC ∧ slots + ms ≤ MS := by rw [eC, eS]; exact hm0_
  suffices h : W p l e (rhX0_getsOf fr lo MC MS) s m args below meth c H locs cells slots Q (F0 m 0 ls []) by rw [eH, eC, eS] at h; exact h
  clear eH eL eC eS
  refine lv_aload_n hx hb dX0_getsOf_0 rfl (lv_at hl 0 rfl) ?_
  refine lv_aload_n hx hb dX0_getsOf_1 rfl (lv_at hl 0 rfl) ?_
  refine hr_gtQ X hI (rfl : jC.1[0]? = some (RX0, TX0, 20)) in_X0 1 (Nat.le_of_ble_eq_true rfl) hf q653 (fun _ h => h) dX0_getsOf_2 (fun q1 hf => ?_)
  obtain ⟨a2, ea2, hf⟩ := hf
  revert hl hf
  subst ea2
  intro hl hf
  have hl : lv_has ls 7 [(0, .ref a0), (1, .int p1), (2, .int p2), (3, .int p3), (4, .int p4), (5, .int p5)] := hl
  refine hr_gtIN X hI (rfl : jC.1[2]? = some (RX2, TX2, 11)) in_X2 9 (Nat.le_of_ble_eq_true rfl) hf (E.nw X q505 rfl) (fun _ h => h) dX0_getsOf_5 (fun x3 hf => ?_)
  refine lv_iload hx hb dX0_getsOf_8 (lv_at hl 4 rfl) ?_
  refine lv_iload_n hx hb dX0_getsOf_10 rfl (lv_at hl 2 rfl) ?_
  refine lv_ishl hx hb dX0_getsOf_11 ?_
  refine lv_ior hx hb dX0_getsOf_12 ?_
  refine lv_iload hx hb dX0_getsOf_13 (lv_at hl 5 rfl) ?_
  refine lv_iload_n hx hb dX0_getsOf_15 rfl (lv_at hl 3 rfl) ?_
  refine lv_ishl hx hb dX0_getsOf_16 ?_
  refine lv_ior hx hb dX0_getsOf_17 ?_
  refine hr_pt X hI (rfl : jC.1[0]? = some (RX0, TX0, 20)) in_X0 13 (Nat.le_of_ble_eq_true rfl) tyX0 tyX0_ok nmX0 hf q667 (fun _ h => h) rfl rfl rfl dX0_getsOf_18 (fun G4 H locs hf hI => ?_)
  refine lv_aload_n hx hb dX0_getsOf_21 rfl (lv_at hl 0 rfl) ?_
  refine lv_iload_n hx hb dX0_getsOf_22 rfl (lv_at hl 1 rfl) ?_
  obtain ⟨_, _, hO, hf⟩ := hf
  refine h_ki X hI (h_runV (As := [.int p1]) X hI (h_recv X hI hO (show jC.1[0]? = some (RX0, TX0, 20) from rfl)) (mhX0_worksOf l Z D j Λ fr lo E a0 p1 G4 _ hf H.size) (cwV 1 hts (lw_V q2156 q2158 qs58 q167 q2159) rfl rfl rfl (by decide +kernel) (by show fr + 2 + 1 ≤ fr + 7 ∧ 8 + (4 + 11) + (lo + 63) ≤ lo + 3221; omega)) rfl hl.1 (Nat.le_of_ble_eq_true rfl) dX0_getsOf_23 ⟨hm0 hm.1, hm0 hm.2⟩ rfl) (fun x6 G5 H locs hf hI => ?_)
  clear hO
  refine lv_aload_n hx hb dX0_getsOf_26 rfl (lv_at hl 0 rfl) ?_
  refine lv_iconst (v := 1) hx hb dX0_getsOf_27 (by decide) ?_
  obtain ⟨_, _, hO, hf⟩ := hf
  obtain ⟨m7, m8, hb1, hb2, hf⟩ := hf
  refine h_ki X hI (h_runV (As := [.int 1]) X hI (h_recv X hI hO (show jC.1[0]? = some (RX0, TX0, 20) from rfl)) (mhX0_allIn l Z D j Λ fr lo E a0 (1 : Int32) m7 m8 G5 _ hf H.size) (cwV 1 hts (lw_V q2201 q2203 qs60 q167 q2204) rfl rfl rfl (by decide +kernel) (by show fr + 6 + 1 ≤ fr + 7 ∧ 8 + (2 + 11) + (lo + 3200) ≤ lo + 3221; omega)) rfl hl.1 (Nat.le_of_ble_eq_true rfl) dX0_getsOf_28 ⟨hmA hm.1 hb1, hmA hm.2 hb2⟩ rfl) (fun x10 G9 H locs hf hI => ?_)
  have hm := And.intro (hmB hm.1 hb1) (hmB hm.2 hb2)
  clear hb1 hb2
  clear hO
  refine lv_isub hx hb dX0_getsOf_31 ?_
  refine lv_iconst (v := 2) hx hb dX0_getsOf_32 (by decide) ?_
  refine lv_iload_n hx hb dX0_getsOf_33 rfl (lv_at hl 1 rfl) ?_
  refine lv_iload_n hx hb dX0_getsOf_34 rfl (lv_at hl 2 rfl) ?_
  refine lv_icmp_ne (tgt := 43) hx hb dX0_getsOf_35 (by decide) (fun c11 => ?_) (fun c11 => ?_)
  · have hf := hf.2 c11
    refine lv_iload hx hb dX0_getsOf_43 (lv_at hl 5 rfl) ?_
    exact J45 (x6 - x10) (2 : Int32) p5 (mc - m7) (ms - m8) G9 hf _ _ hm H locs hI ls (lv_sub hl [0] rfl)
  · have hf := hf.1 c11
    refine lv_iload hx hb dX0_getsOf_38 (lv_at hl 4 rfl) ?_
    refine lv_goto (tgt := 45) hx hb dX0_getsOf_40 (by decide) ?_
    exact J45 (x6 - x10) (2 : Int32) p4 (mc - m7) (ms - m8) G9 hf _ _ hm H locs hI ls (lv_sub hl [0] rfl)
/-! MergeJudge.isRest(IIII)Z -/
def hX0_isRest (j : JX) (Λ : JLam) (a0 : Nat) (p1 : Int32) (p2 : Int32) (p3 : Int32) (p4 : Int32) (mc ms : Nat) (G : HG) (post : Int32 → HG → Prop) : Prop :=
  isO G a0 0 (∃ m1 m2 : Nat, m1 ≤ mc ∧ m2 ≤ ms ∧ hX0_getsOf j Λ a0 p1 p1 p2 ((1 : Int32) - p3) p4 m1 m2 G fun x4 G3 => isO G3 a0 0 (∃ m5 m6 : Nat, m5 ≤ mc - m1 ∧ m6 ≤ ms - m2 ∧ hX0_getsOf j Λ a0 p1 p1 p2 p3 p4 m5 m6 G3 fun x8 G7 => (x8 < x4 → (post (0 : Int32) G7)) ∧ (¬ x8 < x4 → (isO G7 a0 0 (∃ m10 m11 : Nat, m10 ≤ mc - m1 - m5 ∧ m11 ≤ ms - m2 - m6 ∧ hX0_getsOf j Λ a0 p2 p1 p2 p3 ((1 : Int32) - p4) m10 m11 G7 fun x13 G12 => isO G12 a0 0 (∃ m14 m15 : Nat, m14 ≤ mc - m1 - m5 - m10 ∧ m15 ≤ ms - m2 - m6 - m11 ∧ hX0_getsOf j Λ a0 p2 p1 p2 p3 p4 m14 m15 G12 fun x17 G16 => (x17 < x13 → (post (0 : Int32) G16)) ∧ (¬ x17 < x13 → (post (1 : Int32) G16))))))))
abbrev rhX0_isRest (fr lo mc ms : Nat) : Room := { frames := fr + 8, cells := mc, slots := ms, locals := lo + 3247 }
theorem mhX0_isRest (l : Launch) (Z : (Nat → Prop) → State → Heap → Prop) (D : va_G) (j : JX) (Λ : JLam) (fr lo : Nat) (E : JE l Z D j Λ fr lo) (a0 : Nat) (p1 : Int32) (p2 : Int32) (p3 : Int32) (p4 : Int32) (mc ms : Nat) (G : HG) (post : Int32 → HG → Prop) (hf : hX0_isRest j Λ a0 p1 p2 p3 p4 mc ms G post) : HMi l yX0_isRest (ws_ yX0_isRest cX0_isRest 5 (some .boolean)) (rhX0_isRest fr lo mc ms) D jC (jty j.1) Z G [.ref a0, .int p1, .int p2, .int p3, .int p4] post mc ms := by
  obtain ⟨MC, eMC⟩ : ∃ MC, MC = mc := ⟨_, rfl⟩
  obtain ⟨MS, eMS⟩ : ∃ MS, MS = ms := ⟨_, rfl⟩
  suffices goal : HMi l yX0_isRest (ws_ yX0_isRest cX0_isRest 5 (some .boolean)) (rhX0_isRest fr lo MC MS) D jC (jty j.1) Z G [.ref a0, .int p1, .int p2, .int p3, .int p4] post MC MS by rw [eMC, eMS] at goal; exact goal
  have hm0_ : 0 + mc ≤ MC ∧ 0 + ms ≤ MS := by omega
  clear eMC eMS
  refine h_openz E.1 (by decide) (by exact Nat.le_of_ble_eq_true rfl) (fun p e s m args below meth c ls A0 Q X hI hnd hnm hl hret => ?_)
  have X : XC p s m args meth c cX0_isRest 5 RX0 D jC (jty j.1) A0 Z := X
  have hx := X.1
  have hb := X.2.1
  have hown := X.2.2.2.1
  have hts := X.2.2.2.2.1
  have hl : lv_has ls 5 [(0, .ref a0), (1, .int p1), (2, .int p2), (3, .int p3), (4, .int p4)] := by exact hl
  unfold hX0_isRest at hf
  obtain ⟨H, eH⟩ : ∃ H, H = s.heap := ⟨_, rfl⟩
  obtain ⟨locs, eL⟩ : ∃ locs : List Loc, locs = [] := ⟨_, rfl⟩
  have hI : HI D jC G A0 s.heap H locs := by rw [eH, eL]; exact hI
  rw [← eL]
  obtain ⟨cells, eC⟩ : ∃ n : Nat, n = 0 := ⟨_, rfl⟩
  obtain ⟨slots, eS⟩ : ∃ n : Nat, n = 0 := ⟨_, rfl⟩
  have hm : cells + mc ≤ MC ∧ slots + ms ≤ MS := by rw [eC, eS]; exact hm0_
  suffices h : W p l e (rhX0_isRest fr lo MC MS) s m args below meth c H locs cells slots Q (F0 m 0 ls []) by rw [eH, eC, eS] at h; exact h
  clear eH eL eC eS
  refine lv_aload_n hx hb dX0_isRest_0 rfl (lv_at hl 0 rfl) ?_
  refine lv_iload_n hx hb dX0_isRest_1 rfl (lv_at hl 1 rfl) ?_
  refine lv_iload_n hx hb dX0_isRest_2 rfl (lv_at hl 1 rfl) ?_
  refine lv_iload_n hx hb dX0_isRest_3 rfl (lv_at hl 2 rfl) ?_
  refine lv_iconst (v := 1) hx hb dX0_isRest_4 (by decide) ?_
  refine lv_iload_n hx hb dX0_isRest_5 rfl (lv_at hl 3 rfl) ?_
  refine lv_isub hx hb dX0_isRest_6 ?_
  refine lv_iload hx hb dX0_isRest_7 (lv_at hl 4 rfl) ?_
  obtain ⟨_, _, hO, hf⟩ := hf
  obtain ⟨m1, m2, hb1, hb2, hf⟩ := hf
  refine h_ki X hI (h_runV (As := [.int p1, .int p1, .int p2, .int ((1 : Int32) - p3), .int p4]) X hI (h_recv X hI hO (show jC.1[0]? = some (RX0, TX0, 20) from rfl)) (mhX0_getsOf l Z D j Λ fr lo E a0 p1 p1 p2 ((1 : Int32) - p3) p4 m1 m2 G _ hf H.size) (cwV 5 hts (lw_V q2469 q2471 qs80 q167 q2472) rfl rfl rfl (by decide +kernel) (by show fr + 7 + 1 ≤ fr + 8 ∧ 8 + (7 + 11) + (lo + 3221) ≤ lo + 3247; omega)) rfl hl.1 (Nat.le_of_ble_eq_true rfl) dX0_isRest_9 ⟨hmA hm.1 hb1, hmA hm.2 hb2⟩ rfl) (fun x4 G3 H locs hf hI => ?_)
  have hm := And.intro (hmB hm.1 hb1) (hmB hm.2 hb2)
  clear hb1 hb2
  clear hO
  refine lv_aload_n hx hb dX0_isRest_12 rfl (lv_at hl 0 rfl) ?_
  refine lv_iload_n hx hb dX0_isRest_13 rfl (lv_at hl 1 rfl) ?_
  refine lv_iload_n hx hb dX0_isRest_14 rfl (lv_at hl 1 rfl) ?_
  refine lv_iload_n hx hb dX0_isRest_15 rfl (lv_at hl 2 rfl) ?_
  refine lv_iload_n hx hb dX0_isRest_16 rfl (lv_at hl 3 rfl) ?_
  refine lv_iload hx hb dX0_isRest_17 (lv_at hl 4 rfl) ?_
  obtain ⟨_, _, hO, hf⟩ := hf
  obtain ⟨m5, m6, hb1, hb2, hf⟩ := hf
  refine h_ki X hI (h_runV (As := [.int p1, .int p1, .int p2, .int p3, .int p4]) X hI (h_recv X hI hO (show jC.1[0]? = some (RX0, TX0, 20) from rfl)) (mhX0_getsOf l Z D j Λ fr lo E a0 p1 p1 p2 p3 p4 m5 m6 G3 _ hf H.size) (cwV 5 hts (lw_V q2469 q2471 qs80 q167 q2472) rfl rfl rfl (by decide +kernel) (by show fr + 7 + 1 ≤ fr + 8 ∧ 8 + (7 + 11) + (lo + 3221) ≤ lo + 3247; omega)) rfl hl.1 (Nat.le_of_ble_eq_true rfl) dX0_isRest_19 ⟨hmA hm.1 hb1, hmA hm.2 hb2⟩ rfl) (fun x8 G7 H locs hf hI => ?_)
  have hm := And.intro (hmB hm.1 hb1) (hmB hm.2 hb2)
  clear hb1 hb2
  clear hO
  refine lv_icmp_gt (tgt := 54) hx hb dX0_isRest_22 (by decide) (fun c9 => ?_) (fun c9 => ?_)
  · have hf := hf.1 c9
    refine lv_iconst (v := 0) hx hb dX0_isRest_54 (by decide) ?_
    exact hret rfl hf hI dX0_isRest_55 (hmC hm.1) (hmC hm.2)
  · have hf := hf.2 c9
    refine lv_aload_n hx hb dX0_isRest_25 rfl (lv_at hl 0 rfl) ?_
    refine lv_iload_n hx hb dX0_isRest_26 rfl (lv_at hl 2 rfl) ?_
    refine lv_iload_n hx hb dX0_isRest_27 rfl (lv_at hl 1 rfl) ?_
    refine lv_iload_n hx hb dX0_isRest_28 rfl (lv_at hl 2 rfl) ?_
    refine lv_iload_n hx hb dX0_isRest_29 rfl (lv_at hl 3 rfl) ?_
    refine lv_iconst (v := 1) hx hb dX0_isRest_30 (by decide) ?_
    refine lv_iload hx hb dX0_isRest_31 (lv_at hl 4 rfl) ?_
    refine lv_isub hx hb dX0_isRest_33 ?_
    obtain ⟨_, _, hO, hf⟩ := hf
    obtain ⟨m10, m11, hb1, hb2, hf⟩ := hf
    refine h_ki X hI (h_runV (As := [.int p2, .int p1, .int p2, .int p3, .int ((1 : Int32) - p4)]) X hI (h_recv X hI hO (show jC.1[0]? = some (RX0, TX0, 20) from rfl)) (mhX0_getsOf l Z D j Λ fr lo E a0 p2 p1 p2 p3 ((1 : Int32) - p4) m10 m11 G7 _ hf H.size) (cwV 5 hts (lw_V q2469 q2471 qs80 q167 q2472) rfl rfl rfl (by decide +kernel) (by show fr + 7 + 1 ≤ fr + 8 ∧ 8 + (7 + 11) + (lo + 3221) ≤ lo + 3247; omega)) rfl hl.1 (Nat.le_of_ble_eq_true rfl) dX0_isRest_34 ⟨hmA hm.1 hb1, hmA hm.2 hb2⟩ rfl) (fun x13 G12 H locs hf hI => ?_)
    have hm := And.intro (hmB hm.1 hb1) (hmB hm.2 hb2)
    clear hb1 hb2
    clear hO
    refine lv_aload_n hx hb dX0_isRest_37 rfl (lv_at hl 0 rfl) ?_
    refine lv_iload_n hx hb dX0_isRest_38 rfl (lv_at hl 2 rfl) ?_
    refine lv_iload_n hx hb dX0_isRest_39 rfl (lv_at hl 1 rfl) ?_
    refine lv_iload_n hx hb dX0_isRest_40 rfl (lv_at hl 2 rfl) ?_
    refine lv_iload_n hx hb dX0_isRest_41 rfl (lv_at hl 3 rfl) ?_
    refine lv_iload hx hb dX0_isRest_42 (lv_at hl 4 rfl) ?_
    obtain ⟨_, _, hO, hf⟩ := hf
    obtain ⟨m14, m15, hb1, hb2, hf⟩ := hf
    refine h_ki X hI (h_runV (As := [.int p2, .int p1, .int p2, .int p3, .int p4]) X hI (h_recv X hI hO (show jC.1[0]? = some (RX0, TX0, 20) from rfl)) (mhX0_getsOf l Z D j Λ fr lo E a0 p2 p1 p2 p3 p4 m14 m15 G12 _ hf H.size) (cwV 5 hts (lw_V q2469 q2471 qs80 q167 q2472) rfl rfl rfl (by decide +kernel) (by show fr + 7 + 1 ≤ fr + 8 ∧ 8 + (7 + 11) + (lo + 3221) ≤ lo + 3247; omega)) rfl hl.1 (Nat.le_of_ble_eq_true rfl) dX0_isRest_44 ⟨hmA hm.1 hb1, hmA hm.2 hb2⟩ rfl) (fun x17 G16 H locs hf hI => ?_)
    have hm := And.intro (hmB hm.1 hb1) (hmB hm.2 hb2)
    clear hb1 hb2
    clear hO
    refine lv_icmp_gt (tgt := 54) hx hb dX0_isRest_47 (by decide) (fun c18 => ?_) (fun c18 => ?_)
    · have hf := hf.1 c18
      refine lv_iconst (v := 0) hx hb dX0_isRest_54 (by decide) ?_
      exact hret rfl hf hI dX0_isRest_55 (hmC hm.1) (hmC hm.2)
    · have hf := hf.2 c18
      refine lv_iconst (v := 1) hx hb dX0_isRest_50 (by decide) ?_
      refine lv_goto (tgt := 55) hx hb dX0_isRest_51 (by decide) ?_
      exact hret rfl hf hI dX0_isRest_55 (hmC hm.1) (hmC hm.2)
/-! MergeJudge.rests(II)I -/
def hX0_rests_b49 (j : JX) (Λ : JLam) (a0 : Nat) (p1 : Int32) (p2 : Int32) (post : Int32 → HG → Prop) (K17 : Int32 → Int32 → Nat → Nat → HG → Prop) (lx4 : Int32) (z0 : Int32) (z1 : Int32) (mc ms : Nat) (G : HG) : Prop :=
  K17 (z0 ||| z1) (lx4 + 1) mc ms G
def hX0_rests_b17 (j : JX) (Λ : JLam) (a0 : Nat) (p1 : Int32) (p2 : Int32) (post : Int32 → HG → Prop) (K17 : Int32 → Int32 → Nat → Nat → HG → Prop) (lx3 : Int32) (lx4 : Int32) (mc ms : Nat) (G : HG) : Prop :=
  ((4 : Int32) ≤ lx4 → (post lx3 G)) ∧ (¬ (4 : Int32) ≤ lx4 → (isO G a0 0 (∃ m5 m6 : Nat, m5 ≤ mc ∧ m6 ≤ ms ∧ hX0_isRest j Λ a0 p1 p2 (lx4 - lx4 / 2 * 2) (lx4 / 2) m5 m6 G fun x8 G7 => (x8 = 0 → (hX0_rests_b49 j Λ a0 p1 p2 post K17 lx4 lx3 (0 : Int32) (mc - m5) (ms - m6) G7)) ∧ (¬ x8 = 0 → (hX0_rests_b49 j Λ a0 p1 p2 post K17 lx4 lx3 ((1 : Int32) <<< (lx4 &&& 31)) (mc - m5) (ms - m6) G7)))))
def hX0_rests_l17 (j : JX) (Λ : JLam) (a0 : Nat) (p1 : Int32) (p2 : Int32) (post : Int32 → HG → Prop) : Nat → Int32 → Int32 → Nat → Nat → HG → Prop
  | 0 => fun _ _ _ _ _ => False
  | n + 1 => fun lx3 lx4 mc ms G => hX0_rests_b17 j Λ a0 p1 p2 post (hX0_rests_l17 j Λ a0 p1 p2 post n) lx3 lx4 mc ms G
def hX0_rests (j : JX) (Λ : JLam) (a0 : Nat) (p1 : Int32) (p2 : Int32) (mc ms : Nat) (G : HG) (post : Int32 → HG → Prop) : Prop :=
  isO G a0 0 (hX0_areTwo j Λ a0 p1 p2 G fun x2 G1 => (x2 = 0 → (post ((-2) : Int32) G1)) ∧ (¬ x2 = 0 → (∃ n, hX0_rests_l17 j Λ a0 p1 p2 post n (0 : Int32) (0 : Int32) mc ms G1)))
abbrev rhX0_rests (fr lo mc ms : Nat) : Room := { frames := fr + 9, cells := mc, slots := ms, locals := lo + 3271 }
theorem mhX0_rests (l : Launch) (Z : (Nat → Prop) → State → Heap → Prop) (D : va_G) (j : JX) (Λ : JLam) (fr lo : Nat) (E : JE l Z D j Λ fr lo) (a0 : Nat) (p1 : Int32) (p2 : Int32) (mc ms : Nat) (G : HG) (post : Int32 → HG → Prop) (hf : hX0_rests j Λ a0 p1 p2 mc ms G post) : HMi l yX0_rests (ws_ yX0_rests cX0_rests 5 (some .int)) (rhX0_rests fr lo mc ms) D jC (jty j.1) Z G [.ref a0, .int p1, .int p2] post mc ms := by
  obtain ⟨MC, eMC⟩ : ∃ MC, MC = mc := ⟨_, rfl⟩
  obtain ⟨MS, eMS⟩ : ∃ MS, MS = ms := ⟨_, rfl⟩
  suffices goal : HMi l yX0_rests (ws_ yX0_rests cX0_rests 5 (some .int)) (rhX0_rests fr lo MC MS) D jC (jty j.1) Z G [.ref a0, .int p1, .int p2] post MC MS by rw [eMC, eMS] at goal; exact goal
  have hm0_ : 0 + mc ≤ MC ∧ 0 + ms ≤ MS := by omega
  clear eMC eMS
  refine h_openi E.1 (by decide) (by exact Nat.le_of_ble_eq_true rfl) (fun p e s m args below meth c ls A0 Q X hI hnd hnm hl hret => ?_)
  have X : XC p s m args meth c cX0_rests 5 RX0 D jC (jty j.1) A0 Z := X
  have hx := X.1
  have hb := X.2.1
  have hown := X.2.2.2.1
  have hts := X.2.2.2.2.1
  have L17 : ∀ (n : Nat) (lx3 : Int32) (lx4 : Int32) (mc ms : Nat) (G : HG), hX0_rests_l17 j Λ a0 p1 p2 post n lx3 lx4 mc ms G → ∀ (cells slots : Nat), cells + mc ≤ MC ∧ slots + ms ≤ MS → ∀ (H : Heap) (locs : List Loc), HI D jC G A0 s.heap H locs → ∀ (ls : Array Slot), lv_has ls 5 [(0, .ref a0), (1, .int p1), (2, .int p2), (3, .int lx3), (4, .int lx4)] → W p l e (rhX0_rests fr lo MC MS) s m args below meth c H locs cells slots Q (F0 m 17 ls []) := by
    intro n17
    induction n17 with
    | zero => intro lx3 lx4 mc ms G hf; exact hf.elim
    | succ n17 ih17 =>
      have J49 : ∀ (lx4 : Int32) (z0 : Int32) (z1 : Int32) (mc ms : Nat) (G : HG), hX0_rests_b49 j Λ a0 p1 p2 post (hX0_rests_l17 j Λ a0 p1 p2 post n17) lx4 z0 z1 mc ms G → ∀ (cells slots : Nat), cells + mc ≤ MC ∧ slots + ms ≤ MS → ∀ (H : Heap) (locs : List Loc), HI D jC G A0 s.heap H locs → ∀ (ls : Array Slot), lv_has ls 5 [(0, .ref a0), (1, .int p1), (2, .int p2), (4, .int lx4)] → W p l e (rhX0_rests fr lo MC MS) s m args below meth c H locs cells slots Q (F0 m 49 ls [.int z1, .int z0]) := by
        intro lx4 z0 z1 mc ms G hf cells slots hm H locs hI ls hl
        unfold hX0_rests_b49 at hf
        refine lv_ior hx hb dX0_rests_49 ?_
        refine lv_istore_n (lv' := [(3, .int (z0 ||| z1)), (0, .ref a0), (1, .int p1), (2, .int p2), (4, .int lx4)]) hx hb dX0_rests_50 rfl hl (by decide) rfl (fun ls hl => ?_)
        refine lv_iinc (v := lx4 + 1) (lv' := [(4, .int (lx4 + 1)), (3, .int (z0 ||| z1)), (0, .ref a0), (1, .int p1), (2, .int p2)]) hx hb dX0_rests_51 hl (k := 4) rfl rfl (by decide) rfl (fun ls hl => ?_)
        refine lv_goto (tgt := 17) hx hb dX0_rests_54 (by decide) ?_
        exact ih17 (z0 ||| z1) (lx4 + 1) mc ms G hf _ _ hm H locs hI ls (lv_sub hl [2, 3, 4, 1, 0] rfl)
      intro lx3 lx4 mc ms G hf cells slots hm H locs hI ls hl
      have hf : hX0_rests_b17 j Λ a0 p1 p2 post (hX0_rests_l17 j Λ a0 p1 p2 post n17) lx3 lx4 mc ms G := hf
      unfold hX0_rests_b17 at hf
      refine lv_iload hx hb dX0_rests_17 (lv_at hl 4 rfl) ?_
      refine lv_iconst (v := 4) hx hb dX0_rests_19 (by decide) ?_
      refine lv_icmp_ge (tgt := 57) hx hb dX0_rests_20 (by decide) (fun c4 => ?_) (fun c4 => ?_)
      · have hf := hf.1 c4
        refine lv_iload_n hx hb dX0_rests_57 rfl (lv_at hl 3 rfl) ?_
        exact hret hf hI dX0_rests_58 (hmC hm.1) (hmC hm.2)
      · have hf := hf.2 c4
        refine lv_iload_n hx hb dX0_rests_23 rfl (lv_at hl 3 rfl) ?_
        refine lv_aload_n hx hb dX0_rests_24 rfl (lv_at hl 0 rfl) ?_
        refine lv_iload_n hx hb dX0_rests_25 rfl (lv_at hl 1 rfl) ?_
        refine lv_iload_n hx hb dX0_rests_26 rfl (lv_at hl 2 rfl) ?_
        refine lv_iload hx hb dX0_rests_27 (lv_at hl 4 rfl) ?_
        refine lv_iconst (v := 2) hx hb dX0_rests_29 (by decide) ?_
        refine lv_irem hx hb dX0_rests_30 (by decide) ?_
        refine lv_iload hx hb dX0_rests_31 (lv_at hl 4 rfl) ?_
        refine lv_iconst (v := 2) hx hb dX0_rests_33 (by decide) ?_
        refine lv_idiv hx hb dX0_rests_34 (by decide) ?_
        obtain ⟨_, _, hO, hf⟩ := hf
        obtain ⟨m5, m6, hb1, hb2, hf⟩ := hf
        refine h_ki X hI (h_runV (As := [.int p1, .int p2, .int (lx4 - lx4 / 2 * 2), .int (lx4 / 2)]) X hI (h_recv X hI hO (show jC.1[0]? = some (RX0, TX0, 20) from rfl)) (mhX0_isRest l Z D j Λ fr lo E a0 p1 p2 (lx4 - lx4 / 2 * 2) (lx4 / 2) m5 m6 G _ hf H.size) (cwV 4 hts (lw_V q2465 q2467 qs79 q167 q2468) rfl rfl rfl (by decide +kernel) (by show fr + 8 + 1 ≤ fr + 9 ∧ 8 + (5 + 11) + (lo + 3247) ≤ lo + 3271; omega)) rfl hl.1 (Nat.le_of_ble_eq_true rfl) dX0_rests_35 ⟨hmA hm.1 hb1, hmA hm.2 hb2⟩ rfl) (fun x8 G7 H locs hf hI => ?_)
        have hm := And.intro (hmB hm.1 hb1) (hmB hm.2 hb2)
        clear hb1 hb2
        clear hO
        refine lv_if_eq (tgt := 48) hx hb dX0_rests_38 (by decide) (fun c9 => ?_) (fun c9 => ?_)
        · have hf := hf.1 c9
          refine lv_iconst (v := 0) hx hb dX0_rests_48 (by decide) ?_
          exact J49 lx4 lx3 (0 : Int32) (mc - m5) (ms - m6) G7 hf _ _ hm H locs hI ls (lv_sub hl [0, 1, 2, 4] rfl)
        · have hf := hf.2 c9
          refine lv_iconst (v := 1) hx hb dX0_rests_41 (by decide) ?_
          refine lv_iload hx hb dX0_rests_42 (lv_at hl 4 rfl) ?_
          refine lv_ishl hx hb dX0_rests_44 ?_
          refine lv_goto (tgt := 49) hx hb dX0_rests_45 (by decide) ?_
          exact J49 lx4 lx3 ((1 : Int32) <<< (lx4 &&& 31)) (mc - m5) (ms - m6) G7 hf _ _ hm H locs hI ls (lv_sub hl [0, 1, 2, 4] rfl)
  have hl : lv_has ls 5 [(0, .ref a0), (1, .int p1), (2, .int p2)] := by exact hl
  unfold hX0_rests at hf
  obtain ⟨H, eH⟩ : ∃ H, H = s.heap := ⟨_, rfl⟩
  obtain ⟨locs, eL⟩ : ∃ locs : List Loc, locs = [] := ⟨_, rfl⟩
  have hI : HI D jC G A0 s.heap H locs := by rw [eH, eL]; exact hI
  rw [← eL]
  obtain ⟨cells, eC⟩ : ∃ n : Nat, n = 0 := ⟨_, rfl⟩
  obtain ⟨slots, eS⟩ : ∃ n : Nat, n = 0 := ⟨_, rfl⟩
  have hm : cells + mc ≤ MC ∧ slots + ms ≤ MS := by rw [eC, eS]; exact hm0_
  suffices h : W p l e (rhX0_rests fr lo MC MS) s m args below meth c H locs cells slots Q (F0 m 0 ls []) by rw [eH, eC, eS] at h; exact h
  clear eH eL eC eS
  refine lv_aload_n hx hb dX0_rests_0 rfl (lv_at hl 0 rfl) ?_
  refine lv_iload_n hx hb dX0_rests_1 rfl (lv_at hl 1 rfl) ?_
  refine lv_iload_n hx hb dX0_rests_2 rfl (lv_at hl 2 rfl) ?_
  obtain ⟨_, _, hO, hf⟩ := hf
  refine h_ki X hI (h_runV (As := [.int p1, .int p2]) X hI (h_recv X hI hO (show jC.1[0]? = some (RX0, TX0, 20) from rfl)) (mhX0_areTwo l Z D j Λ fr lo E a0 p1 p2 G _ hf H.size) (cwV 2 hts (lw_V q2461 q2463 qs78 q167 q2464) rfl rfl rfl (by decide +kernel) (by show fr + 3 + 1 ≤ fr + 9 ∧ 8 + (3 + 11) + (lo + 86) ≤ lo + 3271; omega)) rfl hl.1 (Nat.le_of_ble_eq_true rfl) dX0_rests_3 ⟨hm0 hm.1, hm0 hm.2⟩ rfl) (fun x2 G1 H locs hf hI => ?_)
  clear hO
  refine lv_if_ne (tgt := 12) hx hb dX0_rests_6 (by decide) (fun c3 => ?_) (fun c3 => ?_)
  · have hf := hf.2 c3
    refine lv_iconst (v := 0) hx hb dX0_rests_12 (by decide) ?_
    refine lv_istore_n (lv' := [(3, .int 0), (0, .ref a0), (1, .int p1), (2, .int p2)]) hx hb dX0_rests_13 rfl hl (by decide) rfl (fun ls hl => ?_)
    refine lv_iconst (v := 0) hx hb dX0_rests_14 (by decide) ?_
    refine lv_istore (lv' := [(4, .int 0), (3, .int 0), (0, .ref a0), (1, .int p1), (2, .int p2)]) hx hb dX0_rests_15 hl (by decide) rfl (fun ls hl => ?_)
    obtain ⟨n, hf⟩ := hf
    exact L17 n (0 : Int32) (0 : Int32) mc ms G1 hf _ _ hm H locs hI ls (lv_sub hl [2, 3, 4, 1, 0] rfl)
  · have hf := hf.1 c3
    refine lv_bipush (v := -2) hx hb dX0_rests_9 (by decide) ?_
    exact hret hf hI dX0_rests_11 (hmC hm.1) (hmC hm.2)
/-! MergeJudge.gets(IIII)I -/
def hX0_gets (j : JX) (Λ : JLam) (a0 : Nat) (p1 : Int32) (p2 : Int32) (p3 : Int32) (p4 : Int32) (mc ms : Nat) (G : HG) (post : Int32 → HG → Prop) : Prop :=
  isO G a0 0 (hX0_areTwo j Λ a0 p1 p2 G fun x2 G1 => (x2 = 0 → (post ((-1000000) : Int32) G1)) ∧ (¬ x2 = 0 → (hX0_isBit j Λ p3 G1 fun x5 G4 => (x5 = 0 → (post ((-1000000) : Int32) G4)) ∧ (¬ x5 = 0 → (hX0_isBit j Λ p4 G4 fun x8 G7 => (x8 = 0 → (post ((-1000000) : Int32) G7)) ∧ (¬ x8 = 0 → (isO G7 a0 0 (∃ m10 m11 : Nat, m10 ≤ mc ∧ m11 ≤ ms ∧ hX0_getsOf j Λ a0 p1 p1 p2 p3 p4 m10 m11 G7 fun x13 G12 => post x13 G12))))))))
abbrev rhX0_gets (fr lo mc ms : Nat) : Room := { frames := fr + 8, cells := mc, slots := ms, locals := lo + 3247 }
theorem mhX0_gets (l : Launch) (Z : (Nat → Prop) → State → Heap → Prop) (D : va_G) (j : JX) (Λ : JLam) (fr lo : Nat) (E : JE l Z D j Λ fr lo) (a0 : Nat) (p1 : Int32) (p2 : Int32) (p3 : Int32) (p4 : Int32) (mc ms : Nat) (G : HG) (post : Int32 → HG → Prop) (hf : hX0_gets j Λ a0 p1 p2 p3 p4 mc ms G post) : HMi l yX0_gets (ws_ yX0_gets cX0_gets 5 (some .int)) (rhX0_gets fr lo mc ms) D jC (jty j.1) Z G [.ref a0, .int p1, .int p2, .int p3, .int p4] post mc ms := by
  obtain ⟨MC, eMC⟩ : ∃ MC, MC = mc := ⟨_, rfl⟩
  obtain ⟨MS, eMS⟩ : ∃ MS, MS = ms := ⟨_, rfl⟩
  suffices goal : HMi l yX0_gets (ws_ yX0_gets cX0_gets 5 (some .int)) (rhX0_gets fr lo MC MS) D jC (jty j.1) Z G [.ref a0, .int p1, .int p2, .int p3, .int p4] post MC MS by rw [eMC, eMS] at goal; exact goal
  have hm0_ : 0 + mc ≤ MC ∧ 0 + ms ≤ MS := by omega
  clear eMC eMS
  refine h_openi E.1 (by decide) (by exact Nat.le_of_ble_eq_true rfl) (fun p e s m args below meth c ls A0 Q X hI hnd hnm hl hret => ?_)
  have X : XC p s m args meth c cX0_gets 5 RX0 D jC (jty j.1) A0 Z := X
  have hx := X.1
  have hb := X.2.1
  have hown := X.2.2.2.1
  have hts := X.2.2.2.2.1
  have hl : lv_has ls 5 [(0, .ref a0), (1, .int p1), (2, .int p2), (3, .int p3), (4, .int p4)] := by exact hl
  unfold hX0_gets at hf
  obtain ⟨H, eH⟩ : ∃ H, H = s.heap := ⟨_, rfl⟩
  obtain ⟨locs, eL⟩ : ∃ locs : List Loc, locs = [] := ⟨_, rfl⟩
  have hI : HI D jC G A0 s.heap H locs := by rw [eH, eL]; exact hI
  rw [← eL]
  obtain ⟨cells, eC⟩ : ∃ n : Nat, n = 0 := ⟨_, rfl⟩
  obtain ⟨slots, eS⟩ : ∃ n : Nat, n = 0 := ⟨_, rfl⟩
  have hm : cells + mc ≤ MC ∧ slots + ms ≤ MS := by rw [eC, eS]; exact hm0_
  suffices h : W p l e (rhX0_gets fr lo MC MS) s m args below meth c H locs cells slots Q (F0 m 0 ls []) by rw [eH, eC, eS] at h; exact h
  clear eH eL eC eS
  refine lv_aload_n hx hb dX0_gets_0 rfl (lv_at hl 0 rfl) ?_
  refine lv_iload_n hx hb dX0_gets_1 rfl (lv_at hl 1 rfl) ?_
  refine lv_iload_n hx hb dX0_gets_2 rfl (lv_at hl 2 rfl) ?_
  obtain ⟨_, _, hO, hf⟩ := hf
  refine h_ki X hI (h_runV (As := [.int p1, .int p2]) X hI (h_recv X hI hO (show jC.1[0]? = some (RX0, TX0, 20) from rfl)) (mhX0_areTwo l Z D j Λ fr lo E a0 p1 p2 G _ hf H.size) (cwV 2 hts (lw_V q2461 q2463 qs78 q167 q2464) rfl rfl rfl (by decide +kernel) (by show fr + 3 + 1 ≤ fr + 8 ∧ 8 + (3 + 11) + (lo + 86) ≤ lo + 3247; omega)) rfl hl.1 (Nat.le_of_ble_eq_true rfl) dX0_gets_3 ⟨hm0 hm.1, hm0 hm.2⟩ rfl) (fun x2 G1 H locs hf hI => ?_)
  clear hO
  refine lv_if_eq (tgt := 37) hx hb dX0_gets_6 (by decide) (fun c3 => ?_) (fun c3 => ?_)
  · have hf := hf.1 c3
    refine lv_ldcw (v := -1000000) hx hb hown (hts _ q2443) dX0_gets_37 ?_
    exact hret hf hI dX0_gets_40 (hmC hm.1) (hmC hm.2)
  · have hf := hf.2 c3
    refine lv_iload_n hx hb dX0_gets_9 rfl (lv_at hl 3 rfl) ?_
    refine h_ki X hI (h_runS (As := [.int p3]) X hI (mhX0_isBit l Z D j Λ fr lo E p3 G1 _ hf H.size) (va_cwS 1 hts (lw_S q2440 q2441 q167 q2442) rfl rfl rfl (by decide +kernel) (by show fr + 2 + 1 ≤ fr + 8 ∧ 8 + (1 + 11) + (lo + 65) ≤ lo + 3247; omega)) rfl hl.1 (Nat.le_of_ble_eq_true rfl) dX0_gets_10 ⟨hm0 hm.1, hm0 hm.2⟩ rfl) (fun x5 G4 H locs hf hI => ?_)
    refine lv_if_eq (tgt := 37) hx hb dX0_gets_13 (by decide) (fun c6 => ?_) (fun c6 => ?_)
    · have hf := hf.1 c6
      refine lv_ldcw (v := -1000000) hx hb hown (hts _ q2443) dX0_gets_37 ?_
      exact hret hf hI dX0_gets_40 (hmC hm.1) (hmC hm.2)
    · have hf := hf.2 c6
      refine lv_iload hx hb dX0_gets_16 (lv_at hl 4 rfl) ?_
      refine h_ki X hI (h_runS (As := [.int p4]) X hI (mhX0_isBit l Z D j Λ fr lo E p4 G4 _ hf H.size) (va_cwS 1 hts (lw_S q2440 q2441 q167 q2442) rfl rfl rfl (by decide +kernel) (by show fr + 2 + 1 ≤ fr + 8 ∧ 8 + (1 + 11) + (lo + 65) ≤ lo + 3247; omega)) rfl hl.1 (Nat.le_of_ble_eq_true rfl) dX0_gets_18 ⟨hm0 hm.1, hm0 hm.2⟩ rfl) (fun x8 G7 H locs hf hI => ?_)
      refine lv_if_eq (tgt := 37) hx hb dX0_gets_21 (by decide) (fun c9 => ?_) (fun c9 => ?_)
      · have hf := hf.1 c9
        refine lv_ldcw (v := -1000000) hx hb hown (hts _ q2443) dX0_gets_37 ?_
        exact hret hf hI dX0_gets_40 (hmC hm.1) (hmC hm.2)
      · have hf := hf.2 c9
        refine lv_aload_n hx hb dX0_gets_24 rfl (lv_at hl 0 rfl) ?_
        refine lv_iload_n hx hb dX0_gets_25 rfl (lv_at hl 1 rfl) ?_
        refine lv_iload_n hx hb dX0_gets_26 rfl (lv_at hl 1 rfl) ?_
        refine lv_iload_n hx hb dX0_gets_27 rfl (lv_at hl 2 rfl) ?_
        refine lv_iload_n hx hb dX0_gets_28 rfl (lv_at hl 3 rfl) ?_
        refine lv_iload hx hb dX0_gets_29 (lv_at hl 4 rfl) ?_
        obtain ⟨_, _, hO, hf⟩ := hf
        obtain ⟨m10, m11, hb1, hb2, hf⟩ := hf
        refine h_ki X hI (h_runV (As := [.int p1, .int p1, .int p2, .int p3, .int p4]) X hI (h_recv X hI hO (show jC.1[0]? = some (RX0, TX0, 20) from rfl)) (mhX0_getsOf l Z D j Λ fr lo E a0 p1 p1 p2 p3 p4 m10 m11 G7 _ hf H.size) (cwV 5 hts (lw_V q2469 q2471 qs80 q167 q2472) rfl rfl rfl (by decide +kernel) (by show fr + 7 + 1 ≤ fr + 8 ∧ 8 + (7 + 11) + (lo + 3221) ≤ lo + 3247; omega)) rfl hl.1 (Nat.le_of_ble_eq_true rfl) dX0_gets_31 ⟨hmA hm.1 hb1, hmA hm.2 hb2⟩ rfl) (fun x13 G12 H locs hf hI => ?_)
        have hm := And.intro (hmB hm.1 hb1) (hmB hm.2 hb2)
        clear hb1 hb2
        clear hO
        refine lv_goto (tgt := 40) hx hb dX0_gets_34 (by decide) ?_
        exact hret hf hI dX0_gets_40 (hmC hm.1) (hmC hm.2)
/-! MergeJudge.lambda$chance$21()I -/
def hX0_lambda_chance_21 (j : JX) (Λ : JLam) (a0 : Nat) (mc ms : Nat) (G : HG) (post : Int32 → HG → Prop) : Prop :=
  isO G a0 0 (∃ m1 m2 : Nat, m1 ≤ mc ∧ m2 ≤ ms ∧ hX0_isSafe j Λ a0 (1 : Int32) m1 m2 G fun x4 G3 => (x4 = 0 → (post (0 : Int32) G3)) ∧ (¬ x4 = 0 → (post (1 : Int32) G3)))
abbrev rhX0_lambda_chance_21 (fr lo mc ms : Nat) : Room := { frames := fr + 6, cells := mc, slots := ms, locals := lo + 3222 }
theorem mhX0_lambda_chance_21 (l : Launch) (Z : (Nat → Prop) → State → Heap → Prop) (D : va_G) (j : JX) (Λ : JLam) (fr lo : Nat) (E : JE l Z D j Λ fr lo) (a0 : Nat) (mc ms : Nat) (G : HG) (post : Int32 → HG → Prop) (hf : hX0_lambda_chance_21 j Λ a0 mc ms G post) : HMi l yX0_lambda_chance_21 (ws_ yX0_lambda_chance_21 cX0_lambda_chance_21 1 (some .int)) (rhX0_lambda_chance_21 fr lo mc ms) D jC (jty j.1) Z G [.ref a0] post mc ms := by
  obtain ⟨MC, eMC⟩ : ∃ MC, MC = mc := ⟨_, rfl⟩
  obtain ⟨MS, eMS⟩ : ∃ MS, MS = ms := ⟨_, rfl⟩
  suffices goal : HMi l yX0_lambda_chance_21 (ws_ yX0_lambda_chance_21 cX0_lambda_chance_21 1 (some .int)) (rhX0_lambda_chance_21 fr lo MC MS) D jC (jty j.1) Z G [.ref a0] post MC MS by rw [eMC, eMS] at goal; exact goal
  have hm0_ : 0 + mc ≤ MC ∧ 0 + ms ≤ MS := by omega
  clear eMC eMS
  refine h_openi E.1 (by decide) (by exact Nat.le_of_ble_eq_true rfl) (fun p e s m args below meth c ls A0 Q X hI hnd hnm hl hret => ?_)
  have X : XC p s m args meth c cX0_lambda_chance_21 1 RX0 D jC (jty j.1) A0 Z := X
  have hx := X.1
  have hb := X.2.1
  have hown := X.2.2.2.1
  have hts := X.2.2.2.2.1
  have hl : lv_has ls 1 [(0, .ref a0)] := by exact hl
  unfold hX0_lambda_chance_21 at hf
  obtain ⟨H, eH⟩ : ∃ H, H = s.heap := ⟨_, rfl⟩
  obtain ⟨locs, eL⟩ : ∃ locs : List Loc, locs = [] := ⟨_, rfl⟩
  have hI : HI D jC G A0 s.heap H locs := by rw [eH, eL]; exact hI
  rw [← eL]
  obtain ⟨cells, eC⟩ : ∃ n : Nat, n = 0 := ⟨_, rfl⟩
  obtain ⟨slots, eS⟩ : ∃ n : Nat, n = 0 := ⟨_, rfl⟩
  have hm : cells + mc ≤ MC ∧ slots + ms ≤ MS := by rw [eC, eS]; exact hm0_
  suffices h : W p l e (rhX0_lambda_chance_21 fr lo MC MS) s m args below meth c H locs cells slots Q (F0 m 0 ls []) by rw [eH, eC, eS] at h; exact h
  clear eH eL eC eS
  refine lv_aload_n hx hb dX0_lambda_chance_21_0 rfl (lv_at hl 0 rfl) ?_
  refine lv_iconst (v := 1) hx hb dX0_lambda_chance_21_1 (by decide) ?_
  obtain ⟨_, _, hO, hf⟩ := hf
  obtain ⟨m1, m2, hb1, hb2, hf⟩ := hf
  refine h_ki X hI (h_runV (As := [.int 1]) X hI (h_recv X hI hO (show jC.1[0]? = some (RX0, TX0, 20) from rfl)) (mhX0_isSafe l Z D j Λ fr lo E a0 (1 : Int32) m1 m2 G _ hf H.size) (cwV 1 hts (lw_V q2267 q2269 qs63 q167 q2270) rfl rfl rfl (by decide +kernel) (by show fr + 5 + 1 ≤ fr + 6 ∧ 8 + (3 + 11) + (lo + 3200) ≤ lo + 3222; omega)) rfl hl.1 (Nat.le_of_ble_eq_true rfl) dX0_lambda_chance_21_2 ⟨hmA hm.1 hb1, hmA hm.2 hb2⟩ rfl) (fun x4 G3 H locs hf hI => ?_)
  have hm := And.intro (hmB hm.1 hb1) (hmB hm.2 hb2)
  clear hb1 hb2
  clear hO
  refine lv_if_eq (tgt := 12) hx hb dX0_lambda_chance_21_5 (by decide) (fun c5 => ?_) (fun c5 => ?_)
  · have hf := hf.1 c5
    refine lv_iconst (v := 0) hx hb dX0_lambda_chance_21_12 (by decide) ?_
    exact hret hf hI dX0_lambda_chance_21_13 (hmC hm.1) (hmC hm.2)
  · have hf := hf.2 c5
    refine lv_iconst (v := 1) hx hb dX0_lambda_chance_21_8 (by decide) ?_
    refine lv_goto (tgt := 13) hx hb dX0_lambda_chance_21_9 (by decide) ?_
    exact hret hf hI dX0_lambda_chance_21_13 (hmC hm.1) (hmC hm.2)
/-! MergeJudge.isSeed(I)Z -/
def hX0_isSeed (j : JX) (Λ : JLam) (p0 : Int32) (G : HG) (post : Int32 → HG → Prop) : Prop :=
  hX0_in j Λ p0.toInt64 (0 : Int64) (2000000000 : Int64) G fun x2 G1 => zB x2 ∧ post x2 G1
abbrev rhX0_isSeed (fr lo : Nat) : Room := { frames := fr + 2, cells := 0, slots := 0, locals := lo + 65 }
theorem mhX0_isSeed (l : Launch) (Z : (Nat → Prop) → State → Heap → Prop) (D : va_G) (j : JX) (Λ : JLam) (fr lo : Nat) (E : JE l Z D j Λ fr lo) (p0 : Int32) (G : HG) (post : Int32 → HG → Prop) (hf : hX0_isSeed j Λ p0 G post) : HMi l yX0_isSeed (ws_ yX0_isSeed cX0_isSeed 1 (some .boolean)) (rhX0_isSeed fr lo) D jC (jty j.1) Z G [.int p0] post 0 0 := by
  refine h_openz E.1 (by decide) (by exact Nat.le_of_ble_eq_true rfl) (fun p e s m args below meth c ls A0 Q X hI hnd hnm hl hret => ?_)
  have X : XC p s m args meth c cX0_isSeed 1 RX0 D jC (jty j.1) A0 Z := X
  have hx := X.1
  have hb := X.2.1
  have hown := X.2.2.2.1
  have hts := X.2.2.2.2.1
  have hl : lv_has ls 1 [(0, .int p0)] := by exact hl
  unfold hX0_isSeed at hf
  obtain ⟨H, eH⟩ : ∃ H, H = s.heap := ⟨_, rfl⟩
  obtain ⟨locs, eL⟩ : ∃ locs : List Loc, locs = [] := ⟨_, rfl⟩
  have hI : HI D jC G A0 s.heap H locs := by rw [eH, eL]; exact hI
  rw [← eL]
  suffices h : W p l e (rhX0_isSeed fr lo) s m args below meth c H locs 0 0 Q (F0 m 0 ls []) by rw [eH] at h; exact h
  clear eH eL
  refine lv_iload_n hx hb dX0_isSeed_0 rfl (lv_at hl 0 rfl) ?_
  refine lv_i2l hx hb dX0_isSeed_1 rfl ?_
  refine lv_lconst (v := 0) hx hb dX0_isSeed_2 (by decide) ?_
  refine lv_ldc2 (v := 2000000000) hx hb hown (hts _ q2504) dX0_isSeed_3 ?_
  refine h_ki X hI (h_runS (As := [.long p0.toInt64, .long 0, .long 2000000000]) X hI (mhX0_in l Z D j Λ fr lo E p0.toInt64 (0 : Int64) (2000000000 : Int64) G _ hf H.size) (va_cwS 3 hts (lw_S q226 q227 q167 q228) rfl rfl rfl (by decide +kernel) (by show fr + 1 + 1 ≤ fr + 2 ∧ 8 + (6 + 11) + (lo + 40) ≤ lo + 65; omega)) rfl hl.1 (Nat.le_of_ble_eq_true rfl) dX0_isSeed_6 ⟨Nat.le_refl _, Nat.le_refl _⟩ rfl) (fun x2 G1 H locs hf hI => ?_)
  obtain ⟨hz, hf⟩ := hf
  exact hret (zB_n hz) hf hI dX0_isSeed_9 (Nat.le_refl _) (Nat.le_refl _)
/-! MergeJudge.drawsOf(J)I -/
def hX0_drawsOf_b72 (j : JX) (Λ : JLam) (a0 : Nat) (p1 : Int64) (post : Int32 → HG → Prop) (K8 : Int32 → Int64 → Int32 → HG → Prop) (ly4 : Int64) (lx6 : Int32) (z0 : Int32) (z1 : Int32) (G : HG) : Prop :=
  K8 (z0 ||| z1) ly4 (lx6 + 1) G
def hX0_drawsOf_b8 (j : JX) (Λ : JLam) (a0 : Nat) (p1 : Int64) (post : Int32 → HG → Prop) (K8 : Int32 → Int64 → Int32 → HG → Prop) (lx3 : Int32) (ly4 : Int64) (lx6 : Int32) (G : HG) : Prop :=
  gtQ G a0 0 1 fun q1 => nnq q1 fun a2 => gtQ G a2 2 0 fun q3 => nnq q3 fun a4 => isO G a4 15 (hJ2_size j Λ a4 G fun x6 G5 => (x6 ≤ lx6 → (post lx3 G5)) ∧ (¬ x6 ≤ lx6 → (∀ v8 : Int64, v8 = ((((1103515245 : Int64) * ly4) + 12345) - (((1103515245 : Int64) * ly4) + 12345) / 2147483648 * 2147483648) → gtQ G5 a0 0 1 fun q9 => nnq q9 fun a10 => gtI G5 a10 2 6 fun x11 => (0 ≤ (lg_cmp ((v8 / 65536) - (v8 / 65536) / 10 * 10) x11.toInt64) → (hX0_drawsOf_b72 j Λ a0 p1 post K8 v8 lx6 lx3 (0 : Int32) G5)) ∧ (¬ 0 ≤ (lg_cmp ((v8 / 65536) - (v8 / 65536) / 10 * 10) x11.toInt64) → (hX0_drawsOf_b72 j Λ a0 p1 post K8 v8 lx6 lx3 ((1 : Int32) <<< (lx6 &&& 31)) G5)))))
def hX0_drawsOf_l8 (j : JX) (Λ : JLam) (a0 : Nat) (p1 : Int64) (post : Int32 → HG → Prop) : Nat → Int32 → Int64 → Int32 → HG → Prop
  | 0 => fun _ _ _ _ => False
  | n + 1 => fun lx3 ly4 lx6 G => hX0_drawsOf_b8 j Λ a0 p1 post (hX0_drawsOf_l8 j Λ a0 p1 post n) lx3 ly4 lx6 G
def hX0_drawsOf (j : JX) (Λ : JLam) (a0 : Nat) (p1 : Int64) (G : HG) (post : Int32 → HG → Prop) : Prop :=
  ∃ n, hX0_drawsOf_l8 j Λ a0 p1 post n (0 : Int32) p1 (0 : Int32) G
abbrev rhX0_drawsOf (fr lo : Nat) : Room := { frames := fr + 2, cells := 0, slots := 0, locals := lo + 60 }
theorem mhX0_drawsOf (l : Launch) (Z : (Nat → Prop) → State → Heap → Prop) (D : va_G) (j : JX) (Λ : JLam) (fr lo : Nat) (E : JE l Z D j Λ fr lo) (a0 : Nat) (p1 : Int64) (G : HG) (post : Int32 → HG → Prop) (hf : hX0_drawsOf j Λ a0 p1 G post) : HMi l yX0_drawsOf (ws_ yX0_drawsOf cX0_drawsOf 7 (some .int)) (rhX0_drawsOf fr lo) D jC (jty j.1) Z G [.ref a0, .long p1] post 0 0 := by
  refine h_openi E.1 (by decide) (by exact Nat.le_of_ble_eq_true rfl) (fun p e s m args below meth c ls A0 Q X hI hnd hnm hl hret => ?_)
  have X : XC p s m args meth c cX0_drawsOf 7 RX0 D jC (jty j.1) A0 Z := X
  have hx := X.1
  have hb := X.2.1
  have hown := X.2.2.2.1
  have hts := X.2.2.2.2.1
  have L8 : ∀ (n : Nat) (lx3 : Int32) (ly4 : Int64) (lx6 : Int32) (G : HG), hX0_drawsOf_l8 j Λ a0 p1 post n lx3 ly4 lx6 G → ∀ (H : Heap) (locs : List Loc), HI D jC G A0 s.heap H locs → ∀ (ls : Array Slot), lv_has ls 7 [(0, .ref a0), (3, .int lx3), (4, .long ly4), (6, .int lx6)] → W p l e (rhX0_drawsOf fr lo) s m args below meth c H locs 0 0 Q (F0 m 8 ls []) := by
    intro n8
    induction n8 with
    | zero => intro lx3 ly4 lx6 G hf; exact hf.elim
    | succ n8 ih8 =>
      have J72 : ∀ (ly4 : Int64) (lx6 : Int32) (z0 : Int32) (z1 : Int32) (G : HG), hX0_drawsOf_b72 j Λ a0 p1 post (hX0_drawsOf_l8 j Λ a0 p1 post n8) ly4 lx6 z0 z1 G → ∀ (H : Heap) (locs : List Loc), HI D jC G A0 s.heap H locs → ∀ (ls : Array Slot), lv_has ls 7 [(0, .ref a0), (4, .long ly4), (6, .int lx6)] → W p l e (rhX0_drawsOf fr lo) s m args below meth c H locs 0 0 Q (F0 m 72 ls [.int z1, .int z0]) := by
        intro ly4 lx6 z0 z1 G hf H locs hI ls hl
        unfold hX0_drawsOf_b72 at hf
        refine lv_ior hx hb dX0_drawsOf_72 ?_
        refine lv_istore_n (lv' := [(3, .int (z0 ||| z1)), (0, .ref a0), (4, .long ly4), (6, .int lx6)]) hx hb dX0_drawsOf_73 rfl hl (by decide) rfl (fun ls hl => ?_)
        refine lv_iinc (v := lx6 + 1) (lv' := [(6, .int (lx6 + 1)), (3, .int (z0 ||| z1)), (0, .ref a0), (4, .long ly4)]) hx hb dX0_drawsOf_74 hl (k := 3) rfl rfl (by decide) rfl (fun ls hl => ?_)
        refine lv_goto (tgt := 8) hx hb dX0_drawsOf_77 (by decide) ?_
        exact ih8 (z0 ||| z1) ly4 (lx6 + 1) G hf H locs hI ls (lv_sub hl [2, 1, 3, 0] rfl)
      intro lx3 ly4 lx6 G hf H locs hI ls hl
      have hf : hX0_drawsOf_b8 j Λ a0 p1 post (hX0_drawsOf_l8 j Λ a0 p1 post n8) lx3 ly4 lx6 G := hf
      unfold hX0_drawsOf_b8 at hf
      refine lv_iload hx hb dX0_drawsOf_8 (lv_at hl 3 rfl) ?_
      refine lv_aload_n hx hb dX0_drawsOf_10 rfl (lv_at hl 0 rfl) ?_
      refine hr_gtQ X hI (rfl : jC.1[0]? = some (RX0, TX0, 20)) in_X0 1 (Nat.le_of_ble_eq_true rfl) hf q653 (fun _ h => h) dX0_drawsOf_11 (fun q1 hf => ?_)
      obtain ⟨a2, ea2, hf⟩ := hf
      revert hl hf
      subst ea2
      intro hl hf
      have hl : lv_has ls 7 [(0, .ref a0), (3, .int lx3), (4, .long ly4), (6, .int lx6)] := hl
      refine hr_gtQN X hI (rfl : jC.1[2]? = some (RX2, TX2, 11)) in_X2 0 (Nat.le_of_ble_eq_true rfl) hf (E.nw X q478 rfl) (fun _ h => h) dX0_drawsOf_14 (fun q3 hf => ?_)
      obtain ⟨a4, ea4, hf⟩ := hf
      revert hl hf
      subst ea4
      intro hl hf
      have hl : lv_has ls 7 [(0, .ref a0), (3, .int lx3), (4, .long ly4), (6, .int lx6)] := hl
      obtain ⟨_, _, hO, hf⟩ := hf
      refine h_Fki X hI (h_runF (As := []) X hI (X.2.2.2.2.2.1.1 15 _ (show jC.1[15]? = some (RJ2, TJ2, 3) from rfl)).2 (h_recv X hI hO (show jC.1[15]? = some (RJ2, TJ2, 3) from rfl)) (mhJ2_size l Z D j Λ fr lo E a4 G _ hf H.size) (cwF 0 hts q1848 q1771 q1773 q172 q1775 ((E.w X).2.2.1 _ (List.mem_of_getElem? (show jFw[0]? = _ from rfl))) rfl rfl (by decide +kernel) (by show fr + 1 + 1 ≤ fr + 2 ∧ 8 + (1 + 11) + (lo + 40) ≤ lo + 60; omega)) rfl hl.1 (Nat.le_of_ble_eq_true rfl) dX0_drawsOf_17 ⟨Nat.le_refl _, Nat.le_refl _⟩ rfl) (fun x6 G5 H locs hf hI => ?_)
      clear hO
      refine lv_icmp_ge (tgt := 80) hx hb dX0_drawsOf_22 (by decide) (fun c7 => ?_) (fun c7 => ?_)
      · have hf := hf.1 c7
        refine lv_iload_n hx hb dX0_drawsOf_80 rfl (lv_at hl 1 rfl) ?_
        exact hret hf hI dX0_drawsOf_81 (Nat.le_refl _) (Nat.le_refl _)
      · have hf := hf.2 c7
        refine lv_ldc2 (v := 1103515245) hx hb hown (hts _ q2509) dX0_drawsOf_25 ?_
        refine lv_lload hx hb dX0_drawsOf_28 (lv_at hl 2 rfl) ?_
        refine lv_lmul hx hb dX0_drawsOf_30 ?_
        refine lv_ldc2 (v := 12345) hx hb hown (hts _ q2510) dX0_drawsOf_31 ?_
        refine lv_ladd hx hb dX0_drawsOf_34 ?_
        refine lv_ldc2 (v := 2147483648) hx hb hown (hts _ q2511) dX0_drawsOf_35 ?_
        refine lv_lrem hx hb dX0_drawsOf_38 (by decide) ?_
        obtain ⟨v8, ev8⟩ : ∃ v8, v8 = ((((1103515245 : Int64) * ly4) + 12345) - (((1103515245 : Int64) * ly4) + 12345) / 2147483648 * 2147483648) := ⟨_, rfl⟩
        have hf := hf v8 ev8
        rw [← ev8]
        clear ev8
        refine lv_lstore (lv' := [(4, .long v8), (0, .ref a0), (3, .int lx3), (6, .int lx6)]) hx hb dX0_drawsOf_39 hl (by decide) rfl (fun ls hl => ?_)
        refine lv_iload_n hx hb dX0_drawsOf_41 rfl (lv_at hl 2 rfl) ?_
        refine lv_lload hx hb dX0_drawsOf_42 (lv_at hl 0 rfl) ?_
        refine lv_ldc2 (v := 65536) hx hb hown (hts _ q2512) dX0_drawsOf_44 ?_
        refine lv_ldiv hx hb dX0_drawsOf_47 (by decide) ?_
        refine lv_ldc2 (v := 10) hx hb hown (hts _ q2491) dX0_drawsOf_48 ?_
        refine lv_lrem hx hb dX0_drawsOf_51 (by decide) ?_
        refine lv_aload_n hx hb dX0_drawsOf_52 rfl (lv_at hl 1 rfl) ?_
        refine hr_gtQ X hI (rfl : jC.1[0]? = some (RX0, TX0, 20)) in_X0 1 (Nat.le_of_ble_eq_true rfl) hf q653 (fun _ h => h) dX0_drawsOf_53 (fun q9 hf => ?_)
        obtain ⟨a10, ea10, hf⟩ := hf
        revert hl hf
        subst ea10
        intro hl hf
        have hl : lv_has ls 7 [(4, .long v8), (0, .ref a0), (3, .int lx3), (6, .int lx6)] := hl
        refine hr_gtIN X hI (rfl : jC.1[2]? = some (RX2, TX2, 11)) in_X2 6 (Nat.le_of_ble_eq_true rfl) hf (E.nw X q497 rfl) (fun _ h => h) dX0_drawsOf_56 (fun x11 hf => ?_)
        refine lv_i2l hx hb dX0_drawsOf_59 rfl ?_
        refine W.lcmp hx hb dX0_drawsOf_60 ?_
        refine lv_if_ge (tgt := 71) hx hb dX0_drawsOf_61 (by decide) (fun c12 => ?_) (fun c12 => ?_)
        · have hf := hf.1 c12
          refine lv_iconst (v := 0) hx hb dX0_drawsOf_71 (by decide) ?_
          exact J72 v8 lx6 lx3 (0 : Int32) G5 hf H locs hI ls (lv_sub hl [1, 0, 3] rfl)
        · have hf := hf.2 c12
          refine lv_iconst (v := 1) hx hb dX0_drawsOf_64 (by decide) ?_
          refine lv_iload hx hb dX0_drawsOf_65 (lv_at hl 3 rfl) ?_
          refine lv_ishl hx hb dX0_drawsOf_67 ?_
          refine lv_goto (tgt := 72) hx hb dX0_drawsOf_68 (by decide) ?_
          exact J72 v8 lx6 lx3 ((1 : Int32) <<< (lx6 &&& 31)) G5 hf H locs hI ls (lv_sub hl [1, 0, 3] rfl)
  have hl : lv_has ls 7 [(0, .ref a0), (1, .long p1)] := by exact hl
  unfold hX0_drawsOf at hf
  obtain ⟨H, eH⟩ : ∃ H, H = s.heap := ⟨_, rfl⟩
  obtain ⟨locs, eL⟩ : ∃ locs : List Loc, locs = [] := ⟨_, rfl⟩
  have hI : HI D jC G A0 s.heap H locs := by rw [eH, eL]; exact hI
  rw [← eL]
  suffices h : W p l e (rhX0_drawsOf fr lo) s m args below meth c H locs 0 0 Q (F0 m 0 ls []) by rw [eH] at h; exact h
  clear eH eL
  refine lv_iconst (v := 0) hx hb dX0_drawsOf_0 (by decide) ?_
  refine lv_istore_n (lv' := [(3, .int 0), (0, .ref a0), (1, .long p1)]) hx hb dX0_drawsOf_1 rfl hl (by decide) rfl (fun ls hl => ?_)
  refine lv_lload_n hx hb dX0_drawsOf_2 rfl (lv_at hl 2 rfl) ?_
  refine lv_lstore (lv' := [(4, .long p1), (3, .int 0), (0, .ref a0), (1, .long p1)]) hx hb dX0_drawsOf_3 hl (by decide) rfl (fun ls hl => ?_)
  refine lv_iconst (v := 0) hx hb dX0_drawsOf_5 (by decide) ?_
  refine lv_istore (lv' := [(6, .int 0), (4, .long p1), (3, .int 0), (0, .ref a0), (1, .long p1)]) hx hb dX0_drawsOf_6 hl (by decide) rfl (fun ls hl => ?_)
  obtain ⟨n, hf⟩ := hf
  exact L8 n (0 : Int32) p1 (0 : Int32) G hf H locs hI ls (lv_sub hl [3, 2, 1, 0] rfl)
/-! MergeJudge.drawn(II)I -/
def hX0_drawn (j : JX) (Λ : JLam) (a0 : Nat) (p1 : Int32) (p2 : Int32) (mc ms : Nat) (G : HG) (post : Int32 → HG → Prop) : Prop :=
  gtQ G a0 0 1 fun q1 => nnq q1 fun a2 => isO G a2 2 (hX2_is j Λ a2 G fun x4 G3 => (x4 = 0 → (post ((-2) : Int32) G3)) ∧ (¬ x4 = 0 → (hX0_isSeed j Λ p1 G3 fun x7 G6 => (x7 = 0 → (post ((-2) : Int32) G6)) ∧ (¬ x7 = 0 → (hX0_isBit j Λ p2 G6 fun x10 G9 => (x10 = 0 → (post ((-2) : Int32) G9)) ∧ (¬ x10 = 0 → (isO G9 a0 0 (hX0_drawsOf j Λ a0 p1.toInt64 G9 fun x13 G12 => (p2 = 0 → (post x13 G12)) ∧ (¬ p2 = 0 → (isO G12 a0 0 (hX0_every j Λ a0 G12 fun x16 G15 => 1 ≤ mc ∧ 1 ≤ ms ∧ mkO G15 (.inr (54, .ref a0 :: ([] : List Int32).map .int)) fun a17 G18 => isO G18 a0 0 (∃ m19 m20 : Nat, m19 ≤ mc - 1 ∧ m20 ≤ ms - 1 ∧ hX0_under j Λ a0 (x16 &&& (x13 ^^^ (-1))) a17 m19 m20 G18 fun x22 G21 => post x22 G21))))))))))))
abbrev rhX0_drawn (fr lo mc ms : Nat) : Room := { frames := fr + 5, cells := mc, slots := ms, locals := lo + 3200 }
theorem mhX0_drawn (l : Launch) (Z : (Nat → Prop) → State → Heap → Prop) (D : va_G) (j : JX) (Λ : JLam) (fr lo : Nat) (E : JE l Z D j Λ fr lo) (a0 : Nat) (p1 : Int32) (p2 : Int32) (mc ms : Nat) (G : HG) (post : Int32 → HG → Prop) (hf : hX0_drawn j Λ a0 p1 p2 mc ms G post) : HMi l yX0_drawn (ws_ yX0_drawn cX0_drawn 4 (some .int)) (rhX0_drawn fr lo mc ms) D jC (jty j.1) Z G [.ref a0, .int p1, .int p2] post mc ms := by
  obtain ⟨MC, eMC⟩ : ∃ MC, MC = mc := ⟨_, rfl⟩
  obtain ⟨MS, eMS⟩ : ∃ MS, MS = ms := ⟨_, rfl⟩
  suffices goal : HMi l yX0_drawn (ws_ yX0_drawn cX0_drawn 4 (some .int)) (rhX0_drawn fr lo MC MS) D jC (jty j.1) Z G [.ref a0, .int p1, .int p2] post MC MS by rw [eMC, eMS] at goal; exact goal
  have hm0_ : 0 + mc ≤ MC ∧ 0 + ms ≤ MS := by omega
  clear eMC eMS
  refine h_openi E.1 (by decide) (by exact Nat.le_of_ble_eq_true rfl) (fun p e s m args below meth c ls A0 Q X hI hnd hnm hl hret => ?_)
  have X : XC p s m args meth c cX0_drawn 4 RX0 D jC (jty j.1) A0 Z := X
  have hx := X.1
  have hb := X.2.1
  have hown := X.2.2.2.1
  have hts := X.2.2.2.2.1
  have hl : lv_has ls 4 [(0, .ref a0), (1, .int p1), (2, .int p2)] := by exact hl
  unfold hX0_drawn at hf
  obtain ⟨H, eH⟩ : ∃ H, H = s.heap := ⟨_, rfl⟩
  obtain ⟨locs, eL⟩ : ∃ locs : List Loc, locs = [] := ⟨_, rfl⟩
  have hI : HI D jC G A0 s.heap H locs := by rw [eH, eL]; exact hI
  rw [← eL]
  obtain ⟨cells, eC⟩ : ∃ n : Nat, n = 0 := ⟨_, rfl⟩
  obtain ⟨slots, eS⟩ : ∃ n : Nat, n = 0 := ⟨_, rfl⟩
  have hm : cells + mc ≤ MC ∧ slots + ms ≤ MS := by rw [eC, eS]; exact hm0_
  suffices h : W p l e (rhX0_drawn fr lo MC MS) s m args below meth c H locs cells slots Q (F0 m 0 ls []) by rw [eH, eC, eS] at h; exact h
  clear eH eL eC eS
  refine lv_aload_n hx hb dX0_drawn_0 rfl (lv_at hl 0 rfl) ?_
  refine hr_gtQ X hI (rfl : jC.1[0]? = some (RX0, TX0, 20)) in_X0 1 (Nat.le_of_ble_eq_true rfl) hf q653 (fun _ h => h) dX0_drawn_1 (fun q1 hf => ?_)
  obtain ⟨a2, ea2, hf⟩ := hf
  revert hl hf
  subst ea2
  intro hl hf
  have hl : lv_has ls 4 [(0, .ref a0), (1, .int p1), (2, .int p2)] := hl
  obtain ⟨_, _, hO, hf⟩ := hf
  refine h_ki X hI (h_runV (As := []) X hI (h_recv X hI hO (show jC.1[2]? = some (RX2, TX2, 11) from rfl)) (mhX2_is l Z D j Λ fr lo E a2 G _ hf H.size) (cwV 0 hts (lw_V q1839 q1840 q1841 q169 q1842) rfl rfl rfl (by decide +kernel) (by show fr + 1 + 1 ≤ fr + 5 ∧ 8 + (1 + 11) + (lo + 40) ≤ lo + 3200; omega)) rfl hl.1 (Nat.le_of_ble_eq_true rfl) dX0_drawn_4 ⟨hm0 hm.1, hm0 hm.2⟩ rfl) (fun x4 G3 H locs hf hI => ?_)
  clear hO
  refine lv_if_eq (tgt := 24) hx hb dX0_drawn_7 (by decide) (fun c5 => ?_) (fun c5 => ?_)
  · have hf := hf.1 c5
    refine lv_bipush (v := -2) hx hb dX0_drawn_24 (by decide) ?_
    exact hret hf hI dX0_drawn_26 (hmC hm.1) (hmC hm.2)
  · have hf := hf.2 c5
    refine lv_iload_n hx hb dX0_drawn_10 rfl (lv_at hl 1 rfl) ?_
    refine h_ki X hI (h_runS (As := [.int p1]) X hI (mhX0_isSeed l Z D j Λ fr lo E p1 G3 _ hf H.size) (va_cwS 1 hts (lw_S q2501 q2502 q167 q2503) rfl rfl rfl (by decide +kernel) (by show fr + 2 + 1 ≤ fr + 5 ∧ 8 + (1 + 11) + (lo + 65) ≤ lo + 3200; omega)) rfl hl.1 (Nat.le_of_ble_eq_true rfl) dX0_drawn_11 ⟨hm0 hm.1, hm0 hm.2⟩ rfl) (fun x7 G6 H locs hf hI => ?_)
    refine lv_if_eq (tgt := 24) hx hb dX0_drawn_14 (by decide) (fun c8 => ?_) (fun c8 => ?_)
    · have hf := hf.1 c8
      refine lv_bipush (v := -2) hx hb dX0_drawn_24 (by decide) ?_
      exact hret hf hI dX0_drawn_26 (hmC hm.1) (hmC hm.2)
    · have hf := hf.2 c8
      refine lv_iload_n hx hb dX0_drawn_17 rfl (lv_at hl 2 rfl) ?_
      refine h_ki X hI (h_runS (As := [.int p2]) X hI (mhX0_isBit l Z D j Λ fr lo E p2 G6 _ hf H.size) (va_cwS 1 hts (lw_S q2440 q2441 q167 q2442) rfl rfl rfl (by decide +kernel) (by show fr + 2 + 1 ≤ fr + 5 ∧ 8 + (1 + 11) + (lo + 65) ≤ lo + 3200; omega)) rfl hl.1 (Nat.le_of_ble_eq_true rfl) dX0_drawn_18 ⟨hm0 hm.1, hm0 hm.2⟩ rfl) (fun x10 G9 H locs hf hI => ?_)
      refine lv_if_ne (tgt := 27) hx hb dX0_drawn_21 (by decide) (fun c11 => ?_) (fun c11 => ?_)
      · have hf := hf.2 c11
        refine lv_aload_n hx hb dX0_drawn_27 rfl (lv_at hl 0 rfl) ?_
        refine lv_iload_n hx hb dX0_drawn_28 rfl (lv_at hl 1 rfl) ?_
        refine lv_i2l hx hb dX0_drawn_29 rfl ?_
        obtain ⟨_, _, hO, hf⟩ := hf
        refine h_ki X hI (h_runV (As := [.long p1.toInt64]) X hI (h_recv X hI hO (show jC.1[0]? = some (RX0, TX0, 20) from rfl)) (mhX0_drawsOf l Z D j Λ fr lo E a0 p1.toInt64 G9 _ hf H.size) (cwV 1 hts (lw_V q2505 q2507 qs83 q167 q2508) rfl rfl rfl (by decide +kernel) (by show fr + 2 + 1 ≤ fr + 5 ∧ 8 + (7 + 11) + (lo + 60) ≤ lo + 3200; omega)) rfl hl.1 (Nat.le_of_ble_eq_true rfl) dX0_drawn_30 ⟨hm0 hm.1, hm0 hm.2⟩ rfl) (fun x13 G12 H locs hf hI => ?_)
        clear hO
        refine lv_istore_n (lv' := [(3, .int x13), (0, .ref a0), (1, .int p1), (2, .int p2)]) hx hb dX0_drawn_33 rfl hl (by decide) rfl (fun ls hl => ?_)
        refine lv_iload_n hx hb dX0_drawn_34 rfl (lv_at hl 3 rfl) ?_
        refine lv_if_ne (tgt := 42) hx hb dX0_drawn_35 (by decide) (fun c14 => ?_) (fun c14 => ?_)
        · have hf := hf.2 c14
          refine lv_aload_n hx hb dX0_drawn_42 rfl (lv_at hl 1 rfl) ?_
          refine lv_aload_n hx hb dX0_drawn_43 rfl (lv_at hl 1 rfl) ?_
          obtain ⟨_, _, hO, hf⟩ := hf
          refine h_ki X hI (h_runV (As := []) X hI (h_recv X hI hO (show jC.1[0]? = some (RX0, TX0, 20) from rfl)) (mhX0_every l Z D j Λ fr lo E a0 G12 _ hf H.size) (cwV 0 hts (lw_V q2072 q2074 qs54 q167 q2075) rfl rfl rfl (by decide +kernel) (by show fr + 2 + 1 ≤ fr + 5 ∧ 8 + (1 + 11) + (lo + 60) ≤ lo + 3200; omega)) rfl hl.1 (Nat.le_of_ble_eq_true rfl) dX0_drawn_44 ⟨hm0 hm.1, hm0 hm.2⟩ rfl) (fun x16 G15 H locs hf hI => ?_)
          clear hO
          refine lv_iload_n hx hb dX0_drawn_47 rfl (lv_at hl 0 rfl) ?_
          refine lv_iconst (v := -1) hx hb dX0_drawn_48 (by decide) ?_
          refine lv_ixor hx hb dX0_drawn_49 ?_
          refine lv_iand hx hb dX0_drawn_50 ?_
          refine lv_aload_n hx hb dX0_drawn_51 rfl (lv_at hl 1 rfl) ?_
          obtain ⟨hb1, hb2, hf⟩ := hf
          refine E.2.2.2.1 31 yX0_drawn 52 547 a0 [] rfl (rest := [.int (x16 &&& (x13 ^^^ (-1))), .ref a0]) X hI hnd hl.1 (Nat.le_of_ble_eq_true rfl) dX0_drawn_52 (by show 3200 ≤ lo + 3200; omega) (hmA hm.1 hb1) (hmA hm.2 hb2) hf (fun a17 G18 H hf hI => ?_)
          have hm := And.intro (hmB hm.1 hb1) (hmB hm.2 hb2)
          clear hb1 hb2
          obtain ⟨_, _, hO, hf⟩ := hf
          obtain ⟨m19, m20, hb1, hb2, hf⟩ := hf
          refine h_ki X hI (h_runV (As := [.int (x16 &&& (x13 ^^^ (-1))), .ref a17]) X hI (h_recv X hI hO (show jC.1[0]? = some (RX0, TX0, 20) from rfl)) (mhX0_under l Z D j Λ fr lo E a0 (x16 &&& (x13 ^^^ (-1))) a17 m19 m20 G18 _ hf H.size) (cwV 2 hts (lw_V q2079 q2081 qs56 q167 q2082) rfl rfl rfl (by decide +kernel) (by show fr + 4 + 1 ≤ fr + 5 ∧ 8 + (4 + 11) + (lo + 105) ≤ lo + 3200; omega)) rfl hl.1 (Nat.le_of_ble_eq_true rfl) dX0_drawn_57 ⟨hmA hm.1 hb1, hmA hm.2 hb2⟩ rfl) (fun x22 G21 H locs hf hI => ?_)
          have hm := And.intro (hmB hm.1 hb1) (hmB hm.2 hb2)
          clear hb1 hb2
          clear hO
          exact hret hf hI dX0_drawn_60 (hmC hm.1) (hmC hm.2)
        · have hf := hf.1 c14
          refine lv_iload_n hx hb dX0_drawn_38 rfl (lv_at hl 0 rfl) ?_
          refine lv_goto (tgt := 60) hx hb dX0_drawn_39 (by decide) ?_
          exact hret hf hI dX0_drawn_60 (hmC hm.1) (hmC hm.2)
      · have hf := hf.1 c11
        refine lv_bipush (v := -2) hx hb dX0_drawn_24 (by decide) ?_
        exact hret hf hI dX0_drawn_26 (hmC hm.1) (hmC hm.2)
/-! MergeJudge.lambda$drawn$22()I -/
def hX0_lambda_drawn_22 (j : JX) (Λ : JLam) (a0 : Nat) (mc ms : Nat) (G : HG) (post : Int32 → HG → Prop) : Prop :=
  isO G a0 0 (∃ m1 m2 : Nat, m1 ≤ mc ∧ m2 ≤ ms ∧ hX0_allIn j Λ a0 (1 : Int32) m1 m2 G fun x4 G3 => post x4 G3)
abbrev rhX0_lambda_drawn_22 (fr lo mc ms : Nat) : Room := { frames := fr + 7, cells := mc, slots := ms, locals := lo + 3221 }
theorem mhX0_lambda_drawn_22 (l : Launch) (Z : (Nat → Prop) → State → Heap → Prop) (D : va_G) (j : JX) (Λ : JLam) (fr lo : Nat) (E : JE l Z D j Λ fr lo) (a0 : Nat) (mc ms : Nat) (G : HG) (post : Int32 → HG → Prop) (hf : hX0_lambda_drawn_22 j Λ a0 mc ms G post) : HMi l yX0_lambda_drawn_22 (ws_ yX0_lambda_drawn_22 cX0_lambda_drawn_22 1 (some .int)) (rhX0_lambda_drawn_22 fr lo mc ms) D jC (jty j.1) Z G [.ref a0] post mc ms := by
  obtain ⟨MC, eMC⟩ : ∃ MC, MC = mc := ⟨_, rfl⟩
  obtain ⟨MS, eMS⟩ : ∃ MS, MS = ms := ⟨_, rfl⟩
  suffices goal : HMi l yX0_lambda_drawn_22 (ws_ yX0_lambda_drawn_22 cX0_lambda_drawn_22 1 (some .int)) (rhX0_lambda_drawn_22 fr lo MC MS) D jC (jty j.1) Z G [.ref a0] post MC MS by rw [eMC, eMS] at goal; exact goal
  have hm0_ : 0 + mc ≤ MC ∧ 0 + ms ≤ MS := by omega
  clear eMC eMS
  refine h_openi E.1 (by decide) (by exact Nat.le_of_ble_eq_true rfl) (fun p e s m args below meth c ls A0 Q X hI hnd hnm hl hret => ?_)
  have X : XC p s m args meth c cX0_lambda_drawn_22 1 RX0 D jC (jty j.1) A0 Z := X
  have hx := X.1
  have hb := X.2.1
  have hown := X.2.2.2.1
  have hts := X.2.2.2.2.1
  have hl : lv_has ls 1 [(0, .ref a0)] := by exact hl
  unfold hX0_lambda_drawn_22 at hf
  obtain ⟨H, eH⟩ : ∃ H, H = s.heap := ⟨_, rfl⟩
  obtain ⟨locs, eL⟩ : ∃ locs : List Loc, locs = [] := ⟨_, rfl⟩
  have hI : HI D jC G A0 s.heap H locs := by rw [eH, eL]; exact hI
  rw [← eL]
  obtain ⟨cells, eC⟩ : ∃ n : Nat, n = 0 := ⟨_, rfl⟩
  obtain ⟨slots, eS⟩ : ∃ n : Nat, n = 0 := ⟨_, rfl⟩
  have hm : cells + mc ≤ MC ∧ slots + ms ≤ MS := by rw [eC, eS]; exact hm0_
  suffices h : W p l e (rhX0_lambda_drawn_22 fr lo MC MS) s m args below meth c H locs cells slots Q (F0 m 0 ls []) by rw [eH, eC, eS] at h; exact h
  clear eH eL eC eS
  refine lv_aload_n hx hb dX0_lambda_drawn_22_0 rfl (lv_at hl 0 rfl) ?_
  refine lv_iconst (v := 1) hx hb dX0_lambda_drawn_22_1 (by decide) ?_
  obtain ⟨_, _, hO, hf⟩ := hf
  obtain ⟨m1, m2, hb1, hb2, hf⟩ := hf
  refine h_ki X hI (h_runV (As := [.int 1]) X hI (h_recv X hI hO (show jC.1[0]? = some (RX0, TX0, 20) from rfl)) (mhX0_allIn l Z D j Λ fr lo E a0 (1 : Int32) m1 m2 G _ hf H.size) (cwV 1 hts (lw_V q2201 q2203 qs60 q167 q2204) rfl rfl rfl (by decide +kernel) (by show fr + 6 + 1 ≤ fr + 7 ∧ 8 + (2 + 11) + (lo + 3200) ≤ lo + 3221; omega)) rfl hl.1 (Nat.le_of_ble_eq_true rfl) dX0_lambda_drawn_22_2 ⟨hmA hm.1 hb1, hmA hm.2 hb2⟩ rfl) (fun x4 G3 H locs hf hI => ?_)
  have hm := And.intro (hmB hm.1 hb1) (hmB hm.2 hb2)
  clear hb1 hb2
  clear hO
  exact hret hf hI dX0_lambda_drawn_22_5 (hmC hm.1) (hmC hm.2)
/-! MergeJudge.luck(II)I -/
def hX0_luck_b37 (j : JX) (Λ : JLam) (a0 : Nat) (p1 : Int32) (p2 : Int32) (post : Int32 → HG → Prop) (K37 : Int32 → Int32 → Nat → Nat → HG → Prop) (lx3 : Int32) (lx4 : Int32) (mc ms : Nat) (G : HG) : Prop :=
  (p2 ≤ lx4 → (post lx3 G)) ∧ (¬ p2 ≤ lx4 → (isO G a0 0 (hX0_every j Λ a0 G fun x14 G13 => isO G13 a0 0 (hX0_drawsOf j Λ a0 (p1.toInt64 + lx4.toInt64) G13 fun x16 G15 => 1 ≤ mc ∧ 1 ≤ ms ∧ mkO G15 (.inr (55, .ref a0 :: ([] : List Int32).map .int)) fun a17 G18 => isO G18 a0 0 (∃ m19 m20 : Nat, m19 ≤ mc - 1 ∧ m20 ≤ ms - 1 ∧ hX0_under j Λ a0 (x14 &&& (x16 ^^^ (-1))) a17 m19 m20 G18 fun x22 G21 => K37 (lx3 + x22) (lx4 + 1) (mc - 1 - m19) (ms - 1 - m20) G21)))))
def hX0_luck_l37 (j : JX) (Λ : JLam) (a0 : Nat) (p1 : Int32) (p2 : Int32) (post : Int32 → HG → Prop) : Nat → Int32 → Int32 → Nat → Nat → HG → Prop
  | 0 => fun _ _ _ _ _ => False
  | n + 1 => fun lx3 lx4 mc ms G => hX0_luck_b37 j Λ a0 p1 p2 post (hX0_luck_l37 j Λ a0 p1 p2 post n) lx3 lx4 mc ms G
def hX0_luck (j : JX) (Λ : JLam) (a0 : Nat) (p1 : Int32) (p2 : Int32) (mc ms : Nat) (G : HG) (post : Int32 → HG → Prop) : Prop :=
  gtQ G a0 0 1 fun q1 => nnq q1 fun a2 => isO G a2 2 (hX2_is j Λ a2 G fun x4 G3 => (x4 = 0 → (post ((-2) : Int32) G3)) ∧ (¬ x4 = 0 → (hX0_isSeed j Λ p1 G3 fun x7 G6 => (x7 = 0 → (post ((-2) : Int32) G6)) ∧ (¬ x7 = 0 → (hX0_in j Λ p2.toInt64 (1 : Int64) (20 : Int64) G6 fun x10 G9 => (x10 = 0 → (post ((-2) : Int32) G9)) ∧ (¬ x10 = 0 → (∃ n, hX0_luck_l37 j Λ a0 p1 p2 post n (0 : Int32) (0 : Int32) mc ms G9)))))))
abbrev rhX0_luck (fr lo mc ms : Nat) : Room := { frames := fr + 5, cells := mc, slots := ms, locals := lo + 3200 }
theorem mhX0_luck (l : Launch) (Z : (Nat → Prop) → State → Heap → Prop) (D : va_G) (j : JX) (Λ : JLam) (fr lo : Nat) (E : JE l Z D j Λ fr lo) (a0 : Nat) (p1 : Int32) (p2 : Int32) (mc ms : Nat) (G : HG) (post : Int32 → HG → Prop) (hf : hX0_luck j Λ a0 p1 p2 mc ms G post) : HMi l yX0_luck (ws_ yX0_luck cX0_luck 5 (some .int)) (rhX0_luck fr lo mc ms) D jC (jty j.1) Z G [.ref a0, .int p1, .int p2] post mc ms := by
  obtain ⟨MC, eMC⟩ : ∃ MC, MC = mc := ⟨_, rfl⟩
  obtain ⟨MS, eMS⟩ : ∃ MS, MS = ms := ⟨_, rfl⟩
  suffices goal : HMi l yX0_luck (ws_ yX0_luck cX0_luck 5 (some .int)) (rhX0_luck fr lo MC MS) D jC (jty j.1) Z G [.ref a0, .int p1, .int p2] post MC MS by rw [eMC, eMS] at goal; exact goal
  have hm0_ : 0 + mc ≤ MC ∧ 0 + ms ≤ MS := by omega
  clear eMC eMS
  refine h_openi E.1 (by decide) (by exact Nat.le_of_ble_eq_true rfl) (fun p e s m args below meth c ls A0 Q X hI hnd hnm hl hret => ?_)
  have X : XC p s m args meth c cX0_luck 5 RX0 D jC (jty j.1) A0 Z := X
  have hx := X.1
  have hb := X.2.1
  have hown := X.2.2.2.1
  have hts := X.2.2.2.2.1
  have L37 : ∀ (n : Nat) (lx3 : Int32) (lx4 : Int32) (mc ms : Nat) (G : HG), hX0_luck_l37 j Λ a0 p1 p2 post n lx3 lx4 mc ms G → ∀ (cells slots : Nat), cells + mc ≤ MC ∧ slots + ms ≤ MS → ∀ (H : Heap) (locs : List Loc), HI D jC G A0 s.heap H locs → ∀ (ls : Array Slot), lv_has ls 5 [(0, .ref a0), (1, .int p1), (2, .int p2), (3, .int lx3), (4, .int lx4)] → W p l e (rhX0_luck fr lo MC MS) s m args below meth c H locs cells slots Q (F0 m 37 ls []) := by
    intro n37
    induction n37 with
    | zero => intro lx3 lx4 mc ms G hf; exact hf.elim
    | succ n37 ih37 =>
      intro lx3 lx4 mc ms G hf cells slots hm H locs hI ls hl
      have hf : hX0_luck_b37 j Λ a0 p1 p2 post (hX0_luck_l37 j Λ a0 p1 p2 post n37) lx3 lx4 mc ms G := hf
      unfold hX0_luck_b37 at hf
      refine lv_iload hx hb dX0_luck_37 (lv_at hl 4 rfl) ?_
      refine lv_iload_n hx hb dX0_luck_39 rfl (lv_at hl 2 rfl) ?_
      refine lv_icmp_ge (tgt := 79) hx hb dX0_luck_40 (by decide) (fun c12 => ?_) (fun c12 => ?_)
      · have hf := hf.1 c12
        refine lv_iload_n hx hb dX0_luck_79 rfl (lv_at hl 3 rfl) ?_
        exact hret hf hI dX0_luck_80 (hmC hm.1) (hmC hm.2)
      · have hf := hf.2 c12
        refine lv_iload_n hx hb dX0_luck_43 rfl (lv_at hl 3 rfl) ?_
        refine lv_aload_n hx hb dX0_luck_44 rfl (lv_at hl 0 rfl) ?_
        refine lv_aload_n hx hb dX0_luck_45 rfl (lv_at hl 0 rfl) ?_
        obtain ⟨_, _, hO, hf⟩ := hf
        refine h_ki X hI (h_runV (As := []) X hI (h_recv X hI hO (show jC.1[0]? = some (RX0, TX0, 20) from rfl)) (mhX0_every l Z D j Λ fr lo E a0 G _ hf H.size) (cwV 0 hts (lw_V q2072 q2074 qs54 q167 q2075) rfl rfl rfl (by decide +kernel) (by show fr + 2 + 1 ≤ fr + 5 ∧ 8 + (1 + 11) + (lo + 60) ≤ lo + 3200; omega)) rfl hl.1 (Nat.le_of_ble_eq_true rfl) dX0_luck_46 ⟨hm0 hm.1, hm0 hm.2⟩ rfl) (fun x14 G13 H locs hf hI => ?_)
        clear hO
        refine lv_aload_n hx hb dX0_luck_49 rfl (lv_at hl 0 rfl) ?_
        refine lv_iload_n hx hb dX0_luck_50 rfl (lv_at hl 1 rfl) ?_
        refine lv_i2l hx hb dX0_luck_51 rfl ?_
        refine lv_iload hx hb dX0_luck_52 (lv_at hl 4 rfl) ?_
        refine lv_i2l hx hb dX0_luck_54 rfl ?_
        refine lv_ladd hx hb dX0_luck_55 ?_
        obtain ⟨_, _, hO, hf⟩ := hf
        refine h_ki X hI (h_runV (As := [.long (p1.toInt64 + lx4.toInt64)]) X hI (h_recv X hI hO (show jC.1[0]? = some (RX0, TX0, 20) from rfl)) (mhX0_drawsOf l Z D j Λ fr lo E a0 (p1.toInt64 + lx4.toInt64) G13 _ hf H.size) (cwV 1 hts (lw_V q2505 q2507 qs83 q167 q2508) rfl rfl rfl (by decide +kernel) (by show fr + 2 + 1 ≤ fr + 5 ∧ 8 + (7 + 11) + (lo + 60) ≤ lo + 3200; omega)) rfl hl.1 (Nat.le_of_ble_eq_true rfl) dX0_luck_56 ⟨hm0 hm.1, hm0 hm.2⟩ rfl) (fun x16 G15 H locs hf hI => ?_)
        clear hO
        refine lv_iconst (v := -1) hx hb dX0_luck_59 (by decide) ?_
        refine lv_ixor hx hb dX0_luck_60 ?_
        refine lv_iand hx hb dX0_luck_61 ?_
        refine lv_aload_n hx hb dX0_luck_62 rfl (lv_at hl 0 rfl) ?_
        obtain ⟨hb1, hb2, hf⟩ := hf
        refine E.2.2.2.1 32 yX0_luck 63 550 a0 [] rfl (rest := [.int (x14 &&& (x16 ^^^ (-1))), .ref a0, .int lx3]) X hI hnd hl.1 (Nat.le_of_ble_eq_true rfl) dX0_luck_63 (by show 3200 ≤ lo + 3200; omega) (hmA hm.1 hb1) (hmA hm.2 hb2) hf (fun a17 G18 H hf hI => ?_)
        have hm := And.intro (hmB hm.1 hb1) (hmB hm.2 hb2)
        clear hb1 hb2
        obtain ⟨_, _, hO, hf⟩ := hf
        obtain ⟨m19, m20, hb1, hb2, hf⟩ := hf
        refine h_ki X hI (h_runV (As := [.int (x14 &&& (x16 ^^^ (-1))), .ref a17]) X hI (h_recv X hI hO (show jC.1[0]? = some (RX0, TX0, 20) from rfl)) (mhX0_under l Z D j Λ fr lo E a0 (x14 &&& (x16 ^^^ (-1))) a17 m19 m20 G18 _ hf H.size) (cwV 2 hts (lw_V q2079 q2081 qs56 q167 q2082) rfl rfl rfl (by decide +kernel) (by show fr + 4 + 1 ≤ fr + 5 ∧ 8 + (4 + 11) + (lo + 105) ≤ lo + 3200; omega)) rfl hl.1 (Nat.le_of_ble_eq_true rfl) dX0_luck_68 ⟨hmA hm.1 hb1, hmA hm.2 hb2⟩ rfl) (fun x22 G21 H locs hf hI => ?_)
        have hm := And.intro (hmB hm.1 hb1) (hmB hm.2 hb2)
        clear hb1 hb2
        clear hO
        refine lv_iadd hx hb dX0_luck_71 ?_
        refine lv_istore_n (lv' := [(3, .int (lx3 + x22)), (0, .ref a0), (1, .int p1), (2, .int p2), (4, .int lx4)]) hx hb dX0_luck_72 rfl hl (by decide) rfl (fun ls hl => ?_)
        refine lv_iinc (v := lx4 + 1) (lv' := [(4, .int (lx4 + 1)), (3, .int (lx3 + x22)), (0, .ref a0), (1, .int p1), (2, .int p2)]) hx hb dX0_luck_73 hl (k := 4) rfl rfl (by decide) rfl (fun ls hl => ?_)
        refine lv_goto (tgt := 37) hx hb dX0_luck_76 (by decide) ?_
        exact ih37 (lx3 + x22) (lx4 + 1) (mc - 1 - m19) (ms - 1 - m20) G21 hf _ _ hm H locs hI ls (lv_sub hl [2, 3, 4, 1, 0] rfl)
  have hl : lv_has ls 5 [(0, .ref a0), (1, .int p1), (2, .int p2)] := by exact hl
  unfold hX0_luck at hf
  obtain ⟨H, eH⟩ : ∃ H, H = s.heap := ⟨_, rfl⟩
  obtain ⟨locs, eL⟩ : ∃ locs : List Loc, locs = [] := ⟨_, rfl⟩
  have hI : HI D jC G A0 s.heap H locs := by rw [eH, eL]; exact hI
  rw [← eL]
  obtain ⟨cells, eC⟩ : ∃ n : Nat, n = 0 := ⟨_, rfl⟩
  obtain ⟨slots, eS⟩ : ∃ n : Nat, n = 0 := ⟨_, rfl⟩
  have hm : cells + mc ≤ MC ∧ slots + ms ≤ MS := by rw [eC, eS]; exact hm0_
  suffices h : W p l e (rhX0_luck fr lo MC MS) s m args below meth c H locs cells slots Q (F0 m 0 ls []) by rw [eH, eC, eS] at h; exact h
  clear eH eL eC eS
  refine lv_aload_n hx hb dX0_luck_0 rfl (lv_at hl 0 rfl) ?_
  refine hr_gtQ X hI (rfl : jC.1[0]? = some (RX0, TX0, 20)) in_X0 1 (Nat.le_of_ble_eq_true rfl) hf q653 (fun _ h => h) dX0_luck_1 (fun q1 hf => ?_)
  obtain ⟨a2, ea2, hf⟩ := hf
  revert hl hf
  subst ea2
  intro hl hf
  have hl : lv_has ls 5 [(0, .ref a0), (1, .int p1), (2, .int p2)] := hl
  obtain ⟨_, _, hO, hf⟩ := hf
  refine h_ki X hI (h_runV (As := []) X hI (h_recv X hI hO (show jC.1[2]? = some (RX2, TX2, 11) from rfl)) (mhX2_is l Z D j Λ fr lo E a2 G _ hf H.size) (cwV 0 hts (lw_V q1839 q1840 q1841 q169 q1842) rfl rfl rfl (by decide +kernel) (by show fr + 1 + 1 ≤ fr + 5 ∧ 8 + (1 + 11) + (lo + 40) ≤ lo + 3200; omega)) rfl hl.1 (Nat.le_of_ble_eq_true rfl) dX0_luck_4 ⟨hm0 hm.1, hm0 hm.2⟩ rfl) (fun x4 G3 H locs hf hI => ?_)
  clear hO
  refine lv_if_eq (tgt := 29) hx hb dX0_luck_7 (by decide) (fun c5 => ?_) (fun c5 => ?_)
  · have hf := hf.1 c5
    refine lv_bipush (v := -2) hx hb dX0_luck_29 (by decide) ?_
    exact hret hf hI dX0_luck_31 (hmC hm.1) (hmC hm.2)
  · have hf := hf.2 c5
    refine lv_iload_n hx hb dX0_luck_10 rfl (lv_at hl 1 rfl) ?_
    refine h_ki X hI (h_runS (As := [.int p1]) X hI (mhX0_isSeed l Z D j Λ fr lo E p1 G3 _ hf H.size) (va_cwS 1 hts (lw_S q2501 q2502 q167 q2503) rfl rfl rfl (by decide +kernel) (by show fr + 2 + 1 ≤ fr + 5 ∧ 8 + (1 + 11) + (lo + 65) ≤ lo + 3200; omega)) rfl hl.1 (Nat.le_of_ble_eq_true rfl) dX0_luck_11 ⟨hm0 hm.1, hm0 hm.2⟩ rfl) (fun x7 G6 H locs hf hI => ?_)
    refine lv_if_eq (tgt := 29) hx hb dX0_luck_14 (by decide) (fun c8 => ?_) (fun c8 => ?_)
    · have hf := hf.1 c8
      refine lv_bipush (v := -2) hx hb dX0_luck_29 (by decide) ?_
      exact hret hf hI dX0_luck_31 (hmC hm.1) (hmC hm.2)
    · have hf := hf.2 c8
      refine lv_iload_n hx hb dX0_luck_17 rfl (lv_at hl 2 rfl) ?_
      refine lv_i2l hx hb dX0_luck_18 rfl ?_
      refine lv_lconst (v := 1) hx hb dX0_luck_19 (by decide) ?_
      refine lv_ldc2 (v := 20) hx hb hown (hts _ q2520) dX0_luck_20 ?_
      refine h_ki X hI (h_runS (As := [.long p2.toInt64, .long 1, .long 20]) X hI (mhX0_in l Z D j Λ fr lo E p2.toInt64 (1 : Int64) (20 : Int64) G6 _ hf H.size) (va_cwS 3 hts (lw_S q226 q227 q167 q228) rfl rfl rfl (by decide +kernel) (by show fr + 1 + 1 ≤ fr + 5 ∧ 8 + (6 + 11) + (lo + 40) ≤ lo + 3200; omega)) rfl hl.1 (Nat.le_of_ble_eq_true rfl) dX0_luck_23 ⟨hm0 hm.1, hm0 hm.2⟩ rfl) (fun x10 G9 H locs hf hI => ?_)
      refine lv_if_ne (tgt := 32) hx hb dX0_luck_26 (by decide) (fun c11 => ?_) (fun c11 => ?_)
      · have hf := hf.2 c11
        refine lv_iconst (v := 0) hx hb dX0_luck_32 (by decide) ?_
        refine lv_istore_n (lv' := [(3, .int 0), (0, .ref a0), (1, .int p1), (2, .int p2)]) hx hb dX0_luck_33 rfl hl (by decide) rfl (fun ls hl => ?_)
        refine lv_iconst (v := 0) hx hb dX0_luck_34 (by decide) ?_
        refine lv_istore (lv' := [(4, .int 0), (3, .int 0), (0, .ref a0), (1, .int p1), (2, .int p2)]) hx hb dX0_luck_35 hl (by decide) rfl (fun ls hl => ?_)
        obtain ⟨n, hf⟩ := hf
        exact L37 n (0 : Int32) (0 : Int32) mc ms G9 hf _ _ hm H locs hI ls (lv_sub hl [2, 3, 4, 1, 0] rfl)
      · have hf := hf.1 c11
        refine lv_bipush (v := -2) hx hb dX0_luck_29 (by decide) ?_
        exact hret hf hI dX0_luck_31 (hmC hm.1) (hmC hm.2)
/-! MergeJudge.lambda$luck$23()I -/
def hX0_lambda_luck_23 (j : JX) (Λ : JLam) (a0 : Nat) (mc ms : Nat) (G : HG) (post : Int32 → HG → Prop) : Prop :=
  isO G a0 0 (∃ m1 m2 : Nat, m1 ≤ mc ∧ m2 ≤ ms ∧ hX0_isSafe j Λ a0 (1 : Int32) m1 m2 G fun x4 G3 => (x4 = 0 → (post (0 : Int32) G3)) ∧ (¬ x4 = 0 → (post (1 : Int32) G3)))
abbrev rhX0_lambda_luck_23 (fr lo mc ms : Nat) : Room := { frames := fr + 6, cells := mc, slots := ms, locals := lo + 3222 }
theorem mhX0_lambda_luck_23 (l : Launch) (Z : (Nat → Prop) → State → Heap → Prop) (D : va_G) (j : JX) (Λ : JLam) (fr lo : Nat) (E : JE l Z D j Λ fr lo) (a0 : Nat) (mc ms : Nat) (G : HG) (post : Int32 → HG → Prop) (hf : hX0_lambda_luck_23 j Λ a0 mc ms G post) : HMi l yX0_lambda_luck_23 (ws_ yX0_lambda_luck_23 cX0_lambda_luck_23 1 (some .int)) (rhX0_lambda_luck_23 fr lo mc ms) D jC (jty j.1) Z G [.ref a0] post mc ms := by
  obtain ⟨MC, eMC⟩ : ∃ MC, MC = mc := ⟨_, rfl⟩
  obtain ⟨MS, eMS⟩ : ∃ MS, MS = ms := ⟨_, rfl⟩
  suffices goal : HMi l yX0_lambda_luck_23 (ws_ yX0_lambda_luck_23 cX0_lambda_luck_23 1 (some .int)) (rhX0_lambda_luck_23 fr lo MC MS) D jC (jty j.1) Z G [.ref a0] post MC MS by rw [eMC, eMS] at goal; exact goal
  have hm0_ : 0 + mc ≤ MC ∧ 0 + ms ≤ MS := by omega
  clear eMC eMS
  refine h_openi E.1 (by decide) (by exact Nat.le_of_ble_eq_true rfl) (fun p e s m args below meth c ls A0 Q X hI hnd hnm hl hret => ?_)
  have X : XC p s m args meth c cX0_lambda_luck_23 1 RX0 D jC (jty j.1) A0 Z := X
  have hx := X.1
  have hb := X.2.1
  have hown := X.2.2.2.1
  have hts := X.2.2.2.2.1
  have hl : lv_has ls 1 [(0, .ref a0)] := by exact hl
  unfold hX0_lambda_luck_23 at hf
  obtain ⟨H, eH⟩ : ∃ H, H = s.heap := ⟨_, rfl⟩
  obtain ⟨locs, eL⟩ : ∃ locs : List Loc, locs = [] := ⟨_, rfl⟩
  have hI : HI D jC G A0 s.heap H locs := by rw [eH, eL]; exact hI
  rw [← eL]
  obtain ⟨cells, eC⟩ : ∃ n : Nat, n = 0 := ⟨_, rfl⟩
  obtain ⟨slots, eS⟩ : ∃ n : Nat, n = 0 := ⟨_, rfl⟩
  have hm : cells + mc ≤ MC ∧ slots + ms ≤ MS := by rw [eC, eS]; exact hm0_
  suffices h : W p l e (rhX0_lambda_luck_23 fr lo MC MS) s m args below meth c H locs cells slots Q (F0 m 0 ls []) by rw [eH, eC, eS] at h; exact h
  clear eH eL eC eS
  refine lv_aload_n hx hb dX0_lambda_luck_23_0 rfl (lv_at hl 0 rfl) ?_
  refine lv_iconst (v := 1) hx hb dX0_lambda_luck_23_1 (by decide) ?_
  obtain ⟨_, _, hO, hf⟩ := hf
  obtain ⟨m1, m2, hb1, hb2, hf⟩ := hf
  refine h_ki X hI (h_runV (As := [.int 1]) X hI (h_recv X hI hO (show jC.1[0]? = some (RX0, TX0, 20) from rfl)) (mhX0_isSafe l Z D j Λ fr lo E a0 (1 : Int32) m1 m2 G _ hf H.size) (cwV 1 hts (lw_V q2267 q2269 qs63 q167 q2270) rfl rfl rfl (by decide +kernel) (by show fr + 5 + 1 ≤ fr + 6 ∧ 8 + (3 + 11) + (lo + 3200) ≤ lo + 3222; omega)) rfl hl.1 (Nat.le_of_ble_eq_true rfl) dX0_lambda_luck_23_2 ⟨hmA hm.1 hb1, hmA hm.2 hb2⟩ rfl) (fun x4 G3 H locs hf hI => ?_)
  have hm := And.intro (hmB hm.1 hb1) (hmB hm.2 hb2)
  clear hb1 hb2
  clear hO
  refine lv_if_eq (tgt := 12) hx hb dX0_lambda_luck_23_5 (by decide) (fun c5 => ?_) (fun c5 => ?_)
  · have hf := hf.1 c5
    refine lv_iconst (v := 0) hx hb dX0_lambda_luck_23_12 (by decide) ?_
    exact hret hf hI dX0_lambda_luck_23_13 (hmC hm.1) (hmC hm.2)
  · have hf := hf.2 c5
    refine lv_iconst (v := 1) hx hb dX0_lambda_luck_23_8 (by decide) ?_
    refine lv_goto (tgt := 13) hx hb dX0_lambda_luck_23_9 (by decide) ?_
    exact hret hf hI dX0_lambda_luck_23_13 (hmC hm.1) (hmC hm.2)
/-! MergeJudge$Act.<init>(LMergeJudge$Undo;)V -/
def hX14_init (j : JX) (Λ : JLam) (a0 : Nat) (p1 : Nat) (G : HG) (post : HG → Prop) : Prop :=
  ptV G a0 14 0 (.ref p1) fun G1 => post G1
abbrev rhX14_init (fr lo : Nat) : Room := { frames := fr + 1, cells := 0, slots := 0, locals := lo + 40 }
theorem mhX14_init (l : Launch) (Z : (Nat → Prop) → State → Heap → Prop) (D : va_G) (j : JX) (Λ : JLam) (fr lo : Nat) (E : JE l Z D j Λ fr lo) (a0 : Nat) (p1 : Nat) (G : HG) (post : HG → Prop) (hf : hX14_init j Λ a0 p1 G post) : HMv l yX14_init (ws_ yX14_init cX14_init 2 none) (rhX14_init fr lo) D jC (jty j.1) Z G [.ref a0, .ref p1] post 0 0 := by
  refine h_openv E.1 (by decide) (by exact Nat.le_of_ble_eq_true rfl) (fun p e s m args below meth c ls A0 Q X hI hnd hnm hl hret => ?_)
  have X : XC p s m args meth c cX14_init 2 RX14 D jC (jty j.1) A0 Z := X
  have hx := X.1
  have hb := X.2.1
  have hown := X.2.2.2.1
  have hts := X.2.2.2.2.1
  have hl : lv_has ls 2 [(0, .ref a0), (1, .ref p1)] := by exact hl
  unfold hX14_init at hf
  obtain ⟨H, eH⟩ : ∃ H, H = s.heap := ⟨_, rfl⟩
  obtain ⟨locs, eL⟩ : ∃ locs : List Loc, locs = [] := ⟨_, rfl⟩
  have hI : HI D jC G A0 s.heap H locs := by rw [eH, eL]; exact hI
  rw [← eL]
  suffices h : W p l e (rhX14_init fr lo) s m args below meth c H locs 0 0 Q (F0 m 0 ls []) by rw [eH] at h; exact h
  clear eH eL
  refine lv_aload_n hx hb dX14_init_0 rfl (lv_at hl 0 rfl) ?_
  refine W.objInit hx hb hown (hts _ q2544) (hts _ q247) (hts _ q248) rfl (by rw [X.2.2.1]; exact hl.1) rfl dX14_init_1 (by show 1 ≤ fr + 1; omega) (Nat.le_trans (m := 40) (Nat.le_of_ble_eq_true rfl) (by show 40 ≤ lo + 40; omega)) ?_
  show W p l e _ s m args below meth c H locs _ _ Q (F0 m 4 ls [])
  refine lv_aload_n hx hb dX14_init_4 rfl (lv_at hl 0 rfl) ?_
  refine lv_aload_n hx hb dX14_init_5 rfl (lv_at hl 1 rfl) ?_
  refine hr_ptF X hI (rfl : jC.1[14]? = some (RX14, TX14, 1)) in_X14 0 (Nat.le_of_ble_eq_true rfl) tyX14 tyX14_ok nmX14 hf q2545 (fun _ h => h) rfl hnm rfl rfl rfl dX14_init_6 (fun G1 H locs hf hI => ?_)
  exact hret hf hI dX14_init_9 (Nat.le_refl _) (Nat.le_refl _)
/-! MergeJudge.rate(II)I -/
def hX0_rate (j : JX) (Λ : JLam) (a0 : Nat) (p1 : Int32) (p2 : Int32) (G : HG) (post : Int32 → HG → Prop) : Prop :=
  isO G a0 0 (hX0_isCell j Λ a0 p1 G fun x2 G1 => (x2 = 0 → (post ((-2) : Int32) G1)) ∧ (¬ x2 = 0 → (hX0_in j Λ p2.toInt64 (0 : Int64) (3 : Int64) G1 fun x5 G4 => (x5 = 0 → (post ((-2) : Int32) G4)) ∧ (¬ x5 = 0 → (gtQ G4 a0 0 1 fun q7 => nnq q7 fun a8 => gtQ G4 a8 2 2 fun q9 => nnq q9 fun a10 => isO G4 a10 15 (hJ2_isEmpty j Λ a10 G4 fun x12 G11 => (x12 = 0 → (post ((-5) : Int32) G11)) ∧ (¬ x12 = 0 → (gtQ G11 a0 0 1 fun q14 => nnq q14 fun a15 => gtQ G11 a15 2 3 fun q16 => nnq q16 fun a17 => ldI G11 a17 (j.1 0) p1 fun x18 => gtQ G11 a0 0 1 fun q19 => nnq q19 fun a20 => gtQ G11 a20 2 3 fun q21 => nnq q21 fun a22 => stI G11 a22 (j.1 0) p1 p2 fun G23 => post x18 G23))))))))
abbrev rhX0_rate (fr lo : Nat) : Room := { frames := fr + 3, cells := 0, slots := 0, locals := lo + 86 }
theorem mhX0_rate (l : Launch) (Z : (Nat → Prop) → State → Heap → Prop) (D : va_G) (j : JX) (Λ : JLam) (fr lo : Nat) (E : JE l Z D j Λ fr lo) (a0 : Nat) (p1 : Int32) (p2 : Int32) (G : HG) (post : Int32 → HG → Prop) (hf : hX0_rate j Λ a0 p1 p2 G post) : HMi l yX0_rate (ws_ yX0_rate cX0_rate 4 (some .int)) (rhX0_rate fr lo) D jC (jty j.1) Z G [.ref a0, .int p1, .int p2] post 0 0 := by
  refine h_openi E.1 (by decide) (by exact Nat.le_of_ble_eq_true rfl) (fun p e s m args below meth c ls A0 Q X hI hnd hnm hl hret => ?_)
  have X : XC p s m args meth c cX0_rate 4 RX0 D jC (jty j.1) A0 Z := X
  have hx := X.1
  have hb := X.2.1
  have hown := X.2.2.2.1
  have hts := X.2.2.2.2.1
  have hl : lv_has ls 4 [(0, .ref a0), (1, .int p1), (2, .int p2)] := by exact hl
  unfold hX0_rate at hf
  obtain ⟨H, eH⟩ : ∃ H, H = s.heap := ⟨_, rfl⟩
  obtain ⟨locs, eL⟩ : ∃ locs : List Loc, locs = [] := ⟨_, rfl⟩
  have hI : HI D jC G A0 s.heap H locs := by rw [eH, eL]; exact hI
  rw [← eL]
  suffices h : W p l e (rhX0_rate fr lo) s m args below meth c H locs 0 0 Q (F0 m 0 ls []) by rw [eH] at h; exact h
  clear eH eL
  refine lv_aload_n hx hb dX0_rate_0 rfl (lv_at hl 0 rfl) ?_
  refine lv_iload_n hx hb dX0_rate_1 rfl (lv_at hl 1 rfl) ?_
  obtain ⟨_, _, hO, hf⟩ := hf
  refine h_ki X hI (h_runV (As := [.int p1]) X hI (h_recv X hI hO (show jC.1[0]? = some (RX0, TX0, 20) from rfl)) (mhX0_isCell l Z D j Λ fr lo E a0 p1 G _ hf H.size) (cwV 1 hts (lw_V q2092 q2094 qs57 q167 q2095) rfl rfl rfl (by decide +kernel) (by show fr + 2 + 1 ≤ fr + 3 ∧ 8 + (2 + 11) + (lo + 65) ≤ lo + 86; omega)) rfl hl.1 (Nat.le_of_ble_eq_true rfl) dX0_rate_2 ⟨Nat.le_refl _, Nat.le_refl _⟩ rfl) (fun x2 G1 H locs hf hI => ?_)
  clear hO
  refine lv_if_eq (tgt := 20) hx hb dX0_rate_5 (by decide) (fun c3 => ?_) (fun c3 => ?_)
  · have hf := hf.1 c3
    refine lv_bipush (v := -2) hx hb dX0_rate_20 (by decide) ?_
    exact hret hf hI dX0_rate_22 (Nat.le_refl _) (Nat.le_refl _)
  · have hf := hf.2 c3
    refine lv_iload_n hx hb dX0_rate_8 rfl (lv_at hl 2 rfl) ?_
    refine lv_i2l hx hb dX0_rate_9 rfl ?_
    refine lv_lconst (v := 0) hx hb dX0_rate_10 (by decide) ?_
    refine lv_ldc2 (v := 3) hx hb hown (hts _ q225) dX0_rate_11 ?_
    refine h_ki X hI (h_runS (As := [.long p2.toInt64, .long 0, .long 3]) X hI (mhX0_in l Z D j Λ fr lo E p2.toInt64 (0 : Int64) (3 : Int64) G1 _ hf H.size) (va_cwS 3 hts (lw_S q226 q227 q167 q228) rfl rfl rfl (by decide +kernel) (by show fr + 1 + 1 ≤ fr + 3 ∧ 8 + (6 + 11) + (lo + 40) ≤ lo + 86; omega)) rfl hl.1 (Nat.le_of_ble_eq_true rfl) dX0_rate_14 ⟨Nat.le_refl _, Nat.le_refl _⟩ rfl) (fun x5 G4 H locs hf hI => ?_)
    refine lv_if_ne (tgt := 23) hx hb dX0_rate_17 (by decide) (fun c6 => ?_) (fun c6 => ?_)
    · have hf := hf.2 c6
      refine lv_aload_n hx hb dX0_rate_23 rfl (lv_at hl 0 rfl) ?_
      refine hr_gtQ X hI (rfl : jC.1[0]? = some (RX0, TX0, 20)) in_X0 1 (Nat.le_of_ble_eq_true rfl) hf q653 (fun _ h => h) dX0_rate_24 (fun q7 hf => ?_)
      obtain ⟨a8, ea8, hf⟩ := hf
      revert hl hf
      subst ea8
      intro hl hf
      have hl : lv_has ls 4 [(0, .ref a0), (1, .int p1), (2, .int p2)] := hl
      refine hr_gtQN X hI (rfl : jC.1[2]? = some (RX2, TX2, 11)) in_X2 2 (Nat.le_of_ble_eq_true rfl) hf (E.nw X q485 rfl) (fun _ h => h) dX0_rate_27 (fun q9 hf => ?_)
      obtain ⟨a10, ea10, hf⟩ := hf
      revert hl hf
      subst ea10
      intro hl hf
      have hl : lv_has ls 4 [(0, .ref a0), (1, .int p1), (2, .int p2)] := hl
      obtain ⟨_, _, hO, hf⟩ := hf
      refine h_Fki X hI (h_runF (As := []) X hI (X.2.2.2.2.2.1.1 15 _ (show jC.1[15]? = some (RJ2, TJ2, 3) from rfl)).2 (h_recv X hI hO (show jC.1[15]? = some (RJ2, TJ2, 3) from rfl)) (mhJ2_isEmpty l Z D j Λ fr lo E a10 G4 _ hf H.size) (cwF 0 hts q2565 q2568 q2570 q172 q2572 ((E.w X).2.2.1 _ (List.mem_of_getElem? (show jFw[3]? = _ from rfl))) rfl rfl (by decide +kernel) (by show fr + 1 + 1 ≤ fr + 3 ∧ 8 + (1 + 11) + (lo + 40) ≤ lo + 86; omega)) rfl hl.1 (Nat.le_of_ble_eq_true rfl) dX0_rate_30 ⟨Nat.le_refl _, Nat.le_refl _⟩ rfl) (fun x12 G11 H locs hf hI => ?_)
      clear hO
      refine lv_if_ne (tgt := 41) hx hb dX0_rate_35 (by decide) (fun c13 => ?_) (fun c13 => ?_)
      · have hf := hf.2 c13
        refine lv_aload_n hx hb dX0_rate_41 rfl (lv_at hl 0 rfl) ?_
        refine hr_gtQ X hI (rfl : jC.1[0]? = some (RX0, TX0, 20)) in_X0 1 (Nat.le_of_ble_eq_true rfl) hf q653 (fun _ h => h) dX0_rate_42 (fun q14 hf => ?_)
        obtain ⟨a15, ea15, hf⟩ := hf
        revert hl hf
        subst ea15
        intro hl hf
        have hl : lv_has ls 4 [(0, .ref a0), (1, .int p1), (2, .int p2)] := hl
        refine hr_gtQN X hI (rfl : jC.1[2]? = some (RX2, TX2, 11)) in_X2 3 (Nat.le_of_ble_eq_true rfl) hf (E.nw X q488 rfl) (fun _ h => h) dX0_rate_45 (fun q16 hf => ?_)
        refine lv_iload_n hx hb dX0_rate_48 rfl (lv_at hl 1 rfl) ?_
        obtain ⟨a17, ea17, hf⟩ := hf
        revert hl hf
        subst ea17
        intro hl hf
        have hl : lv_has ls 4 [(0, .ref a0), (1, .int p1), (2, .int p2)] := hl
        refine hr_ild X hI 0 rfl hf dX0_rate_49 (fun x18 hf => ?_)
        refine lv_istore_n (lv' := [(3, .int x18), (0, .ref a0), (1, .int p1), (2, .int p2)]) hx hb dX0_rate_50 rfl hl (by decide) rfl (fun ls hl => ?_)
        refine lv_aload_n hx hb dX0_rate_51 rfl (lv_at hl 1 rfl) ?_
        refine hr_gtQ X hI (rfl : jC.1[0]? = some (RX0, TX0, 20)) in_X0 1 (Nat.le_of_ble_eq_true rfl) hf q653 (fun _ h => h) dX0_rate_52 (fun q19 hf => ?_)
        obtain ⟨a20, ea20, hf⟩ := hf
        revert hl hf
        subst ea20
        intro hl hf
        have hl : lv_has ls 4 [(3, .int x18), (0, .ref a0), (1, .int p1), (2, .int p2)] := hl
        refine hr_gtQN X hI (rfl : jC.1[2]? = some (RX2, TX2, 11)) in_X2 3 (Nat.le_of_ble_eq_true rfl) hf (E.nw X q488 rfl) (fun _ h => h) dX0_rate_55 (fun q21 hf => ?_)
        refine lv_iload_n hx hb dX0_rate_58 rfl (lv_at hl 2 rfl) ?_
        refine lv_iload_n hx hb dX0_rate_59 rfl (lv_at hl 3 rfl) ?_
        obtain ⟨a22, ea22, hf⟩ := hf
        revert hl hf
        subst ea22
        intro hl hf
        have hl : lv_has ls 4 [(3, .int x18), (0, .ref a0), (1, .int p1), (2, .int p2)] := hl
        refine hr_ist X hI 0 rfl hf dX0_rate_60 (fun G23 H locs hf hI => ?_)
        refine lv_iload_n hx hb dX0_rate_61 rfl (lv_at hl 0 rfl) ?_
        exact hret hf hI dX0_rate_62 (Nat.le_refl _) (Nat.le_refl _)
      · have hf := hf.1 c13
        refine lv_bipush (v := -5) hx hb dX0_rate_38 (by decide) ?_
        exact hret hf hI dX0_rate_40 (Nat.le_refl _) (Nat.le_refl _)
    · have hf := hf.1 c6
      refine lv_bipush (v := -2) hx hb dX0_rate_20 (by decide) ?_
      exact hret hf hI dX0_rate_22 (Nat.le_refl _) (Nat.le_refl _)
/-! MergeJudge.count(I)I -/
def hX0_count_b181 (j : JX) (Λ : JLam) (a0 : Nat) (p1 : Int32) (post : Int32 → HG → Prop) (K154 : Int32 → Nat → Int32 → Int32 → HG → Prop) (la3 : Nat) (lx4 : Int32) (lx5 : Int32) (z0 : Int32) (z1 : Int32) (G : HG) : Prop :=
  K154 (z0 + z1) la3 lx4 (lx5 + 1) G
def hX0_count_b154 (j : JX) (Λ : JLam) (a0 : Nat) (p1 : Int32) (post : Int32 → HG → Prop) (K154 : Int32 → Nat → Int32 → Int32 → HG → Prop) (lx2 : Int32) (la3 : Nat) (lx4 : Int32) (lx5 : Int32) (G : HG) : Prop :=
  (lx4 ≤ lx5 → (post lx2 G)) ∧ (¬ lx4 ≤ lx5 → (ldQ (jty j.1) G la3 lx5 fun q49 => nnq q49 fun a50 => gtQ G a50 1 0 fun q51 => (q51 = none → (hX0_count_b181 j Λ a0 p1 post K154 la3 lx4 lx5 lx2 (0 : Int32) G)) ∧ (∀ a53, q51 = some a53 → (hX0_count_b181 j Λ a0 p1 post K154 la3 lx4 lx5 lx2 (1 : Int32) G))))
def hX0_count_l154 (j : JX) (Λ : JLam) (a0 : Nat) (p1 : Int32) (post : Int32 → HG → Prop) : Nat → Int32 → Nat → Int32 → Int32 → HG → Prop
  | 0 => fun _ _ _ _ _ => False
  | n + 1 => fun lx2 la3 lx4 lx5 G => hX0_count_b154 j Λ a0 p1 post (hX0_count_l154 j Λ a0 p1 post n) lx2 la3 lx4 lx5 G
def hX0_count (j : JX) (Λ : JLam) (a0 : Nat) (p1 : Int32) (G : HG) (post : Int32 → HG → Prop) : Prop :=
  (p1 = 0 → (gtQ G a0 0 1 fun q2 => nnq q2 fun a3 => gtI G a3 2 4 fun x4 => post x4 G)) ∧ (¬ p1 = 0 → ((p1 = 1 → (gtQ G a0 0 1 fun q6 => nnq q6 fun a7 => gtI G a7 2 5 fun x8 => post x8 G)) ∧ (¬ p1 = 1 → ((p1 = 2 → (gtQ G a0 0 1 fun q10 => nnq q10 fun a11 => gtI G a11 2 6 fun x12 => post x12 G)) ∧ (¬ p1 = 2 → ((p1 = 3 → (gtQ G a0 0 1 fun q14 => nnq q14 fun a15 => gtI G a15 2 7 fun x16 => post x16 G)) ∧ (¬ p1 = 3 → ((p1 = 4 → (gtQ G a0 0 1 fun q18 => nnq q18 fun a19 => gtQ G a19 2 0 fun q20 => nnq q20 fun a21 => isO G a21 15 (hJ2_size j Λ a21 G fun x23 G22 => post x23 G22))) ∧ (¬ p1 = 4 → ((p1 = 5 → (gtQ G a0 0 1 fun q25 => nnq q25 fun a26 => gtQ G a26 2 1 fun q27 => nnq q27 fun a28 => isO G a28 15 (hJ2_size j Λ a28 G fun x30 G29 => post x30 G29))) ∧ (¬ p1 = 5 → ((p1 = 6 → (gtQ G a0 0 1 fun q32 => nnq q32 fun a33 => gtQ G a33 2 2 fun q34 => nnq q34 fun a35 => isO G a35 15 (hJ2_size j Λ a35 G fun x37 G36 => post x37 G36))) ∧ (¬ p1 = 6 → ((p1 = 7 → (gtQ G a0 0 1 fun q39 => nnq q39 fun a40 => gtI G a40 2 10 fun x41 => post x41 G)) ∧ (¬ p1 = 7 → ((p1 = 8 → (gtI G a0 0 6 fun x43 => post x43 G)) ∧ (¬ p1 = 8 → ((p1 = 9 → (gtQ G a0 0 0 fun q45 => nnq q45 fun a46 => aln (jty j.1) G a46 fun x47 => ∃ n, hX0_count_l154 j Λ a0 p1 post n (0 : Int32) a46 x47 (0 : Int32) G)) ∧ (¬ p1 = 9 → (post ((-1) : Int32) G))))))))))))))))))))
abbrev rhX0_count (fr lo : Nat) : Room := { frames := fr + 2, cells := 0, slots := 0, locals := lo + 60 }
theorem mhX0_count (l : Launch) (Z : (Nat → Prop) → State → Heap → Prop) (D : va_G) (j : JX) (Λ : JLam) (fr lo : Nat) (E : JE l Z D j Λ fr lo) (a0 : Nat) (p1 : Int32) (G : HG) (post : Int32 → HG → Prop) (hf : hX0_count j Λ a0 p1 G post) : HMi l yX0_count (ws_ yX0_count cX0_count 7 (some .int)) (rhX0_count fr lo) D jC (jty j.1) Z G [.ref a0, .int p1] post 0 0 := by
  refine h_openi E.1 (by decide) (by exact Nat.le_of_ble_eq_true rfl) (fun p e s m args below meth c ls A0 Q X hI hnd hnm hl hret => ?_)
  have X : XC p s m args meth c cX0_count 7 RX0 D jC (jty j.1) A0 Z := X
  have hx := X.1
  have hb := X.2.1
  have hown := X.2.2.2.1
  have hts := X.2.2.2.2.1
  have L154 : ∀ (n : Nat) (lx2 : Int32) (la3 : Nat) (lx4 : Int32) (lx5 : Int32) (G : HG), hX0_count_l154 j Λ a0 p1 post n lx2 la3 lx4 lx5 G → ∀ (H : Heap) (locs : List Loc), HI D jC G A0 s.heap H locs → ∀ (ls : Array Slot), lv_has ls 7 [(2, .int lx2), (3, .ref la3), (4, .int lx4), (5, .int lx5)] → W p l e (rhX0_count fr lo) s m args below meth c H locs 0 0 Q (F0 m 154 ls []) := by
    intro n154
    induction n154 with
    | zero => intro lx2 la3 lx4 lx5 G hf; exact hf.elim
    | succ n154 ih154 =>
      have J181 : ∀ (la3 : Nat) (lx4 : Int32) (lx5 : Int32) (z0 : Int32) (z1 : Int32) (G : HG), hX0_count_b181 j Λ a0 p1 post (hX0_count_l154 j Λ a0 p1 post n154) la3 lx4 lx5 z0 z1 G → ∀ (H : Heap) (locs : List Loc), HI D jC G A0 s.heap H locs → ∀ (ls : Array Slot), lv_has ls 7 [(3, .ref la3), (4, .int lx4), (5, .int lx5)] → W p l e (rhX0_count fr lo) s m args below meth c H locs 0 0 Q (F0 m 181 ls [.int z1, .int z0]) := by
        intro la3 lx4 lx5 z0 z1 G hf H locs hI ls hl
        unfold hX0_count_b181 at hf
        refine lv_iadd hx hb dX0_count_181 ?_
        refine lv_istore_n (lv' := [(2, .int (z0 + z1)), (3, .ref la3), (4, .int lx4), (5, .int lx5)]) hx hb dX0_count_182 rfl hl (by decide) rfl (fun ls hl => ?_)
        refine lv_iinc (v := lx5 + 1) (lv' := [(5, .int (lx5 + 1)), (2, .int (z0 + z1)), (3, .ref la3), (4, .int lx4)]) hx hb dX0_count_183 hl (k := 3) rfl rfl (by decide) rfl (fun ls hl => ?_)
        refine lv_goto (tgt := 154) hx hb dX0_count_186 (by decide) ?_
        exact ih154 (z0 + z1) la3 lx4 (lx5 + 1) G hf H locs hI ls (lv_sub hl [1, 2, 3, 0] rfl)
      intro lx2 la3 lx4 lx5 G hf H locs hI ls hl
      have hf : hX0_count_b154 j Λ a0 p1 post (hX0_count_l154 j Λ a0 p1 post n154) lx2 la3 lx4 lx5 G := hf
      unfold hX0_count_b154 at hf
      refine lv_iload hx hb dX0_count_154 (lv_at hl 3 rfl) ?_
      refine lv_iload hx hb dX0_count_156 (lv_at hl 2 rfl) ?_
      refine lv_icmp_ge (tgt := 189) hx hb dX0_count_158 (by decide) (fun c48 => ?_) (fun c48 => ?_)
      · have hf := hf.1 c48
        refine lv_iload_n hx hb dX0_count_189 rfl (lv_at hl 0 rfl) ?_
        exact hret hf hI dX0_count_190 (Nat.le_refl _) (Nat.le_refl _)
      · have hf := hf.2 c48
        refine lv_aload_n hx hb dX0_count_161 rfl (lv_at hl 1 rfl) ?_
        refine lv_iload hx hb dX0_count_162 (lv_at hl 3 rfl) ?_
        refine hr_qld X hI hf dX0_count_164 (fun q49 hf => ?_)
        refine h_astore (o := q49) (lv' := [(6, va_rf q49), (2, .int lx2), (3, .ref la3), (4, .int lx4), (5, .int lx5)]) hx hb dX0_count_165 hl (by decide) rfl (fun ls hl => ?_)
        refine lv_iload_n hx hb dX0_count_167 rfl (lv_at hl 1 rfl) ?_
        refine h_aload (o := q49) hx hb dX0_count_168 (lv_at hl 0 rfl) ?_
        obtain ⟨a50, ea50, hf⟩ := hf
        revert hl hf
        subst ea50
        intro hl hf
        have hl : lv_has ls 7 [(6, .ref a50), (2, .int lx2), (3, .ref la3), (4, .int lx4), (5, .int lx5)] := hl
        refine hr_gtQN X hI (rfl : jC.1[1]? = some (RX1, TX1, 1)) in_X1 0 (Nat.le_of_ble_eq_true rfl) hf (E.nw X q433 rfl) (fun _ h => h) dX0_count_170 (fun q51 hf => ?_)
        refine h_ifnonnull (tgt := 180) hx hb dX0_count_173 (by decide) (fun a53 c52 => ?_) (fun c52 => ?_)
        · have hf := hf.2 a53 c52
          revert hl hf
          subst c52
          intro hl hf
          have hl : lv_has ls 7 [(6, .ref a50), (2, .int lx2), (3, .ref la3), (4, .int lx4), (5, .int lx5)] := hl
          refine lv_iconst (v := 1) hx hb dX0_count_180 (by decide) ?_
          exact J181 la3 lx4 lx5 lx2 (1 : Int32) G hf H locs hI ls (lv_sub hl [2, 3, 4] rfl)
        · have hf := hf.1 c52
          revert hl hf
          subst c52
          intro hl hf
          have hl : lv_has ls 7 [(6, .ref a50), (2, .int lx2), (3, .ref la3), (4, .int lx4), (5, .int lx5)] := hl
          refine lv_iconst (v := 0) hx hb dX0_count_176 (by decide) ?_
          refine lv_goto (tgt := 181) hx hb dX0_count_177 (by decide) ?_
          exact J181 la3 lx4 lx5 lx2 (0 : Int32) G hf H locs hI ls (lv_sub hl [2, 3, 4] rfl)
  have hl : lv_has ls 7 [(0, .ref a0), (1, .int p1)] := by exact hl
  unfold hX0_count at hf
  obtain ⟨H, eH⟩ : ∃ H, H = s.heap := ⟨_, rfl⟩
  obtain ⟨locs, eL⟩ : ∃ locs : List Loc, locs = [] := ⟨_, rfl⟩
  have hI : HI D jC G A0 s.heap H locs := by rw [eH, eL]; exact hI
  rw [← eL]
  suffices h : W p l e (rhX0_count fr lo) s m args below meth c H locs 0 0 Q (F0 m 0 ls []) by rw [eH] at h; exact h
  clear eH eL
  refine lv_iload_n hx hb dX0_count_0 rfl (lv_at hl 1 rfl) ?_
  by_cases c1 : p1 = 0
  · refine x_swIn (tgt := 56) hx hb c1 dX0_count_1 (by decide) (by decide) rfl (by decide) ?_
    have hf := hf.1 c1
    refine lv_aload_n hx hb dX0_count_56 rfl (lv_at hl 0 rfl) ?_
    refine hr_gtQ X hI (rfl : jC.1[0]? = some (RX0, TX0, 20)) in_X0 1 (Nat.le_of_ble_eq_true rfl) hf q653 (fun _ h => h) dX0_count_57 (fun q2 hf => ?_)
    obtain ⟨a3, ea3, hf⟩ := hf
    revert hl hf
    subst ea3
    intro hl hf
    have hl : lv_has ls 7 [(0, .ref a0), (1, .int p1)] := hl
    refine hr_gtIN X hI (rfl : jC.1[2]? = some (RX2, TX2, 11)) in_X2 4 (Nat.le_of_ble_eq_true rfl) hf (E.nw X q490 rfl) (fun _ h => h) dX0_count_60 (fun x4 hf => ?_)
    exact hret hf hI dX0_count_63 (Nat.le_refl _) (Nat.le_refl _)
  have hf := hf.2 c1
  by_cases c5 : p1 = 1
  · refine x_swIn (tgt := 64) hx hb c5 dX0_count_1 (by decide) (by decide) rfl (by decide) ?_
    have hf := hf.1 c5
    refine lv_aload_n hx hb dX0_count_64 rfl (lv_at hl 0 rfl) ?_
    refine hr_gtQ X hI (rfl : jC.1[0]? = some (RX0, TX0, 20)) in_X0 1 (Nat.le_of_ble_eq_true rfl) hf q653 (fun _ h => h) dX0_count_65 (fun q6 hf => ?_)
    obtain ⟨a7, ea7, hf⟩ := hf
    revert hl hf
    subst ea7
    intro hl hf
    have hl : lv_has ls 7 [(0, .ref a0), (1, .int p1)] := hl
    refine hr_gtIN X hI (rfl : jC.1[2]? = some (RX2, TX2, 11)) in_X2 5 (Nat.le_of_ble_eq_true rfl) hf (E.nw X q494 rfl) (fun _ h => h) dX0_count_68 (fun x8 hf => ?_)
    exact hret hf hI dX0_count_71 (Nat.le_refl _) (Nat.le_refl _)
  have hf := hf.2 c5
  by_cases c9 : p1 = 2
  · refine x_swIn (tgt := 72) hx hb c9 dX0_count_1 (by decide) (by decide) rfl (by decide) ?_
    have hf := hf.1 c9
    refine lv_aload_n hx hb dX0_count_72 rfl (lv_at hl 0 rfl) ?_
    refine hr_gtQ X hI (rfl : jC.1[0]? = some (RX0, TX0, 20)) in_X0 1 (Nat.le_of_ble_eq_true rfl) hf q653 (fun _ h => h) dX0_count_73 (fun q10 hf => ?_)
    obtain ⟨a11, ea11, hf⟩ := hf
    revert hl hf
    subst ea11
    intro hl hf
    have hl : lv_has ls 7 [(0, .ref a0), (1, .int p1)] := hl
    refine hr_gtIN X hI (rfl : jC.1[2]? = some (RX2, TX2, 11)) in_X2 6 (Nat.le_of_ble_eq_true rfl) hf (E.nw X q497 rfl) (fun _ h => h) dX0_count_76 (fun x12 hf => ?_)
    exact hret hf hI dX0_count_79 (Nat.le_refl _) (Nat.le_refl _)
  have hf := hf.2 c9
  by_cases c13 : p1 = 3
  · refine x_swIn (tgt := 80) hx hb c13 dX0_count_1 (by decide) (by decide) rfl (by decide) ?_
    have hf := hf.1 c13
    refine lv_aload_n hx hb dX0_count_80 rfl (lv_at hl 0 rfl) ?_
    refine hr_gtQ X hI (rfl : jC.1[0]? = some (RX0, TX0, 20)) in_X0 1 (Nat.le_of_ble_eq_true rfl) hf q653 (fun _ h => h) dX0_count_81 (fun q14 hf => ?_)
    obtain ⟨a15, ea15, hf⟩ := hf
    revert hl hf
    subst ea15
    intro hl hf
    have hl : lv_has ls 7 [(0, .ref a0), (1, .int p1)] := hl
    refine hr_gtIN X hI (rfl : jC.1[2]? = some (RX2, TX2, 11)) in_X2 7 (Nat.le_of_ble_eq_true rfl) hf (E.nw X q500 rfl) (fun _ h => h) dX0_count_84 (fun x16 hf => ?_)
    exact hret hf hI dX0_count_87 (Nat.le_refl _) (Nat.le_refl _)
  have hf := hf.2 c13
  by_cases c17 : p1 = 4
  · refine x_swIn (tgt := 88) hx hb c17 dX0_count_1 (by decide) (by decide) rfl (by decide) ?_
    have hf := hf.1 c17
    refine lv_aload_n hx hb dX0_count_88 rfl (lv_at hl 0 rfl) ?_
    refine hr_gtQ X hI (rfl : jC.1[0]? = some (RX0, TX0, 20)) in_X0 1 (Nat.le_of_ble_eq_true rfl) hf q653 (fun _ h => h) dX0_count_89 (fun q18 hf => ?_)
    obtain ⟨a19, ea19, hf⟩ := hf
    revert hl hf
    subst ea19
    intro hl hf
    have hl : lv_has ls 7 [(0, .ref a0), (1, .int p1)] := hl
    refine hr_gtQN X hI (rfl : jC.1[2]? = some (RX2, TX2, 11)) in_X2 0 (Nat.le_of_ble_eq_true rfl) hf (E.nw X q478 rfl) (fun _ h => h) dX0_count_92 (fun q20 hf => ?_)
    obtain ⟨a21, ea21, hf⟩ := hf
    revert hl hf
    subst ea21
    intro hl hf
    have hl : lv_has ls 7 [(0, .ref a0), (1, .int p1)] := hl
    obtain ⟨_, _, hO, hf⟩ := hf
    refine h_Fki X hI (h_runF (As := []) X hI (X.2.2.2.2.2.1.1 15 _ (show jC.1[15]? = some (RJ2, TJ2, 3) from rfl)).2 (h_recv X hI hO (show jC.1[15]? = some (RJ2, TJ2, 3) from rfl)) (mhJ2_size l Z D j Λ fr lo E a21 G _ hf H.size) (cwF 0 hts q1848 q1771 q1773 q172 q1775 ((E.w X).2.2.1 _ (List.mem_of_getElem? (show jFw[0]? = _ from rfl))) rfl rfl (by decide +kernel) (by show fr + 1 + 1 ≤ fr + 2 ∧ 8 + (1 + 11) + (lo + 40) ≤ lo + 60; omega)) rfl hl.1 (Nat.le_of_ble_eq_true rfl) dX0_count_95 ⟨Nat.le_refl _, Nat.le_refl _⟩ rfl) (fun x23 G22 H locs hf hI => ?_)
    clear hO
    exact hret hf hI dX0_count_100 (Nat.le_refl _) (Nat.le_refl _)
  have hf := hf.2 c17
  by_cases c24 : p1 = 5
  · refine x_swIn (tgt := 101) hx hb c24 dX0_count_1 (by decide) (by decide) rfl (by decide) ?_
    have hf := hf.1 c24
    refine lv_aload_n hx hb dX0_count_101 rfl (lv_at hl 0 rfl) ?_
    refine hr_gtQ X hI (rfl : jC.1[0]? = some (RX0, TX0, 20)) in_X0 1 (Nat.le_of_ble_eq_true rfl) hf q653 (fun _ h => h) dX0_count_102 (fun q25 hf => ?_)
    obtain ⟨a26, ea26, hf⟩ := hf
    revert hl hf
    subst ea26
    intro hl hf
    have hl : lv_has ls 7 [(0, .ref a0), (1, .int p1)] := hl
    refine hr_gtQN X hI (rfl : jC.1[2]? = some (RX2, TX2, 11)) in_X2 1 (Nat.le_of_ble_eq_true rfl) hf (E.nw X q483 rfl) (fun _ h => h) dX0_count_105 (fun q27 hf => ?_)
    obtain ⟨a28, ea28, hf⟩ := hf
    revert hl hf
    subst ea28
    intro hl hf
    have hl : lv_has ls 7 [(0, .ref a0), (1, .int p1)] := hl
    obtain ⟨_, _, hO, hf⟩ := hf
    refine h_Fki X hI (h_runF (As := []) X hI (X.2.2.2.2.2.1.1 15 _ (show jC.1[15]? = some (RJ2, TJ2, 3) from rfl)).2 (h_recv X hI hO (show jC.1[15]? = some (RJ2, TJ2, 3) from rfl)) (mhJ2_size l Z D j Λ fr lo E a28 G _ hf H.size) (cwF 0 hts q1848 q1771 q1773 q172 q1775 ((E.w X).2.2.1 _ (List.mem_of_getElem? (show jFw[0]? = _ from rfl))) rfl rfl (by decide +kernel) (by show fr + 1 + 1 ≤ fr + 2 ∧ 8 + (1 + 11) + (lo + 40) ≤ lo + 60; omega)) rfl hl.1 (Nat.le_of_ble_eq_true rfl) dX0_count_108 ⟨Nat.le_refl _, Nat.le_refl _⟩ rfl) (fun x30 G29 H locs hf hI => ?_)
    clear hO
    exact hret hf hI dX0_count_113 (Nat.le_refl _) (Nat.le_refl _)
  have hf := hf.2 c24
  by_cases c31 : p1 = 6
  · refine x_swIn (tgt := 114) hx hb c31 dX0_count_1 (by decide) (by decide) rfl (by decide) ?_
    have hf := hf.1 c31
    refine lv_aload_n hx hb dX0_count_114 rfl (lv_at hl 0 rfl) ?_
    refine hr_gtQ X hI (rfl : jC.1[0]? = some (RX0, TX0, 20)) in_X0 1 (Nat.le_of_ble_eq_true rfl) hf q653 (fun _ h => h) dX0_count_115 (fun q32 hf => ?_)
    obtain ⟨a33, ea33, hf⟩ := hf
    revert hl hf
    subst ea33
    intro hl hf
    have hl : lv_has ls 7 [(0, .ref a0), (1, .int p1)] := hl
    refine hr_gtQN X hI (rfl : jC.1[2]? = some (RX2, TX2, 11)) in_X2 2 (Nat.le_of_ble_eq_true rfl) hf (E.nw X q485 rfl) (fun _ h => h) dX0_count_118 (fun q34 hf => ?_)
    obtain ⟨a35, ea35, hf⟩ := hf
    revert hl hf
    subst ea35
    intro hl hf
    have hl : lv_has ls 7 [(0, .ref a0), (1, .int p1)] := hl
    obtain ⟨_, _, hO, hf⟩ := hf
    refine h_Fki X hI (h_runF (As := []) X hI (X.2.2.2.2.2.1.1 15 _ (show jC.1[15]? = some (RJ2, TJ2, 3) from rfl)).2 (h_recv X hI hO (show jC.1[15]? = some (RJ2, TJ2, 3) from rfl)) (mhJ2_size l Z D j Λ fr lo E a35 G _ hf H.size) (cwF 0 hts q1848 q1771 q1773 q172 q1775 ((E.w X).2.2.1 _ (List.mem_of_getElem? (show jFw[0]? = _ from rfl))) rfl rfl (by decide +kernel) (by show fr + 1 + 1 ≤ fr + 2 ∧ 8 + (1 + 11) + (lo + 40) ≤ lo + 60; omega)) rfl hl.1 (Nat.le_of_ble_eq_true rfl) dX0_count_121 ⟨Nat.le_refl _, Nat.le_refl _⟩ rfl) (fun x37 G36 H locs hf hI => ?_)
    clear hO
    exact hret hf hI dX0_count_126 (Nat.le_refl _) (Nat.le_refl _)
  have hf := hf.2 c31
  by_cases c38 : p1 = 7
  · refine x_swIn (tgt := 127) hx hb c38 dX0_count_1 (by decide) (by decide) rfl (by decide) ?_
    have hf := hf.1 c38
    refine lv_aload_n hx hb dX0_count_127 rfl (lv_at hl 0 rfl) ?_
    refine hr_gtQ X hI (rfl : jC.1[0]? = some (RX0, TX0, 20)) in_X0 1 (Nat.le_of_ble_eq_true rfl) hf q653 (fun _ h => h) dX0_count_128 (fun q39 hf => ?_)
    obtain ⟨a40, ea40, hf⟩ := hf
    revert hl hf
    subst ea40
    intro hl hf
    have hl : lv_has ls 7 [(0, .ref a0), (1, .int p1)] := hl
    refine hr_gtIN X hI (rfl : jC.1[2]? = some (RX2, TX2, 11)) in_X2 10 (Nat.le_of_ble_eq_true rfl) hf (E.nw X q508 rfl) (fun _ h => h) dX0_count_131 (fun x41 hf => ?_)
    exact hret hf hI dX0_count_134 (Nat.le_refl _) (Nat.le_refl _)
  have hf := hf.2 c38
  by_cases c42 : p1 = 8
  · refine x_swIn (tgt := 135) hx hb c42 dX0_count_1 (by decide) (by decide) rfl (by decide) ?_
    have hf := hf.1 c42
    refine lv_aload_n hx hb dX0_count_135 rfl (lv_at hl 0 rfl) ?_
    refine hr_gtI X hI (rfl : jC.1[0]? = some (RX0, TX0, 20)) in_X0 6 (Nat.le_of_ble_eq_true rfl) hf q658 (fun _ h => h) dX0_count_136 (fun x43 hf => ?_)
    exact hret hf hI dX0_count_139 (Nat.le_refl _) (Nat.le_refl _)
  have hf := hf.2 c42
  by_cases c44 : p1 = 9
  · refine x_swIn (tgt := 140) hx hb c44 dX0_count_1 (by decide) (by decide) rfl (by decide) ?_
    have hf := hf.1 c44
    refine lv_iconst (v := 0) hx hb dX0_count_140 (by decide) ?_
    refine lv_istore_n (lv' := [(2, .int 0), (0, .ref a0), (1, .int p1)]) hx hb dX0_count_141 rfl hl (by decide) rfl (fun ls hl => ?_)
    refine lv_aload_n hx hb dX0_count_142 rfl (lv_at hl 1 rfl) ?_
    refine hr_gtQ X hI (rfl : jC.1[0]? = some (RX0, TX0, 20)) in_X0 0 (Nat.le_of_ble_eq_true rfl) hf q650 (fun _ h => h) dX0_count_143 (fun q45 hf => ?_)
    refine h_astore_n (o := q45) (lv' := [(3, va_rf q45), (2, .int 0), (0, .ref a0), (1, .int p1)]) hx hb dX0_count_146 rfl hl (by decide) rfl (fun ls hl => ?_)
    refine h_aload_n (o := q45) hx hb dX0_count_147 rfl (lv_at hl 0 rfl) ?_
    obtain ⟨a46, ea46, hf⟩ := hf
    revert hl hf
    subst ea46
    intro hl hf
    have hl : lv_has ls 7 [(3, .ref a46), (2, .int 0), (0, .ref a0), (1, .int p1)] := hl
    refine hr_aln X hI hf dX0_count_148 (fun x47 hf => ?_)
    refine lv_istore (lv' := [(4, .int x47), (3, .ref a46), (2, .int 0), (0, .ref a0), (1, .int p1)]) hx hb dX0_count_149 hl (by decide) rfl (fun ls hl => ?_)
    refine lv_iconst (v := 0) hx hb dX0_count_151 (by decide) ?_
    refine lv_istore (lv' := [(5, .int 0), (4, .int x47), (3, .ref a46), (2, .int 0), (0, .ref a0), (1, .int p1)]) hx hb dX0_count_152 hl (by decide) rfl (fun ls hl => ?_)
    obtain ⟨n, hf⟩ := hf
    exact L154 n (0 : Int32) a46 x47 (0 : Int32) G hf H locs hI ls (lv_sub hl [3, 2, 1, 0] rfl)
  have hf := hf.2 c44
  refine lv_tableOut (tgt := 191) hx hb dX0_count_1 (by have t0 := lv_neT c1 (show (0 : Int32).toInt = 0 from rfl); have t1 := lv_neT c5 (show (1 : Int32).toInt = 1 from rfl); have t2 := lv_neT c9 (show (2 : Int32).toInt = 2 from rfl); have t3 := lv_neT c13 (show (3 : Int32).toInt = 3 from rfl); have t4 := lv_neT c17 (show (4 : Int32).toInt = 4 from rfl); have t5 := lv_neT c24 (show (5 : Int32).toInt = 5 from rfl); have t6 := lv_neT c31 (show (6 : Int32).toInt = 6 from rfl); have t7 := lv_neT c38 (show (7 : Int32).toInt = 7 from rfl); have t8 := lv_neT c42 (show (8 : Int32).toInt = 8 from rfl); have t9 := lv_neT c44 (show (9 : Int32).toInt = 9 from rfl); omega) (by decide) ?_
  refine lv_iconst (v := -1) hx hb dX0_count_191 (by decide) ?_
  exact hret hf hI dX0_count_192 (Nat.le_refl _) (Nat.le_refl _)
/-! MergeJudge$Told.<init>(I[I)V -/
def hX10_init (j : JX) (Λ : JLam) (a0 : Nat) (p1 : Int32) (p2 : Nat) (G : HG) (post : HG → Prop) : Prop :=
  ptV G a0 10 0 (.int p1) fun G1 => ptV G1 a0 10 1 (.ref p2) fun G2 => post G2
abbrev rhX10_init (fr lo : Nat) : Room := { frames := fr + 1, cells := 0, slots := 0, locals := lo + 40 }
theorem mhX10_init (l : Launch) (Z : (Nat → Prop) → State → Heap → Prop) (D : va_G) (j : JX) (Λ : JLam) (fr lo : Nat) (E : JE l Z D j Λ fr lo) (a0 : Nat) (p1 : Int32) (p2 : Nat) (G : HG) (post : HG → Prop) (hf : hX10_init j Λ a0 p1 p2 G post) : HMv l yX10_init (ws_ yX10_init cX10_init 3 none) (rhX10_init fr lo) D jC (jty j.1) Z G [.ref a0, .int p1, .ref p2] post 0 0 := by
  refine h_openv E.1 (by decide) (by exact Nat.le_of_ble_eq_true rfl) (fun p e s m args below meth c ls A0 Q X hI hnd hnm hl hret => ?_)
  have X : XC p s m args meth c cX10_init 3 RX10 D jC (jty j.1) A0 Z := X
  have hx := X.1
  have hb := X.2.1
  have hown := X.2.2.2.1
  have hts := X.2.2.2.2.1
  have hl : lv_has ls 3 [(0, .ref a0), (1, .int p1), (2, .ref p2)] := by exact hl
  unfold hX10_init at hf
  obtain ⟨H, eH⟩ : ∃ H, H = s.heap := ⟨_, rfl⟩
  obtain ⟨locs, eL⟩ : ∃ locs : List Loc, locs = [] := ⟨_, rfl⟩
  have hI : HI D jC G A0 s.heap H locs := by rw [eH, eL]; exact hI
  rw [← eL]
  suffices h : W p l e (rhX10_init fr lo) s m args below meth c H locs 0 0 Q (F0 m 0 ls []) by rw [eH] at h; exact h
  clear eH eL
  refine lv_aload_n hx hb dX10_init_0 rfl (lv_at hl 0 rfl) ?_
  refine W.objInit hx hb hown (hts _ q1789) (hts _ q247) (hts _ q248) rfl (by rw [X.2.2.1]; exact hl.1) rfl dX10_init_1 (by show 1 ≤ fr + 1; omega) (Nat.le_trans (m := 40) (Nat.le_of_ble_eq_true rfl) (by show 40 ≤ lo + 40; omega)) ?_
  show W p l e _ s m args below meth c H locs _ _ Q (F0 m 4 ls [])
  refine lv_aload_n hx hb dX10_init_4 rfl (lv_at hl 0 rfl) ?_
  refine lv_iload_n hx hb dX10_init_5 rfl (lv_at hl 1 rfl) ?_
  refine hr_ptF X hI (rfl : jC.1[10]? = some (RX10, TX10, 2)) in_X10 0 (Nat.le_of_ble_eq_true rfl) tyX10 tyX10_ok nmX10 hf q1790 (fun _ h => h) rfl hnm rfl rfl rfl dX10_init_6 (fun G1 H locs hf hI => ?_)
  refine lv_aload_n hx hb dX10_init_9 rfl (lv_at hl 0 rfl) ?_
  refine lv_aload_n hx hb dX10_init_10 rfl (lv_at hl 2 rfl) ?_
  refine hr_ptF X hI (rfl : jC.1[10]? = some (RX10, TX10, 2)) in_X10 1 (Nat.le_of_ble_eq_true rfl) tyX10 tyX10_ok nmX10 hf q1792 (fun _ h => h) rfl hnm rfl rfl rfl dX10_init_11 (fun G2 H locs hf hI => ?_)
  exact hret hf hI dX10_init_14 (Nat.le_refl _) (Nat.le_refl _)
/-! MergeJudge$Least.tries(IIII)V -/
def hX4_tries (j : JX) (Λ : JLam) (a0 : Nat) (p1 : Int32) (p2 : Int32) (p3 : Int32) (p4 : Int32) (G : HG) (post : HG → Prop) : Prop :=
  gtQ G a0 4 5 fun q1 => nnq q1 fun a2 => gtQ G a2 0 14 fun q3 => nnq q3 fun a4 => gtQ G a4 3 0 fun q5 => nnq q5 fun a6 => ldI G a6 (j.1 0) p2 fun x7 => gtQ G a0 4 5 fun q8 => nnq q8 fun a9 => gtQ G a9 0 14 fun q10 => nnq q10 fun a11 => gtQ G a11 3 0 fun q12 => nnq q12 fun a13 => ldI G a13 (j.1 0) p3 fun x14 => gtI G a0 4 4 fun x15 => ((x7 + x14) < x15 → (ptV G a0 4 4 (.int (x7 + x14)) fun G17 => ptV G17 a0 4 0 (.int p1) fun G18 => ptV G18 a0 4 1 (.int p2) fun G19 => ptV G19 a0 4 2 (.int p3) fun G20 => ptV G20 a0 4 3 (.int p4) fun G21 => post G21)) ∧ (¬ (x7 + x14) < x15 → (post G))
abbrev rhX4_tries (fr lo : Nat) : Room := { frames := fr + 1, cells := 0, slots := 0, locals := lo + 40 }
theorem mhX4_tries (l : Launch) (Z : (Nat → Prop) → State → Heap → Prop) (D : va_G) (j : JX) (Λ : JLam) (fr lo : Nat) (E : JE l Z D j Λ fr lo) (a0 : Nat) (p1 : Int32) (p2 : Int32) (p3 : Int32) (p4 : Int32) (G : HG) (post : HG → Prop) (hf : hX4_tries j Λ a0 p1 p2 p3 p4 G post) : HMv l yX4_tries (ws_ yX4_tries cX4_tries 6 none) (rhX4_tries fr lo) D jC (jty j.1) Z G [.ref a0, .int p1, .int p2, .int p3, .int p4] post 0 0 := by
  refine h_openv E.1 (by decide) (by exact Nat.le_of_ble_eq_true rfl) (fun p e s m args below meth c ls A0 Q X hI hnd hnm hl hret => ?_)
  have X : XC p s m args meth c cX4_tries 6 RX4 D jC (jty j.1) A0 Z := X
  have hx := X.1
  have hb := X.2.1
  have hown := X.2.2.2.1
  have hts := X.2.2.2.2.1
  have hl : lv_has ls 6 [(0, .ref a0), (1, .int p1), (2, .int p2), (3, .int p3), (4, .int p4)] := by exact hl
  unfold hX4_tries at hf
  obtain ⟨H, eH⟩ : ∃ H, H = s.heap := ⟨_, rfl⟩
  obtain ⟨locs, eL⟩ : ∃ locs : List Loc, locs = [] := ⟨_, rfl⟩
  have hI : HI D jC G A0 s.heap H locs := by rw [eH, eL]; exact hI
  rw [← eL]
  suffices h : W p l e (rhX4_tries fr lo) s m args below meth c H locs 0 0 Q (F0 m 0 ls []) by rw [eH] at h; exact h
  clear eH eL
  refine lv_aload_n hx hb dX4_tries_0 rfl (lv_at hl 0 rfl) ?_
  refine hr_gtQ X hI (rfl : jC.1[4]? = some (RX4, TX4, 6)) in_X4 5 (Nat.le_of_ble_eq_true rfl) hf q593 (fun _ h => h) dX4_tries_1 (fun q1 hf => ?_)
  obtain ⟨a2, ea2, hf⟩ := hf
  revert hl hf
  subst ea2
  intro hl hf
  have hl : lv_has ls 6 [(0, .ref a0), (1, .int p1), (2, .int p2), (3, .int p3), (4, .int p4)] := hl
  refine hr_gtQN X hI (rfl : jC.1[0]? = some (RX0, TX0, 20)) in_X0 14 (Nat.le_of_ble_eq_true rfl) hf (E.nw X q668 rfl) (fun _ h => h) dX4_tries_4 (fun q3 hf => ?_)
  obtain ⟨a4, ea4, hf⟩ := hf
  revert hl hf
  subst ea4
  intro hl hf
  have hl : lv_has ls 6 [(0, .ref a0), (1, .int p1), (2, .int p2), (3, .int p3), (4, .int p4)] := hl
  refine hr_gtQN X hI (rfl : jC.1[3]? = some (RX3, TX3, 5)) in_X3 0 (Nat.le_of_ble_eq_true rfl) hf (E.nw X q561 rfl) (fun _ h => h) dX4_tries_7 (fun q5 hf => ?_)
  refine lv_iload_n hx hb dX4_tries_10 rfl (lv_at hl 2 rfl) ?_
  obtain ⟨a6, ea6, hf⟩ := hf
  revert hl hf
  subst ea6
  intro hl hf
  have hl : lv_has ls 6 [(0, .ref a0), (1, .int p1), (2, .int p2), (3, .int p3), (4, .int p4)] := hl
  refine hr_ild X hI 0 rfl hf dX4_tries_11 (fun x7 hf => ?_)
  refine lv_aload_n hx hb dX4_tries_12 rfl (lv_at hl 0 rfl) ?_
  refine hr_gtQ X hI (rfl : jC.1[4]? = some (RX4, TX4, 6)) in_X4 5 (Nat.le_of_ble_eq_true rfl) hf q593 (fun _ h => h) dX4_tries_13 (fun q8 hf => ?_)
  obtain ⟨a9, ea9, hf⟩ := hf
  revert hl hf
  subst ea9
  intro hl hf
  have hl : lv_has ls 6 [(0, .ref a0), (1, .int p1), (2, .int p2), (3, .int p3), (4, .int p4)] := hl
  refine hr_gtQN X hI (rfl : jC.1[0]? = some (RX0, TX0, 20)) in_X0 14 (Nat.le_of_ble_eq_true rfl) hf (E.nw X q668 rfl) (fun _ h => h) dX4_tries_16 (fun q10 hf => ?_)
  obtain ⟨a11, ea11, hf⟩ := hf
  revert hl hf
  subst ea11
  intro hl hf
  have hl : lv_has ls 6 [(0, .ref a0), (1, .int p1), (2, .int p2), (3, .int p3), (4, .int p4)] := hl
  refine hr_gtQN X hI (rfl : jC.1[3]? = some (RX3, TX3, 5)) in_X3 0 (Nat.le_of_ble_eq_true rfl) hf (E.nw X q561 rfl) (fun _ h => h) dX4_tries_19 (fun q12 hf => ?_)
  refine lv_iload_n hx hb dX4_tries_22 rfl (lv_at hl 3 rfl) ?_
  obtain ⟨a13, ea13, hf⟩ := hf
  revert hl hf
  subst ea13
  intro hl hf
  have hl : lv_has ls 6 [(0, .ref a0), (1, .int p1), (2, .int p2), (3, .int p3), (4, .int p4)] := hl
  refine hr_ild X hI 0 rfl hf dX4_tries_23 (fun x14 hf => ?_)
  refine lv_iadd hx hb dX4_tries_24 ?_
  refine lv_istore (lv' := [(5, .int (x7 + x14)), (0, .ref a0), (1, .int p1), (2, .int p2), (3, .int p3), (4, .int p4)]) hx hb dX4_tries_25 hl (by decide) rfl (fun ls hl => ?_)
  refine lv_iload hx hb dX4_tries_27 (lv_at hl 0 rfl) ?_
  refine lv_aload_n hx hb dX4_tries_29 rfl (lv_at hl 1 rfl) ?_
  refine hr_gtI X hI (rfl : jC.1[4]? = some (RX4, TX4, 6)) in_X4 4 (Nat.le_of_ble_eq_true rfl) hf q592 (fun _ h => h) dX4_tries_30 (fun x15 hf => ?_)
  refine lv_icmp_lt (tgt := 37) hx hb dX4_tries_33 (by decide) (fun c16 => ?_) (fun c16 => ?_)
  · have hf := hf.1 c16
    refine lv_aload_n hx hb dX4_tries_37 rfl (lv_at hl 1 rfl) ?_
    refine lv_iload hx hb dX4_tries_38 (lv_at hl 0 rfl) ?_
    refine hr_pt X hI (rfl : jC.1[4]? = some (RX4, TX4, 6)) in_X4 4 (Nat.le_of_ble_eq_true rfl) tyX4 tyX4_ok nmX4 hf q592 (fun _ h => h) rfl rfl rfl dX4_tries_40 (fun G17 H locs hf hI => ?_)
    refine lv_aload_n hx hb dX4_tries_43 rfl (lv_at hl 1 rfl) ?_
    refine lv_iload_n hx hb dX4_tries_44 rfl (lv_at hl 2 rfl) ?_
    refine hr_pt X hI (rfl : jC.1[4]? = some (RX4, TX4, 6)) in_X4 0 (Nat.le_of_ble_eq_true rfl) tyX4 tyX4_ok nmX4 hf q587 (fun _ h => h) rfl rfl rfl dX4_tries_45 (fun G18 H locs hf hI => ?_)
    refine lv_aload_n hx hb dX4_tries_48 rfl (lv_at hl 1 rfl) ?_
    refine lv_iload_n hx hb dX4_tries_49 rfl (lv_at hl 3 rfl) ?_
    refine hr_pt X hI (rfl : jC.1[4]? = some (RX4, TX4, 6)) in_X4 1 (Nat.le_of_ble_eq_true rfl) tyX4 tyX4_ok nmX4 hf q588 (fun _ h => h) rfl rfl rfl dX4_tries_50 (fun G19 H locs hf hI => ?_)
    refine lv_aload_n hx hb dX4_tries_53 rfl (lv_at hl 1 rfl) ?_
    refine lv_iload_n hx hb dX4_tries_54 rfl (lv_at hl 4 rfl) ?_
    refine hr_pt X hI (rfl : jC.1[4]? = some (RX4, TX4, 6)) in_X4 2 (Nat.le_of_ble_eq_true rfl) tyX4 tyX4_ok nmX4 hf q589 (fun _ h => h) rfl rfl rfl dX4_tries_55 (fun G20 H locs hf hI => ?_)
    refine lv_aload_n hx hb dX4_tries_58 rfl (lv_at hl 1 rfl) ?_
    refine lv_iload hx hb dX4_tries_59 (lv_at hl 5 rfl) ?_
    refine hr_pt X hI (rfl : jC.1[4]? = some (RX4, TX4, 6)) in_X4 3 (Nat.le_of_ble_eq_true rfl) tyX4 tyX4_ok nmX4 hf q590 (fun _ h => h) rfl rfl rfl dX4_tries_61 (fun G21 H locs hf hI => ?_)
    exact hret hf hI dX4_tries_64 (Nat.le_refl _) (Nat.le_refl _)
  · have hf := hf.2 c16
    exact hret hf hI dX4_tries_36 (Nat.le_refl _) (Nat.le_refl _)
/-! MergeJudge$Reader.isAt(II)Z -/
def hX8_isAt (j : JX) (Λ : JLam) (a0 : Nat) (p1 : Int32) (p2 : Int32) (G : HG) (post : Int32 → HG → Prop) : Prop :=
  gtI G a0 8 8 fun x1 => gtI G a0 8 1 fun x2 => (x2 ≤ x1 → (post (0 : Int32) G)) ∧ (¬ x2 ≤ x1 → (gtQ G a0 8 0 fun q4 => gtI G a0 8 8 fun x5 => nnq q4 fun a6 => ldI G a6 (j.1 2) x5 fun x7 => hX0_in j Λ x7.toInt64 p1.toInt64 p2.toInt64 G fun x9 G8 => (x9 = 0 → (post (0 : Int32) G8)) ∧ (¬ x9 = 0 → (post (1 : Int32) G8))))
abbrev rhX8_isAt (fr lo : Nat) : Room := { frames := fr + 2, cells := 0, slots := 0, locals := lo + 65 }
theorem mhX8_isAt (l : Launch) (Z : (Nat → Prop) → State → Heap → Prop) (D : va_G) (j : JX) (Λ : JLam) (fr lo : Nat) (E : JE l Z D j Λ fr lo) (a0 : Nat) (p1 : Int32) (p2 : Int32) (G : HG) (post : Int32 → HG → Prop) (hf : hX8_isAt j Λ a0 p1 p2 G post) : HMi l yX8_isAt (ws_ yX8_isAt cX8_isAt 3 (some .boolean)) (rhX8_isAt fr lo) D jC (jty j.1) Z G [.ref a0, .int p1, .int p2] post 0 0 := by
  refine h_openz E.1 (by decide) (by exact Nat.le_of_ble_eq_true rfl) (fun p e s m args below meth c ls A0 Q X hI hnd hnm hl hret => ?_)
  have X : XC p s m args meth c cX8_isAt 3 RX8 D jC (jty j.1) A0 Z := X
  have hx := X.1
  have hb := X.2.1
  have hown := X.2.2.2.1
  have hts := X.2.2.2.2.1
  have hl : lv_has ls 3 [(0, .ref a0), (1, .int p1), (2, .int p2)] := by exact hl
  unfold hX8_isAt at hf
  obtain ⟨H, eH⟩ : ∃ H, H = s.heap := ⟨_, rfl⟩
  obtain ⟨locs, eL⟩ : ∃ locs : List Loc, locs = [] := ⟨_, rfl⟩
  have hI : HI D jC G A0 s.heap H locs := by rw [eH, eL]; exact hI
  rw [← eL]
  suffices h : W p l e (rhX8_isAt fr lo) s m args below meth c H locs 0 0 Q (F0 m 0 ls []) by rw [eH] at h; exact h
  clear eH eL
  refine lv_aload_n hx hb dX8_isAt_0 rfl (lv_at hl 0 rfl) ?_
  refine hr_gtI X hI (rfl : jC.1[8]? = some (RX8, TX8, 12)) in_X8 8 (Nat.le_of_ble_eq_true rfl) hf q1653 (fun _ h => h) dX8_isAt_1 (fun x1 hf => ?_)
  refine lv_aload_n hx hb dX8_isAt_4 rfl (lv_at hl 0 rfl) ?_
  refine hr_gtI X hI (rfl : jC.1[8]? = some (RX8, TX8, 12)) in_X8 1 (Nat.le_of_ble_eq_true rfl) hf q1646 (fun _ h => h) dX8_isAt_5 (fun x2 hf => ?_)
  refine lv_icmp_ge (tgt := 35) hx hb dX8_isAt_8 (by decide) (fun c3 => ?_) (fun c3 => ?_)
  · have hf := hf.1 c3
    refine lv_iconst (v := 0) hx hb dX8_isAt_35 (by decide) ?_
    exact hret rfl hf hI dX8_isAt_36 (Nat.le_refl _) (Nat.le_refl _)
  · have hf := hf.2 c3
    refine lv_aload_n hx hb dX8_isAt_11 rfl (lv_at hl 0 rfl) ?_
    refine hr_gtQ X hI (rfl : jC.1[8]? = some (RX8, TX8, 12)) in_X8 0 (Nat.le_of_ble_eq_true rfl) hf q1645 (fun _ h => h) dX8_isAt_12 (fun q4 hf => ?_)
    refine lv_aload_n hx hb dX8_isAt_15 rfl (lv_at hl 0 rfl) ?_
    refine hr_gtI X hI (rfl : jC.1[8]? = some (RX8, TX8, 12)) in_X8 8 (Nat.le_of_ble_eq_true rfl) hf q1653 (fun _ h => h) dX8_isAt_16 (fun x5 hf => ?_)
    obtain ⟨a6, ea6, hf⟩ := hf
    revert hl hf
    subst ea6
    intro hl hf
    have hl : lv_has ls 3 [(0, .ref a0), (1, .int p1), (2, .int p2)] := hl
    refine hr_bld X hI 2 rfl hf dX8_isAt_19 (fun x7 hf => ?_)
    refine lv_i2l hx hb dX8_isAt_20 rfl ?_
    refine lv_iload_n hx hb dX8_isAt_21 rfl (lv_at hl 1 rfl) ?_
    refine lv_i2l hx hb dX8_isAt_22 rfl ?_
    refine lv_iload_n hx hb dX8_isAt_23 rfl (lv_at hl 2 rfl) ?_
    refine lv_i2l hx hb dX8_isAt_24 rfl ?_
    refine h_ki X hI (h_runSN (As := [.long x7.toInt64, .long p1.toInt64, .long p2.toInt64]) X hI (mhX0_in l Z D j Λ fr lo E x7.toInt64 p1.toInt64 p2.toInt64 G _ hf H.size) (cwSn 3 hts (E.nw X q1404 rfl) q227 q167 q228 rfl rfl (by decide +kernel) (by show fr + 1 + 1 ≤ fr + 2 ∧ 8 + (6 + 11) + (lo + 40) ≤ lo + 65; omega)) rfl hl.1 (Nat.le_of_ble_eq_true rfl) dX8_isAt_25 ⟨Nat.le_refl _, Nat.le_refl _⟩ rfl) (fun x9 G8 H locs hf hI => ?_)
    refine lv_if_eq (tgt := 35) hx hb dX8_isAt_28 (by decide) (fun c10 => ?_) (fun c10 => ?_)
    · have hf := hf.1 c10
      refine lv_iconst (v := 0) hx hb dX8_isAt_35 (by decide) ?_
      exact hret rfl hf hI dX8_isAt_36 (Nat.le_refl _) (Nat.le_refl _)
    · have hf := hf.2 c10
      refine lv_iconst (v := 1) hx hb dX8_isAt_31 (by decide) ?_
      refine lv_goto (tgt := 36) hx hb dX8_isAt_32 (by decide) ?_
      exact hret rfl hf hI dX8_isAt_36 (Nat.le_refl _) (Nat.le_refl _)
