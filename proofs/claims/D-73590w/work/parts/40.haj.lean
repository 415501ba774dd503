/-! THE COMPONENT as transformers over its heap, and the walks (printed by gen/genh.py) -/
/-! MergeJudge$Slot.many()I -/
def hX1_many (j : JX) (Λ : JLam) (a0 : Nat) (G : HG) (post : Int32 → HG → Prop) : Prop :=
  gtQ G a0 1 0 fun q1 => inA j G q1 "[B" fun x2 => (x2 = 0 → (gtQ G a0 1 0 fun q4 => inA j G q4 "[S" fun x5 => (x5 = 0 → (gtQ G a0 1 0 fun q7 => inA j G q7 "[I" fun x8 => (x8 = 0 → (gtQ G a0 1 0 fun q10 => isA G q10 (j.1 3) (nnq q10 fun a11 => aln (jty j.1) G a11 fun x12 => post x12 G))) ∧ (¬ x8 = 0 → (gtQ G a0 1 0 fun q13 => isA G q13 (j.1 0) (nnq q13 fun a14 => aln (jty j.1) G a14 fun x15 => post x15 G))))) ∧ (¬ x5 = 0 → (gtQ G a0 1 0 fun q16 => isA G q16 (j.1 4) (nnq q16 fun a17 => aln (jty j.1) G a17 fun x18 => post x18 G))))) ∧ (¬ x2 = 0 → (gtQ G a0 1 0 fun q19 => isA G q19 (j.1 2) (nnq q19 fun a20 => aln (jty j.1) G a20 fun x21 => post x21 G)))
abbrev rhX1_many (fr lo : Nat) : Room := { frames := fr + 1, cells := 0, slots := 0, locals := lo + 40 }
theorem mhX1_many (l : Launch) (Z : (Nat → Prop) → State → Heap → Prop) (D : va_G) (j : JX) (Λ : JLam) (fr lo : Nat) (E : JE l Z D j Λ fr lo) (a0 : Nat) (G : HG) (post : Int32 → HG → Prop) (hf : hX1_many j Λ a0 G post) : HMi l yX1_many (ws_ yX1_many cX1_many 1 (some .int)) (rhX1_many fr lo) D jC (jty j.1) Z G [.ref a0] post 0 0 := by
  refine h_openi E.1 (by decide) (by exact Nat.le_of_ble_eq_true rfl) (fun p e s m args below meth c ls A0 Q X hI hnd hnm hl hret => ?_)
  have X : XC p s m args meth c cX1_many 1 RX1 D jC (jty j.1) A0 Z := X
  have hx := X.1
  have hb := X.2.1
  have hown := X.2.2.2.1
  have hts := X.2.2.2.2.1
  have hl : lv_has ls 1 [(0, .ref a0)] := by exact hl
  unfold hX1_many at hf
  obtain ⟨H, eH⟩ : ∃ H, H = s.heap := ⟨_, rfl⟩
  obtain ⟨locs, eL⟩ : ∃ locs : List Loc, locs = [] := ⟨_, rfl⟩
  have hI : HI D jC G A0 s.heap H locs := by rw [eH, eL]; exact hI
  rw [← eL]
  suffices h : W p l e (rhX1_many fr lo) s m args below meth c H locs 0 0 Q (F0 m 0 ls []) by rw [eH] at h; exact h
  clear eH eL
  refine lv_aload_n hx hb dX1_many_0 rfl (lv_at hl 0 rfl) ?_
  refine hr_gtQ X hI (rfl : jC.1[1]? = some (RX1, TX1, 1)) in_X1 0 (Nat.le_of_ble_eq_true rfl) hf q432 (fun _ h => h) dX1_many_1 (fun q1 hf => ?_)
  refine hr_instA (v := q1) E X hI hf q382 dX1_many_4 (fun x2 hf => ?_)
  refine lv_if_eq (tgt := 19) hx hb dX1_many_7 (by decide) (fun c3 => ?_) (fun c3 => ?_)
  · have hf := hf.1 c3
    refine lv_aload_n hx hb dX1_many_19 rfl (lv_at hl 0 rfl) ?_
    refine hr_gtQ X hI (rfl : jC.1[1]? = some (RX1, TX1, 1)) in_X1 0 (Nat.le_of_ble_eq_true rfl) hf q432 (fun _ h => h) dX1_many_20 (fun q4 hf => ?_)
    refine hr_instA (v := q4) E X hI hf q383 dX1_many_23 (fun x5 hf => ?_)
    refine lv_if_eq (tgt := 38) hx hb dX1_many_26 (by decide) (fun c6 => ?_) (fun c6 => ?_)
    · have hf := hf.1 c6
      refine lv_aload_n hx hb dX1_many_38 rfl (lv_at hl 0 rfl) ?_
      refine hr_gtQ X hI (rfl : jC.1[1]? = some (RX1, TX1, 1)) in_X1 0 (Nat.le_of_ble_eq_true rfl) hf q432 (fun _ h => h) dX1_many_39 (fun q7 hf => ?_)
      refine hr_instA (v := q7) E X hI hf q402 dX1_many_42 (fun x8 hf => ?_)
      refine lv_if_eq (tgt := 59) hx hb dX1_many_45 (by decide) (fun c9 => ?_) (fun c9 => ?_)
      · have hf := hf.1 c9
        refine lv_aload_n hx hb dX1_many_59 rfl (lv_at hl 0 rfl) ?_
        refine hr_gtQ X hI (rfl : jC.1[1]? = some (RX1, TX1, 1)) in_X1 0 (Nat.le_of_ble_eq_true rfl) hf q432 (fun _ h => h) dX1_many_60 (fun q10 hf => ?_)
        refine hr_castP (v := q10) X hI 3 rfl rfl (by decide +kernel) hf q403 dX1_many_63 (fun hf => ?_)
        obtain ⟨a11, ea11, hf⟩ := hf
        revert hl hf
        subst ea11
        intro hl hf
        have hl : lv_has ls 1 [(0, .ref a0)] := hl
        refine hr_aln X hI hf dX1_many_66 (fun x12 hf => ?_)
        exact hret hf hI dX1_many_67 (Nat.le_refl _) (Nat.le_refl _)
      · have hf := hf.2 c9
        refine lv_aload_n hx hb dX1_many_48 rfl (lv_at hl 0 rfl) ?_
        refine hr_gtQ X hI (rfl : jC.1[1]? = some (RX1, TX1, 1)) in_X1 0 (Nat.le_of_ble_eq_true rfl) hf q432 (fun _ h => h) dX1_many_49 (fun q13 hf => ?_)
        refine hr_castP (v := q13) X hI 0 rfl rfl (by decide +kernel) hf q402 dX1_many_52 (fun hf => ?_)
        obtain ⟨a14, ea14, hf⟩ := hf
        revert hl hf
        subst ea14
        intro hl hf
        have hl : lv_has ls 1 [(0, .ref a0)] := hl
        refine hr_aln X hI hf dX1_many_55 (fun x15 hf => ?_)
        refine lv_goto (tgt := 67) hx hb dX1_many_56 (by decide) ?_
        exact hret hf hI dX1_many_67 (Nat.le_refl _) (Nat.le_refl _)
    · have hf := hf.2 c6
      refine lv_aload_n hx hb dX1_many_29 rfl (lv_at hl 0 rfl) ?_
      refine hr_gtQ X hI (rfl : jC.1[1]? = some (RX1, TX1, 1)) in_X1 0 (Nat.le_of_ble_eq_true rfl) hf q432 (fun _ h => h) dX1_many_30 (fun q16 hf => ?_)
      refine hr_castP (v := q16) X hI 4 rfl rfl (by decide +kernel) hf q383 dX1_many_33 (fun hf => ?_)
      obtain ⟨a17, ea17, hf⟩ := hf
      revert hl hf
      subst ea17
      intro hl hf
      have hl : lv_has ls 1 [(0, .ref a0)] := hl
      refine hr_aln X hI hf dX1_many_36 (fun x18 hf => ?_)
      exact hret hf hI dX1_many_37 (Nat.le_refl _) (Nat.le_refl _)
  · have hf := hf.2 c3
    refine lv_aload_n hx hb dX1_many_10 rfl (lv_at hl 0 rfl) ?_
    refine hr_gtQ X hI (rfl : jC.1[1]? = some (RX1, TX1, 1)) in_X1 0 (Nat.le_of_ble_eq_true rfl) hf q432 (fun _ h => h) dX1_many_11 (fun q19 hf => ?_)
    refine hr_castP (v := q19) X hI 2 rfl rfl (by decide +kernel) hf q382 dX1_many_14 (fun hf => ?_)
    obtain ⟨a20, ea20, hf⟩ := hf
    revert hl hf
    subst ea20
    intro hl hf
    have hl : lv_has ls 1 [(0, .ref a0)] := hl
    refine hr_aln X hI hf dX1_many_17 (fun x21 hf => ?_)
    exact hret hf hI dX1_many_18 (Nat.le_refl _) (Nat.le_refl _)
/-! MergeJudge$Slot.number(I)J -/
def hX1_number (j : JX) (Λ : JLam) (a0 : Nat) (p1 : Int32) (G : HG) (post : Int64 → HG → Prop) : Prop :=
  gtQ G a0 1 0 fun q1 => inA j G q1 "[B" fun x2 => (x2 = 0 → (gtQ G a0 1 0 fun q4 => inA j G q4 "[S" fun x5 => (x5 = 0 → (gtQ G a0 1 0 fun q7 => inA j G q7 "[I" fun x8 => (x8 = 0 → (gtQ G a0 1 0 fun q10 => isA G q10 (j.1 3) (nnq q10 fun a11 => ldL G a11 (j.1 3) p1 fun y12 => post y12 G))) ∧ (¬ x8 = 0 → (gtQ G a0 1 0 fun q13 => isA G q13 (j.1 0) (nnq q13 fun a14 => ldI G a14 (j.1 0) p1 fun x15 => post x15.toInt64 G))))) ∧ (¬ x5 = 0 → (gtQ G a0 1 0 fun q16 => isA G q16 (j.1 4) (nnq q16 fun a17 => ldI G a17 (j.1 4) p1 fun x18 => post x18.toInt64 G))))) ∧ (¬ x2 = 0 → (gtQ G a0 1 0 fun q19 => isA G q19 (j.1 2) (nnq q19 fun a20 => ldI G a20 (j.1 2) p1 fun x21 => post x21.toInt64 G)))
abbrev rhX1_number (fr lo : Nat) : Room := { frames := fr + 1, cells := 0, slots := 0, locals := lo + 40 }
theorem mhX1_number (l : Launch) (Z : (Nat → Prop) → State → Heap → Prop) (D : va_G) (j : JX) (Λ : JLam) (fr lo : Nat) (E : JE l Z D j Λ fr lo) (a0 : Nat) (p1 : Int32) (G : HG) (post : Int64 → HG → Prop) (hf : hX1_number j Λ a0 p1 G post) : HMl l yX1_number (ws_ yX1_number cX1_number 2 (some .long)) (rhX1_number fr lo) D jC (jty j.1) Z G [.ref a0, .int p1] post 0 0 := by
  refine h_openl E.1 (by decide) (by exact Nat.le_of_ble_eq_true rfl) (fun p e s m args below meth c ls A0 Q X hI hnd hnm hl hret => ?_)
  have X : XC p s m args meth c cX1_number 2 RX1 D jC (jty j.1) A0 Z := X
  have hx := X.1
  have hb := X.2.1
  have hown := X.2.2.2.1
  have hts := X.2.2.2.2.1
  have hl : lv_has ls 2 [(0, .ref a0), (1, .int p1)] := by exact hl
  unfold hX1_number at hf
  obtain ⟨H, eH⟩ : ∃ H, H = s.heap := ⟨_, rfl⟩
  obtain ⟨locs, eL⟩ : ∃ locs : List Loc, locs = [] := ⟨_, rfl⟩
  have hI : HI D jC G A0 s.heap H locs := by rw [eH, eL]; exact hI
  rw [← eL]
  suffices h : W p l e (rhX1_number fr lo) s m args below meth c H locs 0 0 Q (F0 m 0 ls []) by rw [eH] at h; exact h
  clear eH eL
  refine lv_aload_n hx hb dX1_number_0 rfl (lv_at hl 0 rfl) ?_
  refine hr_gtQ X hI (rfl : jC.1[1]? = some (RX1, TX1, 1)) in_X1 0 (Nat.le_of_ble_eq_true rfl) hf q432 (fun _ h => h) dX1_number_1 (fun q1 hf => ?_)
  refine hr_instA (v := q1) E X hI hf q382 dX1_number_4 (fun x2 hf => ?_)
  refine lv_if_eq (tgt := 21) hx hb dX1_number_7 (by decide) (fun c3 => ?_) (fun c3 => ?_)
  · have hf := hf.1 c3
    refine lv_aload_n hx hb dX1_number_21 rfl (lv_at hl 0 rfl) ?_
    refine hr_gtQ X hI (rfl : jC.1[1]? = some (RX1, TX1, 1)) in_X1 0 (Nat.le_of_ble_eq_true rfl) hf q432 (fun _ h => h) dX1_number_22 (fun q4 hf => ?_)
    refine hr_instA (v := q4) E X hI hf q383 dX1_number_25 (fun x5 hf => ?_)
    refine lv_if_eq (tgt := 42) hx hb dX1_number_28 (by decide) (fun c6 => ?_) (fun c6 => ?_)
    · have hf := hf.1 c6
      refine lv_aload_n hx hb dX1_number_42 rfl (lv_at hl 0 rfl) ?_
      refine hr_gtQ X hI (rfl : jC.1[1]? = some (RX1, TX1, 1)) in_X1 0 (Nat.le_of_ble_eq_true rfl) hf q432 (fun _ h => h) dX1_number_43 (fun q7 hf => ?_)
      refine hr_instA (v := q7) E X hI hf q402 dX1_number_46 (fun x8 hf => ?_)
      refine lv_if_eq (tgt := 65) hx hb dX1_number_49 (by decide) (fun c9 => ?_) (fun c9 => ?_)
      · have hf := hf.1 c9
        refine lv_aload_n hx hb dX1_number_65 rfl (lv_at hl 0 rfl) ?_
        refine hr_gtQ X hI (rfl : jC.1[1]? = some (RX1, TX1, 1)) in_X1 0 (Nat.le_of_ble_eq_true rfl) hf q432 (fun _ h => h) dX1_number_66 (fun q10 hf => ?_)
        refine hr_castP (v := q10) X hI 3 rfl rfl (by decide +kernel) hf q403 dX1_number_69 (fun hf => ?_)
        refine lv_iload_n hx hb dX1_number_72 rfl (lv_at hl 1 rfl) ?_
        obtain ⟨a11, ea11, hf⟩ := hf
        revert hl hf
        subst ea11
        intro hl hf
        have hl : lv_has ls 2 [(0, .ref a0), (1, .int p1)] := hl
        refine hr_lld X hI 3 rfl hf dX1_number_73 (fun y12 hf => ?_)
        exact hret hf hI dX1_number_74 (Nat.le_refl _) (Nat.le_refl _)
      · have hf := hf.2 c9
        refine lv_aload_n hx hb dX1_number_52 rfl (lv_at hl 0 rfl) ?_
        refine hr_gtQ X hI (rfl : jC.1[1]? = some (RX1, TX1, 1)) in_X1 0 (Nat.le_of_ble_eq_true rfl) hf q432 (fun _ h => h) dX1_number_53 (fun q13 hf => ?_)
        refine hr_castP (v := q13) X hI 0 rfl rfl (by decide +kernel) hf q402 dX1_number_56 (fun hf => ?_)
        refine lv_iload_n hx hb dX1_number_59 rfl (lv_at hl 1 rfl) ?_
        obtain ⟨a14, ea14, hf⟩ := hf
        revert hl hf
        subst ea14
        intro hl hf
        have hl : lv_has ls 2 [(0, .ref a0), (1, .int p1)] := hl
        refine hr_ild X hI 0 rfl hf dX1_number_60 (fun x15 hf => ?_)
        refine lv_i2l hx hb dX1_number_61 rfl ?_
        refine lv_goto (tgt := 74) hx hb dX1_number_62 (by decide) ?_
        exact hret hf hI dX1_number_74 (Nat.le_refl _) (Nat.le_refl _)
    · have hf := hf.2 c6
      refine lv_aload_n hx hb dX1_number_31 rfl (lv_at hl 0 rfl) ?_
      refine hr_gtQ X hI (rfl : jC.1[1]? = some (RX1, TX1, 1)) in_X1 0 (Nat.le_of_ble_eq_true rfl) hf q432 (fun _ h => h) dX1_number_32 (fun q16 hf => ?_)
      refine hr_castP (v := q16) X hI 4 rfl rfl (by decide +kernel) hf q383 dX1_number_35 (fun hf => ?_)
      refine lv_iload_n hx hb dX1_number_38 rfl (lv_at hl 1 rfl) ?_
      obtain ⟨a17, ea17, hf⟩ := hf
      revert hl hf
      subst ea17
      intro hl hf
      have hl : lv_has ls 2 [(0, .ref a0), (1, .int p1)] := hl
      refine hr_sld X hI 4 rfl hf dX1_number_39 (fun x18 hf => ?_)
      refine lv_i2l hx hb dX1_number_40 rfl ?_
      exact hret hf hI dX1_number_41 (Nat.le_refl _) (Nat.le_refl _)
  · have hf := hf.2 c3
    refine lv_aload_n hx hb dX1_number_10 rfl (lv_at hl 0 rfl) ?_
    refine hr_gtQ X hI (rfl : jC.1[1]? = some (RX1, TX1, 1)) in_X1 0 (Nat.le_of_ble_eq_true rfl) hf q432 (fun _ h => h) dX1_number_11 (fun q19 hf => ?_)
    refine hr_castP (v := q19) X hI 2 rfl rfl (by decide +kernel) hf q382 dX1_number_14 (fun hf => ?_)
    refine lv_iload_n hx hb dX1_number_17 rfl (lv_at hl 1 rfl) ?_
    obtain ⟨a20, ea20, hf⟩ := hf
    revert hl hf
    subst ea20
    intro hl hf
    have hl : lv_has ls 2 [(0, .ref a0), (1, .int p1)] := hl
    refine hr_bld X hI 2 rfl hf dX1_number_18 (fun x21 hf => ?_)
    refine lv_i2l hx hb dX1_number_19 rfl ?_
    exact hret hf hI dX1_number_20 (Nat.le_refl _) (Nat.le_refl _)
/-! MergeJudge.whyNot(I)I -/
def hX0_whyNot_b51 (j : JX) (Λ : JLam) (a0 : Nat) (p1 : Int32) (post : Int32 → HG → Prop) (K51 : Nat → Int32 → HG → Prop) (la2 : Nat) (lx3 : Int32) (G : HG) : Prop :=
  isO G la2 1 (hX1_many j Λ la2 G fun x20 G19 => (x20 ≤ lx3 → (post (0 : Int32) G19)) ∧ (¬ x20 ≤ lx3 → (isO G19 la2 1 (hX1_number j Λ la2 lx3 G19 fun y23 G22 => isO G22 a0 0 (hX0_isState j Λ a0 y23 G22 fun x25 G24 => (x25 = 0 → (post ((-2) : Int32) G24)) ∧ (¬ x25 = 0 → (K51 la2 (lx3 + 1) G24)))))))
def hX0_whyNot_l51 (j : JX) (Λ : JLam) (a0 : Nat) (p1 : Int32) (post : Int32 → HG → Prop) : Nat → Nat → Int32 → HG → Prop
  | 0 => fun _ _ _ => False
  | n + 1 => fun la2 lx3 G => hX0_whyNot_b51 j Λ a0 p1 post (hX0_whyNot_l51 j Λ a0 p1 post n) la2 lx3 G
def hX0_whyNot (j : JX) (Λ : JLam) (a0 : Nat) (p1 : Int32) (G : HG) (post : Int32 → HG → Prop) : Prop :=
  hX0_isSlot j Λ p1 G fun x2 G1 => (x2 = 0 → (post ((-2) : Int32) G1)) ∧ (¬ x2 = 0 → (gtQ G1 a0 0 1 fun q4 => nnq q4 fun a5 => isO G1 a5 2 (hX2_is j Λ a5 G1 fun x7 G6 => (x7 = 0 → (post ((-2) : Int32) G6)) ∧ (¬ x7 = 0 → (gtQ G6 a0 0 0 fun q9 => nnq q9 fun a10 => ldQ (jty j.1) G6 a10 p1 fun q11 => nnq q11 fun a12 => gtQ G6 a12 1 0 fun q13 => (q13 = none → (post ((-6) : Int32) G6)) ∧ (∀ a15, q13 = some a15 → (isO G6 a12 1 (hX1_many j Λ a12 G6 fun x17 G16 => ((x17 - x17 / 3 * 3) = 0 → (∃ n, hX0_whyNot_l51 j Λ a0 p1 post n a12 (0 : Int32) G16)) ∧ (¬ (x17 - x17 / 3 * 3) = 0 → (post ((-2) : Int32) G16))))))))))
abbrev rhX0_whyNot (fr lo : Nat) : Room := { frames := fr + 3, cells := 0, slots := 0, locals := lo + 87 }
theorem mhX0_whyNot (l : Launch) (Z : (Nat → Prop) → State → Heap → Prop) (D : va_G) (j : JX) (Λ : JLam) (fr lo : Nat) (E : JE l Z D j Λ fr lo) (a0 : Nat) (p1 : Int32) (G : HG) (post : Int32 → HG → Prop) (hf : hX0_whyNot j Λ a0 p1 G post) : HMi l yX0_whyNot (ws_ yX0_whyNot cX0_whyNot 4 (some .int)) (rhX0_whyNot fr lo) D jC (jty j.1) Z G [.ref a0, .int p1] post 0 0 := by
  refine h_openi E.1 (by decide) (by exact Nat.le_of_ble_eq_true rfl) (fun p e s m args below meth c ls A0 Q X hI hnd hnm hl hret => ?_)
  have X : XC p s m args meth c cX0_whyNot 4 RX0 D jC (jty j.1) A0 Z := X
  have hx := X.1
  have hb := X.2.1
  have hown := X.2.2.2.1
  have hts := X.2.2.2.2.1
  have L51 : ∀ (n : Nat) (la2 : Nat) (lx3 : Int32) (G : HG), hX0_whyNot_l51 j Λ a0 p1 post n la2 lx3 G → ∀ (H : Heap) (locs : List Loc), HI D jC G A0 s.heap H locs → ∀ (ls : Array Slot), lv_has ls 4 [(0, .ref a0), (2, .ref la2), (3, .int lx3)] → W p l e (rhX0_whyNot fr lo) s m args below meth c H locs 0 0 Q (F0 m 51 ls []) := by
    intro n51
    induction n51 with
    | zero => intro la2 lx3 G hf; exact hf.elim
    | succ n51 ih51 =>
      intro la2 lx3 G hf H locs hI ls hl
      have hf : hX0_whyNot_b51 j Λ a0 p1 post (hX0_whyNot_l51 j Λ a0 p1 post n51) la2 lx3 G := hf
      unfold hX0_whyNot_b51 at hf
      refine lv_iload_n hx hb dX0_whyNot_51 rfl (lv_at hl 2 rfl) ?_
      refine lv_aload_n hx hb dX0_whyNot_52 rfl (lv_at hl 1 rfl) ?_
      obtain ⟨_, _, hO, hf⟩ := hf
      refine h_ki X hI (h_runV (As := []) X hI (h_recv X hI hO (show jC.1[1]? = some (RX1, TX1, 1) from rfl)) (mhX1_many l Z D j Λ fr lo E la2 G _ hf H.size) (cwV 0 hts (lw_V q2383 q2384 q2385 q168 q2386) rfl rfl rfl (by decide +kernel) (by show fr + 1 + 1 ≤ fr + 3 ∧ 8 + (1 + 11) + (lo + 40) ≤ lo + 87; omega)) rfl hl.1 (Nat.le_of_ble_eq_true rfl) dX0_whyNot_53 ⟨Nat.le_refl _, Nat.le_refl _⟩ rfl) (fun x20 G19 H locs hf hI => ?_)
      clear hO
      refine lv_icmp_ge (tgt := 80) hx hb dX0_whyNot_56 (by decide) (fun c21 => ?_) (fun c21 => ?_)
      · have hf := hf.1 c21
        refine lv_iconst (v := 0) hx hb dX0_whyNot_80 (by decide) ?_
        exact hret hf hI dX0_whyNot_81 (Nat.le_refl _) (Nat.le_refl _)
      · have hf := hf.2 c21
        refine lv_aload_n hx hb dX0_whyNot_59 rfl (lv_at hl 0 rfl) ?_
        refine lv_aload_n hx hb dX0_whyNot_60 rfl (lv_at hl 1 rfl) ?_
        refine lv_iload_n hx hb dX0_whyNot_61 rfl (lv_at hl 2 rfl) ?_
        obtain ⟨_, _, hO, hf⟩ := hf
        refine h_kl X hI (h_runV (As := [.int lx3]) X hI (h_recv X hI hO (show jC.1[1]? = some (RX1, TX1, 1) from rfl)) (mhX1_number l Z D j Λ fr lo E la2 lx3 G19 _ hf H.size) (cwV 1 hts (lw_V q2387 q2388 q2389 q168 q2390) rfl rfl rfl (by decide +kernel) (by show fr + 1 + 1 ≤ fr + 3 ∧ 8 + (2 + 11) + (lo + 40) ≤ lo + 87; omega)) rfl hl.1 (Nat.le_of_ble_eq_true rfl) dX0_whyNot_62 ⟨Nat.le_refl _, Nat.le_refl _⟩ rfl) (fun y23 G22 H locs hf hI => ?_)
        clear hO
        obtain ⟨_, _, hO, hf⟩ := hf
        refine h_ki X hI (h_runV (As := [.long y23]) X hI (h_recv X hI hO (show jC.1[0]? = some (RX0, TX0, 20) from rfl)) (mhX0_isState l Z D j Λ fr lo E a0 y23 G22 _ hf H.size) (cwV 1 hts (lw_V q1968 q1970 qs43 q167 q1971) rfl rfl rfl (by decide +kernel) (by show fr + 2 + 1 ≤ fr + 3 ∧ 8 + (3 + 11) + (lo + 65) ≤ lo + 87; omega)) rfl hl.1 (Nat.le_of_ble_eq_true rfl) dX0_whyNot_65 ⟨Nat.le_refl _, Nat.le_refl _⟩ rfl) (fun x25 G24 H locs hf hI => ?_)
        clear hO
        refine lv_if_ne (tgt := 74) hx hb dX0_whyNot_68 (by decide) (fun c26 => ?_) (fun c26 => ?_)
        · have hf := hf.2 c26
          refine lv_iinc (v := lx3 + 1) (lv' := [(3, .int (lx3 + 1)), (0, .ref a0), (2, .ref la2)]) hx hb dX0_whyNot_74 hl (k := 2) rfl rfl (by decide) rfl (fun ls hl => ?_)
          refine lv_goto (tgt := 51) hx hb dX0_whyNot_77 (by decide) ?_
          exact ih51 la2 (lx3 + 1) G24 hf H locs hI ls (lv_sub hl [1, 2, 0] rfl)
        · have hf := hf.1 c26
          refine lv_bipush (v := -2) hx hb dX0_whyNot_71 (by decide) ?_
          exact hret hf hI dX0_whyNot_73 (Nat.le_refl _) (Nat.le_refl _)
  have hl : lv_has ls 4 [(0, .ref a0), (1, .int p1)] := by exact hl
  unfold hX0_whyNot at hf
  obtain ⟨H, eH⟩ : ∃ H, H = s.heap := ⟨_, rfl⟩
  obtain ⟨locs, eL⟩ : ∃ locs : List Loc, locs = [] := ⟨_, rfl⟩
  have hI : HI D jC G A0 s.heap H locs := by rw [eH, eL]; exact hI
  rw [← eL]
  suffices h : W p l e (rhX0_whyNot fr lo) s m args below meth c H locs 0 0 Q (F0 m 0 ls []) by rw [eH] at h; exact h
  clear eH eL
  refine lv_iload_n hx hb dX0_whyNot_0 rfl (lv_at hl 1 rfl) ?_
  refine h_ki X hI (h_runS (As := [.int p1]) X hI (mhX0_isSlot l Z D j Λ fr lo E p1 G _ hf H.size) (va_cwS 1 hts (lw_S q222 q223 q167 q224) rfl rfl rfl (by decide +kernel) (by show fr + 2 + 1 ≤ fr + 3 ∧ 8 + (1 + 11) + (lo + 65) ≤ lo + 87; omega)) rfl hl.1 (Nat.le_of_ble_eq_true rfl) dX0_whyNot_1 ⟨Nat.le_refl _, Nat.le_refl _⟩ rfl) (fun x2 G1 H locs hf hI => ?_)
  refine lv_if_eq (tgt := 17) hx hb dX0_whyNot_4 (by decide) (fun c3 => ?_) (fun c3 => ?_)
  · have hf := hf.1 c3
    refine lv_bipush (v := -2) hx hb dX0_whyNot_17 (by decide) ?_
    exact hret hf hI dX0_whyNot_19 (Nat.le_refl _) (Nat.le_refl _)
  · have hf := hf.2 c3
    refine lv_aload_n hx hb dX0_whyNot_7 rfl (lv_at hl 0 rfl) ?_
    refine hr_gtQ X hI (rfl : jC.1[0]? = some (RX0, TX0, 20)) in_X0 1 (Nat.le_of_ble_eq_true rfl) hf q653 (fun _ h => h) dX0_whyNot_8 (fun q4 hf => ?_)
    obtain ⟨a5, ea5, hf⟩ := hf
    revert hl hf
    subst ea5
    intro hl hf
    have hl : lv_has ls 4 [(0, .ref a0), (1, .int p1)] := hl
    obtain ⟨_, _, hO, hf⟩ := hf
    refine h_ki X hI (h_runV (As := []) X hI (h_recv X hI hO (show jC.1[2]? = some (RX2, TX2, 11) from rfl)) (mhX2_is l Z D j Λ fr lo E a5 G1 _ hf H.size) (cwV 0 hts (lw_V q1839 q1840 q1841 q169 q1842) rfl rfl rfl (by decide +kernel) (by show fr + 1 + 1 ≤ fr + 3 ∧ 8 + (1 + 11) + (lo + 40) ≤ lo + 87; omega)) rfl hl.1 (Nat.le_of_ble_eq_true rfl) dX0_whyNot_11 ⟨Nat.le_refl _, Nat.le_refl _⟩ rfl) (fun x7 G6 H locs hf hI => ?_)
    clear hO
    refine lv_if_ne (tgt := 20) hx hb dX0_whyNot_14 (by decide) (fun c8 => ?_) (fun c8 => ?_)
    · have hf := hf.2 c8
      refine lv_aload_n hx hb dX0_whyNot_20 rfl (lv_at hl 0 rfl) ?_
      refine hr_gtQ X hI (rfl : jC.1[0]? = some (RX0, TX0, 20)) in_X0 0 (Nat.le_of_ble_eq_true rfl) hf q650 (fun _ h => h) dX0_whyNot_21 (fun q9 hf => ?_)
      refine lv_iload_n hx hb dX0_whyNot_24 rfl (lv_at hl 1 rfl) ?_
      obtain ⟨a10, ea10, hf⟩ := hf
      revert hl hf
      subst ea10
      intro hl hf
      have hl : lv_has ls 4 [(0, .ref a0), (1, .int p1)] := hl
      refine hr_qld X hI hf dX0_whyNot_25 (fun q11 hf => ?_)
      refine h_astore_n (o := q11) (lv' := [(2, va_rf q11), (0, .ref a0), (1, .int p1)]) hx hb dX0_whyNot_26 rfl hl (by decide) rfl (fun ls hl => ?_)
      refine h_aload_n (o := q11) hx hb dX0_whyNot_27 rfl (lv_at hl 0 rfl) ?_
      obtain ⟨a12, ea12, hf⟩ := hf
      revert hl hf
      subst ea12
      intro hl hf
      have hl : lv_has ls 4 [(2, .ref a12), (0, .ref a0), (1, .int p1)] := hl
      refine hr_gtQN X hI (rfl : jC.1[1]? = some (RX1, TX1, 1)) in_X1 0 (Nat.le_of_ble_eq_true rfl) hf (E.nw X q433 rfl) (fun _ h => h) dX0_whyNot_28 (fun q13 hf => ?_)
      refine h_ifnonnull (tgt := 37) hx hb dX0_whyNot_31 (by decide) (fun a15 c14 => ?_) (fun c14 => ?_)
      · have hf := hf.2 a15 c14
        revert hl hf
        subst c14
        intro hl hf
        have hl : lv_has ls 4 [(2, .ref a12), (0, .ref a0), (1, .int p1)] := hl
        refine lv_aload_n hx hb dX0_whyNot_37 rfl (lv_at hl 0 rfl) ?_
        obtain ⟨_, _, hO, hf⟩ := hf
        refine h_ki X hI (h_runV (As := []) X hI (h_recv X hI hO (show jC.1[1]? = some (RX1, TX1, 1) from rfl)) (mhX1_many l Z D j Λ fr lo E a12 G6 _ hf H.size) (cwV 0 hts (lw_V q2383 q2384 q2385 q168 q2386) rfl rfl rfl (by decide +kernel) (by show fr + 1 + 1 ≤ fr + 3 ∧ 8 + (1 + 11) + (lo + 40) ≤ lo + 87; omega)) rfl hl.1 (Nat.le_of_ble_eq_true rfl) dX0_whyNot_38 ⟨Nat.le_refl _, Nat.le_refl _⟩ rfl) (fun x17 G16 H locs hf hI => ?_)
        clear hO
        refine lv_iconst (v := 3) hx hb dX0_whyNot_41 (by decide) ?_
        refine lv_irem hx hb dX0_whyNot_42 (by decide) ?_
        refine lv_if_eq (tgt := 49) hx hb dX0_whyNot_43 (by decide) (fun c18 => ?_) (fun c18 => ?_)
        · have hf := hf.1 c18
          refine lv_iconst (v := 0) hx hb dX0_whyNot_49 (by decide) ?_
          refine lv_istore_n (lv' := [(3, .int 0), (2, .ref a12), (0, .ref a0), (1, .int p1)]) hx hb dX0_whyNot_50 rfl hl (by decide) rfl (fun ls hl => ?_)
          obtain ⟨n, hf⟩ := hf
          exact L51 n a12 (0 : Int32) G16 hf H locs hI ls (lv_sub hl [2, 1, 0] rfl)
        · have hf := hf.2 c18
          refine lv_bipush (v := -2) hx hb dX0_whyNot_46 (by decide) ?_
          exact hret hf hI dX0_whyNot_48 (Nat.le_refl _) (Nat.le_refl _)
      · have hf := hf.1 c14
        revert hl hf
        subst c14
        intro hl hf
        have hl : lv_has ls 4 [(2, .ref a12), (0, .ref a0), (1, .int p1)] := hl
        refine lv_bipush (v := -6) hx hb dX0_whyNot_34 (by decide) ?_
        exact hret hf hI dX0_whyNot_36 (Nat.le_refl _) (Nat.le_refl _)
    · have hf := hf.1 c8
      refine lv_bipush (v := -2) hx hb dX0_whyNot_17 (by decide) ?_
      exact hret hf hI dX0_whyNot_19 (Nat.le_refl _) (Nat.le_refl _)
/-! MergeJudge.isSo(LMergeJudge$Slot;I)Z -/
def hX0_isSo_b2 (j : JX) (Λ : JLam) (a0 : Nat) (p1 : Nat) (p2 : Int32) (post : Int32 → HG → Prop) (K2 : Int32 → HG → Prop) (lx3 : Int32) (G : HG) : Prop :=
  isO G p1 1 (hX1_many j Λ p1 G fun x2 G1 => (x2 ≤ lx3 → (gtQ G1 a0 0 11 fun q4 => nnq q4 fun a5 => ldI G1 a5 (j.1 1) p2 fun x6 => zB x6 ∧ post x6 G1)) ∧ (¬ x2 ≤ lx3 → (isO G1 p1 1 (hX1_number j Λ p1 lx3 G1 fun y8 G7 => isO G7 p1 1 (hX1_number j Λ p1 (lx3 + 1) G7 fun y10 G9 => isO G9 a0 0 (hX0_mergeOf j Λ a0 p2 y8.toInt32 y10.toInt32 G9 fun x12 G11 => isO G11 p1 1 (hX1_number j Λ p1 (lx3 + 2) G11 fun y14 G13 => ((lg_cmp x12.toInt64 y14) = 0 → (K2 (lx3 + 3) G13)) ∧ (¬ (lg_cmp x12.toInt64 y14) = 0 → (post (0 : Int32) G13)))))))))
def hX0_isSo_l2 (j : JX) (Λ : JLam) (a0 : Nat) (p1 : Nat) (p2 : Int32) (post : Int32 → HG → Prop) : Nat → Int32 → HG → Prop
  | 0 => fun _ _ => False
  | n + 1 => fun lx3 G => hX0_isSo_b2 j Λ a0 p1 p2 post (hX0_isSo_l2 j Λ a0 p1 p2 post n) lx3 G
def hX0_isSo (j : JX) (Λ : JLam) (a0 : Nat) (p1 : Nat) (p2 : Int32) (G : HG) (post : Int32 → HG → Prop) : Prop :=
  ∃ n, hX0_isSo_l2 j Λ a0 p1 p2 post n (0 : Int32) G
abbrev rhX0_isSo (fr lo : Nat) : Room := { frames := fr + 4, cells := 0, slots := 0, locals := lo + 110 }
theorem mhX0_isSo (l : Launch) (Z : (Nat → Prop) → State → Heap → Prop) (D : va_G) (j : JX) (Λ : JLam) (fr lo : Nat) (E : JE l Z D j Λ fr lo) (a0 : Nat) (p1 : Nat) (p2 : Int32) (G : HG) (post : Int32 → HG → Prop) (hf : hX0_isSo j Λ a0 p1 p2 G post) : HMi l yX0_isSo (ws_ yX0_isSo cX0_isSo 4 (some .boolean)) (rhX0_isSo fr lo) D jC (jty j.1) Z G [.ref a0, .ref p1, .int p2] post 0 0 := by
  refine h_openz E.1 (by decide) (by exact Nat.le_of_ble_eq_true rfl) (fun p e s m args below meth c ls A0 Q X hI hnd hnm hl hret => ?_)
  have X : XC p s m args meth c cX0_isSo 4 RX0 D jC (jty j.1) A0 Z := X
  have hx := X.1
  have hb := X.2.1
  have hown := X.2.2.2.1
  have hts := X.2.2.2.2.1
  have L2 : ∀ (n : Nat) (lx3 : Int32) (G : HG), hX0_isSo_l2 j Λ a0 p1 p2 post n lx3 G → ∀ (H : Heap) (locs : List Loc), HI D jC G A0 s.heap H locs → ∀ (ls : Array Slot), lv_has ls 4 [(0, .ref a0), (1, .ref p1), (2, .int p2), (3, .int lx3)] → W p l e (rhX0_isSo fr lo) s m args below meth c H locs 0 0 Q (F0 m 2 ls []) := by
    intro n2
    induction n2 with
    | zero => intro lx3 G hf; exact hf.elim
    | succ n2 ih2 =>
      intro lx3 G hf H locs hI ls hl
      have hf : hX0_isSo_b2 j Λ a0 p1 p2 post (hX0_isSo_l2 j Λ a0 p1 p2 post n2) lx3 G := hf
      unfold hX0_isSo_b2 at hf
      refine lv_iload_n hx hb dX0_isSo_2 rfl (lv_at hl 3 rfl) ?_
      refine lv_aload_n hx hb dX0_isSo_3 rfl (lv_at hl 1 rfl) ?_
      obtain ⟨_, _, hO, hf⟩ := hf
      refine h_ki X hI (h_runV (As := []) X hI (h_recv X hI hO (show jC.1[1]? = some (RX1, TX1, 1) from rfl)) (mhX1_many l Z D j Λ fr lo E p1 G _ hf H.size) (cwV 0 hts (lw_V q2383 q2384 q2385 q168 q2386) rfl rfl rfl (by decide +kernel) (by show fr + 1 + 1 ≤ fr + 4 ∧ 8 + (1 + 11) + (lo + 40) ≤ lo + 110; omega)) rfl hl.1 (Nat.le_of_ble_eq_true rfl) dX0_isSo_4 ⟨Nat.le_refl _, Nat.le_refl _⟩ rfl) (fun x2 G1 H locs hf hI => ?_)
      clear hO
      refine lv_icmp_ge (tgt := 49) hx hb dX0_isSo_7 (by decide) (fun c3 => ?_) (fun c3 => ?_)
      · have hf := hf.1 c3
        refine lv_aload_n hx hb dX0_isSo_49 rfl (lv_at hl 0 rfl) ?_
        refine hr_gtQ X hI (rfl : jC.1[0]? = some (RX0, TX0, 20)) in_X0 11 (Nat.le_of_ble_eq_true rfl) hf q664 (fun _ h => h) dX0_isSo_50 (fun q4 hf => ?_)
        refine lv_iload_n hx hb dX0_isSo_53 rfl (lv_at hl 2 rfl) ?_
        obtain ⟨a5, ea5, hf⟩ := hf
        revert hl hf
        subst ea5
        intro hl hf
        have hl : lv_has ls 4 [(0, .ref a0), (1, .ref p1), (2, .int p2), (3, .int lx3)] := hl
        refine hr_zld X hI 1 rfl hf dX0_isSo_54 (fun x6 hf => ?_)
        obtain ⟨hz, hf⟩ := hf
        exact hret (zB_n hz) hf hI dX0_isSo_55 (Nat.le_refl _) (Nat.le_refl _)
      · have hf := hf.2 c3
        refine lv_aload_n hx hb dX0_isSo_10 rfl (lv_at hl 0 rfl) ?_
        refine lv_iload_n hx hb dX0_isSo_11 rfl (lv_at hl 2 rfl) ?_
        refine lv_aload_n hx hb dX0_isSo_12 rfl (lv_at hl 1 rfl) ?_
        refine lv_iload_n hx hb dX0_isSo_13 rfl (lv_at hl 3 rfl) ?_
        obtain ⟨_, _, hO, hf⟩ := hf
        refine h_kl X hI (h_runV (As := [.int lx3]) X hI (h_recv X hI hO (show jC.1[1]? = some (RX1, TX1, 1) from rfl)) (mhX1_number l Z D j Λ fr lo E p1 lx3 G1 _ hf H.size) (cwV 1 hts (lw_V q2387 q2388 q2389 q168 q2390) rfl rfl rfl (by decide +kernel) (by show fr + 1 + 1 ≤ fr + 4 ∧ 8 + (2 + 11) + (lo + 40) ≤ lo + 110; omega)) rfl hl.1 (Nat.le_of_ble_eq_true rfl) dX0_isSo_14 ⟨Nat.le_refl _, Nat.le_refl _⟩ rfl) (fun y8 G7 H locs hf hI => ?_)
        clear hO
        refine lv_l2i hx hb dX0_isSo_17 rfl ?_
        refine lv_aload_n hx hb dX0_isSo_18 rfl (lv_at hl 1 rfl) ?_
        refine lv_iload_n hx hb dX0_isSo_19 rfl (lv_at hl 3 rfl) ?_
        refine lv_iconst (v := 1) hx hb dX0_isSo_20 (by decide) ?_
        refine lv_iadd hx hb dX0_isSo_21 ?_
        obtain ⟨_, _, hO, hf⟩ := hf
        refine h_kl X hI (h_runV (As := [.int (lx3 + 1)]) X hI (h_recv X hI hO (show jC.1[1]? = some (RX1, TX1, 1) from rfl)) (mhX1_number l Z D j Λ fr lo E p1 (lx3 + 1) G7 _ hf H.size) (cwV 1 hts (lw_V q2387 q2388 q2389 q168 q2390) rfl rfl rfl (by decide +kernel) (by show fr + 1 + 1 ≤ fr + 4 ∧ 8 + (2 + 11) + (lo + 40) ≤ lo + 110; omega)) rfl hl.1 (Nat.le_of_ble_eq_true rfl) dX0_isSo_22 ⟨Nat.le_refl _, Nat.le_refl _⟩ rfl) (fun y10 G9 H locs hf hI => ?_)
        clear hO
        refine lv_l2i hx hb dX0_isSo_25 rfl ?_
        obtain ⟨_, _, hO, hf⟩ := hf
        refine h_ki X hI (h_runV (As := [.int p2, .int y8.toInt32, .int y10.toInt32]) X hI (h_recv X hI hO (show jC.1[0]? = some (RX0, TX0, 20) from rfl)) (mhX0_mergeOf l Z D j Λ fr lo E a0 p2 y8.toInt32 y10.toInt32 G9 _ hf H.size) (cwV 3 hts (lw_V q2017 q2019 qs50 q167 q2020) rfl rfl rfl (by decide +kernel) (by show fr + 3 + 1 ≤ fr + 4 ∧ 8 + (6 + 11) + (lo + 85) ≤ lo + 110; omega)) rfl hl.1 (Nat.le_of_ble_eq_true rfl) dX0_isSo_26 ⟨Nat.le_refl _, Nat.le_refl _⟩ rfl) (fun x12 G11 H locs hf hI => ?_)
        clear hO
        refine lv_i2l hx hb dX0_isSo_29 rfl ?_
        refine lv_aload_n hx hb dX0_isSo_30 rfl (lv_at hl 1 rfl) ?_
        refine lv_iload_n hx hb dX0_isSo_31 rfl (lv_at hl 3 rfl) ?_
        refine lv_iconst (v := 2) hx hb dX0_isSo_32 (by decide) ?_
        refine lv_iadd hx hb dX0_isSo_33 ?_
        obtain ⟨_, _, hO, hf⟩ := hf
        refine h_kl X hI (h_runV (As := [.int (lx3 + 2)]) X hI (h_recv X hI hO (show jC.1[1]? = some (RX1, TX1, 1) from rfl)) (mhX1_number l Z D j Λ fr lo E p1 (lx3 + 2) G11 _ hf H.size) (cwV 1 hts (lw_V q2387 q2388 q2389 q168 q2390) rfl rfl rfl (by decide +kernel) (by show fr + 1 + 1 ≤ fr + 4 ∧ 8 + (2 + 11) + (lo + 40) ≤ lo + 110; omega)) rfl hl.1 (Nat.le_of_ble_eq_true rfl) dX0_isSo_34 ⟨Nat.le_refl _, Nat.le_refl _⟩ rfl) (fun y14 G13 H locs hf hI => ?_)
        clear hO
        refine W.lcmp hx hb dX0_isSo_37 ?_
        refine lv_if_eq (tgt := 43) hx hb dX0_isSo_38 (by decide) (fun c15 => ?_) (fun c15 => ?_)
        · have hf := hf.1 c15
          refine lv_iinc (v := lx3 + 3) (lv' := [(3, .int (lx3 + 3)), (0, .ref a0), (1, .ref p1), (2, .int p2)]) hx hb dX0_isSo_43 hl (k := 3) rfl rfl (by decide) rfl (fun ls hl => ?_)
          refine lv_goto (tgt := 2) hx hb dX0_isSo_46 (by decide) ?_
          exact ih2 (lx3 + 3) G13 hf H locs hI ls (lv_sub hl [1, 2, 3, 0] rfl)
        · have hf := hf.2 c15
          refine lv_iconst (v := 0) hx hb dX0_isSo_41 (by decide) ?_
          exact hret rfl hf hI dX0_isSo_42 (Nat.le_refl _) (Nat.le_refl _)
  have hl : lv_has ls 4 [(0, .ref a0), (1, .ref p1), (2, .int p2)] := by exact hl
  unfold hX0_isSo at hf
  obtain ⟨H, eH⟩ : ∃ H, H = s.heap := ⟨_, rfl⟩
  obtain ⟨locs, eL⟩ : ∃ locs : List Loc, locs = [] := ⟨_, rfl⟩
  have hI : HI D jC G A0 s.heap H locs := by rw [eH, eL]; exact hI
  rw [← eL]
  suffices h : W p l e (rhX0_isSo fr lo) s m args below meth c H locs 0 0 Q (F0 m 0 ls []) by rw [eH] at h; exact h
  clear eH eL
  refine lv_iconst (v := 0) hx hb dX0_isSo_0 (by decide) ?_
  refine lv_istore_n (lv' := [(3, .int 0), (0, .ref a0), (1, .ref p1), (2, .int p2)]) hx hb dX0_isSo_1 rfl hl (by decide) rfl (fun ls hl => ?_)
  obtain ⟨n, hf⟩ := hf
  exact L2 n (0 : Int32) G hf H locs hI ls (lv_sub hl [1, 2, 3, 0] rfl)
/-! MergeJudge.basesOf(LMergeJudge$Slot;)I -/
def hX0_basesOf_b38 (j : JX) (Λ : JLam) (a0 : Nat) (p1 : Nat) (post : Int32 → HG → Prop) (K14 : Int32 → Int32 → HG → Prop) (lx2 : Int32) (lx3 : Int32) (G : HG) : Prop :=
  K14 lx2 (lx3 + (-1)) G
def hX0_basesOf_b14 (j : JX) (Λ : JLam) (a0 : Nat) (p1 : Nat) (post : Int32 → HG → Prop) (K14 : Int32 → Int32 → HG → Prop) (lx2 : Int32) (lx3 : Int32) (G : HG) : Prop :=
  (lx3 < 0 → (post lx2 G)) ∧ (¬ lx3 < 0 → (isO G a0 0 (hX0_isSo j Λ a0 p1 lx3 G fun x6 G5 => (x6 = 0 → (hX0_basesOf_b38 j Λ a0 p1 post K14 lx2 lx3 G5)) ∧ (¬ x6 = 0 → (ptV G5 a0 0 16 (.int lx3) fun G8 => hX0_basesOf_b38 j Λ a0 p1 post K14 (lx2 + 1) lx3 G8)))))
def hX0_basesOf_l14 (j : JX) (Λ : JLam) (a0 : Nat) (p1 : Nat) (post : Int32 → HG → Prop) : Nat → Int32 → Int32 → HG → Prop
  | 0 => fun _ _ _ => False
  | n + 1 => fun lx2 lx3 G => hX0_basesOf_b14 j Λ a0 p1 post (hX0_basesOf_l14 j Λ a0 p1 post n) lx2 lx3 G
def hX0_basesOf (j : JX) (Λ : JLam) (a0 : Nat) (p1 : Nat) (G : HG) (post : Int32 → HG → Prop) : Prop :=
  ptV G a0 0 16 (.int (-1)) fun G1 => isO G1 a0 0 (hX0_states0 j Λ a0 G1 fun x3 G2 => ∃ n, hX0_basesOf_l14 j Λ a0 p1 post n (0 : Int32) (x3 - 1) G2)
abbrev rhX0_basesOf (fr lo : Nat) : Room := { frames := fr + 5, cells := 0, slots := 0, locals := lo + 133 }
theorem mhX0_basesOf (l : Launch) (Z : (Nat → Prop) → State → Heap → Prop) (D : va_G) (j : JX) (Λ : JLam) (fr lo : Nat) (E : JE l Z D j Λ fr lo) (a0 : Nat) (p1 : Nat) (G : HG) (post : Int32 → HG → Prop) (hf : hX0_basesOf j Λ a0 p1 G post) : HMi l yX0_basesOf (ws_ yX0_basesOf cX0_basesOf 4 (some .int)) (rhX0_basesOf fr lo) D jC (jty j.1) Z G [.ref a0, .ref p1] post 0 0 := by
  refine h_openi E.1 (by decide) (by exact Nat.le_of_ble_eq_true rfl) (fun p e s m args below meth c ls A0 Q X hI hnd hnm hl hret => ?_)
  have X : XC p s m args meth c cX0_basesOf 4 RX0 D jC (jty j.1) A0 Z := X
  have hx := X.1
  have hb := X.2.1
  have hown := X.2.2.2.1
  have hts := X.2.2.2.2.1
  have L14 : ∀ (n : Nat) (lx2 : Int32) (lx3 : Int32) (G : HG), hX0_basesOf_l14 j Λ a0 p1 post n lx2 lx3 G → ∀ (H : Heap) (locs : List Loc), HI D jC G A0 s.heap H locs → ∀ (ls : Array Slot), lv_has ls 4 [(0, .ref a0), (1, .ref p1), (2, .int lx2), (3, .int lx3)] → W p l e (rhX0_basesOf fr lo) s m args below meth c H locs 0 0 Q (F0 m 14 ls []) := by
    intro n14
    induction n14 with
    | zero => intro lx2 lx3 G hf; exact hf.elim
    | succ n14 ih14 =>
      have J38 : ∀ (lx2 : Int32) (lx3 : Int32) (G : HG), hX0_basesOf_b38 j Λ a0 p1 post (hX0_basesOf_l14 j Λ a0 p1 post n14) lx2 lx3 G → ∀ (H : Heap) (locs : List Loc), HI D jC G A0 s.heap H locs → ∀ (ls : Array Slot), lv_has ls 4 [(0, .ref a0), (1, .ref p1), (2, .int lx2), (3, .int lx3)] → W p l e (rhX0_basesOf fr lo) s m args below meth c H locs 0 0 Q (F0 m 38 ls []) := by
        intro lx2 lx3 G hf H locs hI ls hl
        unfold hX0_basesOf_b38 at hf
        refine lv_iinc (v := lx3 + (-1)) (lv' := [(3, .int (lx3 + (-1))), (0, .ref a0), (1, .ref p1), (2, .int lx2)]) hx hb dX0_basesOf_38 hl (k := 3) rfl rfl (by decide) rfl (fun ls hl => ?_)
        refine lv_goto (tgt := 14) hx hb dX0_basesOf_41 (by decide) ?_
        exact ih14 lx2 (lx3 + (-1)) G hf H locs hI ls (lv_sub hl [1, 2, 3, 0] rfl)
      intro lx2 lx3 G hf H locs hI ls hl
      have hf : hX0_basesOf_b14 j Λ a0 p1 post (hX0_basesOf_l14 j Λ a0 p1 post n14) lx2 lx3 G := hf
      unfold hX0_basesOf_b14 at hf
      refine lv_iload_n hx hb dX0_basesOf_14 rfl (lv_at hl 3 rfl) ?_
      refine lv_if_lt (tgt := 44) hx hb dX0_basesOf_15 (by decide) (fun c4 => ?_) (fun c4 => ?_)
      · have hf := hf.1 c4
        refine lv_iload_n hx hb dX0_basesOf_44 rfl (lv_at hl 2 rfl) ?_
        exact hret hf hI dX0_basesOf_45 (Nat.le_refl _) (Nat.le_refl _)
      · have hf := hf.2 c4
        refine lv_aload_n hx hb dX0_basesOf_18 rfl (lv_at hl 0 rfl) ?_
        refine lv_aload_n hx hb dX0_basesOf_19 rfl (lv_at hl 1 rfl) ?_
        refine lv_iload_n hx hb dX0_basesOf_20 rfl (lv_at hl 3 rfl) ?_
        obtain ⟨_, _, hO, hf⟩ := hf
        refine h_ki X hI (h_runV (As := [.ref p1, .int lx3]) X hI (h_recv X hI hO (show jC.1[0]? = some (RX0, TX0, 20) from rfl)) (mhX0_isSo l Z D j Λ fr lo E a0 p1 lx3 G _ hf H.size) (cwV 2 hts (lw_V q2395 q2397 qs73 q167 q2398) rfl rfl rfl (by decide +kernel) (by show fr + 4 + 1 ≤ fr + 5 ∧ 8 + (4 + 11) + (lo + 110) ≤ lo + 133; omega)) rfl hl.1 (Nat.le_of_ble_eq_true rfl) dX0_basesOf_21 ⟨Nat.le_refl _, Nat.le_refl _⟩ rfl) (fun x6 G5 H locs hf hI => ?_)
        clear hO
        refine lv_if_ne (tgt := 30) hx hb dX0_basesOf_24 (by decide) (fun c7 => ?_) (fun c7 => ?_)
        · have hf := hf.2 c7
          refine lv_iinc (v := lx2 + 1) (lv' := [(2, .int (lx2 + 1)), (0, .ref a0), (1, .ref p1), (3, .int lx3)]) hx hb dX0_basesOf_30 hl (k := 2) rfl rfl (by decide) rfl (fun ls hl => ?_)
          refine lv_aload_n hx hb dX0_basesOf_33 rfl (lv_at hl 1 rfl) ?_
          refine lv_iload_n hx hb dX0_basesOf_34 rfl (lv_at hl 3 rfl) ?_
          refine hr_pt X hI (rfl : jC.1[0]? = some (RX0, TX0, 20)) in_X0 16 (Nat.le_of_ble_eq_true rfl) tyX0 tyX0_ok nmX0 hf q671 (fun _ h => h) rfl rfl rfl dX0_basesOf_35 (fun G8 H locs hf hI => ?_)
          exact J38 (lx2 + 1) lx3 G8 hf H locs hI ls (lv_sub hl [1, 2, 0, 3] rfl)
        · have hf := hf.1 c7
          refine lv_goto (tgt := 38) hx hb dX0_basesOf_27 (by decide) ?_
          exact J38 lx2 lx3 G5 hf H locs hI ls (lv_sub hl [0, 1, 2, 3] rfl)
  have hl : lv_has ls 4 [(0, .ref a0), (1, .ref p1)] := by exact hl
  unfold hX0_basesOf at hf
  obtain ⟨H, eH⟩ : ∃ H, H = s.heap := ⟨_, rfl⟩
  obtain ⟨locs, eL⟩ : ∃ locs : List Loc, locs = [] := ⟨_, rfl⟩
  have hI : HI D jC G A0 s.heap H locs := by rw [eH, eL]; exact hI
  rw [← eL]
  suffices h : W p l e (rhX0_basesOf fr lo) s m args below meth c H locs 0 0 Q (F0 m 0 ls []) by rw [eH] at h; exact h
  clear eH eL
  refine lv_iconst (v := 0) hx hb dX0_basesOf_0 (by decide) ?_
  refine lv_istore_n (lv' := [(2, .int 0), (0, .ref a0), (1, .ref p1)]) hx hb dX0_basesOf_1 rfl hl (by decide) rfl (fun ls hl => ?_)
  refine lv_aload_n hx hb dX0_basesOf_2 rfl (lv_at hl 1 rfl) ?_
  refine lv_iconst (v := -1) hx hb dX0_basesOf_3 (by decide) ?_
  refine hr_pt X hI (rfl : jC.1[0]? = some (RX0, TX0, 20)) in_X0 16 (Nat.le_of_ble_eq_true rfl) tyX0 tyX0_ok nmX0 hf q671 (fun _ h => h) rfl rfl rfl dX0_basesOf_4 (fun G1 H locs hf hI => ?_)
  refine lv_aload_n hx hb dX0_basesOf_7 rfl (lv_at hl 1 rfl) ?_
  obtain ⟨_, _, hO, hf⟩ := hf
  refine h_ki X hI (h_runV (As := []) X hI (h_recv X hI hO (show jC.1[0]? = some (RX0, TX0, 20) from rfl)) (mhX0_states0 l Z D j Λ fr lo E a0 G1 _ hf H.size) (cwV 0 hts (lw_V q1945 q1947 qs41 q167 q1948) rfl rfl rfl (by decide +kernel) (by show fr + 1 + 1 ≤ fr + 5 ∧ 8 + (3 + 11) + (lo + 40) ≤ lo + 133; omega)) rfl hl.1 (Nat.le_of_ble_eq_true rfl) dX0_basesOf_8 ⟨Nat.le_refl _, Nat.le_refl _⟩ rfl) (fun x3 G2 H locs hf hI => ?_)
  clear hO
  refine lv_iconst (v := 1) hx hb dX0_basesOf_11 (by decide) ?_
  refine lv_isub hx hb dX0_basesOf_12 ?_
  refine lv_istore_n (lv' := [(3, .int (x3 - 1)), (2, .int 0), (0, .ref a0), (1, .ref p1)]) hx hb dX0_basesOf_13 rfl hl (by decide) rfl (fun ls hl => ?_)
  obtain ⟨n, hf⟩ := hf
  exact L14 n (0 : Int32) (x3 - 1) G2 hf H locs hI ls (lv_sub hl [2, 3, 1, 0] rfl)
/-! MergeJudge.fits(I)I -/
def hX0_fits (j : JX) (Λ : JLam) (a0 : Nat) (p1 : Int32) (G : HG) (post : Int32 → HG → Prop) : Prop :=
  isO G a0 0 (hX0_whyNot j Λ a0 p1 G fun x2 G1 => (x2 = 0 → (gtQ G1 a0 0 0 fun q4 => nnq q4 fun a5 => ldQ (jty j.1) G1 a5 p1 fun q6 => nnq q6 fun a7 => isO G1 a0 0 (hX0_basesOf j Λ a0 a7 G1 fun x9 G8 => post x9 G8))) ∧ (¬ x2 = 0 → (post x2 G1)))
abbrev rhX0_fits (fr lo : Nat) : Room := { frames := fr + 6, cells := 0, slots := 0, locals := lo + 156 }
theorem mhX0_fits (l : Launch) (Z : (Nat → Prop) → State → Heap → Prop) (D : va_G) (j : JX) (Λ : JLam) (fr lo : Nat) (E : JE l Z D j Λ fr lo) (a0 : Nat) (p1 : Int32) (G : HG) (post : Int32 → HG → Prop) (hf : hX0_fits j Λ a0 p1 G post) : HMi l yX0_fits (ws_ yX0_fits cX0_fits 3 (some .int)) (rhX0_fits fr lo) D jC (jty j.1) Z G [.ref a0, .int p1] post 0 0 := by
  refine h_openi E.1 (by decide) (by exact Nat.le_of_ble_eq_true rfl) (fun p e s m args below meth c ls A0 Q X hI hnd hnm hl hret => ?_)
  have X : XC p s m args meth c cX0_fits 3 RX0 D jC (jty j.1) A0 Z := X
  have hx := X.1
  have hb := X.2.1
  have hown := X.2.2.2.1
  have hts := X.2.2.2.2.1
  have hl : lv_has ls 3 [(0, .ref a0), (1, .int p1)] := by exact hl
  unfold hX0_fits at hf
  obtain ⟨H, eH⟩ : ∃ H, H = s.heap := ⟨_, rfl⟩
  obtain ⟨locs, eL⟩ : ∃ locs : List Loc, locs = [] := ⟨_, rfl⟩
  have hI : HI D jC G A0 s.heap H locs := by rw [eH, eL]; exact hI
  rw [← eL]
  suffices h : W p l e (rhX0_fits fr lo) s m args below meth c H locs 0 0 Q (F0 m 0 ls []) by rw [eH] at h; exact h
  clear eH eL
  refine lv_aload_n hx hb dX0_fits_0 rfl (lv_at hl 0 rfl) ?_
  refine lv_iload_n hx hb dX0_fits_1 rfl (lv_at hl 1 rfl) ?_
  obtain ⟨_, _, hO, hf⟩ := hf
  refine h_ki X hI (h_runV (As := [.int p1]) X hI (h_recv X hI hO (show jC.1[0]? = some (RX0, TX0, 20) from rfl)) (mhX0_whyNot l Z D j Λ fr lo E a0 p1 G _ hf H.size) (cwV 1 hts (lw_V q2379 q2381 qs71 q167 q2382) rfl rfl rfl (by decide +kernel) (by show fr + 3 + 1 ≤ fr + 6 ∧ 8 + (4 + 11) + (lo + 87) ≤ lo + 156; omega)) rfl hl.1 (Nat.le_of_ble_eq_true rfl) dX0_fits_2 ⟨Nat.le_refl _, Nat.le_refl _⟩ rfl) (fun x2 G1 H locs hf hI => ?_)
  clear hO
  refine lv_istore_n (lv' := [(2, .int x2), (0, .ref a0), (1, .int p1)]) hx hb dX0_fits_5 rfl hl (by decide) rfl (fun ls hl => ?_)
  refine lv_iload_n hx hb dX0_fits_6 rfl (lv_at hl 0 rfl) ?_
  refine lv_if_eq (tgt := 14) hx hb dX0_fits_7 (by decide) (fun c3 => ?_) (fun c3 => ?_)
  · have hf := hf.1 c3
    refine lv_aload_n hx hb dX0_fits_14 rfl (lv_at hl 1 rfl) ?_
    refine lv_aload_n hx hb dX0_fits_15 rfl (lv_at hl 1 rfl) ?_
    refine hr_gtQ X hI (rfl : jC.1[0]? = some (RX0, TX0, 20)) in_X0 0 (Nat.le_of_ble_eq_true rfl) hf q650 (fun _ h => h) dX0_fits_16 (fun q4 hf => ?_)
    refine lv_iload_n hx hb dX0_fits_19 rfl (lv_at hl 2 rfl) ?_
    obtain ⟨a5, ea5, hf⟩ := hf
    revert hl hf
    subst ea5
    intro hl hf
    have hl : lv_has ls 3 [(2, .int x2), (0, .ref a0), (1, .int p1)] := hl
    refine hr_qld X hI hf dX0_fits_20 (fun q6 hf => ?_)
    obtain ⟨a7, ea7, hf⟩ := hf
    revert hl hf
    subst ea7
    intro hl hf
    have hl : lv_has ls 3 [(2, .int x2), (0, .ref a0), (1, .int p1)] := hl
    obtain ⟨_, _, hO, hf⟩ := hf
    refine h_ki X hI (h_runV (As := [.ref a7]) X hI (h_recv X hI hO (show jC.1[0]? = some (RX0, TX0, 20) from rfl)) (mhX0_basesOf l Z D j Λ fr lo E a0 a7 G1 _ hf H.size) (cwV 1 hts (lw_V q2391 q2393 qs72 q167 q2394) rfl rfl rfl (by decide +kernel) (by show fr + 5 + 1 ≤ fr + 6 ∧ 8 + (4 + 11) + (lo + 133) ≤ lo + 156; omega)) rfl hl.1 (Nat.le_of_ble_eq_true rfl) dX0_fits_21 ⟨Nat.le_refl _, Nat.le_refl _⟩ rfl) (fun x9 G8 H locs hf hI => ?_)
    clear hO
    exact hret hf hI dX0_fits_24 (Nat.le_refl _) (Nat.le_refl _)
  · have hf := hf.2 c3
    refine lv_iload_n hx hb dX0_fits_10 rfl (lv_at hl 0 rfl) ?_
    refine lv_goto (tgt := 24) hx hb dX0_fits_11 (by decide) ?_
    exact hret hf hI dX0_fits_24 (Nat.le_refl _) (Nat.le_refl _)
/-! MergeJudge.which(I)I -/
def hX0_which (j : JX) (Λ : JLam) (a0 : Nat) (p1 : Int32) (G : HG) (post : Int32 → HG → Prop) : Prop :=
  isO G a0 0 (hX0_whyNot j Λ a0 p1 G fun x2 G1 => (x2 = 0 → (gtQ G1 a0 0 0 fun q4 => nnq q4 fun a5 => ldQ (jty j.1) G1 a5 p1 fun q6 => nnq q6 fun a7 => isO G1 a0 0 (hX0_basesOf j Λ a0 a7 G1 fun x9 G8 => gtI G8 a0 0 16 fun x10 => post x10 G8))) ∧ (¬ x2 = 0 → (post x2 G1)))
abbrev rhX0_which (fr lo : Nat) : Room := { frames := fr + 6, cells := 0, slots := 0, locals := lo + 156 }
theorem mhX0_which (l : Launch) (Z : (Nat → Prop) → State → Heap → Prop) (D : va_G) (j : JX) (Λ : JLam) (fr lo : Nat) (E : JE l Z D j Λ fr lo) (a0 : Nat) (p1 : Int32) (G : HG) (post : Int32 → HG → Prop) (hf : hX0_which j Λ a0 p1 G post) : HMi l yX0_which (ws_ yX0_which cX0_which 3 (some .int)) (rhX0_which fr lo) D jC (jty j.1) Z G [.ref a0, .int p1] post 0 0 := by
  refine h_openi E.1 (by decide) (by exact Nat.le_of_ble_eq_true rfl) (fun p e s m args below meth c ls A0 Q X hI hnd hnm hl hret => ?_)
  have X : XC p s m args meth c cX0_which 3 RX0 D jC (jty j.1) A0 Z := X
  have hx := X.1
  have hb := X.2.1
  have hown := X.2.2.2.1
  have hts := X.2.2.2.2.1
  have hl : lv_has ls 3 [(0, .ref a0), (1, .int p1)] := by exact hl
  unfold hX0_which at hf
  obtain ⟨H, eH⟩ : ∃ H, H = s.heap := ⟨_, rfl⟩
  obtain ⟨locs, eL⟩ : ∃ locs : List Loc, locs = [] := ⟨_, rfl⟩
  have hI : HI D jC G A0 s.heap H locs := by rw [eH, eL]; exact hI
  rw [← eL]
  suffices h : W p l e (rhX0_which fr lo) s m args below meth c H locs 0 0 Q (F0 m 0 ls []) by rw [eH] at h; exact h
  clear eH eL
  refine lv_aload_n hx hb dX0_which_0 rfl (lv_at hl 0 rfl) ?_
  refine lv_iload_n hx hb dX0_which_1 rfl (lv_at hl 1 rfl) ?_
  obtain ⟨_, _, hO, hf⟩ := hf
  refine h_ki X hI (h_runV (As := [.int p1]) X hI (h_recv X hI hO (show jC.1[0]? = some (RX0, TX0, 20) from rfl)) (mhX0_whyNot l Z D j Λ fr lo E a0 p1 G _ hf H.size) (cwV 1 hts (lw_V q2379 q2381 qs71 q167 q2382) rfl rfl rfl (by decide +kernel) (by show fr + 3 + 1 ≤ fr + 6 ∧ 8 + (4 + 11) + (lo + 87) ≤ lo + 156; omega)) rfl hl.1 (Nat.le_of_ble_eq_true rfl) dX0_which_2 ⟨Nat.le_refl _, Nat.le_refl _⟩ rfl) (fun x2 G1 H locs hf hI => ?_)
  clear hO
  refine lv_istore_n (lv' := [(2, .int x2), (0, .ref a0), (1, .int p1)]) hx hb dX0_which_5 rfl hl (by decide) rfl (fun ls hl => ?_)
  refine lv_iload_n hx hb dX0_which_6 rfl (lv_at hl 0 rfl) ?_
  refine lv_if_eq (tgt := 12) hx hb dX0_which_7 (by decide) (fun c3 => ?_) (fun c3 => ?_)
  · have hf := hf.1 c3
    refine lv_aload_n hx hb dX0_which_12 rfl (lv_at hl 1 rfl) ?_
    refine lv_aload_n hx hb dX0_which_13 rfl (lv_at hl 1 rfl) ?_
    refine hr_gtQ X hI (rfl : jC.1[0]? = some (RX0, TX0, 20)) in_X0 0 (Nat.le_of_ble_eq_true rfl) hf q650 (fun _ h => h) dX0_which_14 (fun q4 hf => ?_)
    refine lv_iload_n hx hb dX0_which_17 rfl (lv_at hl 2 rfl) ?_
    obtain ⟨a5, ea5, hf⟩ := hf
    revert hl hf
    subst ea5
    intro hl hf
    have hl : lv_has ls 3 [(2, .int x2), (0, .ref a0), (1, .int p1)] := hl
    refine hr_qld X hI hf dX0_which_18 (fun q6 hf => ?_)
    obtain ⟨a7, ea7, hf⟩ := hf
    revert hl hf
    subst ea7
    intro hl hf
    have hl : lv_has ls 3 [(2, .int x2), (0, .ref a0), (1, .int p1)] := hl
    obtain ⟨_, _, hO, hf⟩ := hf
    refine h_ki X hI (h_runV (As := [.ref a7]) X hI (h_recv X hI hO (show jC.1[0]? = some (RX0, TX0, 20) from rfl)) (mhX0_basesOf l Z D j Λ fr lo E a0 a7 G1 _ hf H.size) (cwV 1 hts (lw_V q2391 q2393 qs72 q167 q2394) rfl rfl rfl (by decide +kernel) (by show fr + 5 + 1 ≤ fr + 6 ∧ 8 + (4 + 11) + (lo + 133) ≤ lo + 156; omega)) rfl hl.1 (Nat.le_of_ble_eq_true rfl) dX0_which_19 ⟨Nat.le_refl _, Nat.le_refl _⟩ rfl) (fun x9 G8 H locs hf hI => ?_)
    clear hO
    refine lv_pop hx hb dX0_which_22 rfl ?_
    refine lv_aload_n hx hb dX0_which_23 rfl (lv_at hl 1 rfl) ?_
    refine hr_gtI X hI (rfl : jC.1[0]? = some (RX0, TX0, 20)) in_X0 16 (Nat.le_of_ble_eq_true rfl) hf q671 (fun _ h => h) dX0_which_24 (fun x10 hf => ?_)
    exact hret hf hI dX0_which_27 (Nat.le_refl _) (Nat.le_refl _)
  · have hf := hf.2 c3
    refine lv_iload_n hx hb dX0_which_10 rfl (lv_at hl 0 rfl) ?_
    exact hret hf hI dX0_which_11 (Nat.le_refl _) (Nat.le_refl _)
/-! MergeJudge.laws(I)I -/
def hX0_laws_b48 (j : JX) (Λ : JLam) (a0 : Nat) (p1 : Int32) (post : Int32 → HG → Prop) (K17 : Int32 → Int32 → Nat → Nat → HG → Prop) (lx4 : Int32) (z0 : Int32) (z1 : Int32) (mc ms : Nat) (G : HG) : Prop :=
  K17 (z0 ||| z1) (lx4 + 1) mc ms G
def hX0_laws_b17 (j : JX) (Λ : JLam) (a0 : Nat) (p1 : Int32) (post : Int32 → HG → Prop) (K17 : Int32 → Int32 → Nat → Nat → HG → Prop) (lx3 : Int32) (lx4 : Int32) (mc ms : Nat) (G : HG) : Prop :=
  ((4 : Int32) ≤ lx4 → (post lx3 G)) ∧ (¬ (4 : Int32) ≤ lx4 → (1 ≤ mc ∧ 2 ≤ ms ∧ mkO G (.inr (49, .ref a0 :: ([p1] : List Int32).map .int)) fun a5 G6 => isO G6 a0 0 (∃ m7 m8 : Nat, m7 ≤ mc - 1 ∧ m8 ≤ ms - 2 ∧ hX0_byLaw j Λ a0 lx4 a5 m7 m8 G6 fun x10 G9 => (x10 ≤ 0 → (hX0_laws_b48 j Λ a0 p1 post K17 lx4 lx3 (0 : Int32) (mc - 1 - m7) (ms - 2 - m8) G9)) ∧ (¬ x10 ≤ 0 → (hX0_laws_b48 j Λ a0 p1 post K17 lx4 lx3 ((1 : Int32) <<< (lx4 &&& 31)) (mc - 1 - m7) (ms - 2 - m8) G9)))))
def hX0_laws_l17 (j : JX) (Λ : JLam) (a0 : Nat) (p1 : Int32) (post : Int32 → HG → Prop) : Nat → Int32 → Int32 → Nat → Nat → HG → Prop
  | 0 => fun _ _ _ _ _ => False
  | n + 1 => fun lx3 lx4 mc ms G => hX0_laws_b17 j Λ a0 p1 post (hX0_laws_l17 j Λ a0 p1 post n) lx3 lx4 mc ms G
def hX0_laws (j : JX) (Λ : JLam) (a0 : Nat) (p1 : Int32) (mc ms : Nat) (G : HG) (post : Int32 → HG → Prop) : Prop :=
  isO G a0 0 (hX0_whyNot j Λ a0 p1 G fun x2 G1 => (x2 = 0 → (∃ n, hX0_laws_l17 j Λ a0 p1 post n (0 : Int32) (0 : Int32) mc ms G1)) ∧ (¬ x2 = 0 → (post x2 G1)))
abbrev rhX0_laws (fr lo mc ms : Nat) : Room := { frames := fr + 4, cells := mc, slots := ms, locals := lo + 3244 }
theorem mhX0_laws (l : Launch) (Z : (Nat → Prop) → State → Heap → Prop) (D : va_G) (j : JX) (Λ : JLam) (fr lo : Nat) (E : JE l Z D j Λ fr lo) (a0 : Nat) (p1 : Int32) (mc ms : Nat) (G : HG) (post : Int32 → HG → Prop) (hf : hX0_laws j Λ a0 p1 mc ms G post) : HMi l yX0_laws (ws_ yX0_laws cX0_laws 5 (some .int)) (rhX0_laws fr lo mc ms) D jC (jty j.1) Z G [.ref a0, .int p1] post mc ms := by
  obtain ⟨MC, eMC⟩ : ∃ MC, MC = mc := ⟨_, rfl⟩
  obtain ⟨MS, eMS⟩ : ∃ MS, MS = ms := ⟨_, rfl⟩
  suffices goal : HMi l yX0_laws (ws_ yX0_laws cX0_laws 5 (some .int)) (rhX0_laws fr lo MC MS) D jC (jty j.1) Z G [.ref a0, .int p1] post MC MS by rw [eMC, eMS] at goal; exact goal
  have hm0_ : 0 + mc ≤ MC ∧ 0 + ms ≤ MS := by omega
  clear eMC eMS
  refine h_openi E.1 (by decide) (by exact Nat.le_of_ble_eq_true rfl) (fun p e s m args below meth c ls A0 Q X hI hnd hnm hl hret => ?_)
  have X : XC p s m args meth c cX0_laws 5 RX0 D jC (jty j.1) A0 Z := X
  have hx := X.1
  have hb := X.2.1
  have hown := X.2.2.2.1
  have hts := X.2.2.2.2.1
  have L17 : ∀ (n : Nat) (lx3 : Int32) (lx4 : Int32) (mc ms : Nat) (G : HG), hX0_laws_l17 j Λ a0 p1 post n lx3 lx4 mc ms G → ∀ (cells slots : Nat), cells + mc ≤ MC ∧ slots + ms ≤ MS → ∀ (H : Heap) (locs : List Loc), HI D jC G A0 s.heap H locs → ∀ (ls : Array Slot), lv_has ls 5 [(0, .ref a0), (1, .int p1), (3, .int lx3), (4, .int lx4)] → W p l e (rhX0_laws fr lo MC MS) s m args below meth c H locs cells slots Q (F0 m 17 ls []) := by
    intro n17
    induction n17 with
    | zero => intro lx3 lx4 mc ms G hf; exact hf.elim
    | succ n17 ih17 =>
      have J48 : ∀ (lx4 : Int32) (z0 : Int32) (z1 : Int32) (mc ms : Nat) (G : HG), hX0_laws_b48 j Λ a0 p1 post (hX0_laws_l17 j Λ a0 p1 post n17) lx4 z0 z1 mc ms G → ∀ (cells slots : Nat), cells + mc ≤ MC ∧ slots + ms ≤ MS → ∀ (H : Heap) (locs : List Loc), HI D jC G A0 s.heap H locs → ∀ (ls : Array Slot), lv_has ls 5 [(0, .ref a0), (1, .int p1), (4, .int lx4)] → W p l e (rhX0_laws fr lo MC MS) s m args below meth c H locs cells slots Q (F0 m 48 ls [.int z1, .int z0]) := by
        intro lx4 z0 z1 mc ms G hf cells slots hm H locs hI ls hl
        unfold hX0_laws_b48 at hf
        refine lv_ior hx hb dX0_laws_48 ?_
        refine lv_istore_n (lv' := [(3, .int (z0 ||| z1)), (0, .ref a0), (1, .int p1), (4, .int lx4)]) hx hb dX0_laws_49 rfl hl (by decide) rfl (fun ls hl => ?_)
        refine lv_iinc (v := lx4 + 1) (lv' := [(4, .int (lx4 + 1)), (3, .int (z0 ||| z1)), (0, .ref a0), (1, .int p1)]) hx hb dX0_laws_50 hl (k := 3) rfl rfl (by decide) rfl (fun ls hl => ?_)
        refine lv_goto (tgt := 17) hx hb dX0_laws_53 (by decide) ?_
        exact ih17 (z0 ||| z1) (lx4 + 1) mc ms G hf _ _ hm H locs hI ls (lv_sub hl [2, 3, 1, 0] rfl)
      intro lx3 lx4 mc ms G hf cells slots hm H locs hI ls hl
      have hf : hX0_laws_b17 j Λ a0 p1 post (hX0_laws_l17 j Λ a0 p1 post n17) lx3 lx4 mc ms G := hf
      unfold hX0_laws_b17 at hf
      refine lv_iload hx hb dX0_laws_17 (lv_at hl 3 rfl) ?_
      refine lv_iconst (v := 4) hx hb dX0_laws_19 (by decide) ?_
      refine lv_icmp_ge (tgt := 56) hx hb dX0_laws_20 (by decide) (fun c4 => ?_) (fun c4 => ?_)
      · have hf := hf.1 c4
        refine lv_iload_n hx hb dX0_laws_56 rfl (lv_at hl 2 rfl) ?_
        exact hret hf hI dX0_laws_57 (hmC hm.1) (hmC hm.2)
      · have hf := hf.2 c4
        refine lv_iload_n hx hb dX0_laws_23 rfl (lv_at hl 2 rfl) ?_
        refine lv_aload_n hx hb dX0_laws_24 rfl (lv_at hl 0 rfl) ?_
        refine lv_iload hx hb dX0_laws_25 (lv_at hl 3 rfl) ?_
        refine lv_aload_n hx hb dX0_laws_27 rfl (lv_at hl 0 rfl) ?_
        refine lv_iload_n hx hb dX0_laws_28 rfl (lv_at hl 1 rfl) ?_
        obtain ⟨hb1, hb2, hf⟩ := hf
        refine E.2.2.2.1 26 yX0_laws 29 467 a0 [p1] rfl (rest := [.int lx4, .ref a0, .int lx3]) X hI hnd hl.1 (Nat.le_of_ble_eq_true rfl) dX0_laws_29 (by show 3200 ≤ lo + 3244; omega) (hmA hm.1 hb1) (hmA hm.2 hb2) hf (fun a5 G6 H hf hI => ?_)
        have hm := And.intro (hmB hm.1 hb1) (hmB hm.2 hb2)
        clear hb1 hb2
        obtain ⟨_, _, hO, hf⟩ := hf
        obtain ⟨m7, m8, hb1, hb2, hf⟩ := hf
        refine h_ki X hI (h_runV (As := [.int lx4, .ref a5]) X hI (h_recv X hI hO (show jC.1[0]? = some (RX0, TX0, 20) from rfl)) (mhX0_byLaw l Z D j Λ fr lo E a0 lx4 a5 m7 m8 G6 _ hf H.size) (cwV 2 hts (lw_V q2410 q2412 qs75 q167 q2413) rfl rfl rfl (by decide +kernel) (by show fr + 2 + 1 ≤ fr + 4 ∧ 8 + (4 + 11) + (lo + 3221) ≤ lo + 3244; omega)) rfl hl.1 (Nat.le_of_ble_eq_true rfl) dX0_laws_34 ⟨hmA hm.1 hb1, hmA hm.2 hb2⟩ rfl) (fun x10 G9 H locs hf hI => ?_)
        have hm := And.intro (hmB hm.1 hb1) (hmB hm.2 hb2)
        clear hb1 hb2
        clear hO
        refine lv_if_le (tgt := 47) hx hb dX0_laws_37 (by decide) (fun c11 => ?_) (fun c11 => ?_)
        · have hf := hf.1 c11
          refine lv_iconst (v := 0) hx hb dX0_laws_47 (by decide) ?_
          exact J48 lx4 lx3 (0 : Int32) (mc - 1 - m7) (ms - 2 - m8) G9 hf _ _ hm H locs hI ls (lv_sub hl [0, 1, 3] rfl)
        · have hf := hf.2 c11
          refine lv_iconst (v := 1) hx hb dX0_laws_40 (by decide) ?_
          refine lv_iload hx hb dX0_laws_41 (lv_at hl 3 rfl) ?_
          refine lv_ishl hx hb dX0_laws_43 ?_
          refine lv_goto (tgt := 48) hx hb dX0_laws_44 (by decide) ?_
          exact J48 lx4 lx3 ((1 : Int32) <<< (lx4 &&& 31)) (mc - 1 - m7) (ms - 2 - m8) G9 hf _ _ hm H locs hI ls (lv_sub hl [0, 1, 3] rfl)
  have hl : lv_has ls 5 [(0, .ref a0), (1, .int p1)] := by exact hl
  unfold hX0_laws at hf
  obtain ⟨H, eH⟩ : ∃ H, H = s.heap := ⟨_, rfl⟩
  obtain ⟨locs, eL⟩ : ∃ locs : List Loc, locs = [] := ⟨_, rfl⟩
  have hI : HI D jC G A0 s.heap H locs := by rw [eH, eL]; exact hI
  rw [← eL]
  obtain ⟨cells, eC⟩ : ∃ n : Nat, n = 0 := ⟨_, rfl⟩
  obtain ⟨slots, eS⟩ : ∃ n : Nat, n = 0 := ⟨_, rfl⟩
  have hm : cells + mc ≤ MC ∧ slots + ms ≤ MS := by rw [eC, eS]; exact hm0_
  suffices h : W p l e (rhX0_laws fr lo MC MS) s m args below meth c H locs cells slots Q (F0 m 0 ls []) by rw [eH, eC, eS] at h; exact h
  clear eH eL eC eS
  refine lv_aload_n hx hb dX0_laws_0 rfl (lv_at hl 0 rfl) ?_
  refine lv_iload_n hx hb dX0_laws_1 rfl (lv_at hl 1 rfl) ?_
  obtain ⟨_, _, hO, hf⟩ := hf
  refine h_ki X hI (h_runV (As := [.int p1]) X hI (h_recv X hI hO (show jC.1[0]? = some (RX0, TX0, 20) from rfl)) (mhX0_whyNot l Z D j Λ fr lo E a0 p1 G _ hf H.size) (cwV 1 hts (lw_V q2379 q2381 qs71 q167 q2382) rfl rfl rfl (by decide +kernel) (by show fr + 3 + 1 ≤ fr + 4 ∧ 8 + (4 + 11) + (lo + 87) ≤ lo + 3244; omega)) rfl hl.1 (Nat.le_of_ble_eq_true rfl) dX0_laws_2 ⟨hm0 hm.1, hm0 hm.2⟩ rfl) (fun x2 G1 H locs hf hI => ?_)
  clear hO
  refine lv_istore_n (lv' := [(2, .int x2), (0, .ref a0), (1, .int p1)]) hx hb dX0_laws_5 rfl hl (by decide) rfl (fun ls hl => ?_)
  refine lv_iload_n hx hb dX0_laws_6 rfl (lv_at hl 0 rfl) ?_
  refine lv_if_eq (tgt := 12) hx hb dX0_laws_7 (by decide) (fun c3 => ?_) (fun c3 => ?_)
  · have hf := hf.1 c3
    refine lv_iconst (v := 0) hx hb dX0_laws_12 (by decide) ?_
    refine lv_istore_n (lv' := [(3, .int 0), (2, .int x2), (0, .ref a0), (1, .int p1)]) hx hb dX0_laws_13 rfl hl (by decide) rfl (fun ls hl => ?_)
    refine lv_iconst (v := 0) hx hb dX0_laws_14 (by decide) ?_
    refine lv_istore (lv' := [(4, .int 0), (3, .int 0), (2, .int x2), (0, .ref a0), (1, .int p1)]) hx hb dX0_laws_15 hl (by decide) rfl (fun ls hl => ?_)
    obtain ⟨n, hf⟩ := hf
    exact L17 n (0 : Int32) (0 : Int32) mc ms G1 hf _ _ hm H locs hI ls (lv_sub hl [3, 4, 1, 0] rfl)
  · have hf := hf.2 c3
    refine lv_iload_n hx hb dX0_laws_10 rfl (lv_at hl 0 rfl) ?_
    exact hret hf hI dX0_laws_11 (hmC hm.1) (hmC hm.2)
/-! MergeJudge.lambda$laws$18(I)I -/
def hX0_lambda_laws_18 (j : JX) (Λ : JLam) (a0 : Nat) (p1 : Int32) (G : HG) (post : Int32 → HG → Prop) : Prop :=
  gtQ G a0 0 0 fun q1 => nnq q1 fun a2 => ldQ (jty j.1) G a2 p1 fun q3 => nnq q3 fun a4 => isO G a0 0 (hX0_basesOf j Λ a0 a4 G fun x6 G5 => post x6 G5)
abbrev rhX0_lambda_laws_18 (fr lo : Nat) : Room := { frames := fr + 6, cells := 0, slots := 0, locals := lo + 156 }
theorem mhX0_lambda_laws_18 (l : Launch) (Z : (Nat → Prop) → State → Heap → Prop) (D : va_G) (j : JX) (Λ : JLam) (fr lo : Nat) (E : JE l Z D j Λ fr lo) (a0 : Nat) (p1 : Int32) (G : HG) (post : Int32 → HG → Prop) (hf : hX0_lambda_laws_18 j Λ a0 p1 G post) : HMi l yX0_lambda_laws_18 (ws_ yX0_lambda_laws_18 cX0_lambda_laws_18 2 (some .int)) (rhX0_lambda_laws_18 fr lo) D jC (jty j.1) Z G [.ref a0, .int p1] post 0 0 := by
  refine h_openi E.1 (by decide) (by exact Nat.le_of_ble_eq_true rfl) (fun p e s m args below meth c ls A0 Q X hI hnd hnm hl hret => ?_)
  have X : XC p s m args meth c cX0_lambda_laws_18 2 RX0 D jC (jty j.1) A0 Z := X
  have hx := X.1
  have hb := X.2.1
  have hown := X.2.2.2.1
  have hts := X.2.2.2.2.1
  have hl : lv_has ls 2 [(0, .ref a0), (1, .int p1)] := by exact hl
  unfold hX0_lambda_laws_18 at hf
  obtain ⟨H, eH⟩ : ∃ H, H = s.heap := ⟨_, rfl⟩
  obtain ⟨locs, eL⟩ : ∃ locs : List Loc, locs = [] := ⟨_, rfl⟩
  have hI : HI D jC G A0 s.heap H locs := by rw [eH, eL]; exact hI
  rw [← eL]
  suffices h : W p l e (rhX0_lambda_laws_18 fr lo) s m args below meth c H locs 0 0 Q (F0 m 0 ls []) by rw [eH] at h; exact h
  clear eH eL
  refine lv_aload_n hx hb dX0_lambda_laws_18_0 rfl (lv_at hl 0 rfl) ?_
  refine lv_aload_n hx hb dX0_lambda_laws_18_1 rfl (lv_at hl 0 rfl) ?_
  refine hr_gtQ X hI (rfl : jC.1[0]? = some (RX0, TX0, 20)) in_X0 0 (Nat.le_of_ble_eq_true rfl) hf q650 (fun _ h => h) dX0_lambda_laws_18_2 (fun q1 hf => ?_)
  refine lv_iload_n hx hb dX0_lambda_laws_18_5 rfl (lv_at hl 1 rfl) ?_
  obtain ⟨a2, ea2, hf⟩ := hf
  revert hl hf
  subst ea2
  intro hl hf
  have hl : lv_has ls 2 [(0, .ref a0), (1, .int p1)] := hl
  refine hr_qld X hI hf dX0_lambda_laws_18_6 (fun q3 hf => ?_)
  obtain ⟨a4, ea4, hf⟩ := hf
  revert hl hf
  subst ea4
  intro hl hf
  have hl : lv_has ls 2 [(0, .ref a0), (1, .int p1)] := hl
  obtain ⟨_, _, hO, hf⟩ := hf
  refine h_ki X hI (h_runV (As := [.ref a4]) X hI (h_recv X hI hO (show jC.1[0]? = some (RX0, TX0, 20) from rfl)) (mhX0_basesOf l Z D j Λ fr lo E a0 a4 G _ hf H.size) (cwV 1 hts (lw_V q2391 q2393 qs72 q167 q2394) rfl rfl rfl (by decide +kernel) (by show fr + 5 + 1 ≤ fr + 6 ∧ 8 + (4 + 11) + (lo + 133) ≤ lo + 156; omega)) rfl hl.1 (Nat.le_of_ble_eq_true rfl) dX0_lambda_laws_18_7 ⟨Nat.le_refl _, Nat.le_refl _⟩ rfl) (fun x6 G5 H locs hf hI => ?_)
  clear hO
  exact hret hf hI dX0_lambda_laws_18_10 (Nat.le_refl _) (Nat.le_refl _)
/-! MergeJudge.factorial(I)J -/
def hX0_factorial_f (j : JX) (Λ : JLam) : Nat → Int32 → HG → (Int64 → HG → Prop) → Prop
  | 0 => fun _ _ _ => False
  | n + 1 => fun p0 G post => ((2 : Int32) ≤ p0 → (hX0_factorial_f j Λ n (p0 - 1) G fun y3 G2 => post (p0.toInt64 * y3) G2)) ∧ (¬ (2 : Int32) ≤ p0 → (post (1 : Int64) G))
def hX0_factorial (j : JX) (Λ : JLam) (p0 : Int32) (G : HG) (post : Int64 → HG → Prop) : Prop := hX0_factorial_f j Λ 100 p0 G post
abbrev rhX0_factorial (fr lo : Nat) : Room := { frames := fr + 100 + 1, cells := 0, slots := 0, locals := lo + 100 * 64 + 40 }
theorem mhX0_factorial_f (l : Launch) (Z : (Nat → Prop) → State → Heap → Prop) (D : va_G) (j : JX) (Λ : JLam) (fr lo : Nat) (E : JE l Z D j Λ fr lo) (n : Nat) : ∀ (p0 : Int32) (G : HG) (post : Int64 → HG → Prop), hX0_factorial_f j Λ n p0 G post → HMl l yX0_factorial (ws_ yX0_factorial cX0_factorial 1 (some .long)) { frames := fr + n + 1, cells := 0, slots := 0, locals := lo + n * 64 + 40 } D jC (jty j.1) Z G [.int p0] post 0 0 := by
  induction n with
  | zero => intro p0 G post hf; exact hf.elim
  | succ n ih =>
    intro p0 G post hf
    refine h_openl E.1 (by decide) (by exact Nat.le_of_ble_eq_true rfl) (fun p e s m args below meth c ls A0 Q X hI hnd hnm hl hret => ?_)
    have X : XC p s m args meth c cX0_factorial 1 RX0 D jC (jty j.1) A0 Z := X
    have hx := X.1
    have hb := X.2.1
    have hown := X.2.2.2.1
    have hts := X.2.2.2.2.1
    have hl : lv_has ls 1 [(0, .int p0)] := hl
    unfold hX0_factorial_f at hf
    obtain ⟨H, eH⟩ : ∃ H, H = s.heap := ⟨_, rfl⟩
    obtain ⟨locs, eL⟩ : ∃ locs : List Loc, locs = [] := ⟨_, rfl⟩
    have hI : HI D jC G A0 s.heap H locs := by rw [eH, eL]; exact hI
    rw [← eL]
    suffices h : W p l e { frames := fr + (n + 1) + 1, cells := 0, slots := 0, locals := lo + (n + 1) * 64 + 40 } s m args below meth c H locs 0 0 Q (F0 m 0 ls []) by rw [eH] at h; exact h
    clear eH eL
    refine lv_iload_n hx hb dX0_factorial_0 rfl (lv_at hl 0 rfl) ?_
    refine lv_iconst (v := 2) hx hb dX0_factorial_1 (by decide) ?_
    refine lv_icmp_ge (tgt := 9) hx hb dX0_factorial_2 (by decide) (fun c1 => ?_) (fun c1 => ?_)
    · have hf := hf.1 c1
      refine lv_iload_n hx hb dX0_factorial_9 rfl (lv_at hl 0 rfl) ?_
      refine lv_i2l hx hb dX0_factorial_10 rfl ?_
      refine lv_iload_n hx hb dX0_factorial_11 rfl (lv_at hl 0 rfl) ?_
      refine lv_iconst (v := 1) hx hb dX0_factorial_12 (by decide) ?_
      refine lv_isub hx hb dX0_factorial_13 ?_
      refine h_kl X hI (h_runS (As := [.int (p0 - 1)]) X hI (ih (p0 - 1) G _ hf H.size) (va_cwS 1 hts (lw_S q2444 q2445 q167 q2446) rfl rfl rfl (by decide +kernel) (by show fr + n + 1 + 1 ≤ fr + (n + 1) + 1 ∧ 8 + (1 + 11) + (lo + n * 64 + 40) ≤ lo + (n + 1) * 64 + 40; omega)) rfl hl.1 (Nat.le_of_ble_eq_true rfl) dX0_factorial_14 ⟨Nat.le_refl _, Nat.le_refl _⟩ rfl) (fun y3 G2 H locs hf hI => ?_)
      refine lv_lmul hx hb dX0_factorial_17 ?_
      exact hret hf hI dX0_factorial_18 (Nat.le_refl _) (Nat.le_refl _)
    · have hf := hf.2 c1
      refine lv_lconst (v := 1) hx hb dX0_factorial_5 (by decide) ?_
      refine lv_goto (tgt := 18) hx hb dX0_factorial_6 (by decide) ?_
      exact hret hf hI dX0_factorial_18 (Nat.le_refl _) (Nat.le_refl _)
theorem mhX0_factorial (l : Launch) (Z : (Nat → Prop) → State → Heap → Prop) (D : va_G) (j : JX) (Λ : JLam) (fr lo : Nat) (E : JE l Z D j Λ fr lo) (p0 : Int32) (G : HG) (post : Int64 → HG → Prop) (hf : hX0_factorial j Λ p0 G post) : HMl l yX0_factorial (ws_ yX0_factorial cX0_factorial 1 (some .long)) (rhX0_factorial fr lo) D jC (jty j.1) Z G [.int p0] post 0 0 := mhX0_factorial_f l Z D j Λ fr lo E 100 p0 G post hf
/-! MergeJudge.common(JJ)J -/
def hX0_common_f (j : JX) (Λ : JLam) : Nat → Int64 → Int64 → HG → (Int64 → HG → Prop) → Prop
  | 0 => fun _ _ _ _ => False
  | n + 1 => fun p0 p2 G post => ((lg_cmp p2 (0 : Int64)) = 0 → (post (if 0 < p0 then p0 else -p0) G)) ∧ (¬ (lg_cmp p2 (0 : Int64)) = 0 → (¬ p2 = 0 ∧ hX0_common_f j Λ n p2 (p0 - p0 / p2 * p2) G fun y4 G3 => post y4 G3))
def hX0_common (j : JX) (Λ : JLam) (p0 : Int64) (p2 : Int64) (G : HG) (post : Int64 → HG → Prop) : Prop := hX0_common_f j Λ 100 p0 p2 G post
abbrev rhX0_common (fr lo : Nat) : Room := { frames := fr + 100 + 1, cells := 0, slots := 0, locals := lo + 100 * 64 + 40 }
theorem mhX0_common_f (l : Launch) (Z : (Nat → Prop) → State → Heap → Prop) (D : va_G) (j : JX) (Λ : JLam) (fr lo : Nat) (E : JE l Z D j Λ fr lo) (n : Nat) : ∀ (p0 : Int64) (p2 : Int64) (G : HG) (post : Int64 → HG → Prop), hX0_common_f j Λ n p0 p2 G post → HMl l yX0_common (ws_ yX0_common cX0_common 4 (some .long)) { frames := fr + n + 1, cells := 0, slots := 0, locals := lo + n * 64 + 40 } D jC (jty j.1) Z G [.long p0, .long p2] post 0 0 := by
  induction n with
  | zero => intro p0 p2 G post hf; exact hf.elim
  | succ n ih =>
    intro p0 p2 G post hf
    refine h_openl E.1 (by decide) (by exact Nat.le_of_ble_eq_true rfl) (fun p e s m args below meth c ls A0 Q X hI hnd hnm hl hret => ?_)
    have X : XC p s m args meth c cX0_common 4 RX0 D jC (jty j.1) A0 Z := X
    have hx := X.1
    have hb := X.2.1
    have hown := X.2.2.2.1
    have hts := X.2.2.2.2.1
    have hl : lv_has ls 4 [(0, .long p0), (2, .long p2)] := hl
    unfold hX0_common_f at hf
    obtain ⟨H, eH⟩ : ∃ H, H = s.heap := ⟨_, rfl⟩
    obtain ⟨locs, eL⟩ : ∃ locs : List Loc, locs = [] := ⟨_, rfl⟩
    have hI : HI D jC G A0 s.heap H locs := by rw [eH, eL]; exact hI
    rw [← eL]
    suffices h : W p l e { frames := fr + (n + 1) + 1, cells := 0, slots := 0, locals := lo + (n + 1) * 64 + 40 } s m args below meth c H locs 0 0 Q (F0 m 0 ls []) by rw [eH] at h; exact h
    clear eH eL
    refine lv_lload_n hx hb dX0_common_0 rfl (lv_at hl 1 rfl) ?_
    refine lv_lconst (v := 0) hx hb dX0_common_1 (by decide) ?_
    refine W.lcmp hx hb dX0_common_2 ?_
    refine lv_if_ne (tgt := 13) hx hb dX0_common_3 (by decide) (fun c1 => ?_) (fun c1 => ?_)
    · have hf := hf.2 c1
      refine lv_lload_n hx hb dX0_common_13 rfl (lv_at hl 1 rfl) ?_
      refine lv_lload_n hx hb dX0_common_14 rfl (lv_at hl 0 rfl) ?_
      refine lv_lload_n hx hb dX0_common_15 rfl (lv_at hl 1 rfl) ?_
      obtain ⟨g2, hf⟩ := hf
      refine lv_lrem hx hb dX0_common_16 g2 ?_
      refine h_kl X hI (h_runS (As := [.long p2, .long (p0 - p0 / p2 * p2)]) X hI (ih p2 (p0 - p0 / p2 * p2) G _ hf H.size) (va_cwS 2 hts (lw_S q2451 q2452 q167 q2453) rfl rfl rfl (by decide +kernel) (by show fr + n + 1 + 1 ≤ fr + (n + 1) + 1 ∧ 8 + (4 + 11) + (lo + n * 64 + 40) ≤ lo + (n + 1) * 64 + 40; omega)) rfl hl.1 (Nat.le_of_ble_eq_true rfl) dX0_common_17 ⟨Nat.le_refl _, Nat.le_refl _⟩ rfl) (fun y4 G3 H locs hf hI => ?_)
      exact hret hf hI dX0_common_20 (Nat.le_refl _) (Nat.le_refl _)
    · have hf := hf.1 c1
      refine lv_lload_n hx hb dX0_common_6 rfl (lv_at hl 0 rfl) ?_
      refine x_mabsl X hl.1 q2454 q2455 q173 q2456 (by show 1 ≤ fr + (n + 1) + 1 ∧ 21 ≤ lo + (n + 1) * 64 + 40; omega) (Nat.le_of_ble_eq_true rfl) ⟨Nat.le_refl _, Nat.le_refl _⟩ dX0_common_7 ?_
      refine lv_goto (tgt := 20) hx hb dX0_common_10 (by decide) ?_
      exact hret hf hI dX0_common_20 (Nat.le_refl _) (Nat.le_refl _)
theorem mhX0_common (l : Launch) (Z : (Nat → Prop) → State → Heap → Prop) (D : va_G) (j : JX) (Λ : JLam) (fr lo : Nat) (E : JE l Z D j Λ fr lo) (p0 : Int64) (p2 : Int64) (G : HG) (post : Int64 → HG → Prop) (hf : hX0_common j Λ p0 p2 G post) : HMl l yX0_common (ws_ yX0_common cX0_common 4 (some .long)) (rhX0_common fr lo) D jC (jty j.1) Z G [.long p0, .long p2] post 0 0 := mhX0_common_f l Z D j Λ fr lo E 100 p0 p2 G post hf
/-! MergeJudge.part(JJI)J -/
def hX0_part_b10 (j : JX) (Λ : JLam) (p0 : Int64) (p2 : Int64) (p4 : Int32) (post : Int64 → HG → Prop) (z0 : Int64) (G : HG) : Prop :=
  hX0_common j Λ p0 p2 G fun y3 G2 => ¬ y3 = 0 ∧ post (z0 / y3) G2
def hX0_part (j : JX) (Λ : JLam) (p0 : Int64) (p2 : Int64) (p4 : Int32) (G : HG) (post : Int64 → HG → Prop) : Prop :=
  (p4 = 0 → (hX0_part_b10 j Λ p0 p2 p4 post p0 G)) ∧ (¬ p4 = 0 → (hX0_part_b10 j Λ p0 p2 p4 post p2 G))
abbrev rhX0_part (fr lo : Nat) : Room := { frames := fr + 102, cells := 0, slots := 0, locals := lo + 6463 }
theorem mhX0_part (l : Launch) (Z : (Nat → Prop) → State → Heap → Prop) (D : va_G) (j : JX) (Λ : JLam) (fr lo : Nat) (E : JE l Z D j Λ fr lo) (p0 : Int64) (p2 : Int64) (p4 : Int32) (G : HG) (post : Int64 → HG → Prop) (hf : hX0_part j Λ p0 p2 p4 G post) : HMl l yX0_part (ws_ yX0_part cX0_part 5 (some .long)) (rhX0_part fr lo) D jC (jty j.1) Z G [.long p0, .long p2, .int p4] post 0 0 := by
  refine h_openl E.1 (by decide) (by exact Nat.le_of_ble_eq_true rfl) (fun p e s m args below meth c ls A0 Q X hI hnd hnm hl hret => ?_)
  have X : XC p s m args meth c cX0_part 5 RX0 D jC (jty j.1) A0 Z := X
  have hx := X.1
  have hb := X.2.1
  have hown := X.2.2.2.1
  have hts := X.2.2.2.2.1
  have J10 : ∀ (z0 : Int64) (G : HG), hX0_part_b10 j Λ p0 p2 p4 post z0 G → ∀ (H : Heap) (locs : List Loc), HI D jC G A0 s.heap H locs → ∀ (ls : Array Slot), lv_has ls 5 [(0, .long p0), (2, .long p2)] → W p l e (rhX0_part fr lo) s m args below meth c H locs 0 0 Q (F0 m 10 ls [.long z0]) := by
    intro z0 G hf H locs hI ls hl
    unfold hX0_part_b10 at hf
    refine lv_lload_n hx hb dX0_part_10 rfl (lv_at hl 0 rfl) ?_
    refine lv_lload_n hx hb dX0_part_11 rfl (lv_at hl 1 rfl) ?_
    refine h_kl X hI (h_runS (As := [.long p0, .long p2]) X hI (mhX0_common l Z D j Λ fr lo E p0 p2 G _ hf H.size) (va_cwS 2 hts (lw_S q2451 q2452 q167 q2453) rfl rfl rfl (by decide +kernel) (by show fr + 101 + 1 ≤ fr + 102 ∧ 8 + (4 + 11) + (lo + 6440) ≤ lo + 6463; omega)) rfl hl.1 (Nat.le_of_ble_eq_true rfl) dX0_part_12 ⟨Nat.le_refl _, Nat.le_refl _⟩ rfl) (fun y3 G2 H locs hf hI => ?_)
    obtain ⟨g4, hf⟩ := hf
    refine lv_ldiv hx hb dX0_part_15 g4 ?_
    exact hret hf hI dX0_part_16 (Nat.le_refl _) (Nat.le_refl _)
  have hl : lv_has ls 5 [(0, .long p0), (2, .long p2), (4, .int p4)] := by exact hl
  unfold hX0_part at hf
  obtain ⟨H, eH⟩ : ∃ H, H = s.heap := ⟨_, rfl⟩
  obtain ⟨locs, eL⟩ : ∃ locs : List Loc, locs = [] := ⟨_, rfl⟩
  have hI : HI D jC G A0 s.heap H locs := by rw [eH, eL]; exact hI
  rw [← eL]
  suffices h : W p l e (rhX0_part fr lo) s m args below meth c H locs 0 0 Q (F0 m 0 ls []) by rw [eH] at h; exact h
  clear eH eL
  refine lv_iload hx hb dX0_part_0 (lv_at hl 2 rfl) ?_
  refine lv_if_ne (tgt := 9) hx hb dX0_part_2 (by decide) (fun c1 => ?_) (fun c1 => ?_)
  · have hf := hf.2 c1
    refine lv_lload_n hx hb dX0_part_9 rfl (lv_at hl 1 rfl) ?_
    exact J10 p2 G hf H locs hI ls (lv_sub hl [0, 1] rfl)
  · have hf := hf.1 c1
    refine lv_lload_n hx hb dX0_part_5 rfl (lv_at hl 0 rfl) ?_
    refine lv_goto (tgt := 10) hx hb dX0_part_6 (by decide) ?_
    exact J10 p0 G hf H locs hI ls (lv_sub hl [0, 1] rfl)
/-! MergeJudge.share(II)I -/
def hX0_share_b105 (j : JX) (Λ : JLam) (a0 : Nat) (p1 : Int32) (p2 : Int32) (post : Int32 → HG → Prop) (K38 : Int32 → Int64 → Int32 → Nat → Nat → HG → Prop) (lx3 : Int32) (ly4 : Int64) (lx6 : Int32) (mc ms : Nat) (G : HG) : Prop :=
  K38 lx3 ly4 (lx6 + 1) mc ms G
def hX0_share_b38 (j : JX) (Λ : JLam) (a0 : Nat) (p1 : Int32) (p2 : Int32) (post : Int32 → HG → Prop) (K38 : Int32 → Int64 → Int32 → Nat → Nat → HG → Prop) (lx3 : Int32) (ly4 : Int64) (lx6 : Int32) (mc ms : Nat) (G : HG) : Prop :=
  isO G a0 0 (hX0_every j Λ a0 G fun x14 G13 => (x14 < lx6 → (hX0_factorial j Λ lx3 G13 fun y17 G16 => hX0_part j Λ ly4 y17 p2 G16 fun y19 G18 => post y19.toInt32 G18)) ∧ (¬ x14 < lx6 → (hX0_isOn j Λ lx6 p1 G13 fun x21 G20 => (x21 = 0 → (hX0_size j Λ lx6 G20 fun x24 G23 => hX0_factorial j Λ x24 G23 fun y26 G25 => hX0_factorial j Λ ((lx3 - x24) - 1) G25 fun y28 G27 => isO G27 a0 0 (∃ m29 m30 : Nat, m29 ≤ mc ∧ m30 ≤ ms ∧ hX0_worth j Λ a0 (lx6 ||| ((1 : Int32) <<< (p1 &&& 31))) m29 m30 G27 fun x32 G31 => isO G31 a0 0 (∃ m33 m34 : Nat, m33 ≤ mc - m29 ∧ m34 ≤ ms - m30 ∧ hX0_worth j Λ a0 lx6 m33 m34 G31 fun x36 G35 => ∀ v37 : Int64, v37 = (ly4 + ((y26 * y28) * ((x32 - x36).toInt64))) → hX0_share_b105 j Λ a0 p1 p2 post K38 lx3 v37 lx6 (mc - m29 - m33) (ms - m30 - m34) G35)))) ∧ (¬ x21 = 0 → (hX0_share_b105 j Λ a0 p1 p2 post K38 lx3 ly4 lx6 mc ms G20)))))
def hX0_share_l38 (j : JX) (Λ : JLam) (a0 : Nat) (p1 : Int32) (p2 : Int32) (post : Int32 → HG → Prop) : Nat → Int32 → Int64 → Int32 → Nat → Nat → HG → Prop
  | 0 => fun _ _ _ _ _ _ => False
  | n + 1 => fun lx3 ly4 lx6 mc ms G => hX0_share_b38 j Λ a0 p1 p2 post (hX0_share_l38 j Λ a0 p1 p2 post n) lx3 ly4 lx6 mc ms G
def hX0_share (j : JX) (Λ : JLam) (a0 : Nat) (p1 : Int32) (p2 : Int32) (mc ms : Nat) (G : HG) (post : Int32 → HG → Prop) : Prop :=
  isO G a0 0 (hX0_isRule j Λ a0 p1 G fun x2 G1 => (x2 = 0 → (post ((-1000000) : Int32) G1)) ∧ (¬ x2 = 0 → (hX0_isBit j Λ p2 G1 fun x5 G4 => (x5 = 0 → (post ((-1000000) : Int32) G4)) ∧ (¬ x5 = 0 → (gtQ G4 a0 0 1 fun q7 => nnq q7 fun a8 => gtQ G4 a8 2 0 fun q9 => nnq q9 fun a10 => isO G4 a10 15 (hJ2_size j Λ a10 G4 fun x12 G11 => ∃ n, hX0_share_l38 j Λ a0 p1 p2 post n x12 (0 : Int64) (0 : Int32) mc ms G11))))))
abbrev rhX0_share (fr lo mc ms : Nat) : Room := { frames := fr + 103, cells := mc, slots := ms, locals := lo + 6487 }
theorem mhX0_share (l : Launch) (Z : (Nat → Prop) → State → Heap → Prop) (D : va_G) (j : JX) (Λ : JLam) (fr lo : Nat) (E : JE l Z D j Λ fr lo) (a0 : Nat) (p1 : Int32) (p2 : Int32) (mc ms : Nat) (G : HG) (post : Int32 → HG → Prop) (hf : hX0_share j Λ a0 p1 p2 mc ms G post) : HMi l yX0_share (ws_ yX0_share cX0_share 8 (some .int)) (rhX0_share fr lo mc ms) D jC (jty j.1) Z G [.ref a0, .int p1, .int p2] post mc ms := by
  obtain ⟨MC, eMC⟩ : ∃ MC, MC = mc := ⟨_, rfl⟩
  obtain ⟨MS, eMS⟩ : ∃ MS, MS = ms := ⟨_, rfl⟩
  suffices goal : HMi l yX0_share (ws_ yX0_share cX0_share 8 (some .int)) (rhX0_share fr lo MC MS) D jC (jty j.1) Z G [.ref a0, .int p1, .int p2] post MC MS by rw [eMC, eMS] at goal; exact goal
  have hm0_ : 0 + mc ≤ MC ∧ 0 + ms ≤ MS := by omega
  clear eMC eMS
  refine h_openi E.1 (by decide) (by exact Nat.le_of_ble_eq_true rfl) (fun p e s m args below meth c ls A0 Q X hI hnd hnm hl hret => ?_)
  have X : XC p s m args meth c cX0_share 8 RX0 D jC (jty j.1) A0 Z := X
  have hx := X.1
  have hb := X.2.1
  have hown := X.2.2.2.1
  have hts := X.2.2.2.2.1
  have L38 : ∀ (n : Nat) (lx3 : Int32) (ly4 : Int64) (lx6 : Int32) (mc ms : Nat) (G : HG), hX0_share_l38 j Λ a0 p1 p2 post n lx3 ly4 lx6 mc ms G → ∀ (cells slots : Nat), cells + mc ≤ MC ∧ slots + ms ≤ MS → ∀ (H : Heap) (locs : List Loc), HI D jC G A0 s.heap H locs → ∀ (ls : Array Slot), lv_has ls 8 [(0, .ref a0), (1, .int p1), (2, .int p2), (3, .int lx3), (4, .long ly4), (6, .int lx6)] → W p l e (rhX0_share fr lo MC MS) s m args below meth c H locs cells slots Q (F0 m 38 ls []) := by
    intro n38
    induction n38 with
    | zero => intro lx3 ly4 lx6 mc ms G hf; exact hf.elim
    | succ n38 ih38 =>
      have J105 : ∀ (lx3 : Int32) (ly4 : Int64) (lx6 : Int32) (mc ms : Nat) (G : HG), hX0_share_b105 j Λ a0 p1 p2 post (hX0_share_l38 j Λ a0 p1 p2 post n38) lx3 ly4 lx6 mc ms G → ∀ (cells slots : Nat), cells + mc ≤ MC ∧ slots + ms ≤ MS → ∀ (H : Heap) (locs : List Loc), HI D jC G A0 s.heap H locs → ∀ (ls : Array Slot), lv_has ls 8 [(0, .ref a0), (1, .int p1), (2, .int p2), (3, .int lx3), (4, .long ly4), (6, .int lx6)] → W p l e (rhX0_share fr lo MC MS) s m args below meth c H locs cells slots Q (F0 m 105 ls []) := by
        intro lx3 ly4 lx6 mc ms G hf cells slots hm H locs hI ls hl
        unfold hX0_share_b105 at hf
        refine lv_iinc (v := lx6 + 1) (lv' := [(6, .int (lx6 + 1)), (0, .ref a0), (1, .int p1), (2, .int p2), (3, .int lx3), (4, .long ly4)]) hx hb dX0_share_105 hl (k := 5) rfl rfl (by decide) rfl (fun ls hl => ?_)
        refine lv_goto (tgt := 38) hx hb dX0_share_108 (by decide) ?_
        exact ih38 lx3 ly4 (lx6 + 1) mc ms G hf _ _ hm H locs hI ls (lv_sub hl [1, 2, 3, 4, 5, 0] rfl)
      intro lx3 ly4 lx6 mc ms G hf cells slots hm H locs hI ls hl
      have hf : hX0_share_b38 j Λ a0 p1 p2 post (hX0_share_l38 j Λ a0 p1 p2 post n38) lx3 ly4 lx6 mc ms G := hf
      unfold hX0_share_b38 at hf
      refine lv_iload hx hb dX0_share_38 (lv_at hl 5 rfl) ?_
      refine lv_aload_n hx hb dX0_share_40 rfl (lv_at hl 0 rfl) ?_
      obtain ⟨_, _, hO, hf⟩ := hf
      refine h_ki X hI (h_runV (As := []) X hI (h_recv X hI hO (show jC.1[0]? = some (RX0, TX0, 20) from rfl)) (mhX0_every l Z D j Λ fr lo E a0 G _ hf H.size) (cwV 0 hts (lw_V q2072 q2074 qs54 q167 q2075) rfl rfl rfl (by decide +kernel) (by show fr + 2 + 1 ≤ fr + 103 ∧ 8 + (1 + 11) + (lo + 60) ≤ lo + 6487; omega)) rfl hl.1 (Nat.le_of_ble_eq_true rfl) dX0_share_41 ⟨hm0 hm.1, hm0 hm.2⟩ rfl) (fun x14 G13 H locs hf hI => ?_)
      clear hO
      refine lv_icmp_gt (tgt := 111) hx hb dX0_share_44 (by decide) (fun c15 => ?_) (fun c15 => ?_)
      · have hf := hf.1 c15
        refine lv_lload hx hb dX0_share_111 (lv_at hl 4 rfl) ?_
        refine lv_iload_n hx hb dX0_share_113 rfl (lv_at hl 3 rfl) ?_
        refine h_kl X hI (h_runS (As := [.int lx3]) X hI (mhX0_factorial l Z D j Λ fr lo E lx3 G13 _ hf H.size) (va_cwS 1 hts (lw_S q2444 q2445 q167 q2446) rfl rfl rfl (by decide +kernel) (by show fr + 101 + 1 ≤ fr + 103 ∧ 8 + (1 + 11) + (lo + 6440) ≤ lo + 6487; omega)) rfl hl.1 (Nat.le_of_ble_eq_true rfl) dX0_share_114 ⟨hm0 hm.1, hm0 hm.2⟩ rfl) (fun y17 G16 H locs hf hI => ?_)
        refine lv_iload_n hx hb dX0_share_117 rfl (lv_at hl 2 rfl) ?_
        refine h_kl X hI (h_runS (As := [.long ly4, .long y17, .int p2]) X hI (mhX0_part l Z D j Λ fr lo E ly4 y17 p2 G16 _ hf H.size) (va_cwS 3 hts (lw_S q2448 q2449 q167 q2450) rfl rfl rfl (by decide +kernel) (by show fr + 102 + 1 ≤ fr + 103 ∧ 8 + (5 + 11) + (lo + 6463) ≤ lo + 6487; omega)) rfl hl.1 (Nat.le_of_ble_eq_true rfl) dX0_share_118 ⟨hm0 hm.1, hm0 hm.2⟩ rfl) (fun y19 G18 H locs hf hI => ?_)
        refine lv_l2i hx hb dX0_share_121 rfl ?_
        exact hret hf hI dX0_share_122 (hmC hm.1) (hmC hm.2)
      · have hf := hf.2 c15
        refine lv_iload hx hb dX0_share_47 (lv_at hl 5 rfl) ?_
        refine lv_iload_n hx hb dX0_share_49 rfl (lv_at hl 1 rfl) ?_
        refine h_ki X hI (h_runS (As := [.int lx6, .int p1]) X hI (mhX0_isOn l Z D j Λ fr lo E lx6 p1 G13 _ hf H.size) (va_cwS 2 hts (lw_S q1953 q1954 q167 q1955) rfl rfl rfl (by decide +kernel) (by show fr + 1 + 1 ≤ fr + 103 ∧ 8 + (2 + 11) + (lo + 40) ≤ lo + 6487; omega)) rfl hl.1 (Nat.le_of_ble_eq_true rfl) dX0_share_50 ⟨hm0 hm.1, hm0 hm.2⟩ rfl) (fun x21 G20 H locs hf hI => ?_)
        refine lv_if_eq (tgt := 59) hx hb dX0_share_53 (by decide) (fun c22 => ?_) (fun c22 => ?_)
        · have hf := hf.1 c22
          refine lv_iload hx hb dX0_share_59 (lv_at hl 5 rfl) ?_
          refine h_ki X hI (h_runS (As := [.int lx6]) X hI (mhX0_size l Z D j Λ fr lo E lx6 G20 _ hf H.size) (va_cwS 1 hts (lw_S q2355 q2347 q167 q2348) rfl rfl rfl (by decide +kernel) (by show fr + 2 + 1 ≤ fr + 103 ∧ 8 + (1 + 11) + (lo + 60) ≤ lo + 6487; omega)) rfl hl.1 (Nat.le_of_ble_eq_true rfl) dX0_share_61 ⟨hm0 hm.1, hm0 hm.2⟩ rfl) (fun x24 G23 H locs hf hI => ?_)
          refine lv_istore (lv' := [(7, .int x24), (0, .ref a0), (1, .int p1), (2, .int p2), (3, .int lx3), (4, .long ly4), (6, .int lx6)]) hx hb dX0_share_64 hl (by decide) rfl (fun ls hl => ?_)
          refine lv_lload hx hb dX0_share_66 (lv_at hl 5 rfl) ?_
          refine lv_iload hx hb dX0_share_68 (lv_at hl 0 rfl) ?_
          refine h_kl X hI (h_runS (As := [.int x24]) X hI (mhX0_factorial l Z D j Λ fr lo E x24 G23 _ hf H.size) (va_cwS 1 hts (lw_S q2444 q2445 q167 q2446) rfl rfl rfl (by decide +kernel) (by show fr + 101 + 1 ≤ fr + 103 ∧ 8 + (1 + 11) + (lo + 6440) ≤ lo + 6487; omega)) rfl hl.1 (Nat.le_of_ble_eq_true rfl) dX0_share_70 ⟨hm0 hm.1, hm0 hm.2⟩ rfl) (fun y26 G25 H locs hf hI => ?_)
          refine lv_iload_n hx hb dX0_share_73 rfl (lv_at hl 4 rfl) ?_
          refine lv_iload hx hb dX0_share_74 (lv_at hl 0 rfl) ?_
          refine lv_isub hx hb dX0_share_76 ?_
          refine lv_iconst (v := 1) hx hb dX0_share_77 (by decide) ?_
          refine lv_isub hx hb dX0_share_78 ?_
          refine h_kl X hI (h_runS (As := [.int ((lx3 - x24) - 1)]) X hI (mhX0_factorial l Z D j Λ fr lo E ((lx3 - x24) - 1) G25 _ hf H.size) (va_cwS 1 hts (lw_S q2444 q2445 q167 q2446) rfl rfl rfl (by decide +kernel) (by show fr + 101 + 1 ≤ fr + 103 ∧ 8 + (1 + 11) + (lo + 6440) ≤ lo + 6487; omega)) rfl hl.1 (Nat.le_of_ble_eq_true rfl) dX0_share_79 ⟨hm0 hm.1, hm0 hm.2⟩ rfl) (fun y28 G27 H locs hf hI => ?_)
          refine lv_lmul hx hb dX0_share_82 ?_
          refine lv_aload_n hx hb dX0_share_83 rfl (lv_at hl 1 rfl) ?_
          refine lv_iload hx hb dX0_share_84 (lv_at hl 6 rfl) ?_
          refine lv_iconst (v := 1) hx hb dX0_share_86 (by decide) ?_
          refine lv_iload_n hx hb dX0_share_87 rfl (lv_at hl 2 rfl) ?_
          refine lv_ishl hx hb dX0_share_88 ?_
          refine lv_ior hx hb dX0_share_89 ?_
          obtain ⟨_, _, hO, hf⟩ := hf
          obtain ⟨m29, m30, hb1, hb2, hf⟩ := hf
          refine h_ki X hI (h_runV (As := [.int (lx6 ||| ((1 : Int32) <<< (p1 &&& 31)))]) X hI (h_recv X hI hO (show jC.1[0]? = some (RX0, TX0, 20) from rfl)) (mhX0_worth l Z D j Λ fr lo E a0 (lx6 ||| ((1 : Int32) <<< (p1 &&& 31))) m29 m30 G27 _ hf H.size) (cwV 1 hts (lw_V q2447 q2430 q2431 q167 q2432) rfl rfl rfl (by decide +kernel) (by show fr + 5 + 1 ≤ fr + 103 ∧ 8 + (2 + 11) + (lo + 3200) ≤ lo + 6487; omega)) rfl hl.1 (Nat.le_of_ble_eq_true rfl) dX0_share_90 ⟨hmA hm.1 hb1, hmA hm.2 hb2⟩ rfl) (fun x32 G31 H locs hf hI => ?_)
          have hm := And.intro (hmB hm.1 hb1) (hmB hm.2 hb2)
          clear hb1 hb2
          clear hO
          refine lv_aload_n hx hb dX0_share_93 rfl (lv_at hl 1 rfl) ?_
          refine lv_iload hx hb dX0_share_94 (lv_at hl 6 rfl) ?_
          obtain ⟨_, _, hO, hf⟩ := hf
          obtain ⟨m33, m34, hb1, hb2, hf⟩ := hf
          refine h_ki X hI (h_runV (As := [.int lx6]) X hI (h_recv X hI hO (show jC.1[0]? = some (RX0, TX0, 20) from rfl)) (mhX0_worth l Z D j Λ fr lo E a0 lx6 m33 m34 G31 _ hf H.size) (cwV 1 hts (lw_V q2447 q2430 q2431 q167 q2432) rfl rfl rfl (by decide +kernel) (by show fr + 5 + 1 ≤ fr + 103 ∧ 8 + (2 + 11) + (lo + 3200) ≤ lo + 6487; omega)) rfl hl.1 (Nat.le_of_ble_eq_true rfl) dX0_share_96 ⟨hmA hm.1 hb1, hmA hm.2 hb2⟩ rfl) (fun x36 G35 H locs hf hI => ?_)
          have hm := And.intro (hmB hm.1 hb1) (hmB hm.2 hb2)
          clear hb1 hb2
          clear hO
          refine lv_isub hx hb dX0_share_99 ?_
          refine lv_i2l hx hb dX0_share_100 rfl ?_
          refine lv_lmul hx hb dX0_share_101 ?_
          refine lv_ladd hx hb dX0_share_102 ?_
          obtain ⟨v37, ev37⟩ : ∃ v37, v37 = (ly4 + ((y26 * y28) * ((x32 - x36).toInt64))) := ⟨_, rfl⟩
          have hf := hf v37 ev37
          rw [← ev37]
          clear ev37
          refine lv_lstore (lv' := [(4, .long v37), (7, .int x24), (0, .ref a0), (1, .int p1), (2, .int p2), (3, .int lx3), (6, .int lx6)]) hx hb dX0_share_103 hl (by decide) rfl (fun ls hl => ?_)
          exact J105 lx3 v37 lx6 (mc - m29 - m33) (ms - m30 - m34) G35 hf _ _ hm H locs hI ls (lv_sub hl [2, 3, 4, 5, 0, 6] rfl)
        · have hf := hf.2 c22
          refine lv_goto (tgt := 105) hx hb dX0_share_56 (by decide) ?_
          exact J105 lx3 ly4 lx6 mc ms G20 hf _ _ hm H locs hI ls (lv_sub hl [0, 1, 2, 3, 4, 5] rfl)
  have hl : lv_has ls 8 [(0, .ref a0), (1, .int p1), (2, .int p2)] := by exact hl
  unfold hX0_share at hf
  obtain ⟨H, eH⟩ : ∃ H, H = s.heap := ⟨_, rfl⟩
  obtain ⟨locs, eL⟩ : ∃ locs : List Loc, locs = [] := ⟨_, rfl⟩
  have hI : HI D jC G A0 s.heap H locs := by rw [eH, eL]; exact hI
  rw [← eL]
  obtain ⟨cells, eC⟩ : ∃ n : Nat, n = 0 := ⟨_, rfl⟩
  obtain ⟨slots, eS⟩ : ∃ n : Nat, n = 0 := ⟨_, rfl⟩
  have hm : cells + mc ≤ MC ∧ slots + ms ≤ MS := by rw [eC, eS]; exact hm0_
  suffices h : W p l e (rhX0_share fr lo MC MS) s m args below meth c H locs cells slots Q (F0 m 0 ls []) by rw [eH, eC, eS] at h; exact h
  clear eH eL eC eS
  refine lv_aload_n hx hb dX0_share_0 rfl (lv_at hl 0 rfl) ?_
  refine lv_iload_n hx hb dX0_share_1 rfl (lv_at hl 1 rfl) ?_
  obtain ⟨_, _, hO, hf⟩ := hf
  refine h_ki X hI (h_runV (As := [.int p1]) X hI (h_recv X hI hO (show jC.1[0]? = some (RX0, TX0, 20) from rfl)) (mhX0_isRule l Z D j Λ fr lo E a0 p1 G _ hf H.size) (cwV 1 hts (lw_V q2068 q2070 qs53 q167 q2071) rfl rfl rfl (by decide +kernel) (by show fr + 2 + 1 ≤ fr + 103 ∧ 8 + (2 + 11) + (lo + 65) ≤ lo + 6487; omega)) rfl hl.1 (Nat.le_of_ble_eq_true rfl) dX0_share_2 ⟨hm0 hm.1, hm0 hm.2⟩ rfl) (fun x2 G1 H locs hf hI => ?_)
  clear hO
  refine lv_if_eq (tgt := 15) hx hb dX0_share_5 (by decide) (fun c3 => ?_) (fun c3 => ?_)
  · have hf := hf.1 c3
    refine lv_ldcw (v := -1000000) hx hb hown (hts _ q2443) dX0_share_15 ?_
    exact hret hf hI dX0_share_18 (hmC hm.1) (hmC hm.2)
  · have hf := hf.2 c3
    refine lv_iload_n hx hb dX0_share_8 rfl (lv_at hl 2 rfl) ?_
    refine h_ki X hI (h_runS (As := [.int p2]) X hI (mhX0_isBit l Z D j Λ fr lo E p2 G1 _ hf H.size) (va_cwS 1 hts (lw_S q2440 q2441 q167 q2442) rfl rfl rfl (by decide +kernel) (by show fr + 2 + 1 ≤ fr + 103 ∧ 8 + (1 + 11) + (lo + 65) ≤ lo + 6487; omega)) rfl hl.1 (Nat.le_of_ble_eq_true rfl) dX0_share_9 ⟨hm0 hm.1, hm0 hm.2⟩ rfl) (fun x5 G4 H locs hf hI => ?_)
    refine lv_if_ne (tgt := 19) hx hb dX0_share_12 (by decide) (fun c6 => ?_) (fun c6 => ?_)
    · have hf := hf.2 c6
      refine lv_aload_n hx hb dX0_share_19 rfl (lv_at hl 0 rfl) ?_
      refine hr_gtQ X hI (rfl : jC.1[0]? = some (RX0, TX0, 20)) in_X0 1 (Nat.le_of_ble_eq_true rfl) hf q653 (fun _ h => h) dX0_share_20 (fun q7 hf => ?_)
      obtain ⟨a8, ea8, hf⟩ := hf
      revert hl hf
      subst ea8
      intro hl hf
      have hl : lv_has ls 8 [(0, .ref a0), (1, .int p1), (2, .int p2)] := hl
      refine hr_gtQN X hI (rfl : jC.1[2]? = some (RX2, TX2, 11)) in_X2 0 (Nat.le_of_ble_eq_true rfl) hf (E.nw X q478 rfl) (fun _ h => h) dX0_share_23 (fun q9 hf => ?_)
      obtain ⟨a10, ea10, hf⟩ := hf
      revert hl hf
      subst ea10
      intro hl hf
      have hl : lv_has ls 8 [(0, .ref a0), (1, .int p1), (2, .int p2)] := hl
      obtain ⟨_, _, hO, hf⟩ := hf
      refine h_Fki X hI (h_runF (As := []) X hI (X.2.2.2.2.2.1.1 15 _ (show jC.1[15]? = some (RJ2, TJ2, 3) from rfl)).2 (h_recv X hI hO (show jC.1[15]? = some (RJ2, TJ2, 3) from rfl)) (mhJ2_size l Z D j Λ fr lo E a10 G4 _ hf H.size) (cwF 0 hts q1848 q1771 q1773 q172 q1775 ((E.w X).2.2.1 _ (List.mem_of_getElem? (show jFw[0]? = _ from rfl))) rfl rfl (by decide +kernel) (by show fr + 1 + 1 ≤ fr + 103 ∧ 8 + (1 + 11) + (lo + 40) ≤ lo + 6487; omega)) rfl hl.1 (Nat.le_of_ble_eq_true rfl) dX0_share_26 ⟨hm0 hm.1, hm0 hm.2⟩ rfl) (fun x12 G11 H locs hf hI => ?_)
      clear hO
      refine lv_istore_n (lv' := [(3, .int x12), (0, .ref a0), (1, .int p1), (2, .int p2)]) hx hb dX0_share_31 rfl hl (by decide) rfl (fun ls hl => ?_)
      refine lv_lconst (v := 0) hx hb dX0_share_32 (by decide) ?_
      refine lv_lstore (lv' := [(4, .long 0), (3, .int x12), (0, .ref a0), (1, .int p1), (2, .int p2)]) hx hb dX0_share_33 hl (by decide) rfl (fun ls hl => ?_)
      refine lv_iconst (v := 0) hx hb dX0_share_35 (by decide) ?_
      refine lv_istore (lv' := [(6, .int 0), (4, .long 0), (3, .int x12), (0, .ref a0), (1, .int p1), (2, .int p2)]) hx hb dX0_share_36 hl (by decide) rfl (fun ls hl => ?_)
      obtain ⟨n, hf⟩ := hf
      exact L38 n x12 (0 : Int64) (0 : Int32) mc ms G11 hf _ _ hm H locs hI ls (lv_sub hl [3, 4, 5, 2, 1, 0] rfl)
    · have hf := hf.1 c6
      refine lv_ldcw (v := -1000000) hx hb hown (hts _ q2443) dX0_share_15 ?_
      exact hret hf hI dX0_share_18 (hmC hm.1) (hmC hm.2)
/-! MergeJudge.power(JI)J -/
def hX0_power_f (j : JX) (Λ : JLam) : Nat → Int64 → Int32 → HG → (Int64 → HG → Prop) → Prop
  | 0 => fun _ _ _ _ => False
  | n + 1 => fun p0 p2 G post => (p2 = 0 → (post (1 : Int64) G)) ∧ (¬ p2 = 0 → (hX0_power_f j Λ n p0 (p2 - 1) G fun y3 G2 => post (p0 * y3) G2))
def hX0_power (j : JX) (Λ : JLam) (p0 : Int64) (p2 : Int32) (G : HG) (post : Int64 → HG → Prop) : Prop := hX0_power_f j Λ 100 p0 p2 G post
abbrev rhX0_power (fr lo : Nat) : Room := { frames := fr + 100 + 1, cells := 0, slots := 0, locals := lo + 100 * 64 + 40 }
theorem mhX0_power_f (l : Launch) (Z : (Nat → Prop) → State → Heap → Prop) (D : va_G) (j : JX) (Λ : JLam) (fr lo : Nat) (E : JE l Z D j Λ fr lo) (n : Nat) : ∀ (p0 : Int64) (p2 : Int32) (G : HG) (post : Int64 → HG → Prop), hX0_power_f j Λ n p0 p2 G post → HMl l yX0_power (ws_ yX0_power cX0_power 3 (some .long)) { frames := fr + n + 1, cells := 0, slots := 0, locals := lo + n * 64 + 40 } D jC (jty j.1) Z G [.long p0, .int p2] post 0 0 := by
  induction n with
  | zero => intro p0 p2 G post hf; exact hf.elim
  | succ n ih =>
    intro p0 p2 G post hf
    refine h_openl E.1 (by decide) (by exact Nat.le_of_ble_eq_true rfl) (fun p e s m args below meth c ls A0 Q X hI hnd hnm hl hret => ?_)
    have X : XC p s m args meth c cX0_power 3 RX0 D jC (jty j.1) A0 Z := X
    have hx := X.1
    have hb := X.2.1
    have hown := X.2.2.2.1
    have hts := X.2.2.2.2.1
    have hl : lv_has ls 3 [(0, .long p0), (2, .int p2)] := hl
    unfold hX0_power_f at hf
    obtain ⟨H, eH⟩ : ∃ H, H = s.heap := ⟨_, rfl⟩
    obtain ⟨locs, eL⟩ : ∃ locs : List Loc, locs = [] := ⟨_, rfl⟩
    have hI : HI D jC G A0 s.heap H locs := by rw [eH, eL]; exact hI
    rw [← eL]
    suffices h : W p l e { frames := fr + (n + 1) + 1, cells := 0, slots := 0, locals := lo + (n + 1) * 64 + 40 } s m args below meth c H locs 0 0 Q (F0 m 0 ls []) by rw [eH] at h; exact h
    clear eH eL
    refine lv_iload_n hx hb dX0_power_0 rfl (lv_at hl 1 rfl) ?_
    refine lv_if_ne (tgt := 8) hx hb dX0_power_1 (by decide) (fun c1 => ?_) (fun c1 => ?_)
    · have hf := hf.2 c1
      refine lv_lload_n hx hb dX0_power_8 rfl (lv_at hl 0 rfl) ?_
      refine lv_lload_n hx hb dX0_power_9 rfl (lv_at hl 0 rfl) ?_
      refine lv_iload_n hx hb dX0_power_10 rfl (lv_at hl 1 rfl) ?_
      refine lv_iconst (v := 1) hx hb dX0_power_11 (by decide) ?_
      refine lv_isub hx hb dX0_power_12 ?_
      refine h_kl X hI (h_runS (As := [.long p0, .int (p2 - 1)]) X hI (ih p0 (p2 - 1) G _ hf H.size) (va_cwS 2 hts (lw_S q2488 q2489 q167 q2490) rfl rfl rfl (by decide +kernel) (by show fr + n + 1 + 1 ≤ fr + (n + 1) + 1 ∧ 8 + (3 + 11) + (lo + n * 64 + 40) ≤ lo + (n + 1) * 64 + 40; omega)) rfl hl.1 (Nat.le_of_ble_eq_true rfl) dX0_power_13 ⟨Nat.le_refl _, Nat.le_refl _⟩ rfl) (fun y3 G2 H locs hf hI => ?_)
      refine lv_lmul hx hb dX0_power_16 ?_
      exact hret hf hI dX0_power_17 (Nat.le_refl _) (Nat.le_refl _)
    · have hf := hf.1 c1
      refine lv_lconst (v := 1) hx hb dX0_power_4 (by decide) ?_
      refine lv_goto (tgt := 17) hx hb dX0_power_5 (by decide) ?_
      exact hret hf hI dX0_power_17 (Nat.le_refl _) (Nat.le_refl _)
theorem mhX0_power (l : Launch) (Z : (Nat → Prop) → State → Heap → Prop) (D : va_G) (j : JX) (Λ : JLam) (fr lo : Nat) (E : JE l Z D j Λ fr lo) (p0 : Int64) (p2 : Int32) (G : HG) (post : Int64 → HG → Prop) (hf : hX0_power j Λ p0 p2 G post) : HMl l yX0_power (ws_ yX0_power cX0_power 3 (some .long)) (rhX0_power fr lo) D jC (jty j.1) Z G [.long p0, .int p2] post 0 0 := mhX0_power_f l Z D j Λ fr lo E 100 p0 p2 G post hf
/-! MergeJudge.sum(LMergeJudge$Answer;)J -/
def hX0_sum_b5 (j : JX) (Λ : JLam) (a0 : Nat) (p1 : Nat) (post : Int64 → HG → Prop) (K5 : Int64 → Int32 → Nat → Nat → HG → Prop) (ly2 : Int64) (lx4 : Int32) (mc ms : Nat) (G : HG) : Prop :=
  isO G a0 0 (hX0_every j Λ a0 G fun x2 G1 => (x2 < lx4 → (post ly2 G1)) ∧ (¬ x2 < lx4 → (gtQ G1 a0 0 1 fun q4 => nnq q4 fun a5 => gtI G1 a5 2 6 fun x6 => hX0_size j Λ lx4 G1 fun x8 G7 => hX0_power j Λ x6.toInt64 x8 G7 fun y10 G9 => gtQ G9 a0 0 1 fun q11 => nnq q11 fun a12 => gtI G9 a12 2 6 fun x13 => gtQ G9 a0 0 1 fun q14 => nnq q14 fun a15 => gtQ G9 a15 2 0 fun q16 => nnq q16 fun a17 => isO G9 a17 15 (hJ2_size j Λ a17 G9 fun x19 G18 => hX0_size j Λ lx4 G18 fun x21 G20 => hX0_power j Λ (((10 : Int32) - x13).toInt64) (x19 - x21) G20 fun y23 G22 => isO G22 a0 0 (hX0_every j Λ a0 G22 fun x25 G24 => isO G24 a0 0 (∃ m26 m27 : Nat, m26 ≤ mc ∧ m27 ≤ ms ∧ hX0_under j Λ a0 (x25 &&& (lx4 ^^^ (-1))) p1 m26 m27 G24 fun x29 G28 => ∀ v30 : Int64, v30 = (ly2 + ((y10 * y23) * x29.toInt64)) → K5 v30 (lx4 + 1) (mc - m26) (ms - m27) G28))))))
def hX0_sum_l5 (j : JX) (Λ : JLam) (a0 : Nat) (p1 : Nat) (post : Int64 → HG → Prop) : Nat → Int64 → Int32 → Nat → Nat → HG → Prop
  | 0 => fun _ _ _ _ _ => False
  | n + 1 => fun ly2 lx4 mc ms G => hX0_sum_b5 j Λ a0 p1 post (hX0_sum_l5 j Λ a0 p1 post n) ly2 lx4 mc ms G
def hX0_sum (j : JX) (Λ : JLam) (a0 : Nat) (p1 : Nat) (mc ms : Nat) (G : HG) (post : Int64 → HG → Prop) : Prop :=
  ∃ n, hX0_sum_l5 j Λ a0 p1 post n (0 : Int64) (0 : Int32) mc ms G
abbrev rhX0_sum (fr lo mc ms : Nat) : Room := { frames := fr + 102, cells := mc, slots := ms, locals := lo + 6462 }
theorem mhX0_sum (l : Launch) (Z : (Nat → Prop) → State → Heap → Prop) (D : va_G) (j : JX) (Λ : JLam) (fr lo : Nat) (E : JE l Z D j Λ fr lo) (a0 : Nat) (p1 : Nat) (mc ms : Nat) (G : HG) (post : Int64 → HG → Prop) (hf : hX0_sum j Λ a0 p1 mc ms G post) : HMl l yX0_sum (ws_ yX0_sum cX0_sum 5 (some .long)) (rhX0_sum fr lo mc ms) D jC (jty j.1) Z G [.ref a0, .ref p1] post mc ms := by
  obtain ⟨MC, eMC⟩ : ∃ MC, MC = mc := ⟨_, rfl⟩
  obtain ⟨MS, eMS⟩ : ∃ MS, MS = ms := ⟨_, rfl⟩
  suffices goal : HMl l yX0_sum (ws_ yX0_sum cX0_sum 5 (some .long)) (rhX0_sum fr lo MC MS) D jC (jty j.1) Z G [.ref a0, .ref p1] post MC MS by rw [eMC, eMS] at goal; exact goal
  have hm0_ : 0 + mc ≤ MC ∧ 0 + ms ≤ MS := by omega
  clear eMC eMS
  refine h_openl E.1 (by decide) (by exact Nat.le_of_ble_eq_true rfl) (fun p e s m args below meth c ls A0 Q X hI hnd hnm hl hret => ?_)
  have X : XC p s m args meth c cX0_sum 5 RX0 D jC (jty j.1) A0 Z := X
  have hx := X.1
  have hb := X.2.1
  have hown := X.2.2.2.1
  have hts := X.2.2.2.2.1
  have L5 : ∀ (n : Nat) (ly2 : Int64) (lx4 : Int32) (mc ms : Nat) (G : HG), hX0_sum_l5 j Λ a0 p1 post n ly2 lx4 mc ms G → ∀ (cells slots : Nat), cells + mc ≤ MC ∧ slots + ms ≤ MS → ∀ (H : Heap) (locs : List Loc), HI D jC G A0 s.heap H locs → ∀ (ls : Array Slot), lv_has ls 5 [(0, .ref a0), (1, .ref p1), (2, .long ly2), (4, .int lx4)] → W p l e (rhX0_sum fr lo MC MS) s m args below meth c H locs cells slots Q (F0 m 5 ls []) := by
    intro n5
    induction n5 with
    | zero => intro ly2 lx4 mc ms G hf; exact hf.elim
    | succ n5 ih5 =>
      intro ly2 lx4 mc ms G hf cells slots hm H locs hI ls hl
      have hf : hX0_sum_b5 j Λ a0 p1 post (hX0_sum_l5 j Λ a0 p1 post n5) ly2 lx4 mc ms G := hf
      unfold hX0_sum_b5 at hf
      refine lv_iload hx hb dX0_sum_5 (lv_at hl 3 rfl) ?_
      refine lv_aload_n hx hb dX0_sum_7 rfl (lv_at hl 0 rfl) ?_
      obtain ⟨_, _, hO, hf⟩ := hf
      refine h_ki X hI (h_runV (As := []) X hI (h_recv X hI hO (show jC.1[0]? = some (RX0, TX0, 20) from rfl)) (mhX0_every l Z D j Λ fr lo E a0 G _ hf H.size) (cwV 0 hts (lw_V q2072 q2074 qs54 q167 q2075) rfl rfl rfl (by decide +kernel) (by show fr + 2 + 1 ≤ fr + 102 ∧ 8 + (1 + 11) + (lo + 60) ≤ lo + 6462; omega)) rfl hl.1 (Nat.le_of_ble_eq_true rfl) dX0_sum_8 ⟨hm0 hm.1, hm0 hm.2⟩ rfl) (fun x2 G1 H locs hf hI => ?_)
      clear hO
      refine lv_icmp_gt (tgt := 88) hx hb dX0_sum_11 (by decide) (fun c3 => ?_) (fun c3 => ?_)
      · have hf := hf.1 c3
        refine lv_lload_n hx hb dX0_sum_88 rfl (lv_at hl 2 rfl) ?_
        exact hret hf hI dX0_sum_89 (hmC hm.1) (hmC hm.2)
      · have hf := hf.2 c3
        refine lv_lload_n hx hb dX0_sum_14 rfl (lv_at hl 2 rfl) ?_
        refine lv_aload_n hx hb dX0_sum_15 rfl (lv_at hl 0 rfl) ?_
        refine hr_gtQ X hI (rfl : jC.1[0]? = some (RX0, TX0, 20)) in_X0 1 (Nat.le_of_ble_eq_true rfl) hf q653 (fun _ h => h) dX0_sum_16 (fun q4 hf => ?_)
        obtain ⟨a5, ea5, hf⟩ := hf
        revert hl hf
        subst ea5
        intro hl hf
        have hl : lv_has ls 5 [(0, .ref a0), (1, .ref p1), (2, .long ly2), (4, .int lx4)] := hl
        refine hr_gtIN X hI (rfl : jC.1[2]? = some (RX2, TX2, 11)) in_X2 6 (Nat.le_of_ble_eq_true rfl) hf (E.nw X q497 rfl) (fun _ h => h) dX0_sum_19 (fun x6 hf => ?_)
        refine lv_i2l hx hb dX0_sum_22 rfl ?_
        refine lv_iload hx hb dX0_sum_23 (lv_at hl 3 rfl) ?_
        refine h_ki X hI (h_runS (As := [.int lx4]) X hI (mhX0_size l Z D j Λ fr lo E lx4 G1 _ hf H.size) (va_cwS 1 hts (lw_S q2355 q2347 q167 q2348) rfl rfl rfl (by decide +kernel) (by show fr + 2 + 1 ≤ fr + 102 ∧ 8 + (1 + 11) + (lo + 60) ≤ lo + 6462; omega)) rfl hl.1 (Nat.le_of_ble_eq_true rfl) dX0_sum_25 ⟨hm0 hm.1, hm0 hm.2⟩ rfl) (fun x8 G7 H locs hf hI => ?_)
        refine h_kl X hI (h_runS (As := [.long x6.toInt64, .int x8]) X hI (mhX0_power l Z D j Λ fr lo E x6.toInt64 x8 G7 _ hf H.size) (va_cwS 2 hts (lw_S q2488 q2489 q167 q2490) rfl rfl rfl (by decide +kernel) (by show fr + 101 + 1 ≤ fr + 102 ∧ 8 + (3 + 11) + (lo + 6440) ≤ lo + 6462; omega)) rfl hl.1 (Nat.le_of_ble_eq_true rfl) dX0_sum_28 ⟨hm0 hm.1, hm0 hm.2⟩ rfl) (fun y10 G9 H locs hf hI => ?_)
        refine lv_bipush (v := 10) hx hb dX0_sum_31 (by decide) ?_
        refine lv_aload_n hx hb dX0_sum_33 rfl (lv_at hl 0 rfl) ?_
        refine hr_gtQ X hI (rfl : jC.1[0]? = some (RX0, TX0, 20)) in_X0 1 (Nat.le_of_ble_eq_true rfl) hf q653 (fun _ h => h) dX0_sum_34 (fun q11 hf => ?_)
        obtain ⟨a12, ea12, hf⟩ := hf
        revert hl hf
        subst ea12
        intro hl hf
        have hl : lv_has ls 5 [(0, .ref a0), (1, .ref p1), (2, .long ly2), (4, .int lx4)] := hl
        refine hr_gtIN X hI (rfl : jC.1[2]? = some (RX2, TX2, 11)) in_X2 6 (Nat.le_of_ble_eq_true rfl) hf (E.nw X q497 rfl) (fun _ h => h) dX0_sum_37 (fun x13 hf => ?_)
        refine lv_isub hx hb dX0_sum_40 ?_
        refine lv_i2l hx hb dX0_sum_41 rfl ?_
        refine lv_aload_n hx hb dX0_sum_42 rfl (lv_at hl 0 rfl) ?_
        refine hr_gtQ X hI (rfl : jC.1[0]? = some (RX0, TX0, 20)) in_X0 1 (Nat.le_of_ble_eq_true rfl) hf q653 (fun _ h => h) dX0_sum_43 (fun q14 hf => ?_)
        obtain ⟨a15, ea15, hf⟩ := hf
        revert hl hf
        subst ea15
        intro hl hf
        have hl : lv_has ls 5 [(0, .ref a0), (1, .ref p1), (2, .long ly2), (4, .int lx4)] := hl
        refine hr_gtQN X hI (rfl : jC.1[2]? = some (RX2, TX2, 11)) in_X2 0 (Nat.le_of_ble_eq_true rfl) hf (E.nw X q478 rfl) (fun _ h => h) dX0_sum_46 (fun q16 hf => ?_)
        obtain ⟨a17, ea17, hf⟩ := hf
        revert hl hf
        subst ea17
        intro hl hf
        have hl : lv_has ls 5 [(0, .ref a0), (1, .ref p1), (2, .long ly2), (4, .int lx4)] := hl
        obtain ⟨_, _, hO, hf⟩ := hf
        refine h_Fki X hI (h_runF (As := []) X hI (X.2.2.2.2.2.1.1 15 _ (show jC.1[15]? = some (RJ2, TJ2, 3) from rfl)).2 (h_recv X hI hO (show jC.1[15]? = some (RJ2, TJ2, 3) from rfl)) (mhJ2_size l Z D j Λ fr lo E a17 G9 _ hf H.size) (cwF 0 hts q1848 q1771 q1773 q172 q1775 ((E.w X).2.2.1 _ (List.mem_of_getElem? (show jFw[0]? = _ from rfl))) rfl rfl (by decide +kernel) (by show fr + 1 + 1 ≤ fr + 102 ∧ 8 + (1 + 11) + (lo + 40) ≤ lo + 6462; omega)) rfl hl.1 (Nat.le_of_ble_eq_true rfl) dX0_sum_49 ⟨hm0 hm.1, hm0 hm.2⟩ rfl) (fun x19 G18 H locs hf hI => ?_)
        clear hO
        refine lv_iload hx hb dX0_sum_54 (lv_at hl 3 rfl) ?_
        refine h_ki X hI (h_runS (As := [.int lx4]) X hI (mhX0_size l Z D j Λ fr lo E lx4 G18 _ hf H.size) (va_cwS 1 hts (lw_S q2355 q2347 q167 q2348) rfl rfl rfl (by decide +kernel) (by show fr + 2 + 1 ≤ fr + 102 ∧ 8 + (1 + 11) + (lo + 60) ≤ lo + 6462; omega)) rfl hl.1 (Nat.le_of_ble_eq_true rfl) dX0_sum_56 ⟨hm0 hm.1, hm0 hm.2⟩ rfl) (fun x21 G20 H locs hf hI => ?_)
        refine lv_isub hx hb dX0_sum_59 ?_
        refine h_kl X hI (h_runS (As := [.long (((10 : Int32) - x13).toInt64), .int (x19 - x21)]) X hI (mhX0_power l Z D j Λ fr lo E (((10 : Int32) - x13).toInt64) (x19 - x21) G20 _ hf H.size) (va_cwS 2 hts (lw_S q2488 q2489 q167 q2490) rfl rfl rfl (by decide +kernel) (by show fr + 101 + 1 ≤ fr + 102 ∧ 8 + (3 + 11) + (lo + 6440) ≤ lo + 6462; omega)) rfl hl.1 (Nat.le_of_ble_eq_true rfl) dX0_sum_60 ⟨hm0 hm.1, hm0 hm.2⟩ rfl) (fun y23 G22 H locs hf hI => ?_)
        refine lv_lmul hx hb dX0_sum_63 ?_
        refine lv_aload_n hx hb dX0_sum_64 rfl (lv_at hl 0 rfl) ?_
        refine lv_aload_n hx hb dX0_sum_65 rfl (lv_at hl 0 rfl) ?_
        obtain ⟨_, _, hO, hf⟩ := hf
        refine h_ki X hI (h_runV (As := []) X hI (h_recv X hI hO (show jC.1[0]? = some (RX0, TX0, 20) from rfl)) (mhX0_every l Z D j Λ fr lo E a0 G22 _ hf H.size) (cwV 0 hts (lw_V q2072 q2074 qs54 q167 q2075) rfl rfl rfl (by decide +kernel) (by show fr + 2 + 1 ≤ fr + 102 ∧ 8 + (1 + 11) + (lo + 60) ≤ lo + 6462; omega)) rfl hl.1 (Nat.le_of_ble_eq_true rfl) dX0_sum_66 ⟨hm0 hm.1, hm0 hm.2⟩ rfl) (fun x25 G24 H locs hf hI => ?_)
        clear hO
        refine lv_iload hx hb dX0_sum_69 (lv_at hl 3 rfl) ?_
        refine lv_iconst (v := -1) hx hb dX0_sum_71 (by decide) ?_
        refine lv_ixor hx hb dX0_sum_72 ?_
        refine lv_iand hx hb dX0_sum_73 ?_
        refine lv_aload_n hx hb dX0_sum_74 rfl (lv_at hl 1 rfl) ?_
        obtain ⟨_, _, hO, hf⟩ := hf
        obtain ⟨m26, m27, hb1, hb2, hf⟩ := hf
        refine h_ki X hI (h_runV (As := [.int (x25 &&& (lx4 ^^^ (-1))), .ref p1]) X hI (h_recv X hI hO (show jC.1[0]? = some (RX0, TX0, 20) from rfl)) (mhX0_under l Z D j Λ fr lo E a0 (x25 &&& (lx4 ^^^ (-1))) p1 m26 m27 G24 _ hf H.size) (cwV 2 hts (lw_V q2079 q2081 qs56 q167 q2082) rfl rfl rfl (by decide +kernel) (by show fr + 4 + 1 ≤ fr + 102 ∧ 8 + (4 + 11) + (lo + 105) ≤ lo + 6462; omega)) rfl hl.1 (Nat.le_of_ble_eq_true rfl) dX0_sum_75 ⟨hmA hm.1 hb1, hmA hm.2 hb2⟩ rfl) (fun x29 G28 H locs hf hI => ?_)
        have hm := And.intro (hmB hm.1 hb1) (hmB hm.2 hb2)
        clear hb1 hb2
        clear hO
        refine lv_i2l hx hb dX0_sum_78 rfl ?_
        refine lv_lmul hx hb dX0_sum_79 ?_
        refine lv_ladd hx hb dX0_sum_80 ?_
        obtain ⟨v30, ev30⟩ : ∃ v30, v30 = (ly2 + ((y10 * y23) * x29.toInt64)) := ⟨_, rfl⟩
        have hf := hf v30 ev30
        rw [← ev30]
        clear ev30
        refine lv_lstore_n (lv' := [(2, .long v30), (0, .ref a0), (1, .ref p1), (4, .int lx4)]) hx hb dX0_sum_81 rfl hl (by decide) rfl (fun ls hl => ?_)
        refine lv_iinc (v := lx4 + 1) (lv' := [(4, .int (lx4 + 1)), (2, .long v30), (0, .ref a0), (1, .ref p1)]) hx hb dX0_sum_82 hl (k := 3) rfl rfl (by decide) rfl (fun ls hl => ?_)
        refine lv_goto (tgt := 5) hx hb dX0_sum_85 (by decide) ?_
        exact ih5 v30 (lx4 + 1) (mc - m26) (ms - m27) G28 hf _ _ hm H locs hI ls (lv_sub hl [2, 3, 1, 0] rfl)
  have hl : lv_has ls 5 [(0, .ref a0), (1, .ref p1)] := by exact hl
  unfold hX0_sum at hf
  obtain ⟨H, eH⟩ : ∃ H, H = s.heap := ⟨_, rfl⟩
  obtain ⟨locs, eL⟩ : ∃ locs : List Loc, locs = [] := ⟨_, rfl⟩
  have hI : HI D jC G A0 s.heap H locs := by rw [eH, eL]; exact hI
  rw [← eL]
  obtain ⟨cells, eC⟩ : ∃ n : Nat, n = 0 := ⟨_, rfl⟩
  obtain ⟨slots, eS⟩ : ∃ n : Nat, n = 0 := ⟨_, rfl⟩
  have hm : cells + mc ≤ MC ∧ slots + ms ≤ MS := by rw [eC, eS]; exact hm0_
  suffices h : W p l e (rhX0_sum fr lo MC MS) s m args below meth c H locs cells slots Q (F0 m 0 ls []) by rw [eH, eC, eS] at h; exact h
  clear eH eL eC eS
  refine lv_lconst (v := 0) hx hb dX0_sum_0 (by decide) ?_
  refine lv_lstore_n (lv' := [(2, .long 0), (0, .ref a0), (1, .ref p1)]) hx hb dX0_sum_1 rfl hl (by decide) rfl (fun ls hl => ?_)
  refine lv_iconst (v := 0) hx hb dX0_sum_2 (by decide) ?_
  refine lv_istore (lv' := [(4, .int 0), (2, .long 0), (0, .ref a0), (1, .ref p1)]) hx hb dX0_sum_3 hl (by decide) rfl (fun ls hl => ?_)
  obtain ⟨n, hf⟩ := hf
  exact L5 n (0 : Int64) (0 : Int32) mc ms G hf _ _ hm H locs hI ls (lv_sub hl [2, 3, 1, 0] rfl)
/-! MergeJudge.chance(I)J -/
def hX0_chance (j : JX) (Λ : JLam) (a0 : Nat) (p1 : Int32) (mc ms : Nat) (G : HG) (post : Int64 → HG → Prop) : Prop :=
  gtQ G a0 0 1 fun q1 => nnq q1 fun a2 => isO G a2 2 (hX2_is j Λ a2 G fun x4 G3 => (x4 = 0 → (post ((-2) : Int64) G3)) ∧ (¬ x4 = 0 → (hX0_isBit j Λ p1 G3 fun x7 G6 => (x7 = 0 → (post ((-2) : Int64) G6)) ∧ (¬ x7 = 0 → (1 ≤ mc ∧ 1 ≤ ms ∧ mkO G6 (.inr (52, .ref a0 :: ([] : List Int32).map .int)) fun a9 G10 => isO G10 a0 0 (∃ m11 m12 : Nat, m11 ≤ mc - 1 ∧ m12 ≤ ms - 1 ∧ hX0_sum j Λ a0 a9 m11 m12 G10 fun y14 G13 => gtQ G13 a0 0 1 fun q15 => nnq q15 fun a16 => gtQ G13 a16 2 0 fun q17 => nnq q17 fun a18 => isO G13 a18 15 (hJ2_size j Λ a18 G13 fun x20 G19 => hX0_power j Λ (10 : Int64) x20 G19 fun y22 G21 => hX0_part j Λ y14 y22 p1 G21 fun y24 G23 => post y24 G23)))))))
abbrev rhX0_chance (fr lo mc ms : Nat) : Room := { frames := fr + 103, cells := mc, slots := ms, locals := lo + 6487 }
theorem mhX0_chance (l : Launch) (Z : (Nat → Prop) → State → Heap → Prop) (D : va_G) (j : JX) (Λ : JLam) (fr lo : Nat) (E : JE l Z D j Λ fr lo) (a0 : Nat) (p1 : Int32) (mc ms : Nat) (G : HG) (post : Int64 → HG → Prop) (hf : hX0_chance j Λ a0 p1 mc ms G post) : HMl l yX0_chance (ws_ yX0_chance cX0_chance 2 (some .long)) (rhX0_chance fr lo mc ms) D jC (jty j.1) Z G [.ref a0, .int p1] post mc ms := by
  obtain ⟨MC, eMC⟩ : ∃ MC, MC = mc := ⟨_, rfl⟩
  obtain ⟨MS, eMS⟩ : ∃ MS, MS = ms := ⟨_, rfl⟩
  suffices goal : HMl l yX0_chance (ws_ yX0_chance cX0_chance 2 (some .long)) (rhX0_chance fr lo MC MS) D jC (jty j.1) Z G [.ref a0, .int p1] post MC MS by rw [eMC, eMS] at goal; exact goal
  have hm0_ : 0 + mc ≤ MC ∧ 0 + ms ≤ MS := by omega
  clear eMC eMS
  refine h_openl E.1 (by decide) (by exact Nat.le_of_ble_eq_true rfl) (fun p e s m args below meth c ls A0 Q X hI hnd hnm hl hret => ?_)
  have X : XC p s m args meth c cX0_chance 2 RX0 D jC (jty j.1) A0 Z := X
  have hx := X.1
  have hb := X.2.1
  have hown := X.2.2.2.1
  have hts := X.2.2.2.2.1
  have hl : lv_has ls 2 [(0, .ref a0), (1, .int p1)] := by exact hl
  unfold hX0_chance at hf
  obtain ⟨H, eH⟩ : ∃ H, H = s.heap := ⟨_, rfl⟩
  obtain ⟨locs, eL⟩ : ∃ locs : List Loc, locs = [] := ⟨_, rfl⟩
  have hI : HI D jC G A0 s.heap H locs := by rw [eH, eL]; exact hI
  rw [← eL]
  obtain ⟨cells, eC⟩ : ∃ n : Nat, n = 0 := ⟨_, rfl⟩
  obtain ⟨slots, eS⟩ : ∃ n : Nat, n = 0 := ⟨_, rfl⟩
  have hm : cells + mc ≤ MC ∧ slots + ms ≤ MS := by rw [eC, eS]; exact hm0_
  suffices h : W p l e (rhX0_chance fr lo MC MS) s m args below meth c H locs cells slots Q (F0 m 0 ls []) by rw [eH, eC, eS] at h; exact h
  clear eH eL eC eS
  refine lv_aload_n hx hb dX0_chance_0 rfl (lv_at hl 0 rfl) ?_
  refine hr_gtQ X hI (rfl : jC.1[0]? = some (RX0, TX0, 20)) in_X0 1 (Nat.le_of_ble_eq_true rfl) hf q653 (fun _ h => h) dX0_chance_1 (fun q1 hf => ?_)
  obtain ⟨a2, ea2, hf⟩ := hf
  revert hl hf
  subst ea2
  intro hl hf
  have hl : lv_has ls 2 [(0, .ref a0), (1, .int p1)] := hl
  obtain ⟨_, _, hO, hf⟩ := hf
  refine h_ki X hI (h_runV (As := []) X hI (h_recv X hI hO (show jC.1[2]? = some (RX2, TX2, 11) from rfl)) (mhX2_is l Z D j Λ fr lo E a2 G _ hf H.size) (cwV 0 hts (lw_V q1839 q1840 q1841 q169 q1842) rfl rfl rfl (by decide +kernel) (by show fr + 1 + 1 ≤ fr + 103 ∧ 8 + (1 + 11) + (lo + 40) ≤ lo + 6487; omega)) rfl hl.1 (Nat.le_of_ble_eq_true rfl) dX0_chance_4 ⟨hm0 hm.1, hm0 hm.2⟩ rfl) (fun x4 G3 H locs hf hI => ?_)
  clear hO
  refine lv_if_eq (tgt := 52) hx hb dX0_chance_7 (by decide) (fun c5 => ?_) (fun c5 => ?_)
  · have hf := hf.1 c5
    refine lv_ldc2 (v := -2) hx hb hown (hts _ q2492) dX0_chance_52 ?_
    exact hret hf hI dX0_chance_55 (hmC hm.1) (hmC hm.2)
  · have hf := hf.2 c5
    refine lv_iload_n hx hb dX0_chance_10 rfl (lv_at hl 1 rfl) ?_
    refine h_ki X hI (h_runS (As := [.int p1]) X hI (mhX0_isBit l Z D j Λ fr lo E p1 G3 _ hf H.size) (va_cwS 1 hts (lw_S q2440 q2441 q167 q2442) rfl rfl rfl (by decide +kernel) (by show fr + 2 + 1 ≤ fr + 103 ∧ 8 + (1 + 11) + (lo + 65) ≤ lo + 6487; omega)) rfl hl.1 (Nat.le_of_ble_eq_true rfl) dX0_chance_11 ⟨hm0 hm.1, hm0 hm.2⟩ rfl) (fun x7 G6 H locs hf hI => ?_)
    refine lv_if_eq (tgt := 52) hx hb dX0_chance_14 (by decide) (fun c8 => ?_) (fun c8 => ?_)
    · have hf := hf.1 c8
      refine lv_ldc2 (v := -2) hx hb hown (hts _ q2492) dX0_chance_52 ?_
      exact hret hf hI dX0_chance_55 (hmC hm.1) (hmC hm.2)
    · have hf := hf.2 c8
      refine lv_aload_n hx hb dX0_chance_17 rfl (lv_at hl 0 rfl) ?_
      refine lv_aload_n hx hb dX0_chance_18 rfl (lv_at hl 0 rfl) ?_
      obtain ⟨hb1, hb2, hf⟩ := hf
      refine E.2.2.2.1 29 yX0_chance 19 521 a0 [] rfl (rest := [.ref a0]) X hI hnd hl.1 (Nat.le_of_ble_eq_true rfl) dX0_chance_19 (by show 3200 ≤ lo + 6487; omega) (hmA hm.1 hb1) (hmA hm.2 hb2) hf (fun a9 G10 H hf hI => ?_)
      have hm := And.intro (hmB hm.1 hb1) (hmB hm.2 hb2)
      clear hb1 hb2
      obtain ⟨_, _, hO, hf⟩ := hf
      obtain ⟨m11, m12, hb1, hb2, hf⟩ := hf
      refine h_kl X hI (h_runV (As := [.ref a9]) X hI (h_recv X hI hO (show jC.1[0]? = some (RX0, TX0, 20) from rfl)) (mhX0_sum l Z D j Λ fr lo E a0 a9 m11 m12 G10 _ hf H.size) (cwV 1 hts (lw_V q2484 q2486 qs82 q167 q2487) rfl rfl rfl (by decide +kernel) (by show fr + 102 + 1 ≤ fr + 103 ∧ 8 + (5 + 11) + (lo + 6462) ≤ lo + 6487; omega)) rfl hl.1 (Nat.le_of_ble_eq_true rfl) dX0_chance_24 ⟨hmA hm.1 hb1, hmA hm.2 hb2⟩ rfl) (fun y14 G13 H locs hf hI => ?_)
      have hm := And.intro (hmB hm.1 hb1) (hmB hm.2 hb2)
      clear hb1 hb2
      clear hO
      refine lv_ldc2 (v := 10) hx hb hown (hts _ q2491) dX0_chance_27 ?_
      refine lv_aload_n hx hb dX0_chance_30 rfl (lv_at hl 0 rfl) ?_
      refine hr_gtQ X hI (rfl : jC.1[0]? = some (RX0, TX0, 20)) in_X0 1 (Nat.le_of_ble_eq_true rfl) hf q653 (fun _ h => h) dX0_chance_31 (fun q15 hf => ?_)
      obtain ⟨a16, ea16, hf⟩ := hf
      revert hl hf
      subst ea16
      intro hl hf
      have hl : lv_has ls 2 [(0, .ref a0), (1, .int p1)] := hl
      refine hr_gtQN X hI (rfl : jC.1[2]? = some (RX2, TX2, 11)) in_X2 0 (Nat.le_of_ble_eq_true rfl) hf (E.nw X q478 rfl) (fun _ h => h) dX0_chance_34 (fun q17 hf => ?_)
      obtain ⟨a18, ea18, hf⟩ := hf
      revert hl hf
      subst ea18
      intro hl hf
      have hl : lv_has ls 2 [(0, .ref a0), (1, .int p1)] := hl
      obtain ⟨_, _, hO, hf⟩ := hf
      refine h_Fki X hI (h_runF (As := []) X hI (X.2.2.2.2.2.1.1 15 _ (show jC.1[15]? = some (RJ2, TJ2, 3) from rfl)).2 (h_recv X hI hO (show jC.1[15]? = some (RJ2, TJ2, 3) from rfl)) (mhJ2_size l Z D j Λ fr lo E a18 G13 _ hf H.size) (cwF 0 hts q1848 q1771 q1773 q172 q1775 ((E.w X).2.2.1 _ (List.mem_of_getElem? (show jFw[0]? = _ from rfl))) rfl rfl (by decide +kernel) (by show fr + 1 + 1 ≤ fr + 103 ∧ 8 + (1 + 11) + (lo + 40) ≤ lo + 6487; omega)) rfl hl.1 (Nat.le_of_ble_eq_true rfl) dX0_chance_37 ⟨hm0 hm.1, hm0 hm.2⟩ rfl) (fun x20 G19 H locs hf hI => ?_)
      clear hO
      refine h_kl X hI (h_runS (As := [.long 10, .int x20]) X hI (mhX0_power l Z D j Λ fr lo E (10 : Int64) x20 G19 _ hf H.size) (va_cwS 2 hts (lw_S q2488 q2489 q167 q2490) rfl rfl rfl (by decide +kernel) (by show fr + 101 + 1 ≤ fr + 103 ∧ 8 + (3 + 11) + (lo + 6440) ≤ lo + 6487; omega)) rfl hl.1 (Nat.le_of_ble_eq_true rfl) dX0_chance_42 ⟨hm0 hm.1, hm0 hm.2⟩ rfl) (fun y22 G21 H locs hf hI => ?_)
      refine lv_iload_n hx hb dX0_chance_45 rfl (lv_at hl 1 rfl) ?_
      refine h_kl X hI (h_runS (As := [.long y14, .long y22, .int p1]) X hI (mhX0_part l Z D j Λ fr lo E y14 y22 p1 G21 _ hf H.size) (va_cwS 3 hts (lw_S q2448 q2449 q167 q2450) rfl rfl rfl (by decide +kernel) (by show fr + 102 + 1 ≤ fr + 103 ∧ 8 + (5 + 11) + (lo + 6463) ≤ lo + 6487; omega)) rfl hl.1 (Nat.le_of_ble_eq_true rfl) dX0_chance_46 ⟨hm0 hm.1, hm0 hm.2⟩ rfl) (fun y24 G23 H locs hf hI => ?_)
      refine lv_goto (tgt := 55) hx hb dX0_chance_49 (by decide) ?_
      exact hret hf hI dX0_chance_55 (hmC hm.1) (hmC hm.2)
/-! MergeJudge.mean(I)J -/
def hX0_mean (j : JX) (Λ : JLam) (a0 : Nat) (p1 : Int32) (mc ms : Nat) (G : HG) (post : Int64 → HG → Prop) : Prop :=
  gtQ G a0 0 1 fun q1 => nnq q1 fun a2 => isO G a2 2 (hX2_is j Λ a2 G fun x4 G3 => (x4 = 0 → (post ((-2) : Int64) G3)) ∧ (¬ x4 = 0 → (hX0_isBit j Λ p1 G3 fun x7 G6 => (x7 = 0 → (post ((-2) : Int64) G6)) ∧ (¬ x7 = 0 → (1 ≤ mc ∧ 1 ≤ ms ∧ mkO G6 (.inr (53, .ref a0 :: ([] : List Int32).map .int)) fun a9 G10 => isO G10 a0 0 (∃ m11 m12 : Nat, m11 ≤ mc - 1 ∧ m12 ≤ ms - 1 ∧ hX0_sum j Λ a0 a9 m11 m12 G10 fun y14 G13 => gtQ G13 a0 0 1 fun q15 => nnq q15 fun a16 => gtQ G13 a16 2 0 fun q17 => nnq q17 fun a18 => isO G13 a18 15 (hJ2_size j Λ a18 G13 fun x20 G19 => hX0_power j Λ (10 : Int64) x20 G19 fun y22 G21 => hX0_part j Λ y14 y22 p1 G21 fun y24 G23 => post y24 G23)))))))
abbrev rhX0_mean (fr lo mc ms : Nat) : Room := { frames := fr + 103, cells := mc, slots := ms, locals := lo + 6487 }
theorem mhX0_mean (l : Launch) (Z : (Nat → Prop) → State → Heap → Prop) (D : va_G) (j : JX) (Λ : JLam) (fr lo : Nat) (E : JE l Z D j Λ fr lo) (a0 : Nat) (p1 : Int32) (mc ms : Nat) (G : HG) (post : Int64 → HG → Prop) (hf : hX0_mean j Λ a0 p1 mc ms G post) : HMl l yX0_mean (ws_ yX0_mean cX0_mean 2 (some .long)) (rhX0_mean fr lo mc ms) D jC (jty j.1) Z G [.ref a0, .int p1] post mc ms := by
  obtain ⟨MC, eMC⟩ : ∃ MC, MC = mc := ⟨_, rfl⟩
  obtain ⟨MS, eMS⟩ : ∃ MS, MS = ms := ⟨_, rfl⟩
  suffices goal : HMl l yX0_mean (ws_ yX0_mean cX0_mean 2 (some .long)) (rhX0_mean fr lo MC MS) D jC (jty j.1) Z G [.ref a0, .int p1] post MC MS by rw [eMC, eMS] at goal; exact goal
  have hm0_ : 0 + mc ≤ MC ∧ 0 + ms ≤ MS := by omega
  clear eMC eMS
  refine h_openl E.1 (by decide) (by exact Nat.le_of_ble_eq_true rfl) (fun p e s m args below meth c ls A0 Q X hI hnd hnm hl hret => ?_)
  have X : XC p s m args meth c cX0_mean 2 RX0 D jC (jty j.1) A0 Z := X
  have hx := X.1
  have hb := X.2.1
  have hown := X.2.2.2.1
  have hts := X.2.2.2.2.1
  have hl : lv_has ls 2 [(0, .ref a0), (1, .int p1)] := by exact hl
  unfold hX0_mean at hf
  obtain ⟨H, eH⟩ : ∃ H, H = s.heap := ⟨_, rfl⟩
  obtain ⟨locs, eL⟩ : ∃ locs : List Loc, locs = [] := ⟨_, rfl⟩
  have hI : HI D jC G A0 s.heap H locs := by rw [eH, eL]; exact hI
  rw [← eL]
  obtain ⟨cells, eC⟩ : ∃ n : Nat, n = 0 := ⟨_, rfl⟩
  obtain ⟨slots, eS⟩ : ∃ n : Nat, n = 0 := ⟨_, rfl⟩
  have hm : cells + mc ≤ MC ∧ slots + ms ≤ MS := by rw [eC, eS]; exact hm0_
  suffices h : W p l e (rhX0_mean fr lo MC MS) s m args below meth c H locs cells slots Q (F0 m 0 ls []) by rw [eH, eC, eS] at h; exact h
  clear eH eL eC eS
  refine lv_aload_n hx hb dX0_mean_0 rfl (lv_at hl 0 rfl) ?_
  refine hr_gtQ X hI (rfl : jC.1[0]? = some (RX0, TX0, 20)) in_X0 1 (Nat.le_of_ble_eq_true rfl) hf q653 (fun _ h => h) dX0_mean_1 (fun q1 hf => ?_)
  obtain ⟨a2, ea2, hf⟩ := hf
  revert hl hf
  subst ea2
  intro hl hf
  have hl : lv_has ls 2 [(0, .ref a0), (1, .int p1)] := hl
  obtain ⟨_, _, hO, hf⟩ := hf
  refine h_ki X hI (h_runV (As := []) X hI (h_recv X hI hO (show jC.1[2]? = some (RX2, TX2, 11) from rfl)) (mhX2_is l Z D j Λ fr lo E a2 G _ hf H.size) (cwV 0 hts (lw_V q1839 q1840 q1841 q169 q1842) rfl rfl rfl (by decide +kernel) (by show fr + 1 + 1 ≤ fr + 103 ∧ 8 + (1 + 11) + (lo + 40) ≤ lo + 6487; omega)) rfl hl.1 (Nat.le_of_ble_eq_true rfl) dX0_mean_4 ⟨hm0 hm.1, hm0 hm.2⟩ rfl) (fun x4 G3 H locs hf hI => ?_)
  clear hO
  refine lv_if_eq (tgt := 52) hx hb dX0_mean_7 (by decide) (fun c5 => ?_) (fun c5 => ?_)
  · have hf := hf.1 c5
    refine lv_ldc2 (v := -2) hx hb hown (hts _ q2492) dX0_mean_52 ?_
    exact hret hf hI dX0_mean_55 (hmC hm.1) (hmC hm.2)
  · have hf := hf.2 c5
    refine lv_iload_n hx hb dX0_mean_10 rfl (lv_at hl 1 rfl) ?_
    refine h_ki X hI (h_runS (As := [.int p1]) X hI (mhX0_isBit l Z D j Λ fr lo E p1 G3 _ hf H.size) (va_cwS 1 hts (lw_S q2440 q2441 q167 q2442) rfl rfl rfl (by decide +kernel) (by show fr + 2 + 1 ≤ fr + 103 ∧ 8 + (1 + 11) + (lo + 65) ≤ lo + 6487; omega)) rfl hl.1 (Nat.le_of_ble_eq_true rfl) dX0_mean_11 ⟨hm0 hm.1, hm0 hm.2⟩ rfl) (fun x7 G6 H locs hf hI => ?_)
    refine lv_if_eq (tgt := 52) hx hb dX0_mean_14 (by decide) (fun c8 => ?_) (fun c8 => ?_)
    · have hf := hf.1 c8
      refine lv_ldc2 (v := -2) hx hb hown (hts _ q2492) dX0_mean_52 ?_
      exact hret hf hI dX0_mean_55 (hmC hm.1) (hmC hm.2)
    · have hf := hf.2 c8
      refine lv_aload_n hx hb dX0_mean_17 rfl (lv_at hl 0 rfl) ?_
      refine lv_aload_n hx hb dX0_mean_18 rfl (lv_at hl 0 rfl) ?_
      obtain ⟨hb1, hb2, hf⟩ := hf
      refine E.2.2.2.1 30 yX0_mean 19 337 a0 [] rfl (rest := [.ref a0]) X hI hnd hl.1 (Nat.le_of_ble_eq_true rfl) dX0_mean_19 (by show 3200 ≤ lo + 6487; omega) (hmA hm.1 hb1) (hmA hm.2 hb2) hf (fun a9 G10 H hf hI => ?_)
      have hm := And.intro (hmB hm.1 hb1) (hmB hm.2 hb2)
      clear hb1 hb2
      obtain ⟨_, _, hO, hf⟩ := hf
      obtain ⟨m11, m12, hb1, hb2, hf⟩ := hf
      refine h_kl X hI (h_runV (As := [.ref a9]) X hI (h_recv X hI hO (show jC.1[0]? = some (RX0, TX0, 20) from rfl)) (mhX0_sum l Z D j Λ fr lo E a0 a9 m11 m12 G10 _ hf H.size) (cwV 1 hts (lw_V q2484 q2486 qs82 q167 q2487) rfl rfl rfl (by decide +kernel) (by show fr + 102 + 1 ≤ fr + 103 ∧ 8 + (5 + 11) + (lo + 6462) ≤ lo + 6487; omega)) rfl hl.1 (Nat.le_of_ble_eq_true rfl) dX0_mean_24 ⟨hmA hm.1 hb1, hmA hm.2 hb2⟩ rfl) (fun y14 G13 H locs hf hI => ?_)
      have hm := And.intro (hmB hm.1 hb1) (hmB hm.2 hb2)
      clear hb1 hb2
      clear hO
      refine lv_ldc2 (v := 10) hx hb hown (hts _ q2491) dX0_mean_27 ?_
      refine lv_aload_n hx hb dX0_mean_30 rfl (lv_at hl 0 rfl) ?_
      refine hr_gtQ X hI (rfl : jC.1[0]? = some (RX0, TX0, 20)) in_X0 1 (Nat.le_of_ble_eq_true rfl) hf q653 (fun _ h => h) dX0_mean_31 (fun q15 hf => ?_)
      obtain ⟨a16, ea16, hf⟩ := hf
      revert hl hf
      subst ea16
      intro hl hf
      have hl : lv_has ls 2 [(0, .ref a0), (1, .int p1)] := hl
      refine hr_gtQN X hI (rfl : jC.1[2]? = some (RX2, TX2, 11)) in_X2 0 (Nat.le_of_ble_eq_true rfl) hf (E.nw X q478 rfl) (fun _ h => h) dX0_mean_34 (fun q17 hf => ?_)
      obtain ⟨a18, ea18, hf⟩ := hf
      revert hl hf
      subst ea18
      intro hl hf
      have hl : lv_has ls 2 [(0, .ref a0), (1, .int p1)] := hl
      obtain ⟨_, _, hO, hf⟩ := hf
      refine h_Fki X hI (h_runF (As := []) X hI (X.2.2.2.2.2.1.1 15 _ (show jC.1[15]? = some (RJ2, TJ2, 3) from rfl)).2 (h_recv X hI hO (show jC.1[15]? = some (RJ2, TJ2, 3) from rfl)) (mhJ2_size l Z D j Λ fr lo E a18 G13 _ hf H.size) (cwF 0 hts q1848 q1771 q1773 q172 q1775 ((E.w X).2.2.1 _ (List.mem_of_getElem? (show jFw[0]? = _ from rfl))) rfl rfl (by decide +kernel) (by show fr + 1 + 1 ≤ fr + 103 ∧ 8 + (1 + 11) + (lo + 40) ≤ lo + 6487; omega)) rfl hl.1 (Nat.le_of_ble_eq_true rfl) dX0_mean_37 ⟨hm0 hm.1, hm0 hm.2⟩ rfl) (fun x20 G19 H locs hf hI => ?_)
      clear hO
      refine h_kl X hI (h_runS (As := [.long 10, .int x20]) X hI (mhX0_power l Z D j Λ fr lo E (10 : Int64) x20 G19 _ hf H.size) (va_cwS 2 hts (lw_S q2488 q2489 q167 q2490) rfl rfl rfl (by decide +kernel) (by show fr + 101 + 1 ≤ fr + 103 ∧ 8 + (3 + 11) + (lo + 6440) ≤ lo + 6487; omega)) rfl hl.1 (Nat.le_of_ble_eq_true rfl) dX0_mean_42 ⟨hm0 hm.1, hm0 hm.2⟩ rfl) (fun y22 G21 H locs hf hI => ?_)
      refine lv_iload_n hx hb dX0_mean_45 rfl (lv_at hl 1 rfl) ?_
      refine h_kl X hI (h_runS (As := [.long y14, .long y22, .int p1]) X hI (mhX0_part l Z D j Λ fr lo E y14 y22 p1 G21 _ hf H.size) (va_cwS 3 hts (lw_S q2448 q2449 q167 q2450) rfl rfl rfl (by decide +kernel) (by show fr + 102 + 1 ≤ fr + 103 ∧ 8 + (5 + 11) + (lo + 6463) ≤ lo + 6487; omega)) rfl hl.1 (Nat.le_of_ble_eq_true rfl) dX0_mean_46 ⟨hm0 hm.1, hm0 hm.2⟩ rfl) (fun y24 G23 H locs hf hI => ?_)
      refine lv_goto (tgt := 55) hx hb dX0_mean_49 (by decide) ?_
      exact hret hf hI dX0_mean_55 (hmC hm.1) (hmC hm.2)
/-! MergeJudge.puts(II)V -/
def hX0_puts (j : JX) (Λ : JLam) (a0 : Nat) (p1 : Int32) (p2 : Int32) (mc ms : Nat) (G : HG) (post : HG → Prop) : Prop :=
  gtQ G a0 0 1 fun q1 => nnq q1 fun a2 => ptV G a2 2 9 (.int p1) fun G3 => gtQ G3 a0 0 1 fun q4 => nnq q4 fun a5 => ptV G3 a5 2 8 (.int p2) fun G6 => isO G6 a0 0 (∃ m7 m8 : Nat, m7 ≤ mc ∧ m8 ≤ ms ∧ hX0_lays j Λ a0 m7 m8 G6 fun G9 => post G9)
abbrev rhX0_puts (fr lo mc ms : Nat) : Room := { frames := fr + 5, cells := mc, slots := ms, locals := lo + 3246 }
theorem mhX0_puts (l : Launch) (Z : (Nat → Prop) → State → Heap → Prop) (D : va_G) (j : JX) (Λ : JLam) (fr lo : Nat) (E : JE l Z D j Λ fr lo) (a0 : Nat) (p1 : Int32) (p2 : Int32) (mc ms : Nat) (G : HG) (post : HG → Prop) (hf : hX0_puts j Λ a0 p1 p2 mc ms G post) : HMv l yX0_puts (ws_ yX0_puts cX0_puts 3 none) (rhX0_puts fr lo mc ms) D jC (jty j.1) Z G [.ref a0, .int p1, .int p2] post mc ms := by
  obtain ⟨MC, eMC⟩ : ∃ MC, MC = mc := ⟨_, rfl⟩
  obtain ⟨MS, eMS⟩ : ∃ MS, MS = ms := ⟨_, rfl⟩
  suffices goal : HMv l yX0_puts (ws_ yX0_puts cX0_puts 3 none) (rhX0_puts fr lo MC MS) D jC (jty j.1) Z G [.ref a0, .int p1, .int p2] post MC MS by rw [eMC, eMS] at goal; exact goal
  have hm0_ : 0 + mc ≤ MC ∧ 0 + ms ≤ MS := by omega
  clear eMC eMS
  refine h_openv E.1 (by decide) (by exact Nat.le_of_ble_eq_true rfl) (fun p e s m args below meth c ls A0 Q X hI hnd hnm hl hret => ?_)
  have X : XC p s m args meth c cX0_puts 3 RX0 D jC (jty j.1) A0 Z := X
  have hx := X.1
  have hb := X.2.1
  have hown := X.2.2.2.1
  have hts := X.2.2.2.2.1
  have hl : lv_has ls 3 [(0, .ref a0), (1, .int p1), (2, .int p2)] := by exact hl
  unfold hX0_puts at hf
  obtain ⟨H, eH⟩ : ∃ H, H = s.heap := ⟨_, rfl⟩
  obtain ⟨locs, eL⟩ : ∃ locs : List Loc, locs = [] := ⟨_, rfl⟩
  have hI : HI D jC G A0 s.heap H locs := by rw [eH, eL]; exact hI
  rw [← eL]
  obtain ⟨cells, eC⟩ : ∃ n : Nat, n = 0 := ⟨_, rfl⟩
  obtain ⟨slots, eS⟩ : ∃ n : Nat, n = 0 := ⟨_, rfl⟩
  have hm : cells + mc ≤ MC ∧ slots + ms ≤ MS := by rw [eC, eS]; exact hm0_
  suffices h : W p l e (rhX0_puts fr lo MC MS) s m args below meth c H locs cells slots Q (F0 m 0 ls []) by rw [eH, eC, eS] at h; exact h
  clear eH eL eC eS
  refine lv_aload_n hx hb dX0_puts_0 rfl (lv_at hl 0 rfl) ?_
  refine hr_gtQ X hI (rfl : jC.1[0]? = some (RX0, TX0, 20)) in_X0 1 (Nat.le_of_ble_eq_true rfl) hf q653 (fun _ h => h) dX0_puts_1 (fun q1 hf => ?_)
  refine lv_iload_n hx hb dX0_puts_4 rfl (lv_at hl 1 rfl) ?_
  obtain ⟨a2, ea2, hf⟩ := hf
  revert hl hf
  subst ea2
  intro hl hf
  have hl : lv_has ls 3 [(0, .ref a0), (1, .int p1), (2, .int p2)] := hl
  refine hr_ptN X hI (rfl : jC.1[2]? = some (RX2, TX2, 11)) in_X2 9 (Nat.le_of_ble_eq_true rfl) tyX2 tyX2_ok nmX2 hf (E.nw X q505 rfl) (fun _ h => h) rfl rfl rfl dX0_puts_5 (fun G3 H locs hf hI => ?_)
  refine lv_aload_n hx hb dX0_puts_8 rfl (lv_at hl 0 rfl) ?_
  refine hr_gtQ X hI (rfl : jC.1[0]? = some (RX0, TX0, 20)) in_X0 1 (Nat.le_of_ble_eq_true rfl) hf q653 (fun _ h => h) dX0_puts_9 (fun q4 hf => ?_)
  refine lv_iload_n hx hb dX0_puts_12 rfl (lv_at hl 2 rfl) ?_
  obtain ⟨a5, ea5, hf⟩ := hf
  revert hl hf
  subst ea5
  intro hl hf
  have hl : lv_has ls 3 [(0, .ref a0), (1, .int p1), (2, .int p2)] := hl
  refine hr_ptN X hI (rfl : jC.1[2]? = some (RX2, TX2, 11)) in_X2 8 (Nat.le_of_ble_eq_true rfl) tyX2 tyX2_ok nmX2 hf (E.nw X q502 rfl) (fun _ h => h) rfl rfl rfl dX0_puts_13 (fun G6 H locs hf hI => ?_)
  refine lv_aload_n hx hb dX0_puts_16 rfl (lv_at hl 0 rfl) ?_
  obtain ⟨_, _, hO, hf⟩ := hf
  obtain ⟨m7, m8, hb1, hb2, hf⟩ := hf
  refine h_kv X hI (h_runV (As := []) X hI (h_recv X hI hO (show jC.1[0]? = some (RX0, TX0, 20) from rfl)) (mhX0_lays l Z D j Λ fr lo E a0 m7 m8 G6 _ hf H.size) (cwV 0 hts (lw_V q1843 q1845 qs24 q167 q1846) rfl rfl rfl (by decide +kernel) (by show fr + 4 + 1 ≤ fr + 5 ∧ 8 + (2 + 11) + (lo + 3225) ≤ lo + 3246; omega)) rfl hl.1 (Nat.le_of_ble_eq_true rfl) dX0_puts_17 ⟨hmA hm.1 hb1, hmA hm.2 hb2⟩ rfl) (fun G9 H locs hf hI => ?_)
  have hm := And.intro (hmB hm.1 hb1) (hmB hm.2 hb2)
  clear hb1 hb2
  clear hO
  exact hret hf hI dX0_puts_20 (hmC hm.1) (hmC hm.2)
/-! MergeJudge.acts(II)I -/
def hX0_acts (j : JX) (Λ : JLam) (a0 : Nat) (p1 : Int32) (p2 : Int32) (mc ms : Nat) (G : HG) (post : Int32 → HG → Prop) : Prop :=
  gtQ G a0 0 1 fun q1 => nnq q1 fun a2 => gtQ G a2 2 2 fun q3 => nnq q3 fun a4 => isO G a4 15 (hJ2_size j Λ a4 G fun x6 G5 => (x6 = (20 : Int32) → (post ((-5) : Int32) G5)) ∧ (¬ x6 = (20 : Int32) → (gtQ G5 a0 0 1 fun q8 => nnq q8 fun a9 => gtI G5 a9 2 9 fun x10 => gtQ G5 a0 0 1 fun q11 => nnq q11 fun a12 => gtI G5 a12 2 8 fun x13 => gtQ G5 a0 0 1 fun q14 => nnq q14 fun a15 => gtQ G5 a15 2 2 fun q16 => 1 ≤ mc ∧ 1 ≤ ms ∧ mkO G5 (.inr (14, [.null])) fun a17 G18 => 1 ≤ mc - 1 ∧ 3 ≤ ms - 1 ∧ mkO G18 (.inr (56, .ref a0 :: ([x10, x13] : List Int32).map .int)) fun a19 G20 => hX14_init j Λ a17 a19 G20 fun G21 => nnq q16 fun a22 => isO G21 a22 15 (∃ m23 m24 : Nat, m23 ≤ mc - 1 - 1 ∧ m24 ≤ ms - 1 - 3 ∧ hJ2_add j Λ a22 (some a17) m23 m24 G21 fun x26 G25 => isO G25 a0 0 (∃ m27 m28 : Nat, m27 ≤ mc - 1 - 1 - m23 ∧ m28 ≤ ms - 1 - 3 - m24 ∧ hX0_puts j Λ a0 p1 p2 m27 m28 G25 fun G29 => isO G29 a0 0 (∃ m30 m31 : Nat, m30 ≤ mc - 1 - 1 - m23 - m27 ∧ m31 ≤ ms - 1 - 3 - m24 - m28 ∧ hX0_allIn j Λ a0 (1 : Int32) m30 m31 G29 fun x33 G32 => post x33 G32))))))
abbrev rhX0_acts (fr lo mc ms : Nat) : Room := { frames := fr + 7, cells := mc, slots := ms, locals := lo + 3268 }
theorem mhX0_acts (l : Launch) (Z : (Nat → Prop) → State → Heap → Prop) (D : va_G) (j : JX) (Λ : JLam) (fr lo : Nat) (E : JE l Z D j Λ fr lo) (a0 : Nat) (p1 : Int32) (p2 : Int32) (mc ms : Nat) (G : HG) (post : Int32 → HG → Prop) (hf : hX0_acts j Λ a0 p1 p2 mc ms G post) : HMi l yX0_acts (ws_ yX0_acts cX0_acts 5 (some .int)) (rhX0_acts fr lo mc ms) D jC (jty j.1) Z G [.ref a0, .int p1, .int p2] post mc ms := by
  obtain ⟨MC, eMC⟩ : ∃ MC, MC = mc := ⟨_, rfl⟩
  obtain ⟨MS, eMS⟩ : ∃ MS, MS = ms := ⟨_, rfl⟩
  suffices goal : HMi l yX0_acts (ws_ yX0_acts cX0_acts 5 (some .int)) (rhX0_acts fr lo MC MS) D jC (jty j.1) Z G [.ref a0, .int p1, .int p2] post MC MS by rw [eMC, eMS] at goal; exact goal
  have hm0_ : 0 + mc ≤ MC ∧ 0 + ms ≤ MS := by omega
  clear eMC eMS
  refine h_openi E.1 (by decide) (by exact Nat.le_of_ble_eq_true rfl) (fun p e s m args below meth c ls A0 Q X hI hnd hnm hl hret => ?_)
  have X : XC p s m args meth c cX0_acts 5 RX0 D jC (jty j.1) A0 Z := X
  have hx := X.1
  have hb := X.2.1
  have hown := X.2.2.2.1
  have hts := X.2.2.2.2.1
  have hl : lv_has ls 5 [(0, .ref a0), (1, .int p1), (2, .int p2)] := by exact hl
  unfold hX0_acts at hf
  obtain ⟨H, eH⟩ : ∃ H, H = s.heap := ⟨_, rfl⟩
  obtain ⟨locs, eL⟩ : ∃ locs : List Loc, locs = [] := ⟨_, rfl⟩
  have hI : HI D jC G A0 s.heap H locs := by rw [eH, eL]; exact hI
  rw [← eL]
  obtain ⟨cells, eC⟩ : ∃ n : Nat, n = 0 := ⟨_, rfl⟩
  obtain ⟨slots, eS⟩ : ∃ n : Nat, n = 0 := ⟨_, rfl⟩
  have hm : cells + mc ≤ MC ∧ slots + ms ≤ MS := by rw [eC, eS]; exact hm0_
  suffices h : W p l e (rhX0_acts fr lo MC MS) s m args below meth c H locs cells slots Q (F0 m 0 ls []) by rw [eH, eC, eS] at h; exact h
  clear eH eL eC eS
  refine lv_aload_n hx hb dX0_acts_0 rfl (lv_at hl 0 rfl) ?_
  refine hr_gtQ X hI (rfl : jC.1[0]? = some (RX0, TX0, 20)) in_X0 1 (Nat.le_of_ble_eq_true rfl) hf q653 (fun _ h => h) dX0_acts_1 (fun q1 hf => ?_)
  obtain ⟨a2, ea2, hf⟩ := hf
  revert hl hf
  subst ea2
  intro hl hf
  have hl : lv_has ls 5 [(0, .ref a0), (1, .int p1), (2, .int p2)] := hl
  refine hr_gtQN X hI (rfl : jC.1[2]? = some (RX2, TX2, 11)) in_X2 2 (Nat.le_of_ble_eq_true rfl) hf (E.nw X q485 rfl) (fun _ h => h) dX0_acts_4 (fun q3 hf => ?_)
  obtain ⟨a4, ea4, hf⟩ := hf
  revert hl hf
  subst ea4
  intro hl hf
  have hl : lv_has ls 5 [(0, .ref a0), (1, .int p1), (2, .int p2)] := hl
  obtain ⟨_, _, hO, hf⟩ := hf
  refine h_Fki X hI (h_runF (As := []) X hI (X.2.2.2.2.2.1.1 15 _ (show jC.1[15]? = some (RJ2, TJ2, 3) from rfl)).2 (h_recv X hI hO (show jC.1[15]? = some (RJ2, TJ2, 3) from rfl)) (mhJ2_size l Z D j Λ fr lo E a4 G _ hf H.size) (cwF 0 hts q1848 q1771 q1773 q172 q1775 ((E.w X).2.2.1 _ (List.mem_of_getElem? (show jFw[0]? = _ from rfl))) rfl rfl (by decide +kernel) (by show fr + 1 + 1 ≤ fr + 7 ∧ 8 + (1 + 11) + (lo + 40) ≤ lo + 3268; omega)) rfl hl.1 (Nat.le_of_ble_eq_true rfl) dX0_acts_7 ⟨hm0 hm.1, hm0 hm.2⟩ rfl) (fun x6 G5 H locs hf hI => ?_)
  clear hO
  refine lv_bipush (v := 20) hx hb dX0_acts_12 (by decide) ?_
  refine lv_icmp_ne (tgt := 20) hx hb dX0_acts_14 (by decide) (fun c7 => ?_) (fun c7 => ?_)
  · have hf := hf.2 c7
    refine lv_aload_n hx hb dX0_acts_20 rfl (lv_at hl 0 rfl) ?_
    refine hr_gtQ X hI (rfl : jC.1[0]? = some (RX0, TX0, 20)) in_X0 1 (Nat.le_of_ble_eq_true rfl) hf q653 (fun _ h => h) dX0_acts_21 (fun q8 hf => ?_)
    obtain ⟨a9, ea9, hf⟩ := hf
    revert hl hf
    subst ea9
    intro hl hf
    have hl : lv_has ls 5 [(0, .ref a0), (1, .int p1), (2, .int p2)] := hl
    refine hr_gtIN X hI (rfl : jC.1[2]? = some (RX2, TX2, 11)) in_X2 9 (Nat.le_of_ble_eq_true rfl) hf (E.nw X q505 rfl) (fun _ h => h) dX0_acts_24 (fun x10 hf => ?_)
    refine lv_istore_n (lv' := [(3, .int x10), (0, .ref a0), (1, .int p1), (2, .int p2)]) hx hb dX0_acts_27 rfl hl (by decide) rfl (fun ls hl => ?_)
    refine lv_aload_n hx hb dX0_acts_28 rfl (lv_at hl 1 rfl) ?_
    refine hr_gtQ X hI (rfl : jC.1[0]? = some (RX0, TX0, 20)) in_X0 1 (Nat.le_of_ble_eq_true rfl) hf q653 (fun _ h => h) dX0_acts_29 (fun q11 hf => ?_)
    obtain ⟨a12, ea12, hf⟩ := hf
    revert hl hf
    subst ea12
    intro hl hf
    have hl : lv_has ls 5 [(3, .int x10), (0, .ref a0), (1, .int p1), (2, .int p2)] := hl
    refine hr_gtIN X hI (rfl : jC.1[2]? = some (RX2, TX2, 11)) in_X2 8 (Nat.le_of_ble_eq_true rfl) hf (E.nw X q502 rfl) (fun _ h => h) dX0_acts_32 (fun x13 hf => ?_)
    refine lv_istore (lv' := [(4, .int x13), (3, .int x10), (0, .ref a0), (1, .int p1), (2, .int p2)]) hx hb dX0_acts_35 hl (by decide) rfl (fun ls hl => ?_)
    refine lv_aload_n hx hb dX0_acts_37 rfl (lv_at hl 2 rfl) ?_
    refine hr_gtQ X hI (rfl : jC.1[0]? = some (RX0, TX0, 20)) in_X0 1 (Nat.le_of_ble_eq_true rfl) hf q653 (fun _ h => h) dX0_acts_38 (fun q14 hf => ?_)
    obtain ⟨a15, ea15, hf⟩ := hf
    revert hl hf
    subst ea15
    intro hl hf
    have hl : lv_has ls 5 [(4, .int x13), (3, .int x10), (0, .ref a0), (1, .int p1), (2, .int p2)] := hl
    refine hr_gtQN X hI (rfl : jC.1[2]? = some (RX2, TX2, 11)) in_X2 2 (Nat.le_of_ble_eq_true rfl) hf (E.nw X q485 rfl) (fun _ h => h) dX0_acts_41 (fun q16 hf => ?_)
    obtain ⟨hb1, hb2, hf⟩ := hf
    refine hr_new X hI (rfl : jC.1[14]? = some (RX14, TX14, 1)) in_X14 tyX14 tyX14_ok hf q2532 q2533 q215 (by decide) (hmA hm.1 hb1) (hmA hm.2 hb2) dX0_acts_44 (fun a17 G18 H hf hI => ?_)
    have hm := And.intro (hmB hm.1 hb1) (hmB hm.2 hb2)
    clear hb1 hb2
    refine lv_dup hx hb dX0_acts_47 rfl ?_
    refine lv_aload_n hx hb dX0_acts_48 rfl (lv_at hl 2 rfl) ?_
    refine lv_iload_n hx hb dX0_acts_49 rfl (lv_at hl 1 rfl) ?_
    refine lv_iload hx hb dX0_acts_50 (lv_at hl 0 rfl) ?_
    obtain ⟨hb1, hb2, hf⟩ := hf
    refine E.2.2.2.1 33 yX0_acts 52 556 a0 [x10, x13] rfl (rest := [.ref a17, .ref a17, va_rf q16]) X hI hnd hl.1 (by cases q16 <;> exact Nat.le_of_ble_eq_true rfl) dX0_acts_52 (by show 3200 ≤ lo + 3268; omega) (hmA hm.1 hb1) (hmA hm.2 hb2) hf (fun a19 G20 H hf hI => ?_)
    have hm := And.intro (hmB hm.1 hb1) (hmB hm.2 hb2)
    clear hb1 hb2
    refine h_kv X hI (h_runI (As := [.ref a19]) X hI (mhX14_init l Z D j Λ fr lo E a17 a19 G20 _ hf H.size) (cwIn 1 hts q2541 q2542 q215 q2543 rfl rfl rfl (by decide +kernel) (by show fr + 1 + 1 ≤ fr + 7 ∧ 8 + (2 + 11) + (lo + 40) ≤ lo + 3268; omega)) rfl hl.1 (by cases q16 <;> exact Nat.le_of_ble_eq_true rfl) dX0_acts_57 ⟨hm0 hm.1, hm0 hm.2⟩ rfl) (fun G21 H locs hf hI => ?_)
    obtain ⟨a22, ea22, hf⟩ := hf
    revert hl hf
    subst ea22
    intro hl hf
    have hl : lv_has ls 5 [(4, .int x13), (3, .int x10), (0, .ref a0), (1, .int p1), (2, .int p2)] := hl
    obtain ⟨_, _, hO, hf⟩ := hf
    obtain ⟨m23, m24, hb1, hb2, hf⟩ := hf
    refine h_Fki X hI (h_runF (As := [va_rf (some a17)]) X hI (X.2.2.2.2.2.1.1 15 _ (show jC.1[15]? = some (RJ2, TJ2, 3) from rfl)).2 (h_recv X hI hO (show jC.1[15]? = some (RJ2, TJ2, 3) from rfl)) (mhJ2_add l Z D j Λ fr lo E a22 (some a17) m23 m24 G21 _ hf H.size) (cwF 1 hts q2551 q1806 q1808 q172 q1810 ((E.w X).2.2.1 _ (List.mem_of_getElem? (show jFw[1]? = _ from rfl))) rfl rfl (by decide +kernel) (by show fr + 6 + 1 ≤ fr + 7 ∧ 8 + (2 + 11) + (lo + 150) ≤ lo + 3268; omega)) rfl hl.1 (Nat.le_of_ble_eq_true rfl) dX0_acts_60 ⟨hmA hm.1 hb1, hmA hm.2 hb2⟩ rfl) (fun x26 G25 H locs hf hI => ?_)
    have hm := And.intro (hmB hm.1 hb1) (hmB hm.2 hb2)
    clear hb1 hb2
    clear hO
    refine lv_pop hx hb dX0_acts_65 rfl ?_
    refine lv_aload_n hx hb dX0_acts_66 rfl (lv_at hl 2 rfl) ?_
    refine lv_iload_n hx hb dX0_acts_67 rfl (lv_at hl 3 rfl) ?_
    refine lv_iload_n hx hb dX0_acts_68 rfl (lv_at hl 4 rfl) ?_
    obtain ⟨_, _, hO, hf⟩ := hf
    obtain ⟨m27, m28, hb1, hb2, hf⟩ := hf
    refine h_kv X hI (h_runV (As := [.int p1, .int p2]) X hI (h_recv X hI hO (show jC.1[0]? = some (RX0, TX0, 20) from rfl)) (mhX0_puts l Z D j Λ fr lo E a0 p1 p2 m27 m28 G25 _ hf H.size) (cwV 2 hts (lw_V q2537 q2539 qs88 q167 q2540) rfl rfl rfl (by decide +kernel) (by show fr + 5 + 1 ≤ fr + 7 ∧ 8 + (3 + 11) + (lo + 3246) ≤ lo + 3268; omega)) rfl hl.1 (Nat.le_of_ble_eq_true rfl) dX0_acts_69 ⟨hmA hm.1 hb1, hmA hm.2 hb2⟩ rfl) (fun G29 H locs hf hI => ?_)
    have hm := And.intro (hmB hm.1 hb1) (hmB hm.2 hb2)
    clear hb1 hb2
    clear hO
    refine lv_aload_n hx hb dX0_acts_72 rfl (lv_at hl 2 rfl) ?_
    refine lv_iconst (v := 1) hx hb dX0_acts_73 (by decide) ?_
    obtain ⟨_, _, hO, hf⟩ := hf
    obtain ⟨m30, m31, hb1, hb2, hf⟩ := hf
    refine h_ki X hI (h_runV (As := [.int 1]) X hI (h_recv X hI hO (show jC.1[0]? = some (RX0, TX0, 20) from rfl)) (mhX0_allIn l Z D j Λ fr lo E a0 (1 : Int32) m30 m31 G29 _ hf H.size) (cwV 1 hts (lw_V q2201 q2203 qs60 q167 q2204) rfl rfl rfl (by decide +kernel) (by show fr + 6 + 1 ≤ fr + 7 ∧ 8 + (2 + 11) + (lo + 3200) ≤ lo + 3268; omega)) rfl hl.1 (Nat.le_of_ble_eq_true rfl) dX0_acts_74 ⟨hmA hm.1 hb1, hmA hm.2 hb2⟩ rfl) (fun x33 G32 H locs hf hI => ?_)
    have hm := And.intro (hmB hm.1 hb1) (hmB hm.2 hb2)
    clear hb1 hb2
    clear hO
    exact hret hf hI dX0_acts_77 (hmC hm.1) (hmC hm.2)
  · have hf := hf.1 c7
    refine lv_bipush (v := -5) hx hb dX0_acts_17 (by decide) ?_
    exact hret hf hI dX0_acts_19 (hmC hm.1) (hmC hm.2)
/-! MergeJudge.lock(I)I -/
def hX0_lock (j : JX) (Λ : JLam) (a0 : Nat) (p1 : Int32) (mc ms : Nat) (G : HG) (post : Int32 → HG → Prop) : Prop :=
  isO G a0 0 (hX0_isOp j Λ a0 p1 G fun x2 G1 => (x2 = 0 → (post ((-2) : Int32) G1)) ∧ (¬ x2 = 0 → (gtQ G1 a0 0 1 fun q4 => nnq q4 fun a5 => gtI G1 a5 2 9 fun x6 => gtQ G1 a0 0 1 fun q7 => nnq q7 fun a8 => gtI G1 a8 2 8 fun x9 => isO G1 a0 0 (∃ m10 m11 : Nat, m10 ≤ mc ∧ m11 ≤ ms ∧ hX0_acts j Λ a0 (x6 ||| ((1 : Int32) <<< (p1 &&& 31))) x9 m10 m11 G1 fun x13 G12 => post x13 G12))))
abbrev rhX0_lock (fr lo mc ms : Nat) : Room := { frames := fr + 8, cells := mc, slots := ms, locals := lo + 3292 }
theorem mhX0_lock (l : Launch) (Z : (Nat → Prop) → State → Heap → Prop) (D : va_G) (j : JX) (Λ : JLam) (fr lo : Nat) (E : JE l Z D j Λ fr lo) (a0 : Nat) (p1 : Int32) (mc ms : Nat) (G : HG) (post : Int32 → HG → Prop) (hf : hX0_lock j Λ a0 p1 mc ms G post) : HMi l yX0_lock (ws_ yX0_lock cX0_lock 2 (some .int)) (rhX0_lock fr lo mc ms) D jC (jty j.1) Z G [.ref a0, .int p1] post mc ms := by
  obtain ⟨MC, eMC⟩ : ∃ MC, MC = mc := ⟨_, rfl⟩
  obtain ⟨MS, eMS⟩ : ∃ MS, MS = ms := ⟨_, rfl⟩
  suffices goal : HMi l yX0_lock (ws_ yX0_lock cX0_lock 2 (some .int)) (rhX0_lock fr lo MC MS) D jC (jty j.1) Z G [.ref a0, .int p1] post MC MS by rw [eMC, eMS] at goal; exact goal
  have hm0_ : 0 + mc ≤ MC ∧ 0 + ms ≤ MS := by omega
  clear eMC eMS
  refine h_openi E.1 (by decide) (by exact Nat.le_of_ble_eq_true rfl) (fun p e s m args below meth c ls A0 Q X hI hnd hnm hl hret => ?_)
  have X : XC p s m args meth c cX0_lock 2 RX0 D jC (jty j.1) A0 Z := X
  have hx := X.1
  have hb := X.2.1
  have hown := X.2.2.2.1
  have hts := X.2.2.2.2.1
  have hl : lv_has ls 2 [(0, .ref a0), (1, .int p1)] := by exact hl
  unfold hX0_lock at hf
  obtain ⟨H, eH⟩ : ∃ H, H = s.heap := ⟨_, rfl⟩
  obtain ⟨locs, eL⟩ : ∃ locs : List Loc, locs = [] := ⟨_, rfl⟩
  have hI : HI D jC G A0 s.heap H locs := by rw [eH, eL]; exact hI
  rw [← eL]
  obtain ⟨cells, eC⟩ : ∃ n : Nat, n = 0 := ⟨_, rfl⟩
  obtain ⟨slots, eS⟩ : ∃ n : Nat, n = 0 := ⟨_, rfl⟩
  have hm : cells + mc ≤ MC ∧ slots + ms ≤ MS := by rw [eC, eS]; exact hm0_
  suffices h : W p l e (rhX0_lock fr lo MC MS) s m args below meth c H locs cells slots Q (F0 m 0 ls []) by rw [eH, eC, eS] at h; exact h
  clear eH eL eC eS
  refine lv_aload_n hx hb dX0_lock_0 rfl (lv_at hl 0 rfl) ?_
  refine lv_iload_n hx hb dX0_lock_1 rfl (lv_at hl 1 rfl) ?_
  obtain ⟨_, _, hO, hf⟩ := hf
  refine h_ki X hI (h_runV (As := [.int p1]) X hI (h_recv X hI hO (show jC.1[0]? = some (RX0, TX0, 20) from rfl)) (mhX0_isOp l Z D j Λ fr lo E a0 p1 G _ hf H.size) (cwV 1 hts (lw_V q2047 q2049 qs51 q167 q2050) rfl rfl rfl (by decide +kernel) (by show fr + 2 + 1 ≤ fr + 8 ∧ 8 + (2 + 11) + (lo + 65) ≤ lo + 3292; omega)) rfl hl.1 (Nat.le_of_ble_eq_true rfl) dX0_lock_2 ⟨hm0 hm.1, hm0 hm.2⟩ rfl) (fun x2 G1 H locs hf hI => ?_)
  clear hO
  refine lv_if_eq (tgt := 33) hx hb dX0_lock_5 (by decide) (fun c3 => ?_) (fun c3 => ?_)
  · have hf := hf.1 c3
    refine lv_bipush (v := -2) hx hb dX0_lock_33 (by decide) ?_
    exact hret hf hI dX0_lock_35 (hmC hm.1) (hmC hm.2)
  · have hf := hf.2 c3
    refine lv_aload_n hx hb dX0_lock_8 rfl (lv_at hl 0 rfl) ?_
    refine lv_aload_n hx hb dX0_lock_9 rfl (lv_at hl 0 rfl) ?_
    refine hr_gtQ X hI (rfl : jC.1[0]? = some (RX0, TX0, 20)) in_X0 1 (Nat.le_of_ble_eq_true rfl) hf q653 (fun _ h => h) dX0_lock_10 (fun q4 hf => ?_)
    obtain ⟨a5, ea5, hf⟩ := hf
    revert hl hf
    subst ea5
    intro hl hf
    have hl : lv_has ls 2 [(0, .ref a0), (1, .int p1)] := hl
    refine hr_gtIN X hI (rfl : jC.1[2]? = some (RX2, TX2, 11)) in_X2 9 (Nat.le_of_ble_eq_true rfl) hf (E.nw X q505 rfl) (fun _ h => h) dX0_lock_13 (fun x6 hf => ?_)
    refine lv_iconst (v := 1) hx hb dX0_lock_16 (by decide) ?_
    refine lv_iload_n hx hb dX0_lock_17 rfl (lv_at hl 1 rfl) ?_
    refine lv_ishl hx hb dX0_lock_18 ?_
    refine lv_ior hx hb dX0_lock_19 ?_
    refine lv_aload_n hx hb dX0_lock_20 rfl (lv_at hl 0 rfl) ?_
    refine hr_gtQ X hI (rfl : jC.1[0]? = some (RX0, TX0, 20)) in_X0 1 (Nat.le_of_ble_eq_true rfl) hf q653 (fun _ h => h) dX0_lock_21 (fun q7 hf => ?_)
    obtain ⟨a8, ea8, hf⟩ := hf
    revert hl hf
    subst ea8
    intro hl hf
    have hl : lv_has ls 2 [(0, .ref a0), (1, .int p1)] := hl
    refine hr_gtIN X hI (rfl : jC.1[2]? = some (RX2, TX2, 11)) in_X2 8 (Nat.le_of_ble_eq_true rfl) hf (E.nw X q502 rfl) (fun _ h => h) dX0_lock_24 (fun x9 hf => ?_)
    obtain ⟨_, _, hO, hf⟩ := hf
    obtain ⟨m10, m11, hb1, hb2, hf⟩ := hf
    refine h_ki X hI (h_runV (As := [.int (x6 ||| ((1 : Int32) <<< (p1 &&& 31))), .int x9]) X hI (h_recv X hI hO (show jC.1[0]? = some (RX0, TX0, 20) from rfl)) (mhX0_acts l Z D j Λ fr lo E a0 (x6 ||| ((1 : Int32) <<< (p1 &&& 31))) x9 m10 m11 G1 _ hf H.size) (cwV 2 hts (lw_V q2528 q2530 qs86 q167 q2531) rfl rfl rfl (by decide +kernel) (by show fr + 7 + 1 ≤ fr + 8 ∧ 8 + (5 + 11) + (lo + 3268) ≤ lo + 3292; omega)) rfl hl.1 (Nat.le_of_ble_eq_true rfl) dX0_lock_27 ⟨hmA hm.1 hb1, hmA hm.2 hb2⟩ rfl) (fun x13 G12 H locs hf hI => ?_)
    have hm := And.intro (hmB hm.1 hb1) (hmB hm.2 hb2)
    clear hb1 hb2
    clear hO
    refine lv_goto (tgt := 35) hx hb dX0_lock_30 (by decide) ?_
    exact hret hf hI dX0_lock_35 (hmC hm.1) (hmC hm.2)
/-! MergeJudge.lambda$acts$24(II)V -/
def hX0_lambda_acts_24 (j : JX) (Λ : JLam) (a0 : Nat) (p1 : Int32) (p2 : Int32) (mc ms : Nat) (G : HG) (post : HG → Prop) : Prop :=
  isO G a0 0 (∃ m1 m2 : Nat, m1 ≤ mc ∧ m2 ≤ ms ∧ hX0_puts j Λ a0 p1 p2 m1 m2 G fun G3 => post G3)
abbrev rhX0_lambda_acts_24 (fr lo mc ms : Nat) : Room := { frames := fr + 6, cells := mc, slots := ms, locals := lo + 3268 }
theorem mhX0_lambda_acts_24 (l : Launch) (Z : (Nat → Prop) → State → Heap → Prop) (D : va_G) (j : JX) (Λ : JLam) (fr lo : Nat) (E : JE l Z D j Λ fr lo) (a0 : Nat) (p1 : Int32) (p2 : Int32) (mc ms : Nat) (G : HG) (post : HG → Prop) (hf : hX0_lambda_acts_24 j Λ a0 p1 p2 mc ms G post) : HMv l yX0_lambda_acts_24 (ws_ yX0_lambda_acts_24 cX0_lambda_acts_24 3 none) (rhX0_lambda_acts_24 fr lo mc ms) D jC (jty j.1) Z G [.ref a0, .int p1, .int p2] post mc ms := by
  obtain ⟨MC, eMC⟩ : ∃ MC, MC = mc := ⟨_, rfl⟩
  obtain ⟨MS, eMS⟩ : ∃ MS, MS = ms := ⟨_, rfl⟩
  suffices goal : HMv l yX0_lambda_acts_24 (ws_ yX0_lambda_acts_24 cX0_lambda_acts_24 3 none) (rhX0_lambda_acts_24 fr lo MC MS) D jC (jty j.1) Z G [.ref a0, .int p1, .int p2] post MC MS by rw [eMC, eMS] at goal; exact goal
  have hm0_ : 0 + mc ≤ MC ∧ 0 + ms ≤ MS := by omega
  clear eMC eMS
  refine h_openv E.1 (by decide) (by exact Nat.le_of_ble_eq_true rfl) (fun p e s m args below meth c ls A0 Q X hI hnd hnm hl hret => ?_)
  have X : XC p s m args meth c cX0_lambda_acts_24 3 RX0 D jC (jty j.1) A0 Z := X
  have hx := X.1
  have hb := X.2.1
  have hown := X.2.2.2.1
  have hts := X.2.2.2.2.1
  have hl : lv_has ls 3 [(0, .ref a0), (1, .int p1), (2, .int p2)] := by exact hl
  unfold hX0_lambda_acts_24 at hf
  obtain ⟨H, eH⟩ : ∃ H, H = s.heap := ⟨_, rfl⟩
  obtain ⟨locs, eL⟩ : ∃ locs : List Loc, locs = [] := ⟨_, rfl⟩
  have hI : HI D jC G A0 s.heap H locs := by rw [eH, eL]; exact hI
  rw [← eL]
  obtain ⟨cells, eC⟩ : ∃ n : Nat, n = 0 := ⟨_, rfl⟩
  obtain ⟨slots, eS⟩ : ∃ n : Nat, n = 0 := ⟨_, rfl⟩
  have hm : cells + mc ≤ MC ∧ slots + ms ≤ MS := by rw [eC, eS]; exact hm0_
  suffices h : W p l e (rhX0_lambda_acts_24 fr lo MC MS) s m args below meth c H locs cells slots Q (F0 m 0 ls []) by rw [eH, eC, eS] at h; exact h
  clear eH eL eC eS
  refine lv_aload_n hx hb dX0_lambda_acts_24_0 rfl (lv_at hl 0 rfl) ?_
  refine lv_iload_n hx hb dX0_lambda_acts_24_1 rfl (lv_at hl 1 rfl) ?_
  refine lv_iload_n hx hb dX0_lambda_acts_24_2 rfl (lv_at hl 2 rfl) ?_
  obtain ⟨_, _, hO, hf⟩ := hf
  obtain ⟨m1, m2, hb1, hb2, hf⟩ := hf
  refine h_kv X hI (h_runV (As := [.int p1, .int p2]) X hI (h_recv X hI hO (show jC.1[0]? = some (RX0, TX0, 20) from rfl)) (mhX0_puts l Z D j Λ fr lo E a0 p1 p2 m1 m2 G _ hf H.size) (cwV 2 hts (lw_V q2537 q2539 qs88 q167 q2540) rfl rfl rfl (by decide +kernel) (by show fr + 5 + 1 ≤ fr + 6 ∧ 8 + (3 + 11) + (lo + 3246) ≤ lo + 3268; omega)) rfl hl.1 (Nat.le_of_ble_eq_true rfl) dX0_lambda_acts_24_3 ⟨hmA hm.1 hb1, hmA hm.2 hb2⟩ rfl) (fun G3 H locs hf hI => ?_)
  have hm := And.intro (hmB hm.1 hb1) (hmB hm.2 hb2)
  clear hb1 hb2
  clear hO
  exact hret hf hI dX0_lambda_acts_24_6 (hmC hm.1) (hmC hm.2)
/-! MergeJudge.frees(I)I -/
def hX0_frees (j : JX) (Λ : JLam) (a0 : Nat) (p1 : Int32) (mc ms : Nat) (G : HG) (post : Int32 → HG → Prop) : Prop :=
  isO G a0 0 (hX0_isOp j Λ a0 p1 G fun x2 G1 => (x2 = 0 → (post ((-2) : Int32) G1)) ∧ (¬ x2 = 0 → (gtQ G1 a0 0 1 fun q4 => nnq q4 fun a5 => gtI G1 a5 2 9 fun x6 => gtQ G1 a0 0 1 fun q7 => nnq q7 fun a8 => gtI G1 a8 2 8 fun x9 => isO G1 a0 0 (∃ m10 m11 : Nat, m10 ≤ mc ∧ m11 ≤ ms ∧ hX0_acts j Λ a0 (x6 &&& (((1 : Int32) <<< (p1 &&& 31)) ^^^ (-1))) x9 m10 m11 G1 fun x13 G12 => post x13 G12))))
abbrev rhX0_frees (fr lo mc ms : Nat) : Room := { frames := fr + 8, cells := mc, slots := ms, locals := lo + 3292 }
theorem mhX0_frees (l : Launch) (Z : (Nat → Prop) → State → Heap → Prop) (D : va_G) (j : JX) (Λ : JLam) (fr lo : Nat) (E : JE l Z D j Λ fr lo) (a0 : Nat) (p1 : Int32) (mc ms : Nat) (G : HG) (post : Int32 → HG → Prop) (hf : hX0_frees j Λ a0 p1 mc ms G post) : HMi l yX0_frees (ws_ yX0_frees cX0_frees 2 (some .int)) (rhX0_frees fr lo mc ms) D jC (jty j.1) Z G [.ref a0, .int p1] post mc ms := by
  obtain ⟨MC, eMC⟩ : ∃ MC, MC = mc := ⟨_, rfl⟩
  obtain ⟨MS, eMS⟩ : ∃ MS, MS = ms := ⟨_, rfl⟩
  suffices goal : HMi l yX0_frees (ws_ yX0_frees cX0_frees 2 (some .int)) (rhX0_frees fr lo MC MS) D jC (jty j.1) Z G [.ref a0, .int p1] post MC MS by rw [eMC, eMS] at goal; exact goal
  have hm0_ : 0 + mc ≤ MC ∧ 0 + ms ≤ MS := by omega
  clear eMC eMS
  refine h_openi E.1 (by decide) (by exact Nat.le_of_ble_eq_true rfl) (fun p e s m args below meth c ls A0 Q X hI hnd hnm hl hret => ?_)
  have X : XC p s m args meth c cX0_frees 2 RX0 D jC (jty j.1) A0 Z := X
  have hx := X.1
  have hb := X.2.1
  have hown := X.2.2.2.1
  have hts := X.2.2.2.2.1
  have hl : lv_has ls 2 [(0, .ref a0), (1, .int p1)] := by exact hl
  unfold hX0_frees at hf
  obtain ⟨H, eH⟩ : ∃ H, H = s.heap := ⟨_, rfl⟩
  obtain ⟨locs, eL⟩ : ∃ locs : List Loc, locs = [] := ⟨_, rfl⟩
  have hI : HI D jC G A0 s.heap H locs := by rw [eH, eL]; exact hI
  rw [← eL]
  obtain ⟨cells, eC⟩ : ∃ n : Nat, n = 0 := ⟨_, rfl⟩
  obtain ⟨slots, eS⟩ : ∃ n : Nat, n = 0 := ⟨_, rfl⟩
  have hm : cells + mc ≤ MC ∧ slots + ms ≤ MS := by rw [eC, eS]; exact hm0_
  suffices h : W p l e (rhX0_frees fr lo MC MS) s m args below meth c H locs cells slots Q (F0 m 0 ls []) by rw [eH, eC, eS] at h; exact h
  clear eH eL eC eS
  refine lv_aload_n hx hb dX0_frees_0 rfl (lv_at hl 0 rfl) ?_
  refine lv_iload_n hx hb dX0_frees_1 rfl (lv_at hl 1 rfl) ?_
  obtain ⟨_, _, hO, hf⟩ := hf
  refine h_ki X hI (h_runV (As := [.int p1]) X hI (h_recv X hI hO (show jC.1[0]? = some (RX0, TX0, 20) from rfl)) (mhX0_isOp l Z D j Λ fr lo E a0 p1 G _ hf H.size) (cwV 1 hts (lw_V q2047 q2049 qs51 q167 q2050) rfl rfl rfl (by decide +kernel) (by show fr + 2 + 1 ≤ fr + 8 ∧ 8 + (2 + 11) + (lo + 65) ≤ lo + 3292; omega)) rfl hl.1 (Nat.le_of_ble_eq_true rfl) dX0_frees_2 ⟨hm0 hm.1, hm0 hm.2⟩ rfl) (fun x2 G1 H locs hf hI => ?_)
  clear hO
  refine lv_if_eq (tgt := 35) hx hb dX0_frees_5 (by decide) (fun c3 => ?_) (fun c3 => ?_)
  · have hf := hf.1 c3
    refine lv_bipush (v := -2) hx hb dX0_frees_35 (by decide) ?_
    exact hret hf hI dX0_frees_37 (hmC hm.1) (hmC hm.2)
  · have hf := hf.2 c3
    refine lv_aload_n hx hb dX0_frees_8 rfl (lv_at hl 0 rfl) ?_
    refine lv_aload_n hx hb dX0_frees_9 rfl (lv_at hl 0 rfl) ?_
    refine hr_gtQ X hI (rfl : jC.1[0]? = some (RX0, TX0, 20)) in_X0 1 (Nat.le_of_ble_eq_true rfl) hf q653 (fun _ h => h) dX0_frees_10 (fun q4 hf => ?_)
    obtain ⟨a5, ea5, hf⟩ := hf
    revert hl hf
    subst ea5
    intro hl hf
    have hl : lv_has ls 2 [(0, .ref a0), (1, .int p1)] := hl
    refine hr_gtIN X hI (rfl : jC.1[2]? = some (RX2, TX2, 11)) in_X2 9 (Nat.le_of_ble_eq_true rfl) hf (E.nw X q505 rfl) (fun _ h => h) dX0_frees_13 (fun x6 hf => ?_)
    refine lv_iconst (v := 1) hx hb dX0_frees_16 (by decide) ?_
    refine lv_iload_n hx hb dX0_frees_17 rfl (lv_at hl 1 rfl) ?_
    refine lv_ishl hx hb dX0_frees_18 ?_
    refine lv_iconst (v := -1) hx hb dX0_frees_19 (by decide) ?_
    refine lv_ixor hx hb dX0_frees_20 ?_
    refine lv_iand hx hb dX0_frees_21 ?_
    refine lv_aload_n hx hb dX0_frees_22 rfl (lv_at hl 0 rfl) ?_
    refine hr_gtQ X hI (rfl : jC.1[0]? = some (RX0, TX0, 20)) in_X0 1 (Nat.le_of_ble_eq_true rfl) hf q653 (fun _ h => h) dX0_frees_23 (fun q7 hf => ?_)
    obtain ⟨a8, ea8, hf⟩ := hf
    revert hl hf
    subst ea8
    intro hl hf
    have hl : lv_has ls 2 [(0, .ref a0), (1, .int p1)] := hl
    refine hr_gtIN X hI (rfl : jC.1[2]? = some (RX2, TX2, 11)) in_X2 8 (Nat.le_of_ble_eq_true rfl) hf (E.nw X q502 rfl) (fun _ h => h) dX0_frees_26 (fun x9 hf => ?_)
    obtain ⟨_, _, hO, hf⟩ := hf
    obtain ⟨m10, m11, hb1, hb2, hf⟩ := hf
    refine h_ki X hI (h_runV (As := [.int (x6 &&& (((1 : Int32) <<< (p1 &&& 31)) ^^^ (-1))), .int x9]) X hI (h_recv X hI hO (show jC.1[0]? = some (RX0, TX0, 20) from rfl)) (mhX0_acts l Z D j Λ fr lo E a0 (x6 &&& (((1 : Int32) <<< (p1 &&& 31)) ^^^ (-1))) x9 m10 m11 G1 _ hf H.size) (cwV 2 hts (lw_V q2528 q2530 qs86 q167 q2531) rfl rfl rfl (by decide +kernel) (by show fr + 7 + 1 ≤ fr + 8 ∧ 8 + (5 + 11) + (lo + 3268) ≤ lo + 3292; omega)) rfl hl.1 (Nat.le_of_ble_eq_true rfl) dX0_frees_29 ⟨hmA hm.1 hb1, hmA hm.2 hb2⟩ rfl) (fun x13 G12 H locs hf hI => ?_)
    have hm := And.intro (hmB hm.1 hb1) (hmB hm.2 hb2)
    clear hb1 hb2
    clear hO
    refine lv_goto (tgt := 37) hx hb dX0_frees_32 (by decide) ?_
    exact hret hf hI dX0_frees_37 (hmC hm.1) (hmC hm.2)
/-! MergeJudge.drops(I)I -/
def hX0_drops (j : JX) (Λ : JLam) (a0 : Nat) (p1 : Int32) (mc ms : Nat) (G : HG) (post : Int32 → HG → Prop) : Prop :=
  isO G a0 0 (hX0_isRule j Λ a0 p1 G fun x2 G1 => (x2 = 0 → (post ((-2) : Int32) G1)) ∧ (¬ x2 = 0 → (gtQ G1 a0 0 1 fun q4 => nnq q4 fun a5 => gtI G1 a5 2 9 fun x6 => gtQ G1 a0 0 1 fun q7 => nnq q7 fun a8 => gtI G1 a8 2 8 fun x9 => isO G1 a0 0 (∃ m10 m11 : Nat, m10 ≤ mc ∧ m11 ≤ ms ∧ hX0_acts j Λ a0 x6 (x9 ||| ((1 : Int32) <<< (p1 &&& 31))) m10 m11 G1 fun x13 G12 => post x13 G12))))
abbrev rhX0_drops (fr lo mc ms : Nat) : Room := { frames := fr + 8, cells := mc, slots := ms, locals := lo + 3292 }
theorem mhX0_drops (l : Launch) (Z : (Nat → Prop) → State → Heap → Prop) (D : va_G) (j : JX) (Λ : JLam) (fr lo : Nat) (E : JE l Z D j Λ fr lo) (a0 : Nat) (p1 : Int32) (mc ms : Nat) (G : HG) (post : Int32 → HG → Prop) (hf : hX0_drops j Λ a0 p1 mc ms G post) : HMi l yX0_drops (ws_ yX0_drops cX0_drops 2 (some .int)) (rhX0_drops fr lo mc ms) D jC (jty j.1) Z G [.ref a0, .int p1] post mc ms := by
  obtain ⟨MC, eMC⟩ : ∃ MC, MC = mc := ⟨_, rfl⟩
  obtain ⟨MS, eMS⟩ : ∃ MS, MS = ms := ⟨_, rfl⟩
  suffices goal : HMi l yX0_drops (ws_ yX0_drops cX0_drops 2 (some .int)) (rhX0_drops fr lo MC MS) D jC (jty j.1) Z G [.ref a0, .int p1] post MC MS by rw [eMC, eMS] at goal; exact goal
  have hm0_ : 0 + mc ≤ MC ∧ 0 + ms ≤ MS := by omega
  clear eMC eMS
  refine h_openi E.1 (by decide) (by exact Nat.le_of_ble_eq_true rfl) (fun p e s m args below meth c ls A0 Q X hI hnd hnm hl hret => ?_)
  have X : XC p s m args meth c cX0_drops 2 RX0 D jC (jty j.1) A0 Z := X
  have hx := X.1
  have hb := X.2.1
  have hown := X.2.2.2.1
  have hts := X.2.2.2.2.1
  have hl : lv_has ls 2 [(0, .ref a0), (1, .int p1)] := by exact hl
  unfold hX0_drops at hf
  obtain ⟨H, eH⟩ : ∃ H, H = s.heap := ⟨_, rfl⟩
  obtain ⟨locs, eL⟩ : ∃ locs : List Loc, locs = [] := ⟨_, rfl⟩
  have hI : HI D jC G A0 s.heap H locs := by rw [eH, eL]; exact hI
  rw [← eL]
  obtain ⟨cells, eC⟩ : ∃ n : Nat, n = 0 := ⟨_, rfl⟩
  obtain ⟨slots, eS⟩ : ∃ n : Nat, n = 0 := ⟨_, rfl⟩
  have hm : cells + mc ≤ MC ∧ slots + ms ≤ MS := by rw [eC, eS]; exact hm0_
  suffices h : W p l e (rhX0_drops fr lo MC MS) s m args below meth c H locs cells slots Q (F0 m 0 ls []) by rw [eH, eC, eS] at h; exact h
  clear eH eL eC eS
  refine lv_aload_n hx hb dX0_drops_0 rfl (lv_at hl 0 rfl) ?_
  refine lv_iload_n hx hb dX0_drops_1 rfl (lv_at hl 1 rfl) ?_
  obtain ⟨_, _, hO, hf⟩ := hf
  refine h_ki X hI (h_runV (As := [.int p1]) X hI (h_recv X hI hO (show jC.1[0]? = some (RX0, TX0, 20) from rfl)) (mhX0_isRule l Z D j Λ fr lo E a0 p1 G _ hf H.size) (cwV 1 hts (lw_V q2068 q2070 qs53 q167 q2071) rfl rfl rfl (by decide +kernel) (by show fr + 2 + 1 ≤ fr + 8 ∧ 8 + (2 + 11) + (lo + 65) ≤ lo + 3292; omega)) rfl hl.1 (Nat.le_of_ble_eq_true rfl) dX0_drops_2 ⟨hm0 hm.1, hm0 hm.2⟩ rfl) (fun x2 G1 H locs hf hI => ?_)
  clear hO
  refine lv_if_eq (tgt := 33) hx hb dX0_drops_5 (by decide) (fun c3 => ?_) (fun c3 => ?_)
  · have hf := hf.1 c3
    refine lv_bipush (v := -2) hx hb dX0_drops_33 (by decide) ?_
    exact hret hf hI dX0_drops_35 (hmC hm.1) (hmC hm.2)
  · have hf := hf.2 c3
    refine lv_aload_n hx hb dX0_drops_8 rfl (lv_at hl 0 rfl) ?_
    refine lv_aload_n hx hb dX0_drops_9 rfl (lv_at hl 0 rfl) ?_
    refine hr_gtQ X hI (rfl : jC.1[0]? = some (RX0, TX0, 20)) in_X0 1 (Nat.le_of_ble_eq_true rfl) hf q653 (fun _ h => h) dX0_drops_10 (fun q4 hf => ?_)
    obtain ⟨a5, ea5, hf⟩ := hf
    revert hl hf
    subst ea5
    intro hl hf
    have hl : lv_has ls 2 [(0, .ref a0), (1, .int p1)] := hl
    refine hr_gtIN X hI (rfl : jC.1[2]? = some (RX2, TX2, 11)) in_X2 9 (Nat.le_of_ble_eq_true rfl) hf (E.nw X q505 rfl) (fun _ h => h) dX0_drops_13 (fun x6 hf => ?_)
    refine lv_aload_n hx hb dX0_drops_16 rfl (lv_at hl 0 rfl) ?_
    refine hr_gtQ X hI (rfl : jC.1[0]? = some (RX0, TX0, 20)) in_X0 1 (Nat.le_of_ble_eq_true rfl) hf q653 (fun _ h => h) dX0_drops_17 (fun q7 hf => ?_)
    obtain ⟨a8, ea8, hf⟩ := hf
    revert hl hf
    subst ea8
    intro hl hf
    have hl : lv_has ls 2 [(0, .ref a0), (1, .int p1)] := hl
    refine hr_gtIN X hI (rfl : jC.1[2]? = some (RX2, TX2, 11)) in_X2 8 (Nat.le_of_ble_eq_true rfl) hf (E.nw X q502 rfl) (fun _ h => h) dX0_drops_20 (fun x9 hf => ?_)
    refine lv_iconst (v := 1) hx hb dX0_drops_23 (by decide) ?_
    refine lv_iload_n hx hb dX0_drops_24 rfl (lv_at hl 1 rfl) ?_
    refine lv_ishl hx hb dX0_drops_25 ?_
    refine lv_ior hx hb dX0_drops_26 ?_
    obtain ⟨_, _, hO, hf⟩ := hf
    obtain ⟨m10, m11, hb1, hb2, hf⟩ := hf
    refine h_ki X hI (h_runV (As := [.int x6, .int (x9 ||| ((1 : Int32) <<< (p1 &&& 31)))]) X hI (h_recv X hI hO (show jC.1[0]? = some (RX0, TX0, 20) from rfl)) (mhX0_acts l Z D j Λ fr lo E a0 x6 (x9 ||| ((1 : Int32) <<< (p1 &&& 31))) m10 m11 G1 _ hf H.size) (cwV 2 hts (lw_V q2528 q2530 qs86 q167 q2531) rfl rfl rfl (by decide +kernel) (by show fr + 7 + 1 ≤ fr + 8 ∧ 8 + (5 + 11) + (lo + 3268) ≤ lo + 3292; omega)) rfl hl.1 (Nat.le_of_ble_eq_true rfl) dX0_drops_27 ⟨hmA hm.1 hb1, hmA hm.2 hb2⟩ rfl) (fun x13 G12 H locs hf hI => ?_)
    have hm := And.intro (hmB hm.1 hb1) (hmB hm.2 hb2)
    clear hb1 hb2
    clear hO
    refine lv_goto (tgt := 35) hx hb dX0_drops_30 (by decide) ?_
    exact hret hf hI dX0_drops_35 (hmC hm.1) (hmC hm.2)
/-! MergeJudge.takesBack()I -/
def hX0_takesBack (j : JX) (Λ : JLam) (a0 : Nat) (mc ms : Nat) (G : HG) (post : Int32 → HG → Prop) : Prop :=
  gtQ G a0 0 1 fun q1 => nnq q1 fun a2 => gtQ G a2 2 2 fun q3 => gtQ G a0 0 1 fun q4 => nnq q4 fun a5 => gtQ G a5 2 2 fun q6 => nnq q6 fun a7 => isO G a7 15 (hJ2_size j Λ a7 G fun x9 G8 => nnq q3 fun a10 => isO G8 a10 15 (hJ2_remove j Λ a10 (x9 - 1) G8 fun q12 G11 => csO G11 q12 "MergeJudge$Act" (nnq q12 fun a13 => gtQ G11 a13 14 0 fun q14 => nnq q14 fun a15 => ∃ m17 m18 : Nat, m17 ≤ mc ∧ m18 ≤ ms ∧ Λ.2.2.2.2.2 a15 m17 m18 G11 fun G16 => gtQ G16 a0 0 1 fun q19 => nnq q19 fun a20 => gtQ G16 a20 2 2 fun q21 => nnq q21 fun a22 => isO G16 a22 15 (hJ2_size j Λ a22 G16 fun x24 G23 => post x24 G23))))
abbrev rhX0_takesBack (fr lo mc ms : Nat) : Room := { frames := fr + 4, cells := mc, slots := ms, locals := lo + 106 }
theorem mhX0_takesBack (l : Launch) (Z : (Nat → Prop) → State → Heap → Prop) (D : va_G) (j : JX) (Λ : JLam) (fr lo : Nat) (E : JE l Z D j Λ fr lo) (a0 : Nat) (mc ms : Nat) (G : HG) (post : Int32 → HG → Prop) (hf : hX0_takesBack j Λ a0 mc ms G post) : HMi l yX0_takesBack (ws_ yX0_takesBack cX0_takesBack 1 (some .int)) (rhX0_takesBack fr lo mc ms) D jC (jty j.1) Z G [.ref a0] post mc ms := by
  obtain ⟨MC, eMC⟩ : ∃ MC, MC = mc := ⟨_, rfl⟩
  obtain ⟨MS, eMS⟩ : ∃ MS, MS = ms := ⟨_, rfl⟩
  suffices goal : HMi l yX0_takesBack (ws_ yX0_takesBack cX0_takesBack 1 (some .int)) (rhX0_takesBack fr lo MC MS) D jC (jty j.1) Z G [.ref a0] post MC MS by rw [eMC, eMS] at goal; exact goal
  have hm0_ : 0 + mc ≤ MC ∧ 0 + ms ≤ MS := by omega
  clear eMC eMS
  refine h_openi E.1 (by decide) (by exact Nat.le_of_ble_eq_true rfl) (fun p e s m args below meth c ls A0 Q X hI hnd hnm hl hret => ?_)
  have X : XC p s m args meth c cX0_takesBack 1 RX0 D jC (jty j.1) A0 Z := X
  have hx := X.1
  have hb := X.2.1
  have hown := X.2.2.2.1
  have hts := X.2.2.2.2.1
  have hl : lv_has ls 1 [(0, .ref a0)] := by exact hl
  unfold hX0_takesBack at hf
  obtain ⟨H, eH⟩ : ∃ H, H = s.heap := ⟨_, rfl⟩
  obtain ⟨locs, eL⟩ : ∃ locs : List Loc, locs = [] := ⟨_, rfl⟩
  have hI : HI D jC G A0 s.heap H locs := by rw [eH, eL]; exact hI
  rw [← eL]
  obtain ⟨cells, eC⟩ : ∃ n : Nat, n = 0 := ⟨_, rfl⟩
  obtain ⟨slots, eS⟩ : ∃ n : Nat, n = 0 := ⟨_, rfl⟩
  have hm : cells + mc ≤ MC ∧ slots + ms ≤ MS := by rw [eC, eS]; exact hm0_
  suffices h : W p l e (rhX0_takesBack fr lo MC MS) s m args below meth c H locs cells slots Q (F0 m 0 ls []) by rw [eH, eC, eS] at h; exact h
  clear eH eL eC eS
  refine lv_aload_n hx hb dX0_takesBack_0 rfl (lv_at hl 0 rfl) ?_
  refine hr_gtQ X hI (rfl : jC.1[0]? = some (RX0, TX0, 20)) in_X0 1 (Nat.le_of_ble_eq_true rfl) hf q653 (fun _ h => h) dX0_takesBack_1 (fun q1 hf => ?_)
  obtain ⟨a2, ea2, hf⟩ := hf
  revert hl hf
  subst ea2
  intro hl hf
  have hl : lv_has ls 1 [(0, .ref a0)] := hl
  refine hr_gtQN X hI (rfl : jC.1[2]? = some (RX2, TX2, 11)) in_X2 2 (Nat.le_of_ble_eq_true rfl) hf (E.nw X q485 rfl) (fun _ h => h) dX0_takesBack_4 (fun q3 hf => ?_)
  refine lv_aload_n hx hb dX0_takesBack_7 rfl (lv_at hl 0 rfl) ?_
  refine hr_gtQ X hI (rfl : jC.1[0]? = some (RX0, TX0, 20)) in_X0 1 (Nat.le_of_ble_eq_true rfl) hf q653 (fun _ h => h) dX0_takesBack_8 (fun q4 hf => ?_)
  obtain ⟨a5, ea5, hf⟩ := hf
  revert hl hf
  subst ea5
  intro hl hf
  have hl : lv_has ls 1 [(0, .ref a0)] := hl
  refine hr_gtQN X hI (rfl : jC.1[2]? = some (RX2, TX2, 11)) in_X2 2 (Nat.le_of_ble_eq_true rfl) hf (E.nw X q485 rfl) (fun _ h => h) dX0_takesBack_11 (fun q6 hf => ?_)
  obtain ⟨a7, ea7, hf⟩ := hf
  revert hl hf
  subst ea7
  intro hl hf
  have hl : lv_has ls 1 [(0, .ref a0)] := hl
  obtain ⟨_, _, hO, hf⟩ := hf
  refine h_Fki X hI (h_runF (As := []) X hI (X.2.2.2.2.2.1.1 15 _ (show jC.1[15]? = some (RJ2, TJ2, 3) from rfl)).2 (h_recv X hI hO (show jC.1[15]? = some (RJ2, TJ2, 3) from rfl)) (mhJ2_size l Z D j Λ fr lo E a7 G _ hf H.size) (cwF 0 hts q1848 q1771 q1773 q172 q1775 ((E.w X).2.2.1 _ (List.mem_of_getElem? (show jFw[0]? = _ from rfl))) rfl rfl (by decide +kernel) (by show fr + 1 + 1 ≤ fr + 4 ∧ 8 + (1 + 11) + (lo + 40) ≤ lo + 106; omega)) rfl hl.1 (by cases q3 <;> exact Nat.le_of_ble_eq_true rfl) dX0_takesBack_14 ⟨hm0 hm.1, hm0 hm.2⟩ rfl) (fun x9 G8 H locs hf hI => ?_)
  clear hO
  refine lv_iconst (v := 1) hx hb dX0_takesBack_19 (by decide) ?_
  refine lv_isub hx hb dX0_takesBack_20 ?_
  obtain ⟨a10, ea10, hf⟩ := hf
  revert hl hf
  subst ea10
  intro hl hf
  have hl : lv_has ls 1 [(0, .ref a0)] := hl
  obtain ⟨_, _, hO, hf⟩ := hf
  refine h_Fkq X hI (h_runF (As := [.int (x9 - 1)]) X hI (X.2.2.2.2.2.1.1 15 _ (show jC.1[15]? = some (RJ2, TJ2, 3) from rfl)).2 (h_recv X hI hO (show jC.1[15]? = some (RJ2, TJ2, 3) from rfl)) (mhJ2_remove l Z D j Λ fr lo E a10 (x9 - 1) G8 _ hf H.size) (cwF 1 hts q2578 q2581 q2583 q172 q2585 ((E.w X).2.2.1 _ (List.mem_of_getElem? (show jFw[4]? = _ from rfl))) rfl rfl (by decide +kernel) (by show fr + 3 + 1 ≤ fr + 4 ∧ 8 + (4 + 11) + (lo + 83) ≤ lo + 106; omega)) rfl hl.1 (Nat.le_of_ble_eq_true rfl) dX0_takesBack_21 ⟨hm0 hm.1, hm0 hm.2⟩ rfl) (fun q12 G11 H locs hf hI => ?_)
  clear hO
  refine hr_cast (v := q12) E X hI hf q2532 dX0_takesBack_26 (fun hf => ?_)
  obtain ⟨a13, ea13, hf⟩ := hf
  revert hl hf
  subst ea13
  intro hl hf
  have hl : lv_has ls 1 [(0, .ref a0)] := hl
  refine hr_gtQN X hI (rfl : jC.1[14]? = some (RX14, TX14, 1)) in_X14 0 (Nat.le_of_ble_eq_true rfl) hf (E.nw X q2546 rfl) (fun _ h => h) dX0_takesBack_29 (fun q14 hf => ?_)
  obtain ⟨a15, ea15, hf⟩ := hf
  revert hl hf
  subst ea15
  intro hl hf
  have hl : lv_has ls 1 [(0, .ref a0)] := hl
  obtain ⟨m17, m18, hb1, hb2, hf⟩ := hf
  refine hr_undo E X hI hf q2592 hl.1 (Nat.le_of_ble_eq_true rfl) ⟨Nat.le_add_right _ _, Nat.le_add_right _ _⟩ ⟨hmA hm.1 hb1, hmA hm.2 hb2⟩ dX0_takesBack_32 (fun G16 H locs hf hI => ?_)
  have hm := And.intro (hmB hm.1 hb1) (hmB hm.2 hb2)
  clear hb1 hb2
  refine lv_aload_n hx hb dX0_takesBack_37 rfl (lv_at hl 0 rfl) ?_
  refine hr_gtQ X hI (rfl : jC.1[0]? = some (RX0, TX0, 20)) in_X0 1 (Nat.le_of_ble_eq_true rfl) hf q653 (fun _ h => h) dX0_takesBack_38 (fun q19 hf => ?_)
  obtain ⟨a20, ea20, hf⟩ := hf
  revert hl hf
  subst ea20
  intro hl hf
  have hl : lv_has ls 1 [(0, .ref a0)] := hl
  refine hr_gtQN X hI (rfl : jC.1[2]? = some (RX2, TX2, 11)) in_X2 2 (Nat.le_of_ble_eq_true rfl) hf (E.nw X q485 rfl) (fun _ h => h) dX0_takesBack_41 (fun q21 hf => ?_)
  obtain ⟨a22, ea22, hf⟩ := hf
  revert hl hf
  subst ea22
  intro hl hf
  have hl : lv_has ls 1 [(0, .ref a0)] := hl
  obtain ⟨_, _, hO, hf⟩ := hf
  refine h_Fki X hI (h_runF (As := []) X hI (X.2.2.2.2.2.1.1 15 _ (show jC.1[15]? = some (RJ2, TJ2, 3) from rfl)).2 (h_recv X hI hO (show jC.1[15]? = some (RJ2, TJ2, 3) from rfl)) (mhJ2_size l Z D j Λ fr lo E a22 G16 _ hf H.size) (cwF 0 hts q1848 q1771 q1773 q172 q1775 ((E.w X).2.2.1 _ (List.mem_of_getElem? (show jFw[0]? = _ from rfl))) rfl rfl (by decide +kernel) (by show fr + 1 + 1 ≤ fr + 4 ∧ 8 + (1 + 11) + (lo + 40) ≤ lo + 106; omega)) rfl hl.1 (Nat.le_of_ble_eq_true rfl) dX0_takesBack_44 ⟨hm0 hm.1, hm0 hm.2⟩ rfl) (fun x24 G23 H locs hf hI => ?_)
  clear hO
  exact hret hf hI dX0_takesBack_49 (hmC hm.1) (hmC hm.2)
