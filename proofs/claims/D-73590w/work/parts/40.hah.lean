/-! THE COMPONENT as transformers over its heap, and the walks (printed by gen/genh.py) -/
/-! MergeJudge$Pair.equals(Ljava/lang/Object;)Z -/
def hX13_equals (j : JX) (Λ : JLam) (a0 : Nat) (q1_ : Option Nat) (G : HG) (post : Int32 → HG → Prop) : Prop :=
  inO G q1_ "MergeJudge$Pair" fun x1 => (x1 = 0 → (post (0 : Int32) G)) ∧ (¬ x1 = 0 → (csO G q1_ "MergeJudge$Pair" (nnq q1_ fun a3 => gtI G a3 13 0 fun x4 => gtI G a0 13 0 fun x5 => (x4 = x5 → (gtI G a3 13 1 fun x7 => gtI G a0 13 1 fun x8 => (x7 = x8 → (post (1 : Int32) G)) ∧ (¬ x7 = x8 → (post (0 : Int32) G)))) ∧ (¬ x4 = x5 → (post (0 : Int32) G)))))
abbrev rhX13_equals (fr lo : Nat) : Room := { frames := fr + 1, cells := 0, slots := 0, locals := lo + 40 }
theorem mhX13_equals (l : Launch) (Z : (Nat → Prop) → State → Heap → Prop) (D : va_G) (j : JX) (Λ : JLam) (fr lo : Nat) (E : JE l Z D j Λ fr lo) (a0 : Nat) (q1_ : Option Nat) (G : HG) (post : Int32 → HG → Prop) (hf : hX13_equals j Λ a0 q1_ G post) : HMi l yX13_equals (ws_ yX13_equals cX13_equals 3 (some .boolean)) (rhX13_equals fr lo) D jC (jty j.1) Z G [.ref a0, va_rf q1_] post 0 0 := by
  refine h_openz E.1 (by decide) (by cases q1_ <;> exact Nat.le_of_ble_eq_true rfl) (fun p e s m args below meth c ls A0 Q X hI hnd hnm hl hret => ?_)
  have X : XC p s m args meth c cX13_equals 3 RX13 D jC (jty j.1) A0 Z := X
  have hx := X.1
  have hb := X.2.1
  have hown := X.2.2.2.1
  have hts := X.2.2.2.2.1
  have hl : lv_has ls 3 [(0, .ref a0), (1, va_rf q1_)] := by cases q1_ <;> exact hl
  unfold hX13_equals at hf
  obtain ⟨H, eH⟩ : ∃ H, H = s.heap := ⟨_, rfl⟩
  obtain ⟨locs, eL⟩ : ∃ locs : List Loc, locs = [] := ⟨_, rfl⟩
  have hI : HI D jC G A0 s.heap H locs := by rw [eH, eL]; exact hI
  rw [← eL]
  suffices h : W p l e (rhX13_equals fr lo) s m args below meth c H locs 0 0 Q (F0 m 0 ls []) by rw [eH] at h; exact h
  clear eH eL
  refine h_aload_n (o := q1_) hx hb dX13_equals_0 rfl (lv_at hl 1 rfl) ?_
  refine hr_inst (v := q1_) E X hI hf q1289 dX13_equals_1 (fun x1 hf => ?_)
  refine lv_if_eq (tgt := 38) hx hb dX13_equals_4 (by decide) (fun c2 => ?_) (fun c2 => ?_)
  · have hf := hf.1 c2
    refine lv_iconst (v := 0) hx hb dX13_equals_38 (by decide) ?_
    exact hret rfl hf hI dX13_equals_39 (Nat.le_refl _) (Nat.le_refl _)
  · have hf := hf.2 c2
    refine h_aload_n (o := q1_) hx hb dX13_equals_7 rfl (lv_at hl 1 rfl) ?_
    refine hr_cast (v := q1_) E X hI hf q1289 dX13_equals_8 (fun hf => ?_)
    refine h_astore_n (o := q1_) (lv' := [(2, va_rf q1_), (0, .ref a0), (1, va_rf q1_)]) hx hb dX13_equals_11 rfl hl (by decide) (by cases q1_ <;> rfl) (fun ls hl => ?_)
    refine h_aload_n (o := q1_) hx hb dX13_equals_12 rfl (lv_at hl 0 rfl) ?_
    obtain ⟨a3, ea3, hf⟩ := hf
    revert hl hf
    subst ea3
    intro hl hf
    have hl : lv_has ls 3 [(2, .ref a3), (0, .ref a0), (1, .ref a3)] := hl
    refine hr_gtI X hI (rfl : jC.1[13]? = some (RX13, TX13, 2)) in_X13 0 (Nat.le_of_ble_eq_true rfl) hf q2241 (fun _ h => h) dX13_equals_13 (fun x4 hf => ?_)
    refine lv_aload_n hx hb dX13_equals_16 rfl (lv_at hl 1 rfl) ?_
    refine hr_gtI X hI (rfl : jC.1[13]? = some (RX13, TX13, 2)) in_X13 0 (Nat.le_of_ble_eq_true rfl) hf q2241 (fun _ h => h) dX13_equals_17 (fun x5 hf => ?_)
    refine lv_icmp_ne (tgt := 38) hx hb dX13_equals_20 (by decide) (fun c6 => ?_) (fun c6 => ?_)
    · have hf := hf.2 c6
      refine lv_iconst (v := 0) hx hb dX13_equals_38 (by decide) ?_
      exact hret rfl hf hI dX13_equals_39 (Nat.le_refl _) (Nat.le_refl _)
    · have hf := hf.1 c6
      refine lv_aload_n hx hb dX13_equals_23 rfl (lv_at hl 0 rfl) ?_
      refine hr_gtI X hI (rfl : jC.1[13]? = some (RX13, TX13, 2)) in_X13 1 (Nat.le_of_ble_eq_true rfl) hf q2242 (fun _ h => h) dX13_equals_24 (fun x7 hf => ?_)
      refine lv_aload_n hx hb dX13_equals_27 rfl (lv_at hl 1 rfl) ?_
      refine hr_gtI X hI (rfl : jC.1[13]? = some (RX13, TX13, 2)) in_X13 1 (Nat.le_of_ble_eq_true rfl) hf q2242 (fun _ h => h) dX13_equals_28 (fun x8 hf => ?_)
      refine lv_icmp_ne (tgt := 38) hx hb dX13_equals_31 (by decide) (fun c9 => ?_) (fun c9 => ?_)
      · have hf := hf.2 c9
        refine lv_iconst (v := 0) hx hb dX13_equals_38 (by decide) ?_
        exact hret rfl hf hI dX13_equals_39 (Nat.le_refl _) (Nat.le_refl _)
      · have hf := hf.1 c9
        refine lv_iconst (v := 1) hx hb dX13_equals_34 (by decide) ?_
        refine lv_goto (tgt := 39) hx hb dX13_equals_35 (by decide) ?_
        exact hret rfl hf hI dX13_equals_39 (Nat.le_refl _) (Nat.le_refl _)
/-! java/lang/String.equals(Ljava/lang/Object;)Z -/
def hJ8_equals_b36 (j : JX) (Λ : JLam) (a0 : Nat) (post : Int32 → HG → Prop) (la2 : Nat) (G : HG) : Prop :=
  gtQ G a0 20 0 fun q9 => gtQ G la2 20 0 fun q10 => hJ16_equals j Λ q9 q10 G fun x12 G11 => (x12 = 0 → (post (0 : Int32) G11)) ∧ (¬ x12 = 0 → (post (1 : Int32) G11))
def hJ8_equals (j : JX) (Λ : JLam) (a0 : Nat) (q1_ : Option Nat) (G : HG) (post : Int32 → HG → Prop) : Prop :=
  ((some a0) = q1_ → (post (1 : Int32) G)) ∧ (¬ (some a0) = q1_ → (inO G q1_ "java/lang/String" fun x2 => (x2 = 0 → (post (0 : Int32) G)) ∧ (¬ x2 = 0 → (csO G q1_ "java/lang/String" (gtI G a0 20 1 fun x5 => nnq q1_ fun a6 => gtI G a6 20 1 fun x7 => (x5 = x7 → (hJ8_equals_b36 j Λ a0 post a6 G)) ∧ (¬ x5 = x7 → (post (0 : Int32) G)))))))
abbrev rhJ8_equals (fr lo : Nat) : Room := { frames := fr + 2, cells := 0, slots := 0, locals := lo + 62 }
theorem mhJ8_equals (l : Launch) (Z : (Nat → Prop) → State → Heap → Prop) (D : va_G) (j : JX) (Λ : JLam) (fr lo : Nat) (E : JE l Z D j Λ fr lo) (a0 : Nat) (q1_ : Option Nat) (G : HG) (post : Int32 → HG → Prop) (hf : hJ8_equals j Λ a0 q1_ G post) : HMi l yJ8_equals (ws_ yJ8_equals cJ8_equals 3 (some .boolean)) (rhJ8_equals fr lo) D jC (jty j.1) Z G [.ref a0, va_rf q1_] post 0 0 := by
  refine h_openz E.1 (by decide) (by cases q1_ <;> exact Nat.le_of_ble_eq_true rfl) (fun p e s m args below meth c ls A0 Q X hI hnd hnm hl hret => ?_)
  have X : XC p s m args meth c cJ8_equals 3 RJ8 D jC (jty j.1) A0 Z := X
  have hx := X.1
  have hb := X.2.1
  have hown := X.2.2.2.1
  have hts := X.2.2.2.2.1
  have J36 : ∀ (la2 : Nat) (G : HG), hJ8_equals_b36 j Λ a0 post la2 G → ∀ (H : Heap) (locs : List Loc), HI D jC G A0 s.heap H locs → ∀ (ls : Array Slot), lv_has ls 3 [(0, .ref a0), (2, .ref la2)] → W p l e (rhJ8_equals fr lo) s m args below meth c H locs 0 0 Q (F0 m 36 ls []) := by
    intro la2 G hf H locs hI ls hl
    unfold hJ8_equals_b36 at hf
    refine lv_aload_n hx hb dJ8_equals_36 rfl (lv_at hl 0 rfl) ?_
    refine hr_gtQ X hI (rfl : jC.1[20]? = some (RJ8, TJ8, 4)) in_J8 0 (Nat.le_of_ble_eq_true rfl) hf q1580 (fun _ h => h) dJ8_equals_37 (fun q9 hf => ?_)
    refine lv_aload_n hx hb dJ8_equals_40 rfl (lv_at hl 1 rfl) ?_
    refine hr_gtQ X hI (rfl : jC.1[20]? = some (RJ8, TJ8, 4)) in_J8 0 (Nat.le_of_ble_eq_true rfl) hf q1580 (fun _ h => h) dJ8_equals_41 (fun q10 hf => ?_)
    refine h_ki X hI (h_runS (As := [va_rf q9, va_rf q10]) X hI (mhJ16_equals l Z D j Λ fr lo E q9 q10 G _ hf H.size) (va_cwS 2 hts (lw_S q1311 q1312 q193 q1313) rfl rfl rfl (by decide +kernel) (by show fr + 1 + 1 ≤ fr + 2 ∧ 8 + (3 + 11) + (lo + 40) ≤ lo + 62; omega)) rfl hl.1 (Nat.le_of_ble_eq_true rfl) dJ8_equals_44 ⟨Nat.le_refl _, Nat.le_refl _⟩ rfl) (fun x12 G11 H locs hf hI => ?_)
    refine lv_if_eq (tgt := 54) hx hb dJ8_equals_47 (by decide) (fun c13 => ?_) (fun c13 => ?_)
    · have hf := hf.1 c13
      refine lv_iconst (v := 0) hx hb dJ8_equals_54 (by decide) ?_
      exact hret rfl hf hI dJ8_equals_55 (Nat.le_refl _) (Nat.le_refl _)
    · have hf := hf.2 c13
      refine lv_iconst (v := 1) hx hb dJ8_equals_50 (by decide) ?_
      refine lv_goto (tgt := 55) hx hb dJ8_equals_51 (by decide) ?_
      exact hret rfl hf hI dJ8_equals_55 (Nat.le_refl _) (Nat.le_refl _)
  have hl : lv_has ls 3 [(0, .ref a0), (1, va_rf q1_)] := by cases q1_ <;> exact hl
  unfold hJ8_equals at hf
  obtain ⟨H, eH⟩ : ∃ H, H = s.heap := ⟨_, rfl⟩
  obtain ⟨locs, eL⟩ : ∃ locs : List Loc, locs = [] := ⟨_, rfl⟩
  have hI : HI D jC G A0 s.heap H locs := by rw [eH, eL]; exact hI
  rw [← eL]
  suffices h : W p l e (rhJ8_equals fr lo) s m args below meth c H locs 0 0 Q (F0 m 0 ls []) by rw [eH] at h; exact h
  clear eH eL
  refine lv_aload_n hx hb dJ8_equals_0 rfl (lv_at hl 0 rfl) ?_
  refine h_aload_n (o := q1_) hx hb dJ8_equals_1 rfl (lv_at hl 1 rfl) ?_
  refine lv_acmp_ne (rx := (some a0)) (ry := q1_) (tgt := 7) hx hb dJ8_equals_2 (by decide) (fun c1 => ?_) (fun c1 => ?_)
  · have hf := hf.2 c1
    refine h_aload_n (o := q1_) hx hb dJ8_equals_7 rfl (lv_at hl 1 rfl) ?_
    refine hr_inst (v := q1_) E X hI hf q1070 dJ8_equals_8 (fun x2 hf => ?_)
    refine lv_if_eq (tgt := 54) hx hb dJ8_equals_11 (by decide) (fun c3 => ?_) (fun c3 => ?_)
    · have hf := hf.1 c3
      refine lv_iconst (v := 0) hx hb dJ8_equals_54 (by decide) ?_
      exact hret rfl hf hI dJ8_equals_55 (Nat.le_refl _) (Nat.le_refl _)
    · have hf := hf.2 c3
      refine h_aload_n (o := q1_) hx hb dJ8_equals_14 rfl (lv_at hl 1 rfl) ?_
      refine hr_cast (v := q1_) E X hI hf q1070 dJ8_equals_15 (fun hf => ?_)
      refine h_astore_n (o := q1_) (lv' := [(2, va_rf q1_), (0, .ref a0), (1, va_rf q1_)]) hx hb dJ8_equals_18 rfl hl (by decide) (by cases q1_ <;> rfl) (fun ls hl => ?_)
      refine va_gets (v := .int 1) hx hb ((E.z X).2.1 _ (List.mem_of_getElem? (show jStI[0]? = some _ from rfl))) hI.2 hown (hts _ q881) (fun _ h => h) dJ8_equals_19 ?_
      refine lv_if_eq (tgt := 36) hx hb dJ8_equals_22 (by decide) (fun c4 => absurd c4 (by decide)) (fun c4 => ?_)
      refine lv_aload_n hx hb dJ8_equals_25 rfl (lv_at hl 1 rfl) ?_
      refine hr_gtI X hI (rfl : jC.1[20]? = some (RJ8, TJ8, 4)) in_J8 1 (Nat.le_of_ble_eq_true rfl) hf q1581 (fun _ h => h) dJ8_equals_26 (fun x5 hf => ?_)
      refine h_aload_n (o := q1_) hx hb dJ8_equals_29 rfl (lv_at hl 0 rfl) ?_
      obtain ⟨a6, ea6, hf⟩ := hf
      revert hl hf
      subst ea6
      intro hl hf
      have hl : lv_has ls 3 [(2, .ref a6), (0, .ref a0), (1, .ref a6)] := hl
      refine hr_gtI X hI (rfl : jC.1[20]? = some (RJ8, TJ8, 4)) in_J8 1 (Nat.le_of_ble_eq_true rfl) hf q1581 (fun _ h => h) dJ8_equals_30 (fun x7 hf => ?_)
      refine lv_icmp_ne (tgt := 54) hx hb dJ8_equals_33 (by decide) (fun c8 => ?_) (fun c8 => ?_)
      · have hf := hf.2 c8
        refine lv_iconst (v := 0) hx hb dJ8_equals_54 (by decide) ?_
        exact hret rfl hf hI dJ8_equals_55 (Nat.le_refl _) (Nat.le_refl _)
      · have hf := hf.1 c8
        exact J36 a6 G hf H locs hI ls (lv_sub hl [1, 0] rfl)
  · have hf := hf.1 c1
    refine lv_iconst (v := 1) hx hb dJ8_equals_5 (by decide) ?_
    exact hret rfl hf hI dJ8_equals_6 (Nat.le_refl _) (Nat.le_refl _)
/-! java/util/HashMap$TreeNode.find(ILjava/lang/Object;Ljava/lang/Class;)Ljava/util/HashMap$TreeNode; -/
def dispequals (j : JX) (Λ : JLam) (a : Nat) (q : Option Nat) (G : HG) (post : Int32 → HG → Prop) : Prop := isO G a 13 (hX13_equals j Λ a q G post) ∨ isO G a 20 (hJ8_equals j Λ a q G post)
def hJ23_find_b165 (j : JX) (Λ : JLam) (a0 : Nat) (p1 : Int32) (post : Option Nat → HG → Prop) (K3 : Option Nat → Option Nat → Nat → HG → Prop) (lq2 : Option Nat) (lq3 : Option Nat) (lq4 : Option Nat) (G : HG) : Prop :=
  (lq4 = none → (post none G)) ∧ (∀ a20, lq4 = some a20 → (K3 lq2 lq3 a20 G))
def hJ23_find_b114 (j : JX) (Λ : JLam) (a0 : Nat) (p1 : Int32) (post : Option Nat → HG → Prop) (K3 : Option Nat → Option Nat → Nat → HG → Prop) (lq2 : Option Nat) (la3 : Nat) (lq7 : Option Nat) (la8 : Nat) (la9 : Nat) (G : HG) : Prop :=
  False
def hJ23_find_b77 (j : JX) (Λ : JLam) (a0 : Nat) (p1 : Int32) (post : Option Nat → HG → Prop) (K3 : Option Nat → Option Nat → Nat → HG → Prop) (lq2 : Option Nat) (lq3 : Option Nat) (lq7 : Option Nat) (lq8 : Option Nat) (lq9 : Option Nat) (G : HG) : Prop :=
  (lq8 = none → (hJ23_find_b165 j Λ a0 p1 post K3 lq2 lq3 lq9 G)) ∧ (∀ a14, lq8 = some a14 → ((lq9 = none → (hJ23_find_b165 j Λ a0 p1 post K3 lq2 lq3 (some a14) G)) ∧ (∀ a16, lq9 = some a16 → ((lq3 = none → (False)) ∧ (∀ a18, lq3 = some a18 → (hJ23_find_b114 j Λ a0 p1 post K3 lq2 a18 lq7 a14 a16 G))))))
def hJ23_find_b3 (j : JX) (Λ : JLam) (a0 : Nat) (p1 : Int32) (post : Option Nat → HG → Prop) (K3 : Option Nat → Option Nat → Nat → HG → Prop) (lq2 : Option Nat) (lq3 : Option Nat) (la4 : Nat) (G : HG) : Prop :=
  gtQ G la4 18 7 fun q1 => gtQ G la4 18 8 fun q2 => gtI G la4 18 2 fun x3 => (x3 ≤ p1 → ((p1 ≤ x3 → (gtQ G la4 18 3 fun q6 => (q6 = lq2 → (post (some la4) G)) ∧ (¬ q6 = lq2 → ((lq2 = none → (hJ23_find_b77 j Λ a0 p1 post K3 none lq3 q6 q1 q2 G)) ∧ (∀ a9, lq2 = some a9 → (dispequals j Λ a9 q6 G fun x10 G11 => (x10 = 0 → (hJ23_find_b77 j Λ a0 p1 post K3 (some a9) lq3 q6 q1 q2 G11)) ∧ (¬ x10 = 0 → (post (some la4) G11)))))))) ∧ (¬ p1 ≤ x3 → (hJ23_find_b165 j Λ a0 p1 post K3 lq2 lq3 q2 G)))) ∧ (¬ x3 ≤ p1 → (hJ23_find_b165 j Λ a0 p1 post K3 lq2 lq3 q1 G))
def hJ23_find_l3 (j : JX) (Λ : JLam) (a0 : Nat) (p1 : Int32) (post : Option Nat → HG → Prop) : Nat → Option Nat → Option Nat → Nat → HG → Prop
  | 0 => fun _ _ _ _ => False
  | n + 1 => fun lq2 lq3 la4 G => hJ23_find_b3 j Λ a0 p1 post (hJ23_find_l3 j Λ a0 p1 post n) lq2 lq3 la4 G
def hJ23_find (j : JX) (Λ : JLam) (a0 : Nat) (p1 : Int32) (q2_ : Option Nat) (q3_ : Option Nat) (G : HG) (post : Option Nat → HG → Prop) : Prop :=
  ∃ n, hJ23_find_l3 j Λ a0 p1 post n q2_ q3_ a0 G
abbrev rhJ23_find (fr lo : Nat) : Room := { frames := fr + 3, cells := 0, slots := 0, locals := lo + 84 }
theorem mhJ23_find (l : Launch) (Z : (Nat → Prop) → State → Heap → Prop) (D : va_G) (j : JX) (Λ : JLam) (fr lo : Nat) (E : JE l Z D j Λ fr lo) (a0 : Nat) (p1 : Int32) (q2_ : Option Nat) (q3_ : Option Nat) (G : HG) (post : Option Nat → HG → Prop) (hf : hJ23_find j Λ a0 p1 q2_ q3_ G post) : HMq l yJ23_find (ws_ yJ23_find cJ23_find 11 (some (.object "java/util/HashMap$TreeNode"))) (rhJ23_find fr lo) D jC (jty j.1) Z G [.ref a0, .int p1, va_rf q2_, va_rf q3_] post 0 0 := by
  refine h_openq (Or.inl ⟨_, rfl⟩) E.1 (by decide) (by cases q2_ <;> cases q3_ <;> exact Nat.le_of_ble_eq_true rfl) (fun p e s m args below meth c ls A0 Q X hI hnd hnm hl hret => ?_)
  have X : XC p s m args meth c cJ23_find 11 RJ23 D jC (jty j.1) A0 Z := X
  have hx := X.1
  have hb := X.2.1
  have hown := X.2.2.2.1
  have hts := X.2.2.2.2.1
  have L3 : ∀ (n : Nat) (lq2 : Option Nat) (lq3 : Option Nat) (la4 : Nat) (G : HG), hJ23_find_l3 j Λ a0 p1 post n lq2 lq3 la4 G → ∀ (H : Heap) (locs : List Loc), HI D jC G A0 s.heap H locs → ∀ (ls : Array Slot), lv_has ls 11 [(1, .int p1), (2, va_rf lq2), (3, va_rf lq3), (4, .ref la4)] → W p l e (rhJ23_find fr lo) s m args below meth c H locs 0 0 Q (F0 m 3 ls []) := by
    intro n3
    induction n3 with
    | zero => intro lq2 lq3 la4 G hf; exact hf.elim
    | succ n3 ih3 =>
      have J165 : ∀ (lq2 : Option Nat) (lq3 : Option Nat) (lq4 : Option Nat) (G : HG), hJ23_find_b165 j Λ a0 p1 post (hJ23_find_l3 j Λ a0 p1 post n3) lq2 lq3 lq4 G → ∀ (H : Heap) (locs : List Loc), HI D jC G A0 s.heap H locs → ∀ (ls : Array Slot), lv_has ls 11 [(1, .int p1), (2, va_rf lq2), (3, va_rf lq3), (4, va_rf lq4)] → W p l e (rhJ23_find fr lo) s m args below meth c H locs 0 0 Q (F0 m 165 ls []) := by
        intro lq2 lq3 lq4 G hf H locs hI ls hl
        unfold hJ23_find_b165 at hf
        refine h_aload (o := lq4) hx hb dJ23_find_165 (lv_at hl 3 rfl) ?_
        refine h_ifnonnull (tgt := 3) hx hb dJ23_find_167 (by decide) (fun a20 c19 => ?_) (fun c19 => ?_)
        · have hf := hf.2 a20 c19
          revert hl hf
          subst c19
          intro hl hf
          have hl : lv_has ls 11 [(1, .int p1), (2, va_rf lq2), (3, va_rf lq3), (4, .ref a20)] := hl
          exact ih3 lq2 lq3 a20 G hf H locs hI ls (lv_sub hl [0, 1, 2, 3] rfl)
        · have hf := hf.1 c19
          revert hl hf
          subst c19
          intro hl hf
          have hl : lv_has ls 11 [(1, .int p1), (2, va_rf lq2), (3, va_rf lq3), (4, va_rf none)] := hl
          refine lv_null hx hb dJ23_find_170 ?_
          exact hret (v := none) hf hI dJ23_find_171 (Nat.le_refl _) (Nat.le_refl _)
      have J114 : ∀ (lq2 : Option Nat) (la3 : Nat) (lq7 : Option Nat) (la8 : Nat) (la9 : Nat) (G : HG), hJ23_find_b114 j Λ a0 p1 post (hJ23_find_l3 j Λ a0 p1 post n3) lq2 la3 lq7 la8 la9 G → ∀ (H : Heap) (locs : List Loc), HI D jC G A0 s.heap H locs → ∀ (ls : Array Slot), lv_has ls 11 [(1, .int p1), (2, va_rf lq2), (3, .ref la3), (7, va_rf lq7), (8, .ref la8), (9, .ref la9)] → W p l e (rhJ23_find fr lo) s m args below meth c H locs 0 0 Q (F0 m 114 ls []) := by
        intro lq2 la3 lq7 la8 la9 G hf H locs hI ls hl
        unfold hJ23_find_b114 at hf
        exact hf.elim
      have J77 : ∀ (lq2 : Option Nat) (lq3 : Option Nat) (lq7 : Option Nat) (lq8 : Option Nat) (lq9 : Option Nat) (G : HG), hJ23_find_b77 j Λ a0 p1 post (hJ23_find_l3 j Λ a0 p1 post n3) lq2 lq3 lq7 lq8 lq9 G → ∀ (H : Heap) (locs : List Loc), HI D jC G A0 s.heap H locs → ∀ (ls : Array Slot), lv_has ls 11 [(1, .int p1), (2, va_rf lq2), (3, va_rf lq3), (7, va_rf lq7), (8, va_rf lq8), (9, va_rf lq9)] → W p l e (rhJ23_find fr lo) s m args below meth c H locs 0 0 Q (F0 m 77 ls []) := by
        intro lq2 lq3 lq7 lq8 lq9 G hf H locs hI ls hl
        unfold hJ23_find_b77 at hf
        refine h_aload (o := lq8) hx hb dJ23_find_77 (lv_at hl 4 rfl) ?_
        refine h_ifnonnull (tgt := 89) hx hb dJ23_find_79 (by decide) (fun a14 c13 => ?_) (fun c13 => ?_)
        · have hf := hf.2 a14 c13
          revert hl hf
          subst c13
          intro hl hf
          have hl : lv_has ls 11 [(1, .int p1), (2, va_rf lq2), (3, va_rf lq3), (7, va_rf lq7), (8, .ref a14), (9, va_rf lq9)] := hl
          refine h_aload (o := lq9) hx hb dJ23_find_89 (lv_at hl 5 rfl) ?_
          refine h_ifnonnull (tgt := 101) hx hb dJ23_find_91 (by decide) (fun a16 c15 => ?_) (fun c15 => ?_)
          · have hf := hf.2 a16 c15
            revert hl hf
            subst c15
            intro hl hf
            have hl : lv_has ls 11 [(1, .int p1), (2, va_rf lq2), (3, va_rf lq3), (7, va_rf lq7), (8, .ref a14), (9, .ref a16)] := hl
            refine h_aload_n (o := lq3) hx hb dJ23_find_101 rfl (lv_at hl 2 rfl) ?_
            refine h_ifnonnull (tgt := 114) hx hb dJ23_find_102 (by decide) (fun a18 c17 => ?_) (fun c17 => ?_)
            · have hf := hf.2 a18 c17
              revert hl hf
              subst c17
              intro hl hf
              have hl : lv_has ls 11 [(1, .int p1), (2, va_rf lq2), (3, .ref a18), (7, va_rf lq7), (8, .ref a14), (9, .ref a16)] := hl
              exact J114 lq2 a18 lq7 a14 a16 G hf H locs hI ls (lv_sub hl [0, 1, 2, 3, 4, 5] rfl)
            · have hf := hf.1 c17
              revert hl hf
              subst c17
              intro hl hf
              have hl : lv_has ls 11 [(1, .int p1), (2, va_rf lq2), (3, va_rf none), (7, va_rf lq7), (8, .ref a14), (9, .ref a16)] := hl
              exact hf.elim
          · have hf := hf.1 c15
            revert hl hf
            subst c15
            intro hl hf
            have hl : lv_has ls 11 [(1, .int p1), (2, va_rf lq2), (3, va_rf lq3), (7, va_rf lq7), (8, .ref a14), (9, va_rf none)] := hl
            refine lv_aload hx hb dJ23_find_94 (lv_at hl 4 rfl) ?_
            refine lv_astore (lv' := [(4, .ref a14), (1, .int p1), (2, va_rf lq2), (3, va_rf lq3), (7, va_rf lq7), (8, .ref a14), (9, va_rf none)]) hx hb dJ23_find_96 hl (by decide) (by cases lq3 <;> rfl) (fun ls hl => ?_)
            refine lv_goto (tgt := 165) hx hb dJ23_find_98 (by decide) ?_
            exact J165 lq2 lq3 (some a14) G hf H locs hI ls (lv_sub hl [1, 2, 3, 0] rfl)
        · have hf := hf.1 c13
          revert hl hf
          subst c13
          intro hl hf
          have hl : lv_has ls 11 [(1, .int p1), (2, va_rf lq2), (3, va_rf lq3), (7, va_rf lq7), (8, va_rf none), (9, va_rf lq9)] := hl
          refine h_aload (o := lq9) hx hb dJ23_find_82 (lv_at hl 5 rfl) ?_
          refine h_astore (o := lq9) (lv' := [(4, va_rf lq9), (1, .int p1), (2, va_rf lq2), (3, va_rf lq3), (7, va_rf lq7), (8, va_rf none), (9, va_rf lq9)]) hx hb dJ23_find_84 hl (by decide) (by cases lq3 <;> rfl) (fun ls hl => ?_)
          refine lv_goto (tgt := 165) hx hb dJ23_find_86 (by decide) ?_
          exact J165 lq2 lq3 lq9 G hf H locs hI ls (lv_sub hl [1, 2, 3, 0] rfl)
      intro lq2 lq3 la4 G hf H locs hI ls hl
      have hf : hJ23_find_b3 j Λ a0 p1 post (hJ23_find_l3 j Λ a0 p1 post n3) lq2 lq3 la4 G := hf
      unfold hJ23_find_b3 at hf
      refine lv_aload hx hb dJ23_find_3 (lv_at hl 3 rfl) ?_
      refine hr_gtQ X hI (rfl : jC.1[18]? = some (RJ23, TJ23, 11)) in_J23 7 (Nat.le_of_ble_eq_true rfl) hf q1345 (fun _ h => h) dJ23_find_5 (fun q1 hf => ?_)
      refine h_astore (o := q1) (lv' := [(8, va_rf q1), (1, .int p1), (2, va_rf lq2), (3, va_rf lq3), (4, .ref la4)]) hx hb dJ23_find_8 hl (by decide) rfl (fun ls hl => ?_)
      refine lv_aload hx hb dJ23_find_10 (lv_at hl 4 rfl) ?_
      refine hr_gtQ X hI (rfl : jC.1[18]? = some (RJ23, TJ23, 11)) in_J23 8 (Nat.le_of_ble_eq_true rfl) hf q1346 (fun _ h => h) dJ23_find_12 (fun q2 hf => ?_)
      refine h_astore (o := q2) (lv' := [(9, va_rf q2), (8, va_rf q1), (1, .int p1), (2, va_rf lq2), (3, va_rf lq3), (4, .ref la4)]) hx hb dJ23_find_15 hl (by decide) (by cases q1 <;> rfl) (fun ls hl => ?_)
      refine lv_aload hx hb dJ23_find_17 (lv_at hl 5 rfl) ?_
      refine hr_gtI X hI (rfl : jC.1[18]? = some (RJ23, TJ23, 11)) in_J23 2 (Nat.le_of_ble_eq_true rfl) hf q977 (hsame_of (hts _ q978)) dJ23_find_19 (fun x3 hf => ?_)
      refine lv_dup hx hb dJ23_find_22 rfl ?_
      refine lv_istore (lv' := [(5, .int x3), (9, va_rf q2), (8, va_rf q1), (1, .int p1), (2, va_rf lq2), (3, va_rf lq3), (4, .ref la4)]) hx hb dJ23_find_23 hl (by decide) rfl (fun ls hl => ?_)
      refine lv_iload_n hx hb dJ23_find_25 rfl (lv_at hl 3 rfl) ?_
      refine lv_icmp_le (tgt := 36) hx hb dJ23_find_26 (by decide) (fun c4 => ?_) (fun c4 => ?_)
      · have hf := hf.1 c4
        refine lv_iload hx hb dJ23_find_36 (lv_at hl 0 rfl) ?_
        refine lv_iload_n hx hb dJ23_find_38 rfl (lv_at hl 3 rfl) ?_
        refine lv_icmp_ge (tgt := 49) hx hb dJ23_find_39 (by decide) (fun c5 => ?_) (fun c5 => ?_)
        · have hf := hf.1 c5
          refine lv_aload hx hb dJ23_find_49 (lv_at hl 6 rfl) ?_
          refine hr_gtQ X hI (rfl : jC.1[18]? = some (RJ23, TJ23, 11)) in_J23 3 (Nat.le_of_ble_eq_true rfl) hf q981 (hsame_of (hts _ q982)) dJ23_find_51 (fun q6 hf => ?_)
          refine lv_dup hx hb dJ23_find_54 (h_catq _) ?_
          refine h_astore (o := q6) (lv' := [(7, va_rf q6), (5, .int x3), (9, va_rf q2), (8, va_rf q1), (1, .int p1), (2, va_rf lq2), (3, va_rf lq3), (4, .ref la4)]) hx hb dJ23_find_55 hl (by decide) rfl (fun ls hl => ?_)
          refine h_aload_n (o := lq2) hx hb dJ23_find_57 rfl (lv_at hl 5 rfl) ?_
          refine lv_acmp_eq (rx := q6) (ry := lq2) (tgt := 74) hx hb dJ23_find_58 (by decide) (fun c7 => ?_) (fun c7 => ?_)
          · have hf := hf.1 c7
            refine lv_aload hx hb dJ23_find_74 (lv_at hl 7 rfl) ?_
            exact hret (v := (some la4)) hf hI dJ23_find_76 (Nat.le_refl _) (Nat.le_refl _)
          · have hf := hf.2 c7
            refine h_aload_n (o := lq2) hx hb dJ23_find_61 rfl (lv_at hl 5 rfl) ?_
            refine h_ifnull (tgt := 77) hx hb dJ23_find_62 (by decide) (fun c8 => ?_) (fun a9 c8 => ?_)
            · have hf := hf.1 c8
              revert hl hf
              subst c8
              intro hl hf
              have hl : lv_has ls 11 [(7, va_rf q6), (5, .int x3), (9, va_rf q2), (8, va_rf q1), (1, .int p1), (2, va_rf none), (3, va_rf lq3), (4, .ref la4)] := hl
              exact J77 none lq3 q6 q1 q2 G hf H locs hI ls (lv_sub hl [4, 5, 6, 0, 3, 2] rfl)
            · have hf := hf.2 a9 c8
              revert hl hf
              subst c8
              intro hl hf
              have hl : lv_has ls 11 [(7, va_rf q6), (5, .int x3), (9, va_rf q2), (8, va_rf q1), (1, .int p1), (2, .ref a9), (3, va_rf lq3), (4, .ref la4)] := hl
              refine lv_aload_n hx hb dJ23_find_65 rfl (lv_at hl 5 rfl) ?_
              refine h_aload (o := q6) hx hb dJ23_find_66 (lv_at hl 0 rfl) ?_
              refine h_ki X hI (by rcases hf with ⟨_, _, hO, hf⟩ | ⟨_, _, hO, hf⟩; exact h_runU (As := [va_rf q6]) X hI (h_recv X hI hO (show jC.1[13]? = some (RX13, TX13, 2) from rfl)) (mhX13_equals l Z D j Λ fr lo E a9 q6 G _ hf H.size) (cwA (owner := "java/lang/Object") 1 hts q1327 q1278 q1286 q1287 q214 q1288 (E.nw X q1275 rfl) rfl rfl (by decide +kernel) (by show fr + 1 + 1 ≤ fr + 3 ∧ 8 + (3 + 11) + (lo + 40) ≤ lo + 84; omega)) rfl hl.1 (Nat.le_of_ble_eq_true rfl) dJ23_find_68 ⟨Nat.le_refl _, Nat.le_refl _⟩ rfl; exact h_runU (As := [va_rf q6]) X hI (h_recv X hI hO (show jC.1[20]? = some (RJ8, TJ8, 4) from rfl)) (mhJ8_equals l Z D j Λ fr lo E a9 q6 G _ hf H.size) (cwA (owner := "java/lang/Object") 1 hts q1327 q1278 q1308 q1309 q184 q1310 (E.nw X q1275 rfl) rfl rfl (by decide +kernel) (by show fr + 2 + 1 ≤ fr + 3 ∧ 8 + (3 + 11) + (lo + 62) ≤ lo + 84; omega)) rfl hl.1 (Nat.le_of_ble_eq_true rfl) dJ23_find_68 ⟨Nat.le_refl _, Nat.le_refl _⟩ rfl) (fun x10 G11 H locs hf hI => ?_)
              refine lv_if_eq (tgt := 77) hx hb dJ23_find_71 (by decide) (fun c12 => ?_) (fun c12 => ?_)
              · have hf := hf.1 c12
                exact J77 (some a9) lq3 q6 q1 q2 G11 hf H locs hI ls (lv_sub hl [4, 5, 6, 0, 3, 2] rfl)
              · have hf := hf.2 c12
                refine lv_aload hx hb dJ23_find_74 (lv_at hl 7 rfl) ?_
                exact hret (v := (some la4)) hf hI dJ23_find_76 (Nat.le_refl _) (Nat.le_refl _)
        · have hf := hf.2 c5
          refine h_aload (o := q2) hx hb dJ23_find_42 (lv_at hl 1 rfl) ?_
          refine h_astore (o := q2) (lv' := [(4, va_rf q2), (5, .int x3), (9, va_rf q2), (8, va_rf q1), (1, .int p1), (2, va_rf lq2), (3, va_rf lq3)]) hx hb dJ23_find_44 hl (by decide) (by cases lq3 <;> rfl) (fun ls hl => ?_)
          refine lv_goto (tgt := 165) hx hb dJ23_find_46 (by decide) ?_
          exact J165 lq2 lq3 q2 G hf H locs hI ls (lv_sub hl [4, 5, 6, 0] rfl)
      · have hf := hf.2 c4
        refine h_aload (o := q1) hx hb dJ23_find_29 (lv_at hl 2 rfl) ?_
        refine h_astore (o := q1) (lv' := [(4, va_rf q1), (5, .int x3), (9, va_rf q2), (8, va_rf q1), (1, .int p1), (2, va_rf lq2), (3, va_rf lq3)]) hx hb dJ23_find_31 hl (by decide) (by cases lq3 <;> rfl) (fun ls hl => ?_)
        refine lv_goto (tgt := 165) hx hb dJ23_find_33 (by decide) ?_
        exact J165 lq2 lq3 q1 G hf H locs hI ls (lv_sub hl [4, 5, 6, 0] rfl)
  have hl : lv_has ls 11 [(0, .ref a0), (1, .int p1), (2, va_rf q2_), (3, va_rf q3_)] := by cases q2_ <;> cases q3_ <;> exact hl
  unfold hJ23_find at hf
  obtain ⟨H, eH⟩ : ∃ H, H = s.heap := ⟨_, rfl⟩
  obtain ⟨locs, eL⟩ : ∃ locs : List Loc, locs = [] := ⟨_, rfl⟩
  have hI : HI D jC G A0 s.heap H locs := by rw [eH, eL]; exact hI
  rw [← eL]
  suffices h : W p l e (rhJ23_find fr lo) s m args below meth c H locs 0 0 Q (F0 m 0 ls []) by rw [eH] at h; exact h
  clear eH eL
  refine lv_aload_n hx hb dJ23_find_0 rfl (lv_at hl 0 rfl) ?_
  refine lv_astore (lv' := [(4, .ref a0), (0, .ref a0), (1, .int p1), (2, va_rf q2_), (3, va_rf q3_)]) hx hb dJ23_find_1 hl (by decide) (by cases q3_ <;> rfl) (fun ls hl => ?_)
  obtain ⟨n, hf⟩ := hf
  exact L3 n q2_ q3_ a0 G hf H locs hI ls (lv_sub hl [2, 3, 4, 0] rfl)
/-! java/util/HashMap$TreeNode.<init>(ILjava/lang/Object;Ljava/lang/Object;Ljava/util/HashMap$Node;)V -/
def hJ23_init (j : JX) (Λ : JLam) (a0 : Nat) (p1 : Int32) (q2_ : Option Nat) (q3_ : Option Nat) (q4_ : Option Nat) (G : HG) (post : HG → Prop) : Prop :=
  hJ22_init j Λ a0 p1 q2_ q3_ q4_ G fun G1 => post G1
abbrev rhJ23_init (fr lo : Nat) : Room := { frames := fr + 3, cells := 0, slots := 0, locals := lo + 88 }
theorem mhJ23_init (l : Launch) (Z : (Nat → Prop) → State → Heap → Prop) (D : va_G) (j : JX) (Λ : JLam) (fr lo : Nat) (E : JE l Z D j Λ fr lo) (a0 : Nat) (p1 : Int32) (q2_ : Option Nat) (q3_ : Option Nat) (q4_ : Option Nat) (G : HG) (post : HG → Prop) (hf : hJ23_init j Λ a0 p1 q2_ q3_ q4_ G post) : HMv l yJ23_init (ws_ yJ23_init cJ23_init 5 none) (rhJ23_init fr lo) D jC (jty j.1) Z G [.ref a0, .int p1, va_rf q2_, va_rf q3_, va_rf q4_] post 0 0 := by
  refine h_openv E.1 (by decide) (by cases q2_ <;> cases q3_ <;> cases q4_ <;> exact Nat.le_of_ble_eq_true rfl) (fun p e s m args below meth c ls A0 Q X hI hnd hnm hl hret => ?_)
  have X : XC p s m args meth c cJ23_init 5 RJ23 D jC (jty j.1) A0 Z := X
  have hx := X.1
  have hb := X.2.1
  have hown := X.2.2.2.1
  have hts := X.2.2.2.2.1
  have hl : lv_has ls 5 [(0, .ref a0), (1, .int p1), (2, va_rf q2_), (3, va_rf q3_), (4, va_rf q4_)] := by cases q2_ <;> cases q3_ <;> cases q4_ <;> exact hl
  unfold hJ23_init at hf
  obtain ⟨H, eH⟩ : ∃ H, H = s.heap := ⟨_, rfl⟩
  obtain ⟨locs, eL⟩ : ∃ locs : List Loc, locs = [] := ⟨_, rfl⟩
  have hI : HI D jC G A0 s.heap H locs := by rw [eH, eL]; exact hI
  rw [← eL]
  suffices h : W p l e (rhJ23_init fr lo) s m args below meth c H locs 0 0 Q (F0 m 0 ls []) by rw [eH] at h; exact h
  clear eH eL
  refine lv_aload_n hx hb dJ23_init_0 rfl (lv_at hl 0 rfl) ?_
  refine lv_iload_n hx hb dJ23_init_1 rfl (lv_at hl 1 rfl) ?_
  refine h_aload_n (o := q2_) hx hb dJ23_init_2 rfl (lv_at hl 2 rfl) ?_
  refine h_aload_n (o := q3_) hx hb dJ23_init_3 rfl (lv_at hl 3 rfl) ?_
  refine h_aload (o := q4_) hx hb dJ23_init_4 (lv_at hl 4 rfl) ?_
  refine h_kv X hI (h_runI (As := [.int p1, va_rf q2_, va_rf q3_, va_rf q4_]) X hI (mhJ22_init l Z D j Λ fr lo E a0 p1 q2_ q3_ q4_ G _ hf H.size) (cwIn 4 hts q1340 q1341 q200 q1342 rfl rfl rfl (by decide +kernel) (by show fr + 2 + 1 ≤ fr + 3 ∧ 8 + (5 + 11) + (lo + 64) ≤ lo + 88; omega)) rfl hl.1 (Nat.le_of_ble_eq_true rfl) dJ23_init_6 ⟨Nat.le_refl _, Nat.le_refl _⟩ rfl) (fun G1 H locs hf hI => ?_)
  exact hret hf hI dJ23_init_9 (Nat.le_refl _) (Nat.le_refl _)
/-! java/util/HashMap.newTreeNode(ILjava/lang/Object;Ljava/lang/Object;Ljava/util/HashMap$Node;)Ljava/util/HashMap$TreeNode; -/
def hJ5_newTreeNode (j : JX) (Λ : JLam) (a0 : Nat) (p1 : Int32) (q2_ : Option Nat) (q3_ : Option Nat) (q4_ : Option Nat) (mc ms : Nat) (G : HG) (post : Option Nat → HG → Prop) : Prop :=
  1 ≤ mc ∧ 11 ≤ ms ∧ mkO G (.inr (18, [.null, .null, .int 0, .null, .null, .null, .null, .null, .null, .null, .int 0])) fun a1 G2 => hJ23_init j Λ a1 p1 q2_ q3_ q4_ G2 fun G3 => post (some a1) G3
abbrev rhJ5_newTreeNode (fr lo mc ms : Nat) : Room := { frames := fr + 4, cells := mc, slots := ms, locals := lo + 112 }
theorem mhJ5_newTreeNode (l : Launch) (Z : (Nat → Prop) → State → Heap → Prop) (D : va_G) (j : JX) (Λ : JLam) (fr lo : Nat) (E : JE l Z D j Λ fr lo) (a0 : Nat) (p1 : Int32) (q2_ : Option Nat) (q3_ : Option Nat) (q4_ : Option Nat) (mc ms : Nat) (G : HG) (post : Option Nat → HG → Prop) (hf : hJ5_newTreeNode j Λ a0 p1 q2_ q3_ q4_ mc ms G post) : HMq l yJ5_newTreeNode (ws_ yJ5_newTreeNode cJ5_newTreeNode 5 (some (.object "java/util/HashMap$TreeNode"))) (rhJ5_newTreeNode fr lo mc ms) D jC (jty j.1) Z G [.ref a0, .int p1, va_rf q2_, va_rf q3_, va_rf q4_] post mc ms := by
  obtain ⟨MC, eMC⟩ : ∃ MC, MC = mc := ⟨_, rfl⟩
  obtain ⟨MS, eMS⟩ : ∃ MS, MS = ms := ⟨_, rfl⟩
  suffices goal : HMq l yJ5_newTreeNode (ws_ yJ5_newTreeNode cJ5_newTreeNode 5 (some (.object "java/util/HashMap$TreeNode"))) (rhJ5_newTreeNode fr lo MC MS) D jC (jty j.1) Z G [.ref a0, .int p1, va_rf q2_, va_rf q3_, va_rf q4_] post MC MS by rw [eMC, eMS] at goal; exact goal
  have hm0_ : 0 + mc ≤ MC ∧ 0 + ms ≤ MS := by omega
  clear eMC eMS
  refine h_openq (Or.inl ⟨_, rfl⟩) E.1 (by decide) (by cases q2_ <;> cases q3_ <;> cases q4_ <;> exact Nat.le_of_ble_eq_true rfl) (fun p e s m args below meth c ls A0 Q X hI hnd hnm hl hret => ?_)
  have X : XC p s m args meth c cJ5_newTreeNode 5 RJ5 D jC (jty j.1) A0 Z := X
  have hx := X.1
  have hb := X.2.1
  have hown := X.2.2.2.1
  have hts := X.2.2.2.2.1
  have hl : lv_has ls 5 [(0, .ref a0), (1, .int p1), (2, va_rf q2_), (3, va_rf q3_), (4, va_rf q4_)] := by cases q2_ <;> cases q3_ <;> cases q4_ <;> exact hl
  unfold hJ5_newTreeNode at hf
  obtain ⟨H, eH⟩ : ∃ H, H = s.heap := ⟨_, rfl⟩
  obtain ⟨locs, eL⟩ : ∃ locs : List Loc, locs = [] := ⟨_, rfl⟩
  have hI : HI D jC G A0 s.heap H locs := by rw [eH, eL]; exact hI
  rw [← eL]
  obtain ⟨cells, eC⟩ : ∃ n : Nat, n = 0 := ⟨_, rfl⟩
  obtain ⟨slots, eS⟩ : ∃ n : Nat, n = 0 := ⟨_, rfl⟩
  have hm : cells + mc ≤ MC ∧ slots + ms ≤ MS := by rw [eC, eS]; exact hm0_
  suffices h : W p l e (rhJ5_newTreeNode fr lo MC MS) s m args below meth c H locs cells slots Q (F0 m 0 ls []) by rw [eH, eC, eS] at h; exact h
  clear eH eL eC eS
  obtain ⟨hb1, hb2, hf⟩ := hf
  refine hr_new X hI (rfl : jC.1[18]? = some (RJ23, TJ23, 11)) in_J23 tyJ23 tyJ23_ok hf q957 q1336 q201 (by decide) (hmA hm.1 hb1) (hmA hm.2 hb2) dJ5_newTreeNode_0 (fun a1 G2 H hf hI => ?_)
  have hm := And.intro (hmB hm.1 hb1) (hmB hm.2 hb2)
  clear hb1 hb2
  refine lv_dup hx hb dJ5_newTreeNode_3 rfl ?_
  refine lv_iload_n hx hb dJ5_newTreeNode_4 rfl (lv_at hl 1 rfl) ?_
  refine h_aload_n (o := q2_) hx hb dJ5_newTreeNode_5 rfl (lv_at hl 2 rfl) ?_
  refine h_aload_n (o := q3_) hx hb dJ5_newTreeNode_6 rfl (lv_at hl 3 rfl) ?_
  refine h_aload (o := q4_) hx hb dJ5_newTreeNode_7 (lv_at hl 4 rfl) ?_
  refine h_kv X hI (h_runI (As := [.int p1, va_rf q2_, va_rf q3_, va_rf q4_]) X hI (mhJ23_init l Z D j Λ fr lo E a1 p1 q2_ q3_ q4_ G2 _ hf H.size) (cwIn 4 hts q1337 q1338 q201 q1339 rfl rfl rfl (by decide +kernel) (by show fr + 3 + 1 ≤ fr + 4 ∧ 8 + (5 + 11) + (lo + 88) ≤ lo + 112; omega)) rfl hl.1 (Nat.le_of_ble_eq_true rfl) dJ5_newTreeNode_9 ⟨hm0 hm.1, hm0 hm.2⟩ rfl) (fun G3 H locs hf hI => ?_)
  exact hret (v := (some a1)) hf hI dJ5_newTreeNode_12 (hmC hm.1) (hmC hm.2)
/-! java/util/HashMap$TreeNode.putTreeVal(Ljava/util/HashMap;[Ljava/util/HashMap$Node;ILjava/lang/Object;Ljava/lang/Object;)Ljava/util/HashMap$TreeNode; -/
def hJ23_putTreeVal_b298 (j : JX) (Λ : JLam) (a0 : Nat) (p3 : Int32) (post : Option Nat → HG → Prop) (lq2 : Option Nat) (lq8 : Option Nat) (la15 : Nat) (mc ms : Nat) (G : HG) : Prop :=
  hJ23_balanceInsertion j Λ lq8 (some la15) G fun q41 G40 => hJ23_moveRootToFront j Λ lq2 q41 G40 fun G42 => post none G42
def hJ23_putTreeVal_b263 (j : JX) (Λ : JLam) (a0 : Nat) (p3 : Int32) (post : Option Nat → HG → Prop) (lq2 : Option Nat) (lq8 : Option Nat) (la13 : Nat) (lq14 : Option Nat) (lq15 : Option Nat) (mc ms : Nat) (G : HG) : Prop :=
  ptV G la13 18 5 (va_rf lq15) fun G33 => nnq lq15 fun a34 => ptV G33 a34 18 9 (.ref la13) fun G35 => ptV G35 a34 18 6 (.ref la13) fun G36 => (lq14 = none → (hJ23_putTreeVal_b298 j Λ a0 p3 post lq2 lq8 a34 mc ms G36)) ∧ (∀ a38, lq14 = some a38 → (csO G36 (some a38) "java/util/HashMap$TreeNode" (ptV G36 a38 18 9 (.ref a34) fun G39 => hJ23_putTreeVal_b298 j Λ a0 p3 post lq2 lq8 a34 mc ms G39)))
def hJ23_putTreeVal_b215 (j : JX) (Λ : JLam) (a0 : Nat) (p3 : Int32) (post : Option Nat → HG → Prop) (K27 : Option Nat → Option Nat → Option Nat → Option Nat → Option Nat → Int32 → Option Nat → Option Nat → Nat → Nat → HG → Prop) (lq1 : Option Nat) (lq2 : Option Nat) (lq4 : Option Nat) (lq5 : Option Nat) (lq6 : Option Nat) (lx7 : Int32) (lq8 : Option Nat) (lx10 : Int32) (la13 : Nat) (z0 : Option Nat) (mc ms : Nat) (G : HG) : Prop :=
  (z0 = none → (gtQ G la13 18 5 fun q24 => nnq lq1 fun a25 => isO G a25 16 (∃ m26 m27 : Nat, m26 ≤ mc ∧ m27 ≤ ms ∧ hJ5_newTreeNode j Λ a25 p3 lq4 lq5 q24 m26 m27 G fun q29 G28 => (0 < lx10 → (ptV G28 la13 18 8 (va_rf q29) fun G31 => hJ23_putTreeVal_b263 j Λ a0 p3 post lq2 lq8 la13 q24 q29 (mc - m26) (ms - m27) G31)) ∧ (¬ 0 < lx10 → (ptV G28 la13 18 7 (va_rf q29) fun G32 => hJ23_putTreeVal_b263 j Λ a0 p3 post lq2 lq8 la13 q24 q29 (mc - m26) (ms - m27) G32))))) ∧ (∀ a23, z0 = some a23 → (K27 lq1 lq2 lq4 lq5 lq6 lx7 lq8 (some a23) mc ms G))
def hJ23_putTreeVal_b193 (j : JX) (Λ : JLam) (a0 : Nat) (p3 : Int32) (post : Option Nat → HG → Prop) (K27 : Option Nat → Option Nat → Option Nat → Option Nat → Option Nat → Int32 → Option Nat → Option Nat → Nat → Nat → HG → Prop) (lq1 : Option Nat) (lq2 : Option Nat) (lq4 : Option Nat) (lq5 : Option Nat) (lq6 : Option Nat) (lx7 : Int32) (lq8 : Option Nat) (la9 : Nat) (lx10 : Int32) (mc ms : Nat) (G : HG) : Prop :=
  (0 < lx10 → (gtQ G la9 18 8 fun q20 => hJ23_putTreeVal_b215 j Λ a0 p3 post K27 lq1 lq2 lq4 lq5 lq6 lx7 lq8 lx10 la9 q20 mc ms G)) ∧ (¬ 0 < lx10 → (gtQ G la9 18 7 fun q21 => hJ23_putTreeVal_b215 j Λ a0 p3 post K27 lq1 lq2 lq4 lq5 lq6 lx7 lq8 lx10 la9 q21 mc ms G))
def hJ23_putTreeVal_b104 (j : JX) (Λ : JLam) (a0 : Nat) (p3 : Int32) (post : Option Nat → HG → Prop) (K27 : Option Nat → Option Nat → Option Nat → Option Nat → Option Nat → Int32 → Option Nat → Option Nat → Nat → Nat → HG → Prop) (lq1 : Option Nat) (lq2 : Option Nat) (lq4 : Option Nat) (lq5 : Option Nat) (la6 : Nat) (lx7 : Int32) (lq8 : Option Nat) (la9 : Nat) (lq12 : Option Nat) (mc ms : Nat) (G : HG) : Prop :=
  False
def hJ23_putTreeVal_b88 (j : JX) (Λ : JLam) (a0 : Nat) (p3 : Int32) (post : Option Nat → HG → Prop) (K27 : Option Nat → Option Nat → Option Nat → Option Nat → Option Nat → Int32 → Option Nat → Option Nat → Nat → Nat → HG → Prop) (lq1 : Option Nat) (lq2 : Option Nat) (lq4 : Option Nat) (lq5 : Option Nat) (lq6 : Option Nat) (lx7 : Int32) (lq8 : Option Nat) (la9 : Nat) (lq12 : Option Nat) (mc ms : Nat) (G : HG) : Prop :=
  (lq6 = none → (False)) ∧ (∀ a18, lq6 = some a18 → (hJ23_putTreeVal_b104 j Λ a0 p3 post K27 lq1 lq2 lq4 lq5 a18 lx7 lq8 la9 lq12 mc ms G))
def hJ23_putTreeVal_b27 (j : JX) (Λ : JLam) (a0 : Nat) (p3 : Int32) (post : Option Nat → HG → Prop) (K27 : Option Nat → Option Nat → Option Nat → Option Nat → Option Nat → Int32 → Option Nat → Option Nat → Nat → Nat → HG → Prop) (lq1 : Option Nat) (lq2 : Option Nat) (lq4 : Option Nat) (lq5 : Option Nat) (lq6 : Option Nat) (lx7 : Int32) (lq8 : Option Nat) (lq9 : Option Nat) (mc ms : Nat) (G : HG) : Prop :=
  nnq lq9 fun a6 => gtI G a6 18 2 fun x7 => (x7 ≤ p3 → ((p3 ≤ x7 → (gtQ G a6 18 3 fun q10 => (q10 = lq4 → (post (some a6) G)) ∧ (¬ q10 = lq4 → ((lq4 = none → (hJ23_putTreeVal_b88 j Λ a0 p3 post K27 lq1 lq2 none lq5 lq6 lx7 lq8 a6 q10 mc ms G)) ∧ (∀ a13, lq4 = some a13 → (dispequals j Λ a13 q10 G fun x14 G15 => (x14 = 0 → (hJ23_putTreeVal_b88 j Λ a0 p3 post K27 lq1 lq2 (some a13) lq5 lq6 lx7 lq8 a6 q10 mc ms G15)) ∧ (¬ x14 = 0 → (post (some a6) G15)))))))) ∧ (¬ p3 ≤ x7 → (hJ23_putTreeVal_b193 j Λ a0 p3 post K27 lq1 lq2 lq4 lq5 lq6 lx7 lq8 a6 (1 : Int32) mc ms G)))) ∧ (¬ x7 ≤ p3 → (hJ23_putTreeVal_b193 j Λ a0 p3 post K27 lq1 lq2 lq4 lq5 lq6 lx7 lq8 a6 ((-1) : Int32) mc ms G))
def hJ23_putTreeVal_l27 (j : JX) (Λ : JLam) (a0 : Nat) (p3 : Int32) (post : Option Nat → HG → Prop) : Nat → Option Nat → Option Nat → Option Nat → Option Nat → Option Nat → Int32 → Option Nat → Option Nat → Nat → Nat → HG → Prop
  | 0 => fun _ _ _ _ _ _ _ _ _ _ _ => False
  | n + 1 => fun lq1 lq2 lq4 lq5 lq6 lx7 lq8 lq9 mc ms G => hJ23_putTreeVal_b27 j Λ a0 p3 post (hJ23_putTreeVal_l27 j Λ a0 p3 post n) lq1 lq2 lq4 lq5 lq6 lx7 lq8 lq9 mc ms G
def hJ23_putTreeVal_b21 (j : JX) (Λ : JLam) (a0 : Nat) (p3 : Int32) (post : Option Nat → HG → Prop) (lq1 : Option Nat) (lq2 : Option Nat) (lq4 : Option Nat) (lq5 : Option Nat) (lq6 : Option Nat) (lx7 : Int32) (z0 : Option Nat) (mc ms : Nat) (G : HG) : Prop :=
  ∃ n, hJ23_putTreeVal_l27 j Λ a0 p3 post n lq1 lq2 lq4 lq5 lq6 lx7 z0 z0 mc ms G
def hJ23_putTreeVal (j : JX) (Λ : JLam) (a0 : Nat) (q1_ : Option Nat) (q2_ : Option Nat) (p3 : Int32) (q4_ : Option Nat) (q5_ : Option Nat) (mc ms : Nat) (G : HG) (post : Option Nat → HG → Prop) : Prop :=
  gtQ G a0 18 6 fun q1 => (q1 = none → (hJ23_putTreeVal_b21 j Λ a0 p3 post q1_ q2_ q4_ q5_ none (0 : Int32) (some a0) mc ms G)) ∧ (∀ a3, q1 = some a3 → (isO G a0 18 (hJ23_root j Λ a0 G fun q5 G4 => hJ23_putTreeVal_b21 j Λ a0 p3 post q1_ q2_ q4_ q5_ none (0 : Int32) q5 mc ms G4)))
abbrev rhJ23_putTreeVal (fr lo mc ms : Nat) : Room := { frames := fr + 5, cells := mc, slots := ms, locals := lo + 136 }
theorem mhJ23_putTreeVal (l : Launch) (Z : (Nat → Prop) → State → Heap → Prop) (D : va_G) (j : JX) (Λ : JLam) (fr lo : Nat) (E : JE l Z D j Λ fr lo) (a0 : Nat) (q1_ : Option Nat) (q2_ : Option Nat) (p3 : Int32) (q4_ : Option Nat) (q5_ : Option Nat) (mc ms : Nat) (G : HG) (post : Option Nat → HG → Prop) (hf : hJ23_putTreeVal j Λ a0 q1_ q2_ p3 q4_ q5_ mc ms G post) : HMq l yJ23_putTreeVal (ws_ yJ23_putTreeVal cJ23_putTreeVal 16 (some (.object "java/util/HashMap$TreeNode"))) (rhJ23_putTreeVal fr lo mc ms) D jC (jty j.1) Z G [.ref a0, va_rf q1_, va_rf q2_, .int p3, va_rf q4_, va_rf q5_] post mc ms := by
  obtain ⟨MC, eMC⟩ : ∃ MC, MC = mc := ⟨_, rfl⟩
  obtain ⟨MS, eMS⟩ : ∃ MS, MS = ms := ⟨_, rfl⟩
  suffices goal : HMq l yJ23_putTreeVal (ws_ yJ23_putTreeVal cJ23_putTreeVal 16 (some (.object "java/util/HashMap$TreeNode"))) (rhJ23_putTreeVal fr lo MC MS) D jC (jty j.1) Z G [.ref a0, va_rf q1_, va_rf q2_, .int p3, va_rf q4_, va_rf q5_] post MC MS by rw [eMC, eMS] at goal; exact goal
  have hm0_ : 0 + mc ≤ MC ∧ 0 + ms ≤ MS := by omega
  clear eMC eMS
  refine h_openq (Or.inl ⟨_, rfl⟩) E.1 (by decide) (by cases q1_ <;> cases q2_ <;> cases q4_ <;> cases q5_ <;> exact Nat.le_of_ble_eq_true rfl) (fun p e s m args below meth c ls A0 Q X hI hnd hnm hl hret => ?_)
  have X : XC p s m args meth c cJ23_putTreeVal 16 RJ23 D jC (jty j.1) A0 Z := X
  have hx := X.1
  have hb := X.2.1
  have hown := X.2.2.2.1
  have hts := X.2.2.2.2.1
  have J298 : ∀ (lq2 : Option Nat) (lq8 : Option Nat) (la15 : Nat) (mc ms : Nat) (G : HG), hJ23_putTreeVal_b298 j Λ a0 p3 post lq2 lq8 la15 mc ms G → ∀ (cells slots : Nat), cells + mc ≤ MC ∧ slots + ms ≤ MS → ∀ (H : Heap) (locs : List Loc), HI D jC G A0 s.heap H locs → ∀ (ls : Array Slot), lv_has ls 16 [(2, va_rf lq2), (8, va_rf lq8), (15, .ref la15)] → W p l e (rhJ23_putTreeVal fr lo MC MS) s m args below meth c H locs cells slots Q (F0 m 298 ls []) := by
    intro lq2 lq8 la15 mc ms G hf cells slots hm H locs hI ls hl
    unfold hJ23_putTreeVal_b298 at hf
    refine h_aload_n (o := lq2) hx hb dJ23_putTreeVal_298 rfl (lv_at hl 0 rfl) ?_
    refine h_aload (o := lq8) hx hb dJ23_putTreeVal_299 (lv_at hl 1 rfl) ?_
    refine lv_aload hx hb dJ23_putTreeVal_301 (lv_at hl 2 rfl) ?_
    refine h_kq X hI (h_runS (As := [va_rf lq8, va_rf (some la15)]) X hI (mhJ23_balanceInsertion l Z D j Λ fr lo E lq8 (some la15) G _ hf H.size) (va_cwS 2 hts (lw_S q1257 q1258 q201 q1259) rfl rfl rfl (by decide +kernel) (by show fr + 2 + 1 ≤ fr + 5 ∧ 8 + (6 + 11) + (lo + 64) ≤ lo + 136; omega)) rfl hl.1 (by cases lq2 <;> exact Nat.le_of_ble_eq_true rfl) dJ23_putTreeVal_303 ⟨hm0 hm.1, hm0 hm.2⟩ rfl) (fun q41 G40 H locs hf hI => ?_)
    refine h_kv X hI (h_runS (As := [va_rf lq2, va_rf q41]) X hI (mhJ23_moveRootToFront l Z D j Λ fr lo E lq2 q41 G40 _ hf H.size) (va_cwS 2 hts (lw_S q1266 q1267 q201 q1268) rfl rfl rfl (by decide +kernel) (by show fr + 1 + 1 ≤ fr + 5 ∧ 8 + (7 + 11) + (lo + 40) ≤ lo + 136; omega)) rfl hl.1 (Nat.le_of_ble_eq_true rfl) dJ23_putTreeVal_306 ⟨hm0 hm.1, hm0 hm.2⟩ rfl) (fun G42 H locs hf hI => ?_)
    refine lv_null hx hb dJ23_putTreeVal_309 ?_
    exact hret (v := none) hf hI dJ23_putTreeVal_310 (hmC hm.1) (hmC hm.2)
  have J263 : ∀ (lq2 : Option Nat) (lq8 : Option Nat) (la13 : Nat) (lq14 : Option Nat) (lq15 : Option Nat) (mc ms : Nat) (G : HG), hJ23_putTreeVal_b263 j Λ a0 p3 post lq2 lq8 la13 lq14 lq15 mc ms G → ∀ (cells slots : Nat), cells + mc ≤ MC ∧ slots + ms ≤ MS → ∀ (H : Heap) (locs : List Loc), HI D jC G A0 s.heap H locs → ∀ (ls : Array Slot), lv_has ls 16 [(2, va_rf lq2), (8, va_rf lq8), (13, .ref la13), (14, va_rf lq14), (15, va_rf lq15)] → W p l e (rhJ23_putTreeVal fr lo MC MS) s m args below meth c H locs cells slots Q (F0 m 263 ls []) := by
    intro lq2 lq8 la13 lq14 lq15 mc ms G hf cells slots hm H locs hI ls hl
    unfold hJ23_putTreeVal_b263 at hf
    refine lv_aload hx hb dJ23_putTreeVal_263 (lv_at hl 2 rfl) ?_
    refine h_aload (o := lq15) hx hb dJ23_putTreeVal_265 (lv_at hl 4 rfl) ?_
    refine hr_pt X hI (rfl : jC.1[18]? = some (RJ23, TJ23, 11)) in_J23 5 (Nat.le_of_ble_eq_true rfl) tyJ23 tyJ23_ok nmJ23 hf q987 (hsame_of (hts _ q988)) rfl (nar_o _ _) (fit_o _ _) dJ23_putTreeVal_267 (fun G33 H locs hf hI => ?_)
    refine h_aload (o := lq15) hx hb dJ23_putTreeVal_270 (lv_at hl 4 rfl) ?_
    refine h_aload (o := lq15) hx hb dJ23_putTreeVal_272 (lv_at hl 4 rfl) ?_
    refine lv_aload hx hb dJ23_putTreeVal_274 (lv_at hl 2 rfl) ?_
    refine lv_dup_x1 hx hb dJ23_putTreeVal_276 rfl (h_catq _) ?_
    obtain ⟨a34, ea34, hf⟩ := hf
    revert hl hf
    subst ea34
    intro hl hf
    have hl : lv_has ls 16 [(2, va_rf lq2), (8, va_rf lq8), (13, .ref la13), (14, va_rf lq14), (15, .ref a34)] := hl
    refine hr_pt X hI (rfl : jC.1[18]? = some (RJ23, TJ23, 11)) in_J23 9 (Nat.le_of_ble_eq_true rfl) tyJ23 tyJ23_ok nmJ23 hf q1347 (fun _ h => h) rfl rfl rfl dJ23_putTreeVal_277 (fun G35 H locs hf hI => ?_)
    refine hr_pt X hI (rfl : jC.1[18]? = some (RJ23, TJ23, 11)) in_J23 6 (Nat.le_of_ble_eq_true rfl) tyJ23 tyJ23_ok nmJ23 hf q1344 (fun _ h => h) rfl rfl rfl dJ23_putTreeVal_280 (fun G36 H locs hf hI => ?_)
    refine h_aload (o := lq14) hx hb dJ23_putTreeVal_283 (lv_at hl 3 rfl) ?_
    refine h_ifnull (tgt := 298) hx hb dJ23_putTreeVal_285 (by decide) (fun c37 => ?_) (fun a38 c37 => ?_)
    · have hf := hf.1 c37
      revert hl hf
      subst c37
      intro hl hf
      have hl : lv_has ls 16 [(2, va_rf lq2), (8, va_rf lq8), (13, .ref la13), (14, va_rf none), (15, .ref a34)] := hl
      exact J298 lq2 lq8 a34 mc ms G36 hf _ _ hm H locs hI ls (lv_sub hl [0, 1, 4] rfl)
    · have hf := hf.2 a38 c37
      revert hl hf
      subst c37
      intro hl hf
      have hl : lv_has ls 16 [(2, va_rf lq2), (8, va_rf lq8), (13, .ref la13), (14, .ref a38), (15, .ref a34)] := hl
      refine lv_aload hx hb dJ23_putTreeVal_288 (lv_at hl 3 rfl) ?_
      refine hr_cast (v := (some a38)) E X hI hf q962 dJ23_putTreeVal_290 (fun hf => ?_)
      refine lv_aload hx hb dJ23_putTreeVal_293 (lv_at hl 4 rfl) ?_
      refine hr_pt X hI (rfl : jC.1[18]? = some (RJ23, TJ23, 11)) in_J23 9 (Nat.le_of_ble_eq_true rfl) tyJ23 tyJ23_ok nmJ23 hf q1347 (fun _ h => h) rfl rfl rfl dJ23_putTreeVal_295 (fun G39 H locs hf hI => ?_)
      exact J298 lq2 lq8 a34 mc ms G39 hf _ _ hm H locs hI ls (lv_sub hl [0, 1, 4] rfl)
  have L27 : ∀ (n : Nat) (lq1 : Option Nat) (lq2 : Option Nat) (lq4 : Option Nat) (lq5 : Option Nat) (lq6 : Option Nat) (lx7 : Int32) (lq8 : Option Nat) (lq9 : Option Nat) (mc ms : Nat) (G : HG), hJ23_putTreeVal_l27 j Λ a0 p3 post n lq1 lq2 lq4 lq5 lq6 lx7 lq8 lq9 mc ms G → ∀ (cells slots : Nat), cells + mc ≤ MC ∧ slots + ms ≤ MS → ∀ (H : Heap) (locs : List Loc), HI D jC G A0 s.heap H locs → ∀ (ls : Array Slot), lv_has ls 16 [(1, va_rf lq1), (2, va_rf lq2), (3, .int p3), (4, va_rf lq4), (5, va_rf lq5), (6, va_rf lq6), (7, .int lx7), (8, va_rf lq8), (9, va_rf lq9)] → W p l e (rhJ23_putTreeVal fr lo MC MS) s m args below meth c H locs cells slots Q (F0 m 27 ls []) := by
    intro n27
    induction n27 with
    | zero => intro lq1 lq2 lq4 lq5 lq6 lx7 lq8 lq9 mc ms G hf; exact hf.elim
    | succ n27 ih27 =>
      have J215 : ∀ (lq1 : Option Nat) (lq2 : Option Nat) (lq4 : Option Nat) (lq5 : Option Nat) (lq6 : Option Nat) (lx7 : Int32) (lq8 : Option Nat) (lx10 : Int32) (la13 : Nat) (z0 : Option Nat) (mc ms : Nat) (G : HG), hJ23_putTreeVal_b215 j Λ a0 p3 post (hJ23_putTreeVal_l27 j Λ a0 p3 post n27) lq1 lq2 lq4 lq5 lq6 lx7 lq8 lx10 la13 z0 mc ms G → ∀ (cells slots : Nat), cells + mc ≤ MC ∧ slots + ms ≤ MS → ∀ (H : Heap) (locs : List Loc), HI D jC G A0 s.heap H locs → ∀ (ls : Array Slot), lv_has ls 16 [(1, va_rf lq1), (2, va_rf lq2), (3, .int p3), (4, va_rf lq4), (5, va_rf lq5), (6, va_rf lq6), (7, .int lx7), (8, va_rf lq8), (10, .int lx10), (13, .ref la13)] → W p l e (rhJ23_putTreeVal fr lo MC MS) s m args below meth c H locs cells slots Q (F0 m 215 ls [va_rf z0]) := by
        intro lq1 lq2 lq4 lq5 lq6 lx7 lq8 lx10 la13 z0 mc ms G hf cells slots hm H locs hI ls hl
        unfold hJ23_putTreeVal_b215 at hf
        refine lv_dup hx hb dJ23_putTreeVal_215 (h_catq _) ?_
        refine h_astore (o := z0) (lv' := [(9, va_rf z0), (1, va_rf lq1), (2, va_rf lq2), (3, .int p3), (4, va_rf lq4), (5, va_rf lq5), (6, va_rf lq6), (7, .int lx7), (8, va_rf lq8), (10, .int lx10), (13, .ref la13)]) hx hb dJ23_putTreeVal_216 hl (by decide) (by cases lq8 <;> rfl) (fun ls hl => ?_)
        refine h_ifnonnull (tgt := 311) hx hb dJ23_putTreeVal_218 (by decide) (fun a23 c22 => ?_) (fun c22 => ?_)
        · have hf := hf.2 a23 c22
          revert hl hf
          subst c22
          intro hl hf
          have hl : lv_has ls 16 [(9, .ref a23), (1, va_rf lq1), (2, va_rf lq2), (3, .int p3), (4, va_rf lq4), (5, va_rf lq5), (6, va_rf lq6), (7, .int lx7), (8, va_rf lq8), (10, .int lx10), (13, .ref la13)] := hl
          refine lv_goto (tgt := 27) hx hb dJ23_putTreeVal_311 (by decide) ?_
          exact ih27 lq1 lq2 lq4 lq5 lq6 lx7 lq8 (some a23) mc ms G hf _ _ hm H locs hI ls (lv_sub hl [1, 2, 3, 4, 5, 6, 7, 8, 0] rfl)
        · have hf := hf.1 c22
          revert hl hf
          subst c22
          intro hl hf
          have hl : lv_has ls 16 [(9, va_rf none), (1, va_rf lq1), (2, va_rf lq2), (3, .int p3), (4, va_rf lq4), (5, va_rf lq5), (6, va_rf lq6), (7, .int lx7), (8, va_rf lq8), (10, .int lx10), (13, .ref la13)] := hl
          refine lv_aload hx hb dJ23_putTreeVal_221 (lv_at hl 10 rfl) ?_
          refine hr_gtQ X hI (rfl : jC.1[18]? = some (RJ23, TJ23, 11)) in_J23 5 (Nat.le_of_ble_eq_true rfl) hf q987 (hsame_of (hts _ q988)) dJ23_putTreeVal_223 (fun q24 hf => ?_)
          refine h_astore (o := q24) (lv' := [(14, va_rf q24), (9, va_rf none), (1, va_rf lq1), (2, va_rf lq2), (3, .int p3), (4, va_rf lq4), (5, va_rf lq5), (6, va_rf lq6), (7, .int lx7), (8, va_rf lq8), (10, .int lx10), (13, .ref la13)]) hx hb dJ23_putTreeVal_226 hl (by decide) rfl (fun ls hl => ?_)
          refine h_aload_n (o := lq1) hx hb dJ23_putTreeVal_228 rfl (lv_at hl 2 rfl) ?_
          refine lv_iload_n hx hb dJ23_putTreeVal_229 rfl (lv_at hl 4 rfl) ?_
          refine h_aload (o := lq4) hx hb dJ23_putTreeVal_230 (lv_at hl 5 rfl) ?_
          refine h_aload (o := lq5) hx hb dJ23_putTreeVal_232 (lv_at hl 6 rfl) ?_
          refine h_aload (o := q24) hx hb dJ23_putTreeVal_234 (lv_at hl 0 rfl) ?_
          obtain ⟨a25, ea25, hf⟩ := hf
          revert hl hf
          subst ea25
          intro hl hf
          have hl : lv_has ls 16 [(14, va_rf q24), (9, va_rf none), (1, .ref a25), (2, va_rf lq2), (3, .int p3), (4, va_rf lq4), (5, va_rf lq5), (6, va_rf lq6), (7, .int lx7), (8, va_rf lq8), (10, .int lx10), (13, .ref la13)] := hl
          obtain ⟨_, _, hO, hf⟩ := hf
          obtain ⟨m26, m27, hb1, hb2, hf⟩ := hf
          refine h_kq X hI (h_runV (As := [.int p3, va_rf lq4, va_rf lq5, va_rf q24]) X hI (h_recv X hI hO (show jC.1[16]? = some (RJ5, TJ5, 8) from rfl)) (mhJ5_newTreeNode l Z D j Λ fr lo E a25 p3 lq4 lq5 q24 m26 m27 G _ hf H.size) (cwV 4 hts (lw_V q1332 q1333 q1334 q181 q1335) rfl rfl rfl (by decide +kernel) (by show fr + 4 + 1 ≤ fr + 5 ∧ 8 + (5 + 11) + (lo + 112) ≤ lo + 136; omega)) rfl hl.1 (Nat.le_of_ble_eq_true rfl) dJ23_putTreeVal_236 ⟨hmA hm.1 hb1, hmA hm.2 hb2⟩ rfl) (fun q29 G28 H locs hf hI => ?_)
          have hm := And.intro (hmB hm.1 hb1) (hmB hm.2 hb2)
          clear hb1 hb2
          clear hO
          refine h_astore (o := q29) (lv' := [(15, va_rf q29), (14, va_rf q24), (9, va_rf none), (1, .ref a25), (2, va_rf lq2), (3, .int p3), (4, va_rf lq4), (5, va_rf lq5), (6, va_rf lq6), (7, .int lx7), (8, va_rf lq8), (10, .int lx10), (13, .ref la13)]) hx hb dJ23_putTreeVal_239 hl (by decide) (by cases q24 <;> rfl) (fun ls hl => ?_)
          refine lv_iload hx hb dJ23_putTreeVal_241 (lv_at hl 11 rfl) ?_
          refine lv_if_gt (tgt := 256) hx hb dJ23_putTreeVal_243 (by decide) (fun c30 => ?_) (fun c30 => ?_)
          · have hf := hf.1 c30
            refine lv_aload hx hb dJ23_putTreeVal_256 (lv_at hl 12 rfl) ?_
            refine h_aload (o := q29) hx hb dJ23_putTreeVal_258 (lv_at hl 0 rfl) ?_
            refine hr_pt X hI (rfl : jC.1[18]? = some (RJ23, TJ23, 11)) in_J23 8 (Nat.le_of_ble_eq_true rfl) tyJ23 tyJ23_ok nmJ23 hf q1346 (fun _ h => h) rfl (nar_o _ _) (fit_o _ _) dJ23_putTreeVal_260 (fun G31 H locs hf hI => ?_)
            exact J263 lq2 lq8 la13 q24 q29 (mc - m26) (ms - m27) G31 hf _ _ hm H locs hI ls (lv_sub hl [4, 10, 12, 1, 0] rfl)
          · have hf := hf.2 c30
            refine lv_aload hx hb dJ23_putTreeVal_246 (lv_at hl 12 rfl) ?_
            refine h_aload (o := q29) hx hb dJ23_putTreeVal_248 (lv_at hl 0 rfl) ?_
            refine hr_pt X hI (rfl : jC.1[18]? = some (RJ23, TJ23, 11)) in_J23 7 (Nat.le_of_ble_eq_true rfl) tyJ23 tyJ23_ok nmJ23 hf q1345 (fun _ h => h) rfl (nar_o _ _) (fit_o _ _) dJ23_putTreeVal_250 (fun G32 H locs hf hI => ?_)
            refine lv_goto (tgt := 263) hx hb dJ23_putTreeVal_253 (by decide) ?_
            exact J263 lq2 lq8 la13 q24 q29 (mc - m26) (ms - m27) G32 hf _ _ hm H locs hI ls (lv_sub hl [4, 10, 12, 1, 0] rfl)
      have J193 : ∀ (lq1 : Option Nat) (lq2 : Option Nat) (lq4 : Option Nat) (lq5 : Option Nat) (lq6 : Option Nat) (lx7 : Int32) (lq8 : Option Nat) (la9 : Nat) (lx10 : Int32) (mc ms : Nat) (G : HG), hJ23_putTreeVal_b193 j Λ a0 p3 post (hJ23_putTreeVal_l27 j Λ a0 p3 post n27) lq1 lq2 lq4 lq5 lq6 lx7 lq8 la9 lx10 mc ms G → ∀ (cells slots : Nat), cells + mc ≤ MC ∧ slots + ms ≤ MS → ∀ (H : Heap) (locs : List Loc), HI D jC G A0 s.heap H locs → ∀ (ls : Array Slot), lv_has ls 16 [(1, va_rf lq1), (2, va_rf lq2), (3, .int p3), (4, va_rf lq4), (5, va_rf lq5), (6, va_rf lq6), (7, .int lx7), (8, va_rf lq8), (9, .ref la9), (10, .int lx10)] → W p l e (rhJ23_putTreeVal fr lo MC MS) s m args below meth c H locs cells slots Q (F0 m 193 ls []) := by
        intro lq1 lq2 lq4 lq5 lq6 lx7 lq8 la9 lx10 mc ms G hf cells slots hm H locs hI ls hl
        unfold hJ23_putTreeVal_b193 at hf
        refine lv_aload hx hb dJ23_putTreeVal_193 (lv_at hl 8 rfl) ?_
        refine lv_astore (lv' := [(13, .ref la9), (1, va_rf lq1), (2, va_rf lq2), (3, .int p3), (4, va_rf lq4), (5, va_rf lq5), (6, va_rf lq6), (7, .int lx7), (8, va_rf lq8), (9, .ref la9), (10, .int lx10)]) hx hb dJ23_putTreeVal_195 hl (by decide) rfl (fun ls hl => ?_)
        refine lv_iload hx hb dJ23_putTreeVal_197 (lv_at hl 10 rfl) ?_
        refine lv_if_gt (tgt := 210) hx hb dJ23_putTreeVal_199 (by decide) (fun c19 => ?_) (fun c19 => ?_)
        · have hf := hf.1 c19
          refine lv_aload hx hb dJ23_putTreeVal_210 (lv_at hl 9 rfl) ?_
          refine hr_gtQ X hI (rfl : jC.1[18]? = some (RJ23, TJ23, 11)) in_J23 8 (Nat.le_of_ble_eq_true rfl) hf q1346 (fun _ h => h) dJ23_putTreeVal_212 (fun q20 hf => ?_)
          exact J215 lq1 lq2 lq4 lq5 lq6 lx7 lq8 lx10 la9 q20 mc ms G hf _ _ hm H locs hI ls (lv_sub hl [1, 2, 3, 4, 5, 6, 7, 8, 10, 0] rfl)
        · have hf := hf.2 c19
          refine lv_aload hx hb dJ23_putTreeVal_202 (lv_at hl 9 rfl) ?_
          refine hr_gtQ X hI (rfl : jC.1[18]? = some (RJ23, TJ23, 11)) in_J23 7 (Nat.le_of_ble_eq_true rfl) hf q1345 (fun _ h => h) dJ23_putTreeVal_204 (fun q21 hf => ?_)
          refine lv_goto (tgt := 215) hx hb dJ23_putTreeVal_207 (by decide) ?_
          exact J215 lq1 lq2 lq4 lq5 lq6 lx7 lq8 lx10 la9 q21 mc ms G hf _ _ hm H locs hI ls (lv_sub hl [1, 2, 3, 4, 5, 6, 7, 8, 10, 0] rfl)
      have J104 : ∀ (lq1 : Option Nat) (lq2 : Option Nat) (lq4 : Option Nat) (lq5 : Option Nat) (la6 : Nat) (lx7 : Int32) (lq8 : Option Nat) (la9 : Nat) (lq12 : Option Nat) (mc ms : Nat) (G : HG), hJ23_putTreeVal_b104 j Λ a0 p3 post (hJ23_putTreeVal_l27 j Λ a0 p3 post n27) lq1 lq2 lq4 lq5 la6 lx7 lq8 la9 lq12 mc ms G → ∀ (cells slots : Nat), cells + mc ≤ MC ∧ slots + ms ≤ MS → ∀ (H : Heap) (locs : List Loc), HI D jC G A0 s.heap H locs → ∀ (ls : Array Slot), lv_has ls 16 [(1, va_rf lq1), (2, va_rf lq2), (3, .int p3), (4, va_rf lq4), (5, va_rf lq5), (6, .ref la6), (7, .int lx7), (8, va_rf lq8), (9, .ref la9), (12, va_rf lq12)] → W p l e (rhJ23_putTreeVal fr lo MC MS) s m args below meth c H locs cells slots Q (F0 m 104 ls []) := by
        intro lq1 lq2 lq4 lq5 la6 lx7 lq8 la9 lq12 mc ms G hf cells slots hm H locs hI ls hl
        unfold hJ23_putTreeVal_b104 at hf
        exact hf.elim
      have J88 : ∀ (lq1 : Option Nat) (lq2 : Option Nat) (lq4 : Option Nat) (lq5 : Option Nat) (lq6 : Option Nat) (lx7 : Int32) (lq8 : Option Nat) (la9 : Nat) (lq12 : Option Nat) (mc ms : Nat) (G : HG), hJ23_putTreeVal_b88 j Λ a0 p3 post (hJ23_putTreeVal_l27 j Λ a0 p3 post n27) lq1 lq2 lq4 lq5 lq6 lx7 lq8 la9 lq12 mc ms G → ∀ (cells slots : Nat), cells + mc ≤ MC ∧ slots + ms ≤ MS → ∀ (H : Heap) (locs : List Loc), HI D jC G A0 s.heap H locs → ∀ (ls : Array Slot), lv_has ls 16 [(1, va_rf lq1), (2, va_rf lq2), (3, .int p3), (4, va_rf lq4), (5, va_rf lq5), (6, va_rf lq6), (7, .int lx7), (8, va_rf lq8), (9, .ref la9), (12, va_rf lq12)] → W p l e (rhJ23_putTreeVal fr lo MC MS) s m args below meth c H locs cells slots Q (F0 m 88 ls []) := by
        intro lq1 lq2 lq4 lq5 lq6 lx7 lq8 la9 lq12 mc ms G hf cells slots hm H locs hI ls hl
        unfold hJ23_putTreeVal_b88 at hf
        refine h_aload (o := lq6) hx hb dJ23_putTreeVal_88 (lv_at hl 5 rfl) ?_
        refine h_ifnonnull (tgt := 104) hx hb dJ23_putTreeVal_90 (by decide) (fun a18 c17 => ?_) (fun c17 => ?_)
        · have hf := hf.2 a18 c17
          revert hl hf
          subst c17
          intro hl hf
          have hl : lv_has ls 16 [(1, va_rf lq1), (2, va_rf lq2), (3, .int p3), (4, va_rf lq4), (5, va_rf lq5), (6, .ref a18), (7, .int lx7), (8, va_rf lq8), (9, .ref la9), (12, va_rf lq12)] := hl
          exact J104 lq1 lq2 lq4 lq5 a18 lx7 lq8 la9 lq12 mc ms G hf _ _ hm H locs hI ls (lv_sub hl [0, 1, 2, 3, 4, 5, 6, 7, 8, 9] rfl)
        · have hf := hf.1 c17
          revert hl hf
          subst c17
          intro hl hf
          have hl : lv_has ls 16 [(1, va_rf lq1), (2, va_rf lq2), (3, .int p3), (4, va_rf lq4), (5, va_rf lq5), (6, va_rf none), (7, .int lx7), (8, va_rf lq8), (9, .ref la9), (12, va_rf lq12)] := hl
          exact hf.elim
      intro lq1 lq2 lq4 lq5 lq6 lx7 lq8 lq9 mc ms G hf cells slots hm H locs hI ls hl
      have hf : hJ23_putTreeVal_b27 j Λ a0 p3 post (hJ23_putTreeVal_l27 j Λ a0 p3 post n27) lq1 lq2 lq4 lq5 lq6 lx7 lq8 lq9 mc ms G := hf
      unfold hJ23_putTreeVal_b27 at hf
      refine h_aload (o := lq9) hx hb dJ23_putTreeVal_27 (lv_at hl 8 rfl) ?_
      obtain ⟨a6, ea6, hf⟩ := hf
      revert hl hf
      subst ea6
      intro hl hf
      have hl : lv_has ls 16 [(1, va_rf lq1), (2, va_rf lq2), (3, .int p3), (4, va_rf lq4), (5, va_rf lq5), (6, va_rf lq6), (7, .int lx7), (8, va_rf lq8), (9, .ref a6)] := hl
      refine hr_gtI X hI (rfl : jC.1[18]? = some (RJ23, TJ23, 11)) in_J23 2 (Nat.le_of_ble_eq_true rfl) hf q977 (hsame_of (hts _ q978)) dJ23_putTreeVal_29 (fun x7 hf => ?_)
      refine lv_dup hx hb dJ23_putTreeVal_32 rfl ?_
      refine lv_istore (lv' := [(11, .int x7), (1, va_rf lq1), (2, va_rf lq2), (3, .int p3), (4, va_rf lq4), (5, va_rf lq5), (6, va_rf lq6), (7, .int lx7), (8, va_rf lq8), (9, .ref a6)]) hx hb dJ23_putTreeVal_33 hl (by decide) rfl (fun ls hl => ?_)
      refine lv_iload_n hx hb dJ23_putTreeVal_35 rfl (lv_at hl 3 rfl) ?_
      refine lv_icmp_le (tgt := 45) hx hb dJ23_putTreeVal_36 (by decide) (fun c8 => ?_) (fun c8 => ?_)
      · have hf := hf.1 c8
        refine lv_iload hx hb dJ23_putTreeVal_45 (lv_at hl 0 rfl) ?_
        refine lv_iload_n hx hb dJ23_putTreeVal_47 rfl (lv_at hl 3 rfl) ?_
        refine lv_icmp_ge (tgt := 57) hx hb dJ23_putTreeVal_48 (by decide) (fun c9 => ?_) (fun c9 => ?_)
        · have hf := hf.1 c9
          refine lv_aload hx hb dJ23_putTreeVal_57 (lv_at hl 9 rfl) ?_
          refine hr_gtQ X hI (rfl : jC.1[18]? = some (RJ23, TJ23, 11)) in_J23 3 (Nat.le_of_ble_eq_true rfl) hf q981 (hsame_of (hts _ q982)) dJ23_putTreeVal_59 (fun q10 hf => ?_)
          refine lv_dup hx hb dJ23_putTreeVal_62 (h_catq _) ?_
          refine h_astore (o := q10) (lv' := [(12, va_rf q10), (11, .int x7), (1, va_rf lq1), (2, va_rf lq2), (3, .int p3), (4, va_rf lq4), (5, va_rf lq5), (6, va_rf lq6), (7, .int lx7), (8, va_rf lq8), (9, .ref a6)]) hx hb dJ23_putTreeVal_63 hl (by decide) rfl (fun ls hl => ?_)
          refine h_aload (o := lq4) hx hb dJ23_putTreeVal_65 (lv_at hl 5 rfl) ?_
          refine lv_acmp_eq (rx := q10) (ry := lq4) (tgt := 85) hx hb dJ23_putTreeVal_67 (by decide) (fun c11 => ?_) (fun c11 => ?_)
          · have hf := hf.1 c11
            refine lv_aload hx hb dJ23_putTreeVal_85 (lv_at hl 10 rfl) ?_
            exact hret (v := (some a6)) hf hI dJ23_putTreeVal_87 (hmC hm.1) (hmC hm.2)
          · have hf := hf.2 c11
            refine h_aload (o := lq4) hx hb dJ23_putTreeVal_70 (lv_at hl 5 rfl) ?_
            refine h_ifnull (tgt := 88) hx hb dJ23_putTreeVal_72 (by decide) (fun c12 => ?_) (fun a13 c12 => ?_)
            · have hf := hf.1 c12
              revert hl hf
              subst c12
              intro hl hf
              have hl : lv_has ls 16 [(12, va_rf q10), (11, .int x7), (1, va_rf lq1), (2, va_rf lq2), (3, .int p3), (4, va_rf none), (5, va_rf lq5), (6, va_rf lq6), (7, .int lx7), (8, va_rf lq8), (9, .ref a6)] := hl
              exact J88 lq1 lq2 none lq5 lq6 lx7 lq8 a6 q10 mc ms G hf _ _ hm H locs hI ls (lv_sub hl [2, 3, 4, 5, 6, 7, 8, 9, 10, 0] rfl)
            · have hf := hf.2 a13 c12
              revert hl hf
              subst c12
              intro hl hf
              have hl : lv_has ls 16 [(12, va_rf q10), (11, .int x7), (1, va_rf lq1), (2, va_rf lq2), (3, .int p3), (4, .ref a13), (5, va_rf lq5), (6, va_rf lq6), (7, .int lx7), (8, va_rf lq8), (9, .ref a6)] := hl
              refine lv_aload hx hb dJ23_putTreeVal_75 (lv_at hl 5 rfl) ?_
              refine h_aload (o := q10) hx hb dJ23_putTreeVal_77 (lv_at hl 0 rfl) ?_
              refine h_ki X hI (by rcases hf with ⟨_, _, hO, hf⟩ | ⟨_, _, hO, hf⟩; exact h_runU (As := [va_rf q10]) X hI (h_recv X hI hO (show jC.1[13]? = some (RX13, TX13, 2) from rfl)) (mhX13_equals l Z D j Λ fr lo E a13 q10 G _ hf H.size) (cwA (owner := "java/lang/Object") 1 hts q1327 q1278 q1286 q1287 q214 q1288 (E.nw X q1275 rfl) rfl rfl (by decide +kernel) (by show fr + 1 + 1 ≤ fr + 5 ∧ 8 + (3 + 11) + (lo + 40) ≤ lo + 136; omega)) rfl hl.1 (Nat.le_of_ble_eq_true rfl) dJ23_putTreeVal_79 ⟨hm0 hm.1, hm0 hm.2⟩ rfl; exact h_runU (As := [va_rf q10]) X hI (h_recv X hI hO (show jC.1[20]? = some (RJ8, TJ8, 4) from rfl)) (mhJ8_equals l Z D j Λ fr lo E a13 q10 G _ hf H.size) (cwA (owner := "java/lang/Object") 1 hts q1327 q1278 q1308 q1309 q184 q1310 (E.nw X q1275 rfl) rfl rfl (by decide +kernel) (by show fr + 2 + 1 ≤ fr + 5 ∧ 8 + (3 + 11) + (lo + 62) ≤ lo + 136; omega)) rfl hl.1 (Nat.le_of_ble_eq_true rfl) dJ23_putTreeVal_79 ⟨hm0 hm.1, hm0 hm.2⟩ rfl) (fun x14 G15 H locs hf hI => ?_)
              refine lv_if_eq (tgt := 88) hx hb dJ23_putTreeVal_82 (by decide) (fun c16 => ?_) (fun c16 => ?_)
              · have hf := hf.1 c16
                exact J88 lq1 lq2 (some a13) lq5 lq6 lx7 lq8 a6 q10 mc ms G15 hf _ _ hm H locs hI ls (lv_sub hl [2, 3, 4, 5, 6, 7, 8, 9, 10, 0] rfl)
              · have hf := hf.2 c16
                refine lv_aload hx hb dJ23_putTreeVal_85 (lv_at hl 10 rfl) ?_
                exact hret (v := (some a6)) hf hI dJ23_putTreeVal_87 (hmC hm.1) (hmC hm.2)
        · have hf := hf.2 c9
          refine lv_iconst (v := 1) hx hb dJ23_putTreeVal_51 (by decide) ?_
          refine lv_istore (lv' := [(10, .int 1), (11, .int x7), (1, va_rf lq1), (2, va_rf lq2), (3, .int p3), (4, va_rf lq4), (5, va_rf lq5), (6, va_rf lq6), (7, .int lx7), (8, va_rf lq8), (9, .ref a6)]) hx hb dJ23_putTreeVal_52 hl (by decide) rfl (fun ls hl => ?_)
          refine lv_goto (tgt := 193) hx hb dJ23_putTreeVal_54 (by decide) ?_
          exact J193 lq1 lq2 lq4 lq5 lq6 lx7 lq8 a6 (1 : Int32) mc ms G hf _ _ hm H locs hI ls (lv_sub hl [2, 3, 4, 5, 6, 7, 8, 9, 10, 0] rfl)
      · have hf := hf.2 c8
        refine lv_iconst (v := -1) hx hb dJ23_putTreeVal_39 (by decide) ?_
        refine lv_istore (lv' := [(10, .int (-1)), (11, .int x7), (1, va_rf lq1), (2, va_rf lq2), (3, .int p3), (4, va_rf lq4), (5, va_rf lq5), (6, va_rf lq6), (7, .int lx7), (8, va_rf lq8), (9, .ref a6)]) hx hb dJ23_putTreeVal_40 hl (by decide) rfl (fun ls hl => ?_)
        refine lv_goto (tgt := 193) hx hb dJ23_putTreeVal_42 (by decide) ?_
        exact J193 lq1 lq2 lq4 lq5 lq6 lx7 lq8 a6 ((-1) : Int32) mc ms G hf _ _ hm H locs hI ls (lv_sub hl [2, 3, 4, 5, 6, 7, 8, 9, 10, 0] rfl)
  have J21 : ∀ (lq1 : Option Nat) (lq2 : Option Nat) (lq4 : Option Nat) (lq5 : Option Nat) (lq6 : Option Nat) (lx7 : Int32) (z0 : Option Nat) (mc ms : Nat) (G : HG), hJ23_putTreeVal_b21 j Λ a0 p3 post lq1 lq2 lq4 lq5 lq6 lx7 z0 mc ms G → ∀ (cells slots : Nat), cells + mc ≤ MC ∧ slots + ms ≤ MS → ∀ (H : Heap) (locs : List Loc), HI D jC G A0 s.heap H locs → ∀ (ls : Array Slot), lv_has ls 16 [(1, va_rf lq1), (2, va_rf lq2), (3, .int p3), (4, va_rf lq4), (5, va_rf lq5), (6, va_rf lq6), (7, .int lx7)] → W p l e (rhJ23_putTreeVal fr lo MC MS) s m args below meth c H locs cells slots Q (F0 m 21 ls [va_rf z0]) := by
    intro lq1 lq2 lq4 lq5 lq6 lx7 z0 mc ms G hf cells slots hm H locs hI ls hl
    unfold hJ23_putTreeVal_b21 at hf
    refine h_astore (o := z0) (lv' := [(8, va_rf z0), (1, va_rf lq1), (2, va_rf lq2), (3, .int p3), (4, va_rf lq4), (5, va_rf lq5), (6, va_rf lq6), (7, .int lx7)]) hx hb dJ23_putTreeVal_21 hl (by decide) rfl (fun ls hl => ?_)
    refine h_aload (o := z0) hx hb dJ23_putTreeVal_23 (lv_at hl 0 rfl) ?_
    refine h_astore (o := z0) (lv' := [(9, va_rf z0), (8, va_rf z0), (1, va_rf lq1), (2, va_rf lq2), (3, .int p3), (4, va_rf lq4), (5, va_rf lq5), (6, va_rf lq6), (7, .int lx7)]) hx hb dJ23_putTreeVal_25 hl (by decide) (by cases z0 <;> rfl) (fun ls hl => ?_)
    obtain ⟨n, hf⟩ := hf
    exact L27 n lq1 lq2 lq4 lq5 lq6 lx7 z0 z0 mc ms G hf _ _ hm H locs hI ls (lv_sub hl [2, 3, 4, 5, 6, 7, 8, 1, 0] rfl)
  have hl : lv_has ls 16 [(0, .ref a0), (1, va_rf q1_), (2, va_rf q2_), (3, .int p3), (4, va_rf q4_), (5, va_rf q5_)] := by cases q1_ <;> cases q2_ <;> cases q4_ <;> cases q5_ <;> exact hl
  unfold hJ23_putTreeVal at hf
  obtain ⟨H, eH⟩ : ∃ H, H = s.heap := ⟨_, rfl⟩
  obtain ⟨locs, eL⟩ : ∃ locs : List Loc, locs = [] := ⟨_, rfl⟩
  have hI : HI D jC G A0 s.heap H locs := by rw [eH, eL]; exact hI
  rw [← eL]
  obtain ⟨cells, eC⟩ : ∃ n : Nat, n = 0 := ⟨_, rfl⟩
  obtain ⟨slots, eS⟩ : ∃ n : Nat, n = 0 := ⟨_, rfl⟩
  have hm : cells + mc ≤ MC ∧ slots + ms ≤ MS := by rw [eC, eS]; exact hm0_
  suffices h : W p l e (rhJ23_putTreeVal fr lo MC MS) s m args below meth c H locs cells slots Q (F0 m 0 ls []) by rw [eH, eC, eS] at h; exact h
  clear eH eL eC eS
  refine lv_null hx hb dJ23_putTreeVal_0 ?_
  refine h_astore (o := none) (lv' := [(6, va_rf none), (0, .ref a0), (1, va_rf q1_), (2, va_rf q2_), (3, .int p3), (4, va_rf q4_), (5, va_rf q5_)]) hx hb dJ23_putTreeVal_1 hl (by decide) (by cases q5_ <;> rfl) (fun ls hl => ?_)
  refine lv_iconst (v := 0) hx hb dJ23_putTreeVal_3 (by decide) ?_
  refine lv_istore (lv' := [(7, .int 0), (6, va_rf none), (0, .ref a0), (1, va_rf q1_), (2, va_rf q2_), (3, .int p3), (4, va_rf q4_), (5, va_rf q5_)]) hx hb dJ23_putTreeVal_4 hl (by decide) rfl (fun ls hl => ?_)
  refine lv_aload_n hx hb dJ23_putTreeVal_6 rfl (lv_at hl 2 rfl) ?_
  refine hr_gtQ X hI (rfl : jC.1[18]? = some (RJ23, TJ23, 11)) in_J23 6 (Nat.le_of_ble_eq_true rfl) hf q1344 (fun _ h => h) dJ23_putTreeVal_7 (fun q1 hf => ?_)
  refine h_ifnull (tgt := 20) hx hb dJ23_putTreeVal_10 (by decide) (fun c2 => ?_) (fun a3 c2 => ?_)
  · have hf := hf.1 c2
    revert hl hf
    subst c2
    intro hl hf
    have hl : lv_has ls 16 [(7, .int 0), (6, va_rf none), (0, .ref a0), (1, va_rf q1_), (2, va_rf q2_), (3, .int p3), (4, va_rf q4_), (5, va_rf q5_)] := hl
    refine lv_aload_n hx hb dJ23_putTreeVal_20 rfl (lv_at hl 2 rfl) ?_
    exact J21 q1_ q2_ q4_ q5_ none (0 : Int32) (some a0) mc ms G hf _ _ hm H locs hI ls (lv_sub hl [3, 4, 5, 6, 7, 1, 0] rfl)
  · have hf := hf.2 a3 c2
    revert hl hf
    subst c2
    intro hl hf
    have hl : lv_has ls 16 [(7, .int 0), (6, va_rf none), (0, .ref a0), (1, va_rf q1_), (2, va_rf q2_), (3, .int p3), (4, va_rf q4_), (5, va_rf q5_)] := hl
    refine lv_aload_n hx hb dJ23_putTreeVal_13 rfl (lv_at hl 2 rfl) ?_
    obtain ⟨_, _, hO, hf⟩ := hf
    refine h_kq X hI (h_runV (As := []) X hI (h_recv X hI hO (show jC.1[18]? = some (RJ23, TJ23, 11) from rfl)) (mhJ23_root l Z D j Λ fr lo E a0 G _ hf H.size) (cwV 0 hts (lw_V q1323 q1324 q1325 q201 q1326) rfl rfl rfl (by decide +kernel) (by show fr + 1 + 1 ≤ fr + 5 ∧ 8 + (3 + 11) + (lo + 40) ≤ lo + 136; omega)) rfl hl.1 (Nat.le_of_ble_eq_true rfl) dJ23_putTreeVal_14 ⟨hm0 hm.1, hm0 hm.2⟩ rfl) (fun q5 G4 H locs hf hI => ?_)
    clear hO
    refine lv_goto (tgt := 21) hx hb dJ23_putTreeVal_17 (by decide) ?_
    exact J21 q1_ q2_ q4_ q5_ none (0 : Int32) q5 mc ms G4 hf _ _ hm H locs hI ls (lv_sub hl [3, 4, 5, 6, 7, 1, 0] rfl)
/-! java/util/HashMap$TreeNode.getTreeNode(ILjava/lang/Object;)Ljava/util/HashMap$TreeNode; -/
def hJ23_getTreeNode_b15 (j : JX) (Λ : JLam) (a0 : Nat) (p1 : Int32) (post : Option Nat → HG → Prop) (lq2 : Option Nat) (z0 : Option Nat) (G : HG) : Prop :=
  nnq z0 fun a6 => isO G a6 18 (hJ23_find j Λ a6 p1 lq2 none G fun q8 G7 => post q8 G7)
def hJ23_getTreeNode (j : JX) (Λ : JLam) (a0 : Nat) (p1 : Int32) (q2_ : Option Nat) (G : HG) (post : Option Nat → HG → Prop) : Prop :=
  gtQ G a0 18 6 fun q1 => (q1 = none → (hJ23_getTreeNode_b15 j Λ a0 p1 post q2_ (some a0) G)) ∧ (∀ a3, q1 = some a3 → (isO G a0 18 (hJ23_root j Λ a0 G fun q5 G4 => hJ23_getTreeNode_b15 j Λ a0 p1 post q2_ q5 G4)))
abbrev rhJ23_getTreeNode (fr lo : Nat) : Room := { frames := fr + 4, cells := 0, slots := 0, locals := lo + 114 }
theorem mhJ23_getTreeNode (l : Launch) (Z : (Nat → Prop) → State → Heap → Prop) (D : va_G) (j : JX) (Λ : JLam) (fr lo : Nat) (E : JE l Z D j Λ fr lo) (a0 : Nat) (p1 : Int32) (q2_ : Option Nat) (G : HG) (post : Option Nat → HG → Prop) (hf : hJ23_getTreeNode j Λ a0 p1 q2_ G post) : HMq l yJ23_getTreeNode (ws_ yJ23_getTreeNode cJ23_getTreeNode 3 (some (.object "java/util/HashMap$TreeNode"))) (rhJ23_getTreeNode fr lo) D jC (jty j.1) Z G [.ref a0, .int p1, va_rf q2_] post 0 0 := by
  refine h_openq (Or.inl ⟨_, rfl⟩) E.1 (by decide) (by cases q2_ <;> exact Nat.le_of_ble_eq_true rfl) (fun p e s m args below meth c ls A0 Q X hI hnd hnm hl hret => ?_)
  have X : XC p s m args meth c cJ23_getTreeNode 3 RJ23 D jC (jty j.1) A0 Z := X
  have hx := X.1
  have hb := X.2.1
  have hown := X.2.2.2.1
  have hts := X.2.2.2.2.1
  have J15 : ∀ (lq2 : Option Nat) (z0 : Option Nat) (G : HG), hJ23_getTreeNode_b15 j Λ a0 p1 post lq2 z0 G → ∀ (H : Heap) (locs : List Loc), HI D jC G A0 s.heap H locs → ∀ (ls : Array Slot), lv_has ls 3 [(1, .int p1), (2, va_rf lq2)] → W p l e (rhJ23_getTreeNode fr lo) s m args below meth c H locs 0 0 Q (F0 m 15 ls [va_rf z0]) := by
    intro lq2 z0 G hf H locs hI ls hl
    unfold hJ23_getTreeNode_b15 at hf
    refine lv_iload_n hx hb dJ23_getTreeNode_15 rfl (lv_at hl 0 rfl) ?_
    refine h_aload_n (o := lq2) hx hb dJ23_getTreeNode_16 rfl (lv_at hl 1 rfl) ?_
    refine lv_null hx hb dJ23_getTreeNode_17 ?_
    obtain ⟨a6, ea6, hf⟩ := hf
    revert hl hf
    subst ea6
    intro hl hf
    have hl : lv_has ls 3 [(1, .int p1), (2, va_rf lq2)] := hl
    obtain ⟨_, _, hO, hf⟩ := hf
    refine h_kq X hI (h_runV (As := [.int p1, va_rf lq2, va_rf none]) X hI (h_recv X hI hO (show jC.1[18]? = some (RJ23, TJ23, 11) from rfl)) (mhJ23_find l Z D j Λ fr lo E a6 p1 lq2 none G _ hf H.size) (cwV 3 hts (lw_V q1328 q1329 q1330 q201 q1331) rfl rfl rfl (by decide +kernel) (by show fr + 3 + 1 ≤ fr + 4 ∧ 8 + (11 + 11) + (lo + 84) ≤ lo + 114; omega)) rfl hl.1 (Nat.le_of_ble_eq_true rfl) dJ23_getTreeNode_18 ⟨Nat.le_refl _, Nat.le_refl _⟩ rfl) (fun q8 G7 H locs hf hI => ?_)
    clear hO
    exact hret (v := q8) hf hI dJ23_getTreeNode_21 (Nat.le_refl _) (Nat.le_refl _)
  have hl : lv_has ls 3 [(0, .ref a0), (1, .int p1), (2, va_rf q2_)] := by cases q2_ <;> exact hl
  unfold hJ23_getTreeNode at hf
  obtain ⟨H, eH⟩ : ∃ H, H = s.heap := ⟨_, rfl⟩
  obtain ⟨locs, eL⟩ : ∃ locs : List Loc, locs = [] := ⟨_, rfl⟩
  have hI : HI D jC G A0 s.heap H locs := by rw [eH, eL]; exact hI
  rw [← eL]
  suffices h : W p l e (rhJ23_getTreeNode fr lo) s m args below meth c H locs 0 0 Q (F0 m 0 ls []) by rw [eH] at h; exact h
  clear eH eL
  refine lv_aload_n hx hb dJ23_getTreeNode_0 rfl (lv_at hl 0 rfl) ?_
  refine hr_gtQ X hI (rfl : jC.1[18]? = some (RJ23, TJ23, 11)) in_J23 6 (Nat.le_of_ble_eq_true rfl) hf q1344 (fun _ h => h) dJ23_getTreeNode_1 (fun q1 hf => ?_)
  refine h_ifnull (tgt := 14) hx hb dJ23_getTreeNode_4 (by decide) (fun c2 => ?_) (fun a3 c2 => ?_)
  · have hf := hf.1 c2
    revert hl hf
    subst c2
    intro hl hf
    have hl : lv_has ls 3 [(0, .ref a0), (1, .int p1), (2, va_rf q2_)] := hl
    refine lv_aload_n hx hb dJ23_getTreeNode_14 rfl (lv_at hl 0 rfl) ?_
    exact J15 q2_ (some a0) G hf H locs hI ls (lv_sub hl [1, 2] rfl)
  · have hf := hf.2 a3 c2
    revert hl hf
    subst c2
    intro hl hf
    have hl : lv_has ls 3 [(0, .ref a0), (1, .int p1), (2, va_rf q2_)] := hl
    refine lv_aload_n hx hb dJ23_getTreeNode_7 rfl (lv_at hl 0 rfl) ?_
    obtain ⟨_, _, hO, hf⟩ := hf
    refine h_kq X hI (h_runV (As := []) X hI (h_recv X hI hO (show jC.1[18]? = some (RJ23, TJ23, 11) from rfl)) (mhJ23_root l Z D j Λ fr lo E a0 G _ hf H.size) (cwV 0 hts (lw_V q1323 q1324 q1325 q201 q1326) rfl rfl rfl (by decide +kernel) (by show fr + 1 + 1 ≤ fr + 4 ∧ 8 + (3 + 11) + (lo + 40) ≤ lo + 114; omega)) rfl hl.1 (Nat.le_of_ble_eq_true rfl) dJ23_getTreeNode_8 ⟨Nat.le_refl _, Nat.le_refl _⟩ rfl) (fun q5 G4 H locs hf hI => ?_)
    clear hO
    refine lv_goto (tgt := 15) hx hb dJ23_getTreeNode_11 (by decide) ?_
    exact J15 q2_ q5 G4 hf H locs hI ls (lv_sub hl [1, 2] rfl)
/-! java/lang/StringIndexOutOfBoundsException.<init>(I)V -/
def hJ25_init (j : JX) (Λ : JLam) (a0 : Nat) (p1 : Int32) (mc ms : Nat) (G : HG) (post : HG → Prop) : Prop :=
  False
abbrev rhJ25_init (fr lo mc ms : Nat) : Room := { frames := fr + 3, cells := mc, slots := ms, locals := lo + 81 }
theorem mhJ25_init (l : Launch) (Z : (Nat → Prop) → State → Heap → Prop) (D : va_G) (j : JX) (Λ : JLam) (fr lo : Nat) (E : JE l Z D j Λ fr lo) (a0 : Nat) (p1 : Int32) (mc ms : Nat) (G : HG) (post : HG → Prop) (hf : hJ25_init j Λ a0 p1 mc ms G post) : HMv l yJ25_init (ws_ yJ25_init cJ25_init 2 none) (rhJ25_init fr lo mc ms) D jC (jty j.1) Z G [.ref a0, .int p1] post mc ms := by
  obtain ⟨MC, eMC⟩ : ∃ MC, MC = mc := ⟨_, rfl⟩
  obtain ⟨MS, eMS⟩ : ∃ MS, MS = ms := ⟨_, rfl⟩
  suffices goal : HMv l yJ25_init (ws_ yJ25_init cJ25_init 2 none) (rhJ25_init fr lo MC MS) D jC (jty j.1) Z G [.ref a0, .int p1] post MC MS by rw [eMC, eMS] at goal; exact goal
  have hm0_ : 0 + mc ≤ MC ∧ 0 + ms ≤ MS := by omega
  clear eMC eMS
  refine h_openv E.1 (by decide) (by exact Nat.le_of_ble_eq_true rfl) (fun p e s m args below meth c ls A0 Q X hI hnd hnm hl hret => ?_)
  have X : XC p s m args meth c cJ25_init 2 RJ25 D jC (jty j.1) A0 Z := X
  have hx := X.1
  have hb := X.2.1
  have hown := X.2.2.2.1
  have hts := X.2.2.2.2.1
  have hl : lv_has ls 2 [(0, .ref a0), (1, .int p1)] := by exact hl
  unfold hJ25_init at hf
  obtain ⟨H, eH⟩ : ∃ H, H = s.heap := ⟨_, rfl⟩
  obtain ⟨locs, eL⟩ : ∃ locs : List Loc, locs = [] := ⟨_, rfl⟩
  have hI : HI D jC G A0 s.heap H locs := by rw [eH, eL]; exact hI
  rw [← eL]
  obtain ⟨cells, eC⟩ : ∃ n : Nat, n = 0 := ⟨_, rfl⟩
  obtain ⟨slots, eS⟩ : ∃ n : Nat, n = 0 := ⟨_, rfl⟩
  have hm : cells + mc ≤ MC ∧ slots + ms ≤ MS := by rw [eC, eS]; exact hm0_
  suffices h : W p l e (rhJ25_init fr lo MC MS) s m args below meth c H locs cells slots Q (F0 m 0 ls []) by rw [eH, eC, eS] at h; exact h
  clear eH eL eC eS
  exact hf.elim
/-! java/util/HashMap.<init>()V -/
def hJ5_init (j : JX) (Λ : JLam) (a0 : Nat) (G : HG) (post : HG → Prop) : Prop :=
  hJ4_init j Λ a0 G fun G1 => ptV G1 a0 16 7 (.float 1061158912) fun G2 => post G2
abbrev rhJ5_init (fr lo : Nat) : Room := { frames := fr + 2, cells := 0, slots := 0, locals := lo + 60 }
theorem mhJ5_init (l : Launch) (Z : (Nat → Prop) → State → Heap → Prop) (D : va_G) (j : JX) (Λ : JLam) (fr lo : Nat) (E : JE l Z D j Λ fr lo) (a0 : Nat) (G : HG) (post : HG → Prop) (hf : hJ5_init j Λ a0 G post) : HMv l yJ5_init (ws_ yJ5_init cJ5_init 1 none) (rhJ5_init fr lo) D jC (jty j.1) Z G [.ref a0] post 0 0 := by
  refine h_openv E.1 (by decide) (by exact Nat.le_of_ble_eq_true rfl) (fun p e s m args below meth c ls A0 Q X hI hnd hnm hl hret => ?_)
  have X : XC p s m args meth c cJ5_init 1 RJ5 D jC (jty j.1) A0 Z := X
  have hx := X.1
  have hb := X.2.1
  have hown := X.2.2.2.1
  have hts := X.2.2.2.2.1
  have hl : lv_has ls 1 [(0, .ref a0)] := by exact hl
  unfold hJ5_init at hf
  obtain ⟨H, eH⟩ : ∃ H, H = s.heap := ⟨_, rfl⟩
  obtain ⟨locs, eL⟩ : ∃ locs : List Loc, locs = [] := ⟨_, rfl⟩
  have hI : HI D jC G A0 s.heap H locs := by rw [eH, eL]; exact hI
  rw [← eL]
  suffices h : W p l e (rhJ5_init fr lo) s m args below meth c H locs 0 0 Q (F0 m 0 ls []) by rw [eH] at h; exact h
  clear eH eL
  refine lv_aload_n hx hb dJ5_init_0 rfl (lv_at hl 0 rfl) ?_
  refine h_kv X hI (h_runI (As := []) X hI (mhJ4_init l Z D j Λ fr lo E a0 G _ hf H.size) (cwIn 0 hts q742 q743 q180 q744 rfl rfl rfl (by decide +kernel) (by show fr + 1 + 1 ≤ fr + 2 ∧ 8 + (1 + 11) + (lo + 40) ≤ lo + 60; omega)) rfl hl.1 (Nat.le_of_ble_eq_true rfl) dJ5_init_1 ⟨Nat.le_refl _, Nat.le_refl _⟩ rfl) (fun G1 H locs hf hI => ?_)
  refine lv_aload_n hx hb dJ5_init_4 rfl (lv_at hl 0 rfl) ?_
  refine lv_ldcf (v := 1061158912) hx hb hown (hts _ q746) dJ5_init_5 ?_
  refine hr_ptF X hI (rfl : jC.1[16]? = some (RJ5, TJ5, 8)) in_J5 7 (Nat.le_of_ble_eq_true rfl) tyJ5 tyJ5_ok nmJ5 hf q751 (fun _ h => h) rfl hnm rfl rfl rfl dJ5_init_7 (fun G2 H locs hf hI => ?_)
  exact hret hf hI dJ5_init_10 (Nat.le_refl _) (Nat.le_refl _)
/-! java/util/HashSet.<init>()V -/
def hJ30_init (j : JX) (Λ : JLam) (a0 : Nat) (mc ms : Nat) (G : HG) (post : HG → Prop) : Prop :=
  hJ29_init j Λ a0 G fun G1 => 1 ≤ mc ∧ 8 ≤ ms ∧ mkO G1 (.inr (16, [.null, .null, .null, .null, .int 0, .int 0, .int 0, .float 0])) fun a2 G3 => hJ5_init j Λ a2 G3 fun G4 => ptV G4 a0 22 0 (.ref a2) fun G5 => post G5
abbrev rhJ30_init (fr lo mc ms : Nat) : Room := { frames := fr + 3, cells := mc, slots := ms, locals := lo + 80 }
theorem mhJ30_init (l : Launch) (Z : (Nat → Prop) → State → Heap → Prop) (D : va_G) (j : JX) (Λ : JLam) (fr lo : Nat) (E : JE l Z D j Λ fr lo) (a0 : Nat) (mc ms : Nat) (G : HG) (post : HG → Prop) (hf : hJ30_init j Λ a0 mc ms G post) : HMv l yJ30_init (ws_ yJ30_init cJ30_init 1 none) (rhJ30_init fr lo mc ms) D jC (jty j.1) Z G [.ref a0] post mc ms := by
  obtain ⟨MC, eMC⟩ : ∃ MC, MC = mc := ⟨_, rfl⟩
  obtain ⟨MS, eMS⟩ : ∃ MS, MS = ms := ⟨_, rfl⟩
  suffices goal : HMv l yJ30_init (ws_ yJ30_init cJ30_init 1 none) (rhJ30_init fr lo MC MS) D jC (jty j.1) Z G [.ref a0] post MC MS by rw [eMC, eMS] at goal; exact goal
  have hm0_ : 0 + mc ≤ MC ∧ 0 + ms ≤ MS := by omega
  clear eMC eMS
  refine h_openv E.1 (by decide) (by exact Nat.le_of_ble_eq_true rfl) (fun p e s m args below meth c ls A0 Q X hI hnd hnm hl hret => ?_)
  have X : XC p s m args meth c cJ30_init 1 RJ30 D jC (jty j.1) A0 Z := X
  have hx := X.1
  have hb := X.2.1
  have hown := X.2.2.2.1
  have hts := X.2.2.2.2.1
  have hl : lv_has ls 1 [(0, .ref a0)] := by exact hl
  unfold hJ30_init at hf
  obtain ⟨H, eH⟩ : ∃ H, H = s.heap := ⟨_, rfl⟩
  obtain ⟨locs, eL⟩ : ∃ locs : List Loc, locs = [] := ⟨_, rfl⟩
  have hI : HI D jC G A0 s.heap H locs := by rw [eH, eL]; exact hI
  rw [← eL]
  obtain ⟨cells, eC⟩ : ∃ n : Nat, n = 0 := ⟨_, rfl⟩
  obtain ⟨slots, eS⟩ : ∃ n : Nat, n = 0 := ⟨_, rfl⟩
  have hm : cells + mc ≤ MC ∧ slots + ms ≤ MS := by rw [eC, eS]; exact hm0_
  suffices h : W p l e (rhJ30_init fr lo MC MS) s m args below meth c H locs cells slots Q (F0 m 0 ls []) by rw [eH, eC, eS] at h; exact h
  clear eH eL eC eS
  refine lv_aload_n hx hb dJ30_init_0 rfl (lv_at hl 0 rfl) ?_
  refine h_kv X hI (h_runI (As := []) X hI (mhJ29_init l Z D j Λ fr lo E a0 G _ hf H.size) (cwIn 0 hts q2221 q2222 q212 q2223 rfl rfl rfl (by decide +kernel) (by show fr + 2 + 1 ≤ fr + 3 ∧ 8 + (1 + 11) + (lo + 60) ≤ lo + 80; omega)) rfl hl.1 (Nat.le_of_ble_eq_true rfl) dJ30_init_1 ⟨hm0 hm.1, hm0 hm.2⟩ rfl) (fun G1 H locs hf hI => ?_)
  refine lv_aload_n hx hb dJ30_init_4 rfl (lv_at hl 0 rfl) ?_
  obtain ⟨hb1, hb2, hf⟩ := hf
  refine hr_new X hI (rfl : jC.1[16]? = some (RJ5, TJ5, 8)) in_J5 tyJ5 tyJ5_ok hf q2225 q738 q181 (by decide) (hmA hm.1 hb1) (hmA hm.2 hb2) dJ30_init_5 (fun a2 G3 H hf hI => ?_)
  have hm := And.intro (hmB hm.1 hb1) (hmB hm.2 hb2)
  clear hb1 hb2
  refine lv_dup hx hb dJ30_init_8 rfl ?_
  refine h_kv X hI (h_runI (As := []) X hI (mhJ5_init l Z D j Λ fr lo E a2 G3 _ hf H.size) (cwIn 0 hts q2226 q740 q181 q741 rfl rfl rfl (by decide +kernel) (by show fr + 2 + 1 ≤ fr + 3 ∧ 8 + (1 + 11) + (lo + 60) ≤ lo + 80; omega)) rfl hl.1 (Nat.le_of_ble_eq_true rfl) dJ30_init_9 ⟨hm0 hm.1, hm0 hm.2⟩ rfl) (fun G4 H locs hf hI => ?_)
  refine hr_pt X hI (rfl : jC.1[22]? = some (RJ30, TJ30, 1)) in_J30 0 (Nat.le_of_ble_eq_true rfl) tyJ30 tyJ30_ok nmJ30 hf q2227 (fun _ h => h) rfl rfl rfl dJ30_init_12 (fun G5 H locs hf hI => ?_)
  exact hret hf hI dJ30_init_15 (hmC hm.1) (hmC hm.2)
/-! java/lang/String.isLatin1()Z -/
def hJ8_isLatin1 (j : JX) (Λ : JLam) (a0 : Nat) (G : HG) (post : Int32 → HG → Prop) : Prop :=
  gtI G a0 20 1 fun x2 => (x2 = 0 → (post (1 : Int32) G)) ∧ (¬ x2 = 0 → (post (0 : Int32) G))
abbrev rhJ8_isLatin1 (fr lo : Nat) : Room := { frames := fr + 1, cells := 0, slots := 0, locals := lo + 40 }
theorem mhJ8_isLatin1 (l : Launch) (Z : (Nat → Prop) → State → Heap → Prop) (D : va_G) (j : JX) (Λ : JLam) (fr lo : Nat) (E : JE l Z D j Λ fr lo) (a0 : Nat) (G : HG) (post : Int32 → HG → Prop) (hf : hJ8_isLatin1 j Λ a0 G post) : HMi l yJ8_isLatin1 (ws_ yJ8_isLatin1 cJ8_isLatin1 1 (some .boolean)) (rhJ8_isLatin1 fr lo) D jC (jty j.1) Z G [.ref a0] post 0 0 := by
  refine h_openz E.1 (by decide) (by exact Nat.le_of_ble_eq_true rfl) (fun p e s m args below meth c ls A0 Q X hI hnd hnm hl hret => ?_)
  have X : XC p s m args meth c cJ8_isLatin1 1 RJ8 D jC (jty j.1) A0 Z := X
  have hx := X.1
  have hb := X.2.1
  have hown := X.2.2.2.1
  have hts := X.2.2.2.2.1
  have hl : lv_has ls 1 [(0, .ref a0)] := by exact hl
  unfold hJ8_isLatin1 at hf
  obtain ⟨H, eH⟩ : ∃ H, H = s.heap := ⟨_, rfl⟩
  obtain ⟨locs, eL⟩ : ∃ locs : List Loc, locs = [] := ⟨_, rfl⟩
  have hI : HI D jC G A0 s.heap H locs := by rw [eH, eL]; exact hI
  rw [← eL]
  suffices h : W p l e (rhJ8_isLatin1 fr lo) s m args below meth c H locs 0 0 Q (F0 m 0 ls []) by rw [eH] at h; exact h
  clear eH eL
  refine va_gets (v := .int 1) hx hb ((E.z X).2.1 _ (List.mem_of_getElem? (show jStI[0]? = some _ from rfl))) hI.2 hown (hts _ q881) (fun _ h => h) dJ8_isLatin1_0 ?_
  refine lv_if_eq (tgt := 17) hx hb dJ8_isLatin1_3 (by decide) (fun c1 => absurd c1 (by decide)) (fun c1 => ?_)
  refine lv_aload_n hx hb dJ8_isLatin1_6 rfl (lv_at hl 0 rfl) ?_
  refine hr_gtI X hI (rfl : jC.1[20]? = some (RJ8, TJ8, 4)) in_J8 1 (Nat.le_of_ble_eq_true rfl) hf q1581 (fun _ h => h) dJ8_isLatin1_7 (fun x2 hf => ?_)
  refine lv_if_ne (tgt := 17) hx hb dJ8_isLatin1_10 (by decide) (fun c3 => ?_) (fun c3 => ?_)
  · have hf := hf.2 c3
    refine lv_iconst (v := 0) hx hb dJ8_isLatin1_17 (by decide) ?_
    exact hret rfl hf hI dJ8_isLatin1_18 (Nat.le_refl _) (Nat.le_refl _)
  · have hf := hf.1 c3
    refine lv_iconst (v := 1) hx hb dJ8_isLatin1_13 (by decide) ?_
    refine lv_goto (tgt := 18) hx hb dJ8_isLatin1_14 (by decide) ?_
    exact hret rfl hf hI dJ8_isLatin1_18 (Nat.le_refl _) (Nat.le_refl _)
/-! java/lang/String.hashCode()I -/
def hJ8_hashCode_b40 (j : JX) (Λ : JLam) (a0 : Nat) (post : Int32 → HG → Prop) (z0 : Int32) (G : HG) : Prop :=
  (z0 = 0 → (ptV G a0 20 3 (.int 1) fun G14 => post z0 G14)) ∧ (¬ z0 = 0 → (ptV G a0 20 2 (.int z0) fun G13 => post z0 G13))
def hJ8_hashCode (j : JX) (Λ : JLam) (a0 : Nat) (G : HG) (post : Int32 → HG → Prop) : Prop :=
  gtI G a0 20 2 fun x1 => (x1 = 0 → (gtI G a0 20 3 fun x3 => (x3 = 0 → (isO G a0 20 (hJ8_isLatin1 j Λ a0 G fun x6 G5 => (x6 = 0 → (False)) ∧ (¬ x6 = 0 → (gtQ G5 a0 20 0 fun q9 => hJ16_hashCode j Λ q9 G5 fun x11 G10 => hJ8_hashCode_b40 j Λ a0 post x11 G10))))) ∧ (¬ x3 = 0 → (post x1 G)))) ∧ (¬ x1 = 0 → (post x1 G))
abbrev rhJ8_hashCode (fr lo : Nat) : Room := { frames := fr + 4, cells := 0, slots := 0, locals := lo + 109 }
theorem mhJ8_hashCode (l : Launch) (Z : (Nat → Prop) → State → Heap → Prop) (D : va_G) (j : JX) (Λ : JLam) (fr lo : Nat) (E : JE l Z D j Λ fr lo) (a0 : Nat) (G : HG) (post : Int32 → HG → Prop) (hf : hJ8_hashCode j Λ a0 G post) : HMi l yJ8_hashCode (ws_ yJ8_hashCode cJ8_hashCode 2 (some .int)) (rhJ8_hashCode fr lo) D jC (jty j.1) Z G [.ref a0] post 0 0 := by
  refine h_openi E.1 (by decide) (by exact Nat.le_of_ble_eq_true rfl) (fun p e s m args below meth c ls A0 Q X hI hnd hnm hl hret => ?_)
  have X : XC p s m args meth c cJ8_hashCode 2 RJ8 D jC (jty j.1) A0 Z := X
  have hx := X.1
  have hb := X.2.1
  have hown := X.2.2.2.1
  have hts := X.2.2.2.2.1
  have J40 : ∀ (z0 : Int32) (G : HG), hJ8_hashCode_b40 j Λ a0 post z0 G → ∀ (H : Heap) (locs : List Loc), HI D jC G A0 s.heap H locs → ∀ (ls : Array Slot), lv_has ls 2 [(0, .ref a0)] → W p l e (rhJ8_hashCode fr lo) s m args below meth c H locs 0 0 Q (F0 m 40 ls [.int z0]) := by
    intro z0 G hf H locs hI ls hl
    unfold hJ8_hashCode_b40 at hf
    refine lv_istore_n (lv' := [(1, .int z0), (0, .ref a0)]) hx hb dJ8_hashCode_40 rfl hl (by decide) rfl (fun ls hl => ?_)
    refine lv_iload_n hx hb dJ8_hashCode_41 rfl (lv_at hl 0 rfl) ?_
    refine lv_if_ne (tgt := 53) hx hb dJ8_hashCode_42 (by decide) (fun c12 => ?_) (fun c12 => ?_)
    · have hf := hf.2 c12
      refine lv_aload_n hx hb dJ8_hashCode_53 rfl (lv_at hl 1 rfl) ?_
      refine lv_iload_n hx hb dJ8_hashCode_54 rfl (lv_at hl 0 rfl) ?_
      refine hr_pt X hI (rfl : jC.1[20]? = some (RJ8, TJ8, 4)) in_J8 2 (Nat.le_of_ble_eq_true rfl) tyJ8 tyJ8_ok nmJ8 hf q1582 (fun _ h => h) rfl rfl rfl dJ8_hashCode_55 (fun G13 H locs hf hI => ?_)
      refine lv_iload_n hx hb dJ8_hashCode_58 rfl (lv_at hl 0 rfl) ?_
      exact hret hf hI dJ8_hashCode_59 (Nat.le_refl _) (Nat.le_refl _)
    · have hf := hf.1 c12
      refine lv_aload_n hx hb dJ8_hashCode_45 rfl (lv_at hl 1 rfl) ?_
      refine lv_iconst (v := 1) hx hb dJ8_hashCode_46 (by decide) ?_
      refine hr_pt X hI (rfl : jC.1[20]? = some (RJ8, TJ8, 4)) in_J8 3 (Nat.le_of_ble_eq_true rfl) tyJ8 tyJ8_ok nmJ8 hf q1583 (fun _ h => h) rfl rfl rfl dJ8_hashCode_47 (fun G14 H locs hf hI => ?_)
      refine lv_goto (tgt := 58) hx hb dJ8_hashCode_50 (by decide) ?_
      refine lv_iload_n hx hb dJ8_hashCode_58 rfl (lv_at hl 0 rfl) ?_
      exact hret hf hI dJ8_hashCode_59 (Nat.le_refl _) (Nat.le_refl _)
  have hl : lv_has ls 2 [(0, .ref a0)] := by exact hl
  unfold hJ8_hashCode at hf
  obtain ⟨H, eH⟩ : ∃ H, H = s.heap := ⟨_, rfl⟩
  obtain ⟨locs, eL⟩ : ∃ locs : List Loc, locs = [] := ⟨_, rfl⟩
  have hI : HI D jC G A0 s.heap H locs := by rw [eH, eL]; exact hI
  rw [← eL]
  suffices h : W p l e (rhJ8_hashCode fr lo) s m args below meth c H locs 0 0 Q (F0 m 0 ls []) by rw [eH] at h; exact h
  clear eH eL
  refine lv_aload_n hx hb dJ8_hashCode_0 rfl (lv_at hl 0 rfl) ?_
  refine hr_gtI X hI (rfl : jC.1[20]? = some (RJ8, TJ8, 4)) in_J8 2 (Nat.le_of_ble_eq_true rfl) hf q1582 (fun _ h => h) dJ8_hashCode_1 (fun x1 hf => ?_)
  refine lv_istore_n (lv' := [(1, .int x1), (0, .ref a0)]) hx hb dJ8_hashCode_4 rfl hl (by decide) rfl (fun ls hl => ?_)
  refine lv_iload_n hx hb dJ8_hashCode_5 rfl (lv_at hl 0 rfl) ?_
  refine lv_if_ne (tgt := 58) hx hb dJ8_hashCode_6 (by decide) (fun c2 => ?_) (fun c2 => ?_)
  · have hf := hf.2 c2
    refine lv_iload_n hx hb dJ8_hashCode_58 rfl (lv_at hl 0 rfl) ?_
    exact hret hf hI dJ8_hashCode_59 (Nat.le_refl _) (Nat.le_refl _)
  · have hf := hf.1 c2
    refine lv_aload_n hx hb dJ8_hashCode_9 rfl (lv_at hl 1 rfl) ?_
    refine hr_gtI X hI (rfl : jC.1[20]? = some (RJ8, TJ8, 4)) in_J8 3 (Nat.le_of_ble_eq_true rfl) hf q1583 (fun _ h => h) dJ8_hashCode_10 (fun x3 hf => ?_)
    refine lv_if_ne (tgt := 58) hx hb dJ8_hashCode_13 (by decide) (fun c4 => ?_) (fun c4 => ?_)
    · have hf := hf.2 c4
      refine lv_iload_n hx hb dJ8_hashCode_58 rfl (lv_at hl 0 rfl) ?_
      exact hret hf hI dJ8_hashCode_59 (Nat.le_refl _) (Nat.le_refl _)
    · have hf := hf.1 c4
      refine lv_aload_n hx hb dJ8_hashCode_16 rfl (lv_at hl 1 rfl) ?_
      obtain ⟨_, _, hO, hf⟩ := hf
      refine h_ki X hI (h_runV (As := []) X hI (h_recv X hI hO (show jC.1[20]? = some (RJ8, TJ8, 4) from rfl)) (mhJ8_isLatin1 l Z D j Λ fr lo E a0 G _ hf H.size) (cwV 0 hts (lw_V q877 q878 q879 q184 q880) rfl rfl rfl (by decide +kernel) (by show fr + 1 + 1 ≤ fr + 4 ∧ 8 + (1 + 11) + (lo + 40) ≤ lo + 109; omega)) rfl hl.1 (Nat.le_of_ble_eq_true rfl) dJ8_hashCode_17 ⟨Nat.le_refl _, Nat.le_refl _⟩ rfl) (fun x6 G5 H locs hf hI => ?_)
      clear hO
      refine lv_if_eq (tgt := 33) hx hb dJ8_hashCode_20 (by decide) (fun c7 => ?_) (fun c7 => ?_)
      · have hf := hf.1 c7
        exact hf.elim
      · have hf := hf.2 c7
        refine lv_aload_n hx hb dJ8_hashCode_23 rfl (lv_at hl 1 rfl) ?_
        refine hr_gtQ X hI (rfl : jC.1[20]? = some (RJ8, TJ8, 4)) in_J8 0 (Nat.le_of_ble_eq_true rfl) hf q1580 (fun _ h => h) dJ8_hashCode_24 (fun q9 hf => ?_)
        refine h_ki X hI (h_runS (As := [va_rf q9]) X hI (mhJ16_hashCode l Z D j Λ fr lo E q9 G5 _ hf H.size) (va_cwS 1 hts (lw_S q882 q883 q193 q884) rfl rfl rfl (by decide +kernel) (by show fr + 3 + 1 ≤ fr + 4 ∧ 8 + (1 + 11) + (lo + 89) ≤ lo + 109; omega)) rfl hl.1 (Nat.le_of_ble_eq_true rfl) dJ8_hashCode_27 ⟨Nat.le_refl _, Nat.le_refl _⟩ rfl) (fun x11 G10 H locs hf hI => ?_)
        refine lv_goto (tgt := 40) hx hb dJ8_hashCode_30 (by decide) ?_
        exact J40 x11 G10 hf H locs hI ls (lv_sub hl [1] rfl)
/-! java/util/HashMap.hash(Ljava/lang/Object;)I -/
def disphashCode (j : JX) (Λ : JLam) (a : Nat) (G : HG) (post : Int32 → HG → Prop) : Prop := isO G a 13 (hX13_hashCode j Λ a G post) ∨ isO G a 20 (hJ8_hashCode j Λ a G post)
def hJ5_hash (j : JX) (Λ : JLam) (q0_ : Option Nat) (G : HG) (post : Int32 → HG → Prop) : Prop :=
  (q0_ = none → (post (0 : Int32) G)) ∧ (∀ a2, q0_ = some a2 → (disphashCode j Λ a2 G fun x3 G4 => post (x3 ^^^ ((x3.toUInt32 >>> ((16 : Int32).toUInt32 &&& Int32.toUInt32 31)).toInt32)) G4))
abbrev rhJ5_hash (fr lo : Nat) : Room := { frames := fr + 5, cells := 0, slots := 0, locals := lo + 130 }
theorem mhJ5_hash (l : Launch) (Z : (Nat → Prop) → State → Heap → Prop) (D : va_G) (j : JX) (Λ : JLam) (fr lo : Nat) (E : JE l Z D j Λ fr lo) (q0_ : Option Nat) (G : HG) (post : Int32 → HG → Prop) (hf : hJ5_hash j Λ q0_ G post) : HMi l yJ5_hash (ws_ yJ5_hash cJ5_hash 2 (some .int)) (rhJ5_hash fr lo) D jC (jty j.1) Z G [va_rf q0_] post 0 0 := by
  refine h_openi E.1 (by decide) (by cases q0_ <;> exact Nat.le_of_ble_eq_true rfl) (fun p e s m args below meth c ls A0 Q X hI hnd hnm hl hret => ?_)
  have X : XC p s m args meth c cJ5_hash 2 RJ5 D jC (jty j.1) A0 Z := X
  have hx := X.1
  have hb := X.2.1
  have hown := X.2.2.2.1
  have hts := X.2.2.2.2.1
  have hl : lv_has ls 2 [(0, va_rf q0_)] := by cases q0_ <;> exact hl
  unfold hJ5_hash at hf
  obtain ⟨H, eH⟩ : ∃ H, H = s.heap := ⟨_, rfl⟩
  obtain ⟨locs, eL⟩ : ∃ locs : List Loc, locs = [] := ⟨_, rfl⟩
  have hI : HI D jC G A0 s.heap H locs := by rw [eH, eL]; exact hI
  rw [← eL]
  suffices h : W p l e (rhJ5_hash fr lo) s m args below meth c H locs 0 0 Q (F0 m 0 ls []) by rw [eH] at h; exact h
  clear eH eL
  refine h_aload_n (o := q0_) hx hb dJ5_hash_0 rfl (lv_at hl 0 rfl) ?_
  refine h_ifnonnull (tgt := 8) hx hb dJ5_hash_1 (by decide) (fun a2 c1 => ?_) (fun c1 => ?_)
  · have hf := hf.2 a2 c1
    revert hl hf
    subst c1
    intro hl hf
    have hl : lv_has ls 2 [(0, .ref a2)] := hl
    refine lv_aload_n hx hb dJ5_hash_8 rfl (lv_at hl 0 rfl) ?_
    refine h_ki X hI (by rcases hf with ⟨_, _, hO, hf⟩ | ⟨_, _, hO, hf⟩; exact h_runU (As := []) X hI (h_recv X hI hO (show jC.1[13]? = some (RX13, TX13, 2) from rfl)) (mhX13_hashCode l Z D j Λ fr lo E a2 G _ hf H.size) (cwA (owner := "java/lang/Object") 0 hts q844 q846 q854 q855 q214 q856 (E.nw X q843 rfl) rfl rfl (by decide +kernel) (by show fr + 1 + 1 ≤ fr + 5 ∧ 8 + (1 + 11) + (lo + 40) ≤ lo + 130; omega)) rfl hl.1 (Nat.le_of_ble_eq_true rfl) dJ5_hash_9 ⟨Nat.le_refl _, Nat.le_refl _⟩ rfl; exact h_runU (As := []) X hI (h_recv X hI hO (show jC.1[20]? = some (RJ8, TJ8, 4) from rfl)) (mhJ8_hashCode l Z D j Λ fr lo E a2 G _ hf H.size) (cwA (owner := "java/lang/Object") 0 hts q844 q846 q874 q875 q184 q876 (E.nw X q843 rfl) rfl rfl (by decide +kernel) (by show fr + 4 + 1 ≤ fr + 5 ∧ 8 + (2 + 11) + (lo + 109) ≤ lo + 130; omega)) rfl hl.1 (Nat.le_of_ble_eq_true rfl) dJ5_hash_9 ⟨Nat.le_refl _, Nat.le_refl _⟩ rfl) (fun x3 G4 H locs hf hI => ?_)
    refine lv_dup hx hb dJ5_hash_12 rfl ?_
    refine lv_istore_n (lv' := [(1, .int x3), (0, .ref a2)]) hx hb dJ5_hash_13 rfl hl (by decide) rfl (fun ls hl => ?_)
    refine lv_iload_n hx hb dJ5_hash_14 rfl (lv_at hl 0 rfl) ?_
    refine lv_bipush (v := 16) hx hb dJ5_hash_15 (by decide) ?_
    refine lv_iushr hx hb dJ5_hash_17 rfl ?_
    refine lv_ixor hx hb dJ5_hash_18 ?_
    exact hret hf hI dJ5_hash_19 (Nat.le_refl _) (Nat.le_refl _)
  · have hf := hf.1 c1
    revert hl hf
    subst c1
    intro hl hf
    have hl : lv_has ls 2 [(0, va_rf none)] := hl
    refine lv_iconst (v := 0) hx hb dJ5_hash_4 (by decide) ?_
    refine lv_goto (tgt := 19) hx hb dJ5_hash_5 (by decide) ?_
    exact hret hf hI dJ5_hash_19 (Nat.le_refl _) (Nat.le_refl _)
/-! java/util/HashMap.resize()[Ljava/util/HashMap$Node; -/
def hJ5_resize_b347 (j : JX) (Λ : JLam) (a0 : Nat) (post : Option Nat → HG → Prop) (K151 : Nat → Int32 → Int32 → Nat → Int32 → Nat → Nat → HG → Prop) (la1 : Nat) (lx2 : Int32) (lx4 : Int32) (la6 : Nat) (lx7 : Int32) (mc ms : Nat) (G : HG) : Prop :=
  K151 la1 lx2 lx4 la6 (lx7 + 1) mc ms G
def hJ5_resize_b327 (j : JX) (Λ : JLam) (a0 : Nat) (post : Option Nat → HG → Prop) (K151 : Nat → Int32 → Int32 → Nat → Int32 → Nat → Nat → HG → Prop) (la1 : Nat) (lx2 : Int32) (lx4 : Int32) (la6 : Nat) (lx7 : Int32) (lq11 : Option Nat) (lq12 : Option Nat) (mc ms : Nat) (G : HG) : Prop :=
  (lq12 = none → (hJ5_resize_b347 j Λ a0 post K151 la1 lx2 lx4 la6 lx7 mc ms G)) ∧ (∀ a52, lq12 = some a52 → (p2V G a52 3 (va_rf none) fun G53 => stQ jOk (jty j.1) G53 la6 (lx7 + lx2) lq11 fun G54 => hJ5_resize_b347 j Λ a0 post K151 la1 lx2 lx4 la6 lx7 mc ms G54))
def hJ5_resize_b301 (j : JX) (Λ : JLam) (a0 : Nat) (post : Option Nat → HG → Prop) (K151 : Nat → Int32 → Int32 → Nat → Int32 → Nat → Nat → HG → Prop) (K235 : Nat → Int32 → Int32 → Nat → Int32 → Nat → Option Nat → Option Nat → Option Nat → Option Nat → Nat → Nat → HG → Prop) (la1 : Nat) (lx2 : Int32) (lx4 : Int32) (la6 : Nat) (lx7 : Int32) (lq9 : Option Nat) (lq10 : Option Nat) (lq11 : Option Nat) (lq12 : Option Nat) (lq13 : Option Nat) (mc ms : Nat) (G : HG) : Prop :=
  (lq13 = none → ((lq10 = none → (hJ5_resize_b327 j Λ a0 post K151 la1 lx2 lx4 la6 lx7 lq11 lq12 mc ms G)) ∧ (∀ a48, lq10 = some a48 → (p2V G a48 3 (va_rf none) fun G49 => stQ jOk (jty j.1) G49 la6 lx7 lq9 fun G50 => hJ5_resize_b327 j Λ a0 post K151 la1 lx2 lx4 la6 lx7 lq11 lq12 mc ms G50)))) ∧ (∀ a46, lq13 = some a46 → (K235 la1 lx2 lx4 la6 lx7 a46 lq9 lq10 lq11 lq12 mc ms G))
def hJ5_resize_b297 (j : JX) (Λ : JLam) (a0 : Nat) (post : Option Nat → HG → Prop) (K151 : Nat → Int32 → Int32 → Nat → Int32 → Nat → Nat → HG → Prop) (K235 : Nat → Int32 → Int32 → Nat → Int32 → Nat → Option Nat → Option Nat → Option Nat → Option Nat → Nat → Nat → HG → Prop) (la1 : Nat) (lx2 : Int32) (lx4 : Int32) (la6 : Nat) (lx7 : Int32) (la8 : Nat) (lq9 : Option Nat) (lq10 : Option Nat) (lq11 : Option Nat) (lq13 : Option Nat) (mc ms : Nat) (G : HG) : Prop :=
  hJ5_resize_b301 j Λ a0 post K151 K235 la1 lx2 lx4 la6 lx7 lq9 lq10 lq11 (some la8) lq13 mc ms G
def hJ5_resize_b271 (j : JX) (Λ : JLam) (a0 : Nat) (post : Option Nat → HG → Prop) (K151 : Nat → Int32 → Int32 → Nat → Int32 → Nat → Nat → HG → Prop) (K235 : Nat → Int32 → Int32 → Nat → Int32 → Nat → Option Nat → Option Nat → Option Nat → Option Nat → Nat → Nat → HG → Prop) (la1 : Nat) (lx2 : Int32) (lx4 : Int32) (la6 : Nat) (lx7 : Int32) (la8 : Nat) (lq9 : Option Nat) (lq11 : Option Nat) (lq12 : Option Nat) (lq13 : Option Nat) (mc ms : Nat) (G : HG) : Prop :=
  hJ5_resize_b301 j Λ a0 post K151 K235 la1 lx2 lx4 la6 lx7 lq9 (some la8) lq11 lq12 lq13 mc ms G
def hJ5_resize_b235 (j : JX) (Λ : JLam) (a0 : Nat) (post : Option Nat → HG → Prop) (K151 : Nat → Int32 → Int32 → Nat → Int32 → Nat → Nat → HG → Prop) (K235 : Nat → Int32 → Int32 → Nat → Int32 → Nat → Option Nat → Option Nat → Option Nat → Option Nat → Nat → Nat → HG → Prop) (la1 : Nat) (lx2 : Int32) (lx4 : Int32) (la6 : Nat) (lx7 : Int32) (la8 : Nat) (lq9 : Option Nat) (lq10 : Option Nat) (lq11 : Option Nat) (lq12 : Option Nat) (mc ms : Nat) (G : HG) : Prop :=
  g2Q G la8 3 fun q36 => g2I G la8 0 fun x37 => ((x37 &&& lx2) = 0 → ((lq10 = none → (hJ5_resize_b271 j Λ a0 post K151 K235 la1 lx2 lx4 la6 lx7 la8 (some la8) lq11 lq12 q36 mc ms G)) ∧ (∀ a43, lq10 = some a43 → (p2V G a43 3 (.ref la8) fun G44 => hJ5_resize_b271 j Λ a0 post K151 K235 la1 lx2 lx4 la6 lx7 la8 lq9 lq11 lq12 q36 mc ms G44)))) ∧ (¬ (x37 &&& lx2) = 0 → ((lq12 = none → (hJ5_resize_b297 j Λ a0 post K151 K235 la1 lx2 lx4 la6 lx7 la8 lq9 lq10 (some la8) q36 mc ms G)) ∧ (∀ a40, lq12 = some a40 → (p2V G a40 3 (.ref la8) fun G41 => hJ5_resize_b297 j Λ a0 post K151 K235 la1 lx2 lx4 la6 lx7 la8 lq9 lq10 lq11 q36 mc ms G41))))
def hJ5_resize_l235 (j : JX) (Λ : JLam) (a0 : Nat) (post : Option Nat → HG → Prop) (K151 : Nat → Int32 → Int32 → Nat → Int32 → Nat → Nat → HG → Prop) : Nat → Nat → Int32 → Int32 → Nat → Int32 → Nat → Option Nat → Option Nat → Option Nat → Option Nat → Nat → Nat → HG → Prop
  | 0 => fun _ _ _ _ _ _ _ _ _ _ _ _ _ => False
  | n + 1 => fun la1 lx2 lx4 la6 lx7 la8 lq9 lq10 lq11 lq12 mc ms G => hJ5_resize_b235 j Λ a0 post K151 (hJ5_resize_l235 j Λ a0 post K151 n) la1 lx2 lx4 la6 lx7 la8 lq9 lq10 lq11 lq12 mc ms G
def hJ5_resize_b151 (j : JX) (Λ : JLam) (a0 : Nat) (post : Option Nat → HG → Prop) (K151 : Nat → Int32 → Int32 → Nat → Int32 → Nat → Nat → HG → Prop) (la1 : Nat) (lx2 : Int32) (lx4 : Int32) (la6 : Nat) (lx7 : Int32) (mc ms : Nat) (G : HG) : Prop :=
  (lx2 ≤ lx7 → (post (some la6) G)) ∧ (¬ lx2 ≤ lx7 → (ldQ (jty j.1) G la1 lx7 fun q22 => (q22 = none → (hJ5_resize_b347 j Λ a0 post K151 la1 lx2 lx4 la6 lx7 mc ms G)) ∧ (∀ a24, q22 = some a24 → (stQ jOk (jty j.1) G la1 lx7 none fun G25 => g2Q G25 a24 3 fun q26 => (q26 = none → (g2I G25 a24 0 fun x29 => stQ jOk (jty j.1) G25 la6 (x29 &&& (lx4 - 1)) (some a24) fun G30 => hJ5_resize_b347 j Λ a0 post K151 la1 lx2 lx4 la6 lx7 mc ms G30)) ∧ (∀ a28, q26 = some a28 → (inO G25 (some a24) "java/util/HashMap$TreeNode" fun x31 => (x31 = 0 → (∃ n, hJ5_resize_l235 j Λ a0 post K151 n la1 lx2 lx4 la6 lx7 a24 none none none none mc ms G25)) ∧ (¬ x31 = 0 → (csO G25 (some a24) "java/util/HashMap$TreeNode" (isO G25 a24 18 (∃ m33 m34 : Nat, m33 ≤ mc ∧ m34 ≤ ms ∧ hJ23_split j Λ a24 (some a0) (some la6) lx7 lx2 m33 m34 G25 fun G35 => hJ5_resize_b347 j Λ a0 post K151 la1 lx2 lx4 la6 lx7 (mc - m33) (ms - m34) G35))))))))))
def hJ5_resize_l151 (j : JX) (Λ : JLam) (a0 : Nat) (post : Option Nat → HG → Prop) : Nat → Nat → Int32 → Int32 → Nat → Int32 → Nat → Nat → HG → Prop
  | 0 => fun _ _ _ _ _ _ _ _ => False
  | n + 1 => fun la1 lx2 lx4 la6 lx7 mc ms G => hJ5_resize_b151 j Λ a0 post (hJ5_resize_l151 j Λ a0 post n) la1 lx2 lx4 la6 lx7 mc ms G
def hJ5_resize_b125 (j : JX) (Λ : JLam) (a0 : Nat) (post : Option Nat → HG → Prop) (lq1 : Option Nat) (lx2 : Int32) (lx4 : Int32) (lx5 : Int32) (mc ms : Nat) (G : HG) : Prop :=
  ptV G a0 16 6 (.int lx5) fun G15 => 1 ≤ mc ∧ lx4.toNatClampNeg ≤ ms ∧ (¬ lx4 < 0 ∧ lx4.toNatClampNeg ≤ 65536 ∧ mkO G15 (.inl (j.1 11, lx4.toNatClampNeg, .inr (.inr (.inr (.inr (fun _ => none)))))) fun a16 G17 => ptV G17 a0 16 2 (.ref a16) fun G18 => (lq1 = none → (post (some a16) G18)) ∧ (∀ a20, lq1 = some a20 → (∃ n, hJ5_resize_l151 j Λ a0 post n a20 lx2 lx4 a16 (0 : Int32) (mc - 1) (ms - lx4.toNatClampNeg) G18)))
def hJ5_resize_b85 (j : JX) (Λ : JLam) (a0 : Nat) (post : Option Nat → HG → Prop) (lq1 : Option Nat) (lx2 : Int32) (lx4 : Int32) (lx5 : Int32) (mc ms : Nat) (G : HG) : Prop :=
  (lx5 = 0 → (False)) ∧ (¬ lx5 = 0 → (hJ5_resize_b125 j Λ a0 post lq1 lx2 lx4 lx5 mc ms G))
def hJ5_resize_b15 (j : JX) (Λ : JLam) (a0 : Nat) (post : Option Nat → HG → Prop) (lq1 : Option Nat) (z0 : Int32) (mc ms : Nat) (G : HG) : Prop :=
  gtI G a0 16 6 fun x5 => (z0 ≤ 0 → ((x5 ≤ 0 → (hJ5_resize_b85 j Λ a0 post lq1 z0 (16 : Int32) (12 : Int32) mc ms G)) ∧ (¬ x5 ≤ 0 → (hJ5_resize_b85 j Λ a0 post lq1 z0 x5 (0 : Int32) mc ms G)))) ∧ (¬ z0 ≤ 0 → ((z0 < (1073741824 : Int32) → (∀ v9 : Int32, v9 = (z0 <<< ((1 : Int32) &&& 31)) → ((1073741824 : Int32) ≤ v9 → (hJ5_resize_b85 j Λ a0 post lq1 z0 v9 (0 : Int32) mc ms G)) ∧ (¬ (1073741824 : Int32) ≤ v9 → ((z0 < (16 : Int32) → (hJ5_resize_b85 j Λ a0 post lq1 z0 v9 (0 : Int32) mc ms G)) ∧ (¬ z0 < (16 : Int32) → (∀ v12 : Int32, v12 = (x5 <<< ((1 : Int32) &&& 31)) → hJ5_resize_b85 j Λ a0 post lq1 z0 v9 v12 mc ms G)))))) ∧ (¬ z0 < (1073741824 : Int32) → (ptV G a0 16 6 (.int 2147483647) fun G13 => post lq1 G13))))
def hJ5_resize (j : JX) (Λ : JLam) (a0 : Nat) (mc ms : Nat) (G : HG) (post : Option Nat → HG → Prop) : Prop :=
  gtQ G a0 16 2 fun q1 => (q1 = none → (hJ5_resize_b15 j Λ a0 post none (0 : Int32) mc ms G)) ∧ (∀ a3, q1 = some a3 → (aln (jty j.1) G a3 fun x4 => hJ5_resize_b15 j Λ a0 post (some a3) x4 mc ms G))
abbrev rhJ5_resize (fr lo mc ms : Nat) : Room := { frames := fr + 5, cells := mc, slots := ms, locals := lo + 154 }
theorem mhJ5_resize (l : Launch) (Z : (Nat → Prop) → State → Heap → Prop) (D : va_G) (j : JX) (Λ : JLam) (fr lo : Nat) (E : JE l Z D j Λ fr lo) (a0 : Nat) (mc ms : Nat) (G : HG) (post : Option Nat → HG → Prop) (hf : hJ5_resize j Λ a0 mc ms G post) : HMq l yJ5_resize (ws_ yJ5_resize cJ5_resize 14 (some (.array (.object "java/util/HashMap$Node")))) (rhJ5_resize fr lo mc ms) D jC (jty j.1) Z G [.ref a0] post mc ms := by
  obtain ⟨MC, eMC⟩ : ∃ MC, MC = mc := ⟨_, rfl⟩
  obtain ⟨MS, eMS⟩ : ∃ MS, MS = ms := ⟨_, rfl⟩
  suffices goal : HMq l yJ5_resize (ws_ yJ5_resize cJ5_resize 14 (some (.array (.object "java/util/HashMap$Node")))) (rhJ5_resize fr lo MC MS) D jC (jty j.1) Z G [.ref a0] post MC MS by rw [eMC, eMS] at goal; exact goal
  have hm0_ : 0 + mc ≤ MC ∧ 0 + ms ≤ MS := by omega
  clear eMC eMS
  refine h_openq (Or.inr ⟨_, rfl⟩) E.1 (by decide) (by exact Nat.le_of_ble_eq_true rfl) (fun p e s m args below meth c ls A0 Q X hI hnd hnm hl hret => ?_)
  have X : XC p s m args meth c cJ5_resize 14 RJ5 D jC (jty j.1) A0 Z := X
  have hx := X.1
  have hb := X.2.1
  have hown := X.2.2.2.1
  have hts := X.2.2.2.2.1
  have L151 : ∀ (n : Nat) (la1 : Nat) (lx2 : Int32) (lx4 : Int32) (la6 : Nat) (lx7 : Int32) (mc ms : Nat) (G : HG), hJ5_resize_l151 j Λ a0 post n la1 lx2 lx4 la6 lx7 mc ms G → ∀ (cells slots : Nat), cells + mc ≤ MC ∧ slots + ms ≤ MS → ∀ (H : Heap) (locs : List Loc), HI D jC G A0 s.heap H locs → ∀ (ls : Array Slot), lv_has ls 14 [(0, .ref a0), (1, .ref la1), (2, .int lx2), (4, .int lx4), (6, .ref la6), (7, .int lx7)] → W p l e (rhJ5_resize fr lo MC MS) s m args below meth c H locs cells slots Q (F0 m 151 ls []) := by
    intro n151
    induction n151 with
    | zero => intro la1 lx2 lx4 la6 lx7 mc ms G hf; exact hf.elim
    | succ n151 ih151 =>
      have J347 : ∀ (la1 : Nat) (lx2 : Int32) (lx4 : Int32) (la6 : Nat) (lx7 : Int32) (mc ms : Nat) (G : HG), hJ5_resize_b347 j Λ a0 post (hJ5_resize_l151 j Λ a0 post n151) la1 lx2 lx4 la6 lx7 mc ms G → ∀ (cells slots : Nat), cells + mc ≤ MC ∧ slots + ms ≤ MS → ∀ (H : Heap) (locs : List Loc), HI D jC G A0 s.heap H locs → ∀ (ls : Array Slot), lv_has ls 14 [(0, .ref a0), (1, .ref la1), (2, .int lx2), (4, .int lx4), (6, .ref la6), (7, .int lx7)] → W p l e (rhJ5_resize fr lo MC MS) s m args below meth c H locs cells slots Q (F0 m 347 ls []) := by
        intro la1 lx2 lx4 la6 lx7 mc ms G hf cells slots hm H locs hI ls hl
        unfold hJ5_resize_b347 at hf
        refine lv_iinc (v := lx7 + 1) (lv' := [(7, .int (lx7 + 1)), (0, .ref a0), (1, .ref la1), (2, .int lx2), (4, .int lx4), (6, .ref la6)]) hx hb dJ5_resize_347 hl (k := 5) rfl rfl (by decide) rfl (fun ls hl => ?_)
        refine lv_goto (tgt := 151) hx hb dJ5_resize_350 (by decide) ?_
        exact ih151 la1 lx2 lx4 la6 (lx7 + 1) mc ms G hf _ _ hm H locs hI ls (lv_sub hl [1, 2, 3, 4, 5, 0] rfl)
      have J327 : ∀ (la1 : Nat) (lx2 : Int32) (lx4 : Int32) (la6 : Nat) (lx7 : Int32) (lq11 : Option Nat) (lq12 : Option Nat) (mc ms : Nat) (G : HG), hJ5_resize_b327 j Λ a0 post (hJ5_resize_l151 j Λ a0 post n151) la1 lx2 lx4 la6 lx7 lq11 lq12 mc ms G → ∀ (cells slots : Nat), cells + mc ≤ MC ∧ slots + ms ≤ MS → ∀ (H : Heap) (locs : List Loc), HI D jC G A0 s.heap H locs → ∀ (ls : Array Slot), lv_has ls 14 [(0, .ref a0), (1, .ref la1), (2, .int lx2), (4, .int lx4), (6, .ref la6), (7, .int lx7), (11, va_rf lq11), (12, va_rf lq12)] → W p l e (rhJ5_resize fr lo MC MS) s m args below meth c H locs cells slots Q (F0 m 327 ls []) := by
        intro la1 lx2 lx4 la6 lx7 lq11 lq12 mc ms G hf cells slots hm H locs hI ls hl
        unfold hJ5_resize_b327 at hf
        refine h_aload (o := lq12) hx hb dJ5_resize_327 (lv_at hl 7 rfl) ?_
        refine h_ifnull (tgt := 347) hx hb dJ5_resize_329 (by decide) (fun c51 => ?_) (fun a52 c51 => ?_)
        · have hf := hf.1 c51
          revert hl hf
          subst c51
          intro hl hf
          have hl : lv_has ls 14 [(0, .ref a0), (1, .ref la1), (2, .int lx2), (4, .int lx4), (6, .ref la6), (7, .int lx7), (11, va_rf lq11), (12, va_rf none)] := hl
          exact J347 la1 lx2 lx4 la6 lx7 mc ms G hf _ _ hm H locs hI ls (lv_sub hl [0, 1, 2, 3, 4, 5] rfl)
        · have hf := hf.2 a52 c51
          revert hl hf
          subst c51
          intro hl hf
          have hl : lv_has ls 14 [(0, .ref a0), (1, .ref la1), (2, .int lx2), (4, .int lx4), (6, .ref la6), (7, .int lx7), (11, va_rf lq11), (12, .ref a52)] := hl
          refine lv_aload hx hb dJ5_resize_332 (lv_at hl 7 rfl) ?_
          refine lv_null hx hb dJ5_resize_334 ?_
          refine hr_p2V X hI 3 (Nat.le_of_ble_eq_true rfl) hf rfl rfl q990 (fun _ h => h) rfl rfl rfl dJ5_resize_335 (fun G53 H locs hf hI => ?_)
          refine lv_aload hx hb dJ5_resize_338 (lv_at hl 4 rfl) ?_
          refine lv_iload hx hb dJ5_resize_340 (lv_at hl 5 rfl) ?_
          refine lv_iload_n hx hb dJ5_resize_342 rfl (lv_at hl 2 rfl) ?_
          refine lv_iadd hx hb dJ5_resize_343 ?_
          refine h_aload (o := lq11) hx hb dJ5_resize_344 (lv_at hl 6 rfl) ?_
          refine hr_qst (v := lq11) X hI (jOk_asg (E.w X)) hf dJ5_resize_346 (fun G54 H locs hf hI => ?_)
          exact J347 la1 lx2 lx4 la6 lx7 mc ms G54 hf _ _ hm H locs hI ls (lv_sub hl [0, 1, 2, 3, 4, 5] rfl)
      have L235 : ∀ (n : Nat) (la1 : Nat) (lx2 : Int32) (lx4 : Int32) (la6 : Nat) (lx7 : Int32) (la8 : Nat) (lq9 : Option Nat) (lq10 : Option Nat) (lq11 : Option Nat) (lq12 : Option Nat) (mc ms : Nat) (G : HG), hJ5_resize_l235 j Λ a0 post (hJ5_resize_l151 j Λ a0 post n151) n la1 lx2 lx4 la6 lx7 la8 lq9 lq10 lq11 lq12 mc ms G → ∀ (cells slots : Nat), cells + mc ≤ MC ∧ slots + ms ≤ MS → ∀ (H : Heap) (locs : List Loc), HI D jC G A0 s.heap H locs → ∀ (ls : Array Slot), lv_has ls 14 [(0, .ref a0), (1, .ref la1), (2, .int lx2), (4, .int lx4), (6, .ref la6), (7, .int lx7), (8, .ref la8), (9, va_rf lq9), (10, va_rf lq10), (11, va_rf lq11), (12, va_rf lq12)] → W p l e (rhJ5_resize fr lo MC MS) s m args below meth c H locs cells slots Q (F0 m 235 ls []) := by
        intro n235
        induction n235 with
        | zero => intro la1 lx2 lx4 la6 lx7 la8 lq9 lq10 lq11 lq12 mc ms G hf; exact hf.elim
        | succ n235 ih235 =>
          have J301 : ∀ (la1 : Nat) (lx2 : Int32) (lx4 : Int32) (la6 : Nat) (lx7 : Int32) (lq9 : Option Nat) (lq10 : Option Nat) (lq11 : Option Nat) (lq12 : Option Nat) (lq13 : Option Nat) (mc ms : Nat) (G : HG), hJ5_resize_b301 j Λ a0 post (hJ5_resize_l151 j Λ a0 post n151) (hJ5_resize_l235 j Λ a0 post (hJ5_resize_l151 j Λ a0 post n151) n235) la1 lx2 lx4 la6 lx7 lq9 lq10 lq11 lq12 lq13 mc ms G → ∀ (cells slots : Nat), cells + mc ≤ MC ∧ slots + ms ≤ MS → ∀ (H : Heap) (locs : List Loc), HI D jC G A0 s.heap H locs → ∀ (ls : Array Slot), lv_has ls 14 [(0, .ref a0), (1, .ref la1), (2, .int lx2), (4, .int lx4), (6, .ref la6), (7, .int lx7), (9, va_rf lq9), (10, va_rf lq10), (11, va_rf lq11), (12, va_rf lq12), (13, va_rf lq13)] → W p l e (rhJ5_resize fr lo MC MS) s m args below meth c H locs cells slots Q (F0 m 301 ls []) := by
            intro la1 lx2 lx4 la6 lx7 lq9 lq10 lq11 lq12 lq13 mc ms G hf cells slots hm H locs hI ls hl
            unfold hJ5_resize_b301 at hf
            refine h_aload (o := lq13) hx hb dJ5_resize_301 (lv_at hl 10 rfl) ?_
            refine lv_dup hx hb dJ5_resize_303 (h_catq _) ?_
            refine h_astore (o := lq13) (lv' := [(8, va_rf lq13), (0, .ref a0), (1, .ref la1), (2, .int lx2), (4, .int lx4), (6, .ref la6), (7, .int lx7), (9, va_rf lq9), (10, va_rf lq10), (11, va_rf lq11), (12, va_rf lq12), (13, va_rf lq13)]) hx hb dJ5_resize_304 hl (by decide) rfl (fun ls hl => ?_)
            refine h_ifnonnull (tgt := 235) hx hb dJ5_resize_306 (by decide) (fun a46 c45 => ?_) (fun c45 => ?_)
            · have hf := hf.2 a46 c45
              revert hl hf
              subst c45
              intro hl hf
              have hl : lv_has ls 14 [(8, .ref a46), (0, .ref a0), (1, .ref la1), (2, .int lx2), (4, .int lx4), (6, .ref la6), (7, .int lx7), (9, va_rf lq9), (10, va_rf lq10), (11, va_rf lq11), (12, va_rf lq12), (13, .ref a46)] := hl
              exact ih235 la1 lx2 lx4 la6 lx7 a46 lq9 lq10 lq11 lq12 mc ms G hf _ _ hm H locs hI ls (lv_sub hl [1, 2, 3, 4, 5, 6, 0, 7, 8, 9, 10] rfl)
            · have hf := hf.1 c45
              revert hl hf
              subst c45
              intro hl hf
              have hl : lv_has ls 14 [(8, va_rf none), (0, .ref a0), (1, .ref la1), (2, .int lx2), (4, .int lx4), (6, .ref la6), (7, .int lx7), (9, va_rf lq9), (10, va_rf lq10), (11, va_rf lq11), (12, va_rf lq12), (13, va_rf none)] := hl
              refine h_aload (o := lq10) hx hb dJ5_resize_309 (lv_at hl 8 rfl) ?_
              refine h_ifnull (tgt := 327) hx hb dJ5_resize_311 (by decide) (fun c47 => ?_) (fun a48 c47 => ?_)
              · have hf := hf.1 c47
                revert hl hf
                subst c47
                intro hl hf
                have hl : lv_has ls 14 [(8, va_rf none), (0, .ref a0), (1, .ref la1), (2, .int lx2), (4, .int lx4), (6, .ref la6), (7, .int lx7), (9, va_rf lq9), (10, va_rf none), (11, va_rf lq11), (12, va_rf lq12), (13, va_rf none)] := hl
                exact J327 la1 lx2 lx4 la6 lx7 lq11 lq12 mc ms G hf _ _ hm H locs hI ls (lv_sub hl [1, 2, 3, 4, 5, 6, 9, 10] rfl)
              · have hf := hf.2 a48 c47
                revert hl hf
                subst c47
                intro hl hf
                have hl : lv_has ls 14 [(8, va_rf none), (0, .ref a0), (1, .ref la1), (2, .int lx2), (4, .int lx4), (6, .ref la6), (7, .int lx7), (9, va_rf lq9), (10, .ref a48), (11, va_rf lq11), (12, va_rf lq12), (13, va_rf none)] := hl
                refine lv_aload hx hb dJ5_resize_314 (lv_at hl 8 rfl) ?_
                refine lv_null hx hb dJ5_resize_316 ?_
                refine hr_p2V X hI 3 (Nat.le_of_ble_eq_true rfl) hf rfl rfl q990 (fun _ h => h) rfl rfl rfl dJ5_resize_317 (fun G49 H locs hf hI => ?_)
                refine lv_aload hx hb dJ5_resize_320 (lv_at hl 5 rfl) ?_
                refine lv_iload hx hb dJ5_resize_322 (lv_at hl 6 rfl) ?_
                refine h_aload (o := lq9) hx hb dJ5_resize_324 (lv_at hl 7 rfl) ?_
                refine hr_qst (v := lq9) X hI (jOk_asg (E.w X)) hf dJ5_resize_326 (fun G50 H locs hf hI => ?_)
                exact J327 la1 lx2 lx4 la6 lx7 lq11 lq12 mc ms G50 hf _ _ hm H locs hI ls (lv_sub hl [1, 2, 3, 4, 5, 6, 9, 10] rfl)
          have J297 : ∀ (la1 : Nat) (lx2 : Int32) (lx4 : Int32) (la6 : Nat) (lx7 : Int32) (la8 : Nat) (lq9 : Option Nat) (lq10 : Option Nat) (lq11 : Option Nat) (lq13 : Option Nat) (mc ms : Nat) (G : HG), hJ5_resize_b297 j Λ a0 post (hJ5_resize_l151 j Λ a0 post n151) (hJ5_resize_l235 j Λ a0 post (hJ5_resize_l151 j Λ a0 post n151) n235) la1 lx2 lx4 la6 lx7 la8 lq9 lq10 lq11 lq13 mc ms G → ∀ (cells slots : Nat), cells + mc ≤ MC ∧ slots + ms ≤ MS → ∀ (H : Heap) (locs : List Loc), HI D jC G A0 s.heap H locs → ∀ (ls : Array Slot), lv_has ls 14 [(0, .ref a0), (1, .ref la1), (2, .int lx2), (4, .int lx4), (6, .ref la6), (7, .int lx7), (8, .ref la8), (9, va_rf lq9), (10, va_rf lq10), (11, va_rf lq11), (13, va_rf lq13)] → W p l e (rhJ5_resize fr lo MC MS) s m args below meth c H locs cells slots Q (F0 m 297 ls []) := by
            intro la1 lx2 lx4 la6 lx7 la8 lq9 lq10 lq11 lq13 mc ms G hf cells slots hm H locs hI ls hl
            unfold hJ5_resize_b297 at hf
            refine lv_aload hx hb dJ5_resize_297 (lv_at hl 6 rfl) ?_
            refine lv_astore (lv' := [(12, .ref la8), (0, .ref a0), (1, .ref la1), (2, .int lx2), (4, .int lx4), (6, .ref la6), (7, .int lx7), (8, .ref la8), (9, va_rf lq9), (10, va_rf lq10), (11, va_rf lq11), (13, va_rf lq13)]) hx hb dJ5_resize_299 hl (by decide) (by cases lq11 <;> rfl) (fun ls hl => ?_)
            exact J301 la1 lx2 lx4 la6 lx7 lq9 lq10 lq11 (some la8) lq13 mc ms G hf _ _ hm H locs hI ls (lv_sub hl [1, 2, 3, 4, 5, 6, 8, 9, 10, 0, 11] rfl)
          have J271 : ∀ (la1 : Nat) (lx2 : Int32) (lx4 : Int32) (la6 : Nat) (lx7 : Int32) (la8 : Nat) (lq9 : Option Nat) (lq11 : Option Nat) (lq12 : Option Nat) (lq13 : Option Nat) (mc ms : Nat) (G : HG), hJ5_resize_b271 j Λ a0 post (hJ5_resize_l151 j Λ a0 post n151) (hJ5_resize_l235 j Λ a0 post (hJ5_resize_l151 j Λ a0 post n151) n235) la1 lx2 lx4 la6 lx7 la8 lq9 lq11 lq12 lq13 mc ms G → ∀ (cells slots : Nat), cells + mc ≤ MC ∧ slots + ms ≤ MS → ∀ (H : Heap) (locs : List Loc), HI D jC G A0 s.heap H locs → ∀ (ls : Array Slot), lv_has ls 14 [(0, .ref a0), (1, .ref la1), (2, .int lx2), (4, .int lx4), (6, .ref la6), (7, .int lx7), (8, .ref la8), (9, va_rf lq9), (11, va_rf lq11), (12, va_rf lq12), (13, va_rf lq13)] → W p l e (rhJ5_resize fr lo MC MS) s m args below meth c H locs cells slots Q (F0 m 271 ls []) := by
            intro la1 lx2 lx4 la6 lx7 la8 lq9 lq11 lq12 lq13 mc ms G hf cells slots hm H locs hI ls hl
            unfold hJ5_resize_b271 at hf
            refine lv_aload hx hb dJ5_resize_271 (lv_at hl 6 rfl) ?_
            refine lv_astore (lv' := [(10, .ref la8), (0, .ref a0), (1, .ref la1), (2, .int lx2), (4, .int lx4), (6, .ref la6), (7, .int lx7), (8, .ref la8), (9, va_rf lq9), (11, va_rf lq11), (12, va_rf lq12), (13, va_rf lq13)]) hx hb dJ5_resize_273 hl (by decide) (by cases lq9 <;> rfl) (fun ls hl => ?_)
            refine lv_goto (tgt := 301) hx hb dJ5_resize_275 (by decide) ?_
            exact J301 la1 lx2 lx4 la6 lx7 lq9 (some la8) lq11 lq12 lq13 mc ms G hf _ _ hm H locs hI ls (lv_sub hl [1, 2, 3, 4, 5, 6, 8, 0, 9, 10, 11] rfl)
          intro la1 lx2 lx4 la6 lx7 la8 lq9 lq10 lq11 lq12 mc ms G hf cells slots hm H locs hI ls hl
          have hf : hJ5_resize_b235 j Λ a0 post (hJ5_resize_l151 j Λ a0 post n151) (hJ5_resize_l235 j Λ a0 post (hJ5_resize_l151 j Λ a0 post n151) n235) la1 lx2 lx4 la6 lx7 la8 lq9 lq10 lq11 lq12 mc ms G := hf
          unfold hJ5_resize_b235 at hf
          refine lv_aload hx hb dJ5_resize_235 (lv_at hl 6 rfl) ?_
          refine hr_g2Q X hI 3 (Nat.le_of_ble_eq_true rfl) hf rfl q990 (fun _ h => h) dJ5_resize_237 (fun q36 hf => ?_)
          refine h_astore (o := q36) (lv' := [(13, va_rf q36), (0, .ref a0), (1, .ref la1), (2, .int lx2), (4, .int lx4), (6, .ref la6), (7, .int lx7), (8, .ref la8), (9, va_rf lq9), (10, va_rf lq10), (11, va_rf lq11), (12, va_rf lq12)]) hx hb dJ5_resize_240 hl (by decide) (by cases lq12 <;> rfl) (fun ls hl => ?_)
          refine lv_aload hx hb dJ5_resize_242 (lv_at hl 7 rfl) ?_
          refine hr_g2I X hI 0 (Nat.le_of_ble_eq_true rfl) hf rfl q979 (fun _ h => h) dJ5_resize_244 (fun x37 hf => ?_)
          refine lv_iload_n hx hb dJ5_resize_247 rfl (lv_at hl 3 rfl) ?_
          refine lv_iand hx hb dJ5_resize_248 ?_
          refine lv_if_ne (tgt := 278) hx hb dJ5_resize_249 (by decide) (fun c38 => ?_) (fun c38 => ?_)
          · have hf := hf.2 c38
            refine h_aload (o := lq12) hx hb dJ5_resize_278 (lv_at hl 11 rfl) ?_
            refine h_ifnonnull (tgt := 290) hx hb dJ5_resize_280 (by decide) (fun a40 c39 => ?_) (fun c39 => ?_)
            · have hf := hf.2 a40 c39
              revert hl hf
              subst c39
              intro hl hf
              have hl : lv_has ls 14 [(13, va_rf q36), (0, .ref a0), (1, .ref la1), (2, .int lx2), (4, .int lx4), (6, .ref la6), (7, .int lx7), (8, .ref la8), (9, va_rf lq9), (10, va_rf lq10), (11, va_rf lq11), (12, .ref a40)] := hl
              refine lv_aload hx hb dJ5_resize_290 (lv_at hl 11 rfl) ?_
              refine lv_aload hx hb dJ5_resize_292 (lv_at hl 7 rfl) ?_
              refine hr_p2V X hI 3 (Nat.le_of_ble_eq_true rfl) hf rfl rfl q990 (fun _ h => h) rfl rfl rfl dJ5_resize_294 (fun G41 H locs hf hI => ?_)
              exact J297 la1 lx2 lx4 la6 lx7 la8 lq9 lq10 lq11 q36 mc ms G41 hf _ _ hm H locs hI ls (lv_sub hl [1, 2, 3, 4, 5, 6, 7, 8, 9, 10, 0] rfl)
            · have hf := hf.1 c39
              revert hl hf
              subst c39
              intro hl hf
              have hl : lv_has ls 14 [(13, va_rf q36), (0, .ref a0), (1, .ref la1), (2, .int lx2), (4, .int lx4), (6, .ref la6), (7, .int lx7), (8, .ref la8), (9, va_rf lq9), (10, va_rf lq10), (11, va_rf lq11), (12, va_rf none)] := hl
              refine lv_aload hx hb dJ5_resize_283 (lv_at hl 7 rfl) ?_
              refine lv_astore (lv' := [(11, .ref la8), (13, va_rf q36), (0, .ref a0), (1, .ref la1), (2, .int lx2), (4, .int lx4), (6, .ref la6), (7, .int lx7), (8, .ref la8), (9, va_rf lq9), (10, va_rf lq10), (12, va_rf none)]) hx hb dJ5_resize_285 hl (by decide) (by cases lq10 <;> rfl) (fun ls hl => ?_)
              refine lv_goto (tgt := 297) hx hb dJ5_resize_287 (by decide) ?_
              exact J297 la1 lx2 lx4 la6 lx7 la8 lq9 lq10 (some la8) q36 mc ms G hf _ _ hm H locs hI ls (lv_sub hl [2, 3, 4, 5, 6, 7, 8, 9, 10, 0, 1] rfl)
          · have hf := hf.1 c38
            refine h_aload (o := lq10) hx hb dJ5_resize_252 (lv_at hl 9 rfl) ?_
            refine h_ifnonnull (tgt := 264) hx hb dJ5_resize_254 (by decide) (fun a43 c42 => ?_) (fun c42 => ?_)
            · have hf := hf.2 a43 c42
              revert hl hf
              subst c42
              intro hl hf
              have hl : lv_has ls 14 [(13, va_rf q36), (0, .ref a0), (1, .ref la1), (2, .int lx2), (4, .int lx4), (6, .ref la6), (7, .int lx7), (8, .ref la8), (9, va_rf lq9), (10, .ref a43), (11, va_rf lq11), (12, va_rf lq12)] := hl
              refine lv_aload hx hb dJ5_resize_264 (lv_at hl 9 rfl) ?_
              refine lv_aload hx hb dJ5_resize_266 (lv_at hl 7 rfl) ?_
              refine hr_p2V X hI 3 (Nat.le_of_ble_eq_true rfl) hf rfl rfl q990 (fun _ h => h) rfl rfl rfl dJ5_resize_268 (fun G44 H locs hf hI => ?_)
              exact J271 la1 lx2 lx4 la6 lx7 la8 lq9 lq11 lq12 q36 mc ms G44 hf _ _ hm H locs hI ls (lv_sub hl [1, 2, 3, 4, 5, 6, 7, 8, 10, 11, 0] rfl)
            · have hf := hf.1 c42
              revert hl hf
              subst c42
              intro hl hf
              have hl : lv_has ls 14 [(13, va_rf q36), (0, .ref a0), (1, .ref la1), (2, .int lx2), (4, .int lx4), (6, .ref la6), (7, .int lx7), (8, .ref la8), (9, va_rf lq9), (10, va_rf none), (11, va_rf lq11), (12, va_rf lq12)] := hl
              refine lv_aload hx hb dJ5_resize_257 (lv_at hl 7 rfl) ?_
              refine lv_astore (lv' := [(9, .ref la8), (13, va_rf q36), (0, .ref a0), (1, .ref la1), (2, .int lx2), (4, .int lx4), (6, .ref la6), (7, .int lx7), (8, .ref la8), (10, va_rf none), (11, va_rf lq11), (12, va_rf lq12)]) hx hb dJ5_resize_259 hl (by decide) rfl (fun ls hl => ?_)
              refine lv_goto (tgt := 271) hx hb dJ5_resize_261 (by decide) ?_
              exact J271 la1 lx2 lx4 la6 lx7 la8 (some la8) lq11 lq12 q36 mc ms G hf _ _ hm H locs hI ls (lv_sub hl [2, 3, 4, 5, 6, 7, 8, 0, 10, 11, 1] rfl)
      intro la1 lx2 lx4 la6 lx7 mc ms G hf cells slots hm H locs hI ls hl
      have hf : hJ5_resize_b151 j Λ a0 post (hJ5_resize_l151 j Λ a0 post n151) la1 lx2 lx4 la6 lx7 mc ms G := hf
      unfold hJ5_resize_b151 at hf
      refine lv_iload hx hb dJ5_resize_151 (lv_at hl 5 rfl) ?_
      refine lv_iload_n hx hb dJ5_resize_153 rfl (lv_at hl 2 rfl) ?_
      refine lv_icmp_ge (tgt := 353) hx hb dJ5_resize_154 (by decide) (fun c21 => ?_) (fun c21 => ?_)
      · have hf := hf.1 c21
        refine lv_aload hx hb dJ5_resize_353 (lv_at hl 4 rfl) ?_
        exact hret (v := (some la6)) hf hI dJ5_resize_355 (hmC hm.1) (hmC hm.2)
      · have hf := hf.2 c21
        refine lv_aload_n hx hb dJ5_resize_157 rfl (lv_at hl 1 rfl) ?_
        refine lv_iload hx hb dJ5_resize_158 (lv_at hl 5 rfl) ?_
        refine hr_qld X hI hf dJ5_resize_160 (fun q22 hf => ?_)
        refine lv_dup hx hb dJ5_resize_161 (h_catq _) ?_
        refine h_astore (o := q22) (lv' := [(8, va_rf q22), (0, .ref a0), (1, .ref la1), (2, .int lx2), (4, .int lx4), (6, .ref la6), (7, .int lx7)]) hx hb dJ5_resize_162 hl (by decide) rfl (fun ls hl => ?_)
        refine h_ifnull (tgt := 347) hx hb dJ5_resize_164 (by decide) (fun c23 => ?_) (fun a24 c23 => ?_)
        · have hf := hf.1 c23
          revert hl hf
          subst c23
          intro hl hf
          have hl : lv_has ls 14 [(8, va_rf none), (0, .ref a0), (1, .ref la1), (2, .int lx2), (4, .int lx4), (6, .ref la6), (7, .int lx7)] := hl
          exact J347 la1 lx2 lx4 la6 lx7 mc ms G hf _ _ hm H locs hI ls (lv_sub hl [1, 2, 3, 4, 5, 6] rfl)
        · have hf := hf.2 a24 c23
          revert hl hf
          subst c23
          intro hl hf
          have hl : lv_has ls 14 [(8, .ref a24), (0, .ref a0), (1, .ref la1), (2, .int lx2), (4, .int lx4), (6, .ref la6), (7, .int lx7)] := hl
          refine lv_aload_n hx hb dJ5_resize_167 rfl (lv_at hl 2 rfl) ?_
          refine lv_iload hx hb dJ5_resize_168 (lv_at hl 6 rfl) ?_
          refine lv_null hx hb dJ5_resize_170 ?_
          refine hr_qst (v := none) X hI (jOk_asg (E.w X)) hf dJ5_resize_171 (fun G25 H locs hf hI => ?_)
          refine lv_aload hx hb dJ5_resize_172 (lv_at hl 0 rfl) ?_
          refine hr_g2Q X hI 3 (Nat.le_of_ble_eq_true rfl) hf rfl q990 (fun _ h => h) dJ5_resize_174 (fun q26 hf => ?_)
          refine h_ifnonnull (tgt := 198) hx hb dJ5_resize_177 (by decide) (fun a28 c27 => ?_) (fun c27 => ?_)
          · have hf := hf.2 a28 c27
            revert hl hf
            subst c27
            intro hl hf
            have hl : lv_has ls 14 [(8, .ref a24), (0, .ref a0), (1, .ref la1), (2, .int lx2), (4, .int lx4), (6, .ref la6), (7, .int lx7)] := hl
            refine lv_aload hx hb dJ5_resize_198 (lv_at hl 0 rfl) ?_
            refine hr_inst (v := (some a24)) E X hI hf q957 dJ5_resize_200 (fun x31 hf => ?_)
            refine lv_if_eq (tgt := 223) hx hb dJ5_resize_203 (by decide) (fun c32 => ?_) (fun c32 => ?_)
            · have hf := hf.1 c32
              refine lv_null hx hb dJ5_resize_223 ?_
              refine h_astore (o := none) (lv' := [(9, va_rf none), (8, .ref a24), (0, .ref a0), (1, .ref la1), (2, .int lx2), (4, .int lx4), (6, .ref la6), (7, .int lx7)]) hx hb dJ5_resize_224 hl (by decide) rfl (fun ls hl => ?_)
              refine lv_null hx hb dJ5_resize_226 ?_
              refine h_astore (o := none) (lv' := [(10, va_rf none), (9, va_rf none), (8, .ref a24), (0, .ref a0), (1, .ref la1), (2, .int lx2), (4, .int lx4), (6, .ref la6), (7, .int lx7)]) hx hb dJ5_resize_227 hl (by decide) rfl (fun ls hl => ?_)
              refine lv_null hx hb dJ5_resize_229 ?_
              refine h_astore (o := none) (lv' := [(11, va_rf none), (10, va_rf none), (9, va_rf none), (8, .ref a24), (0, .ref a0), (1, .ref la1), (2, .int lx2), (4, .int lx4), (6, .ref la6), (7, .int lx7)]) hx hb dJ5_resize_230 hl (by decide) rfl (fun ls hl => ?_)
              refine lv_null hx hb dJ5_resize_232 ?_
              refine h_astore (o := none) (lv' := [(12, va_rf none), (11, va_rf none), (10, va_rf none), (9, va_rf none), (8, .ref a24), (0, .ref a0), (1, .ref la1), (2, .int lx2), (4, .int lx4), (6, .ref la6), (7, .int lx7)]) hx hb dJ5_resize_233 hl (by decide) rfl (fun ls hl => ?_)
              obtain ⟨n, hf⟩ := hf
              exact L235 n la1 lx2 lx4 la6 lx7 a24 none none none none mc ms G25 hf _ _ hm H locs hI ls (lv_sub hl [5, 6, 7, 8, 9, 10, 4, 3, 2, 1, 0] rfl)
            · have hf := hf.2 c32
              refine lv_aload hx hb dJ5_resize_206 (lv_at hl 0 rfl) ?_
              refine hr_cast (v := (some a24)) E X hI hf q957 dJ5_resize_208 (fun hf => ?_)
              refine lv_aload_n hx hb dJ5_resize_211 rfl (lv_at hl 1 rfl) ?_
              refine lv_aload hx hb dJ5_resize_212 (lv_at hl 5 rfl) ?_
              refine lv_iload hx hb dJ5_resize_214 (lv_at hl 6 rfl) ?_
              refine lv_iload_n hx hb dJ5_resize_216 rfl (lv_at hl 3 rfl) ?_
              obtain ⟨_, _, hO, hf⟩ := hf
              obtain ⟨m33, m34, hb1, hb2, hf⟩ := hf
              refine h_kv X hI (h_runV (As := [va_rf (some a0), va_rf (some la6), .int lx7, .int lx2]) X hI (h_recv X hI hO (show jC.1[18]? = some (RJ23, TJ23, 11) from rfl)) (mhJ23_split l Z D j Λ fr lo E a24 (some a0) (some la6) lx7 lx2 m33 m34 G25 _ hf H.size) (cwV 4 hts (lw_V q958 q959 q960 q201 q961) rfl rfl rfl (by decide +kernel) (by show fr + 4 + 1 ≤ fr + 5 ∧ 8 + (14 + 11) + (lo + 121) ≤ lo + 154; omega)) rfl hl.1 (Nat.le_of_ble_eq_true rfl) dJ5_resize_217 ⟨hmA hm.1 hb1, hmA hm.2 hb2⟩ rfl) (fun G35 H locs hf hI => ?_)
              have hm := And.intro (hmB hm.1 hb1) (hmB hm.2 hb2)
              clear hb1 hb2
              clear hO
              refine lv_goto (tgt := 347) hx hb dJ5_resize_220 (by decide) ?_
              exact J347 la1 lx2 lx4 la6 lx7 (mc - m33) (ms - m34) G35 hf _ _ hm H locs hI ls (lv_sub hl [1, 2, 3, 4, 5, 6] rfl)
          · have hf := hf.1 c27
            revert hl hf
            subst c27
            intro hl hf
            have hl : lv_has ls 14 [(8, .ref a24), (0, .ref a0), (1, .ref la1), (2, .int lx2), (4, .int lx4), (6, .ref la6), (7, .int lx7)] := hl
            refine lv_aload hx hb dJ5_resize_180 (lv_at hl 5 rfl) ?_
            refine lv_aload hx hb dJ5_resize_182 (lv_at hl 0 rfl) ?_
            refine hr_g2I X hI 0 (Nat.le_of_ble_eq_true rfl) hf rfl q979 (fun _ h => h) dJ5_resize_184 (fun x29 hf => ?_)
            refine lv_iload hx hb dJ5_resize_187 (lv_at hl 4 rfl) ?_
            refine lv_iconst (v := 1) hx hb dJ5_resize_189 (by decide) ?_
            refine lv_isub hx hb dJ5_resize_190 ?_
            refine lv_iand hx hb dJ5_resize_191 ?_
            refine lv_aload hx hb dJ5_resize_192 (lv_at hl 0 rfl) ?_
            refine hr_qst (v := (some a24)) X hI (jOk_asg (E.w X)) hf dJ5_resize_194 (fun G30 H locs hf hI => ?_)
            refine lv_goto (tgt := 347) hx hb dJ5_resize_195 (by decide) ?_
            exact J347 la1 lx2 lx4 la6 lx7 mc ms G30 hf _ _ hm H locs hI ls (lv_sub hl [1, 2, 3, 4, 5, 6] rfl)
  have J125 : ∀ (lq1 : Option Nat) (lx2 : Int32) (lx4 : Int32) (lx5 : Int32) (mc ms : Nat) (G : HG), hJ5_resize_b125 j Λ a0 post lq1 lx2 lx4 lx5 mc ms G → ∀ (cells slots : Nat), cells + mc ≤ MC ∧ slots + ms ≤ MS → ∀ (H : Heap) (locs : List Loc), HI D jC G A0 s.heap H locs → ∀ (ls : Array Slot), lv_has ls 14 [(0, .ref a0), (1, va_rf lq1), (2, .int lx2), (4, .int lx4), (5, .int lx5)] → W p l e (rhJ5_resize fr lo MC MS) s m args below meth c H locs cells slots Q (F0 m 125 ls []) := by
    intro lq1 lx2 lx4 lx5 mc ms G hf cells slots hm H locs hI ls hl
    unfold hJ5_resize_b125 at hf
    refine lv_aload_n hx hb dJ5_resize_125 rfl (lv_at hl 0 rfl) ?_
    refine lv_iload hx hb dJ5_resize_126 (lv_at hl 4 rfl) ?_
    refine hr_pt X hI (rfl : jC.1[16]? = some (RJ5, TJ5, 8)) in_J5 6 (Nat.le_of_ble_eq_true rfl) tyJ5 tyJ5_ok nmJ5 hf q750 (fun _ h => h) rfl rfl rfl dJ5_resize_128 (fun G15 H locs hf hI => ?_)
    refine lv_iload hx hb dJ5_resize_131 (lv_at hl 3 rfl) ?_
    obtain ⟨hb1, hb2, hf⟩ := hf
    refine hr_newq X hI 11 q955 ((E.w X).2.1 _ q956) rfl hf (hmA hm.1 hb1) (hmA hm.2 hb2) dJ5_resize_133 (fun a16 G17 H hf hI => ?_)
    have hm := And.intro (hmB hm.1 hb1) (hmB hm.2 hb2)
    clear hb1 hb2
    refine lv_astore (lv' := [(6, .ref a16), (0, .ref a0), (1, va_rf lq1), (2, .int lx2), (4, .int lx4), (5, .int lx5)]) hx hb dJ5_resize_136 hl (by decide) rfl (fun ls hl => ?_)
    refine lv_aload_n hx hb dJ5_resize_138 rfl (lv_at hl 1 rfl) ?_
    refine lv_aload hx hb dJ5_resize_139 (lv_at hl 0 rfl) ?_
    refine hr_pt X hI (rfl : jC.1[16]? = some (RJ5, TJ5, 8)) in_J5 2 (Nat.le_of_ble_eq_true rfl) tyJ5 tyJ5_ok nmJ5 hf q747 (fun _ h => h) rfl rfl rfl dJ5_resize_141 (fun G18 H locs hf hI => ?_)
    refine h_aload_n (o := lq1) hx hb dJ5_resize_144 rfl (lv_at hl 2 rfl) ?_
    refine h_ifnull (tgt := 353) hx hb dJ5_resize_145 (by decide) (fun c19 => ?_) (fun a20 c19 => ?_)
    · have hf := hf.1 c19
      revert hl hf
      subst c19
      intro hl hf
      have hl : lv_has ls 14 [(6, .ref a16), (0, .ref a0), (1, va_rf none), (2, .int lx2), (4, .int lx4), (5, .int lx5)] := hl
      refine lv_aload hx hb dJ5_resize_353 (lv_at hl 0 rfl) ?_
      exact hret (v := (some a16)) hf hI dJ5_resize_355 (hmC hm.1) (hmC hm.2)
    · have hf := hf.2 a20 c19
      revert hl hf
      subst c19
      intro hl hf
      have hl : lv_has ls 14 [(6, .ref a16), (0, .ref a0), (1, .ref a20), (2, .int lx2), (4, .int lx4), (5, .int lx5)] := hl
      refine lv_iconst (v := 0) hx hb dJ5_resize_148 (by decide) ?_
      refine lv_istore (lv' := [(7, .int 0), (6, .ref a16), (0, .ref a0), (1, .ref a20), (2, .int lx2), (4, .int lx4), (5, .int lx5)]) hx hb dJ5_resize_149 hl (by decide) rfl (fun ls hl => ?_)
      obtain ⟨n, hf⟩ := hf
      exact L151 n a20 lx2 lx4 a16 (0 : Int32) (mc - 1) (ms - lx4.toNatClampNeg) G18 hf _ _ hm H locs hI ls (lv_sub hl [2, 3, 4, 5, 1, 0] rfl)
  have J85 : ∀ (lq1 : Option Nat) (lx2 : Int32) (lx4 : Int32) (lx5 : Int32) (mc ms : Nat) (G : HG), hJ5_resize_b85 j Λ a0 post lq1 lx2 lx4 lx5 mc ms G → ∀ (cells slots : Nat), cells + mc ≤ MC ∧ slots + ms ≤ MS → ∀ (H : Heap) (locs : List Loc), HI D jC G A0 s.heap H locs → ∀ (ls : Array Slot), lv_has ls 14 [(0, .ref a0), (1, va_rf lq1), (2, .int lx2), (4, .int lx4), (5, .int lx5)] → W p l e (rhJ5_resize fr lo MC MS) s m args below meth c H locs cells slots Q (F0 m 85 ls []) := by
    intro lq1 lx2 lx4 lx5 mc ms G hf cells slots hm H locs hI ls hl
    unfold hJ5_resize_b85 at hf
    refine lv_iload hx hb dJ5_resize_85 (lv_at hl 4 rfl) ?_
    refine lv_if_ne (tgt := 125) hx hb dJ5_resize_87 (by decide) (fun c14 => ?_) (fun c14 => ?_)
    · have hf := hf.2 c14
      exact J125 lq1 lx2 lx4 lx5 mc ms G hf _ _ hm H locs hI ls (lv_sub hl [0, 1, 2, 3, 4] rfl)
    · have hf := hf.1 c14
      exact hf.elim
  have J15 : ∀ (lq1 : Option Nat) (z0 : Int32) (mc ms : Nat) (G : HG), hJ5_resize_b15 j Λ a0 post lq1 z0 mc ms G → ∀ (cells slots : Nat), cells + mc ≤ MC ∧ slots + ms ≤ MS → ∀ (H : Heap) (locs : List Loc), HI D jC G A0 s.heap H locs → ∀ (ls : Array Slot), lv_has ls 14 [(0, .ref a0), (1, va_rf lq1)] → W p l e (rhJ5_resize fr lo MC MS) s m args below meth c H locs cells slots Q (F0 m 15 ls [.int z0]) := by
    intro lq1 z0 mc ms G hf cells slots hm H locs hI ls hl
    unfold hJ5_resize_b15 at hf
    refine lv_istore_n (lv' := [(2, .int z0), (0, .ref a0), (1, va_rf lq1)]) hx hb dJ5_resize_15 rfl hl (by decide) (by cases lq1 <;> rfl) (fun ls hl => ?_)
    refine lv_aload_n hx hb dJ5_resize_16 rfl (lv_at hl 1 rfl) ?_
    refine hr_gtI X hI (rfl : jC.1[16]? = some (RJ5, TJ5, 8)) in_J5 6 (Nat.le_of_ble_eq_true rfl) hf q750 (fun _ h => h) dJ5_resize_17 (fun x5 hf => ?_)
    refine lv_istore_n (lv' := [(3, .int x5), (2, .int z0), (0, .ref a0), (1, va_rf lq1)]) hx hb dJ5_resize_20 rfl hl (by decide) rfl (fun ls hl => ?_)
    refine lv_iconst (v := 0) hx hb dJ5_resize_21 (by decide) ?_
    refine lv_istore (lv' := [(5, .int 0), (3, .int x5), (2, .int z0), (0, .ref a0), (1, va_rf lq1)]) hx hb dJ5_resize_22 hl (by decide) rfl (fun ls hl => ?_)
    refine lv_iload_n hx hb dJ5_resize_24 rfl (lv_at hl 2 rfl) ?_
    refine lv_if_le (tgt := 67) hx hb dJ5_resize_25 (by decide) (fun c6 => ?_) (fun c6 => ?_)
    · have hf := hf.1 c6
      refine lv_iload_n hx hb dJ5_resize_67 rfl (lv_at hl 1 rfl) ?_
      refine lv_if_le (tgt := 77) hx hb dJ5_resize_68 (by decide) (fun c7 => ?_) (fun c7 => ?_)
      · have hf := hf.1 c7
        refine lv_bipush (v := 16) hx hb dJ5_resize_77 (by decide) ?_
        refine lv_istore (lv' := [(4, .int 16), (5, .int 0), (3, .int x5), (2, .int z0), (0, .ref a0), (1, va_rf lq1)]) hx hb dJ5_resize_79 hl (by decide) rfl (fun ls hl => ?_)
        refine lv_bipush (v := 12) hx hb dJ5_resize_81 (by decide) ?_
        refine lv_istore (lv' := [(5, .int 12), (4, .int 16), (3, .int x5), (2, .int z0), (0, .ref a0), (1, va_rf lq1)]) hx hb dJ5_resize_83 hl (by decide) rfl (fun ls hl => ?_)
        exact J85 lq1 z0 (16 : Int32) (12 : Int32) mc ms G hf _ _ hm H locs hI ls (lv_sub hl [4, 5, 3, 1, 0] rfl)
      · have hf := hf.2 c7
        refine lv_iload_n hx hb dJ5_resize_71 rfl (lv_at hl 1 rfl) ?_
        refine lv_istore (lv' := [(4, .int x5), (5, .int 0), (3, .int x5), (2, .int z0), (0, .ref a0), (1, va_rf lq1)]) hx hb dJ5_resize_72 hl (by decide) rfl (fun ls hl => ?_)
        refine lv_goto (tgt := 85) hx hb dJ5_resize_74 (by decide) ?_
        exact J85 lq1 z0 x5 (0 : Int32) mc ms G hf _ _ hm H locs hI ls (lv_sub hl [4, 5, 3, 0, 1] rfl)
    · have hf := hf.2 c6
      refine lv_iload_n hx hb dJ5_resize_28 rfl (lv_at hl 2 rfl) ?_
      refine lv_ldc (v := 1073741824) hx hb hown (hts _ q952) dJ5_resize_29 ?_
      refine lv_icmp_lt (tgt := 42) hx hb dJ5_resize_31 (by decide) (fun c8 => ?_) (fun c8 => ?_)
      · have hf := hf.1 c8
        refine lv_iload_n hx hb dJ5_resize_42 rfl (lv_at hl 2 rfl) ?_
        refine lv_iconst (v := 1) hx hb dJ5_resize_43 (by decide) ?_
        refine lv_ishl hx hb dJ5_resize_44 ?_
        obtain ⟨v9, ev9⟩ : ∃ v9, v9 = (z0 <<< ((1 : Int32) &&& 31)) := ⟨_, rfl⟩
        have hf := hf v9 ev9
        rw [← ev9]
        clear ev9
        refine lv_dup hx hb dJ5_resize_45 rfl ?_
        refine lv_istore (lv' := [(4, .int v9), (5, .int 0), (3, .int x5), (2, .int z0), (0, .ref a0), (1, va_rf lq1)]) hx hb dJ5_resize_46 hl (by decide) rfl (fun ls hl => ?_)
        refine lv_ldc (v := 1073741824) hx hb hown (hts _ q952) dJ5_resize_48 ?_
        refine lv_icmp_ge (tgt := 85) hx hb dJ5_resize_50 (by decide) (fun c10 => ?_) (fun c10 => ?_)
        · have hf := hf.1 c10
          exact J85 lq1 z0 v9 (0 : Int32) mc ms G hf _ _ hm H locs hI ls (lv_sub hl [4, 5, 3, 0, 1] rfl)
        · have hf := hf.2 c10
          refine lv_iload_n hx hb dJ5_resize_53 rfl (lv_at hl 3 rfl) ?_
          refine lv_bipush (v := 16) hx hb dJ5_resize_54 (by decide) ?_
          refine lv_icmp_lt (tgt := 85) hx hb dJ5_resize_56 (by decide) (fun c11 => ?_) (fun c11 => ?_)
          · have hf := hf.1 c11
            exact J85 lq1 z0 v9 (0 : Int32) mc ms G hf _ _ hm H locs hI ls (lv_sub hl [4, 5, 3, 0, 1] rfl)
          · have hf := hf.2 c11
            refine lv_iload_n hx hb dJ5_resize_59 rfl (lv_at hl 2 rfl) ?_
            refine lv_iconst (v := 1) hx hb dJ5_resize_60 (by decide) ?_
            refine lv_ishl hx hb dJ5_resize_61 ?_
            obtain ⟨v12, ev12⟩ : ∃ v12, v12 = (x5 <<< ((1 : Int32) &&& 31)) := ⟨_, rfl⟩
            have hf := hf v12 ev12
            rw [← ev12]
            clear ev12
            refine lv_istore (lv' := [(5, .int v12), (4, .int v9), (3, .int x5), (2, .int z0), (0, .ref a0), (1, va_rf lq1)]) hx hb dJ5_resize_62 hl (by decide) rfl (fun ls hl => ?_)
            refine lv_goto (tgt := 85) hx hb dJ5_resize_64 (by decide) ?_
            exact J85 lq1 z0 v9 v12 mc ms G hf _ _ hm H locs hI ls (lv_sub hl [4, 5, 3, 1, 0] rfl)
      · have hf := hf.2 c8
        refine lv_aload_n hx hb dJ5_resize_34 rfl (lv_at hl 3 rfl) ?_
        refine lv_ldc (v := 2147483647) hx hb hown (hts _ q953) dJ5_resize_35 ?_
        refine hr_pt X hI (rfl : jC.1[16]? = some (RJ5, TJ5, 8)) in_J5 6 (Nat.le_of_ble_eq_true rfl) tyJ5 tyJ5_ok nmJ5 hf q750 (fun _ h => h) rfl rfl rfl dJ5_resize_37 (fun G13 H locs hf hI => ?_)
        refine h_aload_n (o := lq1) hx hb dJ5_resize_40 rfl (lv_at hl 4 rfl) ?_
        exact hret (v := lq1) hf hI dJ5_resize_41 (hmC hm.1) (hmC hm.2)
  have hl : lv_has ls 14 [(0, .ref a0)] := by exact hl
  unfold hJ5_resize at hf
  obtain ⟨H, eH⟩ : ∃ H, H = s.heap := ⟨_, rfl⟩
  obtain ⟨locs, eL⟩ : ∃ locs : List Loc, locs = [] := ⟨_, rfl⟩
  have hI : HI D jC G A0 s.heap H locs := by rw [eH, eL]; exact hI
  rw [← eL]
  obtain ⟨cells, eC⟩ : ∃ n : Nat, n = 0 := ⟨_, rfl⟩
  obtain ⟨slots, eS⟩ : ∃ n : Nat, n = 0 := ⟨_, rfl⟩
  have hm : cells + mc ≤ MC ∧ slots + ms ≤ MS := by rw [eC, eS]; exact hm0_
  suffices h : W p l e (rhJ5_resize fr lo MC MS) s m args below meth c H locs cells slots Q (F0 m 0 ls []) by rw [eH, eC, eS] at h; exact h
  clear eH eL eC eS
  refine lv_aload_n hx hb dJ5_resize_0 rfl (lv_at hl 0 rfl) ?_
  refine hr_gtQ X hI (rfl : jC.1[16]? = some (RJ5, TJ5, 8)) in_J5 2 (Nat.le_of_ble_eq_true rfl) hf q747 (fun _ h => h) dJ5_resize_1 (fun q1 hf => ?_)
  refine h_astore_n (o := q1) (lv' := [(1, va_rf q1), (0, .ref a0)]) hx hb dJ5_resize_4 rfl hl (by decide) rfl (fun ls hl => ?_)
  refine h_aload_n (o := q1) hx hb dJ5_resize_5 rfl (lv_at hl 0 rfl) ?_
  refine h_ifnonnull (tgt := 13) hx hb dJ5_resize_6 (by decide) (fun a3 c2 => ?_) (fun c2 => ?_)
  · have hf := hf.2 a3 c2
    revert hl hf
    subst c2
    intro hl hf
    have hl : lv_has ls 14 [(1, .ref a3), (0, .ref a0)] := hl
    refine lv_aload_n hx hb dJ5_resize_13 rfl (lv_at hl 0 rfl) ?_
    refine hr_aln X hI hf dJ5_resize_14 (fun x4 hf => ?_)
    exact J15 (some a3) x4 mc ms G hf _ _ hm H locs hI ls (lv_sub hl [1, 0] rfl)
  · have hf := hf.1 c2
    revert hl hf
    subst c2
    intro hl hf
    have hl : lv_has ls 14 [(1, va_rf none), (0, .ref a0)] := hl
    refine lv_iconst (v := 0) hx hb dJ5_resize_9 (by decide) ?_
    refine lv_goto (tgt := 15) hx hb dJ5_resize_10 (by decide) ?_
    exact J15 none (0 : Int32) mc ms G hf _ _ hm H locs hI ls (lv_sub hl [1, 0] rfl)
/-! java/util/HashMap.newNode(ILjava/lang/Object;Ljava/lang/Object;Ljava/util/HashMap$Node;)Ljava/util/HashMap$Node; -/
def hJ5_newNode (j : JX) (Λ : JLam) (a0 : Nat) (p1 : Int32) (q2_ : Option Nat) (q3_ : Option Nat) (q4_ : Option Nat) (mc ms : Nat) (G : HG) (post : Option Nat → HG → Prop) : Prop :=
  1 ≤ mc ∧ 4 ≤ ms ∧ mkO G (.inr (17, [.int 0, .null, .null, .null])) fun a1 G2 => hJ18_init j Λ a1 p1 q2_ q3_ q4_ G2 fun G3 => post (some a1) G3
abbrev rhJ5_newNode (fr lo mc ms : Nat) : Room := { frames := fr + 2, cells := mc, slots := ms, locals := lo + 64 }
theorem mhJ5_newNode (l : Launch) (Z : (Nat → Prop) → State → Heap → Prop) (D : va_G) (j : JX) (Λ : JLam) (fr lo : Nat) (E : JE l Z D j Λ fr lo) (a0 : Nat) (p1 : Int32) (q2_ : Option Nat) (q3_ : Option Nat) (q4_ : Option Nat) (mc ms : Nat) (G : HG) (post : Option Nat → HG → Prop) (hf : hJ5_newNode j Λ a0 p1 q2_ q3_ q4_ mc ms G post) : HMq l yJ5_newNode (ws_ yJ5_newNode cJ5_newNode 5 (some (.object "java/util/HashMap$Node"))) (rhJ5_newNode fr lo mc ms) D jC (jty j.1) Z G [.ref a0, .int p1, va_rf q2_, va_rf q3_, va_rf q4_] post mc ms := by
  obtain ⟨MC, eMC⟩ : ∃ MC, MC = mc := ⟨_, rfl⟩
  obtain ⟨MS, eMS⟩ : ∃ MS, MS = ms := ⟨_, rfl⟩
  suffices goal : HMq l yJ5_newNode (ws_ yJ5_newNode cJ5_newNode 5 (some (.object "java/util/HashMap$Node"))) (rhJ5_newNode fr lo MC MS) D jC (jty j.1) Z G [.ref a0, .int p1, va_rf q2_, va_rf q3_, va_rf q4_] post MC MS by rw [eMC, eMS] at goal; exact goal
  have hm0_ : 0 + mc ≤ MC ∧ 0 + ms ≤ MS := by omega
  clear eMC eMS
  refine h_openq (Or.inl ⟨_, rfl⟩) E.1 (by decide) (by cases q2_ <;> cases q3_ <;> cases q4_ <;> exact Nat.le_of_ble_eq_true rfl) (fun p e s m args below meth c ls A0 Q X hI hnd hnm hl hret => ?_)
  have X : XC p s m args meth c cJ5_newNode 5 RJ5 D jC (jty j.1) A0 Z := X
  have hx := X.1
  have hb := X.2.1
  have hown := X.2.2.2.1
  have hts := X.2.2.2.2.1
  have hl : lv_has ls 5 [(0, .ref a0), (1, .int p1), (2, va_rf q2_), (3, va_rf q3_), (4, va_rf q4_)] := by cases q2_ <;> cases q3_ <;> cases q4_ <;> exact hl
  unfold hJ5_newNode at hf
  obtain ⟨H, eH⟩ : ∃ H, H = s.heap := ⟨_, rfl⟩
  obtain ⟨locs, eL⟩ : ∃ locs : List Loc, locs = [] := ⟨_, rfl⟩
  have hI : HI D jC G A0 s.heap H locs := by rw [eH, eL]; exact hI
  rw [← eL]
  obtain ⟨cells, eC⟩ : ∃ n : Nat, n = 0 := ⟨_, rfl⟩
  obtain ⟨slots, eS⟩ : ∃ n : Nat, n = 0 := ⟨_, rfl⟩
  have hm : cells + mc ≤ MC ∧ slots + ms ≤ MS := by rw [eC, eS]; exact hm0_
  suffices h : W p l e (rhJ5_newNode fr lo MC MS) s m args below meth c H locs cells slots Q (F0 m 0 ls []) by rw [eH, eC, eS] at h; exact h
  clear eH eL eC eS
  obtain ⟨hb1, hb2, hf⟩ := hf
  refine hr_new X hI (rfl : jC.1[17]? = some (RJ18, TJ18, 4)) in_J18 tyJ18 tyJ18_ok hf q955 q971 q195 (by decide) (hmA hm.1 hb1) (hmA hm.2 hb2) dJ5_newNode_0 (fun a1 G2 H hf hI => ?_)
  have hm := And.intro (hmB hm.1 hb1) (hmB hm.2 hb2)
  clear hb1 hb2
  refine lv_dup hx hb dJ5_newNode_3 rfl ?_
  refine lv_iload_n hx hb dJ5_newNode_4 rfl (lv_at hl 1 rfl) ?_
  refine h_aload_n (o := q2_) hx hb dJ5_newNode_5 rfl (lv_at hl 2 rfl) ?_
  refine h_aload_n (o := q3_) hx hb dJ5_newNode_6 rfl (lv_at hl 3 rfl) ?_
  refine h_aload (o := q4_) hx hb dJ5_newNode_7 (lv_at hl 4 rfl) ?_
  refine h_kv X hI (h_runI (As := [.int p1, va_rf q2_, va_rf q3_, va_rf q4_]) X hI (mhJ18_init l Z D j Λ fr lo E a1 p1 q2_ q3_ q4_ G2 _ hf H.size) (cwIn 4 hts q972 q973 q195 q974 rfl rfl rfl (by decide +kernel) (by show fr + 1 + 1 ≤ fr + 2 ∧ 8 + (5 + 11) + (lo + 40) ≤ lo + 64; omega)) rfl hl.1 (Nat.le_of_ble_eq_true rfl) dJ5_newNode_9 ⟨hm0 hm.1, hm0 hm.2⟩ rfl) (fun G3 H locs hf hI => ?_)
  exact hret (v := (some a1)) hf hI dJ5_newNode_12 (hmC hm.1) (hmC hm.2)
/-! java/util/HashMap.replacementTreeNode(Ljava/util/HashMap$Node;Ljava/util/HashMap$Node;)Ljava/util/HashMap$TreeNode; -/
def hJ5_replacementTreeNode (j : JX) (Λ : JLam) (a0 : Nat) (q1_ : Option Nat) (q2_ : Option Nat) (mc ms : Nat) (G : HG) (post : Option Nat → HG → Prop) : Prop :=
  1 ≤ mc ∧ 11 ≤ ms ∧ mkO G (.inr (18, [.null, .null, .int 0, .null, .null, .null, .null, .null, .null, .null, .int 0])) fun a1 G2 => nnq q1_ fun a3 => g2I G2 a3 0 fun x4 => g2Q G2 a3 1 fun q5 => g2Q G2 a3 2 fun q6 => hJ23_init j Λ a1 x4 q5 q6 q2_ G2 fun G7 => post (some a1) G7
abbrev rhJ5_replacementTreeNode (fr lo mc ms : Nat) : Room := { frames := fr + 4, cells := mc, slots := ms, locals := lo + 112 }
theorem mhJ5_replacementTreeNode (l : Launch) (Z : (Nat → Prop) → State → Heap → Prop) (D : va_G) (j : JX) (Λ : JLam) (fr lo : Nat) (E : JE l Z D j Λ fr lo) (a0 : Nat) (q1_ : Option Nat) (q2_ : Option Nat) (mc ms : Nat) (G : HG) (post : Option Nat → HG → Prop) (hf : hJ5_replacementTreeNode j Λ a0 q1_ q2_ mc ms G post) : HMq l yJ5_replacementTreeNode (ws_ yJ5_replacementTreeNode cJ5_replacementTreeNode 3 (some (.object "java/util/HashMap$TreeNode"))) (rhJ5_replacementTreeNode fr lo mc ms) D jC (jty j.1) Z G [.ref a0, va_rf q1_, va_rf q2_] post mc ms := by
  obtain ⟨MC, eMC⟩ : ∃ MC, MC = mc := ⟨_, rfl⟩
  obtain ⟨MS, eMS⟩ : ∃ MS, MS = ms := ⟨_, rfl⟩
  suffices goal : HMq l yJ5_replacementTreeNode (ws_ yJ5_replacementTreeNode cJ5_replacementTreeNode 3 (some (.object "java/util/HashMap$TreeNode"))) (rhJ5_replacementTreeNode fr lo MC MS) D jC (jty j.1) Z G [.ref a0, va_rf q1_, va_rf q2_] post MC MS by rw [eMC, eMS] at goal; exact goal
  have hm0_ : 0 + mc ≤ MC ∧ 0 + ms ≤ MS := by omega
  clear eMC eMS
  refine h_openq (Or.inl ⟨_, rfl⟩) E.1 (by decide) (by cases q1_ <;> cases q2_ <;> exact Nat.le_of_ble_eq_true rfl) (fun p e s m args below meth c ls A0 Q X hI hnd hnm hl hret => ?_)
  have X : XC p s m args meth c cJ5_replacementTreeNode 3 RJ5 D jC (jty j.1) A0 Z := X
  have hx := X.1
  have hb := X.2.1
  have hown := X.2.2.2.1
  have hts := X.2.2.2.2.1
  have hl : lv_has ls 3 [(0, .ref a0), (1, va_rf q1_), (2, va_rf q2_)] := by cases q1_ <;> cases q2_ <;> exact hl
  unfold hJ5_replacementTreeNode at hf
  obtain ⟨H, eH⟩ : ∃ H, H = s.heap := ⟨_, rfl⟩
  obtain ⟨locs, eL⟩ : ∃ locs : List Loc, locs = [] := ⟨_, rfl⟩
  have hI : HI D jC G A0 s.heap H locs := by rw [eH, eL]; exact hI
  rw [← eL]
  obtain ⟨cells, eC⟩ : ∃ n : Nat, n = 0 := ⟨_, rfl⟩
  obtain ⟨slots, eS⟩ : ∃ n : Nat, n = 0 := ⟨_, rfl⟩
  have hm : cells + mc ≤ MC ∧ slots + ms ≤ MS := by rw [eC, eS]; exact hm0_
  suffices h : W p l e (rhJ5_replacementTreeNode fr lo MC MS) s m args below meth c H locs cells slots Q (F0 m 0 ls []) by rw [eH, eC, eS] at h; exact h
  clear eH eL eC eS
  obtain ⟨hb1, hb2, hf⟩ := hf
  refine hr_new X hI (rfl : jC.1[18]? = some (RJ23, TJ23, 11)) in_J23 tyJ23 tyJ23_ok hf q957 q1336 q201 (by decide) (hmA hm.1 hb1) (hmA hm.2 hb2) dJ5_replacementTreeNode_0 (fun a1 G2 H hf hI => ?_)
  have hm := And.intro (hmB hm.1 hb1) (hmB hm.2 hb2)
  clear hb1 hb2
  refine lv_dup hx hb dJ5_replacementTreeNode_3 rfl ?_
  refine h_aload_n (o := q1_) hx hb dJ5_replacementTreeNode_4 rfl (lv_at hl 1 rfl) ?_
  obtain ⟨a3, ea3, hf⟩ := hf
  revert hl hf
  subst ea3
  intro hl hf
  have hl : lv_has ls 3 [(0, .ref a0), (1, .ref a3), (2, va_rf q2_)] := hl
  refine hr_g2I X hI 0 (Nat.le_of_ble_eq_true rfl) hf rfl q979 (fun _ h => h) dJ5_replacementTreeNode_5 (fun x4 hf => ?_)
  refine lv_aload_n hx hb dJ5_replacementTreeNode_8 rfl (lv_at hl 1 rfl) ?_
  refine hr_g2Q X hI 1 (Nat.le_of_ble_eq_true rfl) hf rfl q983 (fun _ h => h) dJ5_replacementTreeNode_9 (fun q5 hf => ?_)
  refine lv_aload_n hx hb dJ5_replacementTreeNode_12 rfl (lv_at hl 1 rfl) ?_
  refine hr_g2Q X hI 2 (Nat.le_of_ble_eq_true rfl) hf rfl q985 (fun _ h => h) dJ5_replacementTreeNode_13 (fun q6 hf => ?_)
  refine h_aload_n (o := q2_) hx hb dJ5_replacementTreeNode_16 rfl (lv_at hl 2 rfl) ?_
  refine h_kv X hI (h_runI (As := [.int x4, va_rf q5, va_rf q6, va_rf q2_]) X hI (mhJ23_init l Z D j Λ fr lo E a1 x4 q5 q6 q2_ G2 _ hf H.size) (cwIn 4 hts q1337 q1338 q201 q1339 rfl rfl rfl (by decide +kernel) (by show fr + 3 + 1 ≤ fr + 4 ∧ 8 + (5 + 11) + (lo + 88) ≤ lo + 112; omega)) rfl hl.1 (Nat.le_of_ble_eq_true rfl) dJ5_replacementTreeNode_17 ⟨hm0 hm.1, hm0 hm.2⟩ rfl) (fun G7 H locs hf hI => ?_)
  exact hret (v := (some a1)) hf hI dJ5_replacementTreeNode_20 (hmC hm.1) (hmC hm.2)
/-! java/util/HashMap.treeifyBin([Ljava/util/HashMap$Node;I)V -/
def hJ5_treeifyBin_b13 (j : JX) (Λ : JLam) (a0 : Nat) (p2 : Int32) (post : HG → Prop) (mc ms : Nat) (G : HG) : Prop :=
  isO G a0 16 (∃ m8 m9 : Nat, m8 ≤ mc ∧ m9 ≤ ms ∧ hJ5_resize j Λ a0 m8 m9 G fun q11 G10 => post G10)
def hJ5_treeifyBin_b78 (j : JX) (Λ : JLam) (a0 : Nat) (p2 : Int32) (post : HG → Prop) (K43 : Nat → Int32 → Nat → Option Nat → Option Nat → Nat → Nat → HG → Prop) (la1 : Nat) (lx4 : Int32) (la5 : Nat) (lq6 : Option Nat) (lq8 : Option Nat) (mc ms : Nat) (G : HG) : Prop :=
  g2Q G la5 3 fun q21 => (q21 = none → (stQ jOk (jty j.1) G la1 lx4 lq6 fun G24 => (lq6 = none → (post G24)) ∧ (∀ a26, lq6 = some a26 → (isO G24 a26 18 (hJ23_treeify j Λ a26 (some la1) G24 fun G27 => post G27))))) ∧ (∀ a23, q21 = some a23 → (K43 la1 lx4 a23 lq6 lq8 mc ms G))
def hJ5_treeifyBin_b43 (j : JX) (Λ : JLam) (a0 : Nat) (p2 : Int32) (post : HG → Prop) (K43 : Nat → Int32 → Nat → Option Nat → Option Nat → Nat → Nat → HG → Prop) (la1 : Nat) (lx4 : Int32) (la5 : Nat) (lq6 : Option Nat) (lq7 : Option Nat) (mc ms : Nat) (G : HG) : Prop :=
  isO G a0 16 (∃ m12 m13 : Nat, m12 ≤ mc ∧ m13 ≤ ms ∧ hJ5_replacementTreeNode j Λ a0 (some la5) none m12 m13 G fun q15 G14 => (lq7 = none → (hJ5_treeifyBin_b78 j Λ a0 p2 post K43 la1 lx4 la5 q15 q15 (mc - m12) (ms - m13) G14)) ∧ (∀ a17, lq7 = some a17 → (nnq q15 fun a18 => ptV G14 a18 18 9 (.ref a17) fun G19 => ptV G19 a17 18 5 (.ref a18) fun G20 => hJ5_treeifyBin_b78 j Λ a0 p2 post K43 la1 lx4 la5 lq6 (some a18) (mc - m12) (ms - m13) G20)))
def hJ5_treeifyBin_l43 (j : JX) (Λ : JLam) (a0 : Nat) (p2 : Int32) (post : HG → Prop) : Nat → Nat → Int32 → Nat → Option Nat → Option Nat → Nat → Nat → HG → Prop
  | 0 => fun _ _ _ _ _ _ _ _ => False
  | n + 1 => fun la1 lx4 la5 lq6 lq7 mc ms G => hJ5_treeifyBin_b43 j Λ a0 p2 post (hJ5_treeifyBin_l43 j Λ a0 p2 post n) la1 lx4 la5 lq6 lq7 mc ms G
def hJ5_treeifyBin (j : JX) (Λ : JLam) (a0 : Nat) (q1_ : Option Nat) (p2 : Int32) (mc ms : Nat) (G : HG) (post : HG → Prop) : Prop :=
  (q1_ = none → (hJ5_treeifyBin_b13 j Λ a0 p2 post mc ms G)) ∧ (∀ a2, q1_ = some a2 → (aln (jty j.1) G a2 fun x3 => ((64 : Int32) ≤ x3 → (ldQ (jty j.1) G a2 ((x3 - 1) &&& p2) fun q5 => (q5 = none → (post G)) ∧ (∀ a7, q5 = some a7 → (∃ n, hJ5_treeifyBin_l43 j Λ a0 p2 post n a2 ((x3 - 1) &&& p2) a7 none none mc ms G)))) ∧ (¬ (64 : Int32) ≤ x3 → (hJ5_treeifyBin_b13 j Λ a0 p2 post mc ms G))))
abbrev rhJ5_treeifyBin (fr lo mc ms : Nat) : Room := { frames := fr + 6, cells := mc, slots := ms, locals := lo + 187 }
theorem mhJ5_treeifyBin (l : Launch) (Z : (Nat → Prop) → State → Heap → Prop) (D : va_G) (j : JX) (Λ : JLam) (fr lo : Nat) (E : JE l Z D j Λ fr lo) (a0 : Nat) (q1_ : Option Nat) (p2 : Int32) (mc ms : Nat) (G : HG) (post : HG → Prop) (hf : hJ5_treeifyBin j Λ a0 q1_ p2 mc ms G post) : HMv l yJ5_treeifyBin (ws_ yJ5_treeifyBin cJ5_treeifyBin 9 none) (rhJ5_treeifyBin fr lo mc ms) D jC (jty j.1) Z G [.ref a0, va_rf q1_, .int p2] post mc ms := by
  obtain ⟨MC, eMC⟩ : ∃ MC, MC = mc := ⟨_, rfl⟩
  obtain ⟨MS, eMS⟩ : ∃ MS, MS = ms := ⟨_, rfl⟩
  suffices goal : HMv l yJ5_treeifyBin (ws_ yJ5_treeifyBin cJ5_treeifyBin 9 none) (rhJ5_treeifyBin fr lo MC MS) D jC (jty j.1) Z G [.ref a0, va_rf q1_, .int p2] post MC MS by rw [eMC, eMS] at goal; exact goal
  have hm0_ : 0 + mc ≤ MC ∧ 0 + ms ≤ MS := by omega
  clear eMC eMS
  refine h_openv E.1 (by decide) (by cases q1_ <;> exact Nat.le_of_ble_eq_true rfl) (fun p e s m args below meth c ls A0 Q X hI hnd hnm hl hret => ?_)
  have X : XC p s m args meth c cJ5_treeifyBin 9 RJ5 D jC (jty j.1) A0 Z := X
  have hx := X.1
  have hb := X.2.1
  have hown := X.2.2.2.1
  have hts := X.2.2.2.2.1
  have J13 : ∀ (mc ms : Nat) (G : HG), hJ5_treeifyBin_b13 j Λ a0 p2 post mc ms G → ∀ (cells slots : Nat), cells + mc ≤ MC ∧ slots + ms ≤ MS → ∀ (H : Heap) (locs : List Loc), HI D jC G A0 s.heap H locs → ∀ (ls : Array Slot), lv_has ls 9 [(0, .ref a0)] → W p l e (rhJ5_treeifyBin fr lo MC MS) s m args below meth c H locs cells slots Q (F0 m 13 ls []) := by
    intro mc ms G hf cells slots hm H locs hI ls hl
    unfold hJ5_treeifyBin_b13 at hf
    refine lv_aload_n hx hb dJ5_treeifyBin_13 rfl (lv_at hl 0 rfl) ?_
    obtain ⟨_, _, hO, hf⟩ := hf
    obtain ⟨m8, m9, hb1, hb2, hf⟩ := hf
    refine h_kq X hI (h_runV (As := []) X hI (h_recv X hI hO (show jC.1[16]? = some (RJ5, TJ5, 8) from rfl)) (mhJ5_resize l Z D j Λ fr lo E a0 m8 m9 G _ hf H.size) (cwV 0 hts (lw_V q948 q949 q950 q181 q951) rfl rfl rfl (by decide +kernel) (by show fr + 5 + 1 ≤ fr + 6 ∧ 8 + (14 + 11) + (lo + 154) ≤ lo + 187; omega)) rfl hl.1 (Nat.le_of_ble_eq_true rfl) dJ5_treeifyBin_14 ⟨hmA hm.1 hb1, hmA hm.2 hb2⟩ rfl) (fun q11 G10 H locs hf hI => ?_)
    have hm := And.intro (hmB hm.1 hb1) (hmB hm.2 hb2)
    clear hb1 hb2
    clear hO
    refine lv_pop hx hb dJ5_treeifyBin_17 (h_catq _) ?_
    refine lv_goto (tgt := 109) hx hb dJ5_treeifyBin_18 (by decide) ?_
    exact hret hf hI dJ5_treeifyBin_109 (hmC hm.1) (hmC hm.2)
  have L43 : ∀ (n : Nat) (la1 : Nat) (lx4 : Int32) (la5 : Nat) (lq6 : Option Nat) (lq7 : Option Nat) (mc ms : Nat) (G : HG), hJ5_treeifyBin_l43 j Λ a0 p2 post n la1 lx4 la5 lq6 lq7 mc ms G → ∀ (cells slots : Nat), cells + mc ≤ MC ∧ slots + ms ≤ MS → ∀ (H : Heap) (locs : List Loc), HI D jC G A0 s.heap H locs → ∀ (ls : Array Slot), lv_has ls 9 [(0, .ref a0), (1, .ref la1), (4, .int lx4), (5, .ref la5), (6, va_rf lq6), (7, va_rf lq7)] → W p l e (rhJ5_treeifyBin fr lo MC MS) s m args below meth c H locs cells slots Q (F0 m 43 ls []) := by
    intro n43
    induction n43 with
    | zero => intro la1 lx4 la5 lq6 lq7 mc ms G hf; exact hf.elim
    | succ n43 ih43 =>
      have J78 : ∀ (la1 : Nat) (lx4 : Int32) (la5 : Nat) (lq6 : Option Nat) (lq8 : Option Nat) (mc ms : Nat) (G : HG), hJ5_treeifyBin_b78 j Λ a0 p2 post (hJ5_treeifyBin_l43 j Λ a0 p2 post n43) la1 lx4 la5 lq6 lq8 mc ms G → ∀ (cells slots : Nat), cells + mc ≤ MC ∧ slots + ms ≤ MS → ∀ (H : Heap) (locs : List Loc), HI D jC G A0 s.heap H locs → ∀ (ls : Array Slot), lv_has ls 9 [(0, .ref a0), (1, .ref la1), (4, .int lx4), (5, .ref la5), (6, va_rf lq6), (8, va_rf lq8)] → W p l e (rhJ5_treeifyBin fr lo MC MS) s m args below meth c H locs cells slots Q (F0 m 78 ls []) := by
        intro la1 lx4 la5 lq6 lq8 mc ms G hf cells slots hm H locs hI ls hl
        unfold hJ5_treeifyBin_b78 at hf
        refine h_aload (o := lq8) hx hb dJ5_treeifyBin_78 (lv_at hl 5 rfl) ?_
        refine h_astore (o := lq8) (lv' := [(7, va_rf lq8), (0, .ref a0), (1, .ref la1), (4, .int lx4), (5, .ref la5), (6, va_rf lq6), (8, va_rf lq8)]) hx hb dJ5_treeifyBin_80 hl (by decide) (by cases lq6 <;> rfl) (fun ls hl => ?_)
        refine lv_aload hx hb dJ5_treeifyBin_82 (lv_at hl 4 rfl) ?_
        refine hr_g2Q X hI 3 (Nat.le_of_ble_eq_true rfl) hf rfl q990 (fun _ h => h) dJ5_treeifyBin_84 (fun q21 hf => ?_)
        refine lv_dup hx hb dJ5_treeifyBin_87 (h_catq _) ?_
        refine h_astore (o := q21) (lv' := [(5, va_rf q21), (7, va_rf lq8), (0, .ref a0), (1, .ref la1), (4, .int lx4), (6, va_rf lq6), (8, va_rf lq8)]) hx hb dJ5_treeifyBin_88 hl (by decide) rfl (fun ls hl => ?_)
        refine h_ifnonnull (tgt := 43) hx hb dJ5_treeifyBin_90 (by decide) (fun a23 c22 => ?_) (fun c22 => ?_)
        · have hf := hf.2 a23 c22
          revert hl hf
          subst c22
          intro hl hf
          have hl : lv_has ls 9 [(5, .ref a23), (7, va_rf lq8), (0, .ref a0), (1, .ref la1), (4, .int lx4), (6, va_rf lq6), (8, va_rf lq8)] := hl
          exact ih43 la1 lx4 a23 lq6 lq8 mc ms G hf _ _ hm H locs hI ls (lv_sub hl [2, 3, 4, 0, 5, 1] rfl)
        · have hf := hf.1 c22
          revert hl hf
          subst c22
          intro hl hf
          have hl : lv_has ls 9 [(5, va_rf none), (7, va_rf lq8), (0, .ref a0), (1, .ref la1), (4, .int lx4), (6, va_rf lq6), (8, va_rf lq8)] := hl
          refine lv_aload_n hx hb dJ5_treeifyBin_93 rfl (lv_at hl 3 rfl) ?_
          refine lv_iload hx hb dJ5_treeifyBin_94 (lv_at hl 4 rfl) ?_
          refine h_aload (o := lq6) hx hb dJ5_treeifyBin_96 (lv_at hl 5 rfl) ?_
          refine lv_dup_x2 hx hb dJ5_treeifyBin_98 (h_catq _) rfl rfl ?_
          refine hr_qst (v := lq6) X hI (jOk_asg (E.w X)) hf dJ5_treeifyBin_99 (fun G24 H locs hf hI => ?_)
          refine h_ifnull (tgt := 109) hx hb dJ5_treeifyBin_100 (by decide) (fun c25 => ?_) (fun a26 c25 => ?_)
          · have hf := hf.1 c25
            revert hl hf
            subst c25
            intro hl hf
            have hl : lv_has ls 9 [(5, va_rf none), (7, va_rf lq8), (0, .ref a0), (1, .ref la1), (4, .int lx4), (6, va_rf none), (8, va_rf lq8)] := hl
            exact hret hf hI dJ5_treeifyBin_109 (hmC hm.1) (hmC hm.2)
          · have hf := hf.2 a26 c25
            revert hl hf
            subst c25
            intro hl hf
            have hl : lv_has ls 9 [(5, va_rf none), (7, va_rf lq8), (0, .ref a0), (1, .ref la1), (4, .int lx4), (6, .ref a26), (8, va_rf lq8)] := hl
            refine lv_aload hx hb dJ5_treeifyBin_103 (lv_at hl 5 rfl) ?_
            refine lv_aload_n hx hb dJ5_treeifyBin_105 rfl (lv_at hl 3 rfl) ?_
            obtain ⟨_, _, hO, hf⟩ := hf
            refine h_kv X hI (h_runV (As := [va_rf (some la1)]) X hI (h_recv X hI hO (show jC.1[18]? = some (RJ23, TJ23, 11) from rfl)) (mhJ23_treeify l Z D j Λ fr lo E a26 (some la1) G24 _ hf H.size) (cwV 1 hts (lw_V q1377 q1002 q1003 q201 q1004) rfl rfl rfl (by decide +kernel) (by show fr + 3 + 1 ≤ fr + 6 ∧ 8 + (13 + 11) + (lo + 89) ≤ lo + 187; omega)) rfl hl.1 (Nat.le_of_ble_eq_true rfl) dJ5_treeifyBin_106 ⟨hm0 hm.1, hm0 hm.2⟩ rfl) (fun G27 H locs hf hI => ?_)
            clear hO
            exact hret hf hI dJ5_treeifyBin_109 (hmC hm.1) (hmC hm.2)
      intro la1 lx4 la5 lq6 lq7 mc ms G hf cells slots hm H locs hI ls hl
      have hf : hJ5_treeifyBin_b43 j Λ a0 p2 post (hJ5_treeifyBin_l43 j Λ a0 p2 post n43) la1 lx4 la5 lq6 lq7 mc ms G := hf
      unfold hJ5_treeifyBin_b43 at hf
      refine lv_aload_n hx hb dJ5_treeifyBin_43 rfl (lv_at hl 0 rfl) ?_
      refine lv_aload hx hb dJ5_treeifyBin_44 (lv_at hl 3 rfl) ?_
      refine lv_null hx hb dJ5_treeifyBin_46 ?_
      obtain ⟨_, _, hO, hf⟩ := hf
      obtain ⟨m12, m13, hb1, hb2, hf⟩ := hf
      refine h_kq X hI (h_runV (As := [va_rf (some la5), va_rf none]) X hI (h_recv X hI hO (show jC.1[16]? = some (RJ5, TJ5, 8) from rfl)) (mhJ5_replacementTreeNode l Z D j Λ fr lo E a0 (some la5) none m12 m13 G _ hf H.size) (cwV 2 hts (lw_V q1373 q1374 q1375 q181 q1376) rfl rfl rfl (by decide +kernel) (by show fr + 4 + 1 ≤ fr + 6 ∧ 8 + (3 + 11) + (lo + 112) ≤ lo + 187; omega)) rfl hl.1 (Nat.le_of_ble_eq_true rfl) dJ5_treeifyBin_47 ⟨hmA hm.1 hb1, hmA hm.2 hb2⟩ rfl) (fun q15 G14 H locs hf hI => ?_)
      have hm := And.intro (hmB hm.1 hb1) (hmB hm.2 hb2)
      clear hb1 hb2
      clear hO
      refine h_astore (o := q15) (lv' := [(8, va_rf q15), (0, .ref a0), (1, .ref la1), (4, .int lx4), (5, .ref la5), (6, va_rf lq6), (7, va_rf lq7)]) hx hb dJ5_treeifyBin_50 hl (by decide) (by cases lq7 <;> rfl) (fun ls hl => ?_)
      refine h_aload (o := lq7) hx hb dJ5_treeifyBin_52 (lv_at hl 6 rfl) ?_
      refine h_ifnonnull (tgt := 64) hx hb dJ5_treeifyBin_54 (by decide) (fun a17 c16 => ?_) (fun c16 => ?_)
      · have hf := hf.2 a17 c16
        revert hl hf
        subst c16
        intro hl hf
        have hl : lv_has ls 9 [(8, va_rf q15), (0, .ref a0), (1, .ref la1), (4, .int lx4), (5, .ref la5), (6, va_rf lq6), (7, .ref a17)] := hl
        refine h_aload (o := q15) hx hb dJ5_treeifyBin_64 (lv_at hl 0 rfl) ?_
        refine lv_aload hx hb dJ5_treeifyBin_66 (lv_at hl 6 rfl) ?_
        obtain ⟨a18, ea18, hf⟩ := hf
        revert hl hf
        subst ea18
        intro hl hf
        have hl : lv_has ls 9 [(8, .ref a18), (0, .ref a0), (1, .ref la1), (4, .int lx4), (5, .ref la5), (6, va_rf lq6), (7, .ref a17)] := hl
        refine hr_pt X hI (rfl : jC.1[18]? = some (RJ23, TJ23, 11)) in_J23 9 (Nat.le_of_ble_eq_true rfl) tyJ23 tyJ23_ok nmJ23 hf q1348 (fun _ h => h) rfl rfl rfl dJ5_treeifyBin_68 (fun G19 H locs hf hI => ?_)
        refine lv_aload hx hb dJ5_treeifyBin_71 (lv_at hl 6 rfl) ?_
        refine lv_aload hx hb dJ5_treeifyBin_73 (lv_at hl 0 rfl) ?_
        refine hr_pt X hI (rfl : jC.1[18]? = some (RJ23, TJ23, 11)) in_J23 5 (Nat.le_of_ble_eq_true rfl) tyJ23 tyJ23_ok nmJ23 hf q991 (hsame_of (hts _ q988)) rfl rfl rfl dJ5_treeifyBin_75 (fun G20 H locs hf hI => ?_)
        exact J78 la1 lx4 la5 lq6 (some a18) (mc - m12) (ms - m13) G20 hf _ _ hm H locs hI ls (lv_sub hl [1, 2, 3, 4, 5, 0] rfl)
      · have hf := hf.1 c16
        revert hl hf
        subst c16
        intro hl hf
        have hl : lv_has ls 9 [(8, va_rf q15), (0, .ref a0), (1, .ref la1), (4, .int lx4), (5, .ref la5), (6, va_rf lq6), (7, va_rf none)] := hl
        refine h_aload (o := q15) hx hb dJ5_treeifyBin_57 (lv_at hl 0 rfl) ?_
        refine h_astore (o := q15) (lv' := [(6, va_rf q15), (8, va_rf q15), (0, .ref a0), (1, .ref la1), (4, .int lx4), (5, .ref la5), (7, va_rf none)]) hx hb dJ5_treeifyBin_59 hl (by decide) rfl (fun ls hl => ?_)
        refine lv_goto (tgt := 78) hx hb dJ5_treeifyBin_61 (by decide) ?_
        exact J78 la1 lx4 la5 q15 q15 (mc - m12) (ms - m13) G14 hf _ _ hm H locs hI ls (lv_sub hl [2, 3, 4, 5, 0, 1] rfl)
  have hl : lv_has ls 9 [(0, .ref a0), (1, va_rf q1_), (2, .int p2)] := by cases q1_ <;> exact hl
  unfold hJ5_treeifyBin at hf
  obtain ⟨H, eH⟩ : ∃ H, H = s.heap := ⟨_, rfl⟩
  obtain ⟨locs, eL⟩ : ∃ locs : List Loc, locs = [] := ⟨_, rfl⟩
  have hI : HI D jC G A0 s.heap H locs := by rw [eH, eL]; exact hI
  rw [← eL]
  obtain ⟨cells, eC⟩ : ∃ n : Nat, n = 0 := ⟨_, rfl⟩
  obtain ⟨slots, eS⟩ : ∃ n : Nat, n = 0 := ⟨_, rfl⟩
  have hm : cells + mc ≤ MC ∧ slots + ms ≤ MS := by rw [eC, eS]; exact hm0_
  suffices h : W p l e (rhJ5_treeifyBin fr lo MC MS) s m args below meth c H locs cells slots Q (F0 m 0 ls []) by rw [eH, eC, eS] at h; exact h
  clear eH eL eC eS
  refine h_aload_n (o := q1_) hx hb dJ5_treeifyBin_0 rfl (lv_at hl 1 rfl) ?_
  refine h_ifnull (tgt := 13) hx hb dJ5_treeifyBin_1 (by decide) (fun c1 => ?_) (fun a2 c1 => ?_)
  · have hf := hf.1 c1
    revert hl hf
    subst c1
    intro hl hf
    have hl : lv_has ls 9 [(0, .ref a0), (1, va_rf none), (2, .int p2)] := hl
    exact J13 mc ms G hf _ _ hm H locs hI ls (lv_sub hl [0] rfl)
  · have hf := hf.2 a2 c1
    revert hl hf
    subst c1
    intro hl hf
    have hl : lv_has ls 9 [(0, .ref a0), (1, .ref a2), (2, .int p2)] := hl
    refine lv_aload_n hx hb dJ5_treeifyBin_4 rfl (lv_at hl 1 rfl) ?_
    refine hr_aln X hI hf dJ5_treeifyBin_5 (fun x3 hf => ?_)
    refine lv_dup hx hb dJ5_treeifyBin_6 rfl ?_
    refine lv_istore_n (lv' := [(3, .int x3), (0, .ref a0), (1, .ref a2), (2, .int p2)]) hx hb dJ5_treeifyBin_7 rfl hl (by decide) rfl (fun ls hl => ?_)
    refine lv_bipush (v := 64) hx hb dJ5_treeifyBin_8 (by decide) ?_
    refine lv_icmp_ge (tgt := 21) hx hb dJ5_treeifyBin_10 (by decide) (fun c4 => ?_) (fun c4 => ?_)
    · have hf := hf.1 c4
      refine lv_aload_n hx hb dJ5_treeifyBin_21 rfl (lv_at hl 2 rfl) ?_
      refine lv_iload_n hx hb dJ5_treeifyBin_22 rfl (lv_at hl 0 rfl) ?_
      refine lv_iconst (v := 1) hx hb dJ5_treeifyBin_23 (by decide) ?_
      refine lv_isub hx hb dJ5_treeifyBin_24 ?_
      refine lv_iload_n hx hb dJ5_treeifyBin_25 rfl (lv_at hl 3 rfl) ?_
      refine lv_iand hx hb dJ5_treeifyBin_26 ?_
      refine lv_dup hx hb dJ5_treeifyBin_27 rfl ?_
      refine lv_istore (lv' := [(4, .int ((x3 - 1) &&& p2)), (3, .int x3), (0, .ref a0), (1, .ref a2), (2, .int p2)]) hx hb dJ5_treeifyBin_28 hl (by decide) rfl (fun ls hl => ?_)
      refine hr_qld X hI hf dJ5_treeifyBin_30 (fun q5 hf => ?_)
      refine lv_dup hx hb dJ5_treeifyBin_31 (h_catq _) ?_
      refine h_astore (o := q5) (lv' := [(5, va_rf q5), (4, .int ((x3 - 1) &&& p2)), (3, .int x3), (0, .ref a0), (1, .ref a2), (2, .int p2)]) hx hb dJ5_treeifyBin_32 hl (by decide) rfl (fun ls hl => ?_)
      refine h_ifnull (tgt := 109) hx hb dJ5_treeifyBin_34 (by decide) (fun c6 => ?_) (fun a7 c6 => ?_)
      · have hf := hf.1 c6
        revert hl hf
        subst c6
        intro hl hf
        have hl : lv_has ls 9 [(5, va_rf none), (4, .int ((x3 - 1) &&& p2)), (3, .int x3), (0, .ref a0), (1, .ref a2), (2, .int p2)] := hl
        exact hret hf hI dJ5_treeifyBin_109 (hmC hm.1) (hmC hm.2)
      · have hf := hf.2 a7 c6
        revert hl hf
        subst c6
        intro hl hf
        have hl : lv_has ls 9 [(5, .ref a7), (4, .int ((x3 - 1) &&& p2)), (3, .int x3), (0, .ref a0), (1, .ref a2), (2, .int p2)] := hl
        refine lv_null hx hb dJ5_treeifyBin_37 ?_
        refine h_astore (o := none) (lv' := [(6, va_rf none), (5, .ref a7), (4, .int ((x3 - 1) &&& p2)), (3, .int x3), (0, .ref a0), (1, .ref a2), (2, .int p2)]) hx hb dJ5_treeifyBin_38 hl (by decide) rfl (fun ls hl => ?_)
        refine lv_null hx hb dJ5_treeifyBin_40 ?_
        refine h_astore (o := none) (lv' := [(7, va_rf none), (6, va_rf none), (5, .ref a7), (4, .int ((x3 - 1) &&& p2)), (3, .int x3), (0, .ref a0), (1, .ref a2), (2, .int p2)]) hx hb dJ5_treeifyBin_41 hl (by decide) rfl (fun ls hl => ?_)
        obtain ⟨n, hf⟩ := hf
        exact L43 n a2 ((x3 - 1) &&& p2) a7 none none mc ms G hf _ _ hm H locs hI ls (lv_sub hl [5, 6, 3, 2, 1, 0] rfl)
    · have hf := hf.2 c4
      exact J13 mc ms G hf _ _ hm H locs hI ls (lv_sub hl [1] rfl)
/-! java/util/HashMap.putVal(ILjava/lang/Object;Ljava/lang/Object;ZZ)Ljava/lang/Object; -/
def hJ5_putVal_b212 (j : JX) (Λ : JLam) (a0 : Nat) (p1 : Int32) (p4 : Int32) (p5 : Int32) (post : Option Nat → HG → Prop) (K134 : Option Nat → Option Nat → Nat → Nat → Int32 → Nat → Nat → HG → Prop) (lq2 : Option Nat) (lq3 : Option Nat) (la6 : Nat) (la10 : Nat) (lx12 : Int32) (mc ms : Nat) (G : HG) : Prop :=
  K134 lq2 lq3 la6 la10 (lx12 + 1) mc ms G
def hJ5_putVal_b292 (j : JX) (Λ : JLam) (a0 : Nat) (p1 : Int32) (p4 : Int32) (p5 : Int32) (post : Option Nat → HG → Prop) (mc ms : Nat) (G : HG) : Prop :=
  isO G a0 16 (hJ5_afterNodeInsertion j Λ a0 p5 G fun G45 => post none G45)
def hJ5_putVal_b259 (j : JX) (Λ : JLam) (a0 : Nat) (p1 : Int32) (p4 : Int32) (p5 : Int32) (post : Option Nat → HG → Prop) (mc ms : Nat) (G : HG) : Prop :=
  gtI G a0 16 5 fun x29 => ptV G a0 16 5 (.int (x29 + 1)) fun G30 => gtI G30 a0 16 4 fun x31 => ptV G30 a0 16 4 (.int (x31 + 1)) fun G32 => gtI G32 a0 16 6 fun x33 => ((x31 + 1) ≤ x33 → (hJ5_putVal_b292 j Λ a0 p1 p4 p5 post mc ms G32)) ∧ (¬ (x31 + 1) ≤ x33 → (isO G32 a0 16 (∃ m35 m36 : Nat, m35 ≤ mc ∧ m36 ≤ ms ∧ hJ5_resize j Λ a0 m35 m36 G32 fun q38 G37 => hJ5_putVal_b292 j Λ a0 p1 p4 p5 post (mc - m35) (ms - m36) G37)))
def hJ5_putVal_b250 (j : JX) (Λ : JLam) (a0 : Nat) (p1 : Int32) (p4 : Int32) (p5 : Int32) (post : Option Nat → HG → Prop) (la10 : Nat) (lq12 : Option Nat) (mc ms : Nat) (G : HG) : Prop :=
  isO G a0 16 (hJ5_afterNodeAccess j Λ a0 (some la10) G fun G74 => post lq12 G74)
def hJ5_putVal_b244 (j : JX) (Λ : JLam) (a0 : Nat) (p1 : Int32) (p4 : Int32) (p5 : Int32) (post : Option Nat → HG → Prop) (lq3 : Option Nat) (la10 : Nat) (lq12 : Option Nat) (mc ms : Nat) (G : HG) : Prop :=
  p2V G la10 2 (va_rf lq3) fun G73 => hJ5_putVal_b250 j Λ a0 p1 p4 p5 post la10 lq12 mc ms G73
def hJ5_putVal_b222 (j : JX) (Λ : JLam) (a0 : Nat) (p1 : Int32) (p4 : Int32) (p5 : Int32) (post : Option Nat → HG → Prop) (lq3 : Option Nat) (lq10 : Option Nat) (mc ms : Nat) (G : HG) : Prop :=
  (lq10 = none → (hJ5_putVal_b259 j Λ a0 p1 p4 p5 post mc ms G)) ∧ (∀ a68, lq10 = some a68 → (g2Q G a68 2 fun q69 => (p4 = 0 → (hJ5_putVal_b244 j Λ a0 p1 p4 p5 post lq3 a68 q69 mc ms G)) ∧ (¬ p4 = 0 → ((q69 = none → (hJ5_putVal_b244 j Λ a0 p1 p4 p5 post lq3 a68 none mc ms G)) ∧ (∀ a72, q69 = some a72 → (hJ5_putVal_b250 j Λ a0 p1 p4 p5 post a68 (some a72) mc ms G))))))
def hJ5_putVal_b134 (j : JX) (Λ : JLam) (a0 : Nat) (p1 : Int32) (p4 : Int32) (p5 : Int32) (post : Option Nat → HG → Prop) (K134 : Option Nat → Option Nat → Nat → Nat → Int32 → Nat → Nat → HG → Prop) (lq2 : Option Nat) (lq3 : Option Nat) (la6 : Nat) (la7 : Nat) (lx12 : Int32) (mc ms : Nat) (G : HG) : Prop :=
  g2Q G la7 3 fun q46 => (q46 = none → (isO G a0 16 (∃ m49 m50 : Nat, m49 ≤ mc ∧ m50 ≤ ms ∧ hJ5_newNode j Λ a0 p1 lq2 lq3 none m49 m50 G fun q52 G51 => p2V G51 la7 3 (va_rf q52) fun G53 => (lx12 < (7 : Int32) → (hJ5_putVal_b222 j Λ a0 p1 p4 p5 post lq3 none (mc - m49) (ms - m50) G53)) ∧ (¬ lx12 < (7 : Int32) → (isO G53 a0 16 (∃ m55 m56 : Nat, m55 ≤ mc - m49 ∧ m56 ≤ ms - m50 ∧ hJ5_treeifyBin j Λ a0 (some la6) p1 m55 m56 G53 fun G57 => hJ5_putVal_b222 j Λ a0 p1 p4 p5 post lq3 none (mc - m49 - m55) (ms - m50 - m56) G57)))))) ∧ (∀ a48, q46 = some a48 → (g2I G a48 0 fun x58 => (x58 = p1 → (g2Q G a48 1 fun q60 => (q60 = lq2 → (hJ5_putVal_b222 j Λ a0 p1 p4 p5 post lq3 (some a48) mc ms G)) ∧ (¬ q60 = lq2 → ((lq2 = none → (hJ5_putVal_b212 j Λ a0 p1 p4 p5 post K134 none lq3 la6 a48 lx12 mc ms G)) ∧ (∀ a63, lq2 = some a63 → (dispequals j Λ a63 q60 G fun x64 G65 => (x64 = 0 → (hJ5_putVal_b212 j Λ a0 p1 p4 p5 post K134 (some a63) lq3 la6 a48 lx12 mc ms G65)) ∧ (¬ x64 = 0 → (hJ5_putVal_b222 j Λ a0 p1 p4 p5 post lq3 (some a48) mc ms G65)))))))) ∧ (¬ x58 = p1 → (hJ5_putVal_b212 j Λ a0 p1 p4 p5 post K134 lq2 lq3 la6 a48 lx12 mc ms G))))
def hJ5_putVal_l134 (j : JX) (Λ : JLam) (a0 : Nat) (p1 : Int32) (p4 : Int32) (p5 : Int32) (post : Option Nat → HG → Prop) : Nat → Option Nat → Option Nat → Nat → Nat → Int32 → Nat → Nat → HG → Prop
  | 0 => fun _ _ _ _ _ _ _ _ => False
  | n + 1 => fun lq2 lq3 la6 la7 lx12 mc ms G => hJ5_putVal_b134 j Λ a0 p1 p4 p5 post (hJ5_putVal_l134 j Λ a0 p1 p4 p5 post n) lq2 lq3 la6 la7 lx12 mc ms G
def hJ5_putVal_b104 (j : JX) (Λ : JLam) (a0 : Nat) (p1 : Int32) (p4 : Int32) (p5 : Int32) (post : Option Nat → HG → Prop) (lq2 : Option Nat) (lq3 : Option Nat) (la6 : Nat) (la7 : Nat) (mc ms : Nat) (G : HG) : Prop :=
  inO G (some la7) "java/util/HashMap$TreeNode" fun x39 => (x39 = 0 → (∃ n, hJ5_putVal_l134 j Λ a0 p1 p4 p5 post n lq2 lq3 la6 la7 (0 : Int32) mc ms G)) ∧ (¬ x39 = 0 → (csO G (some la7) "java/util/HashMap$TreeNode" (isO G la7 18 (∃ m41 m42 : Nat, m41 ≤ mc ∧ m42 ≤ ms ∧ hJ23_putTreeVal j Λ la7 (some a0) (some la6) p1 lq2 lq3 m41 m42 G fun q44 G43 => hJ5_putVal_b222 j Λ a0 p1 p4 p5 post lq3 q44 (mc - m41) (ms - m42) G43))))
def hJ5_putVal_b97 (j : JX) (Λ : JLam) (a0 : Nat) (p1 : Int32) (p4 : Int32) (p5 : Int32) (post : Option Nat → HG → Prop) (lq3 : Option Nat) (la7 : Nat) (mc ms : Nat) (G : HG) : Prop :=
  hJ5_putVal_b222 j Λ a0 p1 p4 p5 post lq3 (some la7) mc ms G
def hJ5_putVal_b29 (j : JX) (Λ : JLam) (a0 : Nat) (p1 : Int32) (p4 : Int32) (p5 : Int32) (post : Option Nat → HG → Prop) (lq2 : Option Nat) (lq3 : Option Nat) (la6 : Nat) (lx8 : Int32) (mc ms : Nat) (G : HG) : Prop :=
  ldQ (jty j.1) G la6 ((lx8 - 1) &&& p1) fun q12 => (q12 = none → (isO G a0 16 (∃ m15 m16 : Nat, m15 ≤ mc ∧ m16 ≤ ms ∧ hJ5_newNode j Λ a0 p1 lq2 lq3 none m15 m16 G fun q18 G17 => stQ jOk (jty j.1) G17 la6 ((lx8 - 1) &&& p1) q18 fun G19 => hJ5_putVal_b259 j Λ a0 p1 p4 p5 post (mc - m15) (ms - m16) G19))) ∧ (∀ a14, q12 = some a14 → (g2I G a14 0 fun x20 => (x20 = p1 → (g2Q G a14 1 fun q22 => (q22 = lq2 → (hJ5_putVal_b97 j Λ a0 p1 p4 p5 post lq3 a14 mc ms G)) ∧ (¬ q22 = lq2 → ((lq2 = none → (hJ5_putVal_b104 j Λ a0 p1 p4 p5 post none lq3 la6 a14 mc ms G)) ∧ (∀ a25, lq2 = some a25 → (dispequals j Λ a25 q22 G fun x26 G27 => (x26 = 0 → (hJ5_putVal_b104 j Λ a0 p1 p4 p5 post (some a25) lq3 la6 a14 mc ms G27)) ∧ (¬ x26 = 0 → (hJ5_putVal_b97 j Λ a0 p1 p4 p5 post lq3 a14 mc ms G27)))))))) ∧ (¬ x20 = p1 → (hJ5_putVal_b104 j Λ a0 p1 p4 p5 post lq2 lq3 la6 a14 mc ms G))))
def hJ5_putVal_b19 (j : JX) (Λ : JLam) (a0 : Nat) (p1 : Int32) (p4 : Int32) (p5 : Int32) (post : Option Nat → HG → Prop) (lq2 : Option Nat) (lq3 : Option Nat) (mc ms : Nat) (G : HG) : Prop :=
  isO G a0 16 (∃ m6 m7 : Nat, m6 ≤ mc ∧ m7 ≤ ms ∧ hJ5_resize j Λ a0 m6 m7 G fun q9 G8 => nnq q9 fun a10 => aln (jty j.1) G8 a10 fun x11 => hJ5_putVal_b29 j Λ a0 p1 p4 p5 post lq2 lq3 a10 x11 (mc - m6) (ms - m7) G8)
def hJ5_putVal (j : JX) (Λ : JLam) (a0 : Nat) (p1 : Int32) (q2_ : Option Nat) (q3_ : Option Nat) (p4 : Int32) (p5 : Int32) (mc ms : Nat) (G : HG) (post : Option Nat → HG → Prop) : Prop :=
  gtQ G a0 16 2 fun q1 => (q1 = none → (hJ5_putVal_b19 j Λ a0 p1 p4 p5 post q2_ q3_ mc ms G)) ∧ (∀ a3, q1 = some a3 → (aln (jty j.1) G a3 fun x4 => (x4 = 0 → (hJ5_putVal_b19 j Λ a0 p1 p4 p5 post q2_ q3_ mc ms G)) ∧ (¬ x4 = 0 → (hJ5_putVal_b29 j Λ a0 p1 p4 p5 post q2_ q3_ a3 x4 mc ms G))))
abbrev rhJ5_putVal (fr lo mc ms : Nat) : Room := { frames := fr + 7, cells := mc, slots := ms, locals := lo + 215 }
theorem mhJ5_putVal (l : Launch) (Z : (Nat → Prop) → State → Heap → Prop) (D : va_G) (j : JX) (Λ : JLam) (fr lo : Nat) (E : JE l Z D j Λ fr lo) (a0 : Nat) (p1 : Int32) (q2_ : Option Nat) (q3_ : Option Nat) (p4 : Int32) (p5 : Int32) (mc ms : Nat) (G : HG) (post : Option Nat → HG → Prop) (hf : hJ5_putVal j Λ a0 p1 q2_ q3_ p4 p5 mc ms G post) : HMq l yJ5_putVal (ws_ yJ5_putVal cJ5_putVal 13 (some (.object "java/lang/Object"))) (rhJ5_putVal fr lo mc ms) D jC (jty j.1) Z G [.ref a0, .int p1, va_rf q2_, va_rf q3_, .int p4, .int p5] post mc ms := by
  obtain ⟨MC, eMC⟩ : ∃ MC, MC = mc := ⟨_, rfl⟩
  obtain ⟨MS, eMS⟩ : ∃ MS, MS = ms := ⟨_, rfl⟩
  suffices goal : HMq l yJ5_putVal (ws_ yJ5_putVal cJ5_putVal 13 (some (.object "java/lang/Object"))) (rhJ5_putVal fr lo MC MS) D jC (jty j.1) Z G [.ref a0, .int p1, va_rf q2_, va_rf q3_, .int p4, .int p5] post MC MS by rw [eMC, eMS] at goal; exact goal
  have hm0_ : 0 + mc ≤ MC ∧ 0 + ms ≤ MS := by omega
  clear eMC eMS
  refine h_openq (Or.inl ⟨_, rfl⟩) E.1 (by decide) (by cases q2_ <;> cases q3_ <;> exact Nat.le_of_ble_eq_true rfl) (fun p e s m args below meth c ls A0 Q X hI hnd hnm hl hret => ?_)
  have X : XC p s m args meth c cJ5_putVal 13 RJ5 D jC (jty j.1) A0 Z := X
  have hx := X.1
  have hb := X.2.1
  have hown := X.2.2.2.1
  have hts := X.2.2.2.2.1
  have J292 : ∀ (mc ms : Nat) (G : HG), hJ5_putVal_b292 j Λ a0 p1 p4 p5 post mc ms G → ∀ (cells slots : Nat), cells + mc ≤ MC ∧ slots + ms ≤ MS → ∀ (H : Heap) (locs : List Loc), HI D jC G A0 s.heap H locs → ∀ (ls : Array Slot), lv_has ls 13 [(0, .ref a0), (5, .int p5)] → W p l e (rhJ5_putVal fr lo MC MS) s m args below meth c H locs cells slots Q (F0 m 292 ls []) := by
    intro mc ms G hf cells slots hm H locs hI ls hl
    unfold hJ5_putVal_b292 at hf
    refine lv_aload_n hx hb dJ5_putVal_292 rfl (lv_at hl 0 rfl) ?_
    refine lv_iload hx hb dJ5_putVal_293 (lv_at hl 1 rfl) ?_
    obtain ⟨_, _, hO, hf⟩ := hf
    refine h_kv X hI (h_runV (As := [.int p5]) X hI (h_recv X hI hO (show jC.1[16]? = some (RJ5, TJ5, 8) from rfl)) (mhJ5_afterNodeInsertion l Z D j Λ fr lo E a0 p5 G _ hf H.size) (cwV 1 hts (lw_V q1382 q1383 q1384 q181 q1385) rfl rfl rfl (by decide +kernel) (by show fr + 1 + 1 ≤ fr + 7 ∧ 8 + (2 + 11) + (lo + 40) ≤ lo + 215; omega)) rfl hl.1 (Nat.le_of_ble_eq_true rfl) dJ5_putVal_295 ⟨hm0 hm.1, hm0 hm.2⟩ rfl) (fun G45 H locs hf hI => ?_)
    clear hO
    refine lv_null hx hb dJ5_putVal_298 ?_
    exact hret (v := none) hf hI dJ5_putVal_299 (hmC hm.1) (hmC hm.2)
  have J259 : ∀ (mc ms : Nat) (G : HG), hJ5_putVal_b259 j Λ a0 p1 p4 p5 post mc ms G → ∀ (cells slots : Nat), cells + mc ≤ MC ∧ slots + ms ≤ MS → ∀ (H : Heap) (locs : List Loc), HI D jC G A0 s.heap H locs → ∀ (ls : Array Slot), lv_has ls 13 [(0, .ref a0), (5, .int p5)] → W p l e (rhJ5_putVal fr lo MC MS) s m args below meth c H locs cells slots Q (F0 m 259 ls []) := by
    intro mc ms G hf cells slots hm H locs hI ls hl
    unfold hJ5_putVal_b259 at hf
    refine lv_aload_n hx hb dJ5_putVal_259 rfl (lv_at hl 0 rfl) ?_
    refine lv_dup hx hb dJ5_putVal_260 rfl ?_
    refine hr_gtI X hI (rfl : jC.1[16]? = some (RJ5, TJ5, 8)) in_J5 5 (Nat.le_of_ble_eq_true rfl) hf q749 (fun _ h => h) dJ5_putVal_261 (fun x29 hf => ?_)
    refine lv_iconst (v := 1) hx hb dJ5_putVal_264 (by decide) ?_
    refine lv_iadd hx hb dJ5_putVal_265 ?_
    refine hr_pt X hI (rfl : jC.1[16]? = some (RJ5, TJ5, 8)) in_J5 5 (Nat.le_of_ble_eq_true rfl) tyJ5 tyJ5_ok nmJ5 hf q749 (fun _ h => h) rfl rfl rfl dJ5_putVal_266 (fun G30 H locs hf hI => ?_)
    refine lv_aload_n hx hb dJ5_putVal_269 rfl (lv_at hl 0 rfl) ?_
    refine lv_dup hx hb dJ5_putVal_270 rfl ?_
    refine hr_gtI X hI (rfl : jC.1[16]? = some (RJ5, TJ5, 8)) in_J5 4 (Nat.le_of_ble_eq_true rfl) hf q748 (fun _ h => h) dJ5_putVal_271 (fun x31 hf => ?_)
    refine lv_iconst (v := 1) hx hb dJ5_putVal_274 (by decide) ?_
    refine lv_iadd hx hb dJ5_putVal_275 ?_
    refine lv_dup_x1 hx hb dJ5_putVal_276 rfl rfl ?_
    refine hr_pt X hI (rfl : jC.1[16]? = some (RJ5, TJ5, 8)) in_J5 4 (Nat.le_of_ble_eq_true rfl) tyJ5 tyJ5_ok nmJ5 hf q748 (fun _ h => h) rfl rfl rfl dJ5_putVal_277 (fun G32 H locs hf hI => ?_)
    refine lv_aload_n hx hb dJ5_putVal_280 rfl (lv_at hl 0 rfl) ?_
    refine hr_gtI X hI (rfl : jC.1[16]? = some (RJ5, TJ5, 8)) in_J5 6 (Nat.le_of_ble_eq_true rfl) hf q750 (fun _ h => h) dJ5_putVal_281 (fun x33 hf => ?_)
    refine lv_icmp_le (tgt := 292) hx hb dJ5_putVal_284 (by decide) (fun c34 => ?_) (fun c34 => ?_)
    · have hf := hf.1 c34
      exact J292 mc ms G32 hf _ _ hm H locs hI ls (lv_sub hl [0, 1] rfl)
    · have hf := hf.2 c34
      refine lv_aload_n hx hb dJ5_putVal_287 rfl (lv_at hl 0 rfl) ?_
      obtain ⟨_, _, hO, hf⟩ := hf
      obtain ⟨m35, m36, hb1, hb2, hf⟩ := hf
      refine h_kq X hI (h_runV (As := []) X hI (h_recv X hI hO (show jC.1[16]? = some (RJ5, TJ5, 8) from rfl)) (mhJ5_resize l Z D j Λ fr lo E a0 m35 m36 G32 _ hf H.size) (cwV 0 hts (lw_V q948 q949 q950 q181 q951) rfl rfl rfl (by decide +kernel) (by show fr + 5 + 1 ≤ fr + 7 ∧ 8 + (14 + 11) + (lo + 154) ≤ lo + 215; omega)) rfl hl.1 (Nat.le_of_ble_eq_true rfl) dJ5_putVal_288 ⟨hmA hm.1 hb1, hmA hm.2 hb2⟩ rfl) (fun q38 G37 H locs hf hI => ?_)
      have hm := And.intro (hmB hm.1 hb1) (hmB hm.2 hb2)
      clear hb1 hb2
      clear hO
      refine lv_pop hx hb dJ5_putVal_291 (h_catq _) ?_
      exact J292 (mc - m35) (ms - m36) G37 hf _ _ hm H locs hI ls (lv_sub hl [0, 1] rfl)
  have J250 : ∀ (la10 : Nat) (lq12 : Option Nat) (mc ms : Nat) (G : HG), hJ5_putVal_b250 j Λ a0 p1 p4 p5 post la10 lq12 mc ms G → ∀ (cells slots : Nat), cells + mc ≤ MC ∧ slots + ms ≤ MS → ∀ (H : Heap) (locs : List Loc), HI D jC G A0 s.heap H locs → ∀ (ls : Array Slot), lv_has ls 13 [(0, .ref a0), (10, .ref la10), (12, va_rf lq12)] → W p l e (rhJ5_putVal fr lo MC MS) s m args below meth c H locs cells slots Q (F0 m 250 ls []) := by
    intro la10 lq12 mc ms G hf cells slots hm H locs hI ls hl
    unfold hJ5_putVal_b250 at hf
    refine lv_aload_n hx hb dJ5_putVal_250 rfl (lv_at hl 0 rfl) ?_
    refine lv_aload hx hb dJ5_putVal_251 (lv_at hl 1 rfl) ?_
    obtain ⟨_, _, hO, hf⟩ := hf
    refine h_kv X hI (h_runV (As := [va_rf (some la10)]) X hI (h_recv X hI hO (show jC.1[16]? = some (RJ5, TJ5, 8) from rfl)) (mhJ5_afterNodeAccess l Z D j Λ fr lo E a0 (some la10) G _ hf H.size) (cwV 1 hts (lw_V q1378 q1379 q1380 q181 q1381) rfl rfl rfl (by decide +kernel) (by show fr + 1 + 1 ≤ fr + 7 ∧ 8 + (2 + 11) + (lo + 40) ≤ lo + 215; omega)) rfl hl.1 (Nat.le_of_ble_eq_true rfl) dJ5_putVal_253 ⟨hm0 hm.1, hm0 hm.2⟩ rfl) (fun G74 H locs hf hI => ?_)
    clear hO
    refine h_aload (o := lq12) hx hb dJ5_putVal_256 (lv_at hl 2 rfl) ?_
    exact hret (v := lq12) hf hI dJ5_putVal_258 (hmC hm.1) (hmC hm.2)
  have J244 : ∀ (lq3 : Option Nat) (la10 : Nat) (lq12 : Option Nat) (mc ms : Nat) (G : HG), hJ5_putVal_b244 j Λ a0 p1 p4 p5 post lq3 la10 lq12 mc ms G → ∀ (cells slots : Nat), cells + mc ≤ MC ∧ slots + ms ≤ MS → ∀ (H : Heap) (locs : List Loc), HI D jC G A0 s.heap H locs → ∀ (ls : Array Slot), lv_has ls 13 [(0, .ref a0), (3, va_rf lq3), (10, .ref la10), (12, va_rf lq12)] → W p l e (rhJ5_putVal fr lo MC MS) s m args below meth c H locs cells slots Q (F0 m 244 ls []) := by
    intro lq3 la10 lq12 mc ms G hf cells slots hm H locs hI ls hl
    unfold hJ5_putVal_b244 at hf
    refine lv_aload hx hb dJ5_putVal_244 (lv_at hl 2 rfl) ?_
    refine h_aload_n (o := lq3) hx hb dJ5_putVal_246 rfl (lv_at hl 1 rfl) ?_
    refine hr_p2V X hI 2 (Nat.le_of_ble_eq_true rfl) hf rfl rfl q985 (fun _ h => h) rfl (nar_o _ _) (fit_o _ _) dJ5_putVal_247 (fun G73 H locs hf hI => ?_)
    exact J250 la10 lq12 mc ms G73 hf _ _ hm H locs hI ls (lv_sub hl [0, 2, 3] rfl)
  have J222 : ∀ (lq3 : Option Nat) (lq10 : Option Nat) (mc ms : Nat) (G : HG), hJ5_putVal_b222 j Λ a0 p1 p4 p5 post lq3 lq10 mc ms G → ∀ (cells slots : Nat), cells + mc ≤ MC ∧ slots + ms ≤ MS → ∀ (H : Heap) (locs : List Loc), HI D jC G A0 s.heap H locs → ∀ (ls : Array Slot), lv_has ls 13 [(0, .ref a0), (3, va_rf lq3), (4, .int p4), (5, .int p5), (10, va_rf lq10)] → W p l e (rhJ5_putVal fr lo MC MS) s m args below meth c H locs cells slots Q (F0 m 222 ls []) := by
    intro lq3 lq10 mc ms G hf cells slots hm H locs hI ls hl
    unfold hJ5_putVal_b222 at hf
    refine h_aload (o := lq10) hx hb dJ5_putVal_222 (lv_at hl 4 rfl) ?_
    refine h_ifnull (tgt := 259) hx hb dJ5_putVal_224 (by decide) (fun c67 => ?_) (fun a68 c67 => ?_)
    · have hf := hf.1 c67
      revert hl hf
      subst c67
      intro hl hf
      have hl : lv_has ls 13 [(0, .ref a0), (3, va_rf lq3), (4, .int p4), (5, .int p5), (10, va_rf none)] := hl
      exact J259 mc ms G hf _ _ hm H locs hI ls (lv_sub hl [0, 3] rfl)
    · have hf := hf.2 a68 c67
      revert hl hf
      subst c67
      intro hl hf
      have hl : lv_has ls 13 [(0, .ref a0), (3, va_rf lq3), (4, .int p4), (5, .int p5), (10, .ref a68)] := hl
      refine lv_aload hx hb dJ5_putVal_227 (lv_at hl 4 rfl) ?_
      refine hr_g2Q X hI 2 (Nat.le_of_ble_eq_true rfl) hf rfl q985 (fun _ h => h) dJ5_putVal_229 (fun q69 hf => ?_)
      refine h_astore (o := q69) (lv' := [(12, va_rf q69), (0, .ref a0), (3, va_rf lq3), (4, .int p4), (5, .int p5), (10, .ref a68)]) hx hb dJ5_putVal_232 hl (by decide) rfl (fun ls hl => ?_)
      refine lv_iload hx hb dJ5_putVal_234 (lv_at hl 3 rfl) ?_
      refine lv_if_eq (tgt := 244) hx hb dJ5_putVal_236 (by decide) (fun c70 => ?_) (fun c70 => ?_)
      · have hf := hf.1 c70
        exact J244 lq3 a68 q69 mc ms G hf _ _ hm H locs hI ls (lv_sub hl [1, 2, 5, 0] rfl)
      · have hf := hf.2 c70
        refine h_aload (o := q69) hx hb dJ5_putVal_239 (lv_at hl 0 rfl) ?_
        refine h_ifnonnull (tgt := 250) hx hb dJ5_putVal_241 (by decide) (fun a72 c71 => ?_) (fun c71 => ?_)
        · have hf := hf.2 a72 c71
          revert hl hf
          subst c71
          intro hl hf
          have hl : lv_has ls 13 [(12, .ref a72), (0, .ref a0), (3, va_rf lq3), (4, .int p4), (5, .int p5), (10, .ref a68)] := hl
          exact J250 a68 (some a72) mc ms G hf _ _ hm H locs hI ls (lv_sub hl [1, 5, 0] rfl)
        · have hf := hf.1 c71
          revert hl hf
          subst c71
          intro hl hf
          have hl : lv_has ls 13 [(12, va_rf none), (0, .ref a0), (3, va_rf lq3), (4, .int p4), (5, .int p5), (10, .ref a68)] := hl
          exact J244 lq3 a68 none mc ms G hf _ _ hm H locs hI ls (lv_sub hl [1, 2, 5, 0] rfl)
  have L134 : ∀ (n : Nat) (lq2 : Option Nat) (lq3 : Option Nat) (la6 : Nat) (la7 : Nat) (lx12 : Int32) (mc ms : Nat) (G : HG), hJ5_putVal_l134 j Λ a0 p1 p4 p5 post n lq2 lq3 la6 la7 lx12 mc ms G → ∀ (cells slots : Nat), cells + mc ≤ MC ∧ slots + ms ≤ MS → ∀ (H : Heap) (locs : List Loc), HI D jC G A0 s.heap H locs → ∀ (ls : Array Slot), lv_has ls 13 [(0, .ref a0), (1, .int p1), (2, va_rf lq2), (3, va_rf lq3), (4, .int p4), (5, .int p5), (6, .ref la6), (7, .ref la7), (12, .int lx12)] → W p l e (rhJ5_putVal fr lo MC MS) s m args below meth c H locs cells slots Q (F0 m 134 ls []) := by
    intro n134
    induction n134 with
    | zero => intro lq2 lq3 la6 la7 lx12 mc ms G hf; exact hf.elim
    | succ n134 ih134 =>
      have J212 : ∀ (lq2 : Option Nat) (lq3 : Option Nat) (la6 : Nat) (la10 : Nat) (lx12 : Int32) (mc ms : Nat) (G : HG), hJ5_putVal_b212 j Λ a0 p1 p4 p5 post (hJ5_putVal_l134 j Λ a0 p1 p4 p5 post n134) lq2 lq3 la6 la10 lx12 mc ms G → ∀ (cells slots : Nat), cells + mc ≤ MC ∧ slots + ms ≤ MS → ∀ (H : Heap) (locs : List Loc), HI D jC G A0 s.heap H locs → ∀ (ls : Array Slot), lv_has ls 13 [(0, .ref a0), (1, .int p1), (2, va_rf lq2), (3, va_rf lq3), (4, .int p4), (5, .int p5), (6, .ref la6), (10, .ref la10), (12, .int lx12)] → W p l e (rhJ5_putVal fr lo MC MS) s m args below meth c H locs cells slots Q (F0 m 212 ls []) := by
        intro lq2 lq3 la6 la10 lx12 mc ms G hf cells slots hm H locs hI ls hl
        unfold hJ5_putVal_b212 at hf
        refine lv_aload hx hb dJ5_putVal_212 (lv_at hl 7 rfl) ?_
        refine lv_astore (lv' := [(7, .ref la10), (0, .ref a0), (1, .int p1), (2, va_rf lq2), (3, va_rf lq3), (4, .int p4), (5, .int p5), (6, .ref la6), (10, .ref la10), (12, .int lx12)]) hx hb dJ5_putVal_214 hl (by decide) rfl (fun ls hl => ?_)
        refine lv_iinc (v := lx12 + 1) (lv' := [(12, .int (lx12 + 1)), (7, .ref la10), (0, .ref a0), (1, .int p1), (2, va_rf lq2), (3, va_rf lq3), (4, .int p4), (5, .int p5), (6, .ref la6), (10, .ref la10)]) hx hb dJ5_putVal_216 hl (k := 9) rfl rfl (by decide) rfl (fun ls hl => ?_)
        refine lv_goto (tgt := 134) hx hb dJ5_putVal_219 (by decide) ?_
        exact ih134 lq2 lq3 la6 la10 (lx12 + 1) mc ms G hf _ _ hm H locs hI ls (lv_sub hl [2, 3, 4, 5, 6, 7, 8, 1, 0] rfl)
      intro lq2 lq3 la6 la7 lx12 mc ms G hf cells slots hm H locs hI ls hl
      have hf : hJ5_putVal_b134 j Λ a0 p1 p4 p5 post (hJ5_putVal_l134 j Λ a0 p1 p4 p5 post n134) lq2 lq3 la6 la7 lx12 mc ms G := hf
      unfold hJ5_putVal_b134 at hf
      refine lv_aload hx hb dJ5_putVal_134 (lv_at hl 7 rfl) ?_
      refine hr_g2Q X hI 3 (Nat.le_of_ble_eq_true rfl) hf rfl q990 (fun _ h => h) dJ5_putVal_136 (fun q46 hf => ?_)
      refine lv_dup hx hb dJ5_putVal_139 (h_catq _) ?_
      refine h_astore (o := q46) (lv' := [(10, va_rf q46), (0, .ref a0), (1, .int p1), (2, va_rf lq2), (3, va_rf lq3), (4, .int p4), (5, .int p5), (6, .ref la6), (7, .ref la7), (12, .int lx12)]) hx hb dJ5_putVal_140 hl (by decide) rfl (fun ls hl => ?_)
      refine h_ifnonnull (tgt := 175) hx hb dJ5_putVal_142 (by decide) (fun a48 c47 => ?_) (fun c47 => ?_)
      · have hf := hf.2 a48 c47
        revert hl hf
        subst c47
        intro hl hf
        have hl : lv_has ls 13 [(10, .ref a48), (0, .ref a0), (1, .int p1), (2, va_rf lq2), (3, va_rf lq3), (4, .int p4), (5, .int p5), (6, .ref la6), (7, .ref la7), (12, .int lx12)] := hl
        refine lv_aload hx hb dJ5_putVal_175 (lv_at hl 0 rfl) ?_
        refine hr_g2I X hI 0 (Nat.le_of_ble_eq_true rfl) hf rfl q979 (fun _ h => h) dJ5_putVal_177 (fun x58 hf => ?_)
        refine lv_iload_n hx hb dJ5_putVal_180 rfl (lv_at hl 2 rfl) ?_
        refine lv_icmp_ne (tgt := 212) hx hb dJ5_putVal_181 (by decide) (fun c59 => ?_) (fun c59 => ?_)
        · have hf := hf.2 c59
          exact J212 lq2 lq3 la6 a48 lx12 mc ms G hf _ _ hm H locs hI ls (lv_sub hl [1, 2, 3, 4, 5, 6, 7, 0, 9] rfl)
        · have hf := hf.1 c59
          refine lv_aload hx hb dJ5_putVal_184 (lv_at hl 0 rfl) ?_
          refine hr_g2Q X hI 1 (Nat.le_of_ble_eq_true rfl) hf rfl q983 (fun _ h => h) dJ5_putVal_186 (fun q60 hf => ?_)
          refine lv_dup hx hb dJ5_putVal_189 (h_catq _) ?_
          refine h_astore (o := q60) (lv' := [(11, va_rf q60), (10, .ref a48), (0, .ref a0), (1, .int p1), (2, va_rf lq2), (3, va_rf lq3), (4, .int p4), (5, .int p5), (6, .ref la6), (7, .ref la7), (12, .int lx12)]) hx hb dJ5_putVal_190 hl (by decide) rfl (fun ls hl => ?_)
          refine h_aload_n (o := lq2) hx hb dJ5_putVal_192 rfl (lv_at hl 4 rfl) ?_
          refine lv_acmp_eq (rx := q60) (ry := lq2) (tgt := 222) hx hb dJ5_putVal_193 (by decide) (fun c61 => ?_) (fun c61 => ?_)
          · have hf := hf.1 c61
            exact J222 lq3 (some a48) mc ms G hf _ _ hm H locs hI ls (lv_sub hl [2, 5, 6, 7, 1] rfl)
          · have hf := hf.2 c61
            refine h_aload_n (o := lq2) hx hb dJ5_putVal_196 rfl (lv_at hl 4 rfl) ?_
            refine h_ifnull (tgt := 212) hx hb dJ5_putVal_197 (by decide) (fun c62 => ?_) (fun a63 c62 => ?_)
            · have hf := hf.1 c62
              revert hl hf
              subst c62
              intro hl hf
              have hl : lv_has ls 13 [(11, va_rf q60), (10, .ref a48), (0, .ref a0), (1, .int p1), (2, va_rf none), (3, va_rf lq3), (4, .int p4), (5, .int p5), (6, .ref la6), (7, .ref la7), (12, .int lx12)] := hl
              exact J212 none lq3 la6 a48 lx12 mc ms G hf _ _ hm H locs hI ls (lv_sub hl [2, 3, 4, 5, 6, 7, 8, 1, 10] rfl)
            · have hf := hf.2 a63 c62
              revert hl hf
              subst c62
              intro hl hf
              have hl : lv_has ls 13 [(11, va_rf q60), (10, .ref a48), (0, .ref a0), (1, .int p1), (2, .ref a63), (3, va_rf lq3), (4, .int p4), (5, .int p5), (6, .ref la6), (7, .ref la7), (12, .int lx12)] := hl
              refine lv_aload_n hx hb dJ5_putVal_200 rfl (lv_at hl 4 rfl) ?_
              refine h_aload (o := q60) hx hb dJ5_putVal_201 (lv_at hl 0 rfl) ?_
              refine h_ki X hI (by rcases hf with ⟨_, _, hO, hf⟩ | ⟨_, _, hO, hf⟩; exact h_runU (As := [va_rf q60]) X hI (h_recv X hI hO (show jC.1[13]? = some (RX13, TX13, 2) from rfl)) (mhX13_equals l Z D j Λ fr lo E a63 q60 G _ hf H.size) (cwA (owner := "java/lang/Object") 1 hts q1276 q1278 q1286 q1287 q214 q1288 (E.nw X q1275 rfl) rfl rfl (by decide +kernel) (by show fr + 1 + 1 ≤ fr + 7 ∧ 8 + (3 + 11) + (lo + 40) ≤ lo + 215; omega)) rfl hl.1 (Nat.le_of_ble_eq_true rfl) dJ5_putVal_203 ⟨hm0 hm.1, hm0 hm.2⟩ rfl; exact h_runU (As := [va_rf q60]) X hI (h_recv X hI hO (show jC.1[20]? = some (RJ8, TJ8, 4) from rfl)) (mhJ8_equals l Z D j Λ fr lo E a63 q60 G _ hf H.size) (cwA (owner := "java/lang/Object") 1 hts q1276 q1278 q1308 q1309 q184 q1310 (E.nw X q1275 rfl) rfl rfl (by decide +kernel) (by show fr + 2 + 1 ≤ fr + 7 ∧ 8 + (3 + 11) + (lo + 62) ≤ lo + 215; omega)) rfl hl.1 (Nat.le_of_ble_eq_true rfl) dJ5_putVal_203 ⟨hm0 hm.1, hm0 hm.2⟩ rfl) (fun x64 G65 H locs hf hI => ?_)
              refine lv_if_eq (tgt := 212) hx hb dJ5_putVal_206 (by decide) (fun c66 => ?_) (fun c66 => ?_)
              · have hf := hf.1 c66
                exact J212 (some a63) lq3 la6 a48 lx12 mc ms G65 hf _ _ hm H locs hI ls (lv_sub hl [2, 3, 4, 5, 6, 7, 8, 1, 10] rfl)
              · have hf := hf.2 c66
                refine lv_goto (tgt := 222) hx hb dJ5_putVal_209 (by decide) ?_
                exact J222 lq3 (some a48) mc ms G65 hf _ _ hm H locs hI ls (lv_sub hl [2, 5, 6, 7, 1] rfl)
      · have hf := hf.1 c47
        revert hl hf
        subst c47
        intro hl hf
        have hl : lv_has ls 13 [(10, va_rf none), (0, .ref a0), (1, .int p1), (2, va_rf lq2), (3, va_rf lq3), (4, .int p4), (5, .int p5), (6, .ref la6), (7, .ref la7), (12, .int lx12)] := hl
        refine lv_aload hx hb dJ5_putVal_145 (lv_at hl 8 rfl) ?_
        refine lv_aload_n hx hb dJ5_putVal_147 rfl (lv_at hl 1 rfl) ?_
        refine lv_iload_n hx hb dJ5_putVal_148 rfl (lv_at hl 2 rfl) ?_
        refine h_aload_n (o := lq2) hx hb dJ5_putVal_149 rfl (lv_at hl 3 rfl) ?_
        refine h_aload_n (o := lq3) hx hb dJ5_putVal_150 rfl (lv_at hl 4 rfl) ?_
        refine lv_null hx hb dJ5_putVal_151 ?_
        obtain ⟨_, _, hO, hf⟩ := hf
        obtain ⟨m49, m50, hb1, hb2, hf⟩ := hf
        refine h_kq X hI (h_runV (As := [.int p1, va_rf lq2, va_rf lq3, va_rf none]) X hI (h_recv X hI hO (show jC.1[16]? = some (RJ5, TJ5, 8) from rfl)) (mhJ5_newNode l Z D j Λ fr lo E a0 p1 lq2 lq3 none m49 m50 G _ hf H.size) (cwV 4 hts (lw_V q1271 q1272 q1273 q181 q1274) rfl rfl rfl (by decide +kernel) (by show fr + 2 + 1 ≤ fr + 7 ∧ 8 + (5 + 11) + (lo + 64) ≤ lo + 215; omega)) rfl hl.1 (Nat.le_of_ble_eq_true rfl) dJ5_putVal_152 ⟨hmA hm.1 hb1, hmA hm.2 hb2⟩ rfl) (fun q52 G51 H locs hf hI => ?_)
        have hm := And.intro (hmB hm.1 hb1) (hmB hm.2 hb2)
        clear hb1 hb2
        clear hO
        refine hr_p2V X hI 3 (Nat.le_of_ble_eq_true rfl) hf rfl rfl q990 (fun _ h => h) rfl (nar_o _ _) (fit_o _ _) dJ5_putVal_155 (fun G53 H locs hf hI => ?_)
        refine lv_iload hx hb dJ5_putVal_158 (lv_at hl 9 rfl) ?_
        refine lv_bipush (v := 7) hx hb dJ5_putVal_160 (by decide) ?_
        refine lv_icmp_lt (tgt := 222) hx hb dJ5_putVal_162 (by decide) (fun c54 => ?_) (fun c54 => ?_)
        · have hf := hf.1 c54
          exact J222 lq3 none (mc - m49) (ms - m50) G53 hf _ _ hm H locs hI ls (lv_sub hl [1, 4, 5, 6, 0] rfl)
        · have hf := hf.2 c54
          refine lv_aload_n hx hb dJ5_putVal_165 rfl (lv_at hl 1 rfl) ?_
          refine lv_aload hx hb dJ5_putVal_166 (lv_at hl 7 rfl) ?_
          refine lv_iload_n hx hb dJ5_putVal_168 rfl (lv_at hl 2 rfl) ?_
          obtain ⟨_, _, hO, hf⟩ := hf
          obtain ⟨m55, m56, hb1, hb2, hf⟩ := hf
          refine h_kv X hI (h_runV (As := [va_rf (some la6), .int p1]) X hI (h_recv X hI hO (show jC.1[16]? = some (RJ5, TJ5, 8) from rfl)) (mhJ5_treeifyBin l Z D j Λ fr lo E a0 (some la6) p1 m55 m56 G53 _ hf H.size) (cwV 2 hts (lw_V q1369 q1370 q1371 q181 q1372) rfl rfl rfl (by decide +kernel) (by show fr + 6 + 1 ≤ fr + 7 ∧ 8 + (9 + 11) + (lo + 187) ≤ lo + 215; omega)) rfl hl.1 (Nat.le_of_ble_eq_true rfl) dJ5_putVal_169 ⟨hmA hm.1 hb1, hmA hm.2 hb2⟩ rfl) (fun G57 H locs hf hI => ?_)
          have hm := And.intro (hmB hm.1 hb1) (hmB hm.2 hb2)
          clear hb1 hb2
          clear hO
          refine lv_goto (tgt := 222) hx hb dJ5_putVal_172 (by decide) ?_
          exact J222 lq3 none (mc - m49 - m55) (ms - m50 - m56) G57 hf _ _ hm H locs hI ls (lv_sub hl [1, 4, 5, 6, 0] rfl)
  have J104 : ∀ (lq2 : Option Nat) (lq3 : Option Nat) (la6 : Nat) (la7 : Nat) (mc ms : Nat) (G : HG), hJ5_putVal_b104 j Λ a0 p1 p4 p5 post lq2 lq3 la6 la7 mc ms G → ∀ (cells slots : Nat), cells + mc ≤ MC ∧ slots + ms ≤ MS → ∀ (H : Heap) (locs : List Loc), HI D jC G A0 s.heap H locs → ∀ (ls : Array Slot), lv_has ls 13 [(0, .ref a0), (1, .int p1), (2, va_rf lq2), (3, va_rf lq3), (4, .int p4), (5, .int p5), (6, .ref la6), (7, .ref la7)] → W p l e (rhJ5_putVal fr lo MC MS) s m args below meth c H locs cells slots Q (F0 m 104 ls []) := by
    intro lq2 lq3 la6 la7 mc ms G hf cells slots hm H locs hI ls hl
    unfold hJ5_putVal_b104 at hf
    refine lv_aload hx hb dJ5_putVal_104 (lv_at hl 7 rfl) ?_
    refine hr_inst (v := (some la7)) E X hI hf q957 dJ5_putVal_106 (fun x39 hf => ?_)
    refine lv_if_eq (tgt := 131) hx hb dJ5_putVal_109 (by decide) (fun c40 => ?_) (fun c40 => ?_)
    · have hf := hf.1 c40
      refine lv_iconst (v := 0) hx hb dJ5_putVal_131 (by decide) ?_
      refine lv_istore (lv' := [(12, .int 0), (0, .ref a0), (1, .int p1), (2, va_rf lq2), (3, va_rf lq3), (4, .int p4), (5, .int p5), (6, .ref la6), (7, .ref la7)]) hx hb dJ5_putVal_132 hl (by decide) rfl (fun ls hl => ?_)
      obtain ⟨n, hf⟩ := hf
      exact L134 n lq2 lq3 la6 la7 (0 : Int32) mc ms G hf _ _ hm H locs hI ls (lv_sub hl [1, 2, 3, 4, 5, 6, 7, 8, 0] rfl)
    · have hf := hf.2 c40
      refine lv_aload hx hb dJ5_putVal_112 (lv_at hl 7 rfl) ?_
      refine hr_cast (v := (some la7)) E X hI hf q957 dJ5_putVal_114 (fun hf => ?_)
      refine lv_aload_n hx hb dJ5_putVal_117 rfl (lv_at hl 0 rfl) ?_
      refine lv_aload hx hb dJ5_putVal_118 (lv_at hl 6 rfl) ?_
      refine lv_iload_n hx hb dJ5_putVal_120 rfl (lv_at hl 1 rfl) ?_
      refine h_aload_n (o := lq2) hx hb dJ5_putVal_121 rfl (lv_at hl 2 rfl) ?_
      refine h_aload_n (o := lq3) hx hb dJ5_putVal_122 rfl (lv_at hl 3 rfl) ?_
      obtain ⟨_, _, hO, hf⟩ := hf
      obtain ⟨m41, m42, hb1, hb2, hf⟩ := hf
      refine h_kq X hI (h_runV (As := [va_rf (some a0), va_rf (some la6), .int p1, va_rf lq2, va_rf lq3]) X hI (h_recv X hI hO (show jC.1[18]? = some (RJ23, TJ23, 11) from rfl)) (mhJ23_putTreeVal l Z D j Λ fr lo E la7 (some a0) (some la6) p1 lq2 lq3 m41 m42 G _ hf H.size) (cwV 5 hts (lw_V q1319 q1320 q1321 q201 q1322) rfl rfl rfl (by decide +kernel) (by show fr + 5 + 1 ≤ fr + 7 ∧ 8 + (16 + 11) + (lo + 136) ≤ lo + 215; omega)) rfl hl.1 (Nat.le_of_ble_eq_true rfl) dJ5_putVal_123 ⟨hmA hm.1 hb1, hmA hm.2 hb2⟩ rfl) (fun q44 G43 H locs hf hI => ?_)
      have hm := And.intro (hmB hm.1 hb1) (hmB hm.2 hb2)
      clear hb1 hb2
      clear hO
      refine h_astore (o := q44) (lv' := [(10, va_rf q44), (0, .ref a0), (1, .int p1), (2, va_rf lq2), (3, va_rf lq3), (4, .int p4), (5, .int p5), (6, .ref la6), (7, .ref la7)]) hx hb dJ5_putVal_126 hl (by decide) rfl (fun ls hl => ?_)
      refine lv_goto (tgt := 222) hx hb dJ5_putVal_128 (by decide) ?_
      exact J222 lq3 q44 (mc - m41) (ms - m42) G43 hf _ _ hm H locs hI ls (lv_sub hl [1, 4, 5, 6, 0] rfl)
  have J97 : ∀ (lq3 : Option Nat) (la7 : Nat) (mc ms : Nat) (G : HG), hJ5_putVal_b97 j Λ a0 p1 p4 p5 post lq3 la7 mc ms G → ∀ (cells slots : Nat), cells + mc ≤ MC ∧ slots + ms ≤ MS → ∀ (H : Heap) (locs : List Loc), HI D jC G A0 s.heap H locs → ∀ (ls : Array Slot), lv_has ls 13 [(0, .ref a0), (3, va_rf lq3), (4, .int p4), (5, .int p5), (7, .ref la7)] → W p l e (rhJ5_putVal fr lo MC MS) s m args below meth c H locs cells slots Q (F0 m 97 ls []) := by
    intro lq3 la7 mc ms G hf cells slots hm H locs hI ls hl
    unfold hJ5_putVal_b97 at hf
    refine lv_aload hx hb dJ5_putVal_97 (lv_at hl 4 rfl) ?_
    refine lv_astore (lv' := [(10, .ref la7), (0, .ref a0), (3, va_rf lq3), (4, .int p4), (5, .int p5), (7, .ref la7)]) hx hb dJ5_putVal_99 hl (by decide) rfl (fun ls hl => ?_)
    refine lv_goto (tgt := 222) hx hb dJ5_putVal_101 (by decide) ?_
    exact J222 lq3 (some la7) mc ms G hf _ _ hm H locs hI ls (lv_sub hl [1, 2, 3, 4, 0] rfl)
  have J29 : ∀ (lq2 : Option Nat) (lq3 : Option Nat) (la6 : Nat) (lx8 : Int32) (mc ms : Nat) (G : HG), hJ5_putVal_b29 j Λ a0 p1 p4 p5 post lq2 lq3 la6 lx8 mc ms G → ∀ (cells slots : Nat), cells + mc ≤ MC ∧ slots + ms ≤ MS → ∀ (H : Heap) (locs : List Loc), HI D jC G A0 s.heap H locs → ∀ (ls : Array Slot), lv_has ls 13 [(0, .ref a0), (1, .int p1), (2, va_rf lq2), (3, va_rf lq3), (4, .int p4), (5, .int p5), (6, .ref la6), (8, .int lx8)] → W p l e (rhJ5_putVal fr lo MC MS) s m args below meth c H locs cells slots Q (F0 m 29 ls []) := by
    intro lq2 lq3 la6 lx8 mc ms G hf cells slots hm H locs hI ls hl
    unfold hJ5_putVal_b29 at hf
    refine lv_aload hx hb dJ5_putVal_29 (lv_at hl 6 rfl) ?_
    refine lv_iload hx hb dJ5_putVal_31 (lv_at hl 7 rfl) ?_
    refine lv_iconst (v := 1) hx hb dJ5_putVal_33 (by decide) ?_
    refine lv_isub hx hb dJ5_putVal_34 ?_
    refine lv_iload_n hx hb dJ5_putVal_35 rfl (lv_at hl 1 rfl) ?_
    refine lv_iand hx hb dJ5_putVal_36 ?_
    refine lv_dup hx hb dJ5_putVal_37 rfl ?_
    refine lv_istore (lv' := [(9, .int ((lx8 - 1) &&& p1)), (0, .ref a0), (1, .int p1), (2, va_rf lq2), (3, va_rf lq3), (4, .int p4), (5, .int p5), (6, .ref la6), (8, .int lx8)]) hx hb dJ5_putVal_38 hl (by decide) rfl (fun ls hl => ?_)
    refine hr_qld X hI hf dJ5_putVal_40 (fun q12 hf => ?_)
    refine lv_dup hx hb dJ5_putVal_41 (h_catq _) ?_
    refine h_astore (o := q12) (lv' := [(7, va_rf q12), (9, .int ((lx8 - 1) &&& p1)), (0, .ref a0), (1, .int p1), (2, va_rf lq2), (3, va_rf lq3), (4, .int p4), (5, .int p5), (6, .ref la6), (8, .int lx8)]) hx hb dJ5_putVal_42 hl (by decide) rfl (fun ls hl => ?_)
    refine h_ifnonnull (tgt := 63) hx hb dJ5_putVal_44 (by decide) (fun a14 c13 => ?_) (fun c13 => ?_)
    · have hf := hf.2 a14 c13
      revert hl hf
      subst c13
      intro hl hf
      have hl : lv_has ls 13 [(7, .ref a14), (9, .int ((lx8 - 1) &&& p1)), (0, .ref a0), (1, .int p1), (2, va_rf lq2), (3, va_rf lq3), (4, .int p4), (5, .int p5), (6, .ref la6), (8, .int lx8)] := hl
      refine lv_aload hx hb dJ5_putVal_63 (lv_at hl 0 rfl) ?_
      refine hr_g2I X hI 0 (Nat.le_of_ble_eq_true rfl) hf rfl q979 (fun _ h => h) dJ5_putVal_65 (fun x20 hf => ?_)
      refine lv_iload_n hx hb dJ5_putVal_68 rfl (lv_at hl 3 rfl) ?_
      refine lv_icmp_ne (tgt := 104) hx hb dJ5_putVal_69 (by decide) (fun c21 => ?_) (fun c21 => ?_)
      · have hf := hf.2 c21
        exact J104 lq2 lq3 la6 a14 mc ms G hf _ _ hm H locs hI ls (lv_sub hl [2, 3, 4, 5, 6, 7, 8, 0] rfl)
      · have hf := hf.1 c21
        refine lv_aload hx hb dJ5_putVal_72 (lv_at hl 0 rfl) ?_
        refine hr_g2Q X hI 1 (Nat.le_of_ble_eq_true rfl) hf rfl q983 (fun _ h => h) dJ5_putVal_74 (fun q22 hf => ?_)
        refine lv_dup hx hb dJ5_putVal_77 (h_catq _) ?_
        refine h_astore (o := q22) (lv' := [(11, va_rf q22), (7, .ref a14), (9, .int ((lx8 - 1) &&& p1)), (0, .ref a0), (1, .int p1), (2, va_rf lq2), (3, va_rf lq3), (4, .int p4), (5, .int p5), (6, .ref la6), (8, .int lx8)]) hx hb dJ5_putVal_78 hl (by decide) rfl (fun ls hl => ?_)
        refine h_aload_n (o := lq2) hx hb dJ5_putVal_80 rfl (lv_at hl 5 rfl) ?_
        refine lv_acmp_eq (rx := q22) (ry := lq2) (tgt := 97) hx hb dJ5_putVal_81 (by decide) (fun c23 => ?_) (fun c23 => ?_)
        · have hf := hf.1 c23
          exact J97 lq3 a14 mc ms G hf _ _ hm H locs hI ls (lv_sub hl [3, 6, 7, 8, 1] rfl)
        · have hf := hf.2 c23
          refine h_aload_n (o := lq2) hx hb dJ5_putVal_84 rfl (lv_at hl 5 rfl) ?_
          refine h_ifnull (tgt := 104) hx hb dJ5_putVal_85 (by decide) (fun c24 => ?_) (fun a25 c24 => ?_)
          · have hf := hf.1 c24
            revert hl hf
            subst c24
            intro hl hf
            have hl : lv_has ls 13 [(11, va_rf q22), (7, .ref a14), (9, .int ((lx8 - 1) &&& p1)), (0, .ref a0), (1, .int p1), (2, va_rf none), (3, va_rf lq3), (4, .int p4), (5, .int p5), (6, .ref la6), (8, .int lx8)] := hl
            exact J104 none lq3 la6 a14 mc ms G hf _ _ hm H locs hI ls (lv_sub hl [3, 4, 5, 6, 7, 8, 9, 1] rfl)
          · have hf := hf.2 a25 c24
            revert hl hf
            subst c24
            intro hl hf
            have hl : lv_has ls 13 [(11, va_rf q22), (7, .ref a14), (9, .int ((lx8 - 1) &&& p1)), (0, .ref a0), (1, .int p1), (2, .ref a25), (3, va_rf lq3), (4, .int p4), (5, .int p5), (6, .ref la6), (8, .int lx8)] := hl
            refine lv_aload_n hx hb dJ5_putVal_88 rfl (lv_at hl 5 rfl) ?_
            refine h_aload (o := q22) hx hb dJ5_putVal_89 (lv_at hl 0 rfl) ?_
            refine h_ki X hI (by rcases hf with ⟨_, _, hO, hf⟩ | ⟨_, _, hO, hf⟩; exact h_runU (As := [va_rf q22]) X hI (h_recv X hI hO (show jC.1[13]? = some (RX13, TX13, 2) from rfl)) (mhX13_equals l Z D j Λ fr lo E a25 q22 G _ hf H.size) (cwA (owner := "java/lang/Object") 1 hts q1276 q1278 q1286 q1287 q214 q1288 (E.nw X q1275 rfl) rfl rfl (by decide +kernel) (by show fr + 1 + 1 ≤ fr + 7 ∧ 8 + (3 + 11) + (lo + 40) ≤ lo + 215; omega)) rfl hl.1 (Nat.le_of_ble_eq_true rfl) dJ5_putVal_91 ⟨hm0 hm.1, hm0 hm.2⟩ rfl; exact h_runU (As := [va_rf q22]) X hI (h_recv X hI hO (show jC.1[20]? = some (RJ8, TJ8, 4) from rfl)) (mhJ8_equals l Z D j Λ fr lo E a25 q22 G _ hf H.size) (cwA (owner := "java/lang/Object") 1 hts q1276 q1278 q1308 q1309 q184 q1310 (E.nw X q1275 rfl) rfl rfl (by decide +kernel) (by show fr + 2 + 1 ≤ fr + 7 ∧ 8 + (3 + 11) + (lo + 62) ≤ lo + 215; omega)) rfl hl.1 (Nat.le_of_ble_eq_true rfl) dJ5_putVal_91 ⟨hm0 hm.1, hm0 hm.2⟩ rfl) (fun x26 G27 H locs hf hI => ?_)
            refine lv_if_eq (tgt := 104) hx hb dJ5_putVal_94 (by decide) (fun c28 => ?_) (fun c28 => ?_)
            · have hf := hf.1 c28
              exact J104 (some a25) lq3 la6 a14 mc ms G27 hf _ _ hm H locs hI ls (lv_sub hl [3, 4, 5, 6, 7, 8, 9, 1] rfl)
            · have hf := hf.2 c28
              exact J97 lq3 a14 mc ms G27 hf _ _ hm H locs hI ls (lv_sub hl [3, 6, 7, 8, 1] rfl)
    · have hf := hf.1 c13
      revert hl hf
      subst c13
      intro hl hf
      have hl : lv_has ls 13 [(7, va_rf none), (9, .int ((lx8 - 1) &&& p1)), (0, .ref a0), (1, .int p1), (2, va_rf lq2), (3, va_rf lq3), (4, .int p4), (5, .int p5), (6, .ref la6), (8, .int lx8)] := hl
      refine lv_aload hx hb dJ5_putVal_47 (lv_at hl 8 rfl) ?_
      refine lv_iload hx hb dJ5_putVal_49 (lv_at hl 1 rfl) ?_
      refine lv_aload_n hx hb dJ5_putVal_51 rfl (lv_at hl 2 rfl) ?_
      refine lv_iload_n hx hb dJ5_putVal_52 rfl (lv_at hl 3 rfl) ?_
      refine h_aload_n (o := lq2) hx hb dJ5_putVal_53 rfl (lv_at hl 4 rfl) ?_
      refine h_aload_n (o := lq3) hx hb dJ5_putVal_54 rfl (lv_at hl 5 rfl) ?_
      refine lv_null hx hb dJ5_putVal_55 ?_
      obtain ⟨_, _, hO, hf⟩ := hf
      obtain ⟨m15, m16, hb1, hb2, hf⟩ := hf
      refine h_kq X hI (h_runV (As := [.int p1, va_rf lq2, va_rf lq3, va_rf none]) X hI (h_recv X hI hO (show jC.1[16]? = some (RJ5, TJ5, 8) from rfl)) (mhJ5_newNode l Z D j Λ fr lo E a0 p1 lq2 lq3 none m15 m16 G _ hf H.size) (cwV 4 hts (lw_V q1271 q1272 q1273 q181 q1274) rfl rfl rfl (by decide +kernel) (by show fr + 2 + 1 ≤ fr + 7 ∧ 8 + (5 + 11) + (lo + 64) ≤ lo + 215; omega)) rfl hl.1 (Nat.le_of_ble_eq_true rfl) dJ5_putVal_56 ⟨hmA hm.1 hb1, hmA hm.2 hb2⟩ rfl) (fun q18 G17 H locs hf hI => ?_)
      have hm := And.intro (hmB hm.1 hb1) (hmB hm.2 hb2)
      clear hb1 hb2
      clear hO
      refine hr_qst (v := q18) X hI (jOk_asg (E.w X)) hf dJ5_putVal_59 (fun G19 H locs hf hI => ?_)
      refine lv_goto (tgt := 259) hx hb dJ5_putVal_60 (by decide) ?_
      exact J259 (mc - m15) (ms - m16) G19 hf _ _ hm H locs hI ls (lv_sub hl [2, 7] rfl)
  have J19 : ∀ (lq2 : Option Nat) (lq3 : Option Nat) (mc ms : Nat) (G : HG), hJ5_putVal_b19 j Λ a0 p1 p4 p5 post lq2 lq3 mc ms G → ∀ (cells slots : Nat), cells + mc ≤ MC ∧ slots + ms ≤ MS → ∀ (H : Heap) (locs : List Loc), HI D jC G A0 s.heap H locs → ∀ (ls : Array Slot), lv_has ls 13 [(0, .ref a0), (1, .int p1), (2, va_rf lq2), (3, va_rf lq3), (4, .int p4), (5, .int p5)] → W p l e (rhJ5_putVal fr lo MC MS) s m args below meth c H locs cells slots Q (F0 m 19 ls []) := by
    intro lq2 lq3 mc ms G hf cells slots hm H locs hI ls hl
    unfold hJ5_putVal_b19 at hf
    refine lv_aload_n hx hb dJ5_putVal_19 rfl (lv_at hl 0 rfl) ?_
    obtain ⟨_, _, hO, hf⟩ := hf
    obtain ⟨m6, m7, hb1, hb2, hf⟩ := hf
    refine h_kq X hI (h_runV (As := []) X hI (h_recv X hI hO (show jC.1[16]? = some (RJ5, TJ5, 8) from rfl)) (mhJ5_resize l Z D j Λ fr lo E a0 m6 m7 G _ hf H.size) (cwV 0 hts (lw_V q948 q949 q950 q181 q951) rfl rfl rfl (by decide +kernel) (by show fr + 5 + 1 ≤ fr + 7 ∧ 8 + (14 + 11) + (lo + 154) ≤ lo + 215; omega)) rfl hl.1 (Nat.le_of_ble_eq_true rfl) dJ5_putVal_20 ⟨hmA hm.1 hb1, hmA hm.2 hb2⟩ rfl) (fun q9 G8 H locs hf hI => ?_)
    have hm := And.intro (hmB hm.1 hb1) (hmB hm.2 hb2)
    clear hb1 hb2
    clear hO
    refine lv_dup hx hb dJ5_putVal_23 (h_catq _) ?_
    refine h_astore (o := q9) (lv' := [(6, va_rf q9), (0, .ref a0), (1, .int p1), (2, va_rf lq2), (3, va_rf lq3), (4, .int p4), (5, .int p5)]) hx hb dJ5_putVal_24 hl (by decide) rfl (fun ls hl => ?_)
    obtain ⟨a10, ea10, hf⟩ := hf
    revert hl hf
    subst ea10
    intro hl hf
    have hl : lv_has ls 13 [(6, .ref a10), (0, .ref a0), (1, .int p1), (2, va_rf lq2), (3, va_rf lq3), (4, .int p4), (5, .int p5)] := hl
    refine hr_aln X hI hf dJ5_putVal_26 (fun x11 hf => ?_)
    refine lv_istore (lv' := [(8, .int x11), (6, .ref a10), (0, .ref a0), (1, .int p1), (2, va_rf lq2), (3, va_rf lq3), (4, .int p4), (5, .int p5)]) hx hb dJ5_putVal_27 hl (by decide) rfl (fun ls hl => ?_)
    exact J29 lq2 lq3 a10 x11 (mc - m6) (ms - m7) G8 hf _ _ hm H locs hI ls (lv_sub hl [2, 3, 4, 5, 6, 7, 1, 0] rfl)
  have hl : lv_has ls 13 [(0, .ref a0), (1, .int p1), (2, va_rf q2_), (3, va_rf q3_), (4, .int p4), (5, .int p5)] := by cases q2_ <;> cases q3_ <;> exact hl
  unfold hJ5_putVal at hf
  obtain ⟨H, eH⟩ : ∃ H, H = s.heap := ⟨_, rfl⟩
  obtain ⟨locs, eL⟩ : ∃ locs : List Loc, locs = [] := ⟨_, rfl⟩
  have hI : HI D jC G A0 s.heap H locs := by rw [eH, eL]; exact hI
  rw [← eL]
  obtain ⟨cells, eC⟩ : ∃ n : Nat, n = 0 := ⟨_, rfl⟩
  obtain ⟨slots, eS⟩ : ∃ n : Nat, n = 0 := ⟨_, rfl⟩
  have hm : cells + mc ≤ MC ∧ slots + ms ≤ MS := by rw [eC, eS]; exact hm0_
  suffices h : W p l e (rhJ5_putVal fr lo MC MS) s m args below meth c H locs cells slots Q (F0 m 0 ls []) by rw [eH, eC, eS] at h; exact h
  clear eH eL eC eS
  refine lv_aload_n hx hb dJ5_putVal_0 rfl (lv_at hl 0 rfl) ?_
  refine hr_gtQ X hI (rfl : jC.1[16]? = some (RJ5, TJ5, 8)) in_J5 2 (Nat.le_of_ble_eq_true rfl) hf q747 (fun _ h => h) dJ5_putVal_1 (fun q1 hf => ?_)
  refine lv_dup hx hb dJ5_putVal_4 (h_catq _) ?_
  refine h_astore (o := q1) (lv' := [(6, va_rf q1), (0, .ref a0), (1, .int p1), (2, va_rf q2_), (3, va_rf q3_), (4, .int p4), (5, .int p5)]) hx hb dJ5_putVal_5 hl (by decide) rfl (fun ls hl => ?_)
  refine h_ifnull (tgt := 19) hx hb dJ5_putVal_7 (by decide) (fun c2 => ?_) (fun a3 c2 => ?_)
  · have hf := hf.1 c2
    revert hl hf
    subst c2
    intro hl hf
    have hl : lv_has ls 13 [(6, va_rf none), (0, .ref a0), (1, .int p1), (2, va_rf q2_), (3, va_rf q3_), (4, .int p4), (5, .int p5)] := hl
    exact J19 q2_ q3_ mc ms G hf _ _ hm H locs hI ls (lv_sub hl [1, 2, 3, 4, 5, 6] rfl)
  · have hf := hf.2 a3 c2
    revert hl hf
    subst c2
    intro hl hf
    have hl : lv_has ls 13 [(6, .ref a3), (0, .ref a0), (1, .int p1), (2, va_rf q2_), (3, va_rf q3_), (4, .int p4), (5, .int p5)] := hl
    refine lv_aload hx hb dJ5_putVal_10 (lv_at hl 0 rfl) ?_
    refine hr_aln X hI hf dJ5_putVal_12 (fun x4 hf => ?_)
    refine lv_dup hx hb dJ5_putVal_13 rfl ?_
    refine lv_istore (lv' := [(8, .int x4), (6, .ref a3), (0, .ref a0), (1, .int p1), (2, va_rf q2_), (3, va_rf q3_), (4, .int p4), (5, .int p5)]) hx hb dJ5_putVal_14 hl (by decide) rfl (fun ls hl => ?_)
    refine lv_if_ne (tgt := 29) hx hb dJ5_putVal_16 (by decide) (fun c5 => ?_) (fun c5 => ?_)
    · have hf := hf.2 c5
      exact J29 q2_ q3_ a3 x4 mc ms G hf _ _ hm H locs hI ls (lv_sub hl [2, 3, 4, 5, 6, 7, 1, 0] rfl)
    · have hf := hf.1 c5
      exact J19 q2_ q3_ mc ms G hf _ _ hm H locs hI ls (lv_sub hl [2, 3, 4, 5, 6, 7] rfl)
