/-! THE COMPONENT as transformers over its heap, and the walks (printed by gen/genh.py) -/
/-! java/lang/StringLatin1.fillNull([BII)V -/
def hJ16_fillNull (j : JX) (Λ : JLam) (q0_ : Option Nat) (p1 : Int32) (p2 : Int32) (mc ms : Nat) (G : HG) (post : HG → Prop) : Prop :=
  ∃ m1 m2 : Nat, m1 ≤ mc ∧ m2 ≤ ms ∧ hJ26_fill j Λ q0_ p1 p2 (0 : Int32) m1 m2 G fun G3 => post G3
abbrev rhJ16_fillNull (fr lo mc ms : Nat) : Room := { frames := fr + 3, cells := mc, slots := ms, locals := lo + 86 }
theorem mhJ16_fillNull (l : Launch) (Z : (Nat → Prop) → State → Heap → Prop) (D : va_G) (j : JX) (Λ : JLam) (fr lo : Nat) (E : JE l Z D j Λ fr lo) (q0_ : Option Nat) (p1 : Int32) (p2 : Int32) (mc ms : Nat) (G : HG) (post : HG → Prop) (hf : hJ16_fillNull j Λ q0_ p1 p2 mc ms G post) : HMv l yJ16_fillNull (ws_ yJ16_fillNull cJ16_fillNull 3 none) (rhJ16_fillNull fr lo mc ms) D jC (jty j.1) Z G [va_rf q0_, .int p1, .int p2] post mc ms := by
  obtain ⟨MC, eMC⟩ : ∃ MC, MC = mc := ⟨_, rfl⟩
  obtain ⟨MS, eMS⟩ : ∃ MS, MS = ms := ⟨_, rfl⟩
  suffices goal : HMv l yJ16_fillNull (ws_ yJ16_fillNull cJ16_fillNull 3 none) (rhJ16_fillNull fr lo MC MS) D jC (jty j.1) Z G [va_rf q0_, .int p1, .int p2] post MC MS by rw [eMC, eMS] at goal; exact goal
  have hm0_ : 0 + mc ≤ MC ∧ 0 + ms ≤ MS := by omega
  clear eMC eMS
  refine h_openv E.1 (by decide) (by cases q0_ <;> exact Nat.le_of_ble_eq_true rfl) (fun p e s m args below meth c ls A0 Q X hI hnd hnm hl hret => ?_)
  have X : XC p s m args meth c cJ16_fillNull 3 RJ16 D jC (jty j.1) A0 Z := X
  have hx := X.1
  have hb := X.2.1
  have hown := X.2.2.2.1
  have hts := X.2.2.2.2.1
  have hl : lv_has ls 3 [(0, va_rf q0_), (1, .int p1), (2, .int p2)] := by cases q0_ <;> exact hl
  unfold hJ16_fillNull at hf
  obtain ⟨H, eH⟩ : ∃ H, H = s.heap := ⟨_, rfl⟩
  obtain ⟨locs, eL⟩ : ∃ locs : List Loc, locs = [] := ⟨_, rfl⟩
  have hI : HI D jC G A0 s.heap H locs := by rw [eH, eL]; exact hI
  rw [← eL]
  obtain ⟨cells, eC⟩ : ∃ n : Nat, n = 0 := ⟨_, rfl⟩
  obtain ⟨slots, eS⟩ : ∃ n : Nat, n = 0 := ⟨_, rfl⟩
  have hm : cells + mc ≤ MC ∧ slots + ms ≤ MS := by rw [eC, eS]; exact hm0_
  suffices h : W p l e (rhJ16_fillNull fr lo MC MS) s m args below meth c H locs cells slots Q (F0 m 0 ls []) by rw [eH, eC, eS] at h; exact h
  clear eH eL eC eS
  refine h_aload_n (o := q0_) hx hb dJ16_fillNull_0 rfl (lv_at hl 0 rfl) ?_
  refine lv_iload_n hx hb dJ16_fillNull_1 rfl (lv_at hl 1 rfl) ?_
  refine lv_iload_n hx hb dJ16_fillNull_2 rfl (lv_at hl 2 rfl) ?_
  refine lv_iconst (v := 0) hx hb dJ16_fillNull_3 (by decide) ?_
  obtain ⟨m1, m2, hb1, hb2, hf⟩ := hf
  refine h_kv X hI (h_runS (As := [va_rf q0_, .int p1, .int p2, .int 0]) X hI (mhJ26_fill l Z D j Λ fr lo E q0_ p1 p2 (0 : Int32) m1 m2 G _ hf H.size) (va_cwS 4 hts (lw_S q1600 q1601 q204 q1602) rfl rfl rfl (by decide +kernel) (by show fr + 2 + 1 ≤ fr + 3 ∧ 8 + (5 + 11) + (lo + 62) ≤ lo + 86; omega)) rfl hl.1 (Nat.le_of_ble_eq_true rfl) dJ16_fillNull_4 ⟨hmA hm.1 hb1, hmA hm.2 hb2⟩ rfl) (fun G3 H locs hf hI => ?_)
  have hm := And.intro (hmB hm.1 hb1) (hmB hm.2 hb2)
  clear hb1 hb2
  exact hret hf hI dJ16_fillNull_7 (hmC hm.1) (hmC hm.2)
/-! jdk/internal/util/Preconditions.checkIndex(IILjava/util/function/BiFunction;)I -/
def hJ21_checkIndex_b9 (j : JX) (Λ : JLam) (p0 : Int32) (p1 : Int32) (post : Int32 → HG → Prop) (lq2 : Option Nat) (G : HG) : Prop :=
  False
def hJ21_checkIndex (j : JX) (Λ : JLam) (p0 : Int32) (p1 : Int32) (q2_ : Option Nat) (G : HG) (post : Int32 → HG → Prop) : Prop :=
  (p0 < 0 → (hJ21_checkIndex_b9 j Λ p0 p1 post q2_ G)) ∧ (¬ p0 < 0 → ((p0 < p1 → (post p0 G)) ∧ (¬ p0 < p1 → (hJ21_checkIndex_b9 j Λ p0 p1 post q2_ G))))
abbrev rhJ21_checkIndex (fr lo : Nat) : Room := { frames := fr + 1, cells := 0, slots := 0, locals := lo + 40 }
theorem mhJ21_checkIndex (l : Launch) (Z : (Nat → Prop) → State → Heap → Prop) (D : va_G) (j : JX) (Λ : JLam) (fr lo : Nat) (E : JE l Z D j Λ fr lo) (p0 : Int32) (p1 : Int32) (q2_ : Option Nat) (G : HG) (post : Int32 → HG → Prop) (hf : hJ21_checkIndex j Λ p0 p1 q2_ G post) : HMi l yJ21_checkIndex (ws_ yJ21_checkIndex cJ21_checkIndex 3 (some .int)) (rhJ21_checkIndex fr lo) D jC (jty j.1) Z G [.int p0, .int p1, va_rf q2_] post 0 0 := by
  refine h_openi E.1 (by decide) (by cases q2_ <;> exact Nat.le_of_ble_eq_true rfl) (fun p e s m args below meth c ls A0 Q X hI hnd hnm hl hret => ?_)
  have X : XC p s m args meth c cJ21_checkIndex 3 RJ21 D jC (jty j.1) A0 Z := X
  have hx := X.1
  have hb := X.2.1
  have hown := X.2.2.2.1
  have hts := X.2.2.2.2.1
  have J9 : ∀ (lq2 : Option Nat) (G : HG), hJ21_checkIndex_b9 j Λ p0 p1 post lq2 G → ∀ (H : Heap) (locs : List Loc), HI D jC G A0 s.heap H locs → ∀ (ls : Array Slot), lv_has ls 3 [(0, .int p0), (1, .int p1), (2, va_rf lq2)] → W p l e (rhJ21_checkIndex fr lo) s m args below meth c H locs 0 0 Q (F0 m 9 ls []) := by
    intro lq2 G hf H locs hI ls hl
    unfold hJ21_checkIndex_b9 at hf
    exact hf.elim
  have hl : lv_has ls 3 [(0, .int p0), (1, .int p1), (2, va_rf q2_)] := by cases q2_ <;> exact hl
  unfold hJ21_checkIndex at hf
  obtain ⟨H, eH⟩ : ∃ H, H = s.heap := ⟨_, rfl⟩
  obtain ⟨locs, eL⟩ : ∃ locs : List Loc, locs = [] := ⟨_, rfl⟩
  have hI : HI D jC G A0 s.heap H locs := by rw [eH, eL]; exact hI
  rw [← eL]
  suffices h : W p l e (rhJ21_checkIndex fr lo) s m args below meth c H locs 0 0 Q (F0 m 0 ls []) by rw [eH] at h; exact h
  clear eH eL
  refine lv_iload_n hx hb dJ21_checkIndex_0 rfl (lv_at hl 0 rfl) ?_
  refine lv_if_lt (tgt := 9) hx hb dJ21_checkIndex_1 (by decide) (fun c1 => ?_) (fun c1 => ?_)
  · have hf := hf.1 c1
    exact J9 q2_ G hf H locs hI ls (lv_sub hl [0, 1, 2] rfl)
  · have hf := hf.2 c1
    refine lv_iload_n hx hb dJ21_checkIndex_4 rfl (lv_at hl 0 rfl) ?_
    refine lv_iload_n hx hb dJ21_checkIndex_5 rfl (lv_at hl 1 rfl) ?_
    refine lv_icmp_lt (tgt := 16) hx hb dJ21_checkIndex_6 (by decide) (fun c2 => ?_) (fun c2 => ?_)
    · have hf := hf.1 c2
      refine lv_iload_n hx hb dJ21_checkIndex_16 rfl (lv_at hl 0 rfl) ?_
      exact hret hf hI dJ21_checkIndex_17 (Nat.le_refl _) (Nat.le_refl _)
    · have hf := hf.2 c2
      exact J9 q2_ G hf H locs hI ls (lv_sub hl [0, 1, 2] rfl)
/-! java/lang/String.checkIndex(II)V -/
def hJ8_checkIndex (j : JX) (Λ : JLam) (p0 : Int32) (p1 : Int32) (G : HG) (post : HG → Prop) : Prop :=
  hJ21_checkIndex j Λ p0 p1 (some (j.2 44)) G fun x2 G1 => post G1
abbrev rhJ8_checkIndex (fr lo : Nat) : Room := { frames := fr + 2, cells := 0, slots := 0, locals := lo + 62 }
theorem mhJ8_checkIndex (l : Launch) (Z : (Nat → Prop) → State → Heap → Prop) (D : va_G) (j : JX) (Λ : JLam) (fr lo : Nat) (E : JE l Z D j Λ fr lo) (p0 : Int32) (p1 : Int32) (G : HG) (post : HG → Prop) (hf : hJ8_checkIndex j Λ p0 p1 G post) : HMv l yJ8_checkIndex (ws_ yJ8_checkIndex cJ8_checkIndex 2 none) (rhJ8_checkIndex fr lo) D jC (jty j.1) Z G [.int p0, .int p1] post 0 0 := by
  refine h_openv E.1 (by decide) (by exact Nat.le_of_ble_eq_true rfl) (fun p e s m args below meth c ls A0 Q X hI hnd hnm hl hret => ?_)
  have X : XC p s m args meth c cJ8_checkIndex 2 RJ8 D jC (jty j.1) A0 Z := X
  have hx := X.1
  have hb := X.2.1
  have hown := X.2.2.2.1
  have hts := X.2.2.2.2.1
  have hl : lv_has ls 2 [(0, .int p0), (1, .int p1)] := by exact hl
  unfold hJ8_checkIndex at hf
  obtain ⟨H, eH⟩ : ∃ H, H = s.heap := ⟨_, rfl⟩
  obtain ⟨locs, eL⟩ : ∃ locs : List Loc, locs = [] := ⟨_, rfl⟩
  have hI : HI D jC G A0 s.heap H locs := by rw [eH, eL]; exact hI
  rw [← eL]
  suffices h : W p l e (rhJ8_checkIndex fr lo) s m args below meth c H locs 0 0 Q (F0 m 0 ls []) by rw [eH] at h; exact h
  clear eH eL
  refine lv_iload_n hx hb dJ8_checkIndex_0 rfl (lv_at hl 0 rfl) ?_
  refine lv_iload_n hx hb dJ8_checkIndex_1 rfl (lv_at hl 1 rfl) ?_
  refine va_gets (v := .ref (j.2 44)) hx hb ((E.z X).2.2.1 _ (List.mem_of_getElem? (show jStR[4]? = some _ from rfl))) hI.2 hown (hts _ q1244) (fun _ h => h) dJ8_checkIndex_2 ?_
  refine h_ki X hI (h_runS (As := [.int p0, .int p1, va_rf (some (j.2 44))]) X hI (mhJ21_checkIndex l Z D j Λ fr lo E p0 p1 (some (j.2 44)) G _ hf H.size) (va_cwS 3 hts (lw_S q1639 q1640 q199 q1641) rfl rfl rfl (by decide +kernel) (by show fr + 1 + 1 ≤ fr + 2 ∧ 8 + (3 + 11) + (lo + 40) ≤ lo + 62; omega)) rfl hl.1 (Nat.le_of_ble_eq_true rfl) dJ8_checkIndex_5 ⟨Nat.le_refl _, Nat.le_refl _⟩ rfl) (fun x2 G1 H locs hf hI => ?_)
  refine lv_pop hx hb dJ8_checkIndex_8 rfl ?_
  exact hret hf hI dJ8_checkIndex_9 (Nat.le_refl _) (Nat.le_refl _)
/-! java/lang/StringLatin1.charAt([BI)C -/
def hJ16_charAt (j : JX) (Λ : JLam) (q0_ : Option Nat) (p1 : Int32) (G : HG) (post : Int32 → HG → Prop) : Prop :=
  nnq q0_ fun a1 => aln (jty j.1) G a1 fun x2 => hJ8_checkIndex j Λ p1 x2 G fun G3 => ldI G3 a1 (j.1 2) p1 fun x4 => narrow .char (.int (((x4 &&& 255).toUInt32 % 65536).toInt32)) = .int (((x4 &&& 255).toUInt32 % 65536).toInt32) ∧ post (((x4 &&& 255).toUInt32 % 65536).toInt32) G3
abbrev rhJ16_charAt (fr lo : Nat) : Room := { frames := fr + 3, cells := 0, slots := 0, locals := lo + 83 }
theorem mhJ16_charAt (l : Launch) (Z : (Nat → Prop) → State → Heap → Prop) (D : va_G) (j : JX) (Λ : JLam) (fr lo : Nat) (E : JE l Z D j Λ fr lo) (q0_ : Option Nat) (p1 : Int32) (G : HG) (post : Int32 → HG → Prop) (hf : hJ16_charAt j Λ q0_ p1 G post) : HMi l yJ16_charAt (ws_ yJ16_charAt cJ16_charAt 2 (some .char)) (rhJ16_charAt fr lo) D jC (jty j.1) Z G [va_rf q0_, .int p1] post 0 0 := by
  refine h_openz E.1 (by decide) (by cases q0_ <;> exact Nat.le_of_ble_eq_true rfl) (fun p e s m args below meth c ls A0 Q X hI hnd hnm hl hret => ?_)
  have X : XC p s m args meth c cJ16_charAt 2 RJ16 D jC (jty j.1) A0 Z := X
  have hx := X.1
  have hb := X.2.1
  have hown := X.2.2.2.1
  have hts := X.2.2.2.2.1
  have hl : lv_has ls 2 [(0, va_rf q0_), (1, .int p1)] := by cases q0_ <;> exact hl
  unfold hJ16_charAt at hf
  obtain ⟨H, eH⟩ : ∃ H, H = s.heap := ⟨_, rfl⟩
  obtain ⟨locs, eL⟩ : ∃ locs : List Loc, locs = [] := ⟨_, rfl⟩
  have hI : HI D jC G A0 s.heap H locs := by rw [eH, eL]; exact hI
  rw [← eL]
  suffices h : W p l e (rhJ16_charAt fr lo) s m args below meth c H locs 0 0 Q (F0 m 0 ls []) by rw [eH] at h; exact h
  clear eH eL
  refine lv_iload_n hx hb dJ16_charAt_0 rfl (lv_at hl 1 rfl) ?_
  refine h_aload_n (o := q0_) hx hb dJ16_charAt_1 rfl (lv_at hl 0 rfl) ?_
  obtain ⟨a1, ea1, hf⟩ := hf
  revert hl hf
  subst ea1
  intro hl hf
  have hl : lv_has ls 2 [(0, .ref a1), (1, .int p1)] := hl
  refine hr_aln X hI hf dJ16_charAt_2 (fun x2 hf => ?_)
  refine h_kv X hI (h_runS (As := [.int p1, .int x2]) X hI (mhJ8_checkIndex l Z D j Λ fr lo E p1 x2 G _ hf H.size) (va_cwS 2 hts (lw_S q2860 q1637 q184 q1638) rfl rfl rfl (by decide +kernel) (by show fr + 2 + 1 ≤ fr + 3 ∧ 8 + (2 + 11) + (lo + 62) ≤ lo + 83; omega)) rfl hl.1 (Nat.le_of_ble_eq_true rfl) dJ16_charAt_3 ⟨Nat.le_refl _, Nat.le_refl _⟩ rfl) (fun G3 H locs hf hI => ?_)
  refine lv_aload_n hx hb dJ16_charAt_6 rfl (lv_at hl 0 rfl) ?_
  refine lv_iload_n hx hb dJ16_charAt_7 rfl (lv_at hl 1 rfl) ?_
  refine hr_bld X hI 2 rfl hf dJ16_charAt_8 (fun x4 hf => ?_)
  refine lv_sipush (v := 255) hx hb dJ16_charAt_9 (by decide) ?_
  refine lv_iand hx hb dJ16_charAt_12 ?_
  refine lv_i2c hx hb dJ16_charAt_13 rfl ?_
  obtain ⟨hz, hf⟩ := hf
  exact hret hz hf hI dJ16_charAt_14 (Nat.le_refl _) (Nat.le_refl _)
/-! java/util/HashMap$Node.<init>(ILjava/lang/Object;Ljava/lang/Object;Ljava/util/HashMap$Node;)V -/
def hJ18_init (j : JX) (Λ : JLam) (a0 : Nat) (p1 : Int32) (q2_ : Option Nat) (q3_ : Option Nat) (q4_ : Option Nat) (G : HG) (post : HG → Prop) : Prop :=
  p2V G a0 0 (.int p1) fun G1 => p2V G1 a0 1 (va_rf q2_) fun G2 => p2V G2 a0 2 (va_rf q3_) fun G3 => p2V G3 a0 3 (va_rf q4_) fun G4 => post G4
abbrev rhJ18_init (fr lo : Nat) : Room := { frames := fr + 1, cells := 0, slots := 0, locals := lo + 40 }
theorem mhJ18_init (l : Launch) (Z : (Nat → Prop) → State → Heap → Prop) (D : va_G) (j : JX) (Λ : JLam) (fr lo : Nat) (E : JE l Z D j Λ fr lo) (a0 : Nat) (p1 : Int32) (q2_ : Option Nat) (q3_ : Option Nat) (q4_ : Option Nat) (G : HG) (post : HG → Prop) (hf : hJ18_init j Λ a0 p1 q2_ q3_ q4_ G post) : HMv l yJ18_init (ws_ yJ18_init cJ18_init 5 none) (rhJ18_init fr lo) D jC (jty j.1) Z G [.ref a0, .int p1, va_rf q2_, va_rf q3_, va_rf q4_] post 0 0 := by
  refine h_openv E.1 (by decide) (by cases q2_ <;> cases q3_ <;> cases q4_ <;> exact Nat.le_of_ble_eq_true rfl) (fun p e s m args below meth c ls A0 Q X hI hnd hnm hl hret => ?_)
  have X : XC p s m args meth c cJ18_init 5 RJ18 D jC (jty j.1) A0 Z := X
  have hx := X.1
  have hb := X.2.1
  have hown := X.2.2.2.1
  have hts := X.2.2.2.2.1
  have hl : lv_has ls 5 [(0, .ref a0), (1, .int p1), (2, va_rf q2_), (3, va_rf q3_), (4, va_rf q4_)] := by cases q2_ <;> cases q3_ <;> cases q4_ <;> exact hl
  unfold hJ18_init at hf
  obtain ⟨H, eH⟩ : ∃ H, H = s.heap := ⟨_, rfl⟩
  obtain ⟨locs, eL⟩ : ∃ locs : List Loc, locs = [] := ⟨_, rfl⟩
  have hI : HI D jC G A0 s.heap H locs := by rw [eH, eL]; exact hI
  rw [← eL]
  suffices h : W p l e (rhJ18_init fr lo) s m args below meth c H locs 0 0 Q (F0 m 0 ls []) by rw [eH] at h; exact h
  clear eH eL
  refine lv_aload_n hx hb dJ18_init_0 rfl (lv_at hl 0 rfl) ?_
  refine W.objInit hx hb hown (hts _ q975) (hts _ q247) (hts _ q248) rfl (by rw [X.2.2.1]; exact hl.1) rfl dJ18_init_1 (by show 1 ≤ fr + 1; omega) (Nat.le_trans (m := 40) (Nat.le_of_ble_eq_true rfl) (by show 40 ≤ lo + 40; omega)) ?_
  show W p l e _ s m args below meth c H locs _ _ Q (F0 m 4 ls [])
  refine lv_aload_n hx hb dJ18_init_4 rfl (lv_at hl 0 rfl) ?_
  refine lv_iload_n hx hb dJ18_init_5 rfl (lv_at hl 1 rfl) ?_
  refine hr_p2F X hI 0 (Nat.le_of_ble_eq_true rfl) hf rfl rfl q976 (fun _ h => h) rfl hnm rfl rfl rfl dJ18_init_6 (fun G1 H locs hf hI => ?_)
  refine lv_aload_n hx hb dJ18_init_9 rfl (lv_at hl 0 rfl) ?_
  refine h_aload_n (o := q2_) hx hb dJ18_init_10 rfl (lv_at hl 2 rfl) ?_
  refine hr_p2F X hI 1 (Nat.le_of_ble_eq_true rfl) hf rfl rfl q980 (fun _ h => h) rfl hnm rfl (nar_o _ _) (fit_o _ _) dJ18_init_11 (fun G2 H locs hf hI => ?_)
  refine lv_aload_n hx hb dJ18_init_14 rfl (lv_at hl 0 rfl) ?_
  refine h_aload_n (o := q3_) hx hb dJ18_init_15 rfl (lv_at hl 3 rfl) ?_
  refine hr_p2V X hI 2 (Nat.le_of_ble_eq_true rfl) hf rfl rfl q984 (fun _ h => h) rfl (nar_o _ _) (fit_o _ _) dJ18_init_16 (fun G3 H locs hf hI => ?_)
  refine lv_aload_n hx hb dJ18_init_19 rfl (lv_at hl 0 rfl) ?_
  refine h_aload (o := q4_) hx hb dJ18_init_20 (lv_at hl 4 rfl) ?_
  refine hr_p2V X hI 3 (Nat.le_of_ble_eq_true rfl) hf rfl rfl q986 (fun _ h => h) rfl (nar_o _ _) (fit_o _ _) dJ18_init_22 (fun G4 H locs hf hI => ?_)
  exact hret hf hI dJ18_init_25 (Nat.le_refl _) (Nat.le_refl _)
/-! java/util/ArrayList.<init>()V -/
def hJ2_init_2 (j : JX) (Λ : JLam) (a0 : Nat) (G : HG) (post : HG → Prop) : Prop :=
  hJ1_init j Λ a0 G fun G1 => ptV G1 a0 15 1 (.ref (j.2 41)) fun G2 => post G2
abbrev rhJ2_init_2 (fr lo : Nat) : Room := { frames := fr + 3, cells := 0, slots := 0, locals := lo + 80 }
theorem mhJ2_init_2 (l : Launch) (Z : (Nat → Prop) → State → Heap → Prop) (D : va_G) (j : JX) (Λ : JLam) (fr lo : Nat) (E : JE l Z D j Λ fr lo) (a0 : Nat) (G : HG) (post : HG → Prop) (hf : hJ2_init_2 j Λ a0 G post) : HMv l yJ2_init_2 (ws_ yJ2_init_2 cJ2_init_2 1 none) (rhJ2_init_2 fr lo) D jC (jty j.1) Z G [.ref a0] post 0 0 := by
  refine h_openv E.1 (by decide) (by exact Nat.le_of_ble_eq_true rfl) (fun p e s m args below meth c ls A0 Q X hI hnd hnm hl hret => ?_)
  have X : XC p s m args meth c cJ2_init_2 1 RJ2 D jC (jty j.1) A0 Z := X
  have hx := X.1
  have hb := X.2.1
  have hown := X.2.2.2.1
  have hts := X.2.2.2.2.1
  have hl : lv_has ls 1 [(0, .ref a0)] := by exact hl
  unfold hJ2_init_2 at hf
  obtain ⟨H, eH⟩ : ∃ H, H = s.heap := ⟨_, rfl⟩
  obtain ⟨locs, eL⟩ : ∃ locs : List Loc, locs = [] := ⟨_, rfl⟩
  have hI : HI D jC G A0 s.heap H locs := by rw [eH, eL]; exact hI
  rw [← eL]
  suffices h : W p l e (rhJ2_init_2 fr lo) s m args below meth c H locs 0 0 Q (F0 m 0 ls []) by rw [eH] at h; exact h
  clear eH eL
  refine lv_aload_n hx hb dJ2_init_2_0 rfl (lv_at hl 0 rfl) ?_
  refine h_kv X hI (h_runI (As := []) X hI (mhJ1_init l Z D j Λ fr lo E a0 G _ hf H.size) (cwIn 0 hts q448 q449 q171 q450 rfl rfl rfl (by decide +kernel) (by show fr + 2 + 1 ≤ fr + 3 ∧ 8 + (1 + 11) + (lo + 60) ≤ lo + 80; omega)) rfl hl.1 (Nat.le_of_ble_eq_true rfl) dJ2_init_2_1 ⟨Nat.le_refl _, Nat.le_refl _⟩ rfl) (fun G1 H locs hf hI => ?_)
  refine lv_aload_n hx hb dJ2_init_2_4 rfl (lv_at hl 0 rfl) ?_
  refine va_gets (v := .ref (j.2 41)) hx hb ((E.z X).2.2.1 _ (List.mem_of_getElem? (show jStR[1]? = some _ from rfl))) hI.2 hown (hts _ q474) (fun _ h => h) dJ2_init_2_5 ?_
  refine hr_pt X hI (rfl : jC.1[15]? = some (RJ2, TJ2, 3)) in_J2 1 (Nat.le_of_ble_eq_true rfl) tyJ2 tyJ2_ok nmJ2 hf q459 (fun _ h => h) rfl rfl rfl dJ2_init_2_8 (fun G2 H locs hf hI => ?_)
  exact hret hf hI dJ2_init_2_11 (Nat.le_refl _) (Nat.le_refl _)
/-! java/util/ArrayList.<init>(I)V -/
def hJ2_init (j : JX) (Λ : JLam) (a0 : Nat) (p1 : Int32) (mc ms : Nat) (G : HG) (post : HG → Prop) : Prop :=
  hJ1_init j Λ a0 G fun G1 => (p1 ≤ 0 → ((p1 = 0 → (ptV G1 a0 15 1 (.ref (j.2 40)) fun G4 => post G4)) ∧ (¬ p1 = 0 → (False)))) ∧ (¬ p1 ≤ 0 → (1 ≤ mc ∧ p1.toNatClampNeg ≤ ms ∧ (¬ p1 < 0 ∧ p1.toNatClampNeg ≤ 65536 ∧ mkO G1 (.inl (j.1 10, p1.toNatClampNeg, .inr (.inr (.inr (.inr (fun _ => none)))))) fun a5 G6 => ptV G6 a0 15 1 (.ref a5) fun G7 => post G7)))
abbrev rhJ2_init (fr lo mc ms : Nat) : Room := { frames := fr + 3, cells := mc, slots := ms, locals := lo + 80 }
theorem mhJ2_init (l : Launch) (Z : (Nat → Prop) → State → Heap → Prop) (D : va_G) (j : JX) (Λ : JLam) (fr lo : Nat) (E : JE l Z D j Λ fr lo) (a0 : Nat) (p1 : Int32) (mc ms : Nat) (G : HG) (post : HG → Prop) (hf : hJ2_init j Λ a0 p1 mc ms G post) : HMv l yJ2_init (ws_ yJ2_init cJ2_init 2 none) (rhJ2_init fr lo mc ms) D jC (jty j.1) Z G [.ref a0, .int p1] post mc ms := by
  obtain ⟨MC, eMC⟩ : ∃ MC, MC = mc := ⟨_, rfl⟩
  obtain ⟨MS, eMS⟩ : ∃ MS, MS = ms := ⟨_, rfl⟩
  suffices goal : HMv l yJ2_init (ws_ yJ2_init cJ2_init 2 none) (rhJ2_init fr lo MC MS) D jC (jty j.1) Z G [.ref a0, .int p1] post MC MS by rw [eMC, eMS] at goal; exact goal
  have hm0_ : 0 + mc ≤ MC ∧ 0 + ms ≤ MS := by omega
  clear eMC eMS
  refine h_openv E.1 (by decide) (by exact Nat.le_of_ble_eq_true rfl) (fun p e s m args below meth c ls A0 Q X hI hnd hnm hl hret => ?_)
  have X : XC p s m args meth c cJ2_init 2 RJ2 D jC (jty j.1) A0 Z := X
  have hx := X.1
  have hb := X.2.1
  have hown := X.2.2.2.1
  have hts := X.2.2.2.2.1
  have hl : lv_has ls 2 [(0, .ref a0), (1, .int p1)] := by exact hl
  unfold hJ2_init at hf
  obtain ⟨H, eH⟩ : ∃ H, H = s.heap := ⟨_, rfl⟩
  obtain ⟨locs, eL⟩ : ∃ locs : List Loc, locs = [] := ⟨_, rfl⟩
  have hI : HI D jC G A0 s.heap H locs := by rw [eH, eL]; exact hI
  rw [← eL]
  obtain ⟨cells, eC⟩ : ∃ n : Nat, n = 0 := ⟨_, rfl⟩
  obtain ⟨slots, eS⟩ : ∃ n : Nat, n = 0 := ⟨_, rfl⟩
  have hm : cells + mc ≤ MC ∧ slots + ms ≤ MS := by rw [eC, eS]; exact hm0_
  suffices h : W p l e (rhJ2_init fr lo MC MS) s m args below meth c H locs cells slots Q (F0 m 0 ls []) by rw [eH, eC, eS] at h; exact h
  clear eH eL eC eS
  refine lv_aload_n hx hb dJ2_init_0 rfl (lv_at hl 0 rfl) ?_
  refine h_kv X hI (h_runI (As := []) X hI (mhJ1_init l Z D j Λ fr lo E a0 G _ hf H.size) (cwIn 0 hts q448 q449 q171 q450 rfl rfl rfl (by decide +kernel) (by show fr + 2 + 1 ≤ fr + 3 ∧ 8 + (1 + 11) + (lo + 60) ≤ lo + 80; omega)) rfl hl.1 (Nat.le_of_ble_eq_true rfl) dJ2_init_1 ⟨hm0 hm.1, hm0 hm.2⟩ rfl) (fun G1 H locs hf hI => ?_)
  refine lv_iload_n hx hb dJ2_init_4 rfl (lv_at hl 1 rfl) ?_
  refine lv_if_le (tgt := 19) hx hb dJ2_init_5 (by decide) (fun c2 => ?_) (fun c2 => ?_)
  · have hf := hf.1 c2
    refine lv_iload_n hx hb dJ2_init_19 rfl (lv_at hl 1 rfl) ?_
    refine lv_if_ne (tgt := 33) hx hb dJ2_init_20 (by decide) (fun c3 => ?_) (fun c3 => ?_)
    · have hf := hf.2 c3
      exact hf.elim
    · have hf := hf.1 c3
      refine lv_aload_n hx hb dJ2_init_23 rfl (lv_at hl 0 rfl) ?_
      refine va_gets (v := .ref (j.2 40)) hx hb ((E.z X).2.2.1 _ (List.mem_of_getElem? (show jStR[0]? = some _ from rfl))) hI.2 hown (hts _ q457) (fun _ h => h) dJ2_init_24 ?_
      refine hr_pt X hI (rfl : jC.1[15]? = some (RJ2, TJ2, 3)) in_J2 1 (Nat.le_of_ble_eq_true rfl) tyJ2 tyJ2_ok nmJ2 hf q459 (fun _ h => h) rfl rfl rfl dJ2_init_27 (fun G4 H locs hf hI => ?_)
      refine lv_goto (tgt := 60) hx hb dJ2_init_30 (by decide) ?_
      exact hret hf hI dJ2_init_60 (hmC hm.1) (hmC hm.2)
  · have hf := hf.2 c2
    refine lv_aload_n hx hb dJ2_init_8 rfl (lv_at hl 0 rfl) ?_
    refine lv_iload_n hx hb dJ2_init_9 rfl (lv_at hl 1 rfl) ?_
    obtain ⟨hb1, hb2, hf⟩ := hf
    refine hr_newq X hI 10 q455 ((E.w X).2.1 _ q456) rfl hf (hmA hm.1 hb1) (hmA hm.2 hb2) dJ2_init_10 (fun a5 G6 H hf hI => ?_)
    have hm := And.intro (hmB hm.1 hb1) (hmB hm.2 hb2)
    clear hb1 hb2
    refine hr_pt X hI (rfl : jC.1[15]? = some (RJ2, TJ2, 3)) in_J2 1 (Nat.le_of_ble_eq_true rfl) tyJ2 tyJ2_ok nmJ2 hf q459 (fun _ h => h) rfl rfl rfl dJ2_init_13 (fun G7 H locs hf hI => ?_)
    refine lv_goto (tgt := 60) hx hb dJ2_init_16 (by decide) ?_
    exact hret hf hI dJ2_init_60 (hmC hm.1) (hmC hm.2)
/-! java/util/Arrays.copyOf([Ljava/lang/Object;ILjava/lang/Class;)[Ljava/lang/Object; -/
def hJ26_copyOf_3_b24 (j : JX) (Λ : JLam) (p1 : Int32) (post : Option Nat → HG → Prop) (lq0 : Option Nat) (z0 : Nat) (mc ms : Nat) (G : HG) : Prop :=
  nnq lq0 fun a4 => aln (jty j.1) G a4 fun x5 => cpQ (jty j.1) G a4 (0 : Int32) z0 (0 : Int32) (if p1 < x5 then p1 else x5) fun G6 => post (some z0) G6
def hJ26_copyOf_3 (j : JX) (Λ : JLam) (q0_ : Option Nat) (p1 : Int32) (q2_ : Option Nat) (mc ms : Nat) (G : HG) (post : Option Nat → HG → Prop) : Prop :=
  (q2_ = (some (j.2 45)) → (1 ≤ mc ∧ p1.toNatClampNeg ≤ ms ∧ (¬ p1 < 0 ∧ p1.toNatClampNeg ≤ 65536 ∧ mkO G (.inl (j.1 10, p1.toNatClampNeg, .inr (.inr (.inr (.inr (fun _ => none)))))) fun a2 G3 => hJ26_copyOf_3_b24 j Λ p1 post q0_ a2 (mc - 1) (ms - p1.toNatClampNeg) G3))) ∧ (¬ q2_ = (some (j.2 45)) → (False))
abbrev rhJ26_copyOf_3 (fr lo mc ms : Nat) : Room := { frames := fr + 1, cells := mc, slots := ms, locals := lo + 40 }
theorem mhJ26_copyOf_3 (l : Launch) (Z : (Nat → Prop) → State → Heap → Prop) (D : va_G) (j : JX) (Λ : JLam) (fr lo : Nat) (E : JE l Z D j Λ fr lo) (q0_ : Option Nat) (p1 : Int32) (q2_ : Option Nat) (mc ms : Nat) (G : HG) (post : Option Nat → HG → Prop) (hf : hJ26_copyOf_3 j Λ q0_ p1 q2_ mc ms G post) : HMq l yJ26_copyOf_3 (ws_ yJ26_copyOf_3 cJ26_copyOf_3 4 (some (.array (.object "java/lang/Object")))) (rhJ26_copyOf_3 fr lo mc ms) D jC (jty j.1) Z G [va_rf q0_, .int p1, va_rf q2_] post mc ms := by
  obtain ⟨MC, eMC⟩ : ∃ MC, MC = mc := ⟨_, rfl⟩
  obtain ⟨MS, eMS⟩ : ∃ MS, MS = ms := ⟨_, rfl⟩
  suffices goal : HMq l yJ26_copyOf_3 (ws_ yJ26_copyOf_3 cJ26_copyOf_3 4 (some (.array (.object "java/lang/Object")))) (rhJ26_copyOf_3 fr lo MC MS) D jC (jty j.1) Z G [va_rf q0_, .int p1, va_rf q2_] post MC MS by rw [eMC, eMS] at goal; exact goal
  have hm0_ : 0 + mc ≤ MC ∧ 0 + ms ≤ MS := by omega
  clear eMC eMS
  refine h_openq (Or.inr ⟨_, rfl⟩) E.1 (by decide) (by cases q0_ <;> cases q2_ <;> exact Nat.le_of_ble_eq_true rfl) (fun p e s m args below meth c ls A0 Q X hI hnd hnm hl hret => ?_)
  have X : XC p s m args meth c cJ26_copyOf_3 4 RJ26 D jC (jty j.1) A0 Z := X
  have hx := X.1
  have hb := X.2.1
  have hown := X.2.2.2.1
  have hts := X.2.2.2.2.1
  have J24 : ∀ (lq0 : Option Nat) (z0 : Nat) (mc ms : Nat) (G : HG), hJ26_copyOf_3_b24 j Λ p1 post lq0 z0 mc ms G → ∀ (cells slots : Nat), cells + mc ≤ MC ∧ slots + ms ≤ MS → ∀ (H : Heap) (locs : List Loc), HI D jC G A0 s.heap H locs → ∀ (ls : Array Slot), lv_has ls 4 [(0, va_rf lq0), (1, .int p1)] → W p l e (rhJ26_copyOf_3 fr lo MC MS) s m args below meth c H locs cells slots Q (F0 m 24 ls [.ref z0]) := by
    intro lq0 z0 mc ms G hf cells slots hm H locs hI ls hl
    unfold hJ26_copyOf_3_b24 at hf
    refine lv_astore_n (lv' := [(3, .ref z0), (0, va_rf lq0), (1, .int p1)]) hx hb dJ26_copyOf_3_24 rfl hl (by decide) rfl (fun ls hl => ?_)
    refine h_aload_n (o := lq0) hx hb dJ26_copyOf_3_25 rfl (lv_at hl 1 rfl) ?_
    refine lv_iconst (v := 0) hx hb dJ26_copyOf_3_26 (by decide) ?_
    refine lv_aload_n hx hb dJ26_copyOf_3_27 rfl (lv_at hl 0 rfl) ?_
    refine lv_iconst (v := 0) hx hb dJ26_copyOf_3_28 (by decide) ?_
    refine h_aload_n (o := lq0) hx hb dJ26_copyOf_3_29 rfl (lv_at hl 1 rfl) ?_
    obtain ⟨a4, ea4, hf⟩ := hf
    revert hl hf
    subst ea4
    intro hl hf
    have hl : lv_has ls 4 [(3, .ref z0), (0, .ref a4), (1, .int p1)] := hl
    refine hr_aln X hI hf dJ26_copyOf_3_30 (fun x5 hf => ?_)
    refine lv_iload_n hx hb dJ26_copyOf_3_31 rfl (lv_at hl 2 rfl) ?_
    refine x_mmin X hl.1 q1458 q638 q173 q639 (by show 1 ≤ fr + 1 ∧ 21 ≤ lo + 40; omega) (Nat.le_of_ble_eq_true rfl) ⟨hmC hm.1, hmC hm.2⟩ dJ26_copyOf_3_32 ?_
    refine hr_cpQ E X hI hf q1459 hl.1 (Nat.le_of_ble_eq_true rfl) (by show 1 ≤ fr + 1 ∧ 40 ≤ lo + 40; omega) dJ26_copyOf_3_35 (fun G6 H locs hf hI => ?_)
    refine lv_aload_n hx hb dJ26_copyOf_3_38 rfl (lv_at hl 0 rfl) ?_
    exact hret (v := (some z0)) hf hI dJ26_copyOf_3_39 (hmC hm.1) (hmC hm.2)
  have hl : lv_has ls 4 [(0, va_rf q0_), (1, .int p1), (2, va_rf q2_)] := by cases q0_ <;> cases q2_ <;> exact hl
  unfold hJ26_copyOf_3 at hf
  obtain ⟨H, eH⟩ : ∃ H, H = s.heap := ⟨_, rfl⟩
  obtain ⟨locs, eL⟩ : ∃ locs : List Loc, locs = [] := ⟨_, rfl⟩
  have hI : HI D jC G A0 s.heap H locs := by rw [eH, eL]; exact hI
  rw [← eL]
  obtain ⟨cells, eC⟩ : ∃ n : Nat, n = 0 := ⟨_, rfl⟩
  obtain ⟨slots, eS⟩ : ∃ n : Nat, n = 0 := ⟨_, rfl⟩
  have hm : cells + mc ≤ MC ∧ slots + ms ≤ MS := by rw [eC, eS]; exact hm0_
  suffices h : W p l e (rhJ26_copyOf_3 fr lo MC MS) s m args below meth c H locs cells slots Q (F0 m 0 ls []) by rw [eH, eC, eS] at h; exact h
  clear eH eL eC eS
  refine h_aload_n (o := q2_) hx hb dJ26_copyOf_3_0 rfl (lv_at hl 2 rfl) ?_
  refine va_ldcM hx hb hown (hts _ q1831) (E.z X).2.2.2.2 dJ26_copyOf_3_1 ?_
  refine lv_acmp_ne (rx := q2_) (ry := (some (j.2 45))) (tgt := 13) hx hb dJ26_copyOf_3_3 (by decide) (fun c1 => ?_) (fun c1 => ?_)
  · have hf := hf.2 c1
    exact hf.elim
  · have hf := hf.1 c1
    refine lv_iload_n hx hb dJ26_copyOf_3_6 rfl (lv_at hl 1 rfl) ?_
    obtain ⟨hb1, hb2, hf⟩ := hf
    refine hr_newq X hI 10 q1832 ((E.w X).2.1 _ q456) rfl hf (hmA hm.1 hb1) (hmA hm.2 hb2) dJ26_copyOf_3_7 (fun a2 G3 H hf hI => ?_)
    have hm := And.intro (hmB hm.1 hb1) (hmB hm.2 hb2)
    clear hb1 hb2
    refine lv_goto (tgt := 24) hx hb dJ26_copyOf_3_10 (by decide) ?_
    exact J24 q0_ a2 (mc - 1) (ms - p1.toNatClampNeg) G3 hf _ _ hm H locs hI ls (lv_sub hl [0, 1] rfl)
/-! java/util/Arrays.copyOf([Ljava/lang/Object;I)[Ljava/lang/Object; -/
def hJ26_copyOf_2 (j : JX) (Λ : JLam) (q0_ : Option Nat) (p1 : Int32) (mc ms : Nat) (G : HG) (post : Option Nat → HG → Prop) : Prop :=
  nnq q0_ fun a1 => isA G (some a1) (j.1 10) (∃ m2 m3 : Nat, m2 ≤ mc ∧ m3 ≤ ms ∧ hJ26_copyOf_3 j Λ (some a1) p1 (some (j.2 45)) m2 m3 G fun q5 G4 => post q5 G4)
abbrev rhJ26_copyOf_2 (fr lo mc ms : Nat) : Room := { frames := fr + 2, cells := mc, slots := ms, locals := lo + 63 }
theorem mhJ26_copyOf_2 (l : Launch) (Z : (Nat → Prop) → State → Heap → Prop) (D : va_G) (j : JX) (Λ : JLam) (fr lo : Nat) (E : JE l Z D j Λ fr lo) (q0_ : Option Nat) (p1 : Int32) (mc ms : Nat) (G : HG) (post : Option Nat → HG → Prop) (hf : hJ26_copyOf_2 j Λ q0_ p1 mc ms G post) : HMq l yJ26_copyOf_2 (ws_ yJ26_copyOf_2 cJ26_copyOf_2 2 (some (.array (.object "java/lang/Object")))) (rhJ26_copyOf_2 fr lo mc ms) D jC (jty j.1) Z G [va_rf q0_, .int p1] post mc ms := by
  obtain ⟨MC, eMC⟩ : ∃ MC, MC = mc := ⟨_, rfl⟩
  obtain ⟨MS, eMS⟩ : ∃ MS, MS = ms := ⟨_, rfl⟩
  suffices goal : HMq l yJ26_copyOf_2 (ws_ yJ26_copyOf_2 cJ26_copyOf_2 2 (some (.array (.object "java/lang/Object")))) (rhJ26_copyOf_2 fr lo MC MS) D jC (jty j.1) Z G [va_rf q0_, .int p1] post MC MS by rw [eMC, eMS] at goal; exact goal
  have hm0_ : 0 + mc ≤ MC ∧ 0 + ms ≤ MS := by omega
  clear eMC eMS
  refine h_openq (Or.inr ⟨_, rfl⟩) E.1 (by decide) (by cases q0_ <;> exact Nat.le_of_ble_eq_true rfl) (fun p e s m args below meth c ls A0 Q X hI hnd hnm hl hret => ?_)
  have X : XC p s m args meth c cJ26_copyOf_2 2 RJ26 D jC (jty j.1) A0 Z := X
  have hx := X.1
  have hb := X.2.1
  have hown := X.2.2.2.1
  have hts := X.2.2.2.2.1
  have hl : lv_has ls 2 [(0, va_rf q0_), (1, .int p1)] := by cases q0_ <;> exact hl
  unfold hJ26_copyOf_2 at hf
  obtain ⟨H, eH⟩ : ∃ H, H = s.heap := ⟨_, rfl⟩
  obtain ⟨locs, eL⟩ : ∃ locs : List Loc, locs = [] := ⟨_, rfl⟩
  have hI : HI D jC G A0 s.heap H locs := by rw [eH, eL]; exact hI
  rw [← eL]
  obtain ⟨cells, eC⟩ : ∃ n : Nat, n = 0 := ⟨_, rfl⟩
  obtain ⟨slots, eS⟩ : ∃ n : Nat, n = 0 := ⟨_, rfl⟩
  have hm : cells + mc ≤ MC ∧ slots + ms ≤ MS := by rw [eC, eS]; exact hm0_
  suffices h : W p l e (rhJ26_copyOf_2 fr lo MC MS) s m args below meth c H locs cells slots Q (F0 m 0 ls []) by rw [eH, eC, eS] at h; exact h
  clear eH eL eC eS
  refine h_aload_n (o := q0_) hx hb dJ26_copyOf_2_0 rfl (lv_at hl 0 rfl) ?_
  refine lv_iload_n hx hb dJ26_copyOf_2_1 rfl (lv_at hl 1 rfl) ?_
  refine h_aload_n (o := q0_) hx hb dJ26_copyOf_2_2 rfl (lv_at hl 0 rfl) ?_
  obtain ⟨a1, ea1, hf⟩ := hf
  revert hl hf
  subst ea1
  intro hl hf
  have hl : lv_has ls 2 [(0, .ref a1), (1, .int p1)] := hl
  refine hr_getC E X hI hf q1827 q3547 q1010 q1042 hl.1 (Nat.le_of_ble_eq_true rfl) (by show 1 ≤ fr + 2 ∧ 40 ≤ lo + 63; omega) dJ26_copyOf_2_3 (fun hf => ?_)
  obtain ⟨m2, m3, hb1, hb2, hf⟩ := hf
  refine h_kq X hI (h_runS (As := [va_rf (some a1), .int p1, va_rf (some (j.2 45))]) X hI (mhJ26_copyOf_3 l Z D j Λ fr lo E (some a1) p1 (some (j.2 45)) m2 m3 G _ hf H.size) (va_cwS 3 hts (lw_S q1828 q1829 q204 q1830) rfl rfl rfl (by decide +kernel) (by show fr + 1 + 1 ≤ fr + 2 ∧ 8 + (4 + 11) + (lo + 40) ≤ lo + 63; omega)) rfl hl.1 (Nat.le_of_ble_eq_true rfl) dJ26_copyOf_2_6 ⟨hmA hm.1 hb1, hmA hm.2 hb2⟩ rfl) (fun q5 G4 H locs hf hI => ?_)
  have hm := And.intro (hmB hm.1 hb1) (hmB hm.2 hb2)
  clear hb1 hb2
  exact hret (v := q5) hf hI dJ26_copyOf_2_9 (hmC hm.1) (hmC hm.2)
/-! java/util/ArrayList.grow(I)[Ljava/lang/Object; -/
def hJ2_grow_2_b20 (j : JX) (Λ : JLam) (a0 : Nat) (p1 : Int32) (post : Option Nat → HG → Prop) (lx2 : Int32) (mc ms : Nat) (G : HG) : Prop :=
  hJ17_newLength j Λ lx2 (p1 - lx2) (lx2 >>> ((1 : Int32) &&& 31)) G fun x12 G11 => gtQ G11 a0 15 1 fun q13 => ∃ m14 m15 : Nat, m14 ≤ mc ∧ m15 ≤ ms ∧ hJ26_copyOf_2 j Λ q13 x12 m14 m15 G11 fun q17 G16 => ptV G16 a0 15 1 (va_rf q17) fun G18 => post q17 G18
def hJ2_grow_2 (j : JX) (Λ : JLam) (a0 : Nat) (p1 : Int32) (mc ms : Nat) (G : HG) (post : Option Nat → HG → Prop) : Prop :=
  gtQ G a0 15 1 fun q1 => nnq q1 fun a2 => aln (jty j.1) G a2 fun x3 => (0 < x3 → (hJ2_grow_2_b20 j Λ a0 p1 post x3 mc ms G)) ∧ (¬ 0 < x3 → (gtQ G a0 15 1 fun q5 => (q5 = (some (j.2 41)) → (∀ v7 : Int32, v7 = (if (10 : Int32) < p1 then p1 else (10 : Int32)) → 1 ≤ mc ∧ v7.toNatClampNeg ≤ ms ∧ (¬ v7 < 0 ∧ v7.toNatClampNeg ≤ 65536 ∧ mkO G (.inl (j.1 10, v7.toNatClampNeg, .inr (.inr (.inr (.inr (fun _ => none)))))) fun a8 G9 => ptV G9 a0 15 1 (.ref a8) fun G10 => post (some a8) G10))) ∧ (¬ q5 = (some (j.2 41)) → (hJ2_grow_2_b20 j Λ a0 p1 post x3 mc ms G))))
abbrev rhJ2_grow_2 (fr lo mc ms : Nat) : Room := { frames := fr + 3, cells := mc, slots := ms, locals := lo + 84 }
theorem mhJ2_grow_2 (l : Launch) (Z : (Nat → Prop) → State → Heap → Prop) (D : va_G) (j : JX) (Λ : JLam) (fr lo : Nat) (E : JE l Z D j Λ fr lo) (a0 : Nat) (p1 : Int32) (mc ms : Nat) (G : HG) (post : Option Nat → HG → Prop) (hf : hJ2_grow_2 j Λ a0 p1 mc ms G post) : HMq l yJ2_grow_2 (ws_ yJ2_grow_2 cJ2_grow_2 4 (some (.array (.object "java/lang/Object")))) (rhJ2_grow_2 fr lo mc ms) D jC (jty j.1) Z G [.ref a0, .int p1] post mc ms := by
  obtain ⟨MC, eMC⟩ : ∃ MC, MC = mc := ⟨_, rfl⟩
  obtain ⟨MS, eMS⟩ : ∃ MS, MS = ms := ⟨_, rfl⟩
  suffices goal : HMq l yJ2_grow_2 (ws_ yJ2_grow_2 cJ2_grow_2 4 (some (.array (.object "java/lang/Object")))) (rhJ2_grow_2 fr lo MC MS) D jC (jty j.1) Z G [.ref a0, .int p1] post MC MS by rw [eMC, eMS] at goal; exact goal
  have hm0_ : 0 + mc ≤ MC ∧ 0 + ms ≤ MS := by omega
  clear eMC eMS
  refine h_openq (Or.inr ⟨_, rfl⟩) E.1 (by decide) (by exact Nat.le_of_ble_eq_true rfl) (fun p e s m args below meth c ls A0 Q X hI hnd hnm hl hret => ?_)
  have X : XC p s m args meth c cJ2_grow_2 4 RJ2 D jC (jty j.1) A0 Z := X
  have hx := X.1
  have hb := X.2.1
  have hown := X.2.2.2.1
  have hts := X.2.2.2.2.1
  have J20 : ∀ (lx2 : Int32) (mc ms : Nat) (G : HG), hJ2_grow_2_b20 j Λ a0 p1 post lx2 mc ms G → ∀ (cells slots : Nat), cells + mc ≤ MC ∧ slots + ms ≤ MS → ∀ (H : Heap) (locs : List Loc), HI D jC G A0 s.heap H locs → ∀ (ls : Array Slot), lv_has ls 4 [(0, .ref a0), (1, .int p1), (2, .int lx2)] → W p l e (rhJ2_grow_2 fr lo MC MS) s m args below meth c H locs cells slots Q (F0 m 20 ls []) := by
    intro lx2 mc ms G hf cells slots hm H locs hI ls hl
    unfold hJ2_grow_2_b20 at hf
    refine lv_iload_n hx hb dJ2_grow_2_20 rfl (lv_at hl 2 rfl) ?_
    refine lv_iload_n hx hb dJ2_grow_2_21 rfl (lv_at hl 1 rfl) ?_
    refine lv_iload_n hx hb dJ2_grow_2_22 rfl (lv_at hl 2 rfl) ?_
    refine lv_isub hx hb dJ2_grow_2_23 ?_
    refine lv_iload_n hx hb dJ2_grow_2_24 rfl (lv_at hl 2 rfl) ?_
    refine lv_iconst (v := 1) hx hb dJ2_grow_2_25 (by decide) ?_
    refine lv_ishr hx hb dJ2_grow_2_26 ?_
    refine h_ki X hI (h_runS (As := [.int lx2, .int (p1 - lx2), .int (lx2 >>> ((1 : Int32) &&& 31))]) X hI (mhJ17_newLength l Z D j Λ fr lo E lx2 (p1 - lx2) (lx2 >>> ((1 : Int32) &&& 31)) G _ hf H.size) (va_cwS 3 hts (lw_S q1823 q1440 q194 q1441) rfl rfl rfl (by decide +kernel) (by show fr + 1 + 1 ≤ fr + 3 ∧ 8 + (4 + 11) + (lo + 40) ≤ lo + 84; omega)) rfl hl.1 (Nat.le_of_ble_eq_true rfl) dJ2_grow_2_27 ⟨hm0 hm.1, hm0 hm.2⟩ rfl) (fun x12 G11 H locs hf hI => ?_)
    refine lv_istore_n (lv' := [(3, .int x12), (0, .ref a0), (1, .int p1), (2, .int lx2)]) hx hb dJ2_grow_2_30 rfl hl (by decide) rfl (fun ls hl => ?_)
    refine lv_aload_n hx hb dJ2_grow_2_31 rfl (lv_at hl 1 rfl) ?_
    refine lv_aload_n hx hb dJ2_grow_2_32 rfl (lv_at hl 1 rfl) ?_
    refine hr_gtQ X hI (rfl : jC.1[15]? = some (RJ2, TJ2, 3)) in_J2 1 (Nat.le_of_ble_eq_true rfl) hf q459 (fun _ h => h) dJ2_grow_2_33 (fun q13 hf => ?_)
    refine lv_iload_n hx hb dJ2_grow_2_36 rfl (lv_at hl 0 rfl) ?_
    obtain ⟨m14, m15, hb1, hb2, hf⟩ := hf
    refine h_kq X hI (h_runS (As := [va_rf q13, .int x12]) X hI (mhJ26_copyOf_2 l Z D j Λ fr lo E q13 x12 m14 m15 G11 _ hf H.size) (va_cwS 2 hts (lw_S q1824 q1825 q204 q1826) rfl rfl rfl (by decide +kernel) (by show fr + 2 + 1 ≤ fr + 3 ∧ 8 + (2 + 11) + (lo + 63) ≤ lo + 84; omega)) rfl hl.1 (Nat.le_of_ble_eq_true rfl) dJ2_grow_2_37 ⟨hmA hm.1 hb1, hmA hm.2 hb2⟩ rfl) (fun q17 G16 H locs hf hI => ?_)
    have hm := And.intro (hmB hm.1 hb1) (hmB hm.2 hb2)
    clear hb1 hb2
    refine lv_dup_x1 hx hb dJ2_grow_2_40 (h_catq _) rfl ?_
    refine hr_pt X hI (rfl : jC.1[15]? = some (RJ2, TJ2, 3)) in_J2 1 (Nat.le_of_ble_eq_true rfl) tyJ2 tyJ2_ok nmJ2 hf q459 (fun _ h => h) rfl (nar_a _ _) (fit_a _ _) dJ2_grow_2_41 (fun G18 H locs hf hI => ?_)
    exact hret (v := q17) hf hI dJ2_grow_2_44 (hmC hm.1) (hmC hm.2)
  have hl : lv_has ls 4 [(0, .ref a0), (1, .int p1)] := by exact hl
  unfold hJ2_grow_2 at hf
  obtain ⟨H, eH⟩ : ∃ H, H = s.heap := ⟨_, rfl⟩
  obtain ⟨locs, eL⟩ : ∃ locs : List Loc, locs = [] := ⟨_, rfl⟩
  have hI : HI D jC G A0 s.heap H locs := by rw [eH, eL]; exact hI
  rw [← eL]
  obtain ⟨cells, eC⟩ : ∃ n : Nat, n = 0 := ⟨_, rfl⟩
  obtain ⟨slots, eS⟩ : ∃ n : Nat, n = 0 := ⟨_, rfl⟩
  have hm : cells + mc ≤ MC ∧ slots + ms ≤ MS := by rw [eC, eS]; exact hm0_
  suffices h : W p l e (rhJ2_grow_2 fr lo MC MS) s m args below meth c H locs cells slots Q (F0 m 0 ls []) by rw [eH, eC, eS] at h; exact h
  clear eH eL eC eS
  refine lv_aload_n hx hb dJ2_grow_2_0 rfl (lv_at hl 0 rfl) ?_
  refine hr_gtQ X hI (rfl : jC.1[15]? = some (RJ2, TJ2, 3)) in_J2 1 (Nat.le_of_ble_eq_true rfl) hf q459 (fun _ h => h) dJ2_grow_2_1 (fun q1 hf => ?_)
  obtain ⟨a2, ea2, hf⟩ := hf
  revert hl hf
  subst ea2
  intro hl hf
  have hl : lv_has ls 4 [(0, .ref a0), (1, .int p1)] := hl
  refine hr_aln X hI hf dJ2_grow_2_4 (fun x3 hf => ?_)
  refine lv_istore_n (lv' := [(2, .int x3), (0, .ref a0), (1, .int p1)]) hx hb dJ2_grow_2_5 rfl hl (by decide) rfl (fun ls hl => ?_)
  refine lv_iload_n hx hb dJ2_grow_2_6 rfl (lv_at hl 0 rfl) ?_
  refine lv_if_gt (tgt := 20) hx hb dJ2_grow_2_7 (by decide) (fun c4 => ?_) (fun c4 => ?_)
  · have hf := hf.1 c4
    exact J20 x3 mc ms G hf _ _ hm H locs hI ls (lv_sub hl [1, 2, 0] rfl)
  · have hf := hf.2 c4
    refine lv_aload_n hx hb dJ2_grow_2_10 rfl (lv_at hl 1 rfl) ?_
    refine hr_gtQ X hI (rfl : jC.1[15]? = some (RJ2, TJ2, 3)) in_J2 1 (Nat.le_of_ble_eq_true rfl) hf q459 (fun _ h => h) dJ2_grow_2_11 (fun q5 hf => ?_)
    refine va_gets (v := .ref (j.2 41)) hx hb ((E.z X).2.2.1 _ (List.mem_of_getElem? (show jStR[1]? = some _ from rfl))) hI.2 hown (hts _ q474) (fun _ h => h) dJ2_grow_2_14 ?_
    refine lv_acmp_eq (rx := q5) (ry := (some (j.2 41))) (tgt := 45) hx hb dJ2_grow_2_17 (by decide) (fun c6 => ?_) (fun c6 => ?_)
    · have hf := hf.1 c6
      refine lv_aload_n hx hb dJ2_grow_2_45 rfl (lv_at hl 1 rfl) ?_
      refine lv_bipush (v := 10) hx hb dJ2_grow_2_46 (by decide) ?_
      refine lv_iload_n hx hb dJ2_grow_2_48 rfl (lv_at hl 2 rfl) ?_
      refine x_mmax X hl.1 q1833 q546 q173 q547 (by show 1 ≤ fr + 3 ∧ 21 ≤ lo + 84; omega) (Nat.le_of_ble_eq_true rfl) ⟨hmC hm.1, hmC hm.2⟩ dJ2_grow_2_49 ?_
      obtain ⟨v7, ev7⟩ : ∃ v7, v7 = (if (10 : Int32) < p1 then p1 else (10 : Int32)) := ⟨_, rfl⟩
      have hf := hf v7 ev7
      rw [← ev7]
      clear ev7
      obtain ⟨hb1, hb2, hf⟩ := hf
      refine hr_newq X hI 10 q455 ((E.w X).2.1 _ q456) rfl hf (hmA hm.1 hb1) (hmA hm.2 hb2) dJ2_grow_2_52 (fun a8 G9 H hf hI => ?_)
      have hm := And.intro (hmB hm.1 hb1) (hmB hm.2 hb2)
      clear hb1 hb2
      refine lv_dup_x1 hx hb dJ2_grow_2_55 rfl rfl ?_
      refine hr_pt X hI (rfl : jC.1[15]? = some (RJ2, TJ2, 3)) in_J2 1 (Nat.le_of_ble_eq_true rfl) tyJ2 tyJ2_ok nmJ2 hf q459 (fun _ h => h) rfl rfl rfl dJ2_grow_2_56 (fun G10 H locs hf hI => ?_)
      exact hret (v := (some a8)) hf hI dJ2_grow_2_59 (hmC hm.1) (hmC hm.2)
    · have hf := hf.2 c6
      exact J20 x3 mc ms G hf _ _ hm H locs hI ls (lv_sub hl [1, 2, 0] rfl)
/-! java/util/ArrayList.grow()[Ljava/lang/Object; -/
def hJ2_grow (j : JX) (Λ : JLam) (a0 : Nat) (mc ms : Nat) (G : HG) (post : Option Nat → HG → Prop) : Prop :=
  gtI G a0 15 2 fun x1 => isO G a0 15 (∃ m2 m3 : Nat, m2 ≤ mc ∧ m3 ≤ ms ∧ hJ2_grow_2 j Λ a0 (x1 + 1) m2 m3 G fun q5 G4 => post q5 G4)
abbrev rhJ2_grow (fr lo mc ms : Nat) : Room := { frames := fr + 4, cells := mc, slots := ms, locals := lo + 107 }
theorem mhJ2_grow (l : Launch) (Z : (Nat → Prop) → State → Heap → Prop) (D : va_G) (j : JX) (Λ : JLam) (fr lo : Nat) (E : JE l Z D j Λ fr lo) (a0 : Nat) (mc ms : Nat) (G : HG) (post : Option Nat → HG → Prop) (hf : hJ2_grow j Λ a0 mc ms G post) : HMq l yJ2_grow (ws_ yJ2_grow cJ2_grow 1 (some (.array (.object "java/lang/Object")))) (rhJ2_grow fr lo mc ms) D jC (jty j.1) Z G [.ref a0] post mc ms := by
  obtain ⟨MC, eMC⟩ : ∃ MC, MC = mc := ⟨_, rfl⟩
  obtain ⟨MS, eMS⟩ : ∃ MS, MS = ms := ⟨_, rfl⟩
  suffices goal : HMq l yJ2_grow (ws_ yJ2_grow cJ2_grow 1 (some (.array (.object "java/lang/Object")))) (rhJ2_grow fr lo MC MS) D jC (jty j.1) Z G [.ref a0] post MC MS by rw [eMC, eMS] at goal; exact goal
  have hm0_ : 0 + mc ≤ MC ∧ 0 + ms ≤ MS := by omega
  clear eMC eMS
  refine h_openq (Or.inr ⟨_, rfl⟩) E.1 (by decide) (by exact Nat.le_of_ble_eq_true rfl) (fun p e s m args below meth c ls A0 Q X hI hnd hnm hl hret => ?_)
  have X : XC p s m args meth c cJ2_grow 1 RJ2 D jC (jty j.1) A0 Z := X
  have hx := X.1
  have hb := X.2.1
  have hown := X.2.2.2.1
  have hts := X.2.2.2.2.1
  have hl : lv_has ls 1 [(0, .ref a0)] := by exact hl
  unfold hJ2_grow at hf
  obtain ⟨H, eH⟩ : ∃ H, H = s.heap := ⟨_, rfl⟩
  obtain ⟨locs, eL⟩ : ∃ locs : List Loc, locs = [] := ⟨_, rfl⟩
  have hI : HI D jC G A0 s.heap H locs := by rw [eH, eL]; exact hI
  rw [← eL]
  obtain ⟨cells, eC⟩ : ∃ n : Nat, n = 0 := ⟨_, rfl⟩
  obtain ⟨slots, eS⟩ : ∃ n : Nat, n = 0 := ⟨_, rfl⟩
  have hm : cells + mc ≤ MC ∧ slots + ms ≤ MS := by rw [eC, eS]; exact hm0_
  suffices h : W p l e (rhJ2_grow fr lo MC MS) s m args below meth c H locs cells slots Q (F0 m 0 ls []) by rw [eH, eC, eS] at h; exact h
  clear eH eL eC eS
  refine lv_aload_n hx hb dJ2_grow_0 rfl (lv_at hl 0 rfl) ?_
  refine lv_aload_n hx hb dJ2_grow_1 rfl (lv_at hl 0 rfl) ?_
  refine hr_gtI X hI (rfl : jC.1[15]? = some (RJ2, TJ2, 3)) in_J2 2 (Nat.le_of_ble_eq_true rfl) hf q460 (fun _ h => h) dJ2_grow_2 (fun x1 hf => ?_)
  refine lv_iconst (v := 1) hx hb dJ2_grow_5 (by decide) ?_
  refine lv_iadd hx hb dJ2_grow_6 ?_
  obtain ⟨_, _, hO, hf⟩ := hf
  obtain ⟨m2, m3, hb1, hb2, hf⟩ := hf
  refine h_kq X hI (h_runV (As := [.int (x1 + 1)]) X hI (h_recv X hI hO (show jC.1[15]? = some (RJ2, TJ2, 3) from rfl)) (mhJ2_grow_2 l Z D j Λ fr lo E a0 (x1 + 1) m2 m3 G _ hf H.size) (cwV 1 hts (lw_V q1819 q1821 qs22 q172 q1822) rfl rfl rfl (by decide +kernel) (by show fr + 3 + 1 ≤ fr + 4 ∧ 8 + (4 + 11) + (lo + 84) ≤ lo + 107; omega)) rfl hl.1 (Nat.le_of_ble_eq_true rfl) dJ2_grow_7 ⟨hmA hm.1 hb1, hmA hm.2 hb2⟩ rfl) (fun q5 G4 H locs hf hI => ?_)
  have hm := And.intro (hmB hm.1 hb1) (hmB hm.2 hb2)
  clear hb1 hb2
  clear hO
  exact hret (v := q5) hf hI dJ2_grow_10 (hmC hm.1) (hmC hm.2)
/-! java/util/ArrayList.add(Ljava/lang/Object;[Ljava/lang/Object;I)V -/
def hJ2_add_2_b11 (j : JX) (Λ : JLam) (a0 : Nat) (p3 : Int32) (post : HG → Prop) (lq1 : Option Nat) (lq2 : Option Nat) (mc ms : Nat) (G : HG) : Prop :=
  nnq lq2 fun a8 => stQ jOk (jty j.1) G a8 p3 lq1 fun G9 => ptV G9 a0 15 2 (.int (p3 + 1)) fun G10 => post G10
def hJ2_add_2 (j : JX) (Λ : JLam) (a0 : Nat) (q1_ : Option Nat) (q2_ : Option Nat) (p3 : Int32) (mc ms : Nat) (G : HG) (post : HG → Prop) : Prop :=
  nnq q2_ fun a1 => aln (jty j.1) G a1 fun x2 => (p3 = x2 → (isO G a0 15 (∃ m4 m5 : Nat, m4 ≤ mc ∧ m5 ≤ ms ∧ hJ2_grow j Λ a0 m4 m5 G fun q7 G6 => hJ2_add_2_b11 j Λ a0 p3 post q1_ q7 (mc - m4) (ms - m5) G6))) ∧ (¬ p3 = x2 → (hJ2_add_2_b11 j Λ a0 p3 post q1_ (some a1) mc ms G))
abbrev rhJ2_add_2 (fr lo mc ms : Nat) : Room := { frames := fr + 5, cells := mc, slots := ms, locals := lo + 127 }
theorem mhJ2_add_2 (l : Launch) (Z : (Nat → Prop) → State → Heap → Prop) (D : va_G) (j : JX) (Λ : JLam) (fr lo : Nat) (E : JE l Z D j Λ fr lo) (a0 : Nat) (q1_ : Option Nat) (q2_ : Option Nat) (p3 : Int32) (mc ms : Nat) (G : HG) (post : HG → Prop) (hf : hJ2_add_2 j Λ a0 q1_ q2_ p3 mc ms G post) : HMv l yJ2_add_2 (ws_ yJ2_add_2 cJ2_add_2 4 none) (rhJ2_add_2 fr lo mc ms) D jC (jty j.1) Z G [.ref a0, va_rf q1_, va_rf q2_, .int p3] post mc ms := by
  obtain ⟨MC, eMC⟩ : ∃ MC, MC = mc := ⟨_, rfl⟩
  obtain ⟨MS, eMS⟩ : ∃ MS, MS = ms := ⟨_, rfl⟩
  suffices goal : HMv l yJ2_add_2 (ws_ yJ2_add_2 cJ2_add_2 4 none) (rhJ2_add_2 fr lo MC MS) D jC (jty j.1) Z G [.ref a0, va_rf q1_, va_rf q2_, .int p3] post MC MS by rw [eMC, eMS] at goal; exact goal
  have hm0_ : 0 + mc ≤ MC ∧ 0 + ms ≤ MS := by omega
  clear eMC eMS
  refine h_openv E.1 (by decide) (by cases q1_ <;> cases q2_ <;> exact Nat.le_of_ble_eq_true rfl) (fun p e s m args below meth c ls A0 Q X hI hnd hnm hl hret => ?_)
  have X : XC p s m args meth c cJ2_add_2 4 RJ2 D jC (jty j.1) A0 Z := X
  have hx := X.1
  have hb := X.2.1
  have hown := X.2.2.2.1
  have hts := X.2.2.2.2.1
  have J11 : ∀ (lq1 : Option Nat) (lq2 : Option Nat) (mc ms : Nat) (G : HG), hJ2_add_2_b11 j Λ a0 p3 post lq1 lq2 mc ms G → ∀ (cells slots : Nat), cells + mc ≤ MC ∧ slots + ms ≤ MS → ∀ (H : Heap) (locs : List Loc), HI D jC G A0 s.heap H locs → ∀ (ls : Array Slot), lv_has ls 4 [(0, .ref a0), (1, va_rf lq1), (2, va_rf lq2), (3, .int p3)] → W p l e (rhJ2_add_2 fr lo MC MS) s m args below meth c H locs cells slots Q (F0 m 11 ls []) := by
    intro lq1 lq2 mc ms G hf cells slots hm H locs hI ls hl
    unfold hJ2_add_2_b11 at hf
    refine h_aload_n (o := lq2) hx hb dJ2_add_2_11 rfl (lv_at hl 2 rfl) ?_
    refine lv_iload_n hx hb dJ2_add_2_12 rfl (lv_at hl 3 rfl) ?_
    refine h_aload_n (o := lq1) hx hb dJ2_add_2_13 rfl (lv_at hl 1 rfl) ?_
    obtain ⟨a8, ea8, hf⟩ := hf
    revert hl hf
    subst ea8
    intro hl hf
    have hl : lv_has ls 4 [(0, .ref a0), (1, va_rf lq1), (2, .ref a8), (3, .int p3)] := hl
    refine hr_qst (v := lq1) X hI (jOk_asg (E.w X)) hf dJ2_add_2_14 (fun G9 H locs hf hI => ?_)
    refine lv_aload_n hx hb dJ2_add_2_15 rfl (lv_at hl 0 rfl) ?_
    refine lv_iload_n hx hb dJ2_add_2_16 rfl (lv_at hl 3 rfl) ?_
    refine lv_iconst (v := 1) hx hb dJ2_add_2_17 (by decide) ?_
    refine lv_iadd hx hb dJ2_add_2_18 ?_
    refine hr_pt X hI (rfl : jC.1[15]? = some (RJ2, TJ2, 3)) in_J2 2 (Nat.le_of_ble_eq_true rfl) tyJ2 tyJ2_ok nmJ2 hf q460 (fun _ h => h) rfl rfl rfl dJ2_add_2_19 (fun G10 H locs hf hI => ?_)
    exact hret hf hI dJ2_add_2_22 (hmC hm.1) (hmC hm.2)
  have hl : lv_has ls 4 [(0, .ref a0), (1, va_rf q1_), (2, va_rf q2_), (3, .int p3)] := by cases q1_ <;> cases q2_ <;> exact hl
  unfold hJ2_add_2 at hf
  obtain ⟨H, eH⟩ : ∃ H, H = s.heap := ⟨_, rfl⟩
  obtain ⟨locs, eL⟩ : ∃ locs : List Loc, locs = [] := ⟨_, rfl⟩
  have hI : HI D jC G A0 s.heap H locs := by rw [eH, eL]; exact hI
  rw [← eL]
  obtain ⟨cells, eC⟩ : ∃ n : Nat, n = 0 := ⟨_, rfl⟩
  obtain ⟨slots, eS⟩ : ∃ n : Nat, n = 0 := ⟨_, rfl⟩
  have hm : cells + mc ≤ MC ∧ slots + ms ≤ MS := by rw [eC, eS]; exact hm0_
  suffices h : W p l e (rhJ2_add_2 fr lo MC MS) s m args below meth c H locs cells slots Q (F0 m 0 ls []) by rw [eH, eC, eS] at h; exact h
  clear eH eL eC eS
  refine lv_iload_n hx hb dJ2_add_2_0 rfl (lv_at hl 3 rfl) ?_
  refine h_aload_n (o := q2_) hx hb dJ2_add_2_1 rfl (lv_at hl 2 rfl) ?_
  obtain ⟨a1, ea1, hf⟩ := hf
  revert hl hf
  subst ea1
  intro hl hf
  have hl : lv_has ls 4 [(0, .ref a0), (1, va_rf q1_), (2, .ref a1), (3, .int p3)] := hl
  refine hr_aln X hI hf dJ2_add_2_2 (fun x2 hf => ?_)
  refine lv_icmp_ne (tgt := 11) hx hb dJ2_add_2_3 (by decide) (fun c3 => ?_) (fun c3 => ?_)
  · have hf := hf.2 c3
    exact J11 q1_ (some a1) mc ms G hf _ _ hm H locs hI ls (lv_sub hl [0, 1, 2, 3] rfl)
  · have hf := hf.1 c3
    refine lv_aload_n hx hb dJ2_add_2_6 rfl (lv_at hl 0 rfl) ?_
    obtain ⟨_, _, hO, hf⟩ := hf
    obtain ⟨m4, m5, hb1, hb2, hf⟩ := hf
    refine h_kq X hI (h_runV (As := []) X hI (h_recv X hI hO (show jC.1[15]? = some (RJ2, TJ2, 3) from rfl)) (mhJ2_grow l Z D j Λ fr lo E a0 m4 m5 G _ hf H.size) (cwV 0 hts (lw_V q1815 q1817 qs21 q172 q1818) rfl rfl rfl (by decide +kernel) (by show fr + 4 + 1 ≤ fr + 5 ∧ 8 + (1 + 11) + (lo + 107) ≤ lo + 127; omega)) rfl hl.1 (Nat.le_of_ble_eq_true rfl) dJ2_add_2_7 ⟨hmA hm.1 hb1, hmA hm.2 hb2⟩ rfl) (fun q7 G6 H locs hf hI => ?_)
    have hm := And.intro (hmB hm.1 hb1) (hmB hm.2 hb2)
    clear hb1 hb2
    clear hO
    refine h_astore_n (o := q7) (lv' := [(2, va_rf q7), (0, .ref a0), (1, va_rf q1_), (3, .int p3)]) hx hb dJ2_add_2_10 rfl hl (by decide) (by cases q1_ <;> rfl) (fun ls hl => ?_)
    exact J11 q1_ q7 (mc - m4) (ms - m5) G6 hf _ _ hm H locs hI ls (lv_sub hl [1, 2, 0, 3] rfl)
/-! java/util/ArrayList.add(Ljava/lang/Object;)Z -/
def hJ2_add (j : JX) (Λ : JLam) (a0 : Nat) (q1_ : Option Nat) (mc ms : Nat) (G : HG) (post : Int32 → HG → Prop) : Prop :=
  gtI G a0 15 0 fun x1 => ptV G a0 15 0 (.int (x1 + 1)) fun G2 => gtQ G2 a0 15 1 fun q3 => gtI G2 a0 15 2 fun x4 => isO G2 a0 15 (∃ m5 m6 : Nat, m5 ≤ mc ∧ m6 ≤ ms ∧ hJ2_add_2 j Λ a0 q1_ q3 x4 m5 m6 G2 fun G7 => post (1 : Int32) G7)
abbrev rhJ2_add (fr lo mc ms : Nat) : Room := { frames := fr + 6, cells := mc, slots := ms, locals := lo + 150 }
theorem mhJ2_add (l : Launch) (Z : (Nat → Prop) → State → Heap → Prop) (D : va_G) (j : JX) (Λ : JLam) (fr lo : Nat) (E : JE l Z D j Λ fr lo) (a0 : Nat) (q1_ : Option Nat) (mc ms : Nat) (G : HG) (post : Int32 → HG → Prop) (hf : hJ2_add j Λ a0 q1_ mc ms G post) : HMi l yJ2_add (ws_ yJ2_add cJ2_add 2 (some .boolean)) (rhJ2_add fr lo mc ms) D jC (jty j.1) Z G [.ref a0, va_rf q1_] post mc ms := by
  obtain ⟨MC, eMC⟩ : ∃ MC, MC = mc := ⟨_, rfl⟩
  obtain ⟨MS, eMS⟩ : ∃ MS, MS = ms := ⟨_, rfl⟩
  suffices goal : HMi l yJ2_add (ws_ yJ2_add cJ2_add 2 (some .boolean)) (rhJ2_add fr lo MC MS) D jC (jty j.1) Z G [.ref a0, va_rf q1_] post MC MS by rw [eMC, eMS] at goal; exact goal
  have hm0_ : 0 + mc ≤ MC ∧ 0 + ms ≤ MS := by omega
  clear eMC eMS
  refine h_openz E.1 (by decide) (by cases q1_ <;> exact Nat.le_of_ble_eq_true rfl) (fun p e s m args below meth c ls A0 Q X hI hnd hnm hl hret => ?_)
  have X : XC p s m args meth c cJ2_add 2 RJ2 D jC (jty j.1) A0 Z := X
  have hx := X.1
  have hb := X.2.1
  have hown := X.2.2.2.1
  have hts := X.2.2.2.2.1
  have hl : lv_has ls 2 [(0, .ref a0), (1, va_rf q1_)] := by cases q1_ <;> exact hl
  unfold hJ2_add at hf
  obtain ⟨H, eH⟩ : ∃ H, H = s.heap := ⟨_, rfl⟩
  obtain ⟨locs, eL⟩ : ∃ locs : List Loc, locs = [] := ⟨_, rfl⟩
  have hI : HI D jC G A0 s.heap H locs := by rw [eH, eL]; exact hI
  rw [← eL]
  obtain ⟨cells, eC⟩ : ∃ n : Nat, n = 0 := ⟨_, rfl⟩
  obtain ⟨slots, eS⟩ : ∃ n : Nat, n = 0 := ⟨_, rfl⟩
  have hm : cells + mc ≤ MC ∧ slots + ms ≤ MS := by rw [eC, eS]; exact hm0_
  suffices h : W p l e (rhJ2_add fr lo MC MS) s m args below meth c H locs cells slots Q (F0 m 0 ls []) by rw [eH, eC, eS] at h; exact h
  clear eH eL eC eS
  refine lv_aload_n hx hb dJ2_add_0 rfl (lv_at hl 0 rfl) ?_
  refine lv_dup hx hb dJ2_add_1 rfl ?_
  refine hr_gtI X hI (rfl : jC.1[15]? = some (RJ2, TJ2, 3)) in_J2 0 (Nat.le_of_ble_eq_true rfl) hf q462 (hsame_of (hts _ q463)) dJ2_add_2 (fun x1 hf => ?_)
  refine lv_iconst (v := 1) hx hb dJ2_add_5 (by decide) ?_
  refine lv_iadd hx hb dJ2_add_6 ?_
  refine hr_pt X hI (rfl : jC.1[15]? = some (RJ2, TJ2, 3)) in_J2 0 (Nat.le_of_ble_eq_true rfl) tyJ2 tyJ2_ok nmJ2 hf q462 (hsame_of (hts _ q463)) rfl rfl rfl dJ2_add_7 (fun G2 H locs hf hI => ?_)
  refine lv_aload_n hx hb dJ2_add_10 rfl (lv_at hl 0 rfl) ?_
  refine h_aload_n (o := q1_) hx hb dJ2_add_11 rfl (lv_at hl 1 rfl) ?_
  refine lv_aload_n hx hb dJ2_add_12 rfl (lv_at hl 0 rfl) ?_
  refine hr_gtQ X hI (rfl : jC.1[15]? = some (RJ2, TJ2, 3)) in_J2 1 (Nat.le_of_ble_eq_true rfl) hf q459 (fun _ h => h) dJ2_add_13 (fun q3 hf => ?_)
  refine lv_aload_n hx hb dJ2_add_16 rfl (lv_at hl 0 rfl) ?_
  refine hr_gtI X hI (rfl : jC.1[15]? = some (RJ2, TJ2, 3)) in_J2 2 (Nat.le_of_ble_eq_true rfl) hf q460 (fun _ h => h) dJ2_add_17 (fun x4 hf => ?_)
  obtain ⟨_, _, hO, hf⟩ := hf
  obtain ⟨m5, m6, hb1, hb2, hf⟩ := hf
  refine h_kv X hI (h_runV (As := [va_rf q1_, va_rf q3, .int x4]) X hI (h_recv X hI hO (show jC.1[15]? = some (RJ2, TJ2, 3) from rfl)) (mhJ2_add_2 l Z D j Λ fr lo E a0 q1_ q3 x4 m5 m6 G2 _ hf H.size) (cwV 3 hts (lw_V q1811 q1813 qs20 q172 q1814) rfl rfl rfl (by decide +kernel) (by show fr + 5 + 1 ≤ fr + 6 ∧ 8 + (4 + 11) + (lo + 127) ≤ lo + 150; omega)) rfl hl.1 (Nat.le_of_ble_eq_true rfl) dJ2_add_20 ⟨hmA hm.1 hb1, hmA hm.2 hb2⟩ rfl) (fun G7 H locs hf hI => ?_)
  have hm := And.intro (hmB hm.1 hb1) (hmB hm.2 hb2)
  clear hb1 hb2
  clear hO
  refine lv_iconst (v := 1) hx hb dJ2_add_23 (by decide) ?_
  exact hret rfl hf hI dJ2_add_24 (hmC hm.1) (hmC hm.2)
/-! java/util/Objects.checkIndex(II)I -/
def hJ28_checkIndex (j : JX) (Λ : JLam) (p0 : Int32) (p1 : Int32) (G : HG) (post : Int32 → HG → Prop) : Prop :=
  hJ21_checkIndex j Λ p0 p1 none G fun x2 G1 => post x2 G1
abbrev rhJ28_checkIndex (fr lo : Nat) : Room := { frames := fr + 2, cells := 0, slots := 0, locals := lo + 62 }
theorem mhJ28_checkIndex (l : Launch) (Z : (Nat → Prop) → State → Heap → Prop) (D : va_G) (j : JX) (Λ : JLam) (fr lo : Nat) (E : JE l Z D j Λ fr lo) (p0 : Int32) (p1 : Int32) (G : HG) (post : Int32 → HG → Prop) (hf : hJ28_checkIndex j Λ p0 p1 G post) : HMi l yJ28_checkIndex (ws_ yJ28_checkIndex cJ28_checkIndex 2 (some .int)) (rhJ28_checkIndex fr lo) D jC (jty j.1) Z G [.int p0, .int p1] post 0 0 := by
  refine h_openi E.1 (by decide) (by exact Nat.le_of_ble_eq_true rfl) (fun p e s m args below meth c ls A0 Q X hI hnd hnm hl hret => ?_)
  have X : XC p s m args meth c cJ28_checkIndex 2 RJ28 D jC (jty j.1) A0 Z := X
  have hx := X.1
  have hb := X.2.1
  have hown := X.2.2.2.1
  have hts := X.2.2.2.2.1
  have hl : lv_has ls 2 [(0, .int p0), (1, .int p1)] := by exact hl
  unfold hJ28_checkIndex at hf
  obtain ⟨H, eH⟩ : ∃ H, H = s.heap := ⟨_, rfl⟩
  obtain ⟨locs, eL⟩ : ∃ locs : List Loc, locs = [] := ⟨_, rfl⟩
  have hI : HI D jC G A0 s.heap H locs := by rw [eH, eL]; exact hI
  rw [← eL]
  suffices h : W p l e (rhJ28_checkIndex fr lo) s m args below meth c H locs 0 0 Q (F0 m 0 ls []) by rw [eH] at h; exact h
  clear eH eL
  refine lv_iload_n hx hb dJ28_checkIndex_0 rfl (lv_at hl 0 rfl) ?_
  refine lv_iload_n hx hb dJ28_checkIndex_1 rfl (lv_at hl 1 rfl) ?_
  refine lv_null hx hb dJ28_checkIndex_2 ?_
  refine h_ki X hI (h_runS (As := [.int p0, .int p1, va_rf none]) X hI (mhJ21_checkIndex l Z D j Λ fr lo E p0 p1 none G _ hf H.size) (va_cwS 3 hts (lw_S q1862 q1640 q199 q1641) rfl rfl rfl (by decide +kernel) (by show fr + 1 + 1 ≤ fr + 2 ∧ 8 + (3 + 11) + (lo + 40) ≤ lo + 62; omega)) rfl hl.1 (Nat.le_of_ble_eq_true rfl) dJ28_checkIndex_3 ⟨Nat.le_refl _, Nat.le_refl _⟩ rfl) (fun x2 G1 H locs hf hI => ?_)
  exact hret hf hI dJ28_checkIndex_6 (Nat.le_refl _) (Nat.le_refl _)
/-! java/util/ArrayList.get(I)Ljava/lang/Object; -/
def hJ2_get (j : JX) (Λ : JLam) (a0 : Nat) (p1 : Int32) (G : HG) (post : Option Nat → HG → Prop) : Prop :=
  gtI G a0 15 2 fun x1 => hJ28_checkIndex j Λ p1 x1 G fun x3 G2 => isO G2 a0 15 (hJ2_elementData j Λ a0 p1 G2 fun q5 G4 => post q5 G4)
abbrev rhJ2_get (fr lo : Nat) : Room := { frames := fr + 3, cells := 0, slots := 0, locals := lo + 83 }
theorem mhJ2_get (l : Launch) (Z : (Nat → Prop) → State → Heap → Prop) (D : va_G) (j : JX) (Λ : JLam) (fr lo : Nat) (E : JE l Z D j Λ fr lo) (a0 : Nat) (p1 : Int32) (G : HG) (post : Option Nat → HG → Prop) (hf : hJ2_get j Λ a0 p1 G post) : HMq l yJ2_get (ws_ yJ2_get cJ2_get 2 (some (.object "java/lang/Object"))) (rhJ2_get fr lo) D jC (jty j.1) Z G [.ref a0, .int p1] post 0 0 := by
  refine h_openq (Or.inl ⟨_, rfl⟩) E.1 (by decide) (by exact Nat.le_of_ble_eq_true rfl) (fun p e s m args below meth c ls A0 Q X hI hnd hnm hl hret => ?_)
  have X : XC p s m args meth c cJ2_get 2 RJ2 D jC (jty j.1) A0 Z := X
  have hx := X.1
  have hb := X.2.1
  have hown := X.2.2.2.1
  have hts := X.2.2.2.2.1
  have hl : lv_has ls 2 [(0, .ref a0), (1, .int p1)] := by exact hl
  unfold hJ2_get at hf
  obtain ⟨H, eH⟩ : ∃ H, H = s.heap := ⟨_, rfl⟩
  obtain ⟨locs, eL⟩ : ∃ locs : List Loc, locs = [] := ⟨_, rfl⟩
  have hI : HI D jC G A0 s.heap H locs := by rw [eH, eL]; exact hI
  rw [← eL]
  suffices h : W p l e (rhJ2_get fr lo) s m args below meth c H locs 0 0 Q (F0 m 0 ls []) by rw [eH] at h; exact h
  clear eH eL
  refine lv_iload_n hx hb dJ2_get_0 rfl (lv_at hl 1 rfl) ?_
  refine lv_aload_n hx hb dJ2_get_1 rfl (lv_at hl 0 rfl) ?_
  refine hr_gtI X hI (rfl : jC.1[15]? = some (RJ2, TJ2, 3)) in_J2 2 (Nat.le_of_ble_eq_true rfl) hf q460 (fun _ h => h) dJ2_get_2 (fun x1 hf => ?_)
  refine h_ki X hI (h_runS (As := [.int p1, .int x1]) X hI (mhJ28_checkIndex l Z D j Λ fr lo E p1 x1 G _ hf H.size) (va_cwS 2 hts (lw_S q1859 q1860 q210 q1861) rfl rfl rfl (by decide +kernel) (by show fr + 2 + 1 ≤ fr + 3 ∧ 8 + (2 + 11) + (lo + 62) ≤ lo + 83; omega)) rfl hl.1 (Nat.le_of_ble_eq_true rfl) dJ2_get_5 ⟨Nat.le_refl _, Nat.le_refl _⟩ rfl) (fun x3 G2 H locs hf hI => ?_)
  refine lv_pop hx hb dJ2_get_8 rfl ?_
  refine lv_aload_n hx hb dJ2_get_9 rfl (lv_at hl 0 rfl) ?_
  refine lv_iload_n hx hb dJ2_get_10 rfl (lv_at hl 1 rfl) ?_
  obtain ⟨_, _, hO, hf⟩ := hf
  refine h_kq X hI (h_runV (As := [.int p1]) X hI (h_recv X hI hO (show jC.1[15]? = some (RJ2, TJ2, 3) from rfl)) (mhJ2_elementData l Z D j Λ fr lo E a0 p1 G2 _ hf H.size) (cwV 1 hts (lw_V q1863 q1864 q1865 q172 q1866) rfl rfl rfl (by decide +kernel) (by show fr + 1 + 1 ≤ fr + 3 ∧ 8 + (2 + 11) + (lo + 40) ≤ lo + 83; omega)) rfl hl.1 (Nat.le_of_ble_eq_true rfl) dJ2_get_11 ⟨Nat.le_refl _, Nat.le_refl _⟩ rfl) (fun q5 G4 H locs hf hI => ?_)
  clear hO
  exact hret (v := q5) hf hI dJ2_get_14 (Nat.le_refl _) (Nat.le_refl _)
/-! java/util/ArrayList.fastRemove([Ljava/lang/Object;I)V -/
def hJ2_fastRemove_b34 (j : JX) (Λ : JLam) (a0 : Nat) (p2 : Int32) (post : HG → Prop) (lq1 : Option Nat) (lx3 : Int32) (G : HG) : Prop :=
  ptV G a0 15 2 (.int lx3) fun G7 => nnq lq1 fun a8 => stQ jOk (jty j.1) G7 a8 lx3 none fun G9 => post G9
def hJ2_fastRemove (j : JX) (Λ : JLam) (a0 : Nat) (q1_ : Option Nat) (p2 : Int32) (G : HG) (post : HG → Prop) : Prop :=
  gtI G a0 15 0 fun x1 => ptV G a0 15 0 (.int (x1 + 1)) fun G2 => gtI G2 a0 15 2 fun x3 => ((x3 - 1) ≤ p2 → (hJ2_fastRemove_b34 j Λ a0 p2 post q1_ (x3 - 1) G2)) ∧ (¬ (x3 - 1) ≤ p2 → (nnq q1_ fun a5 => cpQ (jty j.1) G2 a5 (p2 + 1) a5 p2 ((x3 - 1) - p2) fun G6 => hJ2_fastRemove_b34 j Λ a0 p2 post (some a5) (x3 - 1) G6))
abbrev rhJ2_fastRemove (fr lo : Nat) : Room := { frames := fr + 1, cells := 0, slots := 0, locals := lo + 40 }
theorem mhJ2_fastRemove (l : Launch) (Z : (Nat → Prop) → State → Heap → Prop) (D : va_G) (j : JX) (Λ : JLam) (fr lo : Nat) (E : JE l Z D j Λ fr lo) (a0 : Nat) (q1_ : Option Nat) (p2 : Int32) (G : HG) (post : HG → Prop) (hf : hJ2_fastRemove j Λ a0 q1_ p2 G post) : HMv l yJ2_fastRemove (ws_ yJ2_fastRemove cJ2_fastRemove 4 none) (rhJ2_fastRemove fr lo) D jC (jty j.1) Z G [.ref a0, va_rf q1_, .int p2] post 0 0 := by
  refine h_openv E.1 (by decide) (by cases q1_ <;> exact Nat.le_of_ble_eq_true rfl) (fun p e s m args below meth c ls A0 Q X hI hnd hnm hl hret => ?_)
  have X : XC p s m args meth c cJ2_fastRemove 4 RJ2 D jC (jty j.1) A0 Z := X
  have hx := X.1
  have hb := X.2.1
  have hown := X.2.2.2.1
  have hts := X.2.2.2.2.1
  have J34 : ∀ (lq1 : Option Nat) (lx3 : Int32) (G : HG), hJ2_fastRemove_b34 j Λ a0 p2 post lq1 lx3 G → ∀ (H : Heap) (locs : List Loc), HI D jC G A0 s.heap H locs → ∀ (ls : Array Slot), lv_has ls 4 [(0, .ref a0), (1, va_rf lq1), (3, .int lx3)] → W p l e (rhJ2_fastRemove fr lo) s m args below meth c H locs 0 0 Q (F0 m 34 ls []) := by
    intro lq1 lx3 G hf H locs hI ls hl
    unfold hJ2_fastRemove_b34 at hf
    refine h_aload_n (o := lq1) hx hb dJ2_fastRemove_34 rfl (lv_at hl 1 rfl) ?_
    refine lv_aload_n hx hb dJ2_fastRemove_35 rfl (lv_at hl 0 rfl) ?_
    refine lv_iload_n hx hb dJ2_fastRemove_36 rfl (lv_at hl 2 rfl) ?_
    refine lv_dup_x1 hx hb dJ2_fastRemove_37 rfl rfl ?_
    refine hr_pt X hI (rfl : jC.1[15]? = some (RJ2, TJ2, 3)) in_J2 2 (Nat.le_of_ble_eq_true rfl) tyJ2 tyJ2_ok nmJ2 hf q460 (fun _ h => h) rfl rfl rfl dJ2_fastRemove_38 (fun G7 H locs hf hI => ?_)
    refine lv_null hx hb dJ2_fastRemove_41 ?_
    obtain ⟨a8, ea8, hf⟩ := hf
    revert hl hf
    subst ea8
    intro hl hf
    have hl : lv_has ls 4 [(0, .ref a0), (1, .ref a8), (3, .int lx3)] := hl
    refine hr_qst (v := none) X hI (jOk_asg (E.w X)) hf dJ2_fastRemove_42 (fun G9 H locs hf hI => ?_)
    exact hret hf hI dJ2_fastRemove_43 (Nat.le_refl _) (Nat.le_refl _)
  have hl : lv_has ls 4 [(0, .ref a0), (1, va_rf q1_), (2, .int p2)] := by cases q1_ <;> exact hl
  unfold hJ2_fastRemove at hf
  obtain ⟨H, eH⟩ : ∃ H, H = s.heap := ⟨_, rfl⟩
  obtain ⟨locs, eL⟩ : ∃ locs : List Loc, locs = [] := ⟨_, rfl⟩
  have hI : HI D jC G A0 s.heap H locs := by rw [eH, eL]; exact hI
  rw [← eL]
  suffices h : W p l e (rhJ2_fastRemove fr lo) s m args below meth c H locs 0 0 Q (F0 m 0 ls []) by rw [eH] at h; exact h
  clear eH eL
  refine lv_aload_n hx hb dJ2_fastRemove_0 rfl (lv_at hl 0 rfl) ?_
  refine lv_dup hx hb dJ2_fastRemove_1 rfl ?_
  refine hr_gtI X hI (rfl : jC.1[15]? = some (RJ2, TJ2, 3)) in_J2 0 (Nat.le_of_ble_eq_true rfl) hf q462 (hsame_of (hts _ q463)) dJ2_fastRemove_2 (fun x1 hf => ?_)
  refine lv_iconst (v := 1) hx hb dJ2_fastRemove_5 (by decide) ?_
  refine lv_iadd hx hb dJ2_fastRemove_6 ?_
  refine hr_pt X hI (rfl : jC.1[15]? = some (RJ2, TJ2, 3)) in_J2 0 (Nat.le_of_ble_eq_true rfl) tyJ2 tyJ2_ok nmJ2 hf q462 (hsame_of (hts _ q463)) rfl rfl rfl dJ2_fastRemove_7 (fun G2 H locs hf hI => ?_)
  refine lv_aload_n hx hb dJ2_fastRemove_10 rfl (lv_at hl 0 rfl) ?_
  refine hr_gtI X hI (rfl : jC.1[15]? = some (RJ2, TJ2, 3)) in_J2 2 (Nat.le_of_ble_eq_true rfl) hf q460 (fun _ h => h) dJ2_fastRemove_11 (fun x3 hf => ?_)
  refine lv_iconst (v := 1) hx hb dJ2_fastRemove_14 (by decide) ?_
  refine lv_isub hx hb dJ2_fastRemove_15 ?_
  refine lv_dup hx hb dJ2_fastRemove_16 rfl ?_
  refine lv_istore_n (lv' := [(3, .int (x3 - 1)), (0, .ref a0), (1, va_rf q1_), (2, .int p2)]) hx hb dJ2_fastRemove_17 rfl hl (by decide) rfl (fun ls hl => ?_)
  refine lv_iload_n hx hb dJ2_fastRemove_18 rfl (lv_at hl 3 rfl) ?_
  refine lv_icmp_le (tgt := 34) hx hb dJ2_fastRemove_19 (by decide) (fun c4 => ?_) (fun c4 => ?_)
  · have hf := hf.1 c4
    exact J34 q1_ (x3 - 1) G2 hf H locs hI ls (lv_sub hl [1, 2, 0] rfl)
  · have hf := hf.2 c4
    refine h_aload_n (o := q1_) hx hb dJ2_fastRemove_22 rfl (lv_at hl 2 rfl) ?_
    refine lv_iload_n hx hb dJ2_fastRemove_23 rfl (lv_at hl 3 rfl) ?_
    refine lv_iconst (v := 1) hx hb dJ2_fastRemove_24 (by decide) ?_
    refine lv_iadd hx hb dJ2_fastRemove_25 ?_
    refine h_aload_n (o := q1_) hx hb dJ2_fastRemove_26 rfl (lv_at hl 2 rfl) ?_
    refine lv_iload_n hx hb dJ2_fastRemove_27 rfl (lv_at hl 3 rfl) ?_
    refine lv_iload_n hx hb dJ2_fastRemove_28 rfl (lv_at hl 0 rfl) ?_
    refine lv_iload_n hx hb dJ2_fastRemove_29 rfl (lv_at hl 3 rfl) ?_
    refine lv_isub hx hb dJ2_fastRemove_30 ?_
    obtain ⟨a5, ea5, hf⟩ := hf
    revert hl hf
    subst ea5
    intro hl hf
    have hl : lv_has ls 4 [(3, .int (x3 - 1)), (0, .ref a0), (1, .ref a5), (2, .int p2)] := hl
    refine hr_cpQ E X hI hf q2590 hl.1 (Nat.le_of_ble_eq_true rfl) (by show 1 ≤ fr + 1 ∧ 40 ≤ lo + 40; omega) dJ2_fastRemove_31 (fun G6 H locs hf hI => ?_)
    exact J34 (some a5) (x3 - 1) G6 hf H locs hI ls (lv_sub hl [1, 2, 0] rfl)
/-! java/util/ArrayList.remove(I)Ljava/lang/Object; -/
def hJ2_remove (j : JX) (Λ : JLam) (a0 : Nat) (p1 : Int32) (G : HG) (post : Option Nat → HG → Prop) : Prop :=
  gtI G a0 15 2 fun x1 => hJ28_checkIndex j Λ p1 x1 G fun x3 G2 => gtQ G2 a0 15 1 fun q4 => nnq q4 fun a5 => ldQ (jty j.1) G2 a5 p1 fun q6 => isO G2 a0 15 (hJ2_fastRemove j Λ a0 (some a5) p1 G2 fun G7 => post q6 G7)
abbrev rhJ2_remove (fr lo : Nat) : Room := { frames := fr + 3, cells := 0, slots := 0, locals := lo + 83 }
theorem mhJ2_remove (l : Launch) (Z : (Nat → Prop) → State → Heap → Prop) (D : va_G) (j : JX) (Λ : JLam) (fr lo : Nat) (E : JE l Z D j Λ fr lo) (a0 : Nat) (p1 : Int32) (G : HG) (post : Option Nat → HG → Prop) (hf : hJ2_remove j Λ a0 p1 G post) : HMq l yJ2_remove (ws_ yJ2_remove cJ2_remove 4 (some (.object "java/lang/Object"))) (rhJ2_remove fr lo) D jC (jty j.1) Z G [.ref a0, .int p1] post 0 0 := by
  refine h_openq (Or.inl ⟨_, rfl⟩) E.1 (by decide) (by exact Nat.le_of_ble_eq_true rfl) (fun p e s m args below meth c ls A0 Q X hI hnd hnm hl hret => ?_)
  have X : XC p s m args meth c cJ2_remove 4 RJ2 D jC (jty j.1) A0 Z := X
  have hx := X.1
  have hb := X.2.1
  have hown := X.2.2.2.1
  have hts := X.2.2.2.2.1
  have hl : lv_has ls 4 [(0, .ref a0), (1, .int p1)] := by exact hl
  unfold hJ2_remove at hf
  obtain ⟨H, eH⟩ : ∃ H, H = s.heap := ⟨_, rfl⟩
  obtain ⟨locs, eL⟩ : ∃ locs : List Loc, locs = [] := ⟨_, rfl⟩
  have hI : HI D jC G A0 s.heap H locs := by rw [eH, eL]; exact hI
  rw [← eL]
  suffices h : W p l e (rhJ2_remove fr lo) s m args below meth c H locs 0 0 Q (F0 m 0 ls []) by rw [eH] at h; exact h
  clear eH eL
  refine lv_iload_n hx hb dJ2_remove_0 rfl (lv_at hl 1 rfl) ?_
  refine lv_aload_n hx hb dJ2_remove_1 rfl (lv_at hl 0 rfl) ?_
  refine hr_gtI X hI (rfl : jC.1[15]? = some (RJ2, TJ2, 3)) in_J2 2 (Nat.le_of_ble_eq_true rfl) hf q460 (fun _ h => h) dJ2_remove_2 (fun x1 hf => ?_)
  refine h_ki X hI (h_runS (As := [.int p1, .int x1]) X hI (mhJ28_checkIndex l Z D j Λ fr lo E p1 x1 G _ hf H.size) (va_cwS 2 hts (lw_S q1859 q1860 q210 q1861) rfl rfl rfl (by decide +kernel) (by show fr + 2 + 1 ≤ fr + 3 ∧ 8 + (2 + 11) + (lo + 62) ≤ lo + 83; omega)) rfl hl.1 (Nat.le_of_ble_eq_true rfl) dJ2_remove_5 ⟨Nat.le_refl _, Nat.le_refl _⟩ rfl) (fun x3 G2 H locs hf hI => ?_)
  refine lv_pop hx hb dJ2_remove_8 rfl ?_
  refine lv_aload_n hx hb dJ2_remove_9 rfl (lv_at hl 0 rfl) ?_
  refine hr_gtQ X hI (rfl : jC.1[15]? = some (RJ2, TJ2, 3)) in_J2 1 (Nat.le_of_ble_eq_true rfl) hf q459 (fun _ h => h) dJ2_remove_10 (fun q4 hf => ?_)
  refine h_astore_n (o := q4) (lv' := [(2, va_rf q4), (0, .ref a0), (1, .int p1)]) hx hb dJ2_remove_13 rfl hl (by decide) rfl (fun ls hl => ?_)
  refine h_aload_n (o := q4) hx hb dJ2_remove_14 rfl (lv_at hl 0 rfl) ?_
  refine lv_iload_n hx hb dJ2_remove_15 rfl (lv_at hl 2 rfl) ?_
  obtain ⟨a5, ea5, hf⟩ := hf
  revert hl hf
  subst ea5
  intro hl hf
  have hl : lv_has ls 4 [(2, .ref a5), (0, .ref a0), (1, .int p1)] := hl
  refine hr_qld X hI hf dJ2_remove_16 (fun q6 hf => ?_)
  refine h_astore_n (o := q6) (lv' := [(3, va_rf q6), (2, .ref a5), (0, .ref a0), (1, .int p1)]) hx hb dJ2_remove_17 rfl hl (by decide) rfl (fun ls hl => ?_)
  refine lv_aload_n hx hb dJ2_remove_18 rfl (lv_at hl 2 rfl) ?_
  refine lv_aload_n hx hb dJ2_remove_19 rfl (lv_at hl 1 rfl) ?_
  refine lv_iload_n hx hb dJ2_remove_20 rfl (lv_at hl 3 rfl) ?_
  obtain ⟨_, _, hO, hf⟩ := hf
  refine h_kv X hI (h_runV (As := [va_rf (some a5), .int p1]) X hI (h_recv X hI hO (show jC.1[15]? = some (RJ2, TJ2, 3) from rfl)) (mhJ2_fastRemove l Z D j Λ fr lo E a0 (some a5) p1 G2 _ hf H.size) (cwV 2 hts (lw_V q2586 q2588 qs90 q172 q2589) rfl rfl rfl (by decide +kernel) (by show fr + 1 + 1 ≤ fr + 3 ∧ 8 + (4 + 11) + (lo + 40) ≤ lo + 83; omega)) rfl hl.1 (Nat.le_of_ble_eq_true rfl) dJ2_remove_21 ⟨Nat.le_refl _, Nat.le_refl _⟩ rfl) (fun G7 H locs hf hI => ?_)
  clear hO
  refine h_aload_n (o := q6) hx hb dJ2_remove_24 rfl (lv_at hl 0 rfl) ?_
  exact hret (v := q6) hf hI dJ2_remove_25 (Nat.le_refl _) (Nat.le_refl _)
/-! java/util/ArrayList.toArray()[Ljava/lang/Object; -/
def hJ2_toArray (j : JX) (Λ : JLam) (a0 : Nat) (mc ms : Nat) (G : HG) (post : Option Nat → HG → Prop) : Prop :=
  gtQ G a0 15 1 fun q1 => gtI G a0 15 2 fun x2 => ∃ m3 m4 : Nat, m3 ≤ mc ∧ m4 ≤ ms ∧ hJ26_copyOf_2 j Λ q1 x2 m3 m4 G fun q6 G5 => post q6 G5
abbrev rhJ2_toArray (fr lo mc ms : Nat) : Room := { frames := fr + 3, cells := mc, slots := ms, locals := lo + 84 }
theorem mhJ2_toArray (l : Launch) (Z : (Nat → Prop) → State → Heap → Prop) (D : va_G) (j : JX) (Λ : JLam) (fr lo : Nat) (E : JE l Z D j Λ fr lo) (a0 : Nat) (mc ms : Nat) (G : HG) (post : Option Nat → HG → Prop) (hf : hJ2_toArray j Λ a0 mc ms G post) : HMq l yJ2_toArray (ws_ yJ2_toArray cJ2_toArray 1 (some (.array (.object "java/lang/Object")))) (rhJ2_toArray fr lo mc ms) D jC (jty j.1) Z G [.ref a0] post mc ms := by
  obtain ⟨MC, eMC⟩ : ∃ MC, MC = mc := ⟨_, rfl⟩
  obtain ⟨MS, eMS⟩ : ∃ MS, MS = ms := ⟨_, rfl⟩
  suffices goal : HMq l yJ2_toArray (ws_ yJ2_toArray cJ2_toArray 1 (some (.array (.object "java/lang/Object")))) (rhJ2_toArray fr lo MC MS) D jC (jty j.1) Z G [.ref a0] post MC MS by rw [eMC, eMS] at goal; exact goal
  have hm0_ : 0 + mc ≤ MC ∧ 0 + ms ≤ MS := by omega
  clear eMC eMS
  refine h_openq (Or.inr ⟨_, rfl⟩) E.1 (by decide) (by exact Nat.le_of_ble_eq_true rfl) (fun p e s m args below meth c ls A0 Q X hI hnd hnm hl hret => ?_)
  have X : XC p s m args meth c cJ2_toArray 1 RJ2 D jC (jty j.1) A0 Z := X
  have hx := X.1
  have hb := X.2.1
  have hown := X.2.2.2.1
  have hts := X.2.2.2.2.1
  have hl : lv_has ls 1 [(0, .ref a0)] := by exact hl
  unfold hJ2_toArray at hf
  obtain ⟨H, eH⟩ : ∃ H, H = s.heap := ⟨_, rfl⟩
  obtain ⟨locs, eL⟩ : ∃ locs : List Loc, locs = [] := ⟨_, rfl⟩
  have hI : HI D jC G A0 s.heap H locs := by rw [eH, eL]; exact hI
  rw [← eL]
  obtain ⟨cells, eC⟩ : ∃ n : Nat, n = 0 := ⟨_, rfl⟩
  obtain ⟨slots, eS⟩ : ∃ n : Nat, n = 0 := ⟨_, rfl⟩
  have hm : cells + mc ≤ MC ∧ slots + ms ≤ MS := by rw [eC, eS]; exact hm0_
  suffices h : W p l e (rhJ2_toArray fr lo MC MS) s m args below meth c H locs cells slots Q (F0 m 0 ls []) by rw [eH, eC, eS] at h; exact h
  clear eH eL eC eS
  refine lv_aload_n hx hb dJ2_toArray_0 rfl (lv_at hl 0 rfl) ?_
  refine hr_gtQ X hI (rfl : jC.1[15]? = some (RJ2, TJ2, 3)) in_J2 1 (Nat.le_of_ble_eq_true rfl) hf q459 (fun _ h => h) dJ2_toArray_1 (fun q1 hf => ?_)
  refine lv_aload_n hx hb dJ2_toArray_4 rfl (lv_at hl 0 rfl) ?_
  refine hr_gtI X hI (rfl : jC.1[15]? = some (RJ2, TJ2, 3)) in_J2 2 (Nat.le_of_ble_eq_true rfl) hf q460 (fun _ h => h) dJ2_toArray_5 (fun x2 hf => ?_)
  obtain ⟨m3, m4, hb1, hb2, hf⟩ := hf
  refine h_kq X hI (h_runS (As := [va_rf q1, .int x2]) X hI (mhJ26_copyOf_2 l Z D j Λ fr lo E q1 x2 m3 m4 G _ hf H.size) (va_cwS 2 hts (lw_S q1824 q1825 q204 q1826) rfl rfl rfl (by decide +kernel) (by show fr + 2 + 1 ≤ fr + 3 ∧ 8 + (2 + 11) + (lo + 63) ≤ lo + 84; omega)) rfl hl.1 (Nat.le_of_ble_eq_true rfl) dJ2_toArray_8 ⟨hmA hm.1 hb1, hmA hm.2 hb2⟩ rfl) (fun q6 G5 H locs hf hI => ?_)
  have hm := And.intro (hmB hm.1 hb1) (hmB hm.2 hb2)
  clear hb1 hb2
  exact hret (v := q6) hf hI dJ2_toArray_11 (hmC hm.1) (hmC hm.2)
/-! java/util/ArrayList.addAll(Ljava/util/Collection;)Z -/
def hJ2_addAll_b56 (j : JX) (Λ : JLam) (a0 : Nat) (post : Int32 → HG → Prop) (la2 : Nat) (lx3 : Int32) (lq4 : Option Nat) (lx5 : Int32) (mc ms : Nat) (G : HG) : Prop :=
  nnq lq4 fun a20 => cpQ (jty j.1) G la2 (0 : Int32) a20 lx5 lx3 fun G21 => ptV G21 a0 15 2 (.int (lx5 + lx3)) fun G22 => post (1 : Int32) G22
def hJ2_addAll (j : JX) (Λ : JLam) (a0 : Nat) (q1_ : Option Nat) (mc ms : Nat) (G : HG) (post : Int32 → HG → Prop) : Prop :=
  nnq q1_ fun a1 => isO G a1 15 (∃ m2 m3 : Nat, m2 ≤ mc ∧ m3 ≤ ms ∧ hJ2_toArray j Λ a1 m2 m3 G fun q5 G4 => gtI G4 a0 15 0 fun x6 => ptV G4 a0 15 0 (.int (x6 + 1)) fun G7 => nnq q5 fun a8 => aln (jty j.1) G7 a8 fun x9 => (x9 = 0 → (post (0 : Int32) G7)) ∧ (¬ x9 = 0 → (gtQ G7 a0 15 1 fun q11 => nnq q11 fun a12 => aln (jty j.1) G7 a12 fun x13 => gtI G7 a0 15 2 fun x14 => (x9 ≤ (x13 - x14) → (hJ2_addAll_b56 j Λ a0 post a8 x9 (some a12) x14 (mc - m2) (ms - m3) G7)) ∧ (¬ x9 ≤ (x13 - x14) → (isO G7 a0 15 (∃ m16 m17 : Nat, m16 ≤ mc - m2 ∧ m17 ≤ ms - m3 ∧ hJ2_grow_2 j Λ a0 (x14 + x9) m16 m17 G7 fun q19 G18 => hJ2_addAll_b56 j Λ a0 post a8 x9 q19 x14 (mc - m2 - m16) (ms - m3 - m17) G18))))))
abbrev rhJ2_addAll (fr lo mc ms : Nat) : Room := { frames := fr + 4, cells := mc, slots := ms, locals := lo + 107 }
theorem mhJ2_addAll (l : Launch) (Z : (Nat → Prop) → State → Heap → Prop) (D : va_G) (j : JX) (Λ : JLam) (fr lo : Nat) (E : JE l Z D j Λ fr lo) (a0 : Nat) (q1_ : Option Nat) (mc ms : Nat) (G : HG) (post : Int32 → HG → Prop) (hf : hJ2_addAll j Λ a0 q1_ mc ms G post) : HMi l yJ2_addAll (ws_ yJ2_addAll cJ2_addAll 6 (some .boolean)) (rhJ2_addAll fr lo mc ms) D jC (jty j.1) Z G [.ref a0, va_rf q1_] post mc ms := by
  obtain ⟨MC, eMC⟩ : ∃ MC, MC = mc := ⟨_, rfl⟩
  obtain ⟨MS, eMS⟩ : ∃ MS, MS = ms := ⟨_, rfl⟩
  suffices goal : HMi l yJ2_addAll (ws_ yJ2_addAll cJ2_addAll 6 (some .boolean)) (rhJ2_addAll fr lo MC MS) D jC (jty j.1) Z G [.ref a0, va_rf q1_] post MC MS by rw [eMC, eMS] at goal; exact goal
  have hm0_ : 0 + mc ≤ MC ∧ 0 + ms ≤ MS := by omega
  clear eMC eMS
  refine h_openz E.1 (by decide) (by cases q1_ <;> exact Nat.le_of_ble_eq_true rfl) (fun p e s m args below meth c ls A0 Q X hI hnd hnm hl hret => ?_)
  have X : XC p s m args meth c cJ2_addAll 6 RJ2 D jC (jty j.1) A0 Z := X
  have hx := X.1
  have hb := X.2.1
  have hown := X.2.2.2.1
  have hts := X.2.2.2.2.1
  have J56 : ∀ (la2 : Nat) (lx3 : Int32) (lq4 : Option Nat) (lx5 : Int32) (mc ms : Nat) (G : HG), hJ2_addAll_b56 j Λ a0 post la2 lx3 lq4 lx5 mc ms G → ∀ (cells slots : Nat), cells + mc ≤ MC ∧ slots + ms ≤ MS → ∀ (H : Heap) (locs : List Loc), HI D jC G A0 s.heap H locs → ∀ (ls : Array Slot), lv_has ls 6 [(0, .ref a0), (2, .ref la2), (3, .int lx3), (4, va_rf lq4), (5, .int lx5)] → W p l e (rhJ2_addAll fr lo MC MS) s m args below meth c H locs cells slots Q (F0 m 56 ls []) := by
    intro la2 lx3 lq4 lx5 mc ms G hf cells slots hm H locs hI ls hl
    unfold hJ2_addAll_b56 at hf
    refine lv_aload_n hx hb dJ2_addAll_56 rfl (lv_at hl 1 rfl) ?_
    refine lv_iconst (v := 0) hx hb dJ2_addAll_57 (by decide) ?_
    refine h_aload (o := lq4) hx hb dJ2_addAll_58 (lv_at hl 3 rfl) ?_
    refine lv_iload hx hb dJ2_addAll_60 (lv_at hl 4 rfl) ?_
    refine lv_iload_n hx hb dJ2_addAll_62 rfl (lv_at hl 2 rfl) ?_
    obtain ⟨a20, ea20, hf⟩ := hf
    revert hl hf
    subst ea20
    intro hl hf
    have hl : lv_has ls 6 [(0, .ref a0), (2, .ref la2), (3, .int lx3), (4, .ref a20), (5, .int lx5)] := hl
    refine hr_cpQ E X hI hf q2590 hl.1 (Nat.le_of_ble_eq_true rfl) (by show 1 ≤ fr + 4 ∧ 40 ≤ lo + 107; omega) dJ2_addAll_63 (fun G21 H locs hf hI => ?_)
    refine lv_aload_n hx hb dJ2_addAll_66 rfl (lv_at hl 0 rfl) ?_
    refine lv_iload hx hb dJ2_addAll_67 (lv_at hl 4 rfl) ?_
    refine lv_iload_n hx hb dJ2_addAll_69 rfl (lv_at hl 2 rfl) ?_
    refine lv_iadd hx hb dJ2_addAll_70 ?_
    refine hr_pt X hI (rfl : jC.1[15]? = some (RJ2, TJ2, 3)) in_J2 2 (Nat.le_of_ble_eq_true rfl) tyJ2 tyJ2_ok nmJ2 hf q460 (fun _ h => h) rfl rfl rfl dJ2_addAll_71 (fun G22 H locs hf hI => ?_)
    refine lv_iconst (v := 1) hx hb dJ2_addAll_74 (by decide) ?_
    exact hret rfl hf hI dJ2_addAll_75 (hmC hm.1) (hmC hm.2)
  have hl : lv_has ls 6 [(0, .ref a0), (1, va_rf q1_)] := by cases q1_ <;> exact hl
  unfold hJ2_addAll at hf
  obtain ⟨H, eH⟩ : ∃ H, H = s.heap := ⟨_, rfl⟩
  obtain ⟨locs, eL⟩ : ∃ locs : List Loc, locs = [] := ⟨_, rfl⟩
  have hI : HI D jC G A0 s.heap H locs := by rw [eH, eL]; exact hI
  rw [← eL]
  obtain ⟨cells, eC⟩ : ∃ n : Nat, n = 0 := ⟨_, rfl⟩
  obtain ⟨slots, eS⟩ : ∃ n : Nat, n = 0 := ⟨_, rfl⟩
  have hm : cells + mc ≤ MC ∧ slots + ms ≤ MS := by rw [eC, eS]; exact hm0_
  suffices h : W p l e (rhJ2_addAll fr lo MC MS) s m args below meth c H locs cells slots Q (F0 m 0 ls []) by rw [eH, eC, eS] at h; exact h
  clear eH eL eC eS
  refine h_aload_n (o := q1_) hx hb dJ2_addAll_0 rfl (lv_at hl 1 rfl) ?_
  obtain ⟨a1, ea1, hf⟩ := hf
  revert hl hf
  subst ea1
  intro hl hf
  have hl : lv_has ls 6 [(0, .ref a0), (1, .ref a1)] := hl
  obtain ⟨_, _, hO, hf⟩ := hf
  obtain ⟨m2, m3, hb1, hb2, hf⟩ := hf
  refine h_Fkq X hI (h_runF (As := []) X hI (X.2.2.2.2.2.1.1 15 _ (show jC.1[15]? = some (RJ2, TJ2, 3) from rfl)).2 (h_recv X hI hO (show jC.1[15]? = some (RJ2, TJ2, 3) from rfl)) (mhJ2_toArray l Z D j Λ fr lo E a1 m2 m3 G _ hf H.size) (cwF 0 hts q2628 q2632 q2634 q172 q2636 ((E.w X).2.2.1 _ (List.mem_of_getElem? (show jFw[6]? = _ from rfl))) rfl rfl (by decide +kernel) (by show fr + 3 + 1 ≤ fr + 4 ∧ 8 + (1 + 11) + (lo + 84) ≤ lo + 107; omega)) rfl hl.1 (Nat.le_of_ble_eq_true rfl) dJ2_addAll_1 ⟨hmA hm.1 hb1, hmA hm.2 hb2⟩ rfl) (fun q5 G4 H locs hf hI => ?_)
  have hm := And.intro (hmB hm.1 hb1) (hmB hm.2 hb2)
  clear hb1 hb2
  clear hO
  refine h_astore_n (o := q5) (lv' := [(2, va_rf q5), (0, .ref a0), (1, .ref a1)]) hx hb dJ2_addAll_6 rfl hl (by decide) rfl (fun ls hl => ?_)
  refine lv_aload_n hx hb dJ2_addAll_7 rfl (lv_at hl 1 rfl) ?_
  refine lv_dup hx hb dJ2_addAll_8 rfl ?_
  refine hr_gtI X hI (rfl : jC.1[15]? = some (RJ2, TJ2, 3)) in_J2 0 (Nat.le_of_ble_eq_true rfl) hf q462 (hsame_of (hts _ q463)) dJ2_addAll_9 (fun x6 hf => ?_)
  refine lv_iconst (v := 1) hx hb dJ2_addAll_12 (by decide) ?_
  refine lv_iadd hx hb dJ2_addAll_13 ?_
  refine hr_pt X hI (rfl : jC.1[15]? = some (RJ2, TJ2, 3)) in_J2 0 (Nat.le_of_ble_eq_true rfl) tyJ2 tyJ2_ok nmJ2 hf q462 (hsame_of (hts _ q463)) rfl rfl rfl dJ2_addAll_14 (fun G7 H locs hf hI => ?_)
  refine h_aload_n (o := q5) hx hb dJ2_addAll_17 rfl (lv_at hl 0 rfl) ?_
  obtain ⟨a8, ea8, hf⟩ := hf
  revert hl hf
  subst ea8
  intro hl hf
  have hl : lv_has ls 6 [(2, .ref a8), (0, .ref a0), (1, .ref a1)] := hl
  refine hr_aln X hI hf dJ2_addAll_18 (fun x9 hf => ?_)
  refine lv_istore_n (lv' := [(3, .int x9), (2, .ref a8), (0, .ref a0), (1, .ref a1)]) hx hb dJ2_addAll_19 rfl hl (by decide) rfl (fun ls hl => ?_)
  refine lv_iload_n hx hb dJ2_addAll_20 rfl (lv_at hl 0 rfl) ?_
  refine lv_if_ne (tgt := 26) hx hb dJ2_addAll_21 (by decide) (fun c10 => ?_) (fun c10 => ?_)
  · have hf := hf.2 c10
    refine lv_iload_n hx hb dJ2_addAll_26 rfl (lv_at hl 0 rfl) ?_
    refine lv_aload_n hx hb dJ2_addAll_27 rfl (lv_at hl 2 rfl) ?_
    refine hr_gtQ X hI (rfl : jC.1[15]? = some (RJ2, TJ2, 3)) in_J2 1 (Nat.le_of_ble_eq_true rfl) hf q459 (fun _ h => h) dJ2_addAll_28 (fun q11 hf => ?_)
    refine lv_dup hx hb dJ2_addAll_31 (h_catq _) ?_
    refine h_astore (o := q11) (lv' := [(4, va_rf q11), (3, .int x9), (2, .ref a8), (0, .ref a0), (1, .ref a1)]) hx hb dJ2_addAll_32 hl (by decide) rfl (fun ls hl => ?_)
    obtain ⟨a12, ea12, hf⟩ := hf
    revert hl hf
    subst ea12
    intro hl hf
    have hl : lv_has ls 6 [(4, .ref a12), (3, .int x9), (2, .ref a8), (0, .ref a0), (1, .ref a1)] := hl
    refine hr_aln X hI hf dJ2_addAll_34 (fun x13 hf => ?_)
    refine lv_aload_n hx hb dJ2_addAll_35 rfl (lv_at hl 3 rfl) ?_
    refine hr_gtI X hI (rfl : jC.1[15]? = some (RJ2, TJ2, 3)) in_J2 2 (Nat.le_of_ble_eq_true rfl) hf q460 (fun _ h => h) dJ2_addAll_36 (fun x14 hf => ?_)
    refine lv_dup hx hb dJ2_addAll_39 rfl ?_
    refine lv_istore (lv' := [(5, .int x14), (4, .ref a12), (3, .int x9), (2, .ref a8), (0, .ref a0), (1, .ref a1)]) hx hb dJ2_addAll_40 hl (by decide) rfl (fun ls hl => ?_)
    refine lv_isub hx hb dJ2_addAll_42 ?_
    refine lv_icmp_le (tgt := 56) hx hb dJ2_addAll_43 (by decide) (fun c15 => ?_) (fun c15 => ?_)
    · have hf := hf.1 c15
      exact J56 a8 x9 (some a12) x14 (mc - m2) (ms - m3) G7 hf _ _ hm H locs hI ls (lv_sub hl [4, 3, 2, 1, 0] rfl)
    · have hf := hf.2 c15
      refine lv_aload_n hx hb dJ2_addAll_46 rfl (lv_at hl 4 rfl) ?_
      refine lv_iload hx hb dJ2_addAll_47 (lv_at hl 0 rfl) ?_
      refine lv_iload_n hx hb dJ2_addAll_49 rfl (lv_at hl 2 rfl) ?_
      refine lv_iadd hx hb dJ2_addAll_50 ?_
      obtain ⟨_, _, hO, hf⟩ := hf
      obtain ⟨m16, m17, hb1, hb2, hf⟩ := hf
      refine h_kq X hI (h_runV (As := [.int (x14 + x9)]) X hI (h_recv X hI hO (show jC.1[15]? = some (RJ2, TJ2, 3) from rfl)) (mhJ2_grow_2 l Z D j Λ fr lo E a0 (x14 + x9) m16 m17 G7 _ hf H.size) (cwV 1 hts (lw_V q1819 q1821 qs22 q172 q1822) rfl rfl rfl (by decide +kernel) (by show fr + 3 + 1 ≤ fr + 4 ∧ 8 + (4 + 11) + (lo + 84) ≤ lo + 107; omega)) rfl hl.1 (Nat.le_of_ble_eq_true rfl) dJ2_addAll_51 ⟨hmA hm.1 hb1, hmA hm.2 hb2⟩ rfl) (fun q19 G18 H locs hf hI => ?_)
      have hm := And.intro (hmB hm.1 hb1) (hmB hm.2 hb2)
      clear hb1 hb2
      clear hO
      refine h_astore (o := q19) (lv' := [(4, va_rf q19), (5, .int x14), (3, .int x9), (2, .ref a8), (0, .ref a0), (1, .ref a1)]) hx hb dJ2_addAll_54 hl (by decide) rfl (fun ls hl => ?_)
      exact J56 a8 x9 q19 x14 (mc - m2 - m16) (ms - m3 - m17) G18 hf _ _ hm H locs hI ls (lv_sub hl [4, 3, 2, 0, 1] rfl)
  · have hf := hf.1 c10
    refine lv_iconst (v := 0) hx hb dJ2_addAll_24 (by decide) ?_
    exact hret rfl hf hI dJ2_addAll_25 (hmC hm.1) (hmC hm.2)
/-! jdk/internal/util/Preconditions.checkFromIndexSize(IIILjava/util/function/BiFunction;)I -/
def hJ21_checkFromIndexSize_b15 (j : JX) (Λ : JLam) (p0 : Int32) (p1 : Int32) (p2 : Int32) (post : Int32 → HG → Prop) (lq3 : Option Nat) (G : HG) : Prop :=
  False
def hJ21_checkFromIndexSize (j : JX) (Λ : JLam) (p0 : Int32) (p1 : Int32) (p2 : Int32) (q3_ : Option Nat) (G : HG) (post : Int32 → HG → Prop) : Prop :=
  (((p2 ||| p0) ||| p1) < 0 → (hJ21_checkFromIndexSize_b15 j Λ p0 p1 p2 post q3_ G)) ∧ (¬ ((p2 ||| p0) ||| p1) < 0 → ((p1 ≤ (p2 - p0) → (post p0 G)) ∧ (¬ p1 ≤ (p2 - p0) → (hJ21_checkFromIndexSize_b15 j Λ p0 p1 p2 post q3_ G))))
abbrev rhJ21_checkFromIndexSize (fr lo : Nat) : Room := { frames := fr + 1, cells := 0, slots := 0, locals := lo + 40 }
theorem mhJ21_checkFromIndexSize (l : Launch) (Z : (Nat → Prop) → State → Heap → Prop) (D : va_G) (j : JX) (Λ : JLam) (fr lo : Nat) (E : JE l Z D j Λ fr lo) (p0 : Int32) (p1 : Int32) (p2 : Int32) (q3_ : Option Nat) (G : HG) (post : Int32 → HG → Prop) (hf : hJ21_checkFromIndexSize j Λ p0 p1 p2 q3_ G post) : HMi l yJ21_checkFromIndexSize (ws_ yJ21_checkFromIndexSize cJ21_checkFromIndexSize 4 (some .int)) (rhJ21_checkFromIndexSize fr lo) D jC (jty j.1) Z G [.int p0, .int p1, .int p2, va_rf q3_] post 0 0 := by
  refine h_openi E.1 (by decide) (by cases q3_ <;> exact Nat.le_of_ble_eq_true rfl) (fun p e s m args below meth c ls A0 Q X hI hnd hnm hl hret => ?_)
  have X : XC p s m args meth c cJ21_checkFromIndexSize 4 RJ21 D jC (jty j.1) A0 Z := X
  have hx := X.1
  have hb := X.2.1
  have hown := X.2.2.2.1
  have hts := X.2.2.2.2.1
  have J15 : ∀ (lq3 : Option Nat) (G : HG), hJ21_checkFromIndexSize_b15 j Λ p0 p1 p2 post lq3 G → ∀ (H : Heap) (locs : List Loc), HI D jC G A0 s.heap H locs → ∀ (ls : Array Slot), lv_has ls 4 [(0, .int p0), (1, .int p1), (2, .int p2), (3, va_rf lq3)] → W p l e (rhJ21_checkFromIndexSize fr lo) s m args below meth c H locs 0 0 Q (F0 m 15 ls []) := by
    intro lq3 G hf H locs hI ls hl
    unfold hJ21_checkFromIndexSize_b15 at hf
    exact hf.elim
  have hl : lv_has ls 4 [(0, .int p0), (1, .int p1), (2, .int p2), (3, va_rf q3_)] := by cases q3_ <;> exact hl
  unfold hJ21_checkFromIndexSize at hf
  obtain ⟨H, eH⟩ : ∃ H, H = s.heap := ⟨_, rfl⟩
  obtain ⟨locs, eL⟩ : ∃ locs : List Loc, locs = [] := ⟨_, rfl⟩
  have hI : HI D jC G A0 s.heap H locs := by rw [eH, eL]; exact hI
  rw [← eL]
  suffices h : W p l e (rhJ21_checkFromIndexSize fr lo) s m args below meth c H locs 0 0 Q (F0 m 0 ls []) by rw [eH] at h; exact h
  clear eH eL
  refine lv_iload_n hx hb dJ21_checkFromIndexSize_0 rfl (lv_at hl 2 rfl) ?_
  refine lv_iload_n hx hb dJ21_checkFromIndexSize_1 rfl (lv_at hl 0 rfl) ?_
  refine lv_ior hx hb dJ21_checkFromIndexSize_2 ?_
  refine lv_iload_n hx hb dJ21_checkFromIndexSize_3 rfl (lv_at hl 1 rfl) ?_
  refine lv_ior hx hb dJ21_checkFromIndexSize_4 ?_
  refine lv_if_lt (tgt := 15) hx hb dJ21_checkFromIndexSize_5 (by decide) (fun c1 => ?_) (fun c1 => ?_)
  · have hf := hf.1 c1
    exact J15 q3_ G hf H locs hI ls (lv_sub hl [0, 1, 2, 3] rfl)
  · have hf := hf.2 c1
    refine lv_iload_n hx hb dJ21_checkFromIndexSize_8 rfl (lv_at hl 1 rfl) ?_
    refine lv_iload_n hx hb dJ21_checkFromIndexSize_9 rfl (lv_at hl 2 rfl) ?_
    refine lv_iload_n hx hb dJ21_checkFromIndexSize_10 rfl (lv_at hl 0 rfl) ?_
    refine lv_isub hx hb dJ21_checkFromIndexSize_11 ?_
    refine lv_icmp_le (tgt := 23) hx hb dJ21_checkFromIndexSize_12 (by decide) (fun c2 => ?_) (fun c2 => ?_)
    · have hf := hf.1 c2
      refine lv_iload_n hx hb dJ21_checkFromIndexSize_23 rfl (lv_at hl 0 rfl) ?_
      exact hret hf hI dJ21_checkFromIndexSize_24 (Nat.le_refl _) (Nat.le_refl _)
    · have hf := hf.2 c2
      exact J15 q3_ G hf H locs hI ls (lv_sub hl [0, 1, 2, 3] rfl)
/-! java/util/LinkedHashMap$Entry.<init>(ILjava/lang/Object;Ljava/lang/Object;Ljava/util/HashMap$Node;)V -/
def hJ22_init (j : JX) (Λ : JLam) (a0 : Nat) (p1 : Int32) (q2_ : Option Nat) (q3_ : Option Nat) (q4_ : Option Nat) (G : HG) (post : HG → Prop) : Prop :=
  hJ18_init j Λ a0 p1 q2_ q3_ q4_ G fun G1 => post G1
abbrev rhJ22_init (fr lo : Nat) : Room := { frames := fr + 2, cells := 0, slots := 0, locals := lo + 64 }
theorem mhJ22_init (l : Launch) (Z : (Nat → Prop) → State → Heap → Prop) (D : va_G) (j : JX) (Λ : JLam) (fr lo : Nat) (E : JE l Z D j Λ fr lo) (a0 : Nat) (p1 : Int32) (q2_ : Option Nat) (q3_ : Option Nat) (q4_ : Option Nat) (G : HG) (post : HG → Prop) (hf : hJ22_init j Λ a0 p1 q2_ q3_ q4_ G post) : HMv l yJ22_init (ws_ yJ22_init cJ22_init 5 none) (rhJ22_init fr lo) D jC (jty j.1) Z G [.ref a0, .int p1, va_rf q2_, va_rf q3_, va_rf q4_] post 0 0 := by
  refine h_openv E.1 (by decide) (by cases q2_ <;> cases q3_ <;> cases q4_ <;> exact Nat.le_of_ble_eq_true rfl) (fun p e s m args below meth c ls A0 Q X hI hnd hnm hl hret => ?_)
  have X : XC p s m args meth c cJ22_init 5 RJ22 D jC (jty j.1) A0 Z := X
  have hx := X.1
  have hb := X.2.1
  have hown := X.2.2.2.1
  have hts := X.2.2.2.2.1
  have hl : lv_has ls 5 [(0, .ref a0), (1, .int p1), (2, va_rf q2_), (3, va_rf q3_), (4, va_rf q4_)] := by cases q2_ <;> cases q3_ <;> cases q4_ <;> exact hl
  unfold hJ22_init at hf
  obtain ⟨H, eH⟩ : ∃ H, H = s.heap := ⟨_, rfl⟩
  obtain ⟨locs, eL⟩ : ∃ locs : List Loc, locs = [] := ⟨_, rfl⟩
  have hI : HI D jC G A0 s.heap H locs := by rw [eH, eL]; exact hI
  rw [← eL]
  suffices h : W p l e (rhJ22_init fr lo) s m args below meth c H locs 0 0 Q (F0 m 0 ls []) by rw [eH] at h; exact h
  clear eH eL
  refine lv_aload_n hx hb dJ22_init_0 rfl (lv_at hl 0 rfl) ?_
  refine lv_iload_n hx hb dJ22_init_1 rfl (lv_at hl 1 rfl) ?_
  refine h_aload_n (o := q2_) hx hb dJ22_init_2 rfl (lv_at hl 2 rfl) ?_
  refine h_aload_n (o := q3_) hx hb dJ22_init_3 rfl (lv_at hl 3 rfl) ?_
  refine h_aload (o := q4_) hx hb dJ22_init_4 (lv_at hl 4 rfl) ?_
  refine h_kv X hI (h_runI (As := [.int p1, va_rf q2_, va_rf q3_, va_rf q4_]) X hI (mhJ18_init l Z D j Λ fr lo E a0 p1 q2_ q3_ q4_ G _ hf H.size) (cwIn 4 hts q1343 q973 q195 q974 rfl rfl rfl (by decide +kernel) (by show fr + 1 + 1 ≤ fr + 2 ∧ 8 + (5 + 11) + (lo + 40) ≤ lo + 64; omega)) rfl hl.1 (Nat.le_of_ble_eq_true rfl) dJ22_init_6 ⟨Nat.le_refl _, Nat.le_refl _⟩ rfl) (fun G1 H locs hf hI => ?_)
  exact hret hf hI dJ22_init_9 (Nat.le_refl _) (Nat.le_refl _)
/-! java/util/HashMap.replacementNode(Ljava/util/HashMap$Node;Ljava/util/HashMap$Node;)Ljava/util/HashMap$Node; -/
def hJ5_replacementNode (j : JX) (Λ : JLam) (a0 : Nat) (q1_ : Option Nat) (q2_ : Option Nat) (mc ms : Nat) (G : HG) (post : Option Nat → HG → Prop) : Prop :=
  1 ≤ mc ∧ 4 ≤ ms ∧ mkO G (.inr (17, [.int 0, .null, .null, .null])) fun a1 G2 => nnq q1_ fun a3 => g2I G2 a3 0 fun x4 => g2Q G2 a3 1 fun q5 => g2Q G2 a3 2 fun q6 => hJ18_init j Λ a1 x4 q5 q6 q2_ G2 fun G7 => post (some a1) G7
abbrev rhJ5_replacementNode (fr lo mc ms : Nat) : Room := { frames := fr + 2, cells := mc, slots := ms, locals := lo + 64 }
theorem mhJ5_replacementNode (l : Launch) (Z : (Nat → Prop) → State → Heap → Prop) (D : va_G) (j : JX) (Λ : JLam) (fr lo : Nat) (E : JE l Z D j Λ fr lo) (a0 : Nat) (q1_ : Option Nat) (q2_ : Option Nat) (mc ms : Nat) (G : HG) (post : Option Nat → HG → Prop) (hf : hJ5_replacementNode j Λ a0 q1_ q2_ mc ms G post) : HMq l yJ5_replacementNode (ws_ yJ5_replacementNode cJ5_replacementNode 3 (some (.object "java/util/HashMap$Node"))) (rhJ5_replacementNode fr lo mc ms) D jC (jty j.1) Z G [.ref a0, va_rf q1_, va_rf q2_] post mc ms := by
  obtain ⟨MC, eMC⟩ : ∃ MC, MC = mc := ⟨_, rfl⟩
  obtain ⟨MS, eMS⟩ : ∃ MS, MS = ms := ⟨_, rfl⟩
  suffices goal : HMq l yJ5_replacementNode (ws_ yJ5_replacementNode cJ5_replacementNode 3 (some (.object "java/util/HashMap$Node"))) (rhJ5_replacementNode fr lo MC MS) D jC (jty j.1) Z G [.ref a0, va_rf q1_, va_rf q2_] post MC MS by rw [eMC, eMS] at goal; exact goal
  have hm0_ : 0 + mc ≤ MC ∧ 0 + ms ≤ MS := by omega
  clear eMC eMS
  refine h_openq (Or.inl ⟨_, rfl⟩) E.1 (by decide) (by cases q1_ <;> cases q2_ <;> exact Nat.le_of_ble_eq_true rfl) (fun p e s m args below meth c ls A0 Q X hI hnd hnm hl hret => ?_)
  have X : XC p s m args meth c cJ5_replacementNode 3 RJ5 D jC (jty j.1) A0 Z := X
  have hx := X.1
  have hb := X.2.1
  have hown := X.2.2.2.1
  have hts := X.2.2.2.2.1
  have hl : lv_has ls 3 [(0, .ref a0), (1, va_rf q1_), (2, va_rf q2_)] := by cases q1_ <;> cases q2_ <;> exact hl
  unfold hJ5_replacementNode at hf
  obtain ⟨H, eH⟩ : ∃ H, H = s.heap := ⟨_, rfl⟩
  obtain ⟨locs, eL⟩ : ∃ locs : List Loc, locs = [] := ⟨_, rfl⟩
  have hI : HI D jC G A0 s.heap H locs := by rw [eH, eL]; exact hI
  rw [← eL]
  obtain ⟨cells, eC⟩ : ∃ n : Nat, n = 0 := ⟨_, rfl⟩
  obtain ⟨slots, eS⟩ : ∃ n : Nat, n = 0 := ⟨_, rfl⟩
  have hm : cells + mc ≤ MC ∧ slots + ms ≤ MS := by rw [eC, eS]; exact hm0_
  suffices h : W p l e (rhJ5_replacementNode fr lo MC MS) s m args below meth c H locs cells slots Q (F0 m 0 ls []) by rw [eH, eC, eS] at h; exact h
  clear eH eL eC eS
  obtain ⟨hb1, hb2, hf⟩ := hf
  refine hr_new X hI (rfl : jC.1[17]? = some (RJ18, TJ18, 4)) in_J18 tyJ18 tyJ18_ok hf q955 q971 q195 (by decide) (hmA hm.1 hb1) (hmA hm.2 hb2) dJ5_replacementNode_0 (fun a1 G2 H hf hI => ?_)
  have hm := And.intro (hmB hm.1 hb1) (hmB hm.2 hb2)
  clear hb1 hb2
  refine lv_dup hx hb dJ5_replacementNode_3 rfl ?_
  refine h_aload_n (o := q1_) hx hb dJ5_replacementNode_4 rfl (lv_at hl 1 rfl) ?_
  obtain ⟨a3, ea3, hf⟩ := hf
  revert hl hf
  subst ea3
  intro hl hf
  have hl : lv_has ls 3 [(0, .ref a0), (1, .ref a3), (2, va_rf q2_)] := hl
  refine hr_g2I X hI 0 (Nat.le_of_ble_eq_true rfl) hf rfl q979 (fun _ h => h) dJ5_replacementNode_5 (fun x4 hf => ?_)
  refine lv_aload_n hx hb dJ5_replacementNode_8 rfl (lv_at hl 1 rfl) ?_
  refine hr_g2Q X hI 1 (Nat.le_of_ble_eq_true rfl) hf rfl q983 (fun _ h => h) dJ5_replacementNode_9 (fun q5 hf => ?_)
  refine lv_aload_n hx hb dJ5_replacementNode_12 rfl (lv_at hl 1 rfl) ?_
  refine hr_g2Q X hI 2 (Nat.le_of_ble_eq_true rfl) hf rfl q985 (fun _ h => h) dJ5_replacementNode_13 (fun q6 hf => ?_)
  refine h_aload_n (o := q2_) hx hb dJ5_replacementNode_16 rfl (lv_at hl 2 rfl) ?_
  refine h_kv X hI (h_runI (As := [.int x4, va_rf q5, va_rf q6, va_rf q2_]) X hI (mhJ18_init l Z D j Λ fr lo E a1 x4 q5 q6 q2_ G2 _ hf H.size) (cwIn 4 hts q972 q973 q195 q974 rfl rfl rfl (by decide +kernel) (by show fr + 1 + 1 ≤ fr + 2 ∧ 8 + (5 + 11) + (lo + 40) ≤ lo + 64; omega)) rfl hl.1 (Nat.le_of_ble_eq_true rfl) dJ5_replacementNode_17 ⟨hm0 hm.1, hm0 hm.2⟩ rfl) (fun G7 H locs hf hI => ?_)
  exact hret (v := (some a1)) hf hI dJ5_replacementNode_20 (hmC hm.1) (hmC hm.2)
/-! java/util/HashMap$TreeNode.untreeify(Ljava/util/HashMap;)Ljava/util/HashMap$Node; -/
def hJ23_untreeify_b37 (j : JX) (Λ : JLam) (a0 : Nat) (post : Option Nat → HG → Prop) (K7 : Option Nat → Option Nat → Option Nat → Option Nat → Nat → Nat → HG → Prop) (la1 : Nat) (lq2 : Option Nat) (la4 : Nat) (lq5 : Option Nat) (mc ms : Nat) (G : HG) : Prop :=
  g2Q G la4 3 fun q11 => K7 (some la1) lq2 lq5 q11 mc ms G
def hJ23_untreeify_b7 (j : JX) (Λ : JLam) (a0 : Nat) (post : Option Nat → HG → Prop) (K7 : Option Nat → Option Nat → Option Nat → Option Nat → Nat → Nat → HG → Prop) (lq1 : Option Nat) (lq2 : Option Nat) (lq3 : Option Nat) (lq4 : Option Nat) (mc ms : Nat) (G : HG) : Prop :=
  (lq4 = none → (post lq2 G)) ∧ (∀ a2, lq4 = some a2 → (nnq lq1 fun a3 => isO G a3 16 (∃ m4 m5 : Nat, m4 ≤ mc ∧ m5 ≤ ms ∧ hJ5_replacementNode j Λ a3 (some a2) none m4 m5 G fun q7 G6 => (lq3 = none → (hJ23_untreeify_b37 j Λ a0 post K7 a3 q7 a2 q7 (mc - m4) (ms - m5) G6)) ∧ (∀ a9, lq3 = some a9 → (p2V G6 a9 3 (va_rf q7) fun G10 => hJ23_untreeify_b37 j Λ a0 post K7 a3 lq2 a2 q7 (mc - m4) (ms - m5) G10)))))
def hJ23_untreeify_l7 (j : JX) (Λ : JLam) (a0 : Nat) (post : Option Nat → HG → Prop) : Nat → Option Nat → Option Nat → Option Nat → Option Nat → Nat → Nat → HG → Prop
  | 0 => fun _ _ _ _ _ _ _ => False
  | n + 1 => fun lq1 lq2 lq3 lq4 mc ms G => hJ23_untreeify_b7 j Λ a0 post (hJ23_untreeify_l7 j Λ a0 post n) lq1 lq2 lq3 lq4 mc ms G
def hJ23_untreeify (j : JX) (Λ : JLam) (a0 : Nat) (q1_ : Option Nat) (mc ms : Nat) (G : HG) (post : Option Nat → HG → Prop) : Prop :=
  ∃ n, hJ23_untreeify_l7 j Λ a0 post n q1_ none none (some a0) mc ms G
abbrev rhJ23_untreeify (fr lo mc ms : Nat) : Room := { frames := fr + 3, cells := mc, slots := ms, locals := lo + 86 }
theorem mhJ23_untreeify (l : Launch) (Z : (Nat → Prop) → State → Heap → Prop) (D : va_G) (j : JX) (Λ : JLam) (fr lo : Nat) (E : JE l Z D j Λ fr lo) (a0 : Nat) (q1_ : Option Nat) (mc ms : Nat) (G : HG) (post : Option Nat → HG → Prop) (hf : hJ23_untreeify j Λ a0 q1_ mc ms G post) : HMq l yJ23_untreeify (ws_ yJ23_untreeify cJ23_untreeify 6 (some (.object "java/util/HashMap$Node"))) (rhJ23_untreeify fr lo mc ms) D jC (jty j.1) Z G [.ref a0, va_rf q1_] post mc ms := by
  obtain ⟨MC, eMC⟩ : ∃ MC, MC = mc := ⟨_, rfl⟩
  obtain ⟨MS, eMS⟩ : ∃ MS, MS = ms := ⟨_, rfl⟩
  suffices goal : HMq l yJ23_untreeify (ws_ yJ23_untreeify cJ23_untreeify 6 (some (.object "java/util/HashMap$Node"))) (rhJ23_untreeify fr lo MC MS) D jC (jty j.1) Z G [.ref a0, va_rf q1_] post MC MS by rw [eMC, eMS] at goal; exact goal
  have hm0_ : 0 + mc ≤ MC ∧ 0 + ms ≤ MS := by omega
  clear eMC eMS
  refine h_openq (Or.inl ⟨_, rfl⟩) E.1 (by decide) (by cases q1_ <;> exact Nat.le_of_ble_eq_true rfl) (fun p e s m args below meth c ls A0 Q X hI hnd hnm hl hret => ?_)
  have X : XC p s m args meth c cJ23_untreeify 6 RJ23 D jC (jty j.1) A0 Z := X
  have hx := X.1
  have hb := X.2.1
  have hown := X.2.2.2.1
  have hts := X.2.2.2.2.1
  have L7 : ∀ (n : Nat) (lq1 : Option Nat) (lq2 : Option Nat) (lq3 : Option Nat) (lq4 : Option Nat) (mc ms : Nat) (G : HG), hJ23_untreeify_l7 j Λ a0 post n lq1 lq2 lq3 lq4 mc ms G → ∀ (cells slots : Nat), cells + mc ≤ MC ∧ slots + ms ≤ MS → ∀ (H : Heap) (locs : List Loc), HI D jC G A0 s.heap H locs → ∀ (ls : Array Slot), lv_has ls 6 [(1, va_rf lq1), (2, va_rf lq2), (3, va_rf lq3), (4, va_rf lq4)] → W p l e (rhJ23_untreeify fr lo MC MS) s m args below meth c H locs cells slots Q (F0 m 7 ls []) := by
    intro n7
    induction n7 with
    | zero => intro lq1 lq2 lq3 lq4 mc ms G hf; exact hf.elim
    | succ n7 ih7 =>
      have J37 : ∀ (la1 : Nat) (lq2 : Option Nat) (la4 : Nat) (lq5 : Option Nat) (mc ms : Nat) (G : HG), hJ23_untreeify_b37 j Λ a0 post (hJ23_untreeify_l7 j Λ a0 post n7) la1 lq2 la4 lq5 mc ms G → ∀ (cells slots : Nat), cells + mc ≤ MC ∧ slots + ms ≤ MS → ∀ (H : Heap) (locs : List Loc), HI D jC G A0 s.heap H locs → ∀ (ls : Array Slot), lv_has ls 6 [(1, .ref la1), (2, va_rf lq2), (4, .ref la4), (5, va_rf lq5)] → W p l e (rhJ23_untreeify fr lo MC MS) s m args below meth c H locs cells slots Q (F0 m 37 ls []) := by
        intro la1 lq2 la4 lq5 mc ms G hf cells slots hm H locs hI ls hl
        unfold hJ23_untreeify_b37 at hf
        refine h_aload (o := lq5) hx hb dJ23_untreeify_37 (lv_at hl 3 rfl) ?_
        refine h_astore_n (o := lq5) (lv' := [(3, va_rf lq5), (1, .ref la1), (2, va_rf lq2), (4, .ref la4), (5, va_rf lq5)]) hx hb dJ23_untreeify_39 rfl hl (by decide) (by cases lq2 <;> rfl) (fun ls hl => ?_)
        refine lv_aload hx hb dJ23_untreeify_40 (lv_at hl 3 rfl) ?_
        refine hr_g2Q X hI 3 (Nat.le_of_ble_eq_true rfl) hf rfl q989 (fun _ h => h) dJ23_untreeify_42 (fun q11 hf => ?_)
        refine h_astore (o := q11) (lv' := [(4, va_rf q11), (3, va_rf lq5), (1, .ref la1), (2, va_rf lq2), (5, va_rf lq5)]) hx hb dJ23_untreeify_45 hl (by decide) (by cases lq5 <;> rfl) (fun ls hl => ?_)
        refine lv_goto (tgt := 7) hx hb dJ23_untreeify_47 (by decide) ?_
        exact ih7 (some la1) lq2 lq5 q11 mc ms G hf _ _ hm H locs hI ls (lv_sub hl [2, 3, 1, 0] rfl)
      intro lq1 lq2 lq3 lq4 mc ms G hf cells slots hm H locs hI ls hl
      have hf : hJ23_untreeify_b7 j Λ a0 post (hJ23_untreeify_l7 j Λ a0 post n7) lq1 lq2 lq3 lq4 mc ms G := hf
      unfold hJ23_untreeify_b7 at hf
      refine h_aload (o := lq4) hx hb dJ23_untreeify_7 (lv_at hl 3 rfl) ?_
      refine h_ifnull (tgt := 50) hx hb dJ23_untreeify_9 (by decide) (fun c1 => ?_) (fun a2 c1 => ?_)
      · have hf := hf.1 c1
        revert hl hf
        subst c1
        intro hl hf
        have hl : lv_has ls 6 [(1, va_rf lq1), (2, va_rf lq2), (3, va_rf lq3), (4, va_rf none)] := hl
        refine h_aload_n (o := lq2) hx hb dJ23_untreeify_50 rfl (lv_at hl 1 rfl) ?_
        exact hret (v := lq2) hf hI dJ23_untreeify_51 (hmC hm.1) (hmC hm.2)
      · have hf := hf.2 a2 c1
        revert hl hf
        subst c1
        intro hl hf
        have hl : lv_has ls 6 [(1, va_rf lq1), (2, va_rf lq2), (3, va_rf lq3), (4, .ref a2)] := hl
        refine h_aload_n (o := lq1) hx hb dJ23_untreeify_12 rfl (lv_at hl 0 rfl) ?_
        refine lv_aload hx hb dJ23_untreeify_13 (lv_at hl 3 rfl) ?_
        refine lv_null hx hb dJ23_untreeify_15 ?_
        obtain ⟨a3, ea3, hf⟩ := hf
        revert hl hf
        subst ea3
        intro hl hf
        have hl : lv_has ls 6 [(1, .ref a3), (2, va_rf lq2), (3, va_rf lq3), (4, .ref a2)] := hl
        obtain ⟨_, _, hO, hf⟩ := hf
        obtain ⟨m4, m5, hb1, hb2, hf⟩ := hf
        refine h_kq X hI (h_runV (As := [va_rf (some a2), va_rf none]) X hI (h_recv X hI hO (show jC.1[16]? = some (RJ5, TJ5, 8) from rfl)) (mhJ5_replacementNode l Z D j Λ fr lo E a3 (some a2) none m4 m5 G _ hf H.size) (cwV 2 hts (lw_V q967 q968 q969 q181 q970) rfl rfl rfl (by decide +kernel) (by show fr + 2 + 1 ≤ fr + 3 ∧ 8 + (3 + 11) + (lo + 64) ≤ lo + 86; omega)) rfl hl.1 (Nat.le_of_ble_eq_true rfl) dJ23_untreeify_16 ⟨hmA hm.1 hb1, hmA hm.2 hb2⟩ rfl) (fun q7 G6 H locs hf hI => ?_)
        have hm := And.intro (hmB hm.1 hb1) (hmB hm.2 hb2)
        clear hb1 hb2
        clear hO
        refine h_astore (o := q7) (lv' := [(5, va_rf q7), (1, .ref a3), (2, va_rf lq2), (3, va_rf lq3), (4, .ref a2)]) hx hb dJ23_untreeify_19 hl (by decide) rfl (fun ls hl => ?_)
        refine h_aload_n (o := lq3) hx hb dJ23_untreeify_21 rfl (lv_at hl 3 rfl) ?_
        refine h_ifnonnull (tgt := 31) hx hb dJ23_untreeify_22 (by decide) (fun a9 c8 => ?_) (fun c8 => ?_)
        · have hf := hf.2 a9 c8
          revert hl hf
          subst c8
          intro hl hf
          have hl : lv_has ls 6 [(5, va_rf q7), (1, .ref a3), (2, va_rf lq2), (3, .ref a9), (4, .ref a2)] := hl
          refine lv_aload_n hx hb dJ23_untreeify_31 rfl (lv_at hl 3 rfl) ?_
          refine h_aload (o := q7) hx hb dJ23_untreeify_32 (lv_at hl 0 rfl) ?_
          refine hr_p2V X hI 3 (Nat.le_of_ble_eq_true rfl) hf rfl rfl q989 (fun _ h => h) rfl (nar_o _ _) (fit_o _ _) dJ23_untreeify_34 (fun G10 H locs hf hI => ?_)
          exact J37 a3 lq2 a2 q7 (mc - m4) (ms - m5) G10 hf _ _ hm H locs hI ls (lv_sub hl [1, 2, 4, 0] rfl)
        · have hf := hf.1 c8
          revert hl hf
          subst c8
          intro hl hf
          have hl : lv_has ls 6 [(5, va_rf q7), (1, .ref a3), (2, va_rf lq2), (3, va_rf none), (4, .ref a2)] := hl
          refine h_aload (o := q7) hx hb dJ23_untreeify_25 (lv_at hl 0 rfl) ?_
          refine h_astore_n (o := q7) (lv' := [(2, va_rf q7), (5, va_rf q7), (1, .ref a3), (3, va_rf none), (4, .ref a2)]) hx hb dJ23_untreeify_27 rfl hl (by decide) rfl (fun ls hl => ?_)
          refine lv_goto (tgt := 37) hx hb dJ23_untreeify_28 (by decide) ?_
          exact J37 a3 q7 a2 q7 (mc - m4) (ms - m5) G6 hf _ _ hm H locs hI ls (lv_sub hl [2, 0, 4, 1] rfl)
  have hl : lv_has ls 6 [(0, .ref a0), (1, va_rf q1_)] := by cases q1_ <;> exact hl
  unfold hJ23_untreeify at hf
  obtain ⟨H, eH⟩ : ∃ H, H = s.heap := ⟨_, rfl⟩
  obtain ⟨locs, eL⟩ : ∃ locs : List Loc, locs = [] := ⟨_, rfl⟩
  have hI : HI D jC G A0 s.heap H locs := by rw [eH, eL]; exact hI
  rw [← eL]
  obtain ⟨cells, eC⟩ : ∃ n : Nat, n = 0 := ⟨_, rfl⟩
  obtain ⟨slots, eS⟩ : ∃ n : Nat, n = 0 := ⟨_, rfl⟩
  have hm : cells + mc ≤ MC ∧ slots + ms ≤ MS := by rw [eC, eS]; exact hm0_
  suffices h : W p l e (rhJ23_untreeify fr lo MC MS) s m args below meth c H locs cells slots Q (F0 m 0 ls []) by rw [eH, eC, eS] at h; exact h
  clear eH eL eC eS
  refine lv_null hx hb dJ23_untreeify_0 ?_
  refine h_astore_n (o := none) (lv' := [(2, va_rf none), (0, .ref a0), (1, va_rf q1_)]) hx hb dJ23_untreeify_1 rfl hl (by decide) (by cases q1_ <;> rfl) (fun ls hl => ?_)
  refine lv_null hx hb dJ23_untreeify_2 ?_
  refine h_astore_n (o := none) (lv' := [(3, va_rf none), (2, va_rf none), (0, .ref a0), (1, va_rf q1_)]) hx hb dJ23_untreeify_3 rfl hl (by decide) rfl (fun ls hl => ?_)
  refine lv_aload_n hx hb dJ23_untreeify_4 rfl (lv_at hl 2 rfl) ?_
  refine lv_astore (lv' := [(4, .ref a0), (3, va_rf none), (2, va_rf none), (0, .ref a0), (1, va_rf q1_)]) hx hb dJ23_untreeify_5 hl (by decide) rfl (fun ls hl => ?_)
  obtain ⟨n, hf⟩ := hf
  exact L7 n q1_ none none (some a0) mc ms G hf _ _ hm H locs hI ls (lv_sub hl [4, 2, 1, 0] rfl)
/-! java/util/HashMap$TreeNode.moveRootToFront([Ljava/util/HashMap$Node;Ljava/util/HashMap$TreeNode;)V -/
def hJ23_moveRootToFront_b102 (j : JX) (Λ : JLam) (post : HG → Prop) (la1 : Nat) (G : HG) : Prop :=
  post G
def hJ23_moveRootToFront_b91 (j : JX) (Λ : JLam) (post : HG → Prop) (la1 : Nat) (lq4 : Option Nat) (G : HG) : Prop :=
  ptV G la1 18 5 (va_rf lq4) fun G23 => ptV G23 la1 18 9 (va_rf none) fun G24 => hJ23_moveRootToFront_b102 j Λ post la1 G24
def hJ23_moveRootToFront_b80 (j : JX) (Λ : JLam) (post : HG → Prop) (la1 : Nat) (lq4 : Option Nat) (G : HG) : Prop :=
  (lq4 = none → (hJ23_moveRootToFront_b91 j Λ post la1 none G)) ∧ (∀ a21, lq4 = some a21 → (ptV G a21 18 9 (.ref la1) fun G22 => hJ23_moveRootToFront_b91 j Λ post la1 (some a21) G22))
def hJ23_moveRootToFront_b68 (j : JX) (Λ : JLam) (post : HG → Prop) (la1 : Nat) (lq4 : Option Nat) (lq5 : Option Nat) (lq6 : Option Nat) (G : HG) : Prop :=
  (lq6 = none → (hJ23_moveRootToFront_b80 j Λ post la1 lq4 G)) ∧ (∀ a18, lq6 = some a18 → (ptV G a18 18 5 (va_rf lq5) fun G19 => hJ23_moveRootToFront_b80 j Λ post la1 lq4 G19))
def hJ23_moveRootToFront (j : JX) (Λ : JLam) (q0_ : Option Nat) (q1_ : Option Nat) (G : HG) (post : HG → Prop) : Prop :=
  (q1_ = none → (post G)) ∧ (∀ a2, q1_ = some a2 → ((q0_ = none → (post G)) ∧ (∀ a4, q0_ = some a4 → (aln (jty j.1) G a4 fun x5 => (x5 ≤ 0 → (post G)) ∧ (¬ x5 ≤ 0 → (gtI G a2 18 2 fun x7 => ldQ (jty j.1) G a4 ((x5 - 1) &&& x7) fun q8 => csO G q8 "java/util/HashMap$TreeNode" (((some a2) = q8 → (hJ23_moveRootToFront_b102 j Λ post a2 G)) ∧ (¬ (some a2) = q8 → (stQ jOk (jty j.1) G a4 ((x5 - 1) &&& x7) (some a2) fun G10 => gtQ G10 a2 18 9 fun q11 => gtQ G10 a2 18 5 fun q12 => (q12 = none → (hJ23_moveRootToFront_b68 j Λ post a2 q8 none q11 G10)) ∧ (∀ a14, q12 = some a14 → (csO G10 (some a14) "java/util/HashMap$TreeNode" (ptV G10 a14 18 9 (va_rf q11) fun G15 => hJ23_moveRootToFront_b68 j Λ post a2 q8 (some a14) q11 G15))))))))))))
abbrev rhJ23_moveRootToFront (fr lo : Nat) : Room := { frames := fr + 1, cells := 0, slots := 0, locals := lo + 40 }
theorem mhJ23_moveRootToFront (l : Launch) (Z : (Nat → Prop) → State → Heap → Prop) (D : va_G) (j : JX) (Λ : JLam) (fr lo : Nat) (E : JE l Z D j Λ fr lo) (q0_ : Option Nat) (q1_ : Option Nat) (G : HG) (post : HG → Prop) (hf : hJ23_moveRootToFront j Λ q0_ q1_ G post) : HMv l yJ23_moveRootToFront (ws_ yJ23_moveRootToFront cJ23_moveRootToFront 7 none) (rhJ23_moveRootToFront fr lo) D jC (jty j.1) Z G [va_rf q0_, va_rf q1_] post 0 0 := by
  refine h_openv E.1 (by decide) (by cases q0_ <;> cases q1_ <;> exact Nat.le_of_ble_eq_true rfl) (fun p e s m args below meth c ls A0 Q X hI hnd hnm hl hret => ?_)
  have X : XC p s m args meth c cJ23_moveRootToFront 7 RJ23 D jC (jty j.1) A0 Z := X
  have hx := X.1
  have hb := X.2.1
  have hown := X.2.2.2.1
  have hts := X.2.2.2.2.1
  have J102 : ∀ (la1 : Nat) (G : HG), hJ23_moveRootToFront_b102 j Λ post la1 G → ∀ (H : Heap) (locs : List Loc), HI D jC G A0 s.heap H locs → ∀ (ls : Array Slot), lv_has ls 7 [(1, .ref la1)] → W p l e (rhJ23_moveRootToFront fr lo) s m args below meth c H locs 0 0 Q (F0 m 102 ls []) := by
    intro la1 G hf H locs hI ls hl
    unfold hJ23_moveRootToFront_b102 at hf
    refine va_gets (v := .int 1) hx hb ((E.z X).2.1 _ (List.mem_of_getElem? (show jStI[2]? = some _ from rfl))) hI.2 hown (hts _ q1269) (fun _ h => h) dJ23_moveRootToFront_102 ?_
    refine lv_if_ne (tgt := 123) hx hb dJ23_moveRootToFront_105 (by decide) (fun c16 => ?_) (fun c16 => absurd c16 (by decide))
    exact hret hf hI dJ23_moveRootToFront_123 (Nat.le_refl _) (Nat.le_refl _)
  have J91 : ∀ (la1 : Nat) (lq4 : Option Nat) (G : HG), hJ23_moveRootToFront_b91 j Λ post la1 lq4 G → ∀ (H : Heap) (locs : List Loc), HI D jC G A0 s.heap H locs → ∀ (ls : Array Slot), lv_has ls 7 [(1, .ref la1), (4, va_rf lq4)] → W p l e (rhJ23_moveRootToFront fr lo) s m args below meth c H locs 0 0 Q (F0 m 91 ls []) := by
    intro la1 lq4 G hf H locs hI ls hl
    unfold hJ23_moveRootToFront_b91 at hf
    refine lv_aload_n hx hb dJ23_moveRootToFront_91 rfl (lv_at hl 0 rfl) ?_
    refine h_aload (o := lq4) hx hb dJ23_moveRootToFront_92 (lv_at hl 1 rfl) ?_
    refine hr_pt X hI (rfl : jC.1[18]? = some (RJ23, TJ23, 11)) in_J23 5 (Nat.le_of_ble_eq_true rfl) tyJ23 tyJ23_ok nmJ23 hf q987 (hsame_of (hts _ q988)) rfl (nar_o _ _) (fit_o _ _) dJ23_moveRootToFront_94 (fun G23 H locs hf hI => ?_)
    refine lv_aload_n hx hb dJ23_moveRootToFront_97 rfl (lv_at hl 0 rfl) ?_
    refine lv_null hx hb dJ23_moveRootToFront_98 ?_
    refine hr_pt X hI (rfl : jC.1[18]? = some (RJ23, TJ23, 11)) in_J23 9 (Nat.le_of_ble_eq_true rfl) tyJ23 tyJ23_ok nmJ23 hf q1347 (fun _ h => h) rfl rfl rfl dJ23_moveRootToFront_99 (fun G24 H locs hf hI => ?_)
    exact J102 la1 G24 hf H locs hI ls (lv_sub hl [0] rfl)
  have J80 : ∀ (la1 : Nat) (lq4 : Option Nat) (G : HG), hJ23_moveRootToFront_b80 j Λ post la1 lq4 G → ∀ (H : Heap) (locs : List Loc), HI D jC G A0 s.heap H locs → ∀ (ls : Array Slot), lv_has ls 7 [(1, .ref la1), (4, va_rf lq4)] → W p l e (rhJ23_moveRootToFront fr lo) s m args below meth c H locs 0 0 Q (F0 m 80 ls []) := by
    intro la1 lq4 G hf H locs hI ls hl
    unfold hJ23_moveRootToFront_b80 at hf
    refine h_aload (o := lq4) hx hb dJ23_moveRootToFront_80 (lv_at hl 1 rfl) ?_
    refine h_ifnull (tgt := 91) hx hb dJ23_moveRootToFront_82 (by decide) (fun c20 => ?_) (fun a21 c20 => ?_)
    · have hf := hf.1 c20
      revert hl hf
      subst c20
      intro hl hf
      have hl : lv_has ls 7 [(1, .ref la1), (4, va_rf none)] := hl
      exact J91 la1 none G hf H locs hI ls (lv_sub hl [0, 1] rfl)
    · have hf := hf.2 a21 c20
      revert hl hf
      subst c20
      intro hl hf
      have hl : lv_has ls 7 [(1, .ref la1), (4, .ref a21)] := hl
      refine lv_aload hx hb dJ23_moveRootToFront_85 (lv_at hl 1 rfl) ?_
      refine lv_aload_n hx hb dJ23_moveRootToFront_87 rfl (lv_at hl 0 rfl) ?_
      refine hr_pt X hI (rfl : jC.1[18]? = some (RJ23, TJ23, 11)) in_J23 9 (Nat.le_of_ble_eq_true rfl) tyJ23 tyJ23_ok nmJ23 hf q1347 (fun _ h => h) rfl rfl rfl dJ23_moveRootToFront_88 (fun G22 H locs hf hI => ?_)
      exact J91 la1 (some a21) G22 hf H locs hI ls (lv_sub hl [0, 1] rfl)
  have J68 : ∀ (la1 : Nat) (lq4 : Option Nat) (lq5 : Option Nat) (lq6 : Option Nat) (G : HG), hJ23_moveRootToFront_b68 j Λ post la1 lq4 lq5 lq6 G → ∀ (H : Heap) (locs : List Loc), HI D jC G A0 s.heap H locs → ∀ (ls : Array Slot), lv_has ls 7 [(1, .ref la1), (4, va_rf lq4), (5, va_rf lq5), (6, va_rf lq6)] → W p l e (rhJ23_moveRootToFront fr lo) s m args below meth c H locs 0 0 Q (F0 m 68 ls []) := by
    intro la1 lq4 lq5 lq6 G hf H locs hI ls hl
    unfold hJ23_moveRootToFront_b68 at hf
    refine h_aload (o := lq6) hx hb dJ23_moveRootToFront_68 (lv_at hl 3 rfl) ?_
    refine h_ifnull (tgt := 80) hx hb dJ23_moveRootToFront_70 (by decide) (fun c17 => ?_) (fun a18 c17 => ?_)
    · have hf := hf.1 c17
      revert hl hf
      subst c17
      intro hl hf
      have hl : lv_has ls 7 [(1, .ref la1), (4, va_rf lq4), (5, va_rf lq5), (6, va_rf none)] := hl
      exact J80 la1 lq4 G hf H locs hI ls (lv_sub hl [0, 1] rfl)
    · have hf := hf.2 a18 c17
      revert hl hf
      subst c17
      intro hl hf
      have hl : lv_has ls 7 [(1, .ref la1), (4, va_rf lq4), (5, va_rf lq5), (6, .ref a18)] := hl
      refine lv_aload hx hb dJ23_moveRootToFront_73 (lv_at hl 3 rfl) ?_
      refine h_aload (o := lq5) hx hb dJ23_moveRootToFront_75 (lv_at hl 2 rfl) ?_
      refine hr_pt X hI (rfl : jC.1[18]? = some (RJ23, TJ23, 11)) in_J23 5 (Nat.le_of_ble_eq_true rfl) tyJ23 tyJ23_ok nmJ23 hf q987 (hsame_of (hts _ q988)) rfl (nar_o _ _) (fit_o _ _) dJ23_moveRootToFront_77 (fun G19 H locs hf hI => ?_)
      exact J80 la1 lq4 G19 hf H locs hI ls (lv_sub hl [0, 1] rfl)
  have hl : lv_has ls 7 [(0, va_rf q0_), (1, va_rf q1_)] := by cases q0_ <;> cases q1_ <;> exact hl
  unfold hJ23_moveRootToFront at hf
  obtain ⟨H, eH⟩ : ∃ H, H = s.heap := ⟨_, rfl⟩
  obtain ⟨locs, eL⟩ : ∃ locs : List Loc, locs = [] := ⟨_, rfl⟩
  have hI : HI D jC G A0 s.heap H locs := by rw [eH, eL]; exact hI
  rw [← eL]
  suffices h : W p l e (rhJ23_moveRootToFront fr lo) s m args below meth c H locs 0 0 Q (F0 m 0 ls []) by rw [eH] at h; exact h
  clear eH eL
  refine h_aload_n (o := q1_) hx hb dJ23_moveRootToFront_0 rfl (lv_at hl 1 rfl) ?_
  refine h_ifnull (tgt := 123) hx hb dJ23_moveRootToFront_1 (by decide) (fun c1 => ?_) (fun a2 c1 => ?_)
  · have hf := hf.1 c1
    revert hl hf
    subst c1
    intro hl hf
    have hl : lv_has ls 7 [(0, va_rf q0_), (1, va_rf none)] := hl
    exact hret hf hI dJ23_moveRootToFront_123 (Nat.le_refl _) (Nat.le_refl _)
  · have hf := hf.2 a2 c1
    revert hl hf
    subst c1
    intro hl hf
    have hl : lv_has ls 7 [(0, va_rf q0_), (1, .ref a2)] := hl
    refine h_aload_n (o := q0_) hx hb dJ23_moveRootToFront_4 rfl (lv_at hl 0 rfl) ?_
    refine h_ifnull (tgt := 123) hx hb dJ23_moveRootToFront_5 (by decide) (fun c3 => ?_) (fun a4 c3 => ?_)
    · have hf := hf.1 c3
      revert hl hf
      subst c3
      intro hl hf
      have hl : lv_has ls 7 [(0, va_rf none), (1, .ref a2)] := hl
      exact hret hf hI dJ23_moveRootToFront_123 (Nat.le_refl _) (Nat.le_refl _)
    · have hf := hf.2 a4 c3
      revert hl hf
      subst c3
      intro hl hf
      have hl : lv_has ls 7 [(0, .ref a4), (1, .ref a2)] := hl
      refine lv_aload_n hx hb dJ23_moveRootToFront_8 rfl (lv_at hl 0 rfl) ?_
      refine hr_aln X hI hf dJ23_moveRootToFront_9 (fun x5 hf => ?_)
      refine lv_dup hx hb dJ23_moveRootToFront_10 rfl ?_
      refine lv_istore_n (lv' := [(2, .int x5), (0, .ref a4), (1, .ref a2)]) hx hb dJ23_moveRootToFront_11 rfl hl (by decide) rfl (fun ls hl => ?_)
      refine lv_if_le (tgt := 123) hx hb dJ23_moveRootToFront_12 (by decide) (fun c6 => ?_) (fun c6 => ?_)
      · have hf := hf.1 c6
        exact hret hf hI dJ23_moveRootToFront_123 (Nat.le_refl _) (Nat.le_refl _)
      · have hf := hf.2 c6
        refine lv_iload_n hx hb dJ23_moveRootToFront_15 rfl (lv_at hl 0 rfl) ?_
        refine lv_iconst (v := 1) hx hb dJ23_moveRootToFront_16 (by decide) ?_
        refine lv_isub hx hb dJ23_moveRootToFront_17 ?_
        refine lv_aload_n hx hb dJ23_moveRootToFront_18 rfl (lv_at hl 2 rfl) ?_
        refine hr_gtI X hI (rfl : jC.1[18]? = some (RJ23, TJ23, 11)) in_J23 2 (Nat.le_of_ble_eq_true rfl) hf q977 (hsame_of (hts _ q978)) dJ23_moveRootToFront_19 (fun x7 hf => ?_)
        refine lv_iand hx hb dJ23_moveRootToFront_22 ?_
        refine lv_istore_n (lv' := [(3, .int ((x5 - 1) &&& x7)), (2, .int x5), (0, .ref a4), (1, .ref a2)]) hx hb dJ23_moveRootToFront_23 rfl hl (by decide) rfl (fun ls hl => ?_)
        refine lv_aload_n hx hb dJ23_moveRootToFront_24 rfl (lv_at hl 2 rfl) ?_
        refine lv_iload_n hx hb dJ23_moveRootToFront_25 rfl (lv_at hl 0 rfl) ?_
        refine hr_qld X hI hf dJ23_moveRootToFront_26 (fun q8 hf => ?_)
        refine hr_cast (v := q8) E X hI hf q962 dJ23_moveRootToFront_27 (fun hf => ?_)
        refine h_astore (o := q8) (lv' := [(4, va_rf q8), (3, .int ((x5 - 1) &&& x7)), (2, .int x5), (0, .ref a4), (1, .ref a2)]) hx hb dJ23_moveRootToFront_30 hl (by decide) rfl (fun ls hl => ?_)
        refine lv_aload_n hx hb dJ23_moveRootToFront_32 rfl (lv_at hl 4 rfl) ?_
        refine h_aload (o := q8) hx hb dJ23_moveRootToFront_33 (lv_at hl 0 rfl) ?_
        refine lv_acmp_eq (rx := (some a2)) (ry := q8) (tgt := 102) hx hb dJ23_moveRootToFront_35 (by decide) (fun c9 => ?_) (fun c9 => ?_)
        · have hf := hf.1 c9
          exact J102 a2 G hf H locs hI ls (lv_sub hl [4] rfl)
        · have hf := hf.2 c9
          refine lv_aload_n hx hb dJ23_moveRootToFront_38 rfl (lv_at hl 3 rfl) ?_
          refine lv_iload_n hx hb dJ23_moveRootToFront_39 rfl (lv_at hl 1 rfl) ?_
          refine lv_aload_n hx hb dJ23_moveRootToFront_40 rfl (lv_at hl 4 rfl) ?_
          refine hr_qst (v := (some a2)) X hI (jOk_asg (E.w X)) hf dJ23_moveRootToFront_41 (fun G10 H locs hf hI => ?_)
          refine lv_aload_n hx hb dJ23_moveRootToFront_42 rfl (lv_at hl 4 rfl) ?_
          refine hr_gtQ X hI (rfl : jC.1[18]? = some (RJ23, TJ23, 11)) in_J23 9 (Nat.le_of_ble_eq_true rfl) hf q1347 (fun _ h => h) dJ23_moveRootToFront_43 (fun q11 hf => ?_)
          refine h_astore (o := q11) (lv' := [(6, va_rf q11), (4, va_rf q8), (3, .int ((x5 - 1) &&& x7)), (2, .int x5), (0, .ref a4), (1, .ref a2)]) hx hb dJ23_moveRootToFront_46 hl (by decide) rfl (fun ls hl => ?_)
          refine lv_aload_n hx hb dJ23_moveRootToFront_48 rfl (lv_at hl 5 rfl) ?_
          refine hr_gtQ X hI (rfl : jC.1[18]? = some (RJ23, TJ23, 11)) in_J23 5 (Nat.le_of_ble_eq_true rfl) hf q987 (hsame_of (hts _ q988)) dJ23_moveRootToFront_49 (fun q12 hf => ?_)
          refine lv_dup hx hb dJ23_moveRootToFront_52 (h_catq _) ?_
          refine h_astore (o := q12) (lv' := [(5, va_rf q12), (6, va_rf q11), (4, va_rf q8), (3, .int ((x5 - 1) &&& x7)), (2, .int x5), (0, .ref a4), (1, .ref a2)]) hx hb dJ23_moveRootToFront_53 hl (by decide) (by cases q8 <;> rfl) (fun ls hl => ?_)
          refine h_ifnull (tgt := 68) hx hb dJ23_moveRootToFront_55 (by decide) (fun c13 => ?_) (fun a14 c13 => ?_)
          · have hf := hf.1 c13
            revert hl hf
            subst c13
            intro hl hf
            have hl : lv_has ls 7 [(5, va_rf none), (6, va_rf q11), (4, va_rf q8), (3, .int ((x5 - 1) &&& x7)), (2, .int x5), (0, .ref a4), (1, .ref a2)] := hl
            exact J68 a2 q8 none q11 G10 hf H locs hI ls (lv_sub hl [6, 2, 0, 1] rfl)
          · have hf := hf.2 a14 c13
            revert hl hf
            subst c13
            intro hl hf
            have hl : lv_has ls 7 [(5, .ref a14), (6, va_rf q11), (4, va_rf q8), (3, .int ((x5 - 1) &&& x7)), (2, .int x5), (0, .ref a4), (1, .ref a2)] := hl
            refine lv_aload hx hb dJ23_moveRootToFront_58 (lv_at hl 0 rfl) ?_
            refine hr_cast (v := (some a14)) E X hI hf q962 dJ23_moveRootToFront_60 (fun hf => ?_)
            refine h_aload (o := q11) hx hb dJ23_moveRootToFront_63 (lv_at hl 1 rfl) ?_
            refine hr_pt X hI (rfl : jC.1[18]? = some (RJ23, TJ23, 11)) in_J23 9 (Nat.le_of_ble_eq_true rfl) tyJ23 tyJ23_ok nmJ23 hf q1347 (fun _ h => h) rfl (nar_o _ _) (fit_o _ _) dJ23_moveRootToFront_65 (fun G15 H locs hf hI => ?_)
            exact J68 a2 q8 (some a14) q11 G15 hf H locs hI ls (lv_sub hl [6, 2, 0, 1] rfl)
/-! java/util/HashMap$TreeNode.treeify([Ljava/util/HashMap$Node;)V -/
def hJ23_treeify_b209 (j : JX) (Λ : JLam) (a0 : Nat) (post : HG → Prop) (K4 : Option Nat → Option Nat → Option Nat → HG → Prop) (lq1 : Option Nat) (lq2 : Option Nat) (lq4 : Option Nat) (G : HG) : Prop :=
  K4 lq1 lq2 lq4 G
def hJ23_treeify_b197 (j : JX) (Λ : JLam) (a0 : Nat) (post : HG → Prop) (K4 : Option Nat → Option Nat → Option Nat → HG → Prop) (lq1 : Option Nat) (la2 : Nat) (la3 : Nat) (lq4 : Option Nat) (G : HG) : Prop :=
  hJ23_balanceInsertion j Λ (some la2) (some la3) G fun q29 G28 => hJ23_treeify_b209 j Λ a0 post K4 lq1 q29 lq4 G28
def hJ23_treeify_b165 (j : JX) (Λ : JLam) (a0 : Nat) (post : HG → Prop) (K4 : Option Nat → Option Nat → Option Nat → HG → Prop) (K64 : Option Nat → Nat → Nat → Option Nat → Option Nat → Int32 → Option Nat → Nat → HG → Prop) (lq1 : Option Nat) (la2 : Nat) (la3 : Nat) (lq4 : Option Nat) (lq5 : Option Nat) (lx6 : Int32) (lq7 : Option Nat) (lx9 : Int32) (la12 : Nat) (z0 : Option Nat) (G : HG) : Prop :=
  (z0 = none → (ptV G la3 18 6 (.ref la12) fun G24 => (0 < lx9 → (ptV G24 la12 18 8 (.ref la3) fun G26 => hJ23_treeify_b197 j Λ a0 post K4 lq1 la2 la3 lq4 G26)) ∧ (¬ 0 < lx9 → (ptV G24 la12 18 7 (.ref la3) fun G27 => hJ23_treeify_b197 j Λ a0 post K4 lq1 la2 la3 lq4 G27)))) ∧ (∀ a23, z0 = some a23 → (K64 lq1 la2 la3 lq4 lq5 lx6 lq7 a23 G))
def hJ23_treeify_b143 (j : JX) (Λ : JLam) (a0 : Nat) (post : HG → Prop) (K4 : Option Nat → Option Nat → Option Nat → HG → Prop) (K64 : Option Nat → Nat → Nat → Option Nat → Option Nat → Int32 → Option Nat → Nat → HG → Prop) (lq1 : Option Nat) (la2 : Nat) (la3 : Nat) (lq4 : Option Nat) (lq5 : Option Nat) (lx6 : Int32) (lq7 : Option Nat) (la8 : Nat) (lx9 : Int32) (G : HG) : Prop :=
  (0 < lx9 → (gtQ G la8 18 8 fun q20 => hJ23_treeify_b165 j Λ a0 post K4 K64 lq1 la2 la3 lq4 lq5 lx6 lq7 lx9 la8 q20 G)) ∧ (¬ 0 < lx9 → (gtQ G la8 18 7 fun q21 => hJ23_treeify_b165 j Λ a0 post K4 K64 lq1 la2 la3 lq4 lq5 lx6 lq7 lx9 la8 q21 G))
def hJ23_treeify_b119 (j : JX) (Λ : JLam) (a0 : Nat) (post : HG → Prop) (K4 : Option Nat → Option Nat → Option Nat → HG → Prop) (K64 : Option Nat → Nat → Nat → Option Nat → Option Nat → Int32 → Option Nat → Nat → HG → Prop) (lq1 : Option Nat) (la2 : Nat) (la3 : Nat) (lq4 : Option Nat) (lq5 : Option Nat) (lx6 : Int32) (la7 : Nat) (la8 : Nat) (lq11 : Option Nat) (G : HG) : Prop :=
  False
def hJ23_treeify_b64 (j : JX) (Λ : JLam) (a0 : Nat) (post : HG → Prop) (K4 : Option Nat → Option Nat → Option Nat → HG → Prop) (K64 : Option Nat → Nat → Nat → Option Nat → Option Nat → Int32 → Option Nat → Nat → HG → Prop) (lq1 : Option Nat) (la2 : Nat) (la3 : Nat) (lq4 : Option Nat) (lq5 : Option Nat) (lx6 : Int32) (lq7 : Option Nat) (la8 : Nat) (G : HG) : Prop :=
  gtQ G la8 18 3 fun q13 => gtI G la8 18 2 fun x14 => (x14 ≤ lx6 → ((lx6 ≤ x14 → ((lq7 = none → (False)) ∧ (∀ a18, lq7 = some a18 → (hJ23_treeify_b119 j Λ a0 post K4 K64 lq1 la2 la3 lq4 lq5 lx6 a18 la8 q13 G)))) ∧ (¬ lx6 ≤ x14 → (hJ23_treeify_b143 j Λ a0 post K4 K64 lq1 la2 la3 lq4 lq5 lx6 lq7 la8 (1 : Int32) G)))) ∧ (¬ x14 ≤ lx6 → (hJ23_treeify_b143 j Λ a0 post K4 K64 lq1 la2 la3 lq4 lq5 lx6 lq7 la8 ((-1) : Int32) G))
def hJ23_treeify_l64 (j : JX) (Λ : JLam) (a0 : Nat) (post : HG → Prop) (K4 : Option Nat → Option Nat → Option Nat → HG → Prop) : Nat → Option Nat → Nat → Nat → Option Nat → Option Nat → Int32 → Option Nat → Nat → HG → Prop
  | 0 => fun _ _ _ _ _ _ _ _ _ => False
  | n + 1 => fun lq1 la2 la3 lq4 lq5 lx6 lq7 la8 G => hJ23_treeify_b64 j Λ a0 post K4 (hJ23_treeify_l64 j Λ a0 post K4 n) lq1 la2 la3 lq4 lq5 lx6 lq7 la8 G
def hJ23_treeify_b4 (j : JX) (Λ : JLam) (a0 : Nat) (post : HG → Prop) (K4 : Option Nat → Option Nat → Option Nat → HG → Prop) (lq1 : Option Nat) (lq2 : Option Nat) (lq3 : Option Nat) (G : HG) : Prop :=
  (lq3 = none → (hJ23_moveRootToFront j Λ lq1 lq2 G fun G3 => post G3)) ∧ (∀ a2, lq3 = some a2 → (gtQ G a2 18 5 fun q4 => csO G q4 "java/util/HashMap$TreeNode" (ptV G a2 18 8 (va_rf none) fun G5 => ptV G5 a2 18 7 (va_rf none) fun G6 => (lq2 = none → (ptV G6 a2 18 6 (va_rf none) fun G9 => ptV G9 a2 18 10 (.int 0) fun G10 => hJ23_treeify_b209 j Λ a0 post K4 lq1 (some a2) q4 G10)) ∧ (∀ a8, lq2 = some a8 → (gtQ G6 a2 18 3 fun q11 => gtI G6 a2 18 2 fun x12 => ∃ n, hJ23_treeify_l64 j Λ a0 post K4 n lq1 a8 a2 q4 q11 x12 none a8 G6)))))
def hJ23_treeify_l4 (j : JX) (Λ : JLam) (a0 : Nat) (post : HG → Prop) : Nat → Option Nat → Option Nat → Option Nat → HG → Prop
  | 0 => fun _ _ _ _ => False
  | n + 1 => fun lq1 lq2 lq3 G => hJ23_treeify_b4 j Λ a0 post (hJ23_treeify_l4 j Λ a0 post n) lq1 lq2 lq3 G
def hJ23_treeify (j : JX) (Λ : JLam) (a0 : Nat) (q1_ : Option Nat) (G : HG) (post : HG → Prop) : Prop :=
  ∃ n, hJ23_treeify_l4 j Λ a0 post n q1_ none (some a0) G
abbrev rhJ23_treeify (fr lo : Nat) : Room := { frames := fr + 3, cells := 0, slots := 0, locals := lo + 89 }
theorem mhJ23_treeify (l : Launch) (Z : (Nat → Prop) → State → Heap → Prop) (D : va_G) (j : JX) (Λ : JLam) (fr lo : Nat) (E : JE l Z D j Λ fr lo) (a0 : Nat) (q1_ : Option Nat) (G : HG) (post : HG → Prop) (hf : hJ23_treeify j Λ a0 q1_ G post) : HMv l yJ23_treeify (ws_ yJ23_treeify cJ23_treeify 13 none) (rhJ23_treeify fr lo) D jC (jty j.1) Z G [.ref a0, va_rf q1_] post 0 0 := by
  refine h_openv E.1 (by decide) (by cases q1_ <;> exact Nat.le_of_ble_eq_true rfl) (fun p e s m args below meth c ls A0 Q X hI hnd hnm hl hret => ?_)
  have X : XC p s m args meth c cJ23_treeify 13 RJ23 D jC (jty j.1) A0 Z := X
  have hx := X.1
  have hb := X.2.1
  have hown := X.2.2.2.1
  have hts := X.2.2.2.2.1
  have L4 : ∀ (n : Nat) (lq1 : Option Nat) (lq2 : Option Nat) (lq3 : Option Nat) (G : HG), hJ23_treeify_l4 j Λ a0 post n lq1 lq2 lq3 G → ∀ (H : Heap) (locs : List Loc), HI D jC G A0 s.heap H locs → ∀ (ls : Array Slot), lv_has ls 13 [(1, va_rf lq1), (2, va_rf lq2), (3, va_rf lq3)] → W p l e (rhJ23_treeify fr lo) s m args below meth c H locs 0 0 Q (F0 m 4 ls []) := by
    intro n4
    induction n4 with
    | zero => intro lq1 lq2 lq3 G hf; exact hf.elim
    | succ n4 ih4 =>
      have J209 : ∀ (lq1 : Option Nat) (lq2 : Option Nat) (lq4 : Option Nat) (G : HG), hJ23_treeify_b209 j Λ a0 post (hJ23_treeify_l4 j Λ a0 post n4) lq1 lq2 lq4 G → ∀ (H : Heap) (locs : List Loc), HI D jC G A0 s.heap H locs → ∀ (ls : Array Slot), lv_has ls 13 [(1, va_rf lq1), (2, va_rf lq2), (4, va_rf lq4)] → W p l e (rhJ23_treeify fr lo) s m args below meth c H locs 0 0 Q (F0 m 209 ls []) := by
        intro lq1 lq2 lq4 G hf H locs hI ls hl
        unfold hJ23_treeify_b209 at hf
        refine h_aload (o := lq4) hx hb dJ23_treeify_209 (lv_at hl 2 rfl) ?_
        refine h_astore_n (o := lq4) (lv' := [(3, va_rf lq4), (1, va_rf lq1), (2, va_rf lq2), (4, va_rf lq4)]) hx hb dJ23_treeify_211 rfl hl (by decide) (by cases lq2 <;> rfl) (fun ls hl => ?_)
        refine lv_goto (tgt := 4) hx hb dJ23_treeify_212 (by decide) ?_
        exact ih4 lq1 lq2 lq4 G hf H locs hI ls (lv_sub hl [1, 2, 0] rfl)
      have J197 : ∀ (lq1 : Option Nat) (la2 : Nat) (la3 : Nat) (lq4 : Option Nat) (G : HG), hJ23_treeify_b197 j Λ a0 post (hJ23_treeify_l4 j Λ a0 post n4) lq1 la2 la3 lq4 G → ∀ (H : Heap) (locs : List Loc), HI D jC G A0 s.heap H locs → ∀ (ls : Array Slot), lv_has ls 13 [(1, va_rf lq1), (2, .ref la2), (3, .ref la3), (4, va_rf lq4)] → W p l e (rhJ23_treeify fr lo) s m args below meth c H locs 0 0 Q (F0 m 197 ls []) := by
        intro lq1 la2 la3 lq4 G hf H locs hI ls hl
        unfold hJ23_treeify_b197 at hf
        refine lv_aload_n hx hb dJ23_treeify_197 rfl (lv_at hl 1 rfl) ?_
        refine lv_aload_n hx hb dJ23_treeify_198 rfl (lv_at hl 2 rfl) ?_
        refine h_kq X hI (h_runS (As := [va_rf (some la2), va_rf (some la3)]) X hI (mhJ23_balanceInsertion l Z D j Λ fr lo E (some la2) (some la3) G _ hf H.size) (va_cwS 2 hts (lw_S q1257 q1258 q201 q1259) rfl rfl rfl (by decide +kernel) (by show fr + 2 + 1 ≤ fr + 3 ∧ 8 + (6 + 11) + (lo + 64) ≤ lo + 89; omega)) rfl hl.1 (Nat.le_of_ble_eq_true rfl) dJ23_treeify_199 ⟨Nat.le_refl _, Nat.le_refl _⟩ rfl) (fun q29 G28 H locs hf hI => ?_)
        refine h_astore_n (o := q29) (lv' := [(2, va_rf q29), (1, va_rf lq1), (3, .ref la3), (4, va_rf lq4)]) hx hb dJ23_treeify_202 rfl hl (by decide) (by cases lq1 <;> rfl) (fun ls hl => ?_)
        refine lv_goto (tgt := 209) hx hb dJ23_treeify_203 (by decide) ?_
        exact J209 lq1 q29 lq4 G28 hf H locs hI ls (lv_sub hl [1, 0, 3] rfl)
      have L64 : ∀ (n : Nat) (lq1 : Option Nat) (la2 : Nat) (la3 : Nat) (lq4 : Option Nat) (lq5 : Option Nat) (lx6 : Int32) (lq7 : Option Nat) (la8 : Nat) (G : HG), hJ23_treeify_l64 j Λ a0 post (hJ23_treeify_l4 j Λ a0 post n4) n lq1 la2 la3 lq4 lq5 lx6 lq7 la8 G → ∀ (H : Heap) (locs : List Loc), HI D jC G A0 s.heap H locs → ∀ (ls : Array Slot), lv_has ls 13 [(1, va_rf lq1), (2, .ref la2), (3, .ref la3), (4, va_rf lq4), (5, va_rf lq5), (6, .int lx6), (7, va_rf lq7), (8, .ref la8)] → W p l e (rhJ23_treeify fr lo) s m args below meth c H locs 0 0 Q (F0 m 64 ls []) := by
        intro n64
        induction n64 with
        | zero => intro lq1 la2 la3 lq4 lq5 lx6 lq7 la8 G hf; exact hf.elim
        | succ n64 ih64 =>
          have J165 : ∀ (lq1 : Option Nat) (la2 : Nat) (la3 : Nat) (lq4 : Option Nat) (lq5 : Option Nat) (lx6 : Int32) (lq7 : Option Nat) (lx9 : Int32) (la12 : Nat) (z0 : Option Nat) (G : HG), hJ23_treeify_b165 j Λ a0 post (hJ23_treeify_l4 j Λ a0 post n4) (hJ23_treeify_l64 j Λ a0 post (hJ23_treeify_l4 j Λ a0 post n4) n64) lq1 la2 la3 lq4 lq5 lx6 lq7 lx9 la12 z0 G → ∀ (H : Heap) (locs : List Loc), HI D jC G A0 s.heap H locs → ∀ (ls : Array Slot), lv_has ls 13 [(1, va_rf lq1), (2, .ref la2), (3, .ref la3), (4, va_rf lq4), (5, va_rf lq5), (6, .int lx6), (7, va_rf lq7), (9, .int lx9), (12, .ref la12)] → W p l e (rhJ23_treeify fr lo) s m args below meth c H locs 0 0 Q (F0 m 165 ls [va_rf z0]) := by
            intro lq1 la2 la3 lq4 lq5 lx6 lq7 lx9 la12 z0 G hf H locs hI ls hl
            unfold hJ23_treeify_b165 at hf
            refine lv_dup hx hb dJ23_treeify_165 (h_catq _) ?_
            refine h_astore (o := z0) (lv' := [(8, va_rf z0), (1, va_rf lq1), (2, .ref la2), (3, .ref la3), (4, va_rf lq4), (5, va_rf lq5), (6, .int lx6), (7, va_rf lq7), (9, .int lx9), (12, .ref la12)]) hx hb dJ23_treeify_166 hl (by decide) (by cases lq7 <;> rfl) (fun ls hl => ?_)
            refine h_ifnonnull (tgt := 206) hx hb dJ23_treeify_168 (by decide) (fun a23 c22 => ?_) (fun c22 => ?_)
            · have hf := hf.2 a23 c22
              revert hl hf
              subst c22
              intro hl hf
              have hl : lv_has ls 13 [(8, .ref a23), (1, va_rf lq1), (2, .ref la2), (3, .ref la3), (4, va_rf lq4), (5, va_rf lq5), (6, .int lx6), (7, va_rf lq7), (9, .int lx9), (12, .ref la12)] := hl
              refine lv_goto (tgt := 64) hx hb dJ23_treeify_206 (by decide) ?_
              exact ih64 lq1 la2 la3 lq4 lq5 lx6 lq7 a23 G hf H locs hI ls (lv_sub hl [1, 2, 3, 4, 5, 6, 7, 0] rfl)
            · have hf := hf.1 c22
              revert hl hf
              subst c22
              intro hl hf
              have hl : lv_has ls 13 [(8, va_rf none), (1, va_rf lq1), (2, .ref la2), (3, .ref la3), (4, va_rf lq4), (5, va_rf lq5), (6, .int lx6), (7, va_rf lq7), (9, .int lx9), (12, .ref la12)] := hl
              refine lv_aload_n hx hb dJ23_treeify_171 rfl (lv_at hl 3 rfl) ?_
              refine lv_aload hx hb dJ23_treeify_172 (lv_at hl 9 rfl) ?_
              refine hr_pt X hI (rfl : jC.1[18]? = some (RJ23, TJ23, 11)) in_J23 6 (Nat.le_of_ble_eq_true rfl) tyJ23 tyJ23_ok nmJ23 hf q1344 (fun _ h => h) rfl rfl rfl dJ23_treeify_174 (fun G24 H locs hf hI => ?_)
              refine lv_iload hx hb dJ23_treeify_177 (lv_at hl 8 rfl) ?_
              refine lv_if_gt (tgt := 191) hx hb dJ23_treeify_179 (by decide) (fun c25 => ?_) (fun c25 => ?_)
              · have hf := hf.1 c25
                refine lv_aload hx hb dJ23_treeify_191 (lv_at hl 9 rfl) ?_
                refine lv_aload_n hx hb dJ23_treeify_193 rfl (lv_at hl 3 rfl) ?_
                refine hr_pt X hI (rfl : jC.1[18]? = some (RJ23, TJ23, 11)) in_J23 8 (Nat.le_of_ble_eq_true rfl) tyJ23 tyJ23_ok nmJ23 hf q1346 (fun _ h => h) rfl rfl rfl dJ23_treeify_194 (fun G26 H locs hf hI => ?_)
                exact J197 lq1 la2 la3 lq4 G26 hf H locs hI ls (lv_sub hl [1, 2, 3, 4] rfl)
              · have hf := hf.2 c25
                refine lv_aload hx hb dJ23_treeify_182 (lv_at hl 9 rfl) ?_
                refine lv_aload_n hx hb dJ23_treeify_184 rfl (lv_at hl 3 rfl) ?_
                refine hr_pt X hI (rfl : jC.1[18]? = some (RJ23, TJ23, 11)) in_J23 7 (Nat.le_of_ble_eq_true rfl) tyJ23 tyJ23_ok nmJ23 hf q1345 (fun _ h => h) rfl rfl rfl dJ23_treeify_185 (fun G27 H locs hf hI => ?_)
                refine lv_goto (tgt := 197) hx hb dJ23_treeify_188 (by decide) ?_
                exact J197 lq1 la2 la3 lq4 G27 hf H locs hI ls (lv_sub hl [1, 2, 3, 4] rfl)
          have J143 : ∀ (lq1 : Option Nat) (la2 : Nat) (la3 : Nat) (lq4 : Option Nat) (lq5 : Option Nat) (lx6 : Int32) (lq7 : Option Nat) (la8 : Nat) (lx9 : Int32) (G : HG), hJ23_treeify_b143 j Λ a0 post (hJ23_treeify_l4 j Λ a0 post n4) (hJ23_treeify_l64 j Λ a0 post (hJ23_treeify_l4 j Λ a0 post n4) n64) lq1 la2 la3 lq4 lq5 lx6 lq7 la8 lx9 G → ∀ (H : Heap) (locs : List Loc), HI D jC G A0 s.heap H locs → ∀ (ls : Array Slot), lv_has ls 13 [(1, va_rf lq1), (2, .ref la2), (3, .ref la3), (4, va_rf lq4), (5, va_rf lq5), (6, .int lx6), (7, va_rf lq7), (8, .ref la8), (9, .int lx9)] → W p l e (rhJ23_treeify fr lo) s m args below meth c H locs 0 0 Q (F0 m 143 ls []) := by
            intro lq1 la2 la3 lq4 lq5 lx6 lq7 la8 lx9 G hf H locs hI ls hl
            unfold hJ23_treeify_b143 at hf
            refine lv_aload hx hb dJ23_treeify_143 (lv_at hl 7 rfl) ?_
            refine lv_astore (lv' := [(12, .ref la8), (1, va_rf lq1), (2, .ref la2), (3, .ref la3), (4, va_rf lq4), (5, va_rf lq5), (6, .int lx6), (7, va_rf lq7), (8, .ref la8), (9, .int lx9)]) hx hb dJ23_treeify_145 hl (by decide) rfl (fun ls hl => ?_)
            refine lv_iload hx hb dJ23_treeify_147 (lv_at hl 9 rfl) ?_
            refine lv_if_gt (tgt := 160) hx hb dJ23_treeify_149 (by decide) (fun c19 => ?_) (fun c19 => ?_)
            · have hf := hf.1 c19
              refine lv_aload hx hb dJ23_treeify_160 (lv_at hl 8 rfl) ?_
              refine hr_gtQ X hI (rfl : jC.1[18]? = some (RJ23, TJ23, 11)) in_J23 8 (Nat.le_of_ble_eq_true rfl) hf q1346 (fun _ h => h) dJ23_treeify_162 (fun q20 hf => ?_)
              exact J165 lq1 la2 la3 lq4 lq5 lx6 lq7 lx9 la8 q20 G hf H locs hI ls (lv_sub hl [1, 2, 3, 4, 5, 6, 7, 9, 0] rfl)
            · have hf := hf.2 c19
              refine lv_aload hx hb dJ23_treeify_152 (lv_at hl 8 rfl) ?_
              refine hr_gtQ X hI (rfl : jC.1[18]? = some (RJ23, TJ23, 11)) in_J23 7 (Nat.le_of_ble_eq_true rfl) hf q1345 (fun _ h => h) dJ23_treeify_154 (fun q21 hf => ?_)
              refine lv_goto (tgt := 165) hx hb dJ23_treeify_157 (by decide) ?_
              exact J165 lq1 la2 la3 lq4 lq5 lx6 lq7 lx9 la8 q21 G hf H locs hI ls (lv_sub hl [1, 2, 3, 4, 5, 6, 7, 9, 0] rfl)
          have J119 : ∀ (lq1 : Option Nat) (la2 : Nat) (la3 : Nat) (lq4 : Option Nat) (lq5 : Option Nat) (lx6 : Int32) (la7 : Nat) (la8 : Nat) (lq11 : Option Nat) (G : HG), hJ23_treeify_b119 j Λ a0 post (hJ23_treeify_l4 j Λ a0 post n4) (hJ23_treeify_l64 j Λ a0 post (hJ23_treeify_l4 j Λ a0 post n4) n64) lq1 la2 la3 lq4 lq5 lx6 la7 la8 lq11 G → ∀ (H : Heap) (locs : List Loc), HI D jC G A0 s.heap H locs → ∀ (ls : Array Slot), lv_has ls 13 [(1, va_rf lq1), (2, .ref la2), (3, .ref la3), (4, va_rf lq4), (5, va_rf lq5), (6, .int lx6), (7, .ref la7), (8, .ref la8), (11, va_rf lq11)] → W p l e (rhJ23_treeify fr lo) s m args below meth c H locs 0 0 Q (F0 m 119 ls []) := by
            intro lq1 la2 la3 lq4 lq5 lx6 la7 la8 lq11 G hf H locs hI ls hl
            unfold hJ23_treeify_b119 at hf
            exact hf.elim
          intro lq1 la2 la3 lq4 lq5 lx6 lq7 la8 G hf H locs hI ls hl
          have hf : hJ23_treeify_b64 j Λ a0 post (hJ23_treeify_l4 j Λ a0 post n4) (hJ23_treeify_l64 j Λ a0 post (hJ23_treeify_l4 j Λ a0 post n4) n64) lq1 la2 la3 lq4 lq5 lx6 lq7 la8 G := hf
          unfold hJ23_treeify_b64 at hf
          refine lv_aload hx hb dJ23_treeify_64 (lv_at hl 7 rfl) ?_
          refine hr_gtQ X hI (rfl : jC.1[18]? = some (RJ23, TJ23, 11)) in_J23 3 (Nat.le_of_ble_eq_true rfl) hf q981 (hsame_of (hts _ q982)) dJ23_treeify_66 (fun q13 hf => ?_)
          refine h_astore (o := q13) (lv' := [(11, va_rf q13), (1, va_rf lq1), (2, .ref la2), (3, .ref la3), (4, va_rf lq4), (5, va_rf lq5), (6, .int lx6), (7, va_rf lq7), (8, .ref la8)]) hx hb dJ23_treeify_69 hl (by decide) rfl (fun ls hl => ?_)
          refine lv_aload hx hb dJ23_treeify_71 (lv_at hl 8 rfl) ?_
          refine hr_gtI X hI (rfl : jC.1[18]? = some (RJ23, TJ23, 11)) in_J23 2 (Nat.le_of_ble_eq_true rfl) hf q977 (hsame_of (hts _ q978)) dJ23_treeify_73 (fun x14 hf => ?_)
          refine lv_dup hx hb dJ23_treeify_76 rfl ?_
          refine lv_istore (lv' := [(10, .int x14), (11, va_rf q13), (1, va_rf lq1), (2, .ref la2), (3, .ref la3), (4, va_rf lq4), (5, va_rf lq5), (6, .int lx6), (7, va_rf lq7), (8, .ref la8)]) hx hb dJ23_treeify_77 hl (by decide) rfl (fun ls hl => ?_)
          refine lv_iload hx hb dJ23_treeify_79 (lv_at hl 7 rfl) ?_
          refine lv_icmp_le (tgt := 90) hx hb dJ23_treeify_81 (by decide) (fun c15 => ?_) (fun c15 => ?_)
          · have hf := hf.1 c15
            refine lv_iload hx hb dJ23_treeify_90 (lv_at hl 0 rfl) ?_
            refine lv_iload hx hb dJ23_treeify_92 (lv_at hl 7 rfl) ?_
            refine lv_icmp_ge (tgt := 103) hx hb dJ23_treeify_94 (by decide) (fun c16 => ?_) (fun c16 => ?_)
            · have hf := hf.1 c16
              refine h_aload (o := lq7) hx hb dJ23_treeify_103 (lv_at hl 8 rfl) ?_
              refine h_ifnonnull (tgt := 119) hx hb dJ23_treeify_105 (by decide) (fun a18 c17 => ?_) (fun c17 => ?_)
              · have hf := hf.2 a18 c17
                revert hl hf
                subst c17
                intro hl hf
                have hl : lv_has ls 13 [(10, .int x14), (11, va_rf q13), (1, va_rf lq1), (2, .ref la2), (3, .ref la3), (4, va_rf lq4), (5, va_rf lq5), (6, .int lx6), (7, .ref a18), (8, .ref la8)] := hl
                exact J119 lq1 la2 la3 lq4 lq5 lx6 a18 la8 q13 G hf H locs hI ls (lv_sub hl [2, 3, 4, 5, 6, 7, 8, 9, 1] rfl)
              · have hf := hf.1 c17
                revert hl hf
                subst c17
                intro hl hf
                have hl : lv_has ls 13 [(10, .int x14), (11, va_rf q13), (1, va_rf lq1), (2, .ref la2), (3, .ref la3), (4, va_rf lq4), (5, va_rf lq5), (6, .int lx6), (7, va_rf none), (8, .ref la8)] := hl
                exact hf.elim
            · have hf := hf.2 c16
              refine lv_iconst (v := 1) hx hb dJ23_treeify_97 (by decide) ?_
              refine lv_istore (lv' := [(9, .int 1), (10, .int x14), (11, va_rf q13), (1, va_rf lq1), (2, .ref la2), (3, .ref la3), (4, va_rf lq4), (5, va_rf lq5), (6, .int lx6), (7, va_rf lq7), (8, .ref la8)]) hx hb dJ23_treeify_98 hl (by decide) rfl (fun ls hl => ?_)
              refine lv_goto (tgt := 143) hx hb dJ23_treeify_100 (by decide) ?_
              exact J143 lq1 la2 la3 lq4 lq5 lx6 lq7 la8 (1 : Int32) G hf H locs hI ls (lv_sub hl [3, 4, 5, 6, 7, 8, 9, 10, 0] rfl)
          · have hf := hf.2 c15
            refine lv_iconst (v := -1) hx hb dJ23_treeify_84 (by decide) ?_
            refine lv_istore (lv' := [(9, .int (-1)), (10, .int x14), (11, va_rf q13), (1, va_rf lq1), (2, .ref la2), (3, .ref la3), (4, va_rf lq4), (5, va_rf lq5), (6, .int lx6), (7, va_rf lq7), (8, .ref la8)]) hx hb dJ23_treeify_85 hl (by decide) rfl (fun ls hl => ?_)
            refine lv_goto (tgt := 143) hx hb dJ23_treeify_87 (by decide) ?_
            exact J143 lq1 la2 la3 lq4 lq5 lx6 lq7 la8 ((-1) : Int32) G hf H locs hI ls (lv_sub hl [3, 4, 5, 6, 7, 8, 9, 10, 0] rfl)
      intro lq1 lq2 lq3 G hf H locs hI ls hl
      have hf : hJ23_treeify_b4 j Λ a0 post (hJ23_treeify_l4 j Λ a0 post n4) lq1 lq2 lq3 G := hf
      unfold hJ23_treeify_b4 at hf
      refine h_aload_n (o := lq3) hx hb dJ23_treeify_4 rfl (lv_at hl 2 rfl) ?_
      refine h_ifnull (tgt := 215) hx hb dJ23_treeify_5 (by decide) (fun c1 => ?_) (fun a2 c1 => ?_)
      · have hf := hf.1 c1
        revert hl hf
        subst c1
        intro hl hf
        have hl : lv_has ls 13 [(1, va_rf lq1), (2, va_rf lq2), (3, va_rf none)] := hl
        refine h_aload_n (o := lq1) hx hb dJ23_treeify_215 rfl (lv_at hl 0 rfl) ?_
        refine h_aload_n (o := lq2) hx hb dJ23_treeify_216 rfl (lv_at hl 1 rfl) ?_
        refine h_kv X hI (h_runS (As := [va_rf lq1, va_rf lq2]) X hI (mhJ23_moveRootToFront l Z D j Λ fr lo E lq1 lq2 G _ hf H.size) (va_cwS 2 hts (lw_S q1266 q1267 q201 q1268) rfl rfl rfl (by decide +kernel) (by show fr + 1 + 1 ≤ fr + 3 ∧ 8 + (7 + 11) + (lo + 40) ≤ lo + 89; omega)) rfl hl.1 (Nat.le_of_ble_eq_true rfl) dJ23_treeify_217 ⟨Nat.le_refl _, Nat.le_refl _⟩ rfl) (fun G3 H locs hf hI => ?_)
        exact hret hf hI dJ23_treeify_220 (Nat.le_refl _) (Nat.le_refl _)
      · have hf := hf.2 a2 c1
        revert hl hf
        subst c1
        intro hl hf
        have hl : lv_has ls 13 [(1, va_rf lq1), (2, va_rf lq2), (3, .ref a2)] := hl
        refine lv_aload_n hx hb dJ23_treeify_8 rfl (lv_at hl 2 rfl) ?_
        refine hr_gtQ X hI (rfl : jC.1[18]? = some (RJ23, TJ23, 11)) in_J23 5 (Nat.le_of_ble_eq_true rfl) hf q987 (hsame_of (hts _ q988)) dJ23_treeify_9 (fun q4 hf => ?_)
        refine hr_cast (v := q4) E X hI hf q962 dJ23_treeify_12 (fun hf => ?_)
        refine h_astore (o := q4) (lv' := [(4, va_rf q4), (1, va_rf lq1), (2, va_rf lq2), (3, .ref a2)]) hx hb dJ23_treeify_15 hl (by decide) rfl (fun ls hl => ?_)
        refine lv_aload_n hx hb dJ23_treeify_17 rfl (lv_at hl 3 rfl) ?_
        refine lv_aload_n hx hb dJ23_treeify_18 rfl (lv_at hl 3 rfl) ?_
        refine lv_null hx hb dJ23_treeify_19 ?_
        refine lv_dup_x1 hx hb dJ23_treeify_20 rfl rfl ?_
        refine hr_pt X hI (rfl : jC.1[18]? = some (RJ23, TJ23, 11)) in_J23 8 (Nat.le_of_ble_eq_true rfl) tyJ23 tyJ23_ok nmJ23 hf q1346 (fun _ h => h) rfl rfl rfl dJ23_treeify_21 (fun G5 H locs hf hI => ?_)
        refine hr_pt X hI (rfl : jC.1[18]? = some (RJ23, TJ23, 11)) in_J23 7 (Nat.le_of_ble_eq_true rfl) tyJ23 tyJ23_ok nmJ23 hf q1345 (fun _ h => h) rfl rfl rfl dJ23_treeify_24 (fun G6 H locs hf hI => ?_)
        refine h_aload_n (o := lq2) hx hb dJ23_treeify_27 rfl (lv_at hl 2 rfl) ?_
        refine h_ifnonnull (tgt := 46) hx hb dJ23_treeify_28 (by decide) (fun a8 c7 => ?_) (fun c7 => ?_)
        · have hf := hf.2 a8 c7
          revert hl hf
          subst c7
          intro hl hf
          have hl : lv_has ls 13 [(4, va_rf q4), (1, va_rf lq1), (2, .ref a8), (3, .ref a2)] := hl
          refine lv_aload_n hx hb dJ23_treeify_46 rfl (lv_at hl 3 rfl) ?_
          refine hr_gtQ X hI (rfl : jC.1[18]? = some (RJ23, TJ23, 11)) in_J23 3 (Nat.le_of_ble_eq_true rfl) hf q981 (hsame_of (hts _ q982)) dJ23_treeify_47 (fun q11 hf => ?_)
          refine h_astore (o := q11) (lv' := [(5, va_rf q11), (4, va_rf q4), (1, va_rf lq1), (2, .ref a8), (3, .ref a2)]) hx hb dJ23_treeify_50 hl (by decide) (by cases q4 <;> rfl) (fun ls hl => ?_)
          refine lv_aload_n hx hb dJ23_treeify_52 rfl (lv_at hl 4 rfl) ?_
          refine hr_gtI X hI (rfl : jC.1[18]? = some (RJ23, TJ23, 11)) in_J23 2 (Nat.le_of_ble_eq_true rfl) hf q977 (hsame_of (hts _ q978)) dJ23_treeify_53 (fun x12 hf => ?_)
          refine lv_istore (lv' := [(6, .int x12), (5, va_rf q11), (4, va_rf q4), (1, va_rf lq1), (2, .ref a8), (3, .ref a2)]) hx hb dJ23_treeify_56 hl (by decide) (by cases q11 <;> rfl) (fun ls hl => ?_)
          refine lv_null hx hb dJ23_treeify_58 ?_
          refine h_astore (o := none) (lv' := [(7, va_rf none), (6, .int x12), (5, va_rf q11), (4, va_rf q4), (1, va_rf lq1), (2, .ref a8), (3, .ref a2)]) hx hb dJ23_treeify_59 hl (by decide) rfl (fun ls hl => ?_)
          refine lv_aload_n hx hb dJ23_treeify_61 rfl (lv_at hl 5 rfl) ?_
          refine lv_astore (lv' := [(8, .ref a8), (7, va_rf none), (6, .int x12), (5, va_rf q11), (4, va_rf q4), (1, va_rf lq1), (2, .ref a8), (3, .ref a2)]) hx hb dJ23_treeify_62 hl (by decide) rfl (fun ls hl => ?_)
          obtain ⟨n, hf⟩ := hf
          exact L64 n lq1 a8 a2 q4 q11 x12 none a8 G6 hf H locs hI ls (lv_sub hl [5, 6, 7, 4, 3, 2, 1, 0] rfl)
        · have hf := hf.1 c7
          revert hl hf
          subst c7
          intro hl hf
          have hl : lv_has ls 13 [(4, va_rf q4), (1, va_rf lq1), (2, va_rf none), (3, .ref a2)] := hl
          refine lv_aload_n hx hb dJ23_treeify_31 rfl (lv_at hl 3 rfl) ?_
          refine lv_null hx hb dJ23_treeify_32 ?_
          refine hr_pt X hI (rfl : jC.1[18]? = some (RJ23, TJ23, 11)) in_J23 6 (Nat.le_of_ble_eq_true rfl) tyJ23 tyJ23_ok nmJ23 hf q1344 (fun _ h => h) rfl rfl rfl dJ23_treeify_33 (fun G9 H locs hf hI => ?_)
          refine lv_aload_n hx hb dJ23_treeify_36 rfl (lv_at hl 3 rfl) ?_
          refine lv_iconst (v := 0) hx hb dJ23_treeify_37 (by decide) ?_
          refine hr_pt X hI (rfl : jC.1[18]? = some (RJ23, TJ23, 11)) in_J23 10 (Nat.le_of_ble_eq_true rfl) tyJ23 tyJ23_ok nmJ23 hf q1349 (fun _ h => h) rfl rfl rfl dJ23_treeify_38 (fun G10 H locs hf hI => ?_)
          refine lv_aload_n hx hb dJ23_treeify_41 rfl (lv_at hl 3 rfl) ?_
          refine lv_astore_n (lv' := [(2, .ref a2), (4, va_rf q4), (1, va_rf lq1), (3, .ref a2)]) hx hb dJ23_treeify_42 rfl hl (by decide) (by cases lq1 <;> rfl) (fun ls hl => ?_)
          refine lv_goto (tgt := 209) hx hb dJ23_treeify_43 (by decide) ?_
          exact J209 lq1 (some a2) q4 G10 hf H locs hI ls (lv_sub hl [2, 0, 1] rfl)
  have hl : lv_has ls 13 [(0, .ref a0), (1, va_rf q1_)] := by cases q1_ <;> exact hl
  unfold hJ23_treeify at hf
  obtain ⟨H, eH⟩ : ∃ H, H = s.heap := ⟨_, rfl⟩
  obtain ⟨locs, eL⟩ : ∃ locs : List Loc, locs = [] := ⟨_, rfl⟩
  have hI : HI D jC G A0 s.heap H locs := by rw [eH, eL]; exact hI
  rw [← eL]
  suffices h : W p l e (rhJ23_treeify fr lo) s m args below meth c H locs 0 0 Q (F0 m 0 ls []) by rw [eH] at h; exact h
  clear eH eL
  refine lv_null hx hb dJ23_treeify_0 ?_
  refine h_astore_n (o := none) (lv' := [(2, va_rf none), (0, .ref a0), (1, va_rf q1_)]) hx hb dJ23_treeify_1 rfl hl (by decide) (by cases q1_ <;> rfl) (fun ls hl => ?_)
  refine lv_aload_n hx hb dJ23_treeify_2 rfl (lv_at hl 1 rfl) ?_
  refine lv_astore_n (lv' := [(3, .ref a0), (2, va_rf none), (0, .ref a0), (1, va_rf q1_)]) hx hb dJ23_treeify_3 rfl hl (by decide) rfl (fun ls hl => ?_)
  obtain ⟨n, hf⟩ := hf
  exact L4 n q1_ none (some a0) G hf H locs hI ls (lv_sub hl [3, 1, 0] rfl)
/-! java/util/HashMap$TreeNode.split(Ljava/util/HashMap;[Ljava/util/HashMap$Node;II)V -/
def hJ23_split_b171 (j : JX) (Λ : JLam) (a0 : Nat) (p3 : Int32) (p4 : Int32) (post : HG → Prop) (lq1 : Option Nat) (lq2 : Option Nat) (lq6 : Option Nat) (lq8 : Option Nat) (lx11 : Int32) (mc ms : Nat) (G : HG) : Prop :=
  (lq8 = none → (post G)) ∧ (∀ a30, lq8 = some a30 → (((6 : Int32) < lx11 → (nnq lq2 fun a32 => stQ jOk (jty j.1) G a32 (p3 + p4) (some a30) fun G33 => (lq6 = none → (post G33)) ∧ (∀ a35, lq6 = some a35 → (isO G33 a30 18 (hJ23_treeify j Λ a30 (some a32) G33 fun G36 => post G36))))) ∧ (¬ (6 : Int32) < lx11 → (isO G a30 18 (∃ m37 m38 : Nat, m37 ≤ mc ∧ m38 ≤ ms ∧ hJ23_untreeify j Λ a30 lq1 m37 m38 G fun q40 G39 => nnq lq2 fun a41 => stQ jOk (jty j.1) G39 a41 (p3 + p4) q40 fun G42 => post G42)))))
def hJ23_split_b124 (j : JX) (Λ : JLam) (a0 : Nat) (p3 : Int32) (p4 : Int32) (post : HG → Prop) (K25 : Option Nat → Option Nat → Option Nat → Option Nat → Option Nat → Option Nat → Int32 → Int32 → Option Nat → Nat → Nat → HG → Prop) (lq1 : Option Nat) (lq2 : Option Nat) (lq6 : Option Nat) (lq7 : Option Nat) (lq8 : Option Nat) (lq9 : Option Nat) (lx10 : Int32) (lx11 : Int32) (lq13 : Option Nat) (mc ms : Nat) (G : HG) : Prop :=
  K25 lq1 lq2 lq6 lq7 lq8 lq9 lx10 lx11 lq13 mc ms G
def hJ23_split_b117 (j : JX) (Λ : JLam) (a0 : Nat) (p3 : Int32) (p4 : Int32) (post : HG → Prop) (K25 : Option Nat → Option Nat → Option Nat → Option Nat → Option Nat → Option Nat → Int32 → Int32 → Option Nat → Nat → Nat → HG → Prop) (lq1 : Option Nat) (lq2 : Option Nat) (lq6 : Option Nat) (lq7 : Option Nat) (lq8 : Option Nat) (lx10 : Int32) (lx11 : Int32) (la12 : Nat) (lq13 : Option Nat) (mc ms : Nat) (G : HG) : Prop :=
  hJ23_split_b124 j Λ a0 p3 p4 post K25 lq1 lq2 lq6 lq7 lq8 (some la12) lx10 (lx11 + 1) lq13 mc ms G
def hJ23_split_b82 (j : JX) (Λ : JLam) (a0 : Nat) (p3 : Int32) (p4 : Int32) (post : HG → Prop) (K25 : Option Nat → Option Nat → Option Nat → Option Nat → Option Nat → Option Nat → Int32 → Int32 → Option Nat → Nat → Nat → HG → Prop) (lq1 : Option Nat) (lq2 : Option Nat) (lq6 : Option Nat) (lq8 : Option Nat) (lq9 : Option Nat) (lx10 : Int32) (lx11 : Int32) (la12 : Nat) (lq13 : Option Nat) (mc ms : Nat) (G : HG) : Prop :=
  hJ23_split_b124 j Λ a0 p3 p4 post K25 lq1 lq2 lq6 (some la12) lq8 lq9 (lx10 + 1) lx11 lq13 mc ms G
def hJ23_split_b25 (j : JX) (Λ : JLam) (a0 : Nat) (p3 : Int32) (p4 : Int32) (post : HG → Prop) (K25 : Option Nat → Option Nat → Option Nat → Option Nat → Option Nat → Option Nat → Int32 → Int32 → Option Nat → Nat → Nat → HG → Prop) (lq1 : Option Nat) (lq2 : Option Nat) (lq6 : Option Nat) (lq7 : Option Nat) (lq8 : Option Nat) (lq9 : Option Nat) (lx10 : Int32) (lx11 : Int32) (lq12 : Option Nat) (mc ms : Nat) (G : HG) : Prop :=
  (lq12 = none → ((lq6 = none → (hJ23_split_b171 j Λ a0 p3 p4 post lq1 lq2 none lq8 lx11 mc ms G)) ∧ (∀ a4, lq6 = some a4 → (((6 : Int32) < lx10 → (nnq lq2 fun a6 => stQ jOk (jty j.1) G a6 p3 (some a4) fun G7 => (lq8 = none → (hJ23_split_b171 j Λ a0 p3 p4 post lq1 (some a6) (some a4) none lx11 mc ms G7)) ∧ (∀ a9, lq8 = some a9 → (isO G7 a4 18 (hJ23_treeify j Λ a4 (some a6) G7 fun G10 => hJ23_split_b171 j Λ a0 p3 p4 post lq1 (some a6) (some a4) (some a9) lx11 mc ms G10))))) ∧ (¬ (6 : Int32) < lx10 → (isO G a4 18 (∃ m11 m12 : Nat, m11 ≤ mc ∧ m12 ≤ ms ∧ hJ23_untreeify j Λ a4 lq1 m11 m12 G fun q14 G13 => nnq lq2 fun a15 => stQ jOk (jty j.1) G13 a15 p3 q14 fun G16 => hJ23_split_b171 j Λ a0 p3 p4 post lq1 (some a15) (some a4) lq8 lx11 (mc - m11) (ms - m12) G16))))))) ∧ (∀ a2, lq12 = some a2 → (gtQ G a2 18 5 fun q17 => csO G q17 "java/util/HashMap$TreeNode" (ptV G a2 18 5 (va_rf none) fun G18 => gtI G18 a2 18 2 fun x19 => ((x19 &&& p4) = 0 → (ptV G18 a2 18 9 (va_rf lq7) fun G25 => (lq7 = none → (hJ23_split_b82 j Λ a0 p3 p4 post K25 lq1 lq2 (some a2) lq8 lq9 lx10 lx11 a2 q17 mc ms G25)) ∧ (∀ a27, lq7 = some a27 → (ptV G25 a27 18 5 (.ref a2) fun G28 => hJ23_split_b82 j Λ a0 p3 p4 post K25 lq1 lq2 lq6 lq8 lq9 lx10 lx11 a2 q17 mc ms G28)))) ∧ (¬ (x19 &&& p4) = 0 → (ptV G18 a2 18 9 (va_rf lq9) fun G21 => (lq9 = none → (hJ23_split_b117 j Λ a0 p3 p4 post K25 lq1 lq2 lq6 lq7 (some a2) lx10 lx11 a2 q17 mc ms G21)) ∧ (∀ a23, lq9 = some a23 → (ptV G21 a23 18 5 (.ref a2) fun G24 => hJ23_split_b117 j Λ a0 p3 p4 post K25 lq1 lq2 lq6 lq7 lq8 lx10 lx11 a2 q17 mc ms G24)))))))
def hJ23_split_l25 (j : JX) (Λ : JLam) (a0 : Nat) (p3 : Int32) (p4 : Int32) (post : HG → Prop) : Nat → Option Nat → Option Nat → Option Nat → Option Nat → Option Nat → Option Nat → Int32 → Int32 → Option Nat → Nat → Nat → HG → Prop
  | 0 => fun _ _ _ _ _ _ _ _ _ _ _ _ => False
  | n + 1 => fun lq1 lq2 lq6 lq7 lq8 lq9 lx10 lx11 lq12 mc ms G => hJ23_split_b25 j Λ a0 p3 p4 post (hJ23_split_l25 j Λ a0 p3 p4 post n) lq1 lq2 lq6 lq7 lq8 lq9 lx10 lx11 lq12 mc ms G
def hJ23_split (j : JX) (Λ : JLam) (a0 : Nat) (q1_ : Option Nat) (q2_ : Option Nat) (p3 : Int32) (p4 : Int32) (mc ms : Nat) (G : HG) (post : HG → Prop) : Prop :=
  ∃ n, hJ23_split_l25 j Λ a0 p3 p4 post n q1_ q2_ none none none none (0 : Int32) (0 : Int32) (some a0) mc ms G
abbrev rhJ23_split (fr lo mc ms : Nat) : Room := { frames := fr + 4, cells := mc, slots := ms, locals := lo + 121 }
theorem mhJ23_split (l : Launch) (Z : (Nat → Prop) → State → Heap → Prop) (D : va_G) (j : JX) (Λ : JLam) (fr lo : Nat) (E : JE l Z D j Λ fr lo) (a0 : Nat) (q1_ : Option Nat) (q2_ : Option Nat) (p3 : Int32) (p4 : Int32) (mc ms : Nat) (G : HG) (post : HG → Prop) (hf : hJ23_split j Λ a0 q1_ q2_ p3 p4 mc ms G post) : HMv l yJ23_split (ws_ yJ23_split cJ23_split 14 none) (rhJ23_split fr lo mc ms) D jC (jty j.1) Z G [.ref a0, va_rf q1_, va_rf q2_, .int p3, .int p4] post mc ms := by
  obtain ⟨MC, eMC⟩ : ∃ MC, MC = mc := ⟨_, rfl⟩
  obtain ⟨MS, eMS⟩ : ∃ MS, MS = ms := ⟨_, rfl⟩
  suffices goal : HMv l yJ23_split (ws_ yJ23_split cJ23_split 14 none) (rhJ23_split fr lo MC MS) D jC (jty j.1) Z G [.ref a0, va_rf q1_, va_rf q2_, .int p3, .int p4] post MC MS by rw [eMC, eMS] at goal; exact goal
  have hm0_ : 0 + mc ≤ MC ∧ 0 + ms ≤ MS := by omega
  clear eMC eMS
  refine h_openv E.1 (by decide) (by cases q1_ <;> cases q2_ <;> exact Nat.le_of_ble_eq_true rfl) (fun p e s m args below meth c ls A0 Q X hI hnd hnm hl hret => ?_)
  have X : XC p s m args meth c cJ23_split 14 RJ23 D jC (jty j.1) A0 Z := X
  have hx := X.1
  have hb := X.2.1
  have hown := X.2.2.2.1
  have hts := X.2.2.2.2.1
  have J171 : ∀ (lq1 : Option Nat) (lq2 : Option Nat) (lq6 : Option Nat) (lq8 : Option Nat) (lx11 : Int32) (mc ms : Nat) (G : HG), hJ23_split_b171 j Λ a0 p3 p4 post lq1 lq2 lq6 lq8 lx11 mc ms G → ∀ (cells slots : Nat), cells + mc ≤ MC ∧ slots + ms ≤ MS → ∀ (H : Heap) (locs : List Loc), HI D jC G A0 s.heap H locs → ∀ (ls : Array Slot), lv_has ls 14 [(1, va_rf lq1), (2, va_rf lq2), (3, .int p3), (4, .int p4), (6, va_rf lq6), (8, va_rf lq8), (11, .int lx11)] → W p l e (rhJ23_split fr lo MC MS) s m args below meth c H locs cells slots Q (F0 m 171 ls []) := by
    intro lq1 lq2 lq6 lq8 lx11 mc ms G hf cells slots hm H locs hI ls hl
    unfold hJ23_split_b171 at hf
    refine h_aload (o := lq8) hx hb dJ23_split_171 (lv_at hl 5 rfl) ?_
    refine h_ifnull (tgt := 217) hx hb dJ23_split_173 (by decide) (fun c29 => ?_) (fun a30 c29 => ?_)
    · have hf := hf.1 c29
      revert hl hf
      subst c29
      intro hl hf
      have hl : lv_has ls 14 [(1, va_rf lq1), (2, va_rf lq2), (3, .int p3), (4, .int p4), (6, va_rf lq6), (8, va_rf none), (11, .int lx11)] := hl
      exact hret hf hI dJ23_split_217 (hmC hm.1) (hmC hm.2)
    · have hf := hf.2 a30 c29
      revert hl hf
      subst c29
      intro hl hf
      have hl : lv_has ls 14 [(1, va_rf lq1), (2, va_rf lq2), (3, .int p3), (4, .int p4), (6, va_rf lq6), (8, .ref a30), (11, .int lx11)] := hl
      refine lv_iload hx hb dJ23_split_176 (lv_at hl 6 rfl) ?_
      refine lv_bipush (v := 6) hx hb dJ23_split_178 (by decide) ?_
      refine lv_icmp_gt (tgt := 198) hx hb dJ23_split_180 (by decide) (fun c31 => ?_) (fun c31 => ?_)
      · have hf := hf.1 c31
        refine h_aload_n (o := lq2) hx hb dJ23_split_198 rfl (lv_at hl 1 rfl) ?_
        refine lv_iload_n hx hb dJ23_split_199 rfl (lv_at hl 2 rfl) ?_
        refine lv_iload hx hb dJ23_split_200 (lv_at hl 3 rfl) ?_
        refine lv_iadd hx hb dJ23_split_202 ?_
        refine lv_aload hx hb dJ23_split_203 (lv_at hl 5 rfl) ?_
        obtain ⟨a32, ea32, hf⟩ := hf
        revert hl hf
        subst ea32
        intro hl hf
        have hl : lv_has ls 14 [(1, va_rf lq1), (2, .ref a32), (3, .int p3), (4, .int p4), (6, va_rf lq6), (8, .ref a30), (11, .int lx11)] := hl
        refine hr_qst (v := (some a30)) X hI (jOk_asg (E.w X)) hf dJ23_split_205 (fun G33 H locs hf hI => ?_)
        refine h_aload (o := lq6) hx hb dJ23_split_206 (lv_at hl 4 rfl) ?_
        refine h_ifnull (tgt := 217) hx hb dJ23_split_208 (by decide) (fun c34 => ?_) (fun a35 c34 => ?_)
        · have hf := hf.1 c34
          revert hl hf
          subst c34
          intro hl hf
          have hl : lv_has ls 14 [(1, va_rf lq1), (2, .ref a32), (3, .int p3), (4, .int p4), (6, va_rf none), (8, .ref a30), (11, .int lx11)] := hl
          exact hret hf hI dJ23_split_217 (hmC hm.1) (hmC hm.2)
        · have hf := hf.2 a35 c34
          revert hl hf
          subst c34
          intro hl hf
          have hl : lv_has ls 14 [(1, va_rf lq1), (2, .ref a32), (3, .int p3), (4, .int p4), (6, .ref a35), (8, .ref a30), (11, .int lx11)] := hl
          refine lv_aload hx hb dJ23_split_211 (lv_at hl 5 rfl) ?_
          refine lv_aload_n hx hb dJ23_split_213 rfl (lv_at hl 1 rfl) ?_
          obtain ⟨_, _, hO, hf⟩ := hf
          refine h_kv X hI (h_runV (As := [va_rf (some a32)]) X hI (h_recv X hI hO (show jC.1[18]? = some (RJ23, TJ23, 11) from rfl)) (mhJ23_treeify l Z D j Λ fr lo E a30 (some a32) G33 _ hf H.size) (cwV 1 hts (lw_V q1001 q1002 q1003 q201 q1004) rfl rfl rfl (by decide +kernel) (by show fr + 3 + 1 ≤ fr + 4 ∧ 8 + (13 + 11) + (lo + 89) ≤ lo + 121; omega)) rfl hl.1 (Nat.le_of_ble_eq_true rfl) dJ23_split_214 ⟨hm0 hm.1, hm0 hm.2⟩ rfl) (fun G36 H locs hf hI => ?_)
          clear hO
          exact hret hf hI dJ23_split_217 (hmC hm.1) (hmC hm.2)
      · have hf := hf.2 c31
        refine h_aload_n (o := lq2) hx hb dJ23_split_183 rfl (lv_at hl 1 rfl) ?_
        refine lv_iload_n hx hb dJ23_split_184 rfl (lv_at hl 2 rfl) ?_
        refine lv_iload hx hb dJ23_split_185 (lv_at hl 3 rfl) ?_
        refine lv_iadd hx hb dJ23_split_187 ?_
        refine lv_aload hx hb dJ23_split_188 (lv_at hl 5 rfl) ?_
        refine h_aload_n (o := lq1) hx hb dJ23_split_190 rfl (lv_at hl 0 rfl) ?_
        obtain ⟨_, _, hO, hf⟩ := hf
        obtain ⟨m37, m38, hb1, hb2, hf⟩ := hf
        refine h_kq X hI (h_runV (As := [va_rf lq1]) X hI (h_recv X hI hO (show jC.1[18]? = some (RJ23, TJ23, 11) from rfl)) (mhJ23_untreeify l Z D j Λ fr lo E a30 lq1 m37 m38 G _ hf H.size) (cwV 1 hts (lw_V q963 q964 q965 q201 q966) rfl rfl rfl (by decide +kernel) (by show fr + 3 + 1 ≤ fr + 4 ∧ 8 + (6 + 11) + (lo + 86) ≤ lo + 121; omega)) rfl hl.1 (by cases lq2 <;> exact Nat.le_of_ble_eq_true rfl) dJ23_split_191 ⟨hmA hm.1 hb1, hmA hm.2 hb2⟩ rfl) (fun q40 G39 H locs hf hI => ?_)
        have hm := And.intro (hmB hm.1 hb1) (hmB hm.2 hb2)
        clear hb1 hb2
        clear hO
        obtain ⟨a41, ea41, hf⟩ := hf
        revert hl hf
        subst ea41
        intro hl hf
        have hl : lv_has ls 14 [(1, va_rf lq1), (2, .ref a41), (3, .int p3), (4, .int p4), (6, va_rf lq6), (8, .ref a30), (11, .int lx11)] := hl
        refine hr_qst (v := q40) X hI (jOk_asg (E.w X)) hf dJ23_split_194 (fun G42 H locs hf hI => ?_)
        refine lv_goto (tgt := 217) hx hb dJ23_split_195 (by decide) ?_
        exact hret hf hI dJ23_split_217 (hmC hm.1) (hmC hm.2)
  have L25 : ∀ (n : Nat) (lq1 : Option Nat) (lq2 : Option Nat) (lq6 : Option Nat) (lq7 : Option Nat) (lq8 : Option Nat) (lq9 : Option Nat) (lx10 : Int32) (lx11 : Int32) (lq12 : Option Nat) (mc ms : Nat) (G : HG), hJ23_split_l25 j Λ a0 p3 p4 post n lq1 lq2 lq6 lq7 lq8 lq9 lx10 lx11 lq12 mc ms G → ∀ (cells slots : Nat), cells + mc ≤ MC ∧ slots + ms ≤ MS → ∀ (H : Heap) (locs : List Loc), HI D jC G A0 s.heap H locs → ∀ (ls : Array Slot), lv_has ls 14 [(1, va_rf lq1), (2, va_rf lq2), (3, .int p3), (4, .int p4), (6, va_rf lq6), (7, va_rf lq7), (8, va_rf lq8), (9, va_rf lq9), (10, .int lx10), (11, .int lx11), (12, va_rf lq12)] → W p l e (rhJ23_split fr lo MC MS) s m args below meth c H locs cells slots Q (F0 m 25 ls []) := by
    intro n25
    induction n25 with
    | zero => intro lq1 lq2 lq6 lq7 lq8 lq9 lx10 lx11 lq12 mc ms G hf; exact hf.elim
    | succ n25 ih25 =>
      have J124 : ∀ (lq1 : Option Nat) (lq2 : Option Nat) (lq6 : Option Nat) (lq7 : Option Nat) (lq8 : Option Nat) (lq9 : Option Nat) (lx10 : Int32) (lx11 : Int32) (lq13 : Option Nat) (mc ms : Nat) (G : HG), hJ23_split_b124 j Λ a0 p3 p4 post (hJ23_split_l25 j Λ a0 p3 p4 post n25) lq1 lq2 lq6 lq7 lq8 lq9 lx10 lx11 lq13 mc ms G → ∀ (cells slots : Nat), cells + mc ≤ MC ∧ slots + ms ≤ MS → ∀ (H : Heap) (locs : List Loc), HI D jC G A0 s.heap H locs → ∀ (ls : Array Slot), lv_has ls 14 [(1, va_rf lq1), (2, va_rf lq2), (3, .int p3), (4, .int p4), (6, va_rf lq6), (7, va_rf lq7), (8, va_rf lq8), (9, va_rf lq9), (10, .int lx10), (11, .int lx11), (13, va_rf lq13)] → W p l e (rhJ23_split fr lo MC MS) s m args below meth c H locs cells slots Q (F0 m 124 ls []) := by
        intro lq1 lq2 lq6 lq7 lq8 lq9 lx10 lx11 lq13 mc ms G hf cells slots hm H locs hI ls hl
        unfold hJ23_split_b124 at hf
        refine h_aload (o := lq13) hx hb dJ23_split_124 (lv_at hl 10 rfl) ?_
        refine h_astore (o := lq13) (lv' := [(12, va_rf lq13), (1, va_rf lq1), (2, va_rf lq2), (3, .int p3), (4, .int p4), (6, va_rf lq6), (7, va_rf lq7), (8, va_rf lq8), (9, va_rf lq9), (10, .int lx10), (11, .int lx11), (13, va_rf lq13)]) hx hb dJ23_split_126 hl (by decide) rfl (fun ls hl => ?_)
        refine lv_goto (tgt := 25) hx hb dJ23_split_128 (by decide) ?_
        exact ih25 lq1 lq2 lq6 lq7 lq8 lq9 lx10 lx11 lq13 mc ms G hf _ _ hm H locs hI ls (lv_sub hl [1, 2, 3, 4, 5, 6, 7, 8, 9, 10, 0] rfl)
      have J117 : ∀ (lq1 : Option Nat) (lq2 : Option Nat) (lq6 : Option Nat) (lq7 : Option Nat) (lq8 : Option Nat) (lx10 : Int32) (lx11 : Int32) (la12 : Nat) (lq13 : Option Nat) (mc ms : Nat) (G : HG), hJ23_split_b117 j Λ a0 p3 p4 post (hJ23_split_l25 j Λ a0 p3 p4 post n25) lq1 lq2 lq6 lq7 lq8 lx10 lx11 la12 lq13 mc ms G → ∀ (cells slots : Nat), cells + mc ≤ MC ∧ slots + ms ≤ MS → ∀ (H : Heap) (locs : List Loc), HI D jC G A0 s.heap H locs → ∀ (ls : Array Slot), lv_has ls 14 [(1, va_rf lq1), (2, va_rf lq2), (3, .int p3), (4, .int p4), (6, va_rf lq6), (7, va_rf lq7), (8, va_rf lq8), (10, .int lx10), (11, .int lx11), (12, .ref la12), (13, va_rf lq13)] → W p l e (rhJ23_split fr lo MC MS) s m args below meth c H locs cells slots Q (F0 m 117 ls []) := by
        intro lq1 lq2 lq6 lq7 lq8 lx10 lx11 la12 lq13 mc ms G hf cells slots hm H locs hI ls hl
        unfold hJ23_split_b117 at hf
        refine lv_aload hx hb dJ23_split_117 (lv_at hl 9 rfl) ?_
        refine lv_astore (lv' := [(9, .ref la12), (1, va_rf lq1), (2, va_rf lq2), (3, .int p3), (4, .int p4), (6, va_rf lq6), (7, va_rf lq7), (8, va_rf lq8), (10, .int lx10), (11, .int lx11), (12, .ref la12), (13, va_rf lq13)]) hx hb dJ23_split_119 hl (by decide) (by cases lq8 <;> rfl) (fun ls hl => ?_)
        refine lv_iinc (v := lx11 + 1) (lv' := [(11, .int (lx11 + 1)), (9, .ref la12), (1, va_rf lq1), (2, va_rf lq2), (3, .int p3), (4, .int p4), (6, va_rf lq6), (7, va_rf lq7), (8, va_rf lq8), (10, .int lx10), (12, .ref la12), (13, va_rf lq13)]) hx hb dJ23_split_121 hl (k := 9) rfl rfl (by decide) rfl (fun ls hl => ?_)
        exact J124 lq1 lq2 lq6 lq7 lq8 (some la12) lx10 (lx11 + 1) lq13 mc ms G hf _ _ hm H locs hI ls (lv_sub hl [2, 3, 4, 5, 6, 7, 8, 1, 9, 0, 11] rfl)
      have J82 : ∀ (lq1 : Option Nat) (lq2 : Option Nat) (lq6 : Option Nat) (lq8 : Option Nat) (lq9 : Option Nat) (lx10 : Int32) (lx11 : Int32) (la12 : Nat) (lq13 : Option Nat) (mc ms : Nat) (G : HG), hJ23_split_b82 j Λ a0 p3 p4 post (hJ23_split_l25 j Λ a0 p3 p4 post n25) lq1 lq2 lq6 lq8 lq9 lx10 lx11 la12 lq13 mc ms G → ∀ (cells slots : Nat), cells + mc ≤ MC ∧ slots + ms ≤ MS → ∀ (H : Heap) (locs : List Loc), HI D jC G A0 s.heap H locs → ∀ (ls : Array Slot), lv_has ls 14 [(1, va_rf lq1), (2, va_rf lq2), (3, .int p3), (4, .int p4), (6, va_rf lq6), (8, va_rf lq8), (9, va_rf lq9), (10, .int lx10), (11, .int lx11), (12, .ref la12), (13, va_rf lq13)] → W p l e (rhJ23_split fr lo MC MS) s m args below meth c H locs cells slots Q (F0 m 82 ls []) := by
        intro lq1 lq2 lq6 lq8 lq9 lx10 lx11 la12 lq13 mc ms G hf cells slots hm H locs hI ls hl
        unfold hJ23_split_b82 at hf
        refine lv_aload hx hb dJ23_split_82 (lv_at hl 9 rfl) ?_
        refine lv_astore (lv' := [(7, .ref la12), (1, va_rf lq1), (2, va_rf lq2), (3, .int p3), (4, .int p4), (6, va_rf lq6), (8, va_rf lq8), (9, va_rf lq9), (10, .int lx10), (11, .int lx11), (12, .ref la12), (13, va_rf lq13)]) hx hb dJ23_split_84 hl (by decide) (by cases lq6 <;> rfl) (fun ls hl => ?_)
        refine lv_iinc (v := lx10 + 1) (lv' := [(10, .int (lx10 + 1)), (7, .ref la12), (1, va_rf lq1), (2, va_rf lq2), (3, .int p3), (4, .int p4), (6, va_rf lq6), (8, va_rf lq8), (9, va_rf lq9), (11, .int lx11), (12, .ref la12), (13, va_rf lq13)]) hx hb dJ23_split_86 hl (k := 8) rfl rfl (by decide) (by cases lq9 <;> rfl) (fun ls hl => ?_)
        refine lv_goto (tgt := 124) hx hb dJ23_split_89 (by decide) ?_
        exact J124 lq1 lq2 lq6 (some la12) lq8 lq9 (lx10 + 1) lx11 lq13 mc ms G hf _ _ hm H locs hI ls (lv_sub hl [2, 3, 4, 5, 6, 1, 7, 8, 0, 9, 11] rfl)
      intro lq1 lq2 lq6 lq7 lq8 lq9 lx10 lx11 lq12 mc ms G hf cells slots hm H locs hI ls hl
      have hf : hJ23_split_b25 j Λ a0 p3 p4 post (hJ23_split_l25 j Λ a0 p3 p4 post n25) lq1 lq2 lq6 lq7 lq8 lq9 lx10 lx11 lq12 mc ms G := hf
      unfold hJ23_split_b25 at hf
      refine h_aload (o := lq12) hx hb dJ23_split_25 (lv_at hl 10 rfl) ?_
      refine h_ifnull (tgt := 131) hx hb dJ23_split_27 (by decide) (fun c1 => ?_) (fun a2 c1 => ?_)
      · have hf := hf.1 c1
        revert hl hf
        subst c1
        intro hl hf
        have hl : lv_has ls 14 [(1, va_rf lq1), (2, va_rf lq2), (3, .int p3), (4, .int p4), (6, va_rf lq6), (7, va_rf lq7), (8, va_rf lq8), (9, va_rf lq9), (10, .int lx10), (11, .int lx11), (12, va_rf none)] := hl
        refine h_aload (o := lq6) hx hb dJ23_split_131 (lv_at hl 4 rfl) ?_
        refine h_ifnull (tgt := 171) hx hb dJ23_split_133 (by decide) (fun c3 => ?_) (fun a4 c3 => ?_)
        · have hf := hf.1 c3
          revert hl hf
          subst c3
          intro hl hf
          have hl : lv_has ls 14 [(1, va_rf lq1), (2, va_rf lq2), (3, .int p3), (4, .int p4), (6, va_rf none), (7, va_rf lq7), (8, va_rf lq8), (9, va_rf lq9), (10, .int lx10), (11, .int lx11), (12, va_rf none)] := hl
          exact J171 lq1 lq2 none lq8 lx11 mc ms G hf _ _ hm H locs hI ls (lv_sub hl [0, 1, 2, 3, 4, 6, 9] rfl)
        · have hf := hf.2 a4 c3
          revert hl hf
          subst c3
          intro hl hf
          have hl : lv_has ls 14 [(1, va_rf lq1), (2, va_rf lq2), (3, .int p3), (4, .int p4), (6, .ref a4), (7, va_rf lq7), (8, va_rf lq8), (9, va_rf lq9), (10, .int lx10), (11, .int lx11), (12, va_rf none)] := hl
          refine lv_iload hx hb dJ23_split_136 (lv_at hl 8 rfl) ?_
          refine lv_bipush (v := 6) hx hb dJ23_split_138 (by decide) ?_
          refine lv_icmp_gt (tgt := 155) hx hb dJ23_split_140 (by decide) (fun c5 => ?_) (fun c5 => ?_)
          · have hf := hf.1 c5
            refine h_aload_n (o := lq2) hx hb dJ23_split_155 rfl (lv_at hl 1 rfl) ?_
            refine lv_iload_n hx hb dJ23_split_156 rfl (lv_at hl 2 rfl) ?_
            refine lv_aload hx hb dJ23_split_157 (lv_at hl 4 rfl) ?_
            obtain ⟨a6, ea6, hf⟩ := hf
            revert hl hf
            subst ea6
            intro hl hf
            have hl : lv_has ls 14 [(1, va_rf lq1), (2, .ref a6), (3, .int p3), (4, .int p4), (6, .ref a4), (7, va_rf lq7), (8, va_rf lq8), (9, va_rf lq9), (10, .int lx10), (11, .int lx11), (12, va_rf none)] := hl
            refine hr_qst (v := (some a4)) X hI (jOk_asg (E.w X)) hf dJ23_split_159 (fun G7 H locs hf hI => ?_)
            refine h_aload (o := lq8) hx hb dJ23_split_160 (lv_at hl 6 rfl) ?_
            refine h_ifnull (tgt := 171) hx hb dJ23_split_162 (by decide) (fun c8 => ?_) (fun a9 c8 => ?_)
            · have hf := hf.1 c8
              revert hl hf
              subst c8
              intro hl hf
              have hl : lv_has ls 14 [(1, va_rf lq1), (2, .ref a6), (3, .int p3), (4, .int p4), (6, .ref a4), (7, va_rf lq7), (8, va_rf none), (9, va_rf lq9), (10, .int lx10), (11, .int lx11), (12, va_rf none)] := hl
              exact J171 lq1 (some a6) (some a4) none lx11 mc ms G7 hf _ _ hm H locs hI ls (lv_sub hl [0, 1, 2, 3, 4, 6, 9] rfl)
            · have hf := hf.2 a9 c8
              revert hl hf
              subst c8
              intro hl hf
              have hl : lv_has ls 14 [(1, va_rf lq1), (2, .ref a6), (3, .int p3), (4, .int p4), (6, .ref a4), (7, va_rf lq7), (8, .ref a9), (9, va_rf lq9), (10, .int lx10), (11, .int lx11), (12, va_rf none)] := hl
              refine lv_aload hx hb dJ23_split_165 (lv_at hl 4 rfl) ?_
              refine lv_aload_n hx hb dJ23_split_167 rfl (lv_at hl 1 rfl) ?_
              obtain ⟨_, _, hO, hf⟩ := hf
              refine h_kv X hI (h_runV (As := [va_rf (some a6)]) X hI (h_recv X hI hO (show jC.1[18]? = some (RJ23, TJ23, 11) from rfl)) (mhJ23_treeify l Z D j Λ fr lo E a4 (some a6) G7 _ hf H.size) (cwV 1 hts (lw_V q1001 q1002 q1003 q201 q1004) rfl rfl rfl (by decide +kernel) (by show fr + 3 + 1 ≤ fr + 4 ∧ 8 + (13 + 11) + (lo + 89) ≤ lo + 121; omega)) rfl hl.1 (Nat.le_of_ble_eq_true rfl) dJ23_split_168 ⟨hm0 hm.1, hm0 hm.2⟩ rfl) (fun G10 H locs hf hI => ?_)
              clear hO
              exact J171 lq1 (some a6) (some a4) (some a9) lx11 mc ms G10 hf _ _ hm H locs hI ls (lv_sub hl [0, 1, 2, 3, 4, 6, 9] rfl)
          · have hf := hf.2 c5
            refine h_aload_n (o := lq2) hx hb dJ23_split_143 rfl (lv_at hl 1 rfl) ?_
            refine lv_iload_n hx hb dJ23_split_144 rfl (lv_at hl 2 rfl) ?_
            refine lv_aload hx hb dJ23_split_145 (lv_at hl 4 rfl) ?_
            refine h_aload_n (o := lq1) hx hb dJ23_split_147 rfl (lv_at hl 0 rfl) ?_
            obtain ⟨_, _, hO, hf⟩ := hf
            obtain ⟨m11, m12, hb1, hb2, hf⟩ := hf
            refine h_kq X hI (h_runV (As := [va_rf lq1]) X hI (h_recv X hI hO (show jC.1[18]? = some (RJ23, TJ23, 11) from rfl)) (mhJ23_untreeify l Z D j Λ fr lo E a4 lq1 m11 m12 G _ hf H.size) (cwV 1 hts (lw_V q963 q964 q965 q201 q966) rfl rfl rfl (by decide +kernel) (by show fr + 3 + 1 ≤ fr + 4 ∧ 8 + (6 + 11) + (lo + 86) ≤ lo + 121; omega)) rfl hl.1 (by cases lq2 <;> exact Nat.le_of_ble_eq_true rfl) dJ23_split_148 ⟨hmA hm.1 hb1, hmA hm.2 hb2⟩ rfl) (fun q14 G13 H locs hf hI => ?_)
            have hm := And.intro (hmB hm.1 hb1) (hmB hm.2 hb2)
            clear hb1 hb2
            clear hO
            obtain ⟨a15, ea15, hf⟩ := hf
            revert hl hf
            subst ea15
            intro hl hf
            have hl : lv_has ls 14 [(1, va_rf lq1), (2, .ref a15), (3, .int p3), (4, .int p4), (6, .ref a4), (7, va_rf lq7), (8, va_rf lq8), (9, va_rf lq9), (10, .int lx10), (11, .int lx11), (12, va_rf none)] := hl
            refine hr_qst (v := q14) X hI (jOk_asg (E.w X)) hf dJ23_split_151 (fun G16 H locs hf hI => ?_)
            refine lv_goto (tgt := 171) hx hb dJ23_split_152 (by decide) ?_
            exact J171 lq1 (some a15) (some a4) lq8 lx11 (mc - m11) (ms - m12) G16 hf _ _ hm H locs hI ls (lv_sub hl [0, 1, 2, 3, 4, 6, 9] rfl)
      · have hf := hf.2 a2 c1
        revert hl hf
        subst c1
        intro hl hf
        have hl : lv_has ls 14 [(1, va_rf lq1), (2, va_rf lq2), (3, .int p3), (4, .int p4), (6, va_rf lq6), (7, va_rf lq7), (8, va_rf lq8), (9, va_rf lq9), (10, .int lx10), (11, .int lx11), (12, .ref a2)] := hl
        refine lv_aload hx hb dJ23_split_30 (lv_at hl 10 rfl) ?_
        refine hr_gtQ X hI (rfl : jC.1[18]? = some (RJ23, TJ23, 11)) in_J23 5 (Nat.le_of_ble_eq_true rfl) hf q987 (hsame_of (hts _ q988)) dJ23_split_32 (fun q17 hf => ?_)
        refine hr_cast (v := q17) E X hI hf q962 dJ23_split_35 (fun hf => ?_)
        refine h_astore (o := q17) (lv' := [(13, va_rf q17), (1, va_rf lq1), (2, va_rf lq2), (3, .int p3), (4, .int p4), (6, va_rf lq6), (7, va_rf lq7), (8, va_rf lq8), (9, va_rf lq9), (10, .int lx10), (11, .int lx11), (12, .ref a2)]) hx hb dJ23_split_38 hl (by decide) rfl (fun ls hl => ?_)
        refine lv_aload hx hb dJ23_split_40 (lv_at hl 11 rfl) ?_
        refine lv_null hx hb dJ23_split_42 ?_
        refine hr_pt X hI (rfl : jC.1[18]? = some (RJ23, TJ23, 11)) in_J23 5 (Nat.le_of_ble_eq_true rfl) tyJ23 tyJ23_ok nmJ23 hf q987 (hsame_of (hts _ q988)) rfl rfl rfl dJ23_split_43 (fun G18 H locs hf hI => ?_)
        refine lv_aload hx hb dJ23_split_46 (lv_at hl 11 rfl) ?_
        refine hr_gtI X hI (rfl : jC.1[18]? = some (RJ23, TJ23, 11)) in_J23 2 (Nat.le_of_ble_eq_true rfl) hf q977 (hsame_of (hts _ q978)) dJ23_split_48 (fun x19 hf => ?_)
        refine lv_iload hx hb dJ23_split_51 (lv_at hl 4 rfl) ?_
        refine lv_iand hx hb dJ23_split_53 ?_
        refine lv_if_ne (tgt := 92) hx hb dJ23_split_54 (by decide) (fun c20 => ?_) (fun c20 => ?_)
        · have hf := hf.2 c20
          refine lv_aload hx hb dJ23_split_92 (lv_at hl 11 rfl) ?_
          refine h_aload (o := lq9) hx hb dJ23_split_94 (lv_at hl 8 rfl) ?_
          refine lv_dup_x1 hx hb dJ23_split_96 (h_catq _) rfl ?_
          refine hr_pt X hI (rfl : jC.1[18]? = some (RJ23, TJ23, 11)) in_J23 9 (Nat.le_of_ble_eq_true rfl) tyJ23 tyJ23_ok nmJ23 hf q1347 (fun _ h => h) rfl (nar_o _ _) (fit_o _ _) dJ23_split_97 (fun G21 H locs hf hI => ?_)
          refine h_ifnonnull (tgt := 110) hx hb dJ23_split_100 (by decide) (fun a23 c22 => ?_) (fun c22 => ?_)
          · have hf := hf.2 a23 c22
            revert hl hf
            subst c22
            intro hl hf
            have hl : lv_has ls 14 [(13, va_rf q17), (1, va_rf lq1), (2, va_rf lq2), (3, .int p3), (4, .int p4), (6, va_rf lq6), (7, va_rf lq7), (8, va_rf lq8), (9, .ref a23), (10, .int lx10), (11, .int lx11), (12, .ref a2)] := hl
            refine lv_aload hx hb dJ23_split_110 (lv_at hl 8 rfl) ?_
            refine lv_aload hx hb dJ23_split_112 (lv_at hl 11 rfl) ?_
            refine hr_pt X hI (rfl : jC.1[18]? = some (RJ23, TJ23, 11)) in_J23 5 (Nat.le_of_ble_eq_true rfl) tyJ23 tyJ23_ok nmJ23 hf q987 (hsame_of (hts _ q988)) rfl rfl rfl dJ23_split_114 (fun G24 H locs hf hI => ?_)
            exact J117 lq1 lq2 lq6 lq7 lq8 lx10 lx11 a2 q17 mc ms G24 hf _ _ hm H locs hI ls (lv_sub hl [1, 2, 3, 4, 5, 6, 7, 9, 10, 11, 0] rfl)
          · have hf := hf.1 c22
            revert hl hf
            subst c22
            intro hl hf
            have hl : lv_has ls 14 [(13, va_rf q17), (1, va_rf lq1), (2, va_rf lq2), (3, .int p3), (4, .int p4), (6, va_rf lq6), (7, va_rf lq7), (8, va_rf lq8), (9, va_rf none), (10, .int lx10), (11, .int lx11), (12, .ref a2)] := hl
            refine lv_aload hx hb dJ23_split_103 (lv_at hl 11 rfl) ?_
            refine lv_astore (lv' := [(8, .ref a2), (13, va_rf q17), (1, va_rf lq1), (2, va_rf lq2), (3, .int p3), (4, .int p4), (6, va_rf lq6), (7, va_rf lq7), (9, va_rf none), (10, .int lx10), (11, .int lx11), (12, .ref a2)]) hx hb dJ23_split_105 hl (by decide) (by cases lq7 <;> rfl) (fun ls hl => ?_)
            refine lv_goto (tgt := 117) hx hb dJ23_split_107 (by decide) ?_
            exact J117 lq1 lq2 lq6 lq7 (some a2) lx10 lx11 a2 q17 mc ms G21 hf _ _ hm H locs hI ls (lv_sub hl [2, 3, 4, 5, 6, 7, 0, 9, 10, 11, 1] rfl)
        · have hf := hf.1 c20
          refine lv_aload hx hb dJ23_split_57 (lv_at hl 11 rfl) ?_
          refine h_aload (o := lq7) hx hb dJ23_split_59 (lv_at hl 6 rfl) ?_
          refine lv_dup_x1 hx hb dJ23_split_61 (h_catq _) rfl ?_
          refine hr_pt X hI (rfl : jC.1[18]? = some (RJ23, TJ23, 11)) in_J23 9 (Nat.le_of_ble_eq_true rfl) tyJ23 tyJ23_ok nmJ23 hf q1347 (fun _ h => h) rfl (nar_o _ _) (fit_o _ _) dJ23_split_62 (fun G25 H locs hf hI => ?_)
          refine h_ifnonnull (tgt := 75) hx hb dJ23_split_65 (by decide) (fun a27 c26 => ?_) (fun c26 => ?_)
          · have hf := hf.2 a27 c26
            revert hl hf
            subst c26
            intro hl hf
            have hl : lv_has ls 14 [(13, va_rf q17), (1, va_rf lq1), (2, va_rf lq2), (3, .int p3), (4, .int p4), (6, va_rf lq6), (7, .ref a27), (8, va_rf lq8), (9, va_rf lq9), (10, .int lx10), (11, .int lx11), (12, .ref a2)] := hl
            refine lv_aload hx hb dJ23_split_75 (lv_at hl 6 rfl) ?_
            refine lv_aload hx hb dJ23_split_77 (lv_at hl 11 rfl) ?_
            refine hr_pt X hI (rfl : jC.1[18]? = some (RJ23, TJ23, 11)) in_J23 5 (Nat.le_of_ble_eq_true rfl) tyJ23 tyJ23_ok nmJ23 hf q987 (hsame_of (hts _ q988)) rfl rfl rfl dJ23_split_79 (fun G28 H locs hf hI => ?_)
            exact J82 lq1 lq2 lq6 lq8 lq9 lx10 lx11 a2 q17 mc ms G28 hf _ _ hm H locs hI ls (lv_sub hl [1, 2, 3, 4, 5, 7, 8, 9, 10, 11, 0] rfl)
          · have hf := hf.1 c26
            revert hl hf
            subst c26
            intro hl hf
            have hl : lv_has ls 14 [(13, va_rf q17), (1, va_rf lq1), (2, va_rf lq2), (3, .int p3), (4, .int p4), (6, va_rf lq6), (7, va_rf none), (8, va_rf lq8), (9, va_rf lq9), (10, .int lx10), (11, .int lx11), (12, .ref a2)] := hl
            refine lv_aload hx hb dJ23_split_68 (lv_at hl 11 rfl) ?_
            refine lv_astore (lv' := [(6, .ref a2), (13, va_rf q17), (1, va_rf lq1), (2, va_rf lq2), (3, .int p3), (4, .int p4), (7, va_rf none), (8, va_rf lq8), (9, va_rf lq9), (10, .int lx10), (11, .int lx11), (12, .ref a2)]) hx hb dJ23_split_70 hl (by decide) rfl (fun ls hl => ?_)
            refine lv_goto (tgt := 82) hx hb dJ23_split_72 (by decide) ?_
            exact J82 lq1 lq2 (some a2) lq8 lq9 lx10 lx11 a2 q17 mc ms G25 hf _ _ hm H locs hI ls (lv_sub hl [2, 3, 4, 5, 0, 7, 8, 9, 10, 11, 1] rfl)
  have hl : lv_has ls 14 [(0, .ref a0), (1, va_rf q1_), (2, va_rf q2_), (3, .int p3), (4, .int p4)] := by cases q1_ <;> cases q2_ <;> exact hl
  unfold hJ23_split at hf
  obtain ⟨H, eH⟩ : ∃ H, H = s.heap := ⟨_, rfl⟩
  obtain ⟨locs, eL⟩ : ∃ locs : List Loc, locs = [] := ⟨_, rfl⟩
  have hI : HI D jC G A0 s.heap H locs := by rw [eH, eL]; exact hI
  rw [← eL]
  obtain ⟨cells, eC⟩ : ∃ n : Nat, n = 0 := ⟨_, rfl⟩
  obtain ⟨slots, eS⟩ : ∃ n : Nat, n = 0 := ⟨_, rfl⟩
  have hm : cells + mc ≤ MC ∧ slots + ms ≤ MS := by rw [eC, eS]; exact hm0_
  suffices h : W p l e (rhJ23_split fr lo MC MS) s m args below meth c H locs cells slots Q (F0 m 0 ls []) by rw [eH, eC, eS] at h; exact h
  clear eH eL eC eS
  refine lv_aload_n hx hb dJ23_split_0 rfl (lv_at hl 0 rfl) ?_
  refine lv_astore (lv' := [(5, .ref a0), (0, .ref a0), (1, va_rf q1_), (2, va_rf q2_), (3, .int p3), (4, .int p4)]) hx hb dJ23_split_1 hl (by decide) rfl (fun ls hl => ?_)
  refine lv_null hx hb dJ23_split_3 ?_
  refine h_astore (o := none) (lv' := [(6, va_rf none), (5, .ref a0), (0, .ref a0), (1, va_rf q1_), (2, va_rf q2_), (3, .int p3), (4, .int p4)]) hx hb dJ23_split_4 hl (by decide) rfl (fun ls hl => ?_)
  refine lv_null hx hb dJ23_split_6 ?_
  refine h_astore (o := none) (lv' := [(7, va_rf none), (6, va_rf none), (5, .ref a0), (0, .ref a0), (1, va_rf q1_), (2, va_rf q2_), (3, .int p3), (4, .int p4)]) hx hb dJ23_split_7 hl (by decide) rfl (fun ls hl => ?_)
  refine lv_null hx hb dJ23_split_9 ?_
  refine h_astore (o := none) (lv' := [(8, va_rf none), (7, va_rf none), (6, va_rf none), (5, .ref a0), (0, .ref a0), (1, va_rf q1_), (2, va_rf q2_), (3, .int p3), (4, .int p4)]) hx hb dJ23_split_10 hl (by decide) rfl (fun ls hl => ?_)
  refine lv_null hx hb dJ23_split_12 ?_
  refine h_astore (o := none) (lv' := [(9, va_rf none), (8, va_rf none), (7, va_rf none), (6, va_rf none), (5, .ref a0), (0, .ref a0), (1, va_rf q1_), (2, va_rf q2_), (3, .int p3), (4, .int p4)]) hx hb dJ23_split_13 hl (by decide) rfl (fun ls hl => ?_)
  refine lv_iconst (v := 0) hx hb dJ23_split_15 (by decide) ?_
  refine lv_istore (lv' := [(10, .int 0), (9, va_rf none), (8, va_rf none), (7, va_rf none), (6, va_rf none), (5, .ref a0), (0, .ref a0), (1, va_rf q1_), (2, va_rf q2_), (3, .int p3), (4, .int p4)]) hx hb dJ23_split_16 hl (by decide) rfl (fun ls hl => ?_)
  refine lv_iconst (v := 0) hx hb dJ23_split_18 (by decide) ?_
  refine lv_istore (lv' := [(11, .int 0), (10, .int 0), (9, va_rf none), (8, va_rf none), (7, va_rf none), (6, va_rf none), (5, .ref a0), (0, .ref a0), (1, va_rf q1_), (2, va_rf q2_), (3, .int p3), (4, .int p4)]) hx hb dJ23_split_19 hl (by decide) rfl (fun ls hl => ?_)
  refine lv_aload hx hb dJ23_split_21 (lv_at hl 6 rfl) ?_
  refine lv_astore (lv' := [(12, .ref a0), (11, .int 0), (10, .int 0), (9, va_rf none), (8, va_rf none), (7, va_rf none), (6, va_rf none), (5, .ref a0), (0, .ref a0), (1, va_rf q1_), (2, va_rf q2_), (3, .int p3), (4, .int p4)]) hx hb dJ23_split_23 hl (by decide) rfl (fun ls hl => ?_)
  obtain ⟨n, hf⟩ := hf
  exact L25 n q1_ q2_ none none none none (0 : Int32) (0 : Int32) (some a0) mc ms G hf _ _ hm H locs hI ls (lv_sub hl [9, 10, 11, 12, 6, 5, 4, 3, 2, 1, 0] rfl)
