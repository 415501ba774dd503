/-! THE COMPONENT as transformers over its heap, and the walks (printed by gen/genh.py) -/
/-! java/util/AbstractCollection.<init>()V -/
def hJ0_init (j : JX) (Λ : JLam) (a0 : Nat) (G : HG) (post : HG → Prop) : Prop :=
  post G
abbrev rhJ0_init (fr lo : Nat) : Room := { frames := fr + 1, cells := 0, slots := 0, locals := lo + 40 }
theorem mhJ0_init (l : Launch) (Z : (Nat → Prop) → State → Heap → Prop) (D : va_G) (j : JX) (Λ : JLam) (fr lo : Nat) (E : JE l Z D j Λ fr lo) (a0 : Nat) (G : HG) (post : HG → Prop) (hf : hJ0_init j Λ a0 G post) : HMv l yJ0_init (ws_ yJ0_init cJ0_init 1 none) (rhJ0_init fr lo) D jC (jty j.1) Z G [.ref a0] post 0 0 := by
  refine h_openv E.1 (by decide) (by exact Nat.le_of_ble_eq_true rfl) (fun p e s m args below meth c ls A0 Q X hI hnd hnm hl hret => ?_)
  have X : XC p s m args meth c cJ0_init 1 RJ0 D jC (jty j.1) A0 Z := X
  have hx := X.1
  have hb := X.2.1
  have hown := X.2.2.2.1
  have hts := X.2.2.2.2.1
  have hl : lv_has ls 1 [(0, .ref a0)] := by exact hl
  unfold hJ0_init at hf
  obtain ⟨H, eH⟩ : ∃ H, H = s.heap := ⟨_, rfl⟩
  obtain ⟨locs, eL⟩ : ∃ locs : List Loc, locs = [] := ⟨_, rfl⟩
  have hI : HI D jC G A0 s.heap H locs := by rw [eH, eL]; exact hI
  rw [← eL]
  suffices h : W p l e (rhJ0_init fr lo) s m args below meth c H locs 0 0 Q (F0 m 0 ls []) by rw [eH] at h; exact h
  clear eH eL
  refine lv_aload_n hx hb dJ0_init_0 rfl (lv_at hl 0 rfl) ?_
  refine W.objInit hx hb hown (hts _ q454) (hts _ q247) (hts _ q248) rfl (by rw [X.2.2.1]; exact hl.1) rfl dJ0_init_1 (by show 1 ≤ fr + 1; omega) (Nat.le_trans (m := 40) (Nat.le_of_ble_eq_true rfl) (by show 40 ≤ lo + 40; omega)) ?_
  show W p l e _ s m args below meth c H locs _ _ Q (F0 m 4 ls [])
  exact hret hf hI dJ0_init_4 (Nat.le_refl _) (Nat.le_refl _)
/-! java/util/AbstractList.<init>()V -/
def hJ1_init (j : JX) (Λ : JLam) (a0 : Nat) (G : HG) (post : HG → Prop) : Prop :=
  hJ0_init j Λ a0 G fun G1 => ptV G1 a0 15 0 (.int 0) fun G2 => post G2
abbrev rhJ1_init (fr lo : Nat) : Room := { frames := fr + 2, cells := 0, slots := 0, locals := lo + 60 }
theorem mhJ1_init (l : Launch) (Z : (Nat → Prop) → State → Heap → Prop) (D : va_G) (j : JX) (Λ : JLam) (fr lo : Nat) (E : JE l Z D j Λ fr lo) (a0 : Nat) (G : HG) (post : HG → Prop) (hf : hJ1_init j Λ a0 G post) : HMv l yJ1_init (ws_ yJ1_init cJ1_init 1 none) (rhJ1_init fr lo) D jC (jty j.1) Z G [.ref a0] post 0 0 := by
  refine h_openv E.1 (by decide) (by exact Nat.le_of_ble_eq_true rfl) (fun p e s m args below meth c ls A0 Q X hI hnd hnm hl hret => ?_)
  have X : XC p s m args meth c cJ1_init 1 RJ1 D jC (jty j.1) A0 Z := X
  have hx := X.1
  have hb := X.2.1
  have hown := X.2.2.2.1
  have hts := X.2.2.2.2.1
  have hl : lv_has ls 1 [(0, .ref a0)] := by exact hl
  unfold hJ1_init at hf
  obtain ⟨H, eH⟩ : ∃ H, H = s.heap := ⟨_, rfl⟩
  obtain ⟨locs, eL⟩ : ∃ locs : List Loc, locs = [] := ⟨_, rfl⟩
  have hI : HI D jC G A0 s.heap H locs := by rw [eH, eL]; exact hI
  rw [← eL]
  suffices h : W p l e (rhJ1_init fr lo) s m args below meth c H locs 0 0 Q (F0 m 0 ls []) by rw [eH] at h; exact h
  clear eH eL
  refine lv_aload_n hx hb dJ1_init_0 rfl (lv_at hl 0 rfl) ?_
  refine h_kv X hI (h_runI (As := []) X hI (mhJ0_init l Z D j Λ fr lo E a0 G _ hf H.size) (cwIn 0 hts q451 q452 q170 q453 rfl rfl rfl (by decide +kernel) (by show fr + 1 + 1 ≤ fr + 2 ∧ 8 + (1 + 11) + (lo + 40) ≤ lo + 60; omega)) rfl hl.1 (Nat.le_of_ble_eq_true rfl) dJ1_init_1 ⟨Nat.le_refl _, Nat.le_refl _⟩ rfl) (fun G1 H locs hf hI => ?_)
  refine lv_aload_n hx hb dJ1_init_4 rfl (lv_at hl 0 rfl) ?_
  refine lv_iconst (v := 0) hx hb dJ1_init_5 (by decide) ?_
  refine hr_pt X hI (rfl : jC.1[15]? = some (RJ2, TJ2, 3)) in_J2 0 (Nat.le_of_ble_eq_true rfl) tyJ2 tyJ2_ok nmJ2 hf q461 (fun _ h => h) rfl rfl rfl dJ1_init_6 (fun G2 H locs hf hI => ?_)
  exact hret hf hI dJ1_init_9 (Nat.le_refl _) (Nat.le_refl _)
/-! java/lang/Number.<init>()V -/
def hJ14_init (j : JX) (Λ : JLam) (a0 : Nat) (G : HG) (post : HG → Prop) : Prop :=
  post G
abbrev rhJ14_init (fr lo : Nat) : Room := { frames := fr + 1, cells := 0, slots := 0, locals := lo + 40 }
theorem mhJ14_init (l : Launch) (Z : (Nat → Prop) → State → Heap → Prop) (D : va_G) (j : JX) (Λ : JLam) (fr lo : Nat) (E : JE l Z D j Λ fr lo) (a0 : Nat) (G : HG) (post : HG → Prop) (hf : hJ14_init j Λ a0 G post) : HMv l yJ14_init (ws_ yJ14_init cJ14_init 1 none) (rhJ14_init fr lo) D jC (jty j.1) Z G [.ref a0] post 0 0 := by
  refine h_openv E.1 (by decide) (by exact Nat.le_of_ble_eq_true rfl) (fun p e s m args below meth c ls A0 Q X hI hnd hnm hl hret => ?_)
  have X : XC p s m args meth c cJ14_init 1 RJ14 D jC (jty j.1) A0 Z := X
  have hx := X.1
  have hb := X.2.1
  have hown := X.2.2.2.1
  have hts := X.2.2.2.2.1
  have hl : lv_has ls 1 [(0, .ref a0)] := by exact hl
  unfold hJ14_init at hf
  obtain ⟨H, eH⟩ : ∃ H, H = s.heap := ⟨_, rfl⟩
  obtain ⟨locs, eL⟩ : ∃ locs : List Loc, locs = [] := ⟨_, rfl⟩
  have hI : HI D jC G A0 s.heap H locs := by rw [eH, eL]; exact hI
  rw [← eL]
  suffices h : W p l e (rhJ14_init fr lo) s m args below meth c H locs 0 0 Q (F0 m 0 ls []) by rw [eH] at h; exact h
  clear eH eL
  refine lv_aload_n hx hb dJ14_init_0 rfl (lv_at hl 0 rfl) ?_
  refine W.objInit hx hb hown (hts _ q831) (hts _ q247) (hts _ q248) rfl (by rw [X.2.2.1]; exact hl.1) rfl dJ14_init_1 (by show 1 ≤ fr + 1; omega) (Nat.le_trans (m := 40) (Nat.le_of_ble_eq_true rfl) (by show 40 ≤ lo + 40; omega)) ?_
  show W p l e _ s m args below meth c H locs _ _ Q (F0 m 4 ls [])
  exact hret hf hI dJ14_init_4 (Nat.le_refl _) (Nat.le_refl _)
/-! java/lang/Integer.<init>(I)V -/
def hJ15_init (j : JX) (Λ : JLam) (a0 : Nat) (p1 : Int32) (G : HG) (post : HG → Prop) : Prop :=
  hJ14_init j Λ a0 G fun G1 => ptV G1 a0 21 0 (.int p1) fun G2 => post G2
abbrev rhJ15_init (fr lo : Nat) : Room := { frames := fr + 2, cells := 0, slots := 0, locals := lo + 60 }
theorem mhJ15_init (l : Launch) (Z : (Nat → Prop) → State → Heap → Prop) (D : va_G) (j : JX) (Λ : JLam) (fr lo : Nat) (E : JE l Z D j Λ fr lo) (a0 : Nat) (p1 : Int32) (G : HG) (post : HG → Prop) (hf : hJ15_init j Λ a0 p1 G post) : HMv l yJ15_init (ws_ yJ15_init cJ15_init 2 none) (rhJ15_init fr lo) D jC (jty j.1) Z G [.ref a0, .int p1] post 0 0 := by
  refine h_openv E.1 (by decide) (by exact Nat.le_of_ble_eq_true rfl) (fun p e s m args below meth c ls A0 Q X hI hnd hnm hl hret => ?_)
  have X : XC p s m args meth c cJ15_init 2 RJ15 D jC (jty j.1) A0 Z := X
  have hx := X.1
  have hb := X.2.1
  have hown := X.2.2.2.1
  have hts := X.2.2.2.2.1
  have hl : lv_has ls 2 [(0, .ref a0), (1, .int p1)] := by exact hl
  unfold hJ15_init at hf
  obtain ⟨H, eH⟩ : ∃ H, H = s.heap := ⟨_, rfl⟩
  obtain ⟨locs, eL⟩ : ∃ locs : List Loc, locs = [] := ⟨_, rfl⟩
  have hI : HI D jC G A0 s.heap H locs := by rw [eH, eL]; exact hI
  rw [← eL]
  suffices h : W p l e (rhJ15_init fr lo) s m args below meth c H locs 0 0 Q (F0 m 0 ls []) by rw [eH] at h; exact h
  clear eH eL
  refine lv_aload_n hx hb dJ15_init_0 rfl (lv_at hl 0 rfl) ?_
  refine h_kv X hI (h_runI (As := []) X hI (mhJ14_init l Z D j Λ fr lo E a0 G _ hf H.size) (cwIn 0 hts q828 q829 q190 q830 rfl rfl rfl (by decide +kernel) (by show fr + 1 + 1 ≤ fr + 2 ∧ 8 + (1 + 11) + (lo + 40) ≤ lo + 60; omega)) rfl hl.1 (Nat.le_of_ble_eq_true rfl) dJ15_init_1 ⟨Nat.le_refl _, Nat.le_refl _⟩ rfl) (fun G1 H locs hf hI => ?_)
  refine lv_aload_n hx hb dJ15_init_4 rfl (lv_at hl 0 rfl) ?_
  refine lv_iload_n hx hb dJ15_init_5 rfl (lv_at hl 1 rfl) ?_
  refine hr_ptF X hI (rfl : jC.1[21]? = some (RJ15, TJ15, 1)) in_J15 0 (Nat.le_of_ble_eq_true rfl) tyJ15 tyJ15_ok nmJ15 hf q832 (fun _ h => h) rfl hnm rfl rfl rfl dJ15_init_6 (fun G2 H locs hf hI => ?_)
  exact hret hf hI dJ15_init_9 (Nat.le_refl _) (Nat.le_refl _)
/-! java/lang/Integer.hashCode(I)I -/
def hJ15_hashCode_2 (j : JX) (Λ : JLam) (p0 : Int32) (G : HG) (post : Int32 → HG → Prop) : Prop :=
  post p0 G
abbrev rhJ15_hashCode_2 (fr lo : Nat) : Room := { frames := fr + 1, cells := 0, slots := 0, locals := lo + 40 }
theorem mhJ15_hashCode_2 (l : Launch) (Z : (Nat → Prop) → State → Heap → Prop) (D : va_G) (j : JX) (Λ : JLam) (fr lo : Nat) (E : JE l Z D j Λ fr lo) (p0 : Int32) (G : HG) (post : Int32 → HG → Prop) (hf : hJ15_hashCode_2 j Λ p0 G post) : HMi l yJ15_hashCode_2 (ws_ yJ15_hashCode_2 cJ15_hashCode_2 1 (some .int)) (rhJ15_hashCode_2 fr lo) D jC (jty j.1) Z G [.int p0] post 0 0 := by
  refine h_openi E.1 (by decide) (by exact Nat.le_of_ble_eq_true rfl) (fun p e s m args below meth c ls A0 Q X hI hnd hnm hl hret => ?_)
  have X : XC p s m args meth c cJ15_hashCode_2 1 RJ15 D jC (jty j.1) A0 Z := X
  have hx := X.1
  have hb := X.2.1
  have hown := X.2.2.2.1
  have hts := X.2.2.2.2.1
  have hl : lv_has ls 1 [(0, .int p0)] := by exact hl
  unfold hJ15_hashCode_2 at hf
  obtain ⟨H, eH⟩ : ∃ H, H = s.heap := ⟨_, rfl⟩
  obtain ⟨locs, eL⟩ : ∃ locs : List Loc, locs = [] := ⟨_, rfl⟩
  have hI : HI D jC G A0 s.heap H locs := by rw [eH, eL]; exact hI
  rw [← eL]
  suffices h : W p l e (rhJ15_hashCode_2 fr lo) s m args below meth c H locs 0 0 Q (F0 m 0 ls []) by rw [eH] at h; exact h
  clear eH eL
  refine lv_iload_n hx hb dJ15_hashCode_2_0 rfl (lv_at hl 0 rfl) ?_
  exact hret hf hI dJ15_hashCode_2_1 (Nat.le_refl _) (Nat.le_refl _)
/-! java/lang/Integer.hashCode()I -/
def hJ15_hashCode (j : JX) (Λ : JLam) (a0 : Nat) (G : HG) (post : Int32 → HG → Prop) : Prop :=
  gtI G a0 21 0 fun x1 => hJ15_hashCode_2 j Λ x1 G fun x3 G2 => post x3 G2
abbrev rhJ15_hashCode (fr lo : Nat) : Room := { frames := fr + 2, cells := 0, slots := 0, locals := lo + 60 }
theorem mhJ15_hashCode (l : Launch) (Z : (Nat → Prop) → State → Heap → Prop) (D : va_G) (j : JX) (Λ : JLam) (fr lo : Nat) (E : JE l Z D j Λ fr lo) (a0 : Nat) (G : HG) (post : Int32 → HG → Prop) (hf : hJ15_hashCode j Λ a0 G post) : HMi l yJ15_hashCode (ws_ yJ15_hashCode cJ15_hashCode 1 (some .int)) (rhJ15_hashCode fr lo) D jC (jty j.1) Z G [.ref a0] post 0 0 := by
  refine h_openi E.1 (by decide) (by exact Nat.le_of_ble_eq_true rfl) (fun p e s m args below meth c ls A0 Q X hI hnd hnm hl hret => ?_)
  have X : XC p s m args meth c cJ15_hashCode 1 RJ15 D jC (jty j.1) A0 Z := X
  have hx := X.1
  have hb := X.2.1
  have hown := X.2.2.2.1
  have hts := X.2.2.2.2.1
  have hl : lv_has ls 1 [(0, .ref a0)] := by exact hl
  unfold hJ15_hashCode at hf
  obtain ⟨H, eH⟩ : ∃ H, H = s.heap := ⟨_, rfl⟩
  obtain ⟨locs, eL⟩ : ∃ locs : List Loc, locs = [] := ⟨_, rfl⟩
  have hI : HI D jC G A0 s.heap H locs := by rw [eH, eL]; exact hI
  rw [← eL]
  suffices h : W p l e (rhJ15_hashCode fr lo) s m args below meth c H locs 0 0 Q (F0 m 0 ls []) by rw [eH] at h; exact h
  clear eH eL
  refine lv_aload_n hx hb dJ15_hashCode_0 rfl (lv_at hl 0 rfl) ?_
  refine hr_gtI X hI (rfl : jC.1[21]? = some (RJ15, TJ15, 1)) in_J15 0 (Nat.le_of_ble_eq_true rfl) hf q832 (fun _ h => h) dJ15_hashCode_1 (fun x1 hf => ?_)
  refine h_ki X hI (h_runS (As := [.int x1]) X hI (mhJ15_hashCode_2 l Z D j Λ fr lo E x1 G _ hf H.size) (va_cwS 1 hts (lw_S q869 q870 q191 q871) rfl rfl rfl (by decide +kernel) (by show fr + 1 + 1 ≤ fr + 2 ∧ 8 + (1 + 11) + (lo + 40) ≤ lo + 60; omega)) rfl hl.1 (Nat.le_of_ble_eq_true rfl) dJ15_hashCode_4 ⟨Nat.le_refl _, Nat.le_refl _⟩ rfl) (fun x3 G2 H locs hf hI => ?_)
  exact hret hf hI dJ15_hashCode_7 (Nat.le_refl _) (Nat.le_refl _)
/-! java/lang/Integer.compare(II)I -/
def hJ15_compare (j : JX) (Λ : JLam) (p0 : Int32) (p1 : Int32) (G : HG) (post : Int32 → HG → Prop) : Prop :=
  (p1 ≤ p0 → ((p0 = p1 → (post (0 : Int32) G)) ∧ (¬ p0 = p1 → (post (1 : Int32) G)))) ∧ (¬ p1 ≤ p0 → (post ((-1) : Int32) G))
abbrev rhJ15_compare (fr lo : Nat) : Room := { frames := fr + 1, cells := 0, slots := 0, locals := lo + 40 }
theorem mhJ15_compare (l : Launch) (Z : (Nat → Prop) → State → Heap → Prop) (D : va_G) (j : JX) (Λ : JLam) (fr lo : Nat) (E : JE l Z D j Λ fr lo) (p0 : Int32) (p1 : Int32) (G : HG) (post : Int32 → HG → Prop) (hf : hJ15_compare j Λ p0 p1 G post) : HMi l yJ15_compare (ws_ yJ15_compare cJ15_compare 2 (some .int)) (rhJ15_compare fr lo) D jC (jty j.1) Z G [.int p0, .int p1] post 0 0 := by
  refine h_openi E.1 (by decide) (by exact Nat.le_of_ble_eq_true rfl) (fun p e s m args below meth c ls A0 Q X hI hnd hnm hl hret => ?_)
  have X : XC p s m args meth c cJ15_compare 2 RJ15 D jC (jty j.1) A0 Z := X
  have hx := X.1
  have hb := X.2.1
  have hown := X.2.2.2.1
  have hts := X.2.2.2.2.1
  have hl : lv_has ls 2 [(0, .int p0), (1, .int p1)] := by exact hl
  unfold hJ15_compare at hf
  obtain ⟨H, eH⟩ : ∃ H, H = s.heap := ⟨_, rfl⟩
  obtain ⟨locs, eL⟩ : ∃ locs : List Loc, locs = [] := ⟨_, rfl⟩
  have hI : HI D jC G A0 s.heap H locs := by rw [eH, eL]; exact hI
  rw [← eL]
  suffices h : W p l e (rhJ15_compare fr lo) s m args below meth c H locs 0 0 Q (F0 m 0 ls []) by rw [eH] at h; exact h
  clear eH eL
  refine lv_iload_n hx hb dJ15_compare_0 rfl (lv_at hl 0 rfl) ?_
  refine lv_iload_n hx hb dJ15_compare_1 rfl (lv_at hl 1 rfl) ?_
  refine lv_icmp_ge (tgt := 9) hx hb dJ15_compare_2 (by decide) (fun c1 => ?_) (fun c1 => ?_)
  · have hf := hf.1 c1
    refine lv_iload_n hx hb dJ15_compare_9 rfl (lv_at hl 0 rfl) ?_
    refine lv_iload_n hx hb dJ15_compare_10 rfl (lv_at hl 1 rfl) ?_
    refine lv_icmp_ne (tgt := 18) hx hb dJ15_compare_11 (by decide) (fun c2 => ?_) (fun c2 => ?_)
    · have hf := hf.2 c2
      refine lv_iconst (v := 1) hx hb dJ15_compare_18 (by decide) ?_
      exact hret hf hI dJ15_compare_19 (Nat.le_refl _) (Nat.le_refl _)
    · have hf := hf.1 c2
      refine lv_iconst (v := 0) hx hb dJ15_compare_14 (by decide) ?_
      refine lv_goto (tgt := 19) hx hb dJ15_compare_15 (by decide) ?_
      exact hret hf hI dJ15_compare_19 (Nat.le_refl _) (Nat.le_refl _)
  · have hf := hf.2 c1
    refine lv_iconst (v := -1) hx hb dJ15_compare_5 (by decide) ?_
    refine lv_goto (tgt := 19) hx hb dJ15_compare_6 (by decide) ?_
    exact hret hf hI dJ15_compare_19 (Nat.le_refl _) (Nat.le_refl _)
/-! java/lang/Integer.compareTo(Ljava/lang/Integer;)I -/
def hJ15_compareTo_2 (j : JX) (Λ : JLam) (a0 : Nat) (q1_ : Option Nat) (G : HG) (post : Int32 → HG → Prop) : Prop :=
  gtI G a0 21 0 fun x1 => nnq q1_ fun a2 => gtI G a2 21 0 fun x3 => hJ15_compare j Λ x1 x3 G fun x5 G4 => post x5 G4
abbrev rhJ15_compareTo_2 (fr lo : Nat) : Room := { frames := fr + 2, cells := 0, slots := 0, locals := lo + 61 }
theorem mhJ15_compareTo_2 (l : Launch) (Z : (Nat → Prop) → State → Heap → Prop) (D : va_G) (j : JX) (Λ : JLam) (fr lo : Nat) (E : JE l Z D j Λ fr lo) (a0 : Nat) (q1_ : Option Nat) (G : HG) (post : Int32 → HG → Prop) (hf : hJ15_compareTo_2 j Λ a0 q1_ G post) : HMi l yJ15_compareTo_2 (ws_ yJ15_compareTo_2 cJ15_compareTo_2 2 (some .int)) (rhJ15_compareTo_2 fr lo) D jC (jty j.1) Z G [.ref a0, va_rf q1_] post 0 0 := by
  refine h_openi E.1 (by decide) (by cases q1_ <;> exact Nat.le_of_ble_eq_true rfl) (fun p e s m args below meth c ls A0 Q X hI hnd hnm hl hret => ?_)
  have X : XC p s m args meth c cJ15_compareTo_2 2 RJ15 D jC (jty j.1) A0 Z := X
  have hx := X.1
  have hb := X.2.1
  have hown := X.2.2.2.1
  have hts := X.2.2.2.2.1
  have hl : lv_has ls 2 [(0, .ref a0), (1, va_rf q1_)] := by cases q1_ <;> exact hl
  unfold hJ15_compareTo_2 at hf
  obtain ⟨H, eH⟩ : ∃ H, H = s.heap := ⟨_, rfl⟩
  obtain ⟨locs, eL⟩ : ∃ locs : List Loc, locs = [] := ⟨_, rfl⟩
  have hI : HI D jC G A0 s.heap H locs := by rw [eH, eL]; exact hI
  rw [← eL]
  suffices h : W p l e (rhJ15_compareTo_2 fr lo) s m args below meth c H locs 0 0 Q (F0 m 0 ls []) by rw [eH] at h; exact h
  clear eH eL
  refine lv_aload_n hx hb dJ15_compareTo_2_0 rfl (lv_at hl 0 rfl) ?_
  refine hr_gtI X hI (rfl : jC.1[21]? = some (RJ15, TJ15, 1)) in_J15 0 (Nat.le_of_ble_eq_true rfl) hf q832 (fun _ h => h) dJ15_compareTo_2_1 (fun x1 hf => ?_)
  refine h_aload_n (o := q1_) hx hb dJ15_compareTo_2_4 rfl (lv_at hl 1 rfl) ?_
  obtain ⟨a2, ea2, hf⟩ := hf
  revert hl hf
  subst ea2
  intro hl hf
  have hl : lv_has ls 2 [(0, .ref a0), (1, .ref a2)] := hl
  refine hr_gtI X hI (rfl : jC.1[21]? = some (RJ15, TJ15, 1)) in_J15 0 (Nat.le_of_ble_eq_true rfl) hf q832 (fun _ h => h) dJ15_compareTo_2_5 (fun x3 hf => ?_)
  refine h_ki X hI (h_runS (As := [.int x1, .int x3]) X hI (mhJ15_compare l Z D j Λ fr lo E x1 x3 G _ hf H.size) (va_cwS 2 hts (lw_S q1061 q1062 q191 q1063) rfl rfl rfl (by decide +kernel) (by show fr + 1 + 1 ≤ fr + 2 ∧ 8 + (2 + 11) + (lo + 40) ≤ lo + 61; omega)) rfl hl.1 (Nat.le_of_ble_eq_true rfl) dJ15_compareTo_2_8 ⟨Nat.le_refl _, Nat.le_refl _⟩ rfl) (fun x5 G4 H locs hf hI => ?_)
  exact hret hf hI dJ15_compareTo_2_11 (Nat.le_refl _) (Nat.le_refl _)
/-! java/lang/Integer.compareTo(Ljava/lang/Object;)I -/
def hJ15_compareTo (j : JX) (Λ : JLam) (a0 : Nat) (q1_ : Option Nat) (G : HG) (post : Int32 → HG → Prop) : Prop :=
  csO G q1_ "java/lang/Integer" (isO G a0 21 (hJ15_compareTo_2 j Λ a0 q1_ G fun x2 G1 => post x2 G1))
abbrev rhJ15_compareTo (fr lo : Nat) : Room := { frames := fr + 3, cells := 0, slots := 0, locals := lo + 82 }
theorem mhJ15_compareTo (l : Launch) (Z : (Nat → Prop) → State → Heap → Prop) (D : va_G) (j : JX) (Λ : JLam) (fr lo : Nat) (E : JE l Z D j Λ fr lo) (a0 : Nat) (q1_ : Option Nat) (G : HG) (post : Int32 → HG → Prop) (hf : hJ15_compareTo j Λ a0 q1_ G post) : HMi l yJ15_compareTo (ws_ yJ15_compareTo cJ15_compareTo 2 (some .int)) (rhJ15_compareTo fr lo) D jC (jty j.1) Z G [.ref a0, va_rf q1_] post 0 0 := by
  refine h_openi E.1 (by decide) (by cases q1_ <;> exact Nat.le_of_ble_eq_true rfl) (fun p e s m args below meth c ls A0 Q X hI hnd hnm hl hret => ?_)
  have X : XC p s m args meth c cJ15_compareTo 2 RJ15 D jC (jty j.1) A0 Z := X
  have hx := X.1
  have hb := X.2.1
  have hown := X.2.2.2.1
  have hts := X.2.2.2.2.1
  have hl : lv_has ls 2 [(0, .ref a0), (1, va_rf q1_)] := by cases q1_ <;> exact hl
  unfold hJ15_compareTo at hf
  obtain ⟨H, eH⟩ : ∃ H, H = s.heap := ⟨_, rfl⟩
  obtain ⟨locs, eL⟩ : ∃ locs : List Loc, locs = [] := ⟨_, rfl⟩
  have hI : HI D jC G A0 s.heap H locs := by rw [eH, eL]; exact hI
  rw [← eL]
  suffices h : W p l e (rhJ15_compareTo fr lo) s m args below meth c H locs 0 0 Q (F0 m 0 ls []) by rw [eH] at h; exact h
  clear eH eL
  refine lv_aload_n hx hb dJ15_compareTo_0 rfl (lv_at hl 0 rfl) ?_
  refine h_aload_n (o := q1_) hx hb dJ15_compareTo_1 rfl (lv_at hl 1 rfl) ?_
  refine hr_cast (v := q1_) E X hI hf q823 dJ15_compareTo_2 (fun hf => ?_)
  obtain ⟨_, _, hO, hf⟩ := hf
  refine h_ki X hI (h_runV (As := [va_rf q1_]) X hI (h_recv X hI hO (show jC.1[21]? = some (RJ15, TJ15, 1) from rfl)) (mhJ15_compareTo_2 l Z D j Λ fr lo E a0 q1_ G _ hf H.size) (cwV 1 hts (lw_V q1057 q1058 q1059 q191 q1060) rfl rfl rfl (by decide +kernel) (by show fr + 2 + 1 ≤ fr + 3 ∧ 8 + (2 + 11) + (lo + 61) ≤ lo + 82; omega)) rfl hl.1 (Nat.le_of_ble_eq_true rfl) dJ15_compareTo_5 ⟨Nat.le_refl _, Nat.le_refl _⟩ rfl) (fun x2 G1 H locs hf hI => ?_)
  clear hO
  exact hret hf hI dJ15_compareTo_8 (Nat.le_refl _) (Nat.le_refl _)
/-! java/lang/Integer.numberOfLeadingZeros(I)I -/
def hJ15_numberOfLeadingZeros_b73 (j : JX) (Λ : JLam) (post : Int32 → HG → Prop) (lx0 : Int32) (lx1 : Int32) (G : HG) : Prop :=
  post (lx1 - ((lx0.toUInt32 >>> ((1 : Int32).toUInt32 &&& Int32.toUInt32 31)).toInt32)) G
def hJ15_numberOfLeadingZeros_b61 (j : JX) (Λ : JLam) (post : Int32 → HG → Prop) (lx0 : Int32) (lx1 : Int32) (G : HG) : Prop :=
  (lx0 < (4 : Int32) → (hJ15_numberOfLeadingZeros_b73 j Λ post lx0 lx1 G)) ∧ (¬ lx0 < (4 : Int32) → (∀ v10 : Int32, v10 = ((lx0.toUInt32 >>> ((2 : Int32).toUInt32 &&& Int32.toUInt32 31)).toInt32) → hJ15_numberOfLeadingZeros_b73 j Λ post v10 (lx1 + (-2)) G))
def hJ15_numberOfLeadingZeros_b48 (j : JX) (Λ : JLam) (post : Int32 → HG → Prop) (lx0 : Int32) (lx1 : Int32) (G : HG) : Prop :=
  (lx0 < (16 : Int32) → (hJ15_numberOfLeadingZeros_b61 j Λ post lx0 lx1 G)) ∧ (¬ lx0 < (16 : Int32) → (∀ v8 : Int32, v8 = ((lx0.toUInt32 >>> ((4 : Int32).toUInt32 &&& Int32.toUInt32 31)).toInt32) → hJ15_numberOfLeadingZeros_b61 j Λ post v8 (lx1 + (-4)) G))
def hJ15_numberOfLeadingZeros_b33 (j : JX) (Λ : JLam) (post : Int32 → HG → Prop) (lx0 : Int32) (lx1 : Int32) (G : HG) : Prop :=
  (lx0 < (256 : Int32) → (hJ15_numberOfLeadingZeros_b48 j Λ post lx0 lx1 G)) ∧ (¬ lx0 < (256 : Int32) → (∀ v6 : Int32, v6 = ((lx0.toUInt32 >>> ((8 : Int32).toUInt32 &&& Int32.toUInt32 31)).toInt32) → hJ15_numberOfLeadingZeros_b48 j Λ post v6 (lx1 + (-8)) G))
def hJ15_numberOfLeadingZeros (j : JX) (Λ : JLam) (p0 : Int32) (G : HG) (post : Int32 → HG → Prop) : Prop :=
  (0 < p0 → ((p0 < (65536 : Int32) → (hJ15_numberOfLeadingZeros_b33 j Λ post p0 (31 : Int32) G)) ∧ (¬ p0 < (65536 : Int32) → (∀ v3 : Int32, v3 = ((p0.toUInt32 >>> ((16 : Int32).toUInt32 &&& Int32.toUInt32 31)).toInt32) → hJ15_numberOfLeadingZeros_b33 j Λ post v3 ((31 : Int32) + (-16)) G)))) ∧ (¬ 0 < p0 → ((p0 = 0 → (post (32 : Int32) G)) ∧ (¬ p0 = 0 → (post (0 : Int32) G))))
abbrev rhJ15_numberOfLeadingZeros (fr lo : Nat) : Room := { frames := fr + 1, cells := 0, slots := 0, locals := lo + 40 }
theorem mhJ15_numberOfLeadingZeros (l : Launch) (Z : (Nat → Prop) → State → Heap → Prop) (D : va_G) (j : JX) (Λ : JLam) (fr lo : Nat) (E : JE l Z D j Λ fr lo) (p0 : Int32) (G : HG) (post : Int32 → HG → Prop) (hf : hJ15_numberOfLeadingZeros j Λ p0 G post) : HMi l yJ15_numberOfLeadingZeros (ws_ yJ15_numberOfLeadingZeros cJ15_numberOfLeadingZeros 2 (some .int)) (rhJ15_numberOfLeadingZeros fr lo) D jC (jty j.1) Z G [.int p0] post 0 0 := by
  refine h_openi E.1 (by decide) (by exact Nat.le_of_ble_eq_true rfl) (fun p e s m args below meth c ls A0 Q X hI hnd hnm hl hret => ?_)
  have X : XC p s m args meth c cJ15_numberOfLeadingZeros 2 RJ15 D jC (jty j.1) A0 Z := X
  have hx := X.1
  have hb := X.2.1
  have hown := X.2.2.2.1
  have hts := X.2.2.2.2.1
  have J73 : ∀ (lx0 : Int32) (lx1 : Int32) (G : HG), hJ15_numberOfLeadingZeros_b73 j Λ post lx0 lx1 G → ∀ (H : Heap) (locs : List Loc), HI D jC G A0 s.heap H locs → ∀ (ls : Array Slot), lv_has ls 2 [(0, .int lx0), (1, .int lx1)] → W p l e (rhJ15_numberOfLeadingZeros fr lo) s m args below meth c H locs 0 0 Q (F0 m 73 ls []) := by
    intro lx0 lx1 G hf H locs hI ls hl
    unfold hJ15_numberOfLeadingZeros_b73 at hf
    refine lv_iload_n hx hb dJ15_numberOfLeadingZeros_73 rfl (lv_at hl 1 rfl) ?_
    refine lv_iload_n hx hb dJ15_numberOfLeadingZeros_74 rfl (lv_at hl 0 rfl) ?_
    refine lv_iconst (v := 1) hx hb dJ15_numberOfLeadingZeros_75 (by decide) ?_
    refine lv_iushr hx hb dJ15_numberOfLeadingZeros_76 rfl ?_
    refine lv_isub hx hb dJ15_numberOfLeadingZeros_77 ?_
    exact hret hf hI dJ15_numberOfLeadingZeros_78 (Nat.le_refl _) (Nat.le_refl _)
  have J61 : ∀ (lx0 : Int32) (lx1 : Int32) (G : HG), hJ15_numberOfLeadingZeros_b61 j Λ post lx0 lx1 G → ∀ (H : Heap) (locs : List Loc), HI D jC G A0 s.heap H locs → ∀ (ls : Array Slot), lv_has ls 2 [(0, .int lx0), (1, .int lx1)] → W p l e (rhJ15_numberOfLeadingZeros fr lo) s m args below meth c H locs 0 0 Q (F0 m 61 ls []) := by
    intro lx0 lx1 G hf H locs hI ls hl
    unfold hJ15_numberOfLeadingZeros_b61 at hf
    refine lv_iload_n hx hb dJ15_numberOfLeadingZeros_61 rfl (lv_at hl 0 rfl) ?_
    refine lv_iconst (v := 4) hx hb dJ15_numberOfLeadingZeros_62 (by decide) ?_
    refine lv_icmp_lt (tgt := 73) hx hb dJ15_numberOfLeadingZeros_63 (by decide) (fun c9 => ?_) (fun c9 => ?_)
    · have hf := hf.1 c9
      exact J73 lx0 lx1 G hf H locs hI ls (lv_sub hl [0, 1] rfl)
    · have hf := hf.2 c9
      refine lv_iinc (v := lx1 + (-2)) (lv' := [(1, .int (lx1 + (-2))), (0, .int lx0)]) hx hb dJ15_numberOfLeadingZeros_66 hl (k := 1) rfl rfl (by decide) rfl (fun ls hl => ?_)
      refine lv_iload_n hx hb dJ15_numberOfLeadingZeros_69 rfl (lv_at hl 1 rfl) ?_
      refine lv_iconst (v := 2) hx hb dJ15_numberOfLeadingZeros_70 (by decide) ?_
      refine lv_iushr hx hb dJ15_numberOfLeadingZeros_71 rfl ?_
      obtain ⟨v10, ev10⟩ : ∃ v10, v10 = ((lx0.toUInt32 >>> ((2 : Int32).toUInt32 &&& Int32.toUInt32 31)).toInt32) := ⟨_, rfl⟩
      have hf := hf v10 ev10
      rw [← ev10]
      clear ev10
      refine lv_istore_n (lv' := [(0, .int v10), (1, .int (lx1 + (-2)))]) hx hb dJ15_numberOfLeadingZeros_72 rfl hl (by decide) rfl (fun ls hl => ?_)
      exact J73 v10 (lx1 + (-2)) G hf H locs hI ls (lv_sub hl [0, 1] rfl)
  have J48 : ∀ (lx0 : Int32) (lx1 : Int32) (G : HG), hJ15_numberOfLeadingZeros_b48 j Λ post lx0 lx1 G → ∀ (H : Heap) (locs : List Loc), HI D jC G A0 s.heap H locs → ∀ (ls : Array Slot), lv_has ls 2 [(0, .int lx0), (1, .int lx1)] → W p l e (rhJ15_numberOfLeadingZeros fr lo) s m args below meth c H locs 0 0 Q (F0 m 48 ls []) := by
    intro lx0 lx1 G hf H locs hI ls hl
    unfold hJ15_numberOfLeadingZeros_b48 at hf
    refine lv_iload_n hx hb dJ15_numberOfLeadingZeros_48 rfl (lv_at hl 0 rfl) ?_
    refine lv_bipush (v := 16) hx hb dJ15_numberOfLeadingZeros_49 (by decide) ?_
    refine lv_icmp_lt (tgt := 61) hx hb dJ15_numberOfLeadingZeros_51 (by decide) (fun c7 => ?_) (fun c7 => ?_)
    · have hf := hf.1 c7
      exact J61 lx0 lx1 G hf H locs hI ls (lv_sub hl [0, 1] rfl)
    · have hf := hf.2 c7
      refine lv_iinc (v := lx1 + (-4)) (lv' := [(1, .int (lx1 + (-4))), (0, .int lx0)]) hx hb dJ15_numberOfLeadingZeros_54 hl (k := 1) rfl rfl (by decide) rfl (fun ls hl => ?_)
      refine lv_iload_n hx hb dJ15_numberOfLeadingZeros_57 rfl (lv_at hl 1 rfl) ?_
      refine lv_iconst (v := 4) hx hb dJ15_numberOfLeadingZeros_58 (by decide) ?_
      refine lv_iushr hx hb dJ15_numberOfLeadingZeros_59 rfl ?_
      obtain ⟨v8, ev8⟩ : ∃ v8, v8 = ((lx0.toUInt32 >>> ((4 : Int32).toUInt32 &&& Int32.toUInt32 31)).toInt32) := ⟨_, rfl⟩
      have hf := hf v8 ev8
      rw [← ev8]
      clear ev8
      refine lv_istore_n (lv' := [(0, .int v8), (1, .int (lx1 + (-4)))]) hx hb dJ15_numberOfLeadingZeros_60 rfl hl (by decide) rfl (fun ls hl => ?_)
      exact J61 v8 (lx1 + (-4)) G hf H locs hI ls (lv_sub hl [0, 1] rfl)
  have J33 : ∀ (lx0 : Int32) (lx1 : Int32) (G : HG), hJ15_numberOfLeadingZeros_b33 j Λ post lx0 lx1 G → ∀ (H : Heap) (locs : List Loc), HI D jC G A0 s.heap H locs → ∀ (ls : Array Slot), lv_has ls 2 [(0, .int lx0), (1, .int lx1)] → W p l e (rhJ15_numberOfLeadingZeros fr lo) s m args below meth c H locs 0 0 Q (F0 m 33 ls []) := by
    intro lx0 lx1 G hf H locs hI ls hl
    unfold hJ15_numberOfLeadingZeros_b33 at hf
    refine lv_iload_n hx hb dJ15_numberOfLeadingZeros_33 rfl (lv_at hl 0 rfl) ?_
    refine lv_sipush (v := 256) hx hb dJ15_numberOfLeadingZeros_34 (by decide) ?_
    refine lv_icmp_lt (tgt := 48) hx hb dJ15_numberOfLeadingZeros_37 (by decide) (fun c5 => ?_) (fun c5 => ?_)
    · have hf := hf.1 c5
      exact J48 lx0 lx1 G hf H locs hI ls (lv_sub hl [0, 1] rfl)
    · have hf := hf.2 c5
      refine lv_iinc (v := lx1 + (-8)) (lv' := [(1, .int (lx1 + (-8))), (0, .int lx0)]) hx hb dJ15_numberOfLeadingZeros_40 hl (k := 1) rfl rfl (by decide) rfl (fun ls hl => ?_)
      refine lv_iload_n hx hb dJ15_numberOfLeadingZeros_43 rfl (lv_at hl 1 rfl) ?_
      refine lv_bipush (v := 8) hx hb dJ15_numberOfLeadingZeros_44 (by decide) ?_
      refine lv_iushr hx hb dJ15_numberOfLeadingZeros_46 rfl ?_
      obtain ⟨v6, ev6⟩ : ∃ v6, v6 = ((lx0.toUInt32 >>> ((8 : Int32).toUInt32 &&& Int32.toUInt32 31)).toInt32) := ⟨_, rfl⟩
      have hf := hf v6 ev6
      rw [← ev6]
      clear ev6
      refine lv_istore_n (lv' := [(0, .int v6), (1, .int (lx1 + (-8)))]) hx hb dJ15_numberOfLeadingZeros_47 rfl hl (by decide) rfl (fun ls hl => ?_)
      exact J48 v6 (lx1 + (-8)) G hf H locs hI ls (lv_sub hl [0, 1] rfl)
  have hl : lv_has ls 2 [(0, .int p0)] := by exact hl
  unfold hJ15_numberOfLeadingZeros at hf
  obtain ⟨H, eH⟩ : ∃ H, H = s.heap := ⟨_, rfl⟩
  obtain ⟨locs, eL⟩ : ∃ locs : List Loc, locs = [] := ⟨_, rfl⟩
  have hI : HI D jC G A0 s.heap H locs := by rw [eH, eL]; exact hI
  rw [← eL]
  suffices h : W p l e (rhJ15_numberOfLeadingZeros fr lo) s m args below meth c H locs 0 0 Q (F0 m 0 ls []) by rw [eH] at h; exact h
  clear eH eL
  refine lv_iload_n hx hb dJ15_numberOfLeadingZeros_0 rfl (lv_at hl 0 rfl) ?_
  refine lv_if_gt (tgt := 15) hx hb dJ15_numberOfLeadingZeros_1 (by decide) (fun c1 => ?_) (fun c1 => ?_)
  · have hf := hf.1 c1
    refine lv_bipush (v := 31) hx hb dJ15_numberOfLeadingZeros_15 (by decide) ?_
    refine lv_istore_n (lv' := [(1, .int 31), (0, .int p0)]) hx hb dJ15_numberOfLeadingZeros_17 rfl hl (by decide) rfl (fun ls hl => ?_)
    refine lv_iload_n hx hb dJ15_numberOfLeadingZeros_18 rfl (lv_at hl 1 rfl) ?_
    refine lv_ldcw (v := 65536) hx hb hown (hts _ q1160) dJ15_numberOfLeadingZeros_19 ?_
    refine lv_icmp_lt (tgt := 33) hx hb dJ15_numberOfLeadingZeros_22 (by decide) (fun c2 => ?_) (fun c2 => ?_)
    · have hf := hf.1 c2
      exact J33 p0 (31 : Int32) G hf H locs hI ls (lv_sub hl [1, 0] rfl)
    · have hf := hf.2 c2
      refine lv_iinc (v := (31 : Int32) + (-16)) (lv' := [(1, .int ((31 : Int32) + (-16))), (0, .int p0)]) hx hb dJ15_numberOfLeadingZeros_25 hl (k := 0) rfl rfl (by decide) rfl (fun ls hl => ?_)
      refine lv_iload_n hx hb dJ15_numberOfLeadingZeros_28 rfl (lv_at hl 1 rfl) ?_
      refine lv_bipush (v := 16) hx hb dJ15_numberOfLeadingZeros_29 (by decide) ?_
      refine lv_iushr hx hb dJ15_numberOfLeadingZeros_31 rfl ?_
      obtain ⟨v3, ev3⟩ : ∃ v3, v3 = ((p0.toUInt32 >>> ((16 : Int32).toUInt32 &&& Int32.toUInt32 31)).toInt32) := ⟨_, rfl⟩
      have hf := hf v3 ev3
      rw [← ev3]
      clear ev3
      refine lv_istore_n (lv' := [(0, .int v3), (1, .int ((31 : Int32) + (-16)))]) hx hb dJ15_numberOfLeadingZeros_32 rfl hl (by decide) rfl (fun ls hl => ?_)
      exact J33 v3 ((31 : Int32) + (-16)) G hf H locs hI ls (lv_sub hl [0, 1] rfl)
  · have hf := hf.2 c1
    refine lv_iload_n hx hb dJ15_numberOfLeadingZeros_4 rfl (lv_at hl 0 rfl) ?_
    refine lv_if_ne (tgt := 13) hx hb dJ15_numberOfLeadingZeros_5 (by decide) (fun c4 => ?_) (fun c4 => ?_)
    · have hf := hf.2 c4
      refine lv_iconst (v := 0) hx hb dJ15_numberOfLeadingZeros_13 (by decide) ?_
      exact hret hf hI dJ15_numberOfLeadingZeros_14 (Nat.le_refl _) (Nat.le_refl _)
    · have hf := hf.1 c4
      refine lv_bipush (v := 32) hx hb dJ15_numberOfLeadingZeros_8 (by decide) ?_
      refine lv_goto (tgt := 14) hx hb dJ15_numberOfLeadingZeros_10 (by decide) ?_
      exact hret hf hI dJ15_numberOfLeadingZeros_14 (Nat.le_refl _) (Nat.le_refl _)
/-! java/lang/Integer.numberOfTrailingZeros(I)I -/
def hJ15_numberOfTrailingZeros_b74 (j : JX) (Λ : JLam) (post : Int32 → HG → Prop) (lx0 : Int32) (lx1 : Int32) (G : HG) : Prop :=
  post (lx1 + ((lx0.toUInt32 >>> ((1 : Int32).toUInt32 &&& Int32.toUInt32 31)).toInt32)) G
def hJ15_numberOfTrailingZeros_b62 (j : JX) (Λ : JLam) (post : Int32 → HG → Prop) (lx0 : Int32) (lx1 : Int32) (G : HG) : Prop :=
  (lx0 ≤ (4 : Int32) → (hJ15_numberOfTrailingZeros_b74 j Λ post lx0 lx1 G)) ∧ (¬ lx0 ≤ (4 : Int32) → (∀ v10 : Int32, v10 = ((lx0.toUInt32 >>> ((2 : Int32).toUInt32 &&& Int32.toUInt32 31)).toInt32) → hJ15_numberOfTrailingZeros_b74 j Λ post v10 (lx1 + 2) G))
def hJ15_numberOfTrailingZeros_b49 (j : JX) (Λ : JLam) (post : Int32 → HG → Prop) (lx0 : Int32) (lx1 : Int32) (G : HG) : Prop :=
  (lx0 ≤ (16 : Int32) → (hJ15_numberOfTrailingZeros_b62 j Λ post lx0 lx1 G)) ∧ (¬ lx0 ≤ (16 : Int32) → (∀ v8 : Int32, v8 = ((lx0.toUInt32 >>> ((4 : Int32).toUInt32 &&& Int32.toUInt32 31)).toInt32) → hJ15_numberOfTrailingZeros_b62 j Λ post v8 (lx1 + 4) G))
def hJ15_numberOfTrailingZeros_b34 (j : JX) (Λ : JLam) (post : Int32 → HG → Prop) (lx0 : Int32) (lx1 : Int32) (G : HG) : Prop :=
  (lx0 ≤ (256 : Int32) → (hJ15_numberOfTrailingZeros_b49 j Λ post lx0 lx1 G)) ∧ (¬ lx0 ≤ (256 : Int32) → (∀ v6 : Int32, v6 = ((lx0.toUInt32 >>> ((8 : Int32).toUInt32 &&& Int32.toUInt32 31)).toInt32) → hJ15_numberOfTrailingZeros_b49 j Λ post v6 (lx1 + 8) G))
def hJ15_numberOfTrailingZeros (j : JX) (Λ : JLam) (p0 : Int32) (G : HG) (post : Int32 → HG → Prop) : Prop :=
  ∀ v1 : Int32, v1 = ((p0 ^^^ (-1)) &&& (p0 - 1)) → (0 < v1 → ((v1 ≤ (65536 : Int32) → (hJ15_numberOfTrailingZeros_b34 j Λ post v1 (1 : Int32) G)) ∧ (¬ v1 ≤ (65536 : Int32) → (∀ v4 : Int32, v4 = ((v1.toUInt32 >>> ((16 : Int32).toUInt32 &&& Int32.toUInt32 31)).toInt32) → hJ15_numberOfTrailingZeros_b34 j Λ post v4 ((1 : Int32) + 16) G)))) ∧ (¬ 0 < v1 → (post (v1 &&& 32) G))
abbrev rhJ15_numberOfTrailingZeros (fr lo : Nat) : Room := { frames := fr + 1, cells := 0, slots := 0, locals := lo + 40 }
theorem mhJ15_numberOfTrailingZeros (l : Launch) (Z : (Nat → Prop) → State → Heap → Prop) (D : va_G) (j : JX) (Λ : JLam) (fr lo : Nat) (E : JE l Z D j Λ fr lo) (p0 : Int32) (G : HG) (post : Int32 → HG → Prop) (hf : hJ15_numberOfTrailingZeros j Λ p0 G post) : HMi l yJ15_numberOfTrailingZeros (ws_ yJ15_numberOfTrailingZeros cJ15_numberOfTrailingZeros 2 (some .int)) (rhJ15_numberOfTrailingZeros fr lo) D jC (jty j.1) Z G [.int p0] post 0 0 := by
  refine h_openi E.1 (by decide) (by exact Nat.le_of_ble_eq_true rfl) (fun p e s m args below meth c ls A0 Q X hI hnd hnm hl hret => ?_)
  have X : XC p s m args meth c cJ15_numberOfTrailingZeros 2 RJ15 D jC (jty j.1) A0 Z := X
  have hx := X.1
  have hb := X.2.1
  have hown := X.2.2.2.1
  have hts := X.2.2.2.2.1
  have J74 : ∀ (lx0 : Int32) (lx1 : Int32) (G : HG), hJ15_numberOfTrailingZeros_b74 j Λ post lx0 lx1 G → ∀ (H : Heap) (locs : List Loc), HI D jC G A0 s.heap H locs → ∀ (ls : Array Slot), lv_has ls 2 [(0, .int lx0), (1, .int lx1)] → W p l e (rhJ15_numberOfTrailingZeros fr lo) s m args below meth c H locs 0 0 Q (F0 m 74 ls []) := by
    intro lx0 lx1 G hf H locs hI ls hl
    unfold hJ15_numberOfTrailingZeros_b74 at hf
    refine lv_iload_n hx hb dJ15_numberOfTrailingZeros_74 rfl (lv_at hl 1 rfl) ?_
    refine lv_iload_n hx hb dJ15_numberOfTrailingZeros_75 rfl (lv_at hl 0 rfl) ?_
    refine lv_iconst (v := 1) hx hb dJ15_numberOfTrailingZeros_76 (by decide) ?_
    refine lv_iushr hx hb dJ15_numberOfTrailingZeros_77 rfl ?_
    refine lv_iadd hx hb dJ15_numberOfTrailingZeros_78 ?_
    exact hret hf hI dJ15_numberOfTrailingZeros_79 (Nat.le_refl _) (Nat.le_refl _)
  have J62 : ∀ (lx0 : Int32) (lx1 : Int32) (G : HG), hJ15_numberOfTrailingZeros_b62 j Λ post lx0 lx1 G → ∀ (H : Heap) (locs : List Loc), HI D jC G A0 s.heap H locs → ∀ (ls : Array Slot), lv_has ls 2 [(0, .int lx0), (1, .int lx1)] → W p l e (rhJ15_numberOfTrailingZeros fr lo) s m args below meth c H locs 0 0 Q (F0 m 62 ls []) := by
    intro lx0 lx1 G hf H locs hI ls hl
    unfold hJ15_numberOfTrailingZeros_b62 at hf
    refine lv_iload_n hx hb dJ15_numberOfTrailingZeros_62 rfl (lv_at hl 0 rfl) ?_
    refine lv_iconst (v := 4) hx hb dJ15_numberOfTrailingZeros_63 (by decide) ?_
    refine lv_icmp_le (tgt := 74) hx hb dJ15_numberOfTrailingZeros_64 (by decide) (fun c9 => ?_) (fun c9 => ?_)
    · have hf := hf.1 c9
      exact J74 lx0 lx1 G hf H locs hI ls (lv_sub hl [0, 1] rfl)
    · have hf := hf.2 c9
      refine lv_iinc (v := lx1 + 2) (lv' := [(1, .int (lx1 + 2)), (0, .int lx0)]) hx hb dJ15_numberOfTrailingZeros_67 hl (k := 1) rfl rfl (by decide) rfl (fun ls hl => ?_)
      refine lv_iload_n hx hb dJ15_numberOfTrailingZeros_70 rfl (lv_at hl 1 rfl) ?_
      refine lv_iconst (v := 2) hx hb dJ15_numberOfTrailingZeros_71 (by decide) ?_
      refine lv_iushr hx hb dJ15_numberOfTrailingZeros_72 rfl ?_
      obtain ⟨v10, ev10⟩ : ∃ v10, v10 = ((lx0.toUInt32 >>> ((2 : Int32).toUInt32 &&& Int32.toUInt32 31)).toInt32) := ⟨_, rfl⟩
      have hf := hf v10 ev10
      rw [← ev10]
      clear ev10
      refine lv_istore_n (lv' := [(0, .int v10), (1, .int (lx1 + 2))]) hx hb dJ15_numberOfTrailingZeros_73 rfl hl (by decide) rfl (fun ls hl => ?_)
      exact J74 v10 (lx1 + 2) G hf H locs hI ls (lv_sub hl [0, 1] rfl)
  have J49 : ∀ (lx0 : Int32) (lx1 : Int32) (G : HG), hJ15_numberOfTrailingZeros_b49 j Λ post lx0 lx1 G → ∀ (H : Heap) (locs : List Loc), HI D jC G A0 s.heap H locs → ∀ (ls : Array Slot), lv_has ls 2 [(0, .int lx0), (1, .int lx1)] → W p l e (rhJ15_numberOfTrailingZeros fr lo) s m args below meth c H locs 0 0 Q (F0 m 49 ls []) := by
    intro lx0 lx1 G hf H locs hI ls hl
    unfold hJ15_numberOfTrailingZeros_b49 at hf
    refine lv_iload_n hx hb dJ15_numberOfTrailingZeros_49 rfl (lv_at hl 0 rfl) ?_
    refine lv_bipush (v := 16) hx hb dJ15_numberOfTrailingZeros_50 (by decide) ?_
    refine lv_icmp_le (tgt := 62) hx hb dJ15_numberOfTrailingZeros_52 (by decide) (fun c7 => ?_) (fun c7 => ?_)
    · have hf := hf.1 c7
      exact J62 lx0 lx1 G hf H locs hI ls (lv_sub hl [0, 1] rfl)
    · have hf := hf.2 c7
      refine lv_iinc (v := lx1 + 4) (lv' := [(1, .int (lx1 + 4)), (0, .int lx0)]) hx hb dJ15_numberOfTrailingZeros_55 hl (k := 1) rfl rfl (by decide) rfl (fun ls hl => ?_)
      refine lv_iload_n hx hb dJ15_numberOfTrailingZeros_58 rfl (lv_at hl 1 rfl) ?_
      refine lv_iconst (v := 4) hx hb dJ15_numberOfTrailingZeros_59 (by decide) ?_
      refine lv_iushr hx hb dJ15_numberOfTrailingZeros_60 rfl ?_
      obtain ⟨v8, ev8⟩ : ∃ v8, v8 = ((lx0.toUInt32 >>> ((4 : Int32).toUInt32 &&& Int32.toUInt32 31)).toInt32) := ⟨_, rfl⟩
      have hf := hf v8 ev8
      rw [← ev8]
      clear ev8
      refine lv_istore_n (lv' := [(0, .int v8), (1, .int (lx1 + 4))]) hx hb dJ15_numberOfTrailingZeros_61 rfl hl (by decide) rfl (fun ls hl => ?_)
      exact J62 v8 (lx1 + 4) G hf H locs hI ls (lv_sub hl [0, 1] rfl)
  have J34 : ∀ (lx0 : Int32) (lx1 : Int32) (G : HG), hJ15_numberOfTrailingZeros_b34 j Λ post lx0 lx1 G → ∀ (H : Heap) (locs : List Loc), HI D jC G A0 s.heap H locs → ∀ (ls : Array Slot), lv_has ls 2 [(0, .int lx0), (1, .int lx1)] → W p l e (rhJ15_numberOfTrailingZeros fr lo) s m args below meth c H locs 0 0 Q (F0 m 34 ls []) := by
    intro lx0 lx1 G hf H locs hI ls hl
    unfold hJ15_numberOfTrailingZeros_b34 at hf
    refine lv_iload_n hx hb dJ15_numberOfTrailingZeros_34 rfl (lv_at hl 0 rfl) ?_
    refine lv_sipush (v := 256) hx hb dJ15_numberOfTrailingZeros_35 (by decide) ?_
    refine lv_icmp_le (tgt := 49) hx hb dJ15_numberOfTrailingZeros_38 (by decide) (fun c5 => ?_) (fun c5 => ?_)
    · have hf := hf.1 c5
      exact J49 lx0 lx1 G hf H locs hI ls (lv_sub hl [0, 1] rfl)
    · have hf := hf.2 c5
      refine lv_iinc (v := lx1 + 8) (lv' := [(1, .int (lx1 + 8)), (0, .int lx0)]) hx hb dJ15_numberOfTrailingZeros_41 hl (k := 1) rfl rfl (by decide) rfl (fun ls hl => ?_)
      refine lv_iload_n hx hb dJ15_numberOfTrailingZeros_44 rfl (lv_at hl 1 rfl) ?_
      refine lv_bipush (v := 8) hx hb dJ15_numberOfTrailingZeros_45 (by decide) ?_
      refine lv_iushr hx hb dJ15_numberOfTrailingZeros_47 rfl ?_
      obtain ⟨v6, ev6⟩ : ∃ v6, v6 = ((lx0.toUInt32 >>> ((8 : Int32).toUInt32 &&& Int32.toUInt32 31)).toInt32) := ⟨_, rfl⟩
      have hf := hf v6 ev6
      rw [← ev6]
      clear ev6
      refine lv_istore_n (lv' := [(0, .int v6), (1, .int (lx1 + 8))]) hx hb dJ15_numberOfTrailingZeros_48 rfl hl (by decide) rfl (fun ls hl => ?_)
      exact J49 v6 (lx1 + 8) G hf H locs hI ls (lv_sub hl [0, 1] rfl)
  have hl : lv_has ls 2 [(0, .int p0)] := by exact hl
  unfold hJ15_numberOfTrailingZeros at hf
  obtain ⟨H, eH⟩ : ∃ H, H = s.heap := ⟨_, rfl⟩
  obtain ⟨locs, eL⟩ : ∃ locs : List Loc, locs = [] := ⟨_, rfl⟩
  have hI : HI D jC G A0 s.heap H locs := by rw [eH, eL]; exact hI
  rw [← eL]
  suffices h : W p l e (rhJ15_numberOfTrailingZeros fr lo) s m args below meth c H locs 0 0 Q (F0 m 0 ls []) by rw [eH] at h; exact h
  clear eH eL
  refine lv_iload_n hx hb dJ15_numberOfTrailingZeros_0 rfl (lv_at hl 0 rfl) ?_
  refine lv_iconst (v := -1) hx hb dJ15_numberOfTrailingZeros_1 (by decide) ?_
  refine lv_ixor hx hb dJ15_numberOfTrailingZeros_2 ?_
  refine lv_iload_n hx hb dJ15_numberOfTrailingZeros_3 rfl (lv_at hl 0 rfl) ?_
  refine lv_iconst (v := 1) hx hb dJ15_numberOfTrailingZeros_4 (by decide) ?_
  refine lv_isub hx hb dJ15_numberOfTrailingZeros_5 ?_
  refine lv_iand hx hb dJ15_numberOfTrailingZeros_6 ?_
  obtain ⟨v1, ev1⟩ : ∃ v1, v1 = ((p0 ^^^ (-1)) &&& (p0 - 1)) := ⟨_, rfl⟩
  have hf := hf v1 ev1
  rw [← ev1]
  clear ev1
  refine lv_istore_n (lv' := [(0, .int v1)]) hx hb dJ15_numberOfTrailingZeros_7 rfl hl (by decide) rfl (fun ls hl => ?_)
  refine lv_iload_n hx hb dJ15_numberOfTrailingZeros_8 rfl (lv_at hl 0 rfl) ?_
  refine lv_if_gt (tgt := 17) hx hb dJ15_numberOfTrailingZeros_9 (by decide) (fun c2 => ?_) (fun c2 => ?_)
  · have hf := hf.1 c2
    refine lv_iconst (v := 1) hx hb dJ15_numberOfTrailingZeros_17 (by decide) ?_
    refine lv_istore_n (lv' := [(1, .int 1), (0, .int v1)]) hx hb dJ15_numberOfTrailingZeros_18 rfl hl (by decide) rfl (fun ls hl => ?_)
    refine lv_iload_n hx hb dJ15_numberOfTrailingZeros_19 rfl (lv_at hl 1 rfl) ?_
    refine lv_ldcw (v := 65536) hx hb hown (hts _ q1160) dJ15_numberOfTrailingZeros_20 ?_
    refine lv_icmp_le (tgt := 34) hx hb dJ15_numberOfTrailingZeros_23 (by decide) (fun c3 => ?_) (fun c3 => ?_)
    · have hf := hf.1 c3
      exact J34 v1 (1 : Int32) G hf H locs hI ls (lv_sub hl [1, 0] rfl)
    · have hf := hf.2 c3
      refine lv_iinc (v := (1 : Int32) + 16) (lv' := [(1, .int ((1 : Int32) + 16)), (0, .int v1)]) hx hb dJ15_numberOfTrailingZeros_26 hl (k := 0) rfl rfl (by decide) rfl (fun ls hl => ?_)
      refine lv_iload_n hx hb dJ15_numberOfTrailingZeros_29 rfl (lv_at hl 1 rfl) ?_
      refine lv_bipush (v := 16) hx hb dJ15_numberOfTrailingZeros_30 (by decide) ?_
      refine lv_iushr hx hb dJ15_numberOfTrailingZeros_32 rfl ?_
      obtain ⟨v4, ev4⟩ : ∃ v4, v4 = ((v1.toUInt32 >>> ((16 : Int32).toUInt32 &&& Int32.toUInt32 31)).toInt32) := ⟨_, rfl⟩
      have hf := hf v4 ev4
      rw [← ev4]
      clear ev4
      refine lv_istore_n (lv' := [(0, .int v4), (1, .int ((1 : Int32) + 16))]) hx hb dJ15_numberOfTrailingZeros_33 rfl hl (by decide) rfl (fun ls hl => ?_)
      exact J34 v4 ((1 : Int32) + 16) G hf H locs hI ls (lv_sub hl [0, 1] rfl)
  · have hf := hf.2 c2
    refine lv_iload_n hx hb dJ15_numberOfTrailingZeros_12 rfl (lv_at hl 0 rfl) ?_
    refine lv_bipush (v := 32) hx hb dJ15_numberOfTrailingZeros_13 (by decide) ?_
    refine lv_iand hx hb dJ15_numberOfTrailingZeros_15 ?_
    exact hret hf hI dJ15_numberOfTrailingZeros_16 (Nat.le_refl _) (Nat.le_refl _)
/-! java/lang/Integer.intValue()I -/
def hJ15_intValue (j : JX) (Λ : JLam) (a0 : Nat) (G : HG) (post : Int32 → HG → Prop) : Prop :=
  gtI G a0 21 0 fun x1 => post x1 G
abbrev rhJ15_intValue (fr lo : Nat) : Room := { frames := fr + 1, cells := 0, slots := 0, locals := lo + 40 }
theorem mhJ15_intValue (l : Launch) (Z : (Nat → Prop) → State → Heap → Prop) (D : va_G) (j : JX) (Λ : JLam) (fr lo : Nat) (E : JE l Z D j Λ fr lo) (a0 : Nat) (G : HG) (post : Int32 → HG → Prop) (hf : hJ15_intValue j Λ a0 G post) : HMi l yJ15_intValue (ws_ yJ15_intValue cJ15_intValue 1 (some .int)) (rhJ15_intValue fr lo) D jC (jty j.1) Z G [.ref a0] post 0 0 := by
  refine h_openi E.1 (by decide) (by exact Nat.le_of_ble_eq_true rfl) (fun p e s m args below meth c ls A0 Q X hI hnd hnm hl hret => ?_)
  have X : XC p s m args meth c cJ15_intValue 1 RJ15 D jC (jty j.1) A0 Z := X
  have hx := X.1
  have hb := X.2.1
  have hown := X.2.2.2.1
  have hts := X.2.2.2.2.1
  have hl : lv_has ls 1 [(0, .ref a0)] := by exact hl
  unfold hJ15_intValue at hf
  obtain ⟨H, eH⟩ : ∃ H, H = s.heap := ⟨_, rfl⟩
  obtain ⟨locs, eL⟩ : ∃ locs : List Loc, locs = [] := ⟨_, rfl⟩
  have hI : HI D jC G A0 s.heap H locs := by rw [eH, eL]; exact hI
  rw [← eL]
  suffices h : W p l e (rhJ15_intValue fr lo) s m args below meth c H locs 0 0 Q (F0 m 0 ls []) by rw [eH] at h; exact h
  clear eH eL
  refine lv_aload_n hx hb dJ15_intValue_0 rfl (lv_at hl 0 rfl) ?_
  refine hr_gtI X hI (rfl : jC.1[21]? = some (RJ15, TJ15, 1)) in_J15 0 (Nat.le_of_ble_eq_true rfl) hf q832 (fun _ h => h) dJ15_intValue_1 (fun x1 hf => ?_)
  exact hret hf hI dJ15_intValue_4 (Nat.le_refl _) (Nat.le_refl _)
/-! java/lang/Integer.stringSize(I)I -/
def hJ15_stringSize_b16 (j : JX) (Λ : JLam) (post : Int32 → HG → Prop) (K16 : Int32 → Int32 → Int32 → Int32 → HG → Prop) (lx0 : Int32) (lx1 : Int32) (lx2 : Int32) (lx3 : Int32) (G : HG) : Prop :=
  ((10 : Int32) ≤ lx3 → (post ((10 : Int32) + lx1) G)) ∧ (¬ (10 : Int32) ≤ lx3 → ((lx0 ≤ lx2 → (K16 lx0 lx1 ((10 : Int32) * lx2) (lx3 + 1) G)) ∧ (¬ lx0 ≤ lx2 → (post (lx3 + lx1) G))))
def hJ15_stringSize_l16 (j : JX) (Λ : JLam) (post : Int32 → HG → Prop) : Nat → Int32 → Int32 → Int32 → Int32 → HG → Prop
  | 0 => fun _ _ _ _ _ => False
  | n + 1 => fun lx0 lx1 lx2 lx3 G => hJ15_stringSize_b16 j Λ post (hJ15_stringSize_l16 j Λ post n) lx0 lx1 lx2 lx3 G
def hJ15_stringSize_b11 (j : JX) (Λ : JLam) (post : Int32 → HG → Prop) (lx0 : Int32) (lx1 : Int32) (G : HG) : Prop :=
  ∃ n, hJ15_stringSize_l16 j Λ post n lx0 lx1 ((-10) : Int32) (1 : Int32) G
def hJ15_stringSize (j : JX) (Λ : JLam) (p0 : Int32) (G : HG) (post : Int32 → HG → Prop) : Prop :=
  (p0 < 0 → (hJ15_stringSize_b11 j Λ post p0 (1 : Int32) G)) ∧ (¬ p0 < 0 → (hJ15_stringSize_b11 j Λ post (-p0) (0 : Int32) G))
abbrev rhJ15_stringSize (fr lo : Nat) : Room := { frames := fr + 1, cells := 0, slots := 0, locals := lo + 40 }
theorem mhJ15_stringSize (l : Launch) (Z : (Nat → Prop) → State → Heap → Prop) (D : va_G) (j : JX) (Λ : JLam) (fr lo : Nat) (E : JE l Z D j Λ fr lo) (p0 : Int32) (G : HG) (post : Int32 → HG → Prop) (hf : hJ15_stringSize j Λ p0 G post) : HMi l yJ15_stringSize (ws_ yJ15_stringSize cJ15_stringSize 4 (some .int)) (rhJ15_stringSize fr lo) D jC (jty j.1) Z G [.int p0] post 0 0 := by
  refine h_openi E.1 (by decide) (by exact Nat.le_of_ble_eq_true rfl) (fun p e s m args below meth c ls A0 Q X hI hnd hnm hl hret => ?_)
  have X : XC p s m args meth c cJ15_stringSize 4 RJ15 D jC (jty j.1) A0 Z := X
  have hx := X.1
  have hb := X.2.1
  have hown := X.2.2.2.1
  have hts := X.2.2.2.2.1
  have L16 : ∀ (n : Nat) (lx0 : Int32) (lx1 : Int32) (lx2 : Int32) (lx3 : Int32) (G : HG), hJ15_stringSize_l16 j Λ post n lx0 lx1 lx2 lx3 G → ∀ (H : Heap) (locs : List Loc), HI D jC G A0 s.heap H locs → ∀ (ls : Array Slot), lv_has ls 4 [(0, .int lx0), (1, .int lx1), (2, .int lx2), (3, .int lx3)] → W p l e (rhJ15_stringSize fr lo) s m args below meth c H locs 0 0 Q (F0 m 16 ls []) := by
    intro n16
    induction n16 with
    | zero => intro lx0 lx1 lx2 lx3 G hf; exact hf.elim
    | succ n16 ih16 =>
      intro lx0 lx1 lx2 lx3 G hf H locs hI ls hl
      have hf : hJ15_stringSize_b16 j Λ post (hJ15_stringSize_l16 j Λ post n16) lx0 lx1 lx2 lx3 G := hf
      unfold hJ15_stringSize_b16 at hf
      refine lv_iload_n hx hb dJ15_stringSize_16 rfl (lv_at hl 3 rfl) ?_
      refine lv_bipush (v := 10) hx hb dJ15_stringSize_17 (by decide) ?_
      refine lv_icmp_ge (tgt := 42) hx hb dJ15_stringSize_19 (by decide) (fun c2 => ?_) (fun c2 => ?_)
      · have hf := hf.1 c2
        refine lv_bipush (v := 10) hx hb dJ15_stringSize_42 (by decide) ?_
        refine lv_iload_n hx hb dJ15_stringSize_44 rfl (lv_at hl 1 rfl) ?_
        refine lv_iadd hx hb dJ15_stringSize_45 ?_
        exact hret hf hI dJ15_stringSize_46 (Nat.le_refl _) (Nat.le_refl _)
      · have hf := hf.2 c2
        refine lv_iload_n hx hb dJ15_stringSize_22 rfl (lv_at hl 0 rfl) ?_
        refine lv_iload_n hx hb dJ15_stringSize_23 rfl (lv_at hl 2 rfl) ?_
        refine lv_icmp_le (tgt := 31) hx hb dJ15_stringSize_24 (by decide) (fun c3 => ?_) (fun c3 => ?_)
        · have hf := hf.1 c3
          refine lv_bipush (v := 10) hx hb dJ15_stringSize_31 (by decide) ?_
          refine lv_iload_n hx hb dJ15_stringSize_33 rfl (lv_at hl 2 rfl) ?_
          refine lv_imul hx hb dJ15_stringSize_34 ?_
          refine lv_istore_n (lv' := [(2, .int ((10 : Int32) * lx2)), (0, .int lx0), (1, .int lx1), (3, .int lx3)]) hx hb dJ15_stringSize_35 rfl hl (by decide) rfl (fun ls hl => ?_)
          refine lv_iinc (v := lx3 + 1) (lv' := [(3, .int (lx3 + 1)), (2, .int ((10 : Int32) * lx2)), (0, .int lx0), (1, .int lx1)]) hx hb dJ15_stringSize_36 hl (k := 3) rfl rfl (by decide) rfl (fun ls hl => ?_)
          refine lv_goto (tgt := 16) hx hb dJ15_stringSize_39 (by decide) ?_
          exact ih16 lx0 lx1 ((10 : Int32) * lx2) (lx3 + 1) G hf H locs hI ls (lv_sub hl [2, 3, 1, 0] rfl)
        · have hf := hf.2 c3
          refine lv_iload_n hx hb dJ15_stringSize_27 rfl (lv_at hl 3 rfl) ?_
          refine lv_iload_n hx hb dJ15_stringSize_28 rfl (lv_at hl 1 rfl) ?_
          refine lv_iadd hx hb dJ15_stringSize_29 ?_
          exact hret hf hI dJ15_stringSize_30 (Nat.le_refl _) (Nat.le_refl _)
  have J11 : ∀ (lx0 : Int32) (lx1 : Int32) (G : HG), hJ15_stringSize_b11 j Λ post lx0 lx1 G → ∀ (H : Heap) (locs : List Loc), HI D jC G A0 s.heap H locs → ∀ (ls : Array Slot), lv_has ls 4 [(0, .int lx0), (1, .int lx1)] → W p l e (rhJ15_stringSize fr lo) s m args below meth c H locs 0 0 Q (F0 m 11 ls []) := by
    intro lx0 lx1 G hf H locs hI ls hl
    unfold hJ15_stringSize_b11 at hf
    refine lv_bipush (v := -10) hx hb dJ15_stringSize_11 (by decide) ?_
    refine lv_istore_n (lv' := [(2, .int (-10)), (0, .int lx0), (1, .int lx1)]) hx hb dJ15_stringSize_13 rfl hl (by decide) rfl (fun ls hl => ?_)
    refine lv_iconst (v := 1) hx hb dJ15_stringSize_14 (by decide) ?_
    refine lv_istore_n (lv' := [(3, .int 1), (2, .int (-10)), (0, .int lx0), (1, .int lx1)]) hx hb dJ15_stringSize_15 rfl hl (by decide) rfl (fun ls hl => ?_)
    obtain ⟨n, hf⟩ := hf
    exact L16 n lx0 lx1 ((-10) : Int32) (1 : Int32) G hf H locs hI ls (lv_sub hl [2, 3, 1, 0] rfl)
  have hl : lv_has ls 4 [(0, .int p0)] := by exact hl
  unfold hJ15_stringSize at hf
  obtain ⟨H, eH⟩ : ∃ H, H = s.heap := ⟨_, rfl⟩
  obtain ⟨locs, eL⟩ : ∃ locs : List Loc, locs = [] := ⟨_, rfl⟩
  have hI : HI D jC G A0 s.heap H locs := by rw [eH, eL]; exact hI
  rw [← eL]
  suffices h : W p l e (rhJ15_stringSize fr lo) s m args below meth c H locs 0 0 Q (F0 m 0 ls []) by rw [eH] at h; exact h
  clear eH eL
  refine lv_iconst (v := 1) hx hb dJ15_stringSize_0 (by decide) ?_
  refine lv_istore_n (lv' := [(1, .int 1), (0, .int p0)]) hx hb dJ15_stringSize_1 rfl hl (by decide) rfl (fun ls hl => ?_)
  refine lv_iload_n hx hb dJ15_stringSize_2 rfl (lv_at hl 1 rfl) ?_
  refine lv_if_lt (tgt := 11) hx hb dJ15_stringSize_3 (by decide) (fun c1 => ?_) (fun c1 => ?_)
  · have hf := hf.1 c1
    exact J11 p0 (1 : Int32) G hf H locs hI ls (lv_sub hl [1, 0] rfl)
  · have hf := hf.2 c1
    refine lv_iconst (v := 0) hx hb dJ15_stringSize_6 (by decide) ?_
    refine lv_istore_n (lv' := [(1, .int 0), (0, .int p0)]) hx hb dJ15_stringSize_7 rfl hl (by decide) rfl (fun ls hl => ?_)
    refine lv_iload_n hx hb dJ15_stringSize_8 rfl (lv_at hl 1 rfl) ?_
    refine lv_ineg hx hb dJ15_stringSize_9 ?_
    refine lv_istore_n (lv' := [(0, .int (-p0)), (1, .int 0)]) hx hb dJ15_stringSize_10 rfl hl (by decide) rfl (fun ls hl => ?_)
    exact J11 (-p0) (0 : Int32) G hf H locs hI ls (lv_sub hl [0, 1] rfl)
/-! java/lang/Integer.bitCount(I)I -/
def hJ15_bitCount (j : JX) (Λ : JLam) (p0 : Int32) (G : HG) (post : Int32 → HG → Prop) : Prop :=
  ∀ v1 : Int32, v1 = (p0 - (((p0.toUInt32 >>> ((1 : Int32).toUInt32 &&& Int32.toUInt32 31)).toInt32) &&& 1431655765)) → ∀ v2 : Int32, v2 = ((v1 &&& 858993459) + (((v1.toUInt32 >>> ((2 : Int32).toUInt32 &&& Int32.toUInt32 31)).toInt32) &&& 858993459)) → ∀ v3 : Int32, v3 = ((v2 + ((v2.toUInt32 >>> ((4 : Int32).toUInt32 &&& Int32.toUInt32 31)).toInt32)) &&& 252645135) → ∀ v4 : Int32, v4 = (v3 + ((v3.toUInt32 >>> ((8 : Int32).toUInt32 &&& Int32.toUInt32 31)).toInt32)) → ∀ v5 : Int32, v5 = (v4 + ((v4.toUInt32 >>> ((16 : Int32).toUInt32 &&& Int32.toUInt32 31)).toInt32)) → post (v5 &&& 63) G
abbrev rhJ15_bitCount (fr lo : Nat) : Room := { frames := fr + 1, cells := 0, slots := 0, locals := lo + 40 }
theorem mhJ15_bitCount (l : Launch) (Z : (Nat → Prop) → State → Heap → Prop) (D : va_G) (j : JX) (Λ : JLam) (fr lo : Nat) (E : JE l Z D j Λ fr lo) (p0 : Int32) (G : HG) (post : Int32 → HG → Prop) (hf : hJ15_bitCount j Λ p0 G post) : HMi l yJ15_bitCount (ws_ yJ15_bitCount cJ15_bitCount 1 (some .int)) (rhJ15_bitCount fr lo) D jC (jty j.1) Z G [.int p0] post 0 0 := by
  refine h_openi E.1 (by decide) (by exact Nat.le_of_ble_eq_true rfl) (fun p e s m args below meth c ls A0 Q X hI hnd hnm hl hret => ?_)
  have X : XC p s m args meth c cJ15_bitCount 1 RJ15 D jC (jty j.1) A0 Z := X
  have hx := X.1
  have hb := X.2.1
  have hown := X.2.2.2.1
  have hts := X.2.2.2.2.1
  have hl : lv_has ls 1 [(0, .int p0)] := by exact hl
  unfold hJ15_bitCount at hf
  obtain ⟨H, eH⟩ : ∃ H, H = s.heap := ⟨_, rfl⟩
  obtain ⟨locs, eL⟩ : ∃ locs : List Loc, locs = [] := ⟨_, rfl⟩
  have hI : HI D jC G A0 s.heap H locs := by rw [eH, eL]; exact hI
  rw [← eL]
  suffices h : W p l e (rhJ15_bitCount fr lo) s m args below meth c H locs 0 0 Q (F0 m 0 ls []) by rw [eH] at h; exact h
  clear eH eL
  refine lv_iload_n hx hb dJ15_bitCount_0 rfl (lv_at hl 0 rfl) ?_
  refine lv_iload_n hx hb dJ15_bitCount_1 rfl (lv_at hl 0 rfl) ?_
  refine lv_iconst (v := 1) hx hb dJ15_bitCount_2 (by decide) ?_
  refine lv_iushr hx hb dJ15_bitCount_3 rfl ?_
  refine lv_ldcw (v := 1431655765) hx hb hown (hts _ q2352) dJ15_bitCount_4 ?_
  refine lv_iand hx hb dJ15_bitCount_7 ?_
  refine lv_isub hx hb dJ15_bitCount_8 ?_
  obtain ⟨v1, ev1⟩ : ∃ v1, v1 = (p0 - (((p0.toUInt32 >>> ((1 : Int32).toUInt32 &&& Int32.toUInt32 31)).toInt32) &&& 1431655765)) := ⟨_, rfl⟩
  have hf := hf v1 ev1
  rw [← ev1]
  clear ev1
  refine lv_istore_n (lv' := [(0, .int v1)]) hx hb dJ15_bitCount_9 rfl hl (by decide) rfl (fun ls hl => ?_)
  refine lv_iload_n hx hb dJ15_bitCount_10 rfl (lv_at hl 0 rfl) ?_
  refine lv_ldcw (v := 858993459) hx hb hown (hts _ q2353) dJ15_bitCount_11 ?_
  refine lv_iand hx hb dJ15_bitCount_14 ?_
  refine lv_iload_n hx hb dJ15_bitCount_15 rfl (lv_at hl 0 rfl) ?_
  refine lv_iconst (v := 2) hx hb dJ15_bitCount_16 (by decide) ?_
  refine lv_iushr hx hb dJ15_bitCount_17 rfl ?_
  refine lv_ldcw (v := 858993459) hx hb hown (hts _ q2353) dJ15_bitCount_18 ?_
  refine lv_iand hx hb dJ15_bitCount_21 ?_
  refine lv_iadd hx hb dJ15_bitCount_22 ?_
  obtain ⟨v2, ev2⟩ : ∃ v2, v2 = ((v1 &&& 858993459) + (((v1.toUInt32 >>> ((2 : Int32).toUInt32 &&& Int32.toUInt32 31)).toInt32) &&& 858993459)) := ⟨_, rfl⟩
  have hf := hf v2 ev2
  rw [← ev2]
  clear ev2
  refine lv_istore_n (lv' := [(0, .int v2)]) hx hb dJ15_bitCount_23 rfl hl (by decide) rfl (fun ls hl => ?_)
  refine lv_iload_n hx hb dJ15_bitCount_24 rfl (lv_at hl 0 rfl) ?_
  refine lv_iload_n hx hb dJ15_bitCount_25 rfl (lv_at hl 0 rfl) ?_
  refine lv_iconst (v := 4) hx hb dJ15_bitCount_26 (by decide) ?_
  refine lv_iushr hx hb dJ15_bitCount_27 rfl ?_
  refine lv_iadd hx hb dJ15_bitCount_28 ?_
  refine lv_ldcw (v := 252645135) hx hb hown (hts _ q2354) dJ15_bitCount_29 ?_
  refine lv_iand hx hb dJ15_bitCount_32 ?_
  obtain ⟨v3, ev3⟩ : ∃ v3, v3 = ((v2 + ((v2.toUInt32 >>> ((4 : Int32).toUInt32 &&& Int32.toUInt32 31)).toInt32)) &&& 252645135) := ⟨_, rfl⟩
  have hf := hf v3 ev3
  rw [← ev3]
  clear ev3
  refine lv_istore_n (lv' := [(0, .int v3)]) hx hb dJ15_bitCount_33 rfl hl (by decide) rfl (fun ls hl => ?_)
  refine lv_iload_n hx hb dJ15_bitCount_34 rfl (lv_at hl 0 rfl) ?_
  refine lv_iload_n hx hb dJ15_bitCount_35 rfl (lv_at hl 0 rfl) ?_
  refine lv_bipush (v := 8) hx hb dJ15_bitCount_36 (by decide) ?_
  refine lv_iushr hx hb dJ15_bitCount_38 rfl ?_
  refine lv_iadd hx hb dJ15_bitCount_39 ?_
  obtain ⟨v4, ev4⟩ : ∃ v4, v4 = (v3 + ((v3.toUInt32 >>> ((8 : Int32).toUInt32 &&& Int32.toUInt32 31)).toInt32)) := ⟨_, rfl⟩
  have hf := hf v4 ev4
  rw [← ev4]
  clear ev4
  refine lv_istore_n (lv' := [(0, .int v4)]) hx hb dJ15_bitCount_40 rfl hl (by decide) rfl (fun ls hl => ?_)
  refine lv_iload_n hx hb dJ15_bitCount_41 rfl (lv_at hl 0 rfl) ?_
  refine lv_iload_n hx hb dJ15_bitCount_42 rfl (lv_at hl 0 rfl) ?_
  refine lv_bipush (v := 16) hx hb dJ15_bitCount_43 (by decide) ?_
  refine lv_iushr hx hb dJ15_bitCount_45 rfl ?_
  refine lv_iadd hx hb dJ15_bitCount_46 ?_
  obtain ⟨v5, ev5⟩ : ∃ v5, v5 = (v4 + ((v4.toUInt32 >>> ((16 : Int32).toUInt32 &&& Int32.toUInt32 31)).toInt32)) := ⟨_, rfl⟩
  have hf := hf v5 ev5
  rw [← ev5]
  clear ev5
  refine lv_istore_n (lv' := [(0, .int v5)]) hx hb dJ15_bitCount_47 rfl hl (by decide) rfl (fun ls hl => ?_)
  refine lv_iload_n hx hb dJ15_bitCount_48 rfl (lv_at hl 0 rfl) ?_
  refine lv_bipush (v := 63) hx hb dJ15_bitCount_49 (by decide) ?_
  refine lv_iand hx hb dJ15_bitCount_51 ?_
  exact hret hf hI dJ15_bitCount_52 (Nat.le_refl _) (Nat.le_refl _)
/-! jdk/internal/util/ArraysSupport.signedHashCode(I[BII)I -/
def hJ17_signedHashCode_b8 (j : JX) (Λ : JLam) (p2 : Int32) (p3 : Int32) (post : Int32 → HG → Prop) (K8 : Int32 → Option Nat → Int32 → Int32 → HG → Prop) (lx0 : Int32) (lq1 : Option Nat) (lx4 : Int32) (lx5 : Int32) (G : HG) : Prop :=
  (lx4 ≤ lx5 → (post lx0 G)) ∧ (¬ lx4 ≤ lx5 → (nnq lq1 fun a2 => ldI G a2 (j.1 2) lx5 fun x3 => ∀ v4 : Int32, v4 = (((31 : Int32) * lx0) + (x3 &&& 255)) → K8 v4 (some a2) lx4 (lx5 + 1) G))
def hJ17_signedHashCode_l8 (j : JX) (Λ : JLam) (p2 : Int32) (p3 : Int32) (post : Int32 → HG → Prop) : Nat → Int32 → Option Nat → Int32 → Int32 → HG → Prop
  | 0 => fun _ _ _ _ _ => False
  | n + 1 => fun lx0 lq1 lx4 lx5 G => hJ17_signedHashCode_b8 j Λ p2 p3 post (hJ17_signedHashCode_l8 j Λ p2 p3 post n) lx0 lq1 lx4 lx5 G
def hJ17_signedHashCode (j : JX) (Λ : JLam) (p0 : Int32) (q1_ : Option Nat) (p2 : Int32) (p3 : Int32) (G : HG) (post : Int32 → HG → Prop) : Prop :=
  ∃ n, hJ17_signedHashCode_l8 j Λ p2 p3 post n p0 q1_ (p2 + p3) p2 G
abbrev rhJ17_signedHashCode (fr lo : Nat) : Room := { frames := fr + 1, cells := 0, slots := 0, locals := lo + 40 }
theorem mhJ17_signedHashCode (l : Launch) (Z : (Nat → Prop) → State → Heap → Prop) (D : va_G) (j : JX) (Λ : JLam) (fr lo : Nat) (E : JE l Z D j Λ fr lo) (p0 : Int32) (q1_ : Option Nat) (p2 : Int32) (p3 : Int32) (G : HG) (post : Int32 → HG → Prop) (hf : hJ17_signedHashCode j Λ p0 q1_ p2 p3 G post) : HMi l yJ17_signedHashCode (ws_ yJ17_signedHashCode cJ17_signedHashCode 6 (some .int)) (rhJ17_signedHashCode fr lo) D jC (jty j.1) Z G [.int p0, va_rf q1_, .int p2, .int p3] post 0 0 := by
  refine h_openi E.1 (by decide) (by cases q1_ <;> exact Nat.le_of_ble_eq_true rfl) (fun p e s m args below meth c ls A0 Q X hI hnd hnm hl hret => ?_)
  have X : XC p s m args meth c cJ17_signedHashCode 6 RJ17 D jC (jty j.1) A0 Z := X
  have hx := X.1
  have hb := X.2.1
  have hown := X.2.2.2.1
  have hts := X.2.2.2.2.1
  have L8 : ∀ (n : Nat) (lx0 : Int32) (lq1 : Option Nat) (lx4 : Int32) (lx5 : Int32) (G : HG), hJ17_signedHashCode_l8 j Λ p2 p3 post n lx0 lq1 lx4 lx5 G → ∀ (H : Heap) (locs : List Loc), HI D jC G A0 s.heap H locs → ∀ (ls : Array Slot), lv_has ls 6 [(0, .int lx0), (1, va_rf lq1), (4, .int lx4), (5, .int lx5)] → W p l e (rhJ17_signedHashCode fr lo) s m args below meth c H locs 0 0 Q (F0 m 8 ls []) := by
    intro n8
    induction n8 with
    | zero => intro lx0 lq1 lx4 lx5 G hf; exact hf.elim
    | succ n8 ih8 =>
      intro lx0 lq1 lx4 lx5 G hf H locs hI ls hl
      have hf : hJ17_signedHashCode_b8 j Λ p2 p3 post (hJ17_signedHashCode_l8 j Λ p2 p3 post n8) lx0 lq1 lx4 lx5 G := hf
      unfold hJ17_signedHashCode_b8 at hf
      refine lv_iload hx hb dJ17_signedHashCode_8 (lv_at hl 3 rfl) ?_
      refine lv_iload hx hb dJ17_signedHashCode_10 (lv_at hl 2 rfl) ?_
      refine lv_icmp_ge (tgt := 35) hx hb dJ17_signedHashCode_12 (by decide) (fun c1 => ?_) (fun c1 => ?_)
      · have hf := hf.1 c1
        refine lv_iload_n hx hb dJ17_signedHashCode_35 rfl (lv_at hl 0 rfl) ?_
        exact hret hf hI dJ17_signedHashCode_36 (Nat.le_refl _) (Nat.le_refl _)
      · have hf := hf.2 c1
        refine lv_bipush (v := 31) hx hb dJ17_signedHashCode_15 (by decide) ?_
        refine lv_iload_n hx hb dJ17_signedHashCode_17 rfl (lv_at hl 0 rfl) ?_
        refine lv_imul hx hb dJ17_signedHashCode_18 ?_
        refine h_aload_n (o := lq1) hx hb dJ17_signedHashCode_19 rfl (lv_at hl 1 rfl) ?_
        refine lv_iload hx hb dJ17_signedHashCode_20 (lv_at hl 3 rfl) ?_
        obtain ⟨a2, ea2, hf⟩ := hf
        revert hl hf
        subst ea2
        intro hl hf
        have hl : lv_has ls 6 [(0, .int lx0), (1, .ref a2), (4, .int lx4), (5, .int lx5)] := hl
        refine hr_bld X hI 2 rfl hf dJ17_signedHashCode_22 (fun x3 hf => ?_)
        refine lv_sipush (v := 255) hx hb dJ17_signedHashCode_23 (by decide) ?_
        refine lv_iand hx hb dJ17_signedHashCode_26 ?_
        refine lv_iadd hx hb dJ17_signedHashCode_27 ?_
        obtain ⟨v4, ev4⟩ : ∃ v4, v4 = (((31 : Int32) * lx0) + (x3 &&& 255)) := ⟨_, rfl⟩
        have hf := hf v4 ev4
        rw [← ev4]
        clear ev4
        refine lv_istore_n (lv' := [(0, .int v4), (1, .ref a2), (4, .int lx4), (5, .int lx5)]) hx hb dJ17_signedHashCode_28 rfl hl (by decide) rfl (fun ls hl => ?_)
        refine lv_iinc (v := lx5 + 1) (lv' := [(5, .int (lx5 + 1)), (0, .int v4), (1, .ref a2), (4, .int lx4)]) hx hb dJ17_signedHashCode_29 hl (k := 3) rfl rfl (by decide) rfl (fun ls hl => ?_)
        refine lv_goto (tgt := 8) hx hb dJ17_signedHashCode_32 (by decide) ?_
        exact ih8 v4 (some a2) lx4 (lx5 + 1) G hf H locs hI ls (lv_sub hl [1, 2, 3, 0] rfl)
  have hl : lv_has ls 6 [(0, .int p0), (1, va_rf q1_), (2, .int p2), (3, .int p3)] := by cases q1_ <;> exact hl
  unfold hJ17_signedHashCode at hf
  obtain ⟨H, eH⟩ : ∃ H, H = s.heap := ⟨_, rfl⟩
  obtain ⟨locs, eL⟩ : ∃ locs : List Loc, locs = [] := ⟨_, rfl⟩
  have hI : HI D jC G A0 s.heap H locs := by rw [eH, eL]; exact hI
  rw [← eL]
  suffices h : W p l e (rhJ17_signedHashCode fr lo) s m args below meth c H locs 0 0 Q (F0 m 0 ls []) by rw [eH] at h; exact h
  clear eH eL
  refine lv_iload_n hx hb dJ17_signedHashCode_0 rfl (lv_at hl 2 rfl) ?_
  refine lv_iload_n hx hb dJ17_signedHashCode_1 rfl (lv_at hl 3 rfl) ?_
  refine lv_iadd hx hb dJ17_signedHashCode_2 ?_
  refine lv_istore (lv' := [(4, .int (p2 + p3)), (0, .int p0), (1, va_rf q1_), (2, .int p2), (3, .int p3)]) hx hb dJ17_signedHashCode_3 hl (by decide) rfl (fun ls hl => ?_)
  refine lv_iload_n hx hb dJ17_signedHashCode_5 rfl (lv_at hl 3 rfl) ?_
  refine lv_istore (lv' := [(5, .int p2), (4, .int (p2 + p3)), (0, .int p0), (1, va_rf q1_), (2, .int p2), (3, .int p3)]) hx hb dJ17_signedHashCode_6 hl (by decide) rfl (fun ls hl => ?_)
  obtain ⟨n, hf⟩ := hf
  exact L8 n p0 q1_ (p2 + p3) p2 G hf H locs hI ls (lv_sub hl [2, 3, 1, 0] rfl)
/-! jdk/internal/util/ArraysSupport.hashCode(I[BII)I -/
def hJ17_hashCode_2_b8 (j : JX) (Λ : JLam) (p2 : Int32) (p3 : Int32) (post : Int32 → HG → Prop) (K8 : Int32 → Option Nat → Int32 → Int32 → HG → Prop) (lx0 : Int32) (lq1 : Option Nat) (lx4 : Int32) (lx5 : Int32) (G : HG) : Prop :=
  (lx4 ≤ lx5 → (post lx0 G)) ∧ (¬ lx4 ≤ lx5 → (nnq lq1 fun a2 => ldI G a2 (j.1 2) lx5 fun x3 => ∀ v4 : Int32, v4 = (((31 : Int32) * lx0) + x3) → K8 v4 (some a2) lx4 (lx5 + 1) G))
def hJ17_hashCode_2_l8 (j : JX) (Λ : JLam) (p2 : Int32) (p3 : Int32) (post : Int32 → HG → Prop) : Nat → Int32 → Option Nat → Int32 → Int32 → HG → Prop
  | 0 => fun _ _ _ _ _ => False
  | n + 1 => fun lx0 lq1 lx4 lx5 G => hJ17_hashCode_2_b8 j Λ p2 p3 post (hJ17_hashCode_2_l8 j Λ p2 p3 post n) lx0 lq1 lx4 lx5 G
def hJ17_hashCode_2 (j : JX) (Λ : JLam) (p0 : Int32) (q1_ : Option Nat) (p2 : Int32) (p3 : Int32) (G : HG) (post : Int32 → HG → Prop) : Prop :=
  ∃ n, hJ17_hashCode_2_l8 j Λ p2 p3 post n p0 q1_ (p2 + p3) p2 G
abbrev rhJ17_hashCode_2 (fr lo : Nat) : Room := { frames := fr + 1, cells := 0, slots := 0, locals := lo + 40 }
theorem mhJ17_hashCode_2 (l : Launch) (Z : (Nat → Prop) → State → Heap → Prop) (D : va_G) (j : JX) (Λ : JLam) (fr lo : Nat) (E : JE l Z D j Λ fr lo) (p0 : Int32) (q1_ : Option Nat) (p2 : Int32) (p3 : Int32) (G : HG) (post : Int32 → HG → Prop) (hf : hJ17_hashCode_2 j Λ p0 q1_ p2 p3 G post) : HMi l yJ17_hashCode_2 (ws_ yJ17_hashCode_2 cJ17_hashCode_2 6 (some .int)) (rhJ17_hashCode_2 fr lo) D jC (jty j.1) Z G [.int p0, va_rf q1_, .int p2, .int p3] post 0 0 := by
  refine h_openi E.1 (by decide) (by cases q1_ <;> exact Nat.le_of_ble_eq_true rfl) (fun p e s m args below meth c ls A0 Q X hI hnd hnm hl hret => ?_)
  have X : XC p s m args meth c cJ17_hashCode_2 6 RJ17 D jC (jty j.1) A0 Z := X
  have hx := X.1
  have hb := X.2.1
  have hown := X.2.2.2.1
  have hts := X.2.2.2.2.1
  have L8 : ∀ (n : Nat) (lx0 : Int32) (lq1 : Option Nat) (lx4 : Int32) (lx5 : Int32) (G : HG), hJ17_hashCode_2_l8 j Λ p2 p3 post n lx0 lq1 lx4 lx5 G → ∀ (H : Heap) (locs : List Loc), HI D jC G A0 s.heap H locs → ∀ (ls : Array Slot), lv_has ls 6 [(0, .int lx0), (1, va_rf lq1), (4, .int lx4), (5, .int lx5)] → W p l e (rhJ17_hashCode_2 fr lo) s m args below meth c H locs 0 0 Q (F0 m 8 ls []) := by
    intro n8
    induction n8 with
    | zero => intro lx0 lq1 lx4 lx5 G hf; exact hf.elim
    | succ n8 ih8 =>
      intro lx0 lq1 lx4 lx5 G hf H locs hI ls hl
      have hf : hJ17_hashCode_2_b8 j Λ p2 p3 post (hJ17_hashCode_2_l8 j Λ p2 p3 post n8) lx0 lq1 lx4 lx5 G := hf
      unfold hJ17_hashCode_2_b8 at hf
      refine lv_iload hx hb dJ17_hashCode_2_8 (lv_at hl 3 rfl) ?_
      refine lv_iload hx hb dJ17_hashCode_2_10 (lv_at hl 2 rfl) ?_
      refine lv_icmp_ge (tgt := 31) hx hb dJ17_hashCode_2_12 (by decide) (fun c1 => ?_) (fun c1 => ?_)
      · have hf := hf.1 c1
        refine lv_iload_n hx hb dJ17_hashCode_2_31 rfl (lv_at hl 0 rfl) ?_
        exact hret hf hI dJ17_hashCode_2_32 (Nat.le_refl _) (Nat.le_refl _)
      · have hf := hf.2 c1
        refine lv_bipush (v := 31) hx hb dJ17_hashCode_2_15 (by decide) ?_
        refine lv_iload_n hx hb dJ17_hashCode_2_17 rfl (lv_at hl 0 rfl) ?_
        refine lv_imul hx hb dJ17_hashCode_2_18 ?_
        refine h_aload_n (o := lq1) hx hb dJ17_hashCode_2_19 rfl (lv_at hl 1 rfl) ?_
        refine lv_iload hx hb dJ17_hashCode_2_20 (lv_at hl 3 rfl) ?_
        obtain ⟨a2, ea2, hf⟩ := hf
        revert hl hf
        subst ea2
        intro hl hf
        have hl : lv_has ls 6 [(0, .int lx0), (1, .ref a2), (4, .int lx4), (5, .int lx5)] := hl
        refine hr_bld X hI 2 rfl hf dJ17_hashCode_2_22 (fun x3 hf => ?_)
        refine lv_iadd hx hb dJ17_hashCode_2_23 ?_
        obtain ⟨v4, ev4⟩ : ∃ v4, v4 = (((31 : Int32) * lx0) + x3) := ⟨_, rfl⟩
        have hf := hf v4 ev4
        rw [← ev4]
        clear ev4
        refine lv_istore_n (lv' := [(0, .int v4), (1, .ref a2), (4, .int lx4), (5, .int lx5)]) hx hb dJ17_hashCode_2_24 rfl hl (by decide) rfl (fun ls hl => ?_)
        refine lv_iinc (v := lx5 + 1) (lv' := [(5, .int (lx5 + 1)), (0, .int v4), (1, .ref a2), (4, .int lx4)]) hx hb dJ17_hashCode_2_25 hl (k := 3) rfl rfl (by decide) rfl (fun ls hl => ?_)
        refine lv_goto (tgt := 8) hx hb dJ17_hashCode_2_28 (by decide) ?_
        exact ih8 v4 (some a2) lx4 (lx5 + 1) G hf H locs hI ls (lv_sub hl [1, 2, 3, 0] rfl)
  have hl : lv_has ls 6 [(0, .int p0), (1, va_rf q1_), (2, .int p2), (3, .int p3)] := by cases q1_ <;> exact hl
  unfold hJ17_hashCode_2 at hf
  obtain ⟨H, eH⟩ : ∃ H, H = s.heap := ⟨_, rfl⟩
  obtain ⟨locs, eL⟩ : ∃ locs : List Loc, locs = [] := ⟨_, rfl⟩
  have hI : HI D jC G A0 s.heap H locs := by rw [eH, eL]; exact hI
  rw [← eL]
  suffices h : W p l e (rhJ17_hashCode_2 fr lo) s m args below meth c H locs 0 0 Q (F0 m 0 ls []) by rw [eH] at h; exact h
  clear eH eL
  refine lv_iload_n hx hb dJ17_hashCode_2_0 rfl (lv_at hl 2 rfl) ?_
  refine lv_iload_n hx hb dJ17_hashCode_2_1 rfl (lv_at hl 3 rfl) ?_
  refine lv_iadd hx hb dJ17_hashCode_2_2 ?_
  refine lv_istore (lv' := [(4, .int (p2 + p3)), (0, .int p0), (1, va_rf q1_), (2, .int p2), (3, .int p3)]) hx hb dJ17_hashCode_2_3 hl (by decide) rfl (fun ls hl => ?_)
  refine lv_iload_n hx hb dJ17_hashCode_2_5 rfl (lv_at hl 3 rfl) ?_
  refine lv_istore (lv' := [(5, .int p2), (4, .int (p2 + p3)), (0, .int p0), (1, va_rf q1_), (2, .int p2), (3, .int p3)]) hx hb dJ17_hashCode_2_6 hl (by decide) rfl (fun ls hl => ?_)
  obtain ⟨n, hf⟩ := hf
  exact L8 n p0 q1_ (p2 + p3) p2 G hf H locs hI ls (lv_sub hl [2, 3, 1, 0] rfl)
/-! jdk/internal/util/ArraysSupport.hashCode(I[SII)I -/
def hJ17_hashCode_3_b8 (j : JX) (Λ : JLam) (p2 : Int32) (p3 : Int32) (post : Int32 → HG → Prop) (K8 : Int32 → Option Nat → Int32 → Int32 → HG → Prop) (lx0 : Int32) (lq1 : Option Nat) (lx4 : Int32) (lx5 : Int32) (G : HG) : Prop :=
  (lx4 ≤ lx5 → (post lx0 G)) ∧ (¬ lx4 ≤ lx5 → (nnq lq1 fun a2 => ldI G a2 (j.1 4) lx5 fun x3 => ∀ v4 : Int32, v4 = (((31 : Int32) * lx0) + x3) → K8 v4 (some a2) lx4 (lx5 + 1) G))
def hJ17_hashCode_3_l8 (j : JX) (Λ : JLam) (p2 : Int32) (p3 : Int32) (post : Int32 → HG → Prop) : Nat → Int32 → Option Nat → Int32 → Int32 → HG → Prop
  | 0 => fun _ _ _ _ _ => False
  | n + 1 => fun lx0 lq1 lx4 lx5 G => hJ17_hashCode_3_b8 j Λ p2 p3 post (hJ17_hashCode_3_l8 j Λ p2 p3 post n) lx0 lq1 lx4 lx5 G
def hJ17_hashCode_3 (j : JX) (Λ : JLam) (p0 : Int32) (q1_ : Option Nat) (p2 : Int32) (p3 : Int32) (G : HG) (post : Int32 → HG → Prop) : Prop :=
  ∃ n, hJ17_hashCode_3_l8 j Λ p2 p3 post n p0 q1_ (p2 + p3) p2 G
abbrev rhJ17_hashCode_3 (fr lo : Nat) : Room := { frames := fr + 1, cells := 0, slots := 0, locals := lo + 40 }
theorem mhJ17_hashCode_3 (l : Launch) (Z : (Nat → Prop) → State → Heap → Prop) (D : va_G) (j : JX) (Λ : JLam) (fr lo : Nat) (E : JE l Z D j Λ fr lo) (p0 : Int32) (q1_ : Option Nat) (p2 : Int32) (p3 : Int32) (G : HG) (post : Int32 → HG → Prop) (hf : hJ17_hashCode_3 j Λ p0 q1_ p2 p3 G post) : HMi l yJ17_hashCode_3 (ws_ yJ17_hashCode_3 cJ17_hashCode_3 6 (some .int)) (rhJ17_hashCode_3 fr lo) D jC (jty j.1) Z G [.int p0, va_rf q1_, .int p2, .int p3] post 0 0 := by
  refine h_openi E.1 (by decide) (by cases q1_ <;> exact Nat.le_of_ble_eq_true rfl) (fun p e s m args below meth c ls A0 Q X hI hnd hnm hl hret => ?_)
  have X : XC p s m args meth c cJ17_hashCode_3 6 RJ17 D jC (jty j.1) A0 Z := X
  have hx := X.1
  have hb := X.2.1
  have hown := X.2.2.2.1
  have hts := X.2.2.2.2.1
  have L8 : ∀ (n : Nat) (lx0 : Int32) (lq1 : Option Nat) (lx4 : Int32) (lx5 : Int32) (G : HG), hJ17_hashCode_3_l8 j Λ p2 p3 post n lx0 lq1 lx4 lx5 G → ∀ (H : Heap) (locs : List Loc), HI D jC G A0 s.heap H locs → ∀ (ls : Array Slot), lv_has ls 6 [(0, .int lx0), (1, va_rf lq1), (4, .int lx4), (5, .int lx5)] → W p l e (rhJ17_hashCode_3 fr lo) s m args below meth c H locs 0 0 Q (F0 m 8 ls []) := by
    intro n8
    induction n8 with
    | zero => intro lx0 lq1 lx4 lx5 G hf; exact hf.elim
    | succ n8 ih8 =>
      intro lx0 lq1 lx4 lx5 G hf H locs hI ls hl
      have hf : hJ17_hashCode_3_b8 j Λ p2 p3 post (hJ17_hashCode_3_l8 j Λ p2 p3 post n8) lx0 lq1 lx4 lx5 G := hf
      unfold hJ17_hashCode_3_b8 at hf
      refine lv_iload hx hb dJ17_hashCode_3_8 (lv_at hl 3 rfl) ?_
      refine lv_iload hx hb dJ17_hashCode_3_10 (lv_at hl 2 rfl) ?_
      refine lv_icmp_ge (tgt := 31) hx hb dJ17_hashCode_3_12 (by decide) (fun c1 => ?_) (fun c1 => ?_)
      · have hf := hf.1 c1
        refine lv_iload_n hx hb dJ17_hashCode_3_31 rfl (lv_at hl 0 rfl) ?_
        exact hret hf hI dJ17_hashCode_3_32 (Nat.le_refl _) (Nat.le_refl _)
      · have hf := hf.2 c1
        refine lv_bipush (v := 31) hx hb dJ17_hashCode_3_15 (by decide) ?_
        refine lv_iload_n hx hb dJ17_hashCode_3_17 rfl (lv_at hl 0 rfl) ?_
        refine lv_imul hx hb dJ17_hashCode_3_18 ?_
        refine h_aload_n (o := lq1) hx hb dJ17_hashCode_3_19 rfl (lv_at hl 1 rfl) ?_
        refine lv_iload hx hb dJ17_hashCode_3_20 (lv_at hl 3 rfl) ?_
        obtain ⟨a2, ea2, hf⟩ := hf
        revert hl hf
        subst ea2
        intro hl hf
        have hl : lv_has ls 6 [(0, .int lx0), (1, .ref a2), (4, .int lx4), (5, .int lx5)] := hl
        refine hr_sld X hI 4 rfl hf dJ17_hashCode_3_22 (fun x3 hf => ?_)
        refine lv_iadd hx hb dJ17_hashCode_3_23 ?_
        obtain ⟨v4, ev4⟩ : ∃ v4, v4 = (((31 : Int32) * lx0) + x3) := ⟨_, rfl⟩
        have hf := hf v4 ev4
        rw [← ev4]
        clear ev4
        refine lv_istore_n (lv' := [(0, .int v4), (1, .ref a2), (4, .int lx4), (5, .int lx5)]) hx hb dJ17_hashCode_3_24 rfl hl (by decide) rfl (fun ls hl => ?_)
        refine lv_iinc (v := lx5 + 1) (lv' := [(5, .int (lx5 + 1)), (0, .int v4), (1, .ref a2), (4, .int lx4)]) hx hb dJ17_hashCode_3_25 hl (k := 3) rfl rfl (by decide) rfl (fun ls hl => ?_)
        refine lv_goto (tgt := 8) hx hb dJ17_hashCode_3_28 (by decide) ?_
        exact ih8 v4 (some a2) lx4 (lx5 + 1) G hf H locs hI ls (lv_sub hl [1, 2, 3, 0] rfl)
  have hl : lv_has ls 6 [(0, .int p0), (1, va_rf q1_), (2, .int p2), (3, .int p3)] := by cases q1_ <;> exact hl
  unfold hJ17_hashCode_3 at hf
  obtain ⟨H, eH⟩ : ∃ H, H = s.heap := ⟨_, rfl⟩
  obtain ⟨locs, eL⟩ : ∃ locs : List Loc, locs = [] := ⟨_, rfl⟩
  have hI : HI D jC G A0 s.heap H locs := by rw [eH, eL]; exact hI
  rw [← eL]
  suffices h : W p l e (rhJ17_hashCode_3 fr lo) s m args below meth c H locs 0 0 Q (F0 m 0 ls []) by rw [eH] at h; exact h
  clear eH eL
  refine lv_iload_n hx hb dJ17_hashCode_3_0 rfl (lv_at hl 2 rfl) ?_
  refine lv_iload_n hx hb dJ17_hashCode_3_1 rfl (lv_at hl 3 rfl) ?_
  refine lv_iadd hx hb dJ17_hashCode_3_2 ?_
  refine lv_istore (lv' := [(4, .int (p2 + p3)), (0, .int p0), (1, va_rf q1_), (2, .int p2), (3, .int p3)]) hx hb dJ17_hashCode_3_3 hl (by decide) rfl (fun ls hl => ?_)
  refine lv_iload_n hx hb dJ17_hashCode_3_5 rfl (lv_at hl 3 rfl) ?_
  refine lv_istore (lv' := [(5, .int p2), (4, .int (p2 + p3)), (0, .int p0), (1, va_rf q1_), (2, .int p2), (3, .int p3)]) hx hb dJ17_hashCode_3_6 hl (by decide) rfl (fun ls hl => ?_)
  obtain ⟨n, hf⟩ := hf
  exact L8 n p0 q1_ (p2 + p3) p2 G hf H locs hI ls (lv_sub hl [2, 3, 1, 0] rfl)
/-! jdk/internal/util/ArraysSupport.hashCode(I[III)I -/
def hJ17_hashCode_4_b8 (j : JX) (Λ : JLam) (p2 : Int32) (p3 : Int32) (post : Int32 → HG → Prop) (K8 : Int32 → Option Nat → Int32 → Int32 → HG → Prop) (lx0 : Int32) (lq1 : Option Nat) (lx4 : Int32) (lx5 : Int32) (G : HG) : Prop :=
  (lx4 ≤ lx5 → (post lx0 G)) ∧ (¬ lx4 ≤ lx5 → (nnq lq1 fun a2 => ldI G a2 (j.1 0) lx5 fun x3 => ∀ v4 : Int32, v4 = (((31 : Int32) * lx0) + x3) → K8 v4 (some a2) lx4 (lx5 + 1) G))
def hJ17_hashCode_4_l8 (j : JX) (Λ : JLam) (p2 : Int32) (p3 : Int32) (post : Int32 → HG → Prop) : Nat → Int32 → Option Nat → Int32 → Int32 → HG → Prop
  | 0 => fun _ _ _ _ _ => False
  | n + 1 => fun lx0 lq1 lx4 lx5 G => hJ17_hashCode_4_b8 j Λ p2 p3 post (hJ17_hashCode_4_l8 j Λ p2 p3 post n) lx0 lq1 lx4 lx5 G
def hJ17_hashCode_4 (j : JX) (Λ : JLam) (p0 : Int32) (q1_ : Option Nat) (p2 : Int32) (p3 : Int32) (G : HG) (post : Int32 → HG → Prop) : Prop :=
  ∃ n, hJ17_hashCode_4_l8 j Λ p2 p3 post n p0 q1_ (p2 + p3) p2 G
abbrev rhJ17_hashCode_4 (fr lo : Nat) : Room := { frames := fr + 1, cells := 0, slots := 0, locals := lo + 40 }
theorem mhJ17_hashCode_4 (l : Launch) (Z : (Nat → Prop) → State → Heap → Prop) (D : va_G) (j : JX) (Λ : JLam) (fr lo : Nat) (E : JE l Z D j Λ fr lo) (p0 : Int32) (q1_ : Option Nat) (p2 : Int32) (p3 : Int32) (G : HG) (post : Int32 → HG → Prop) (hf : hJ17_hashCode_4 j Λ p0 q1_ p2 p3 G post) : HMi l yJ17_hashCode_4 (ws_ yJ17_hashCode_4 cJ17_hashCode_4 6 (some .int)) (rhJ17_hashCode_4 fr lo) D jC (jty j.1) Z G [.int p0, va_rf q1_, .int p2, .int p3] post 0 0 := by
  refine h_openi E.1 (by decide) (by cases q1_ <;> exact Nat.le_of_ble_eq_true rfl) (fun p e s m args below meth c ls A0 Q X hI hnd hnm hl hret => ?_)
  have X : XC p s m args meth c cJ17_hashCode_4 6 RJ17 D jC (jty j.1) A0 Z := X
  have hx := X.1
  have hb := X.2.1
  have hown := X.2.2.2.1
  have hts := X.2.2.2.2.1
  have L8 : ∀ (n : Nat) (lx0 : Int32) (lq1 : Option Nat) (lx4 : Int32) (lx5 : Int32) (G : HG), hJ17_hashCode_4_l8 j Λ p2 p3 post n lx0 lq1 lx4 lx5 G → ∀ (H : Heap) (locs : List Loc), HI D jC G A0 s.heap H locs → ∀ (ls : Array Slot), lv_has ls 6 [(0, .int lx0), (1, va_rf lq1), (4, .int lx4), (5, .int lx5)] → W p l e (rhJ17_hashCode_4 fr lo) s m args below meth c H locs 0 0 Q (F0 m 8 ls []) := by
    intro n8
    induction n8 with
    | zero => intro lx0 lq1 lx4 lx5 G hf; exact hf.elim
    | succ n8 ih8 =>
      intro lx0 lq1 lx4 lx5 G hf H locs hI ls hl
      have hf : hJ17_hashCode_4_b8 j Λ p2 p3 post (hJ17_hashCode_4_l8 j Λ p2 p3 post n8) lx0 lq1 lx4 lx5 G := hf
      unfold hJ17_hashCode_4_b8 at hf
      refine lv_iload hx hb dJ17_hashCode_4_8 (lv_at hl 3 rfl) ?_
      refine lv_iload hx hb dJ17_hashCode_4_10 (lv_at hl 2 rfl) ?_
      refine lv_icmp_ge (tgt := 31) hx hb dJ17_hashCode_4_12 (by decide) (fun c1 => ?_) (fun c1 => ?_)
      · have hf := hf.1 c1
        refine lv_iload_n hx hb dJ17_hashCode_4_31 rfl (lv_at hl 0 rfl) ?_
        exact hret hf hI dJ17_hashCode_4_32 (Nat.le_refl _) (Nat.le_refl _)
      · have hf := hf.2 c1
        refine lv_bipush (v := 31) hx hb dJ17_hashCode_4_15 (by decide) ?_
        refine lv_iload_n hx hb dJ17_hashCode_4_17 rfl (lv_at hl 0 rfl) ?_
        refine lv_imul hx hb dJ17_hashCode_4_18 ?_
        refine h_aload_n (o := lq1) hx hb dJ17_hashCode_4_19 rfl (lv_at hl 1 rfl) ?_
        refine lv_iload hx hb dJ17_hashCode_4_20 (lv_at hl 3 rfl) ?_
        obtain ⟨a2, ea2, hf⟩ := hf
        revert hl hf
        subst ea2
        intro hl hf
        have hl : lv_has ls 6 [(0, .int lx0), (1, .ref a2), (4, .int lx4), (5, .int lx5)] := hl
        refine hr_ild X hI 0 rfl hf dJ17_hashCode_4_22 (fun x3 hf => ?_)
        refine lv_iadd hx hb dJ17_hashCode_4_23 ?_
        obtain ⟨v4, ev4⟩ : ∃ v4, v4 = (((31 : Int32) * lx0) + x3) := ⟨_, rfl⟩
        have hf := hf v4 ev4
        rw [← ev4]
        clear ev4
        refine lv_istore_n (lv' := [(0, .int v4), (1, .ref a2), (4, .int lx4), (5, .int lx5)]) hx hb dJ17_hashCode_4_24 rfl hl (by decide) rfl (fun ls hl => ?_)
        refine lv_iinc (v := lx5 + 1) (lv' := [(5, .int (lx5 + 1)), (0, .int v4), (1, .ref a2), (4, .int lx4)]) hx hb dJ17_hashCode_4_25 hl (k := 3) rfl rfl (by decide) rfl (fun ls hl => ?_)
        refine lv_goto (tgt := 8) hx hb dJ17_hashCode_4_28 (by decide) ?_
        exact ih8 v4 (some a2) lx4 (lx5 + 1) G hf H locs hI ls (lv_sub hl [1, 2, 3, 0] rfl)
  have hl : lv_has ls 6 [(0, .int p0), (1, va_rf q1_), (2, .int p2), (3, .int p3)] := by cases q1_ <;> exact hl
  unfold hJ17_hashCode_4 at hf
  obtain ⟨H, eH⟩ : ∃ H, H = s.heap := ⟨_, rfl⟩
  obtain ⟨locs, eL⟩ : ∃ locs : List Loc, locs = [] := ⟨_, rfl⟩
  have hI : HI D jC G A0 s.heap H locs := by rw [eH, eL]; exact hI
  rw [← eL]
  suffices h : W p l e (rhJ17_hashCode_4 fr lo) s m args below meth c H locs 0 0 Q (F0 m 0 ls []) by rw [eH] at h; exact h
  clear eH eL
  refine lv_iload_n hx hb dJ17_hashCode_4_0 rfl (lv_at hl 2 rfl) ?_
  refine lv_iload_n hx hb dJ17_hashCode_4_1 rfl (lv_at hl 3 rfl) ?_
  refine lv_iadd hx hb dJ17_hashCode_4_2 ?_
  refine lv_istore (lv' := [(4, .int (p2 + p3)), (0, .int p0), (1, va_rf q1_), (2, .int p2), (3, .int p3)]) hx hb dJ17_hashCode_4_3 hl (by decide) rfl (fun ls hl => ?_)
  refine lv_iload_n hx hb dJ17_hashCode_4_5 rfl (lv_at hl 3 rfl) ?_
  refine lv_istore (lv' := [(5, .int p2), (4, .int (p2 + p3)), (0, .int p0), (1, va_rf q1_), (2, .int p2), (3, .int p3)]) hx hb dJ17_hashCode_4_6 hl (by decide) rfl (fun ls hl => ?_)
  obtain ⟨n, hf⟩ := hf
  exact L8 n p0 q1_ (p2 + p3) p2 G hf H locs hI ls (lv_sub hl [2, 3, 1, 0] rfl)
/-! java/lang/StringLatin1.length([B)I -/
def hJ16_length (j : JX) (Λ : JLam) (q0_ : Option Nat) (G : HG) (post : Int32 → HG → Prop) : Prop :=
  nnq q0_ fun a1 => aln (jty j.1) G a1 fun x2 => post x2 G
abbrev rhJ16_length (fr lo : Nat) : Room := { frames := fr + 1, cells := 0, slots := 0, locals := lo + 40 }
theorem mhJ16_length (l : Launch) (Z : (Nat → Prop) → State → Heap → Prop) (D : va_G) (j : JX) (Λ : JLam) (fr lo : Nat) (E : JE l Z D j Λ fr lo) (q0_ : Option Nat) (G : HG) (post : Int32 → HG → Prop) (hf : hJ16_length j Λ q0_ G post) : HMi l yJ16_length (ws_ yJ16_length cJ16_length 1 (some .int)) (rhJ16_length fr lo) D jC (jty j.1) Z G [va_rf q0_] post 0 0 := by
  refine h_openi E.1 (by decide) (by cases q0_ <;> exact Nat.le_of_ble_eq_true rfl) (fun p e s m args below meth c ls A0 Q X hI hnd hnm hl hret => ?_)
  have X : XC p s m args meth c cJ16_length 1 RJ16 D jC (jty j.1) A0 Z := X
  have hx := X.1
  have hb := X.2.1
  have hown := X.2.2.2.1
  have hts := X.2.2.2.2.1
  have hl : lv_has ls 1 [(0, va_rf q0_)] := by cases q0_ <;> exact hl
  unfold hJ16_length at hf
  obtain ⟨H, eH⟩ : ∃ H, H = s.heap := ⟨_, rfl⟩
  obtain ⟨locs, eL⟩ : ∃ locs : List Loc, locs = [] := ⟨_, rfl⟩
  have hI : HI D jC G A0 s.heap H locs := by rw [eH, eL]; exact hI
  rw [← eL]
  suffices h : W p l e (rhJ16_length fr lo) s m args below meth c H locs 0 0 Q (F0 m 0 ls []) by rw [eH] at h; exact h
  clear eH eL
  refine h_aload_n (o := q0_) hx hb dJ16_length_0 rfl (lv_at hl 0 rfl) ?_
  obtain ⟨a1, ea1, hf⟩ := hf
  revert hl hf
  subst ea1
  intro hl hf
  have hl : lv_has ls 1 [(0, .ref a1)] := hl
  refine hr_aln X hI hf dJ16_length_1 (fun x2 hf => ?_)
  exact hret hf hI dJ16_length_2 (Nat.le_refl _) (Nat.le_refl _)
/-! java/lang/StringLatin1.equals([B[B)Z -/
def hJ16_equals_b9 (j : JX) (Λ : JLam) (post : Int32 → HG → Prop) (K9 : Nat → Nat → Int32 → HG → Prop) (la0 : Nat) (la1 : Nat) (lx2 : Int32) (G : HG) : Prop :=
  aln (jty j.1) G la0 fun x6 => (x6 ≤ lx2 → (post (1 : Int32) G)) ∧ (¬ x6 ≤ lx2 → (ldI G la0 (j.1 2) lx2 fun x8 => ldI G la1 (j.1 2) lx2 fun x9 => (x8 = x9 → (K9 la0 la1 (lx2 + 1) G)) ∧ (¬ x8 = x9 → (post (0 : Int32) G))))
def hJ16_equals_l9 (j : JX) (Λ : JLam) (post : Int32 → HG → Prop) : Nat → Nat → Nat → Int32 → HG → Prop
  | 0 => fun _ _ _ _ => False
  | n + 1 => fun la0 la1 lx2 G => hJ16_equals_b9 j Λ post (hJ16_equals_l9 j Λ post n) la0 la1 lx2 G
def hJ16_equals (j : JX) (Λ : JLam) (q0_ : Option Nat) (q1_ : Option Nat) (G : HG) (post : Int32 → HG → Prop) : Prop :=
  nnq q0_ fun a1 => aln (jty j.1) G a1 fun x2 => nnq q1_ fun a3 => aln (jty j.1) G a3 fun x4 => (x2 = x4 → (∃ n, hJ16_equals_l9 j Λ post n a1 a3 (0 : Int32) G)) ∧ (¬ x2 = x4 → (post (0 : Int32) G))
abbrev rhJ16_equals (fr lo : Nat) : Room := { frames := fr + 1, cells := 0, slots := 0, locals := lo + 40 }
theorem mhJ16_equals (l : Launch) (Z : (Nat → Prop) → State → Heap → Prop) (D : va_G) (j : JX) (Λ : JLam) (fr lo : Nat) (E : JE l Z D j Λ fr lo) (q0_ : Option Nat) (q1_ : Option Nat) (G : HG) (post : Int32 → HG → Prop) (hf : hJ16_equals j Λ q0_ q1_ G post) : HMi l yJ16_equals (ws_ yJ16_equals cJ16_equals 3 (some .boolean)) (rhJ16_equals fr lo) D jC (jty j.1) Z G [va_rf q0_, va_rf q1_] post 0 0 := by
  refine h_openz E.1 (by decide) (by cases q0_ <;> cases q1_ <;> exact Nat.le_of_ble_eq_true rfl) (fun p e s m args below meth c ls A0 Q X hI hnd hnm hl hret => ?_)
  have X : XC p s m args meth c cJ16_equals 3 RJ16 D jC (jty j.1) A0 Z := X
  have hx := X.1
  have hb := X.2.1
  have hown := X.2.2.2.1
  have hts := X.2.2.2.2.1
  have L9 : ∀ (n : Nat) (la0 : Nat) (la1 : Nat) (lx2 : Int32) (G : HG), hJ16_equals_l9 j Λ post n la0 la1 lx2 G → ∀ (H : Heap) (locs : List Loc), HI D jC G A0 s.heap H locs → ∀ (ls : Array Slot), lv_has ls 3 [(0, .ref la0), (1, .ref la1), (2, .int lx2)] → W p l e (rhJ16_equals fr lo) s m args below meth c H locs 0 0 Q (F0 m 9 ls []) := by
    intro n9
    induction n9 with
    | zero => intro la0 la1 lx2 G hf; exact hf.elim
    | succ n9 ih9 =>
      intro la0 la1 lx2 G hf H locs hI ls hl
      have hf : hJ16_equals_b9 j Λ post (hJ16_equals_l9 j Λ post n9) la0 la1 lx2 G := hf
      unfold hJ16_equals_b9 at hf
      refine lv_iload_n hx hb dJ16_equals_9 rfl (lv_at hl 2 rfl) ?_
      refine lv_aload_n hx hb dJ16_equals_10 rfl (lv_at hl 0 rfl) ?_
      refine hr_aln X hI hf dJ16_equals_11 (fun x6 hf => ?_)
      refine lv_icmp_ge (tgt := 32) hx hb dJ16_equals_12 (by decide) (fun c7 => ?_) (fun c7 => ?_)
      · have hf := hf.1 c7
        refine lv_iconst (v := 1) hx hb dJ16_equals_32 (by decide) ?_
        exact hret rfl hf hI dJ16_equals_33 (Nat.le_refl _) (Nat.le_refl _)
      · have hf := hf.2 c7
        refine lv_aload_n hx hb dJ16_equals_15 rfl (lv_at hl 0 rfl) ?_
        refine lv_iload_n hx hb dJ16_equals_16 rfl (lv_at hl 2 rfl) ?_
        refine hr_bld X hI 2 rfl hf dJ16_equals_17 (fun x8 hf => ?_)
        refine lv_aload_n hx hb dJ16_equals_18 rfl (lv_at hl 1 rfl) ?_
        refine lv_iload_n hx hb dJ16_equals_19 rfl (lv_at hl 2 rfl) ?_
        refine hr_bld X hI 2 rfl hf dJ16_equals_20 (fun x9 hf => ?_)
        refine lv_icmp_eq (tgt := 26) hx hb dJ16_equals_21 (by decide) (fun c10 => ?_) (fun c10 => ?_)
        · have hf := hf.1 c10
          refine lv_iinc (v := lx2 + 1) (lv' := [(2, .int (lx2 + 1)), (0, .ref la0), (1, .ref la1)]) hx hb dJ16_equals_26 hl (k := 2) rfl rfl (by decide) rfl (fun ls hl => ?_)
          refine lv_goto (tgt := 9) hx hb dJ16_equals_29 (by decide) ?_
          exact ih9 la0 la1 (lx2 + 1) G hf H locs hI ls (lv_sub hl [1, 2, 0] rfl)
        · have hf := hf.2 c10
          refine lv_iconst (v := 0) hx hb dJ16_equals_24 (by decide) ?_
          exact hret rfl hf hI dJ16_equals_25 (Nat.le_refl _) (Nat.le_refl _)
  have hl : lv_has ls 3 [(0, va_rf q0_), (1, va_rf q1_)] := by cases q0_ <;> cases q1_ <;> exact hl
  unfold hJ16_equals at hf
  obtain ⟨H, eH⟩ : ∃ H, H = s.heap := ⟨_, rfl⟩
  obtain ⟨locs, eL⟩ : ∃ locs : List Loc, locs = [] := ⟨_, rfl⟩
  have hI : HI D jC G A0 s.heap H locs := by rw [eH, eL]; exact hI
  rw [← eL]
  suffices h : W p l e (rhJ16_equals fr lo) s m args below meth c H locs 0 0 Q (F0 m 0 ls []) by rw [eH] at h; exact h
  clear eH eL
  refine h_aload_n (o := q0_) hx hb dJ16_equals_0 rfl (lv_at hl 0 rfl) ?_
  obtain ⟨a1, ea1, hf⟩ := hf
  revert hl hf
  subst ea1
  intro hl hf
  have hl : lv_has ls 3 [(0, .ref a1), (1, va_rf q1_)] := hl
  refine hr_aln X hI hf dJ16_equals_1 (fun x2 hf => ?_)
  refine h_aload_n (o := q1_) hx hb dJ16_equals_2 rfl (lv_at hl 1 rfl) ?_
  obtain ⟨a3, ea3, hf⟩ := hf
  revert hl hf
  subst ea3
  intro hl hf
  have hl : lv_has ls 3 [(0, .ref a1), (1, .ref a3)] := hl
  refine hr_aln X hI hf dJ16_equals_3 (fun x4 hf => ?_)
  refine lv_icmp_ne (tgt := 34) hx hb dJ16_equals_4 (by decide) (fun c5 => ?_) (fun c5 => ?_)
  · have hf := hf.2 c5
    refine lv_iconst (v := 0) hx hb dJ16_equals_34 (by decide) ?_
    exact hret rfl hf hI dJ16_equals_35 (Nat.le_refl _) (Nat.le_refl _)
  · have hf := hf.1 c5
    refine lv_iconst (v := 0) hx hb dJ16_equals_7 (by decide) ?_
    refine lv_istore_n (lv' := [(2, .int 0), (0, .ref a1), (1, .ref a3)]) hx hb dJ16_equals_8 rfl hl (by decide) rfl (fun ls hl => ?_)
    obtain ⟨n, hf⟩ := hf
    exact L9 n a1 a3 (0 : Int32) G hf H locs hI ls (lv_sub hl [1, 2, 0] rfl)
/-! java/lang/AbstractStringBuilder.getValue()[B -/
def hJ6_getValue (j : JX) (Λ : JLam) (a0 : Nat) (G : HG) (post : Option Nat → HG → Prop) : Prop :=
  gtQ G a0 19 0 fun q1 => post q1 G
abbrev rhJ6_getValue (fr lo : Nat) : Room := { frames := fr + 1, cells := 0, slots := 0, locals := lo + 40 }
theorem mhJ6_getValue (l : Launch) (Z : (Nat → Prop) → State → Heap → Prop) (D : va_G) (j : JX) (Λ : JLam) (fr lo : Nat) (E : JE l Z D j Λ fr lo) (a0 : Nat) (G : HG) (post : Option Nat → HG → Prop) (hf : hJ6_getValue j Λ a0 G post) : HMq l yJ6_getValue (ws_ yJ6_getValue cJ6_getValue 1 (some (.array .byte))) (rhJ6_getValue fr lo) D jC (jty j.1) Z G [.ref a0] post 0 0 := by
  refine h_openq (Or.inr ⟨_, rfl⟩) E.1 (by decide) (by exact Nat.le_of_ble_eq_true rfl) (fun p e s m args below meth c ls A0 Q X hI hnd hnm hl hret => ?_)
  have X : XC p s m args meth c cJ6_getValue 1 RJ6 D jC (jty j.1) A0 Z := X
  have hx := X.1
  have hb := X.2.1
  have hown := X.2.2.2.1
  have hts := X.2.2.2.2.1
  have hl : lv_has ls 1 [(0, .ref a0)] := by exact hl
  unfold hJ6_getValue at hf
  obtain ⟨H, eH⟩ : ∃ H, H = s.heap := ⟨_, rfl⟩
  obtain ⟨locs, eL⟩ : ∃ locs : List Loc, locs = [] := ⟨_, rfl⟩
  have hI : HI D jC G A0 s.heap H locs := by rw [eH, eL]; exact hI
  rw [← eL]
  suffices h : W p l e (rhJ6_getValue fr lo) s m args below meth c H locs 0 0 Q (F0 m 0 ls []) by rw [eH] at h; exact h
  clear eH eL
  refine lv_aload_n hx hb dJ6_getValue_0 rfl (lv_at hl 0 rfl) ?_
  refine hr_gtQ X hI (rfl : jC.1[19]? = some (RJ7, TJ7, 4)) in_J7 0 (Nat.le_of_ble_eq_true rfl) hf q792 (fun _ h => h) dJ6_getValue_1 (fun q1 hf => ?_)
  exact hret (v := q1) hf hI dJ6_getValue_4 (Nat.le_refl _) (Nat.le_refl _)
/-! java/lang/AbstractStringBuilder.length()I -/
def hJ6_length (j : JX) (Λ : JLam) (a0 : Nat) (G : HG) (post : Int32 → HG → Prop) : Prop :=
  gtI G a0 19 3 fun x1 => post x1 G
abbrev rhJ6_length (fr lo : Nat) : Room := { frames := fr + 1, cells := 0, slots := 0, locals := lo + 40 }
theorem mhJ6_length (l : Launch) (Z : (Nat → Prop) → State → Heap → Prop) (D : va_G) (j : JX) (Λ : JLam) (fr lo : Nat) (E : JE l Z D j Λ fr lo) (a0 : Nat) (G : HG) (post : Int32 → HG → Prop) (hf : hJ6_length j Λ a0 G post) : HMi l yJ6_length (ws_ yJ6_length cJ6_length 1 (some .int)) (rhJ6_length fr lo) D jC (jty j.1) Z G [.ref a0] post 0 0 := by
  refine h_openi E.1 (by decide) (by exact Nat.le_of_ble_eq_true rfl) (fun p e s m args below meth c ls A0 Q X hI hnd hnm hl hret => ?_)
  have X : XC p s m args meth c cJ6_length 1 RJ6 D jC (jty j.1) A0 Z := X
  have hx := X.1
  have hb := X.2.1
  have hown := X.2.2.2.1
  have hts := X.2.2.2.2.1
  have hl : lv_has ls 1 [(0, .ref a0)] := by exact hl
  unfold hJ6_length at hf
  obtain ⟨H, eH⟩ : ∃ H, H = s.heap := ⟨_, rfl⟩
  obtain ⟨locs, eL⟩ : ∃ locs : List Loc, locs = [] := ⟨_, rfl⟩
  have hI : HI D jC G A0 s.heap H locs := by rw [eH, eL]; exact hI
  rw [← eL]
  suffices h : W p l e (rhJ6_length fr lo) s m args below meth c H locs 0 0 Q (F0 m 0 ls []) by rw [eH] at h; exact h
  clear eH eL
  refine lv_aload_n hx hb dJ6_length_0 rfl (lv_at hl 0 rfl) ?_
  refine hr_gtI X hI (rfl : jC.1[19]? = some (RJ7, TJ7, 4)) in_J7 3 (Nat.le_of_ble_eq_true rfl) hf q796 (fun _ h => h) dJ6_length_1 (fun x1 hf => ?_)
  exact hret hf hI dJ6_length_4 (Nat.le_refl _) (Nat.le_refl _)
/-! java/lang/StringLatin1.canEncode(C)Z -/
def hJ16_canEncode (j : JX) (Λ : JLam) (p0 : Int32) (G : HG) (post : Int32 → HG → Prop) : Prop :=
  ((255 : Int32) < p0 → (post (0 : Int32) G)) ∧ (¬ (255 : Int32) < p0 → (post (1 : Int32) G))
abbrev rhJ16_canEncode (fr lo : Nat) : Room := { frames := fr + 1, cells := 0, slots := 0, locals := lo + 40 }
theorem mhJ16_canEncode (l : Launch) (Z : (Nat → Prop) → State → Heap → Prop) (D : va_G) (j : JX) (Λ : JLam) (fr lo : Nat) (E : JE l Z D j Λ fr lo) (p0 : Int32) (G : HG) (post : Int32 → HG → Prop) (hf : hJ16_canEncode j Λ p0 G post) : HMi l yJ16_canEncode (ws_ yJ16_canEncode cJ16_canEncode 1 (some .boolean)) (rhJ16_canEncode fr lo) D jC (jty j.1) Z G [.int p0] post 0 0 := by
  refine h_openz E.1 (by decide) (by exact Nat.le_of_ble_eq_true rfl) (fun p e s m args below meth c ls A0 Q X hI hnd hnm hl hret => ?_)
  have X : XC p s m args meth c cJ16_canEncode 1 RJ16 D jC (jty j.1) A0 Z := X
  have hx := X.1
  have hb := X.2.1
  have hown := X.2.2.2.1
  have hts := X.2.2.2.2.1
  have hl : lv_has ls 1 [(0, .int p0)] := by exact hl
  unfold hJ16_canEncode at hf
  obtain ⟨H, eH⟩ : ∃ H, H = s.heap := ⟨_, rfl⟩
  obtain ⟨locs, eL⟩ : ∃ locs : List Loc, locs = [] := ⟨_, rfl⟩
  have hI : HI D jC G A0 s.heap H locs := by rw [eH, eL]; exact hI
  rw [← eL]
  suffices h : W p l e (rhJ16_canEncode fr lo) s m args below meth c H locs 0 0 Q (F0 m 0 ls []) by rw [eH] at h; exact h
  clear eH eL
  refine lv_iload_n hx hb dJ16_canEncode_0 rfl (lv_at hl 0 rfl) ?_
  refine lv_sipush (v := 255) hx hb dJ16_canEncode_1 (by decide) ?_
  refine lv_icmp_gt (tgt := 11) hx hb dJ16_canEncode_4 (by decide) (fun c1 => ?_) (fun c1 => ?_)
  · have hf := hf.1 c1
    refine lv_iconst (v := 0) hx hb dJ16_canEncode_11 (by decide) ?_
    exact hret rfl hf hI dJ16_canEncode_12 (Nat.le_refl _) (Nat.le_refl _)
  · have hf := hf.2 c1
    refine lv_iconst (v := 1) hx hb dJ16_canEncode_7 (by decide) ?_
    refine lv_goto (tgt := 12) hx hb dJ16_canEncode_8 (by decide) ?_
    exact hret rfl hf hI dJ16_canEncode_12 (Nat.le_refl _) (Nat.le_refl _)
/-! java/util/ArrayList.size()I -/
def hJ2_size (j : JX) (Λ : JLam) (a0 : Nat) (G : HG) (post : Int32 → HG → Prop) : Prop :=
  gtI G a0 15 2 fun x1 => post x1 G
abbrev rhJ2_size (fr lo : Nat) : Room := { frames := fr + 1, cells := 0, slots := 0, locals := lo + 40 }
theorem mhJ2_size (l : Launch) (Z : (Nat → Prop) → State → Heap → Prop) (D : va_G) (j : JX) (Λ : JLam) (fr lo : Nat) (E : JE l Z D j Λ fr lo) (a0 : Nat) (G : HG) (post : Int32 → HG → Prop) (hf : hJ2_size j Λ a0 G post) : HMi l yJ2_size (ws_ yJ2_size cJ2_size 1 (some .int)) (rhJ2_size fr lo) D jC (jty j.1) Z G [.ref a0] post 0 0 := by
  refine h_openi E.1 (by decide) (by exact Nat.le_of_ble_eq_true rfl) (fun p e s m args below meth c ls A0 Q X hI hnd hnm hl hret => ?_)
  have X : XC p s m args meth c cJ2_size 1 RJ2 D jC (jty j.1) A0 Z := X
  have hx := X.1
  have hb := X.2.1
  have hown := X.2.2.2.1
  have hts := X.2.2.2.2.1
  have hl : lv_has ls 1 [(0, .ref a0)] := by exact hl
  unfold hJ2_size at hf
  obtain ⟨H, eH⟩ : ∃ H, H = s.heap := ⟨_, rfl⟩
  obtain ⟨locs, eL⟩ : ∃ locs : List Loc, locs = [] := ⟨_, rfl⟩
  have hI : HI D jC G A0 s.heap H locs := by rw [eH, eL]; exact hI
  rw [← eL]
  suffices h : W p l e (rhJ2_size fr lo) s m args below meth c H locs 0 0 Q (F0 m 0 ls []) by rw [eH] at h; exact h
  clear eH eL
  refine lv_aload_n hx hb dJ2_size_0 rfl (lv_at hl 0 rfl) ?_
  refine hr_gtI X hI (rfl : jC.1[15]? = some (RJ2, TJ2, 3)) in_J2 2 (Nat.le_of_ble_eq_true rfl) hf q460 (fun _ h => h) dJ2_size_1 (fun x1 hf => ?_)
  exact hret hf hI dJ2_size_4 (Nat.le_refl _) (Nat.le_refl _)
/-! java/util/ArrayList.elementData(I)Ljava/lang/Object; -/
def hJ2_elementData (j : JX) (Λ : JLam) (a0 : Nat) (p1 : Int32) (G : HG) (post : Option Nat → HG → Prop) : Prop :=
  gtQ G a0 15 1 fun q1 => nnq q1 fun a2 => ldQ (jty j.1) G a2 p1 fun q3 => post q3 G
abbrev rhJ2_elementData (fr lo : Nat) : Room := { frames := fr + 1, cells := 0, slots := 0, locals := lo + 40 }
theorem mhJ2_elementData (l : Launch) (Z : (Nat → Prop) → State → Heap → Prop) (D : va_G) (j : JX) (Λ : JLam) (fr lo : Nat) (E : JE l Z D j Λ fr lo) (a0 : Nat) (p1 : Int32) (G : HG) (post : Option Nat → HG → Prop) (hf : hJ2_elementData j Λ a0 p1 G post) : HMq l yJ2_elementData (ws_ yJ2_elementData cJ2_elementData 2 (some (.object "java/lang/Object"))) (rhJ2_elementData fr lo) D jC (jty j.1) Z G [.ref a0, .int p1] post 0 0 := by
  refine h_openq (Or.inl ⟨_, rfl⟩) E.1 (by decide) (by exact Nat.le_of_ble_eq_true rfl) (fun p e s m args below meth c ls A0 Q X hI hnd hnm hl hret => ?_)
  have X : XC p s m args meth c cJ2_elementData 2 RJ2 D jC (jty j.1) A0 Z := X
  have hx := X.1
  have hb := X.2.1
  have hown := X.2.2.2.1
  have hts := X.2.2.2.2.1
  have hl : lv_has ls 2 [(0, .ref a0), (1, .int p1)] := by exact hl
  unfold hJ2_elementData at hf
  obtain ⟨H, eH⟩ : ∃ H, H = s.heap := ⟨_, rfl⟩
  obtain ⟨locs, eL⟩ : ∃ locs : List Loc, locs = [] := ⟨_, rfl⟩
  have hI : HI D jC G A0 s.heap H locs := by rw [eH, eL]; exact hI
  rw [← eL]
  suffices h : W p l e (rhJ2_elementData fr lo) s m args below meth c H locs 0 0 Q (F0 m 0 ls []) by rw [eH] at h; exact h
  clear eH eL
  refine lv_aload_n hx hb dJ2_elementData_0 rfl (lv_at hl 0 rfl) ?_
  refine hr_gtQ X hI (rfl : jC.1[15]? = some (RJ2, TJ2, 3)) in_J2 1 (Nat.le_of_ble_eq_true rfl) hf q459 (fun _ h => h) dJ2_elementData_1 (fun q1 hf => ?_)
  refine lv_iload_n hx hb dJ2_elementData_4 rfl (lv_at hl 1 rfl) ?_
  obtain ⟨a2, ea2, hf⟩ := hf
  revert hl hf
  subst ea2
  intro hl hf
  have hl : lv_has ls 2 [(0, .ref a0), (1, .int p1)] := hl
  refine hr_qld X hI hf dJ2_elementData_5 (fun q3 hf => ?_)
  exact hret (v := q3) hf hI dJ2_elementData_6 (Nat.le_refl _) (Nat.le_refl _)
/-! java/util/ArrayList.isEmpty()Z -/
def hJ2_isEmpty (j : JX) (Λ : JLam) (a0 : Nat) (G : HG) (post : Int32 → HG → Prop) : Prop :=
  gtI G a0 15 2 fun x1 => (x1 = 0 → (post (1 : Int32) G)) ∧ (¬ x1 = 0 → (post (0 : Int32) G))
abbrev rhJ2_isEmpty (fr lo : Nat) : Room := { frames := fr + 1, cells := 0, slots := 0, locals := lo + 40 }
theorem mhJ2_isEmpty (l : Launch) (Z : (Nat → Prop) → State → Heap → Prop) (D : va_G) (j : JX) (Λ : JLam) (fr lo : Nat) (E : JE l Z D j Λ fr lo) (a0 : Nat) (G : HG) (post : Int32 → HG → Prop) (hf : hJ2_isEmpty j Λ a0 G post) : HMi l yJ2_isEmpty (ws_ yJ2_isEmpty cJ2_isEmpty 1 (some .boolean)) (rhJ2_isEmpty fr lo) D jC (jty j.1) Z G [.ref a0] post 0 0 := by
  refine h_openz E.1 (by decide) (by exact Nat.le_of_ble_eq_true rfl) (fun p e s m args below meth c ls A0 Q X hI hnd hnm hl hret => ?_)
  have X : XC p s m args meth c cJ2_isEmpty 1 RJ2 D jC (jty j.1) A0 Z := X
  have hx := X.1
  have hb := X.2.1
  have hown := X.2.2.2.1
  have hts := X.2.2.2.2.1
  have hl : lv_has ls 1 [(0, .ref a0)] := by exact hl
  unfold hJ2_isEmpty at hf
  obtain ⟨H, eH⟩ : ∃ H, H = s.heap := ⟨_, rfl⟩
  obtain ⟨locs, eL⟩ : ∃ locs : List Loc, locs = [] := ⟨_, rfl⟩
  have hI : HI D jC G A0 s.heap H locs := by rw [eH, eL]; exact hI
  rw [← eL]
  suffices h : W p l e (rhJ2_isEmpty fr lo) s m args below meth c H locs 0 0 Q (F0 m 0 ls []) by rw [eH] at h; exact h
  clear eH eL
  refine lv_aload_n hx hb dJ2_isEmpty_0 rfl (lv_at hl 0 rfl) ?_
  refine hr_gtI X hI (rfl : jC.1[15]? = some (RJ2, TJ2, 3)) in_J2 2 (Nat.le_of_ble_eq_true rfl) hf q460 (fun _ h => h) dJ2_isEmpty_1 (fun x1 hf => ?_)
  refine lv_if_ne (tgt := 11) hx hb dJ2_isEmpty_4 (by decide) (fun c2 => ?_) (fun c2 => ?_)
  · have hf := hf.2 c2
    refine lv_iconst (v := 0) hx hb dJ2_isEmpty_11 (by decide) ?_
    exact hret rfl hf hI dJ2_isEmpty_12 (Nat.le_refl _) (Nat.le_refl _)
  · have hf := hf.1 c2
    refine lv_iconst (v := 1) hx hb dJ2_isEmpty_7 (by decide) ?_
    refine lv_goto (tgt := 12) hx hb dJ2_isEmpty_8 (by decide) ?_
    exact hret rfl hf hI dJ2_isEmpty_12 (Nat.le_refl _) (Nat.le_refl _)
/-! java/util/HashMap$TreeNode.rotateLeft(Ljava/util/HashMap$TreeNode;Ljava/util/HashMap$TreeNode;)Ljava/util/HashMap$TreeNode; -/
def hJ23_rotateLeft_b79 (j : JX) (Λ : JLam) (post : Option Nat → HG → Prop) (lq0 : Option Nat) (la1 : Nat) (la2 : Nat) (G : HG) : Prop :=
  ptV G la2 18 7 (.ref la1) fun G20 => ptV G20 la1 18 6 (.ref la2) fun G21 => post lq0 G21
def hJ23_rotateLeft_b34 (j : JX) (Λ : JLam) (post : Option Nat → HG → Prop) (lq0 : Option Nat) (la1 : Nat) (la2 : Nat) (G : HG) : Prop :=
  gtQ G la1 18 6 fun q11 => ptV G la2 18 6 (va_rf q11) fun G12 => (q11 = none → (ptV G12 la2 18 10 (.int 0) fun G15 => hJ23_rotateLeft_b79 j Λ post (some la2) la1 la2 G15)) ∧ (∀ a14, q11 = some a14 → (gtQ G12 a14 18 7 fun q16 => (q16 = (some la1) → (ptV G12 a14 18 7 (.ref la2) fun G19 => hJ23_rotateLeft_b79 j Λ post lq0 la1 la2 G19)) ∧ (¬ q16 = (some la1) → (ptV G12 a14 18 8 (.ref la2) fun G18 => hJ23_rotateLeft_b79 j Λ post lq0 la1 la2 G18))))
def hJ23_rotateLeft (j : JX) (Λ : JLam) (q0_ : Option Nat) (q1_ : Option Nat) (G : HG) (post : Option Nat → HG → Prop) : Prop :=
  (q1_ = none → (post q0_ G)) ∧ (∀ a2, q1_ = some a2 → (gtQ G a2 18 8 fun q3 => (q3 = none → (post q0_ G)) ∧ (∀ a5, q3 = some a5 → (gtQ G a5 18 7 fun q6 => ptV G a2 18 8 (va_rf q6) fun G7 => (q6 = none → (hJ23_rotateLeft_b34 j Λ post q0_ a2 a5 G7)) ∧ (∀ a9, q6 = some a9 → (ptV G7 a9 18 6 (.ref a2) fun G10 => hJ23_rotateLeft_b34 j Λ post q0_ a2 a5 G10))))))
abbrev rhJ23_rotateLeft (fr lo : Nat) : Room := { frames := fr + 1, cells := 0, slots := 0, locals := lo + 40 }
theorem mhJ23_rotateLeft (l : Launch) (Z : (Nat → Prop) → State → Heap → Prop) (D : va_G) (j : JX) (Λ : JLam) (fr lo : Nat) (E : JE l Z D j Λ fr lo) (q0_ : Option Nat) (q1_ : Option Nat) (G : HG) (post : Option Nat → HG → Prop) (hf : hJ23_rotateLeft j Λ q0_ q1_ G post) : HMq l yJ23_rotateLeft (ws_ yJ23_rotateLeft cJ23_rotateLeft 5 (some (.object "java/util/HashMap$TreeNode"))) (rhJ23_rotateLeft fr lo) D jC (jty j.1) Z G [va_rf q0_, va_rf q1_] post 0 0 := by
  refine h_openq (Or.inl ⟨_, rfl⟩) E.1 (by decide) (by cases q0_ <;> cases q1_ <;> exact Nat.le_of_ble_eq_true rfl) (fun p e s m args below meth c ls A0 Q X hI hnd hnm hl hret => ?_)
  have X : XC p s m args meth c cJ23_rotateLeft 5 RJ23 D jC (jty j.1) A0 Z := X
  have hx := X.1
  have hb := X.2.1
  have hown := X.2.2.2.1
  have hts := X.2.2.2.2.1
  have J79 : ∀ (lq0 : Option Nat) (la1 : Nat) (la2 : Nat) (G : HG), hJ23_rotateLeft_b79 j Λ post lq0 la1 la2 G → ∀ (H : Heap) (locs : List Loc), HI D jC G A0 s.heap H locs → ∀ (ls : Array Slot), lv_has ls 5 [(0, va_rf lq0), (1, .ref la1), (2, .ref la2)] → W p l e (rhJ23_rotateLeft fr lo) s m args below meth c H locs 0 0 Q (F0 m 79 ls []) := by
    intro lq0 la1 la2 G hf H locs hI ls hl
    unfold hJ23_rotateLeft_b79 at hf
    refine lv_aload_n hx hb dJ23_rotateLeft_79 rfl (lv_at hl 2 rfl) ?_
    refine lv_aload_n hx hb dJ23_rotateLeft_80 rfl (lv_at hl 1 rfl) ?_
    refine hr_pt X hI (rfl : jC.1[18]? = some (RJ23, TJ23, 11)) in_J23 7 (Nat.le_of_ble_eq_true rfl) tyJ23 tyJ23_ok nmJ23 hf q1345 (fun _ h => h) rfl rfl rfl dJ23_rotateLeft_81 (fun G20 H locs hf hI => ?_)
    refine lv_aload_n hx hb dJ23_rotateLeft_84 rfl (lv_at hl 1 rfl) ?_
    refine lv_aload_n hx hb dJ23_rotateLeft_85 rfl (lv_at hl 2 rfl) ?_
    refine hr_pt X hI (rfl : jC.1[18]? = some (RJ23, TJ23, 11)) in_J23 6 (Nat.le_of_ble_eq_true rfl) tyJ23 tyJ23_ok nmJ23 hf q1344 (fun _ h => h) rfl rfl rfl dJ23_rotateLeft_86 (fun G21 H locs hf hI => ?_)
    refine h_aload_n (o := lq0) hx hb dJ23_rotateLeft_89 rfl (lv_at hl 0 rfl) ?_
    exact hret (v := lq0) hf hI dJ23_rotateLeft_90 (Nat.le_refl _) (Nat.le_refl _)
  have J34 : ∀ (lq0 : Option Nat) (la1 : Nat) (la2 : Nat) (G : HG), hJ23_rotateLeft_b34 j Λ post lq0 la1 la2 G → ∀ (H : Heap) (locs : List Loc), HI D jC G A0 s.heap H locs → ∀ (ls : Array Slot), lv_has ls 5 [(0, va_rf lq0), (1, .ref la1), (2, .ref la2)] → W p l e (rhJ23_rotateLeft fr lo) s m args below meth c H locs 0 0 Q (F0 m 34 ls []) := by
    intro lq0 la1 la2 G hf H locs hI ls hl
    unfold hJ23_rotateLeft_b34 at hf
    refine lv_aload_n hx hb dJ23_rotateLeft_34 rfl (lv_at hl 2 rfl) ?_
    refine lv_aload_n hx hb dJ23_rotateLeft_35 rfl (lv_at hl 1 rfl) ?_
    refine hr_gtQ X hI (rfl : jC.1[18]? = some (RJ23, TJ23, 11)) in_J23 6 (Nat.le_of_ble_eq_true rfl) hf q1344 (fun _ h => h) dJ23_rotateLeft_36 (fun q11 hf => ?_)
    refine lv_dup_x1 hx hb dJ23_rotateLeft_39 (h_catq _) rfl ?_
    refine hr_pt X hI (rfl : jC.1[18]? = some (RJ23, TJ23, 11)) in_J23 6 (Nat.le_of_ble_eq_true rfl) tyJ23 tyJ23_ok nmJ23 hf q1344 (fun _ h => h) rfl (nar_o _ _) (fit_o _ _) dJ23_rotateLeft_40 (fun G12 H locs hf hI => ?_)
    refine lv_dup hx hb dJ23_rotateLeft_43 (h_catq _) ?_
    refine h_astore_n (o := q11) (lv' := [(3, va_rf q11), (0, va_rf lq0), (1, .ref la1), (2, .ref la2)]) hx hb dJ23_rotateLeft_44 rfl hl (by decide) rfl (fun ls hl => ?_)
    refine h_ifnonnull (tgt := 58) hx hb dJ23_rotateLeft_45 (by decide) (fun a14 c13 => ?_) (fun c13 => ?_)
    · have hf := hf.2 a14 c13
      revert hl hf
      subst c13
      intro hl hf
      have hl : lv_has ls 5 [(3, .ref a14), (0, va_rf lq0), (1, .ref la1), (2, .ref la2)] := hl
      refine lv_aload_n hx hb dJ23_rotateLeft_58 rfl (lv_at hl 0 rfl) ?_
      refine hr_gtQ X hI (rfl : jC.1[18]? = some (RJ23, TJ23, 11)) in_J23 7 (Nat.le_of_ble_eq_true rfl) hf q1345 (fun _ h => h) dJ23_rotateLeft_59 (fun q16 hf => ?_)
      refine lv_aload_n hx hb dJ23_rotateLeft_62 rfl (lv_at hl 2 rfl) ?_
      refine lv_acmp_ne (rx := q16) (ry := (some la1)) (tgt := 74) hx hb dJ23_rotateLeft_63 (by decide) (fun c17 => ?_) (fun c17 => ?_)
      · have hf := hf.2 c17
        refine lv_aload_n hx hb dJ23_rotateLeft_74 rfl (lv_at hl 0 rfl) ?_
        refine lv_aload_n hx hb dJ23_rotateLeft_75 rfl (lv_at hl 3 rfl) ?_
        refine hr_pt X hI (rfl : jC.1[18]? = some (RJ23, TJ23, 11)) in_J23 8 (Nat.le_of_ble_eq_true rfl) tyJ23 tyJ23_ok nmJ23 hf q1346 (fun _ h => h) rfl rfl rfl dJ23_rotateLeft_76 (fun G18 H locs hf hI => ?_)
        exact J79 lq0 la1 la2 G18 hf H locs hI ls (lv_sub hl [1, 2, 3] rfl)
      · have hf := hf.1 c17
        refine lv_aload_n hx hb dJ23_rotateLeft_66 rfl (lv_at hl 0 rfl) ?_
        refine lv_aload_n hx hb dJ23_rotateLeft_67 rfl (lv_at hl 3 rfl) ?_
        refine hr_pt X hI (rfl : jC.1[18]? = some (RJ23, TJ23, 11)) in_J23 7 (Nat.le_of_ble_eq_true rfl) tyJ23 tyJ23_ok nmJ23 hf q1345 (fun _ h => h) rfl rfl rfl dJ23_rotateLeft_68 (fun G19 H locs hf hI => ?_)
        refine lv_goto (tgt := 79) hx hb dJ23_rotateLeft_71 (by decide) ?_
        exact J79 lq0 la1 la2 G19 hf H locs hI ls (lv_sub hl [1, 2, 3] rfl)
    · have hf := hf.1 c13
      revert hl hf
      subst c13
      intro hl hf
      have hl : lv_has ls 5 [(3, va_rf none), (0, va_rf lq0), (1, .ref la1), (2, .ref la2)] := hl
      refine lv_aload_n hx hb dJ23_rotateLeft_48 rfl (lv_at hl 3 rfl) ?_
      refine lv_dup hx hb dJ23_rotateLeft_49 rfl ?_
      refine lv_astore_n (lv' := [(0, .ref la2), (3, va_rf none), (1, .ref la1), (2, .ref la2)]) hx hb dJ23_rotateLeft_50 rfl hl (by decide) rfl (fun ls hl => ?_)
      refine lv_iconst (v := 0) hx hb dJ23_rotateLeft_51 (by decide) ?_
      refine hr_pt X hI (rfl : jC.1[18]? = some (RJ23, TJ23, 11)) in_J23 10 (Nat.le_of_ble_eq_true rfl) tyJ23 tyJ23_ok nmJ23 hf q1349 (fun _ h => h) rfl rfl rfl dJ23_rotateLeft_52 (fun G15 H locs hf hI => ?_)
      refine lv_goto (tgt := 79) hx hb dJ23_rotateLeft_55 (by decide) ?_
      exact J79 (some la2) la1 la2 G15 hf H locs hI ls (lv_sub hl [0, 2, 3] rfl)
  have hl : lv_has ls 5 [(0, va_rf q0_), (1, va_rf q1_)] := by cases q0_ <;> cases q1_ <;> exact hl
  unfold hJ23_rotateLeft at hf
  obtain ⟨H, eH⟩ : ∃ H, H = s.heap := ⟨_, rfl⟩
  obtain ⟨locs, eL⟩ : ∃ locs : List Loc, locs = [] := ⟨_, rfl⟩
  have hI : HI D jC G A0 s.heap H locs := by rw [eH, eL]; exact hI
  rw [← eL]
  suffices h : W p l e (rhJ23_rotateLeft fr lo) s m args below meth c H locs 0 0 Q (F0 m 0 ls []) by rw [eH] at h; exact h
  clear eH eL
  refine h_aload_n (o := q1_) hx hb dJ23_rotateLeft_0 rfl (lv_at hl 1 rfl) ?_
  refine h_ifnull (tgt := 89) hx hb dJ23_rotateLeft_1 (by decide) (fun c1 => ?_) (fun a2 c1 => ?_)
  · have hf := hf.1 c1
    revert hl hf
    subst c1
    intro hl hf
    have hl : lv_has ls 5 [(0, va_rf q0_), (1, va_rf none)] := hl
    refine h_aload_n (o := q0_) hx hb dJ23_rotateLeft_89 rfl (lv_at hl 0 rfl) ?_
    exact hret (v := q0_) hf hI dJ23_rotateLeft_90 (Nat.le_refl _) (Nat.le_refl _)
  · have hf := hf.2 a2 c1
    revert hl hf
    subst c1
    intro hl hf
    have hl : lv_has ls 5 [(0, va_rf q0_), (1, .ref a2)] := hl
    refine lv_aload_n hx hb dJ23_rotateLeft_4 rfl (lv_at hl 1 rfl) ?_
    refine hr_gtQ X hI (rfl : jC.1[18]? = some (RJ23, TJ23, 11)) in_J23 8 (Nat.le_of_ble_eq_true rfl) hf q1346 (fun _ h => h) dJ23_rotateLeft_5 (fun q3 hf => ?_)
    refine lv_dup hx hb dJ23_rotateLeft_8 (h_catq _) ?_
    refine h_astore_n (o := q3) (lv' := [(2, va_rf q3), (0, va_rf q0_), (1, .ref a2)]) hx hb dJ23_rotateLeft_9 rfl hl (by decide) rfl (fun ls hl => ?_)
    refine h_ifnull (tgt := 89) hx hb dJ23_rotateLeft_10 (by decide) (fun c4 => ?_) (fun a5 c4 => ?_)
    · have hf := hf.1 c4
      revert hl hf
      subst c4
      intro hl hf
      have hl : lv_has ls 5 [(2, va_rf none), (0, va_rf q0_), (1, .ref a2)] := hl
      refine h_aload_n (o := q0_) hx hb dJ23_rotateLeft_89 rfl (lv_at hl 1 rfl) ?_
      exact hret (v := q0_) hf hI dJ23_rotateLeft_90 (Nat.le_refl _) (Nat.le_refl _)
    · have hf := hf.2 a5 c4
      revert hl hf
      subst c4
      intro hl hf
      have hl : lv_has ls 5 [(2, .ref a5), (0, va_rf q0_), (1, .ref a2)] := hl
      refine lv_aload_n hx hb dJ23_rotateLeft_13 rfl (lv_at hl 2 rfl) ?_
      refine lv_aload_n hx hb dJ23_rotateLeft_14 rfl (lv_at hl 0 rfl) ?_
      refine hr_gtQ X hI (rfl : jC.1[18]? = some (RJ23, TJ23, 11)) in_J23 7 (Nat.le_of_ble_eq_true rfl) hf q1345 (fun _ h => h) dJ23_rotateLeft_15 (fun q6 hf => ?_)
      refine lv_dup_x1 hx hb dJ23_rotateLeft_18 (h_catq _) rfl ?_
      refine hr_pt X hI (rfl : jC.1[18]? = some (RJ23, TJ23, 11)) in_J23 8 (Nat.le_of_ble_eq_true rfl) tyJ23 tyJ23_ok nmJ23 hf q1346 (fun _ h => h) rfl (nar_o _ _) (fit_o _ _) dJ23_rotateLeft_19 (fun G7 H locs hf hI => ?_)
      refine lv_dup hx hb dJ23_rotateLeft_22 (h_catq _) ?_
      refine h_astore (o := q6) (lv' := [(4, va_rf q6), (2, .ref a5), (0, va_rf q0_), (1, .ref a2)]) hx hb dJ23_rotateLeft_23 hl (by decide) rfl (fun ls hl => ?_)
      refine h_ifnull (tgt := 34) hx hb dJ23_rotateLeft_25 (by decide) (fun c8 => ?_) (fun a9 c8 => ?_)
      · have hf := hf.1 c8
        revert hl hf
        subst c8
        intro hl hf
        have hl : lv_has ls 5 [(4, va_rf none), (2, .ref a5), (0, va_rf q0_), (1, .ref a2)] := hl
        exact J34 q0_ a2 a5 G7 hf H locs hI ls (lv_sub hl [2, 3, 1] rfl)
      · have hf := hf.2 a9 c8
        revert hl hf
        subst c8
        intro hl hf
        have hl : lv_has ls 5 [(4, .ref a9), (2, .ref a5), (0, va_rf q0_), (1, .ref a2)] := hl
        refine lv_aload hx hb dJ23_rotateLeft_28 (lv_at hl 0 rfl) ?_
        refine lv_aload_n hx hb dJ23_rotateLeft_30 rfl (lv_at hl 3 rfl) ?_
        refine hr_pt X hI (rfl : jC.1[18]? = some (RJ23, TJ23, 11)) in_J23 6 (Nat.le_of_ble_eq_true rfl) tyJ23 tyJ23_ok nmJ23 hf q1344 (fun _ h => h) rfl rfl rfl dJ23_rotateLeft_31 (fun G10 H locs hf hI => ?_)
        exact J34 q0_ a2 a5 G10 hf H locs hI ls (lv_sub hl [2, 3, 1] rfl)
/-! java/util/HashMap$TreeNode.rotateRight(Ljava/util/HashMap$TreeNode;Ljava/util/HashMap$TreeNode;)Ljava/util/HashMap$TreeNode; -/
def hJ23_rotateRight_b79 (j : JX) (Λ : JLam) (post : Option Nat → HG → Prop) (lq0 : Option Nat) (la1 : Nat) (la2 : Nat) (G : HG) : Prop :=
  ptV G la2 18 8 (.ref la1) fun G20 => ptV G20 la1 18 6 (.ref la2) fun G21 => post lq0 G21
def hJ23_rotateRight_b34 (j : JX) (Λ : JLam) (post : Option Nat → HG → Prop) (lq0 : Option Nat) (la1 : Nat) (la2 : Nat) (G : HG) : Prop :=
  gtQ G la1 18 6 fun q11 => ptV G la2 18 6 (va_rf q11) fun G12 => (q11 = none → (ptV G12 la2 18 10 (.int 0) fun G15 => hJ23_rotateRight_b79 j Λ post (some la2) la1 la2 G15)) ∧ (∀ a14, q11 = some a14 → (gtQ G12 a14 18 8 fun q16 => (q16 = (some la1) → (ptV G12 a14 18 8 (.ref la2) fun G19 => hJ23_rotateRight_b79 j Λ post lq0 la1 la2 G19)) ∧ (¬ q16 = (some la1) → (ptV G12 a14 18 7 (.ref la2) fun G18 => hJ23_rotateRight_b79 j Λ post lq0 la1 la2 G18))))
def hJ23_rotateRight (j : JX) (Λ : JLam) (q0_ : Option Nat) (q1_ : Option Nat) (G : HG) (post : Option Nat → HG → Prop) : Prop :=
  (q1_ = none → (post q0_ G)) ∧ (∀ a2, q1_ = some a2 → (gtQ G a2 18 7 fun q3 => (q3 = none → (post q0_ G)) ∧ (∀ a5, q3 = some a5 → (gtQ G a5 18 8 fun q6 => ptV G a2 18 7 (va_rf q6) fun G7 => (q6 = none → (hJ23_rotateRight_b34 j Λ post q0_ a2 a5 G7)) ∧ (∀ a9, q6 = some a9 → (ptV G7 a9 18 6 (.ref a2) fun G10 => hJ23_rotateRight_b34 j Λ post q0_ a2 a5 G10))))))
abbrev rhJ23_rotateRight (fr lo : Nat) : Room := { frames := fr + 1, cells := 0, slots := 0, locals := lo + 40 }
theorem mhJ23_rotateRight (l : Launch) (Z : (Nat → Prop) → State → Heap → Prop) (D : va_G) (j : JX) (Λ : JLam) (fr lo : Nat) (E : JE l Z D j Λ fr lo) (q0_ : Option Nat) (q1_ : Option Nat) (G : HG) (post : Option Nat → HG → Prop) (hf : hJ23_rotateRight j Λ q0_ q1_ G post) : HMq l yJ23_rotateRight (ws_ yJ23_rotateRight cJ23_rotateRight 5 (some (.object "java/util/HashMap$TreeNode"))) (rhJ23_rotateRight fr lo) D jC (jty j.1) Z G [va_rf q0_, va_rf q1_] post 0 0 := by
  refine h_openq (Or.inl ⟨_, rfl⟩) E.1 (by decide) (by cases q0_ <;> cases q1_ <;> exact Nat.le_of_ble_eq_true rfl) (fun p e s m args below meth c ls A0 Q X hI hnd hnm hl hret => ?_)
  have X : XC p s m args meth c cJ23_rotateRight 5 RJ23 D jC (jty j.1) A0 Z := X
  have hx := X.1
  have hb := X.2.1
  have hown := X.2.2.2.1
  have hts := X.2.2.2.2.1
  have J79 : ∀ (lq0 : Option Nat) (la1 : Nat) (la2 : Nat) (G : HG), hJ23_rotateRight_b79 j Λ post lq0 la1 la2 G → ∀ (H : Heap) (locs : List Loc), HI D jC G A0 s.heap H locs → ∀ (ls : Array Slot), lv_has ls 5 [(0, va_rf lq0), (1, .ref la1), (2, .ref la2)] → W p l e (rhJ23_rotateRight fr lo) s m args below meth c H locs 0 0 Q (F0 m 79 ls []) := by
    intro lq0 la1 la2 G hf H locs hI ls hl
    unfold hJ23_rotateRight_b79 at hf
    refine lv_aload_n hx hb dJ23_rotateRight_79 rfl (lv_at hl 2 rfl) ?_
    refine lv_aload_n hx hb dJ23_rotateRight_80 rfl (lv_at hl 1 rfl) ?_
    refine hr_pt X hI (rfl : jC.1[18]? = some (RJ23, TJ23, 11)) in_J23 8 (Nat.le_of_ble_eq_true rfl) tyJ23 tyJ23_ok nmJ23 hf q1346 (fun _ h => h) rfl rfl rfl dJ23_rotateRight_81 (fun G20 H locs hf hI => ?_)
    refine lv_aload_n hx hb dJ23_rotateRight_84 rfl (lv_at hl 1 rfl) ?_
    refine lv_aload_n hx hb dJ23_rotateRight_85 rfl (lv_at hl 2 rfl) ?_
    refine hr_pt X hI (rfl : jC.1[18]? = some (RJ23, TJ23, 11)) in_J23 6 (Nat.le_of_ble_eq_true rfl) tyJ23 tyJ23_ok nmJ23 hf q1344 (fun _ h => h) rfl rfl rfl dJ23_rotateRight_86 (fun G21 H locs hf hI => ?_)
    refine h_aload_n (o := lq0) hx hb dJ23_rotateRight_89 rfl (lv_at hl 0 rfl) ?_
    exact hret (v := lq0) hf hI dJ23_rotateRight_90 (Nat.le_refl _) (Nat.le_refl _)
  have J34 : ∀ (lq0 : Option Nat) (la1 : Nat) (la2 : Nat) (G : HG), hJ23_rotateRight_b34 j Λ post lq0 la1 la2 G → ∀ (H : Heap) (locs : List Loc), HI D jC G A0 s.heap H locs → ∀ (ls : Array Slot), lv_has ls 5 [(0, va_rf lq0), (1, .ref la1), (2, .ref la2)] → W p l e (rhJ23_rotateRight fr lo) s m args below meth c H locs 0 0 Q (F0 m 34 ls []) := by
    intro lq0 la1 la2 G hf H locs hI ls hl
    unfold hJ23_rotateRight_b34 at hf
    refine lv_aload_n hx hb dJ23_rotateRight_34 rfl (lv_at hl 2 rfl) ?_
    refine lv_aload_n hx hb dJ23_rotateRight_35 rfl (lv_at hl 1 rfl) ?_
    refine hr_gtQ X hI (rfl : jC.1[18]? = some (RJ23, TJ23, 11)) in_J23 6 (Nat.le_of_ble_eq_true rfl) hf q1344 (fun _ h => h) dJ23_rotateRight_36 (fun q11 hf => ?_)
    refine lv_dup_x1 hx hb dJ23_rotateRight_39 (h_catq _) rfl ?_
    refine hr_pt X hI (rfl : jC.1[18]? = some (RJ23, TJ23, 11)) in_J23 6 (Nat.le_of_ble_eq_true rfl) tyJ23 tyJ23_ok nmJ23 hf q1344 (fun _ h => h) rfl (nar_o _ _) (fit_o _ _) dJ23_rotateRight_40 (fun G12 H locs hf hI => ?_)
    refine lv_dup hx hb dJ23_rotateRight_43 (h_catq _) ?_
    refine h_astore_n (o := q11) (lv' := [(3, va_rf q11), (0, va_rf lq0), (1, .ref la1), (2, .ref la2)]) hx hb dJ23_rotateRight_44 rfl hl (by decide) rfl (fun ls hl => ?_)
    refine h_ifnonnull (tgt := 58) hx hb dJ23_rotateRight_45 (by decide) (fun a14 c13 => ?_) (fun c13 => ?_)
    · have hf := hf.2 a14 c13
      revert hl hf
      subst c13
      intro hl hf
      have hl : lv_has ls 5 [(3, .ref a14), (0, va_rf lq0), (1, .ref la1), (2, .ref la2)] := hl
      refine lv_aload_n hx hb dJ23_rotateRight_58 rfl (lv_at hl 0 rfl) ?_
      refine hr_gtQ X hI (rfl : jC.1[18]? = some (RJ23, TJ23, 11)) in_J23 8 (Nat.le_of_ble_eq_true rfl) hf q1346 (fun _ h => h) dJ23_rotateRight_59 (fun q16 hf => ?_)
      refine lv_aload_n hx hb dJ23_rotateRight_62 rfl (lv_at hl 2 rfl) ?_
      refine lv_acmp_ne (rx := q16) (ry := (some la1)) (tgt := 74) hx hb dJ23_rotateRight_63 (by decide) (fun c17 => ?_) (fun c17 => ?_)
      · have hf := hf.2 c17
        refine lv_aload_n hx hb dJ23_rotateRight_74 rfl (lv_at hl 0 rfl) ?_
        refine lv_aload_n hx hb dJ23_rotateRight_75 rfl (lv_at hl 3 rfl) ?_
        refine hr_pt X hI (rfl : jC.1[18]? = some (RJ23, TJ23, 11)) in_J23 7 (Nat.le_of_ble_eq_true rfl) tyJ23 tyJ23_ok nmJ23 hf q1345 (fun _ h => h) rfl rfl rfl dJ23_rotateRight_76 (fun G18 H locs hf hI => ?_)
        exact J79 lq0 la1 la2 G18 hf H locs hI ls (lv_sub hl [1, 2, 3] rfl)
      · have hf := hf.1 c17
        refine lv_aload_n hx hb dJ23_rotateRight_66 rfl (lv_at hl 0 rfl) ?_
        refine lv_aload_n hx hb dJ23_rotateRight_67 rfl (lv_at hl 3 rfl) ?_
        refine hr_pt X hI (rfl : jC.1[18]? = some (RJ23, TJ23, 11)) in_J23 8 (Nat.le_of_ble_eq_true rfl) tyJ23 tyJ23_ok nmJ23 hf q1346 (fun _ h => h) rfl rfl rfl dJ23_rotateRight_68 (fun G19 H locs hf hI => ?_)
        refine lv_goto (tgt := 79) hx hb dJ23_rotateRight_71 (by decide) ?_
        exact J79 lq0 la1 la2 G19 hf H locs hI ls (lv_sub hl [1, 2, 3] rfl)
    · have hf := hf.1 c13
      revert hl hf
      subst c13
      intro hl hf
      have hl : lv_has ls 5 [(3, va_rf none), (0, va_rf lq0), (1, .ref la1), (2, .ref la2)] := hl
      refine lv_aload_n hx hb dJ23_rotateRight_48 rfl (lv_at hl 3 rfl) ?_
      refine lv_dup hx hb dJ23_rotateRight_49 rfl ?_
      refine lv_astore_n (lv' := [(0, .ref la2), (3, va_rf none), (1, .ref la1), (2, .ref la2)]) hx hb dJ23_rotateRight_50 rfl hl (by decide) rfl (fun ls hl => ?_)
      refine lv_iconst (v := 0) hx hb dJ23_rotateRight_51 (by decide) ?_
      refine hr_pt X hI (rfl : jC.1[18]? = some (RJ23, TJ23, 11)) in_J23 10 (Nat.le_of_ble_eq_true rfl) tyJ23 tyJ23_ok nmJ23 hf q1349 (fun _ h => h) rfl rfl rfl dJ23_rotateRight_52 (fun G15 H locs hf hI => ?_)
      refine lv_goto (tgt := 79) hx hb dJ23_rotateRight_55 (by decide) ?_
      exact J79 (some la2) la1 la2 G15 hf H locs hI ls (lv_sub hl [0, 2, 3] rfl)
  have hl : lv_has ls 5 [(0, va_rf q0_), (1, va_rf q1_)] := by cases q0_ <;> cases q1_ <;> exact hl
  unfold hJ23_rotateRight at hf
  obtain ⟨H, eH⟩ : ∃ H, H = s.heap := ⟨_, rfl⟩
  obtain ⟨locs, eL⟩ : ∃ locs : List Loc, locs = [] := ⟨_, rfl⟩
  have hI : HI D jC G A0 s.heap H locs := by rw [eH, eL]; exact hI
  rw [← eL]
  suffices h : W p l e (rhJ23_rotateRight fr lo) s m args below meth c H locs 0 0 Q (F0 m 0 ls []) by rw [eH] at h; exact h
  clear eH eL
  refine h_aload_n (o := q1_) hx hb dJ23_rotateRight_0 rfl (lv_at hl 1 rfl) ?_
  refine h_ifnull (tgt := 89) hx hb dJ23_rotateRight_1 (by decide) (fun c1 => ?_) (fun a2 c1 => ?_)
  · have hf := hf.1 c1
    revert hl hf
    subst c1
    intro hl hf
    have hl : lv_has ls 5 [(0, va_rf q0_), (1, va_rf none)] := hl
    refine h_aload_n (o := q0_) hx hb dJ23_rotateRight_89 rfl (lv_at hl 0 rfl) ?_
    exact hret (v := q0_) hf hI dJ23_rotateRight_90 (Nat.le_refl _) (Nat.le_refl _)
  · have hf := hf.2 a2 c1
    revert hl hf
    subst c1
    intro hl hf
    have hl : lv_has ls 5 [(0, va_rf q0_), (1, .ref a2)] := hl
    refine lv_aload_n hx hb dJ23_rotateRight_4 rfl (lv_at hl 1 rfl) ?_
    refine hr_gtQ X hI (rfl : jC.1[18]? = some (RJ23, TJ23, 11)) in_J23 7 (Nat.le_of_ble_eq_true rfl) hf q1345 (fun _ h => h) dJ23_rotateRight_5 (fun q3 hf => ?_)
    refine lv_dup hx hb dJ23_rotateRight_8 (h_catq _) ?_
    refine h_astore_n (o := q3) (lv' := [(2, va_rf q3), (0, va_rf q0_), (1, .ref a2)]) hx hb dJ23_rotateRight_9 rfl hl (by decide) rfl (fun ls hl => ?_)
    refine h_ifnull (tgt := 89) hx hb dJ23_rotateRight_10 (by decide) (fun c4 => ?_) (fun a5 c4 => ?_)
    · have hf := hf.1 c4
      revert hl hf
      subst c4
      intro hl hf
      have hl : lv_has ls 5 [(2, va_rf none), (0, va_rf q0_), (1, .ref a2)] := hl
      refine h_aload_n (o := q0_) hx hb dJ23_rotateRight_89 rfl (lv_at hl 1 rfl) ?_
      exact hret (v := q0_) hf hI dJ23_rotateRight_90 (Nat.le_refl _) (Nat.le_refl _)
    · have hf := hf.2 a5 c4
      revert hl hf
      subst c4
      intro hl hf
      have hl : lv_has ls 5 [(2, .ref a5), (0, va_rf q0_), (1, .ref a2)] := hl
      refine lv_aload_n hx hb dJ23_rotateRight_13 rfl (lv_at hl 2 rfl) ?_
      refine lv_aload_n hx hb dJ23_rotateRight_14 rfl (lv_at hl 0 rfl) ?_
      refine hr_gtQ X hI (rfl : jC.1[18]? = some (RJ23, TJ23, 11)) in_J23 8 (Nat.le_of_ble_eq_true rfl) hf q1346 (fun _ h => h) dJ23_rotateRight_15 (fun q6 hf => ?_)
      refine lv_dup_x1 hx hb dJ23_rotateRight_18 (h_catq _) rfl ?_
      refine hr_pt X hI (rfl : jC.1[18]? = some (RJ23, TJ23, 11)) in_J23 7 (Nat.le_of_ble_eq_true rfl) tyJ23 tyJ23_ok nmJ23 hf q1345 (fun _ h => h) rfl (nar_o _ _) (fit_o _ _) dJ23_rotateRight_19 (fun G7 H locs hf hI => ?_)
      refine lv_dup hx hb dJ23_rotateRight_22 (h_catq _) ?_
      refine h_astore (o := q6) (lv' := [(4, va_rf q6), (2, .ref a5), (0, va_rf q0_), (1, .ref a2)]) hx hb dJ23_rotateRight_23 hl (by decide) rfl (fun ls hl => ?_)
      refine h_ifnull (tgt := 34) hx hb dJ23_rotateRight_25 (by decide) (fun c8 => ?_) (fun a9 c8 => ?_)
      · have hf := hf.1 c8
        revert hl hf
        subst c8
        intro hl hf
        have hl : lv_has ls 5 [(4, va_rf none), (2, .ref a5), (0, va_rf q0_), (1, .ref a2)] := hl
        exact J34 q0_ a2 a5 G7 hf H locs hI ls (lv_sub hl [2, 3, 1] rfl)
      · have hf := hf.2 a9 c8
        revert hl hf
        subst c8
        intro hl hf
        have hl : lv_has ls 5 [(4, .ref a9), (2, .ref a5), (0, va_rf q0_), (1, .ref a2)] := hl
        refine lv_aload hx hb dJ23_rotateRight_28 (lv_at hl 0 rfl) ?_
        refine lv_aload_n hx hb dJ23_rotateRight_30 rfl (lv_at hl 3 rfl) ?_
        refine hr_pt X hI (rfl : jC.1[18]? = some (RJ23, TJ23, 11)) in_J23 6 (Nat.le_of_ble_eq_true rfl) tyJ23 tyJ23_ok nmJ23 hf q1344 (fun _ h => h) rfl rfl rfl dJ23_rotateRight_31 (fun G10 H locs hf hI => ?_)
        exact J34 q0_ a2 a5 G10 hf H locs hI ls (lv_sub hl [2, 3, 1] rfl)
/-! java/util/HashMap$TreeNode.balanceInsertion(Ljava/util/HashMap$TreeNode;Ljava/util/HashMap$TreeNode;)Ljava/util/HashMap$TreeNode; -/
def hJ23_balanceInsertion_b218 (j : JX) (Λ : JLam) (post : Option Nat → HG → Prop) (K5 : Option Nat → Nat → HG → Prop) (lq0 : Option Nat) (la1 : Nat) (lq2 : Option Nat) (lq3 : Option Nat) (G : HG) : Prop :=
  (lq2 = none → (K5 lq0 la1 G)) ∧ (∀ a46, lq2 = some a46 → (ptV G a46 18 10 (.int 0) fun G47 => (lq3 = none → (K5 lq0 la1 G47)) ∧ (∀ a49, lq3 = some a49 → (ptV G47 a49 18 10 (.int 1) fun G50 => hJ23_rotateLeft j Λ lq0 (some a49) G50 fun q52 G51 => K5 q52 la1 G51))))
def hJ23_balanceInsertion_b217 (j : JX) (Λ : JLam) (post : Option Nat → HG → Prop) (K5 : Option Nat → Nat → HG → Prop) (lq0 : Option Nat) (la1 : Nat) (lq2 : Option Nat) (z0 : Option Nat) (G : HG) : Prop :=
  hJ23_balanceInsertion_b218 j Λ post K5 lq0 la1 lq2 z0 G
def hJ23_balanceInsertion_b184 (j : JX) (Λ : JLam) (post : Option Nat → HG → Prop) (K5 : Option Nat → Nat → HG → Prop) (lq0 : Option Nat) (la1 : Nat) (la2 : Nat) (la3 : Nat) (G : HG) : Prop :=
  gtQ G la2 18 7 fun q29 => ((some la1) = q29 → (hJ23_rotateRight j Λ lq0 (some la2) G fun q32 G31 => gtQ G31 la2 18 6 fun q33 => (q33 = none → (hJ23_balanceInsertion_b217 j Λ post K5 q32 la2 none none G31)) ∧ (∀ a35, q33 = some a35 → (gtQ G31 a35 18 6 fun q36 => hJ23_balanceInsertion_b217 j Λ post K5 q32 la2 (some a35) q36 G31)))) ∧ (¬ (some la1) = q29 → (hJ23_balanceInsertion_b218 j Λ post K5 lq0 la1 (some la2) (some la3) G))
def hJ23_balanceInsertion_b123 (j : JX) (Λ : JLam) (post : Option Nat → HG → Prop) (K5 : Option Nat → Nat → HG → Prop) (lq0 : Option Nat) (la1 : Nat) (lq2 : Option Nat) (lq3 : Option Nat) (G : HG) : Prop :=
  (lq2 = none → (K5 lq0 la1 G)) ∧ (∀ a54, lq2 = some a54 → (ptV G a54 18 10 (.int 0) fun G55 => (lq3 = none → (K5 lq0 la1 G55)) ∧ (∀ a57, lq3 = some a57 → (ptV G55 a57 18 10 (.int 1) fun G58 => hJ23_rotateRight j Λ lq0 (some a57) G58 fun q60 G59 => K5 q60 la1 G59))))
def hJ23_balanceInsertion_b122 (j : JX) (Λ : JLam) (post : Option Nat → HG → Prop) (K5 : Option Nat → Nat → HG → Prop) (lq0 : Option Nat) (la1 : Nat) (lq2 : Option Nat) (z0 : Option Nat) (G : HG) : Prop :=
  hJ23_balanceInsertion_b123 j Λ post K5 lq0 la1 lq2 z0 G
def hJ23_balanceInsertion_b89 (j : JX) (Λ : JLam) (post : Option Nat → HG → Prop) (K5 : Option Nat → Nat → HG → Prop) (lq0 : Option Nat) (la1 : Nat) (la2 : Nat) (la3 : Nat) (G : HG) : Prop :=
  gtQ G la2 18 8 fun q37 => ((some la1) = q37 → (hJ23_rotateLeft j Λ lq0 (some la2) G fun q40 G39 => gtQ G39 la2 18 6 fun q41 => (q41 = none → (hJ23_balanceInsertion_b122 j Λ post K5 q40 la2 none none G39)) ∧ (∀ a43, q41 = some a43 → (gtQ G39 a43 18 6 fun q44 => hJ23_balanceInsertion_b122 j Λ post K5 q40 la2 (some a43) q44 G39)))) ∧ (¬ (some la1) = q37 → (hJ23_balanceInsertion_b123 j Λ post K5 lq0 la1 (some la2) (some la3) G))
def hJ23_balanceInsertion_b5 (j : JX) (Λ : JLam) (post : Option Nat → HG → Prop) (K5 : Option Nat → Nat → HG → Prop) (lq0 : Option Nat) (la1 : Nat) (G : HG) : Prop :=
  gtQ G la1 18 6 fun q3 => (q3 = none → (ptV G la1 18 10 (.int 0) fun G6 => post (some la1) G6)) ∧ (∀ a5, q3 = some a5 → (gtI G a5 18 10 fun x7 => (x7 = 0 → (post lq0 G)) ∧ (¬ x7 = 0 → (gtQ G a5 18 6 fun q9 => (q9 = none → (post lq0 G)) ∧ (∀ a11, q9 = some a11 → (gtQ G a11 18 7 fun q12 => ((some a5) = q12 → (gtQ G a11 18 8 fun q21 => (q21 = none → (hJ23_balanceInsertion_b89 j Λ post K5 lq0 la1 a5 a11 G)) ∧ (∀ a23, q21 = some a23 → (gtI G a23 18 10 fun x24 => (x24 = 0 → (hJ23_balanceInsertion_b89 j Λ post K5 lq0 la1 a5 a11 G)) ∧ (¬ x24 = 0 → (ptV G a23 18 10 (.int 0) fun G26 => ptV G26 a5 18 10 (.int 0) fun G27 => ptV G27 a11 18 10 (.int 1) fun G28 => K5 lq0 a11 G28)))))) ∧ (¬ (some a5) = q12 → ((q12 = none → (hJ23_balanceInsertion_b184 j Λ post K5 lq0 la1 a5 a11 G)) ∧ (∀ a15, q12 = some a15 → (gtI G a15 18 10 fun x16 => (x16 = 0 → (hJ23_balanceInsertion_b184 j Λ post K5 lq0 la1 a5 a11 G)) ∧ (¬ x16 = 0 → (ptV G a15 18 10 (.int 0) fun G18 => ptV G18 a5 18 10 (.int 0) fun G19 => ptV G19 a11 18 10 (.int 1) fun G20 => K5 lq0 a11 G20))))))))))))
def hJ23_balanceInsertion_l5 (j : JX) (Λ : JLam) (post : Option Nat → HG → Prop) : Nat → Option Nat → Nat → HG → Prop
  | 0 => fun _ _ _ => False
  | n + 1 => fun lq0 la1 G => hJ23_balanceInsertion_b5 j Λ post (hJ23_balanceInsertion_l5 j Λ post n) lq0 la1 G
def hJ23_balanceInsertion (j : JX) (Λ : JLam) (q0_ : Option Nat) (q1_ : Option Nat) (G : HG) (post : Option Nat → HG → Prop) : Prop :=
  nnq q1_ fun a1 => ptV G a1 18 10 (.int 1) fun G2 => ∃ n, hJ23_balanceInsertion_l5 j Λ post n q0_ a1 G2
abbrev rhJ23_balanceInsertion (fr lo : Nat) : Room := { frames := fr + 2, cells := 0, slots := 0, locals := lo + 64 }
theorem mhJ23_balanceInsertion (l : Launch) (Z : (Nat → Prop) → State → Heap → Prop) (D : va_G) (j : JX) (Λ : JLam) (fr lo : Nat) (E : JE l Z D j Λ fr lo) (q0_ : Option Nat) (q1_ : Option Nat) (G : HG) (post : Option Nat → HG → Prop) (hf : hJ23_balanceInsertion j Λ q0_ q1_ G post) : HMq l yJ23_balanceInsertion (ws_ yJ23_balanceInsertion cJ23_balanceInsertion 6 (some (.object "java/util/HashMap$TreeNode"))) (rhJ23_balanceInsertion fr lo) D jC (jty j.1) Z G [va_rf q0_, va_rf q1_] post 0 0 := by
  refine h_openq (Or.inl ⟨_, rfl⟩) E.1 (by decide) (by cases q0_ <;> cases q1_ <;> exact Nat.le_of_ble_eq_true rfl) (fun p e s m args below meth c ls A0 Q X hI hnd hnm hl hret => ?_)
  have X : XC p s m args meth c cJ23_balanceInsertion 6 RJ23 D jC (jty j.1) A0 Z := X
  have hx := X.1
  have hb := X.2.1
  have hown := X.2.2.2.1
  have hts := X.2.2.2.2.1
  have L5 : ∀ (n : Nat) (lq0 : Option Nat) (la1 : Nat) (G : HG), hJ23_balanceInsertion_l5 j Λ post n lq0 la1 G → ∀ (H : Heap) (locs : List Loc), HI D jC G A0 s.heap H locs → ∀ (ls : Array Slot), lv_has ls 6 [(0, va_rf lq0), (1, .ref la1)] → W p l e (rhJ23_balanceInsertion fr lo) s m args below meth c H locs 0 0 Q (F0 m 5 ls []) := by
    intro n5
    induction n5 with
    | zero => intro lq0 la1 G hf; exact hf.elim
    | succ n5 ih5 =>
      have J218 : ∀ (lq0 : Option Nat) (la1 : Nat) (lq2 : Option Nat) (lq3 : Option Nat) (G : HG), hJ23_balanceInsertion_b218 j Λ post (hJ23_balanceInsertion_l5 j Λ post n5) lq0 la1 lq2 lq3 G → ∀ (H : Heap) (locs : List Loc), HI D jC G A0 s.heap H locs → ∀ (ls : Array Slot), lv_has ls 6 [(0, va_rf lq0), (1, .ref la1), (2, va_rf lq2), (3, va_rf lq3)] → W p l e (rhJ23_balanceInsertion fr lo) s m args below meth c H locs 0 0 Q (F0 m 218 ls []) := by
        intro lq0 la1 lq2 lq3 G hf H locs hI ls hl
        unfold hJ23_balanceInsertion_b218 at hf
        refine h_aload_n (o := lq2) hx hb dJ23_balanceInsertion_218 rfl (lv_at hl 2 rfl) ?_
        refine h_ifnull (tgt := 5) hx hb dJ23_balanceInsertion_219 (by decide) (fun c45 => ?_) (fun a46 c45 => ?_)
        · have hf := hf.1 c45
          revert hl hf
          subst c45
          intro hl hf
          have hl : lv_has ls 6 [(0, va_rf lq0), (1, .ref la1), (2, va_rf none), (3, va_rf lq3)] := hl
          exact ih5 lq0 la1 G hf H locs hI ls (lv_sub hl [0, 1] rfl)
        · have hf := hf.2 a46 c45
          revert hl hf
          subst c45
          intro hl hf
          have hl : lv_has ls 6 [(0, va_rf lq0), (1, .ref la1), (2, .ref a46), (3, va_rf lq3)] := hl
          refine lv_aload_n hx hb dJ23_balanceInsertion_222 rfl (lv_at hl 2 rfl) ?_
          refine lv_iconst (v := 0) hx hb dJ23_balanceInsertion_223 (by decide) ?_
          refine hr_pt X hI (rfl : jC.1[18]? = some (RJ23, TJ23, 11)) in_J23 10 (Nat.le_of_ble_eq_true rfl) tyJ23 tyJ23_ok nmJ23 hf q1349 (fun _ h => h) rfl rfl rfl dJ23_balanceInsertion_224 (fun G47 H locs hf hI => ?_)
          refine h_aload_n (o := lq3) hx hb dJ23_balanceInsertion_227 rfl (lv_at hl 3 rfl) ?_
          refine h_ifnull (tgt := 5) hx hb dJ23_balanceInsertion_228 (by decide) (fun c48 => ?_) (fun a49 c48 => ?_)
          · have hf := hf.1 c48
            revert hl hf
            subst c48
            intro hl hf
            have hl : lv_has ls 6 [(0, va_rf lq0), (1, .ref la1), (2, .ref a46), (3, va_rf none)] := hl
            exact ih5 lq0 la1 G47 hf H locs hI ls (lv_sub hl [0, 1] rfl)
          · have hf := hf.2 a49 c48
            revert hl hf
            subst c48
            intro hl hf
            have hl : lv_has ls 6 [(0, va_rf lq0), (1, .ref la1), (2, .ref a46), (3, .ref a49)] := hl
            refine lv_aload_n hx hb dJ23_balanceInsertion_231 rfl (lv_at hl 3 rfl) ?_
            refine lv_iconst (v := 1) hx hb dJ23_balanceInsertion_232 (by decide) ?_
            refine hr_pt X hI (rfl : jC.1[18]? = some (RJ23, TJ23, 11)) in_J23 10 (Nat.le_of_ble_eq_true rfl) tyJ23 tyJ23_ok nmJ23 hf q1349 (fun _ h => h) rfl rfl rfl dJ23_balanceInsertion_233 (fun G50 H locs hf hI => ?_)
            refine h_aload_n (o := lq0) hx hb dJ23_balanceInsertion_236 rfl (lv_at hl 0 rfl) ?_
            refine lv_aload_n hx hb dJ23_balanceInsertion_237 rfl (lv_at hl 3 rfl) ?_
            refine h_kq X hI (h_runS (As := [va_rf lq0, va_rf (some a49)]) X hI (mhJ23_rotateLeft l Z D j Λ fr lo E lq0 (some a49) G50 _ hf H.size) (va_cwS 2 hts (lw_S q1260 q1261 q201 q1262) rfl rfl rfl (by decide +kernel) (by show fr + 1 + 1 ≤ fr + 2 ∧ 8 + (5 + 11) + (lo + 40) ≤ lo + 64; omega)) rfl hl.1 (Nat.le_of_ble_eq_true rfl) dJ23_balanceInsertion_238 ⟨Nat.le_refl _, Nat.le_refl _⟩ rfl) (fun q52 G51 H locs hf hI => ?_)
            refine h_astore_n (o := q52) (lv' := [(0, va_rf q52), (1, .ref la1), (2, .ref a46), (3, .ref a49)]) hx hb dJ23_balanceInsertion_241 rfl hl (by decide) rfl (fun ls hl => ?_)
            refine lv_goto (tgt := 5) hx hb dJ23_balanceInsertion_242 (by decide) ?_
            exact ih5 q52 la1 G51 hf H locs hI ls (lv_sub hl [0, 1] rfl)
      have J217 : ∀ (lq0 : Option Nat) (la1 : Nat) (lq2 : Option Nat) (z0 : Option Nat) (G : HG), hJ23_balanceInsertion_b217 j Λ post (hJ23_balanceInsertion_l5 j Λ post n5) lq0 la1 lq2 z0 G → ∀ (H : Heap) (locs : List Loc), HI D jC G A0 s.heap H locs → ∀ (ls : Array Slot), lv_has ls 6 [(0, va_rf lq0), (1, .ref la1), (2, va_rf lq2)] → W p l e (rhJ23_balanceInsertion fr lo) s m args below meth c H locs 0 0 Q (F0 m 217 ls [va_rf z0]) := by
        intro lq0 la1 lq2 z0 G hf H locs hI ls hl
        unfold hJ23_balanceInsertion_b217 at hf
        refine h_astore_n (o := z0) (lv' := [(3, va_rf z0), (0, va_rf lq0), (1, .ref la1), (2, va_rf lq2)]) hx hb dJ23_balanceInsertion_217 rfl hl (by decide) (by cases lq2 <;> rfl) (fun ls hl => ?_)
        exact J218 lq0 la1 lq2 z0 G hf H locs hI ls (lv_sub hl [1, 2, 3, 0] rfl)
      have J184 : ∀ (lq0 : Option Nat) (la1 : Nat) (la2 : Nat) (la3 : Nat) (G : HG), hJ23_balanceInsertion_b184 j Λ post (hJ23_balanceInsertion_l5 j Λ post n5) lq0 la1 la2 la3 G → ∀ (H : Heap) (locs : List Loc), HI D jC G A0 s.heap H locs → ∀ (ls : Array Slot), lv_has ls 6 [(0, va_rf lq0), (1, .ref la1), (2, .ref la2), (3, .ref la3)] → W p l e (rhJ23_balanceInsertion fr lo) s m args below meth c H locs 0 0 Q (F0 m 184 ls []) := by
        intro lq0 la1 la2 la3 G hf H locs hI ls hl
        unfold hJ23_balanceInsertion_b184 at hf
        refine lv_aload_n hx hb dJ23_balanceInsertion_184 rfl (lv_at hl 1 rfl) ?_
        refine lv_aload_n hx hb dJ23_balanceInsertion_185 rfl (lv_at hl 2 rfl) ?_
        refine hr_gtQ X hI (rfl : jC.1[18]? = some (RJ23, TJ23, 11)) in_J23 7 (Nat.le_of_ble_eq_true rfl) hf q1345 (fun _ h => h) dJ23_balanceInsertion_186 (fun q29 hf => ?_)
        refine lv_acmp_ne (rx := (some la1)) (ry := q29) (tgt := 218) hx hb dJ23_balanceInsertion_189 (by decide) (fun c30 => ?_) (fun c30 => ?_)
        · have hf := hf.2 c30
          exact J218 lq0 la1 (some la2) (some la3) G hf H locs hI ls (lv_sub hl [0, 1, 2, 3] rfl)
        · have hf := hf.1 c30
          refine h_aload_n (o := lq0) hx hb dJ23_balanceInsertion_192 rfl (lv_at hl 0 rfl) ?_
          refine lv_aload_n hx hb dJ23_balanceInsertion_193 rfl (lv_at hl 2 rfl) ?_
          refine lv_dup hx hb dJ23_balanceInsertion_194 rfl ?_
          refine lv_astore_n (lv' := [(1, .ref la2), (0, va_rf lq0), (2, .ref la2), (3, .ref la3)]) hx hb dJ23_balanceInsertion_195 rfl hl (by decide) (by cases lq0 <;> rfl) (fun ls hl => ?_)
          refine h_kq X hI (h_runS (As := [va_rf lq0, va_rf (some la2)]) X hI (mhJ23_rotateRight l Z D j Λ fr lo E lq0 (some la2) G _ hf H.size) (va_cwS 2 hts (lw_S q1263 q1264 q201 q1265) rfl rfl rfl (by decide +kernel) (by show fr + 1 + 1 ≤ fr + 2 ∧ 8 + (5 + 11) + (lo + 40) ≤ lo + 64; omega)) rfl hl.1 (Nat.le_of_ble_eq_true rfl) dJ23_balanceInsertion_196 ⟨Nat.le_refl _, Nat.le_refl _⟩ rfl) (fun q32 G31 H locs hf hI => ?_)
          refine h_astore_n (o := q32) (lv' := [(0, va_rf q32), (1, .ref la2), (2, .ref la2), (3, .ref la3)]) hx hb dJ23_balanceInsertion_199 rfl hl (by decide) rfl (fun ls hl => ?_)
          refine lv_aload_n hx hb dJ23_balanceInsertion_200 rfl (lv_at hl 1 rfl) ?_
          refine hr_gtQ X hI (rfl : jC.1[18]? = some (RJ23, TJ23, 11)) in_J23 6 (Nat.le_of_ble_eq_true rfl) hf q1344 (fun _ h => h) dJ23_balanceInsertion_201 (fun q33 hf => ?_)
          refine lv_dup hx hb dJ23_balanceInsertion_204 (h_catq _) ?_
          refine h_astore_n (o := q33) (lv' := [(2, va_rf q33), (0, va_rf q32), (1, .ref la2), (3, .ref la3)]) hx hb dJ23_balanceInsertion_205 rfl hl (by decide) rfl (fun ls hl => ?_)
          refine h_ifnonnull (tgt := 213) hx hb dJ23_balanceInsertion_206 (by decide) (fun a35 c34 => ?_) (fun c34 => ?_)
          · have hf := hf.2 a35 c34
            revert hl hf
            subst c34
            intro hl hf
            have hl : lv_has ls 6 [(2, .ref a35), (0, va_rf q32), (1, .ref la2), (3, .ref la3)] := hl
            refine lv_aload_n hx hb dJ23_balanceInsertion_213 rfl (lv_at hl 0 rfl) ?_
            refine hr_gtQ X hI (rfl : jC.1[18]? = some (RJ23, TJ23, 11)) in_J23 6 (Nat.le_of_ble_eq_true rfl) hf q1344 (fun _ h => h) dJ23_balanceInsertion_214 (fun q36 hf => ?_)
            exact J217 q32 la2 (some a35) q36 G31 hf H locs hI ls (lv_sub hl [1, 2, 0] rfl)
          · have hf := hf.1 c34
            revert hl hf
            subst c34
            intro hl hf
            have hl : lv_has ls 6 [(2, va_rf none), (0, va_rf q32), (1, .ref la2), (3, .ref la3)] := hl
            refine lv_null hx hb dJ23_balanceInsertion_209 ?_
            refine lv_goto (tgt := 217) hx hb dJ23_balanceInsertion_210 (by decide) ?_
            exact J217 q32 la2 none none G31 hf H locs hI ls (lv_sub hl [1, 2, 0] rfl)
      have J123 : ∀ (lq0 : Option Nat) (la1 : Nat) (lq2 : Option Nat) (lq3 : Option Nat) (G : HG), hJ23_balanceInsertion_b123 j Λ post (hJ23_balanceInsertion_l5 j Λ post n5) lq0 la1 lq2 lq3 G → ∀ (H : Heap) (locs : List Loc), HI D jC G A0 s.heap H locs → ∀ (ls : Array Slot), lv_has ls 6 [(0, va_rf lq0), (1, .ref la1), (2, va_rf lq2), (3, va_rf lq3)] → W p l e (rhJ23_balanceInsertion fr lo) s m args below meth c H locs 0 0 Q (F0 m 123 ls []) := by
        intro lq0 la1 lq2 lq3 G hf H locs hI ls hl
        unfold hJ23_balanceInsertion_b123 at hf
        refine h_aload_n (o := lq2) hx hb dJ23_balanceInsertion_123 rfl (lv_at hl 2 rfl) ?_
        refine h_ifnull (tgt := 5) hx hb dJ23_balanceInsertion_124 (by decide) (fun c53 => ?_) (fun a54 c53 => ?_)
        · have hf := hf.1 c53
          revert hl hf
          subst c53
          intro hl hf
          have hl : lv_has ls 6 [(0, va_rf lq0), (1, .ref la1), (2, va_rf none), (3, va_rf lq3)] := hl
          exact ih5 lq0 la1 G hf H locs hI ls (lv_sub hl [0, 1] rfl)
        · have hf := hf.2 a54 c53
          revert hl hf
          subst c53
          intro hl hf
          have hl : lv_has ls 6 [(0, va_rf lq0), (1, .ref la1), (2, .ref a54), (3, va_rf lq3)] := hl
          refine lv_aload_n hx hb dJ23_balanceInsertion_127 rfl (lv_at hl 2 rfl) ?_
          refine lv_iconst (v := 0) hx hb dJ23_balanceInsertion_128 (by decide) ?_
          refine hr_pt X hI (rfl : jC.1[18]? = some (RJ23, TJ23, 11)) in_J23 10 (Nat.le_of_ble_eq_true rfl) tyJ23 tyJ23_ok nmJ23 hf q1349 (fun _ h => h) rfl rfl rfl dJ23_balanceInsertion_129 (fun G55 H locs hf hI => ?_)
          refine h_aload_n (o := lq3) hx hb dJ23_balanceInsertion_132 rfl (lv_at hl 3 rfl) ?_
          refine h_ifnull (tgt := 5) hx hb dJ23_balanceInsertion_133 (by decide) (fun c56 => ?_) (fun a57 c56 => ?_)
          · have hf := hf.1 c56
            revert hl hf
            subst c56
            intro hl hf
            have hl : lv_has ls 6 [(0, va_rf lq0), (1, .ref la1), (2, .ref a54), (3, va_rf none)] := hl
            exact ih5 lq0 la1 G55 hf H locs hI ls (lv_sub hl [0, 1] rfl)
          · have hf := hf.2 a57 c56
            revert hl hf
            subst c56
            intro hl hf
            have hl : lv_has ls 6 [(0, va_rf lq0), (1, .ref la1), (2, .ref a54), (3, .ref a57)] := hl
            refine lv_aload_n hx hb dJ23_balanceInsertion_136 rfl (lv_at hl 3 rfl) ?_
            refine lv_iconst (v := 1) hx hb dJ23_balanceInsertion_137 (by decide) ?_
            refine hr_pt X hI (rfl : jC.1[18]? = some (RJ23, TJ23, 11)) in_J23 10 (Nat.le_of_ble_eq_true rfl) tyJ23 tyJ23_ok nmJ23 hf q1349 (fun _ h => h) rfl rfl rfl dJ23_balanceInsertion_138 (fun G58 H locs hf hI => ?_)
            refine h_aload_n (o := lq0) hx hb dJ23_balanceInsertion_141 rfl (lv_at hl 0 rfl) ?_
            refine lv_aload_n hx hb dJ23_balanceInsertion_142 rfl (lv_at hl 3 rfl) ?_
            refine h_kq X hI (h_runS (As := [va_rf lq0, va_rf (some a57)]) X hI (mhJ23_rotateRight l Z D j Λ fr lo E lq0 (some a57) G58 _ hf H.size) (va_cwS 2 hts (lw_S q1263 q1264 q201 q1265) rfl rfl rfl (by decide +kernel) (by show fr + 1 + 1 ≤ fr + 2 ∧ 8 + (5 + 11) + (lo + 40) ≤ lo + 64; omega)) rfl hl.1 (Nat.le_of_ble_eq_true rfl) dJ23_balanceInsertion_143 ⟨Nat.le_refl _, Nat.le_refl _⟩ rfl) (fun q60 G59 H locs hf hI => ?_)
            refine h_astore_n (o := q60) (lv' := [(0, va_rf q60), (1, .ref la1), (2, .ref a54), (3, .ref a57)]) hx hb dJ23_balanceInsertion_146 rfl hl (by decide) rfl (fun ls hl => ?_)
            refine lv_goto (tgt := 5) hx hb dJ23_balanceInsertion_147 (by decide) ?_
            exact ih5 q60 la1 G59 hf H locs hI ls (lv_sub hl [0, 1] rfl)
      have J122 : ∀ (lq0 : Option Nat) (la1 : Nat) (lq2 : Option Nat) (z0 : Option Nat) (G : HG), hJ23_balanceInsertion_b122 j Λ post (hJ23_balanceInsertion_l5 j Λ post n5) lq0 la1 lq2 z0 G → ∀ (H : Heap) (locs : List Loc), HI D jC G A0 s.heap H locs → ∀ (ls : Array Slot), lv_has ls 6 [(0, va_rf lq0), (1, .ref la1), (2, va_rf lq2)] → W p l e (rhJ23_balanceInsertion fr lo) s m args below meth c H locs 0 0 Q (F0 m 122 ls [va_rf z0]) := by
        intro lq0 la1 lq2 z0 G hf H locs hI ls hl
        unfold hJ23_balanceInsertion_b122 at hf
        refine h_astore_n (o := z0) (lv' := [(3, va_rf z0), (0, va_rf lq0), (1, .ref la1), (2, va_rf lq2)]) hx hb dJ23_balanceInsertion_122 rfl hl (by decide) (by cases lq2 <;> rfl) (fun ls hl => ?_)
        exact J123 lq0 la1 lq2 z0 G hf H locs hI ls (lv_sub hl [1, 2, 3, 0] rfl)
      have J89 : ∀ (lq0 : Option Nat) (la1 : Nat) (la2 : Nat) (la3 : Nat) (G : HG), hJ23_balanceInsertion_b89 j Λ post (hJ23_balanceInsertion_l5 j Λ post n5) lq0 la1 la2 la3 G → ∀ (H : Heap) (locs : List Loc), HI D jC G A0 s.heap H locs → ∀ (ls : Array Slot), lv_has ls 6 [(0, va_rf lq0), (1, .ref la1), (2, .ref la2), (3, .ref la3)] → W p l e (rhJ23_balanceInsertion fr lo) s m args below meth c H locs 0 0 Q (F0 m 89 ls []) := by
        intro lq0 la1 la2 la3 G hf H locs hI ls hl
        unfold hJ23_balanceInsertion_b89 at hf
        refine lv_aload_n hx hb dJ23_balanceInsertion_89 rfl (lv_at hl 1 rfl) ?_
        refine lv_aload_n hx hb dJ23_balanceInsertion_90 rfl (lv_at hl 2 rfl) ?_
        refine hr_gtQ X hI (rfl : jC.1[18]? = some (RJ23, TJ23, 11)) in_J23 8 (Nat.le_of_ble_eq_true rfl) hf q1346 (fun _ h => h) dJ23_balanceInsertion_91 (fun q37 hf => ?_)
        refine lv_acmp_ne (rx := (some la1)) (ry := q37) (tgt := 123) hx hb dJ23_balanceInsertion_94 (by decide) (fun c38 => ?_) (fun c38 => ?_)
        · have hf := hf.2 c38
          exact J123 lq0 la1 (some la2) (some la3) G hf H locs hI ls (lv_sub hl [0, 1, 2, 3] rfl)
        · have hf := hf.1 c38
          refine h_aload_n (o := lq0) hx hb dJ23_balanceInsertion_97 rfl (lv_at hl 0 rfl) ?_
          refine lv_aload_n hx hb dJ23_balanceInsertion_98 rfl (lv_at hl 2 rfl) ?_
          refine lv_dup hx hb dJ23_balanceInsertion_99 rfl ?_
          refine lv_astore_n (lv' := [(1, .ref la2), (0, va_rf lq0), (2, .ref la2), (3, .ref la3)]) hx hb dJ23_balanceInsertion_100 rfl hl (by decide) (by cases lq0 <;> rfl) (fun ls hl => ?_)
          refine h_kq X hI (h_runS (As := [va_rf lq0, va_rf (some la2)]) X hI (mhJ23_rotateLeft l Z D j Λ fr lo E lq0 (some la2) G _ hf H.size) (va_cwS 2 hts (lw_S q1260 q1261 q201 q1262) rfl rfl rfl (by decide +kernel) (by show fr + 1 + 1 ≤ fr + 2 ∧ 8 + (5 + 11) + (lo + 40) ≤ lo + 64; omega)) rfl hl.1 (Nat.le_of_ble_eq_true rfl) dJ23_balanceInsertion_101 ⟨Nat.le_refl _, Nat.le_refl _⟩ rfl) (fun q40 G39 H locs hf hI => ?_)
          refine h_astore_n (o := q40) (lv' := [(0, va_rf q40), (1, .ref la2), (2, .ref la2), (3, .ref la3)]) hx hb dJ23_balanceInsertion_104 rfl hl (by decide) rfl (fun ls hl => ?_)
          refine lv_aload_n hx hb dJ23_balanceInsertion_105 rfl (lv_at hl 1 rfl) ?_
          refine hr_gtQ X hI (rfl : jC.1[18]? = some (RJ23, TJ23, 11)) in_J23 6 (Nat.le_of_ble_eq_true rfl) hf q1344 (fun _ h => h) dJ23_balanceInsertion_106 (fun q41 hf => ?_)
          refine lv_dup hx hb dJ23_balanceInsertion_109 (h_catq _) ?_
          refine h_astore_n (o := q41) (lv' := [(2, va_rf q41), (0, va_rf q40), (1, .ref la2), (3, .ref la3)]) hx hb dJ23_balanceInsertion_110 rfl hl (by decide) rfl (fun ls hl => ?_)
          refine h_ifnonnull (tgt := 118) hx hb dJ23_balanceInsertion_111 (by decide) (fun a43 c42 => ?_) (fun c42 => ?_)
          · have hf := hf.2 a43 c42
            revert hl hf
            subst c42
            intro hl hf
            have hl : lv_has ls 6 [(2, .ref a43), (0, va_rf q40), (1, .ref la2), (3, .ref la3)] := hl
            refine lv_aload_n hx hb dJ23_balanceInsertion_118 rfl (lv_at hl 0 rfl) ?_
            refine hr_gtQ X hI (rfl : jC.1[18]? = some (RJ23, TJ23, 11)) in_J23 6 (Nat.le_of_ble_eq_true rfl) hf q1344 (fun _ h => h) dJ23_balanceInsertion_119 (fun q44 hf => ?_)
            exact J122 q40 la2 (some a43) q44 G39 hf H locs hI ls (lv_sub hl [1, 2, 0] rfl)
          · have hf := hf.1 c42
            revert hl hf
            subst c42
            intro hl hf
            have hl : lv_has ls 6 [(2, va_rf none), (0, va_rf q40), (1, .ref la2), (3, .ref la3)] := hl
            refine lv_null hx hb dJ23_balanceInsertion_114 ?_
            refine lv_goto (tgt := 122) hx hb dJ23_balanceInsertion_115 (by decide) ?_
            exact J122 q40 la2 none none G39 hf H locs hI ls (lv_sub hl [1, 2, 0] rfl)
      intro lq0 la1 G hf H locs hI ls hl
      have hf : hJ23_balanceInsertion_b5 j Λ post (hJ23_balanceInsertion_l5 j Λ post n5) lq0 la1 G := hf
      unfold hJ23_balanceInsertion_b5 at hf
      refine lv_aload_n hx hb dJ23_balanceInsertion_5 rfl (lv_at hl 1 rfl) ?_
      refine hr_gtQ X hI (rfl : jC.1[18]? = some (RJ23, TJ23, 11)) in_J23 6 (Nat.le_of_ble_eq_true rfl) hf q1344 (fun _ h => h) dJ23_balanceInsertion_6 (fun q3 hf => ?_)
      refine lv_dup hx hb dJ23_balanceInsertion_9 (h_catq _) ?_
      refine h_astore_n (o := q3) (lv' := [(2, va_rf q3), (0, va_rf lq0), (1, .ref la1)]) hx hb dJ23_balanceInsertion_10 rfl hl (by decide) rfl (fun ls hl => ?_)
      refine h_ifnonnull (tgt := 21) hx hb dJ23_balanceInsertion_11 (by decide) (fun a5 c4 => ?_) (fun c4 => ?_)
      · have hf := hf.2 a5 c4
        revert hl hf
        subst c4
        intro hl hf
        have hl : lv_has ls 6 [(2, .ref a5), (0, va_rf lq0), (1, .ref la1)] := hl
        refine lv_aload_n hx hb dJ23_balanceInsertion_21 rfl (lv_at hl 0 rfl) ?_
        refine hr_gtI X hI (rfl : jC.1[18]? = some (RJ23, TJ23, 11)) in_J23 10 (Nat.le_of_ble_eq_true rfl) hf q1349 (fun _ h => h) dJ23_balanceInsertion_22 (fun x7 hf => ?_)
        refine lv_if_eq (tgt := 37) hx hb dJ23_balanceInsertion_25 (by decide) (fun c8 => ?_) (fun c8 => ?_)
        · have hf := hf.1 c8
          refine h_aload_n (o := lq0) hx hb dJ23_balanceInsertion_37 rfl (lv_at hl 1 rfl) ?_
          exact hret (v := lq0) hf hI dJ23_balanceInsertion_38 (Nat.le_refl _) (Nat.le_refl _)
        · have hf := hf.2 c8
          refine lv_aload_n hx hb dJ23_balanceInsertion_28 rfl (lv_at hl 0 rfl) ?_
          refine hr_gtQ X hI (rfl : jC.1[18]? = some (RJ23, TJ23, 11)) in_J23 6 (Nat.le_of_ble_eq_true rfl) hf q1344 (fun _ h => h) dJ23_balanceInsertion_29 (fun q9 hf => ?_)
          refine lv_dup hx hb dJ23_balanceInsertion_32 (h_catq _) ?_
          refine h_astore_n (o := q9) (lv' := [(3, va_rf q9), (2, .ref a5), (0, va_rf lq0), (1, .ref la1)]) hx hb dJ23_balanceInsertion_33 rfl hl (by decide) rfl (fun ls hl => ?_)
          refine h_ifnonnull (tgt := 39) hx hb dJ23_balanceInsertion_34 (by decide) (fun a11 c10 => ?_) (fun c10 => ?_)
          · have hf := hf.2 a11 c10
            revert hl hf
            subst c10
            intro hl hf
            have hl : lv_has ls 6 [(3, .ref a11), (2, .ref a5), (0, va_rf lq0), (1, .ref la1)] := hl
            refine lv_aload_n hx hb dJ23_balanceInsertion_39 rfl (lv_at hl 1 rfl) ?_
            refine lv_aload_n hx hb dJ23_balanceInsertion_40 rfl (lv_at hl 0 rfl) ?_
            refine hr_gtQ X hI (rfl : jC.1[18]? = some (RJ23, TJ23, 11)) in_J23 7 (Nat.le_of_ble_eq_true rfl) hf q1345 (fun _ h => h) dJ23_balanceInsertion_41 (fun q12 hf => ?_)
            refine lv_dup hx hb dJ23_balanceInsertion_44 (h_catq _) ?_
            refine h_astore (o := q12) (lv' := [(4, va_rf q12), (3, .ref a11), (2, .ref a5), (0, va_rf lq0), (1, .ref la1)]) hx hb dJ23_balanceInsertion_45 hl (by decide) rfl (fun ls hl => ?_)
            refine lv_acmp_ne (rx := (some a5)) (ry := q12) (tgt := 150) hx hb dJ23_balanceInsertion_47 (by decide) (fun c13 => ?_) (fun c13 => ?_)
            · have hf := hf.2 c13
              refine h_aload (o := q12) hx hb dJ23_balanceInsertion_150 (lv_at hl 0 rfl) ?_
              refine h_ifnull (tgt := 184) hx hb dJ23_balanceInsertion_152 (by decide) (fun c14 => ?_) (fun a15 c14 => ?_)
              · have hf := hf.1 c14
                revert hl hf
                subst c14
                intro hl hf
                have hl : lv_has ls 6 [(4, va_rf none), (3, .ref a11), (2, .ref a5), (0, va_rf lq0), (1, .ref la1)] := hl
                exact J184 lq0 la1 a5 a11 G hf H locs hI ls (lv_sub hl [3, 4, 2, 1] rfl)
              · have hf := hf.2 a15 c14
                revert hl hf
                subst c14
                intro hl hf
                have hl : lv_has ls 6 [(4, .ref a15), (3, .ref a11), (2, .ref a5), (0, va_rf lq0), (1, .ref la1)] := hl
                refine lv_aload hx hb dJ23_balanceInsertion_155 (lv_at hl 0 rfl) ?_
                refine hr_gtI X hI (rfl : jC.1[18]? = some (RJ23, TJ23, 11)) in_J23 10 (Nat.le_of_ble_eq_true rfl) hf q1349 (fun _ h => h) dJ23_balanceInsertion_157 (fun x16 hf => ?_)
                refine lv_if_eq (tgt := 184) hx hb dJ23_balanceInsertion_160 (by decide) (fun c17 => ?_) (fun c17 => ?_)
                · have hf := hf.1 c17
                  exact J184 lq0 la1 a5 a11 G hf H locs hI ls (lv_sub hl [3, 4, 2, 1] rfl)
                · have hf := hf.2 c17
                  refine lv_aload hx hb dJ23_balanceInsertion_163 (lv_at hl 0 rfl) ?_
                  refine lv_iconst (v := 0) hx hb dJ23_balanceInsertion_165 (by decide) ?_
                  refine hr_pt X hI (rfl : jC.1[18]? = some (RJ23, TJ23, 11)) in_J23 10 (Nat.le_of_ble_eq_true rfl) tyJ23 tyJ23_ok nmJ23 hf q1349 (fun _ h => h) rfl rfl rfl dJ23_balanceInsertion_166 (fun G18 H locs hf hI => ?_)
                  refine lv_aload_n hx hb dJ23_balanceInsertion_169 rfl (lv_at hl 2 rfl) ?_
                  refine lv_iconst (v := 0) hx hb dJ23_balanceInsertion_170 (by decide) ?_
                  refine hr_pt X hI (rfl : jC.1[18]? = some (RJ23, TJ23, 11)) in_J23 10 (Nat.le_of_ble_eq_true rfl) tyJ23 tyJ23_ok nmJ23 hf q1349 (fun _ h => h) rfl rfl rfl dJ23_balanceInsertion_171 (fun G19 H locs hf hI => ?_)
                  refine lv_aload_n hx hb dJ23_balanceInsertion_174 rfl (lv_at hl 1 rfl) ?_
                  refine lv_iconst (v := 1) hx hb dJ23_balanceInsertion_175 (by decide) ?_
                  refine hr_pt X hI (rfl : jC.1[18]? = some (RJ23, TJ23, 11)) in_J23 10 (Nat.le_of_ble_eq_true rfl) tyJ23 tyJ23_ok nmJ23 hf q1349 (fun _ h => h) rfl rfl rfl dJ23_balanceInsertion_176 (fun G20 H locs hf hI => ?_)
                  refine lv_aload_n hx hb dJ23_balanceInsertion_179 rfl (lv_at hl 1 rfl) ?_
                  refine lv_astore_n (lv' := [(1, .ref a11), (4, .ref a15), (3, .ref a11), (2, .ref a5), (0, va_rf lq0)]) hx hb dJ23_balanceInsertion_180 rfl hl (by decide) (by cases lq0 <;> rfl) (fun ls hl => ?_)
                  refine lv_goto (tgt := 5) hx hb dJ23_balanceInsertion_181 (by decide) ?_
                  exact ih5 lq0 a11 G20 hf H locs hI ls (lv_sub hl [4, 0] rfl)
            · have hf := hf.1 c13
              refine lv_aload_n hx hb dJ23_balanceInsertion_50 rfl (lv_at hl 1 rfl) ?_
              refine hr_gtQ X hI (rfl : jC.1[18]? = some (RJ23, TJ23, 11)) in_J23 8 (Nat.le_of_ble_eq_true rfl) hf q1346 (fun _ h => h) dJ23_balanceInsertion_51 (fun q21 hf => ?_)
              refine lv_dup hx hb dJ23_balanceInsertion_54 (h_catq _) ?_
              refine h_astore (o := q21) (lv' := [(5, va_rf q21), (4, va_rf q12), (3, .ref a11), (2, .ref a5), (0, va_rf lq0), (1, .ref la1)]) hx hb dJ23_balanceInsertion_55 hl (by decide) (by cases q12 <;> rfl) (fun ls hl => ?_)
              refine h_ifnull (tgt := 89) hx hb dJ23_balanceInsertion_57 (by decide) (fun c22 => ?_) (fun a23 c22 => ?_)
              · have hf := hf.1 c22
                revert hl hf
                subst c22
                intro hl hf
                have hl : lv_has ls 6 [(5, va_rf none), (4, va_rf q12), (3, .ref a11), (2, .ref a5), (0, va_rf lq0), (1, .ref la1)] := hl
                exact J89 lq0 la1 a5 a11 G hf H locs hI ls (lv_sub hl [4, 5, 3, 2] rfl)
              · have hf := hf.2 a23 c22
                revert hl hf
                subst c22
                intro hl hf
                have hl : lv_has ls 6 [(5, .ref a23), (4, va_rf q12), (3, .ref a11), (2, .ref a5), (0, va_rf lq0), (1, .ref la1)] := hl
                refine lv_aload hx hb dJ23_balanceInsertion_60 (lv_at hl 0 rfl) ?_
                refine hr_gtI X hI (rfl : jC.1[18]? = some (RJ23, TJ23, 11)) in_J23 10 (Nat.le_of_ble_eq_true rfl) hf q1349 (fun _ h => h) dJ23_balanceInsertion_62 (fun x24 hf => ?_)
                refine lv_if_eq (tgt := 89) hx hb dJ23_balanceInsertion_65 (by decide) (fun c25 => ?_) (fun c25 => ?_)
                · have hf := hf.1 c25
                  exact J89 lq0 la1 a5 a11 G hf H locs hI ls (lv_sub hl [4, 5, 3, 2] rfl)
                · have hf := hf.2 c25
                  refine lv_aload hx hb dJ23_balanceInsertion_68 (lv_at hl 0 rfl) ?_
                  refine lv_iconst (v := 0) hx hb dJ23_balanceInsertion_70 (by decide) ?_
                  refine hr_pt X hI (rfl : jC.1[18]? = some (RJ23, TJ23, 11)) in_J23 10 (Nat.le_of_ble_eq_true rfl) tyJ23 tyJ23_ok nmJ23 hf q1349 (fun _ h => h) rfl rfl rfl dJ23_balanceInsertion_71 (fun G26 H locs hf hI => ?_)
                  refine lv_aload_n hx hb dJ23_balanceInsertion_74 rfl (lv_at hl 3 rfl) ?_
                  refine lv_iconst (v := 0) hx hb dJ23_balanceInsertion_75 (by decide) ?_
                  refine hr_pt X hI (rfl : jC.1[18]? = some (RJ23, TJ23, 11)) in_J23 10 (Nat.le_of_ble_eq_true rfl) tyJ23 tyJ23_ok nmJ23 hf q1349 (fun _ h => h) rfl rfl rfl dJ23_balanceInsertion_76 (fun G27 H locs hf hI => ?_)
                  refine lv_aload_n hx hb dJ23_balanceInsertion_79 rfl (lv_at hl 2 rfl) ?_
                  refine lv_iconst (v := 1) hx hb dJ23_balanceInsertion_80 (by decide) ?_
                  refine hr_pt X hI (rfl : jC.1[18]? = some (RJ23, TJ23, 11)) in_J23 10 (Nat.le_of_ble_eq_true rfl) tyJ23 tyJ23_ok nmJ23 hf q1349 (fun _ h => h) rfl rfl rfl dJ23_balanceInsertion_81 (fun G28 H locs hf hI => ?_)
                  refine lv_aload_n hx hb dJ23_balanceInsertion_84 rfl (lv_at hl 2 rfl) ?_
                  refine lv_astore_n (lv' := [(1, .ref a11), (5, .ref a23), (4, va_rf q12), (3, .ref a11), (2, .ref a5), (0, va_rf lq0)]) hx hb dJ23_balanceInsertion_85 rfl hl (by decide) (by cases lq0 <;> rfl) (fun ls hl => ?_)
                  refine lv_goto (tgt := 5) hx hb dJ23_balanceInsertion_86 (by decide) ?_
                  exact ih5 lq0 a11 G28 hf H locs hI ls (lv_sub hl [5, 0] rfl)
          · have hf := hf.1 c10
            revert hl hf
            subst c10
            intro hl hf
            have hl : lv_has ls 6 [(3, va_rf none), (2, .ref a5), (0, va_rf lq0), (1, .ref la1)] := hl
            refine h_aload_n (o := lq0) hx hb dJ23_balanceInsertion_37 rfl (lv_at hl 2 rfl) ?_
            exact hret (v := lq0) hf hI dJ23_balanceInsertion_38 (Nat.le_refl _) (Nat.le_refl _)
      · have hf := hf.1 c4
        revert hl hf
        subst c4
        intro hl hf
        have hl : lv_has ls 6 [(2, va_rf none), (0, va_rf lq0), (1, .ref la1)] := hl
        refine lv_aload_n hx hb dJ23_balanceInsertion_14 rfl (lv_at hl 2 rfl) ?_
        refine lv_iconst (v := 0) hx hb dJ23_balanceInsertion_15 (by decide) ?_
        refine hr_pt X hI (rfl : jC.1[18]? = some (RJ23, TJ23, 11)) in_J23 10 (Nat.le_of_ble_eq_true rfl) tyJ23 tyJ23_ok nmJ23 hf q1349 (fun _ h => h) rfl rfl rfl dJ23_balanceInsertion_16 (fun G6 H locs hf hI => ?_)
        refine lv_aload_n hx hb dJ23_balanceInsertion_19 rfl (lv_at hl 2 rfl) ?_
        exact hret (v := (some la1)) hf hI dJ23_balanceInsertion_20 (Nat.le_refl _) (Nat.le_refl _)
  have hl : lv_has ls 6 [(0, va_rf q0_), (1, va_rf q1_)] := by cases q0_ <;> cases q1_ <;> exact hl
  unfold hJ23_balanceInsertion at hf
  obtain ⟨H, eH⟩ : ∃ H, H = s.heap := ⟨_, rfl⟩
  obtain ⟨locs, eL⟩ : ∃ locs : List Loc, locs = [] := ⟨_, rfl⟩
  have hI : HI D jC G A0 s.heap H locs := by rw [eH, eL]; exact hI
  rw [← eL]
  suffices h : W p l e (rhJ23_balanceInsertion fr lo) s m args below meth c H locs 0 0 Q (F0 m 0 ls []) by rw [eH] at h; exact h
  clear eH eL
  refine h_aload_n (o := q1_) hx hb dJ23_balanceInsertion_0 rfl (lv_at hl 1 rfl) ?_
  refine lv_iconst (v := 1) hx hb dJ23_balanceInsertion_1 (by decide) ?_
  obtain ⟨a1, ea1, hf⟩ := hf
  revert hl hf
  subst ea1
  intro hl hf
  have hl : lv_has ls 6 [(0, va_rf q0_), (1, .ref a1)] := hl
  refine hr_pt X hI (rfl : jC.1[18]? = some (RJ23, TJ23, 11)) in_J23 10 (Nat.le_of_ble_eq_true rfl) tyJ23 tyJ23_ok nmJ23 hf q1349 (fun _ h => h) rfl rfl rfl dJ23_balanceInsertion_2 (fun G2 H locs hf hI => ?_)
  obtain ⟨n, hf⟩ := hf
  exact L5 n q0_ a1 G2 hf H locs hI ls (lv_sub hl [0, 1] rfl)
/-! java/util/HashMap$TreeNode.root()Ljava/util/HashMap$TreeNode; -/
def hJ23_root_b2 (j : JX) (Λ : JLam) (a0 : Nat) (post : Option Nat → HG → Prop) (K2 : Nat → HG → Prop) (la1 : Nat) (G : HG) : Prop :=
  gtQ G la1 18 6 fun q1 => (q1 = none → (post (some la1) G)) ∧ (∀ a3, q1 = some a3 → (K2 a3 G))
def hJ23_root_l2 (j : JX) (Λ : JLam) (a0 : Nat) (post : Option Nat → HG → Prop) : Nat → Nat → HG → Prop
  | 0 => fun _ _ => False
  | n + 1 => fun la1 G => hJ23_root_b2 j Λ a0 post (hJ23_root_l2 j Λ a0 post n) la1 G
def hJ23_root (j : JX) (Λ : JLam) (a0 : Nat) (G : HG) (post : Option Nat → HG → Prop) : Prop :=
  ∃ n, hJ23_root_l2 j Λ a0 post n a0 G
abbrev rhJ23_root (fr lo : Nat) : Room := { frames := fr + 1, cells := 0, slots := 0, locals := lo + 40 }
theorem mhJ23_root (l : Launch) (Z : (Nat → Prop) → State → Heap → Prop) (D : va_G) (j : JX) (Λ : JLam) (fr lo : Nat) (E : JE l Z D j Λ fr lo) (a0 : Nat) (G : HG) (post : Option Nat → HG → Prop) (hf : hJ23_root j Λ a0 G post) : HMq l yJ23_root (ws_ yJ23_root cJ23_root 3 (some (.object "java/util/HashMap$TreeNode"))) (rhJ23_root fr lo) D jC (jty j.1) Z G [.ref a0] post 0 0 := by
  refine h_openq (Or.inl ⟨_, rfl⟩) E.1 (by decide) (by exact Nat.le_of_ble_eq_true rfl) (fun p e s m args below meth c ls A0 Q X hI hnd hnm hl hret => ?_)
  have X : XC p s m args meth c cJ23_root 3 RJ23 D jC (jty j.1) A0 Z := X
  have hx := X.1
  have hb := X.2.1
  have hown := X.2.2.2.1
  have hts := X.2.2.2.2.1
  have L2 : ∀ (n : Nat) (la1 : Nat) (G : HG), hJ23_root_l2 j Λ a0 post n la1 G → ∀ (H : Heap) (locs : List Loc), HI D jC G A0 s.heap H locs → ∀ (ls : Array Slot), lv_has ls 3 [(1, .ref la1)] → W p l e (rhJ23_root fr lo) s m args below meth c H locs 0 0 Q (F0 m 2 ls []) := by
    intro n2
    induction n2 with
    | zero => intro la1 G hf; exact hf.elim
    | succ n2 ih2 =>
      intro la1 G hf H locs hI ls hl
      have hf : hJ23_root_b2 j Λ a0 post (hJ23_root_l2 j Λ a0 post n2) la1 G := hf
      unfold hJ23_root_b2 at hf
      refine lv_aload_n hx hb dJ23_root_2 rfl (lv_at hl 0 rfl) ?_
      refine hr_gtQ X hI (rfl : jC.1[18]? = some (RJ23, TJ23, 11)) in_J23 6 (Nat.le_of_ble_eq_true rfl) hf q1344 (fun _ h => h) dJ23_root_3 (fun q1 hf => ?_)
      refine lv_dup hx hb dJ23_root_6 (h_catq _) ?_
      refine h_astore_n (o := q1) (lv' := [(2, va_rf q1), (1, .ref la1)]) hx hb dJ23_root_7 rfl hl (by decide) rfl (fun ls hl => ?_)
      refine h_ifnonnull (tgt := 13) hx hb dJ23_root_8 (by decide) (fun a3 c2 => ?_) (fun c2 => ?_)
      · have hf := hf.2 a3 c2
        revert hl hf
        subst c2
        intro hl hf
        have hl : lv_has ls 3 [(2, .ref a3), (1, .ref la1)] := hl
        refine lv_aload_n hx hb dJ23_root_13 rfl (lv_at hl 0 rfl) ?_
        refine lv_astore_n (lv' := [(1, .ref a3), (2, .ref a3)]) hx hb dJ23_root_14 rfl hl (by decide) rfl (fun ls hl => ?_)
        refine lv_goto (tgt := 2) hx hb dJ23_root_15 (by decide) ?_
        exact ih2 a3 G hf H locs hI ls (lv_sub hl [0] rfl)
      · have hf := hf.1 c2
        revert hl hf
        subst c2
        intro hl hf
        have hl : lv_has ls 3 [(2, va_rf none), (1, .ref la1)] := hl
        refine lv_aload_n hx hb dJ23_root_11 rfl (lv_at hl 1 rfl) ?_
        exact hret (v := (some la1)) hf hI dJ23_root_12 (Nat.le_refl _) (Nat.le_refl _)
  have hl : lv_has ls 3 [(0, .ref a0)] := by exact hl
  unfold hJ23_root at hf
  obtain ⟨H, eH⟩ : ∃ H, H = s.heap := ⟨_, rfl⟩
  obtain ⟨locs, eL⟩ : ∃ locs : List Loc, locs = [] := ⟨_, rfl⟩
  have hI : HI D jC G A0 s.heap H locs := by rw [eH, eL]; exact hI
  rw [← eL]
  suffices h : W p l e (rhJ23_root fr lo) s m args below meth c H locs 0 0 Q (F0 m 0 ls []) by rw [eH] at h; exact h
  clear eH eL
  refine lv_aload_n hx hb dJ23_root_0 rfl (lv_at hl 0 rfl) ?_
  refine lv_astore_n (lv' := [(1, .ref a0), (0, .ref a0)]) hx hb dJ23_root_1 rfl hl (by decide) rfl (fun ls hl => ?_)
  obtain ⟨n, hf⟩ := hf
  exact L2 n a0 G hf H locs hI ls (lv_sub hl [0] rfl)
/-! java/util/Arrays.fill([II)V -/
def hJ26_fill_2_b5 (j : JX) (Λ : JLam) (p1 : Int32) (post : HG → Prop) (K5 : Nat → Int32 → Int32 → HG → Prop) (la0 : Nat) (lx2 : Int32) (lx3 : Int32) (G : HG) : Prop :=
  (lx3 ≤ lx2 → (post G)) ∧ (¬ lx3 ≤ lx2 → (stI G la0 (j.1 0) lx2 p1 fun G4 => K5 la0 (lx2 + 1) lx3 G4))
def hJ26_fill_2_l5 (j : JX) (Λ : JLam) (p1 : Int32) (post : HG → Prop) : Nat → Nat → Int32 → Int32 → HG → Prop
  | 0 => fun _ _ _ _ => False
  | n + 1 => fun la0 lx2 lx3 G => hJ26_fill_2_b5 j Λ p1 post (hJ26_fill_2_l5 j Λ p1 post n) la0 lx2 lx3 G
def hJ26_fill_2 (j : JX) (Λ : JLam) (q0_ : Option Nat) (p1 : Int32) (G : HG) (post : HG → Prop) : Prop :=
  nnq q0_ fun a1 => aln (jty j.1) G a1 fun x2 => ∃ n, hJ26_fill_2_l5 j Λ p1 post n a1 (0 : Int32) x2 G
abbrev rhJ26_fill_2 (fr lo : Nat) : Room := { frames := fr + 1, cells := 0, slots := 0, locals := lo + 40 }
theorem mhJ26_fill_2 (l : Launch) (Z : (Nat → Prop) → State → Heap → Prop) (D : va_G) (j : JX) (Λ : JLam) (fr lo : Nat) (E : JE l Z D j Λ fr lo) (q0_ : Option Nat) (p1 : Int32) (G : HG) (post : HG → Prop) (hf : hJ26_fill_2 j Λ q0_ p1 G post) : HMv l yJ26_fill_2 (ws_ yJ26_fill_2 cJ26_fill_2 4 none) (rhJ26_fill_2 fr lo) D jC (jty j.1) Z G [va_rf q0_, .int p1] post 0 0 := by
  refine h_openv E.1 (by decide) (by cases q0_ <;> exact Nat.le_of_ble_eq_true rfl) (fun p e s m args below meth c ls A0 Q X hI hnd hnm hl hret => ?_)
  have X : XC p s m args meth c cJ26_fill_2 4 RJ26 D jC (jty j.1) A0 Z := X
  have hx := X.1
  have hb := X.2.1
  have hown := X.2.2.2.1
  have hts := X.2.2.2.2.1
  have L5 : ∀ (n : Nat) (la0 : Nat) (lx2 : Int32) (lx3 : Int32) (G : HG), hJ26_fill_2_l5 j Λ p1 post n la0 lx2 lx3 G → ∀ (H : Heap) (locs : List Loc), HI D jC G A0 s.heap H locs → ∀ (ls : Array Slot), lv_has ls 4 [(0, .ref la0), (1, .int p1), (2, .int lx2), (3, .int lx3)] → W p l e (rhJ26_fill_2 fr lo) s m args below meth c H locs 0 0 Q (F0 m 5 ls []) := by
    intro n5
    induction n5 with
    | zero => intro la0 lx2 lx3 G hf; exact hf.elim
    | succ n5 ih5 =>
      intro la0 lx2 lx3 G hf H locs hI ls hl
      have hf : hJ26_fill_2_b5 j Λ p1 post (hJ26_fill_2_l5 j Λ p1 post n5) la0 lx2 lx3 G := hf
      unfold hJ26_fill_2_b5 at hf
      refine lv_iload_n hx hb dJ26_fill_2_5 rfl (lv_at hl 2 rfl) ?_
      refine lv_iload_n hx hb dJ26_fill_2_6 rfl (lv_at hl 3 rfl) ?_
      refine lv_icmp_ge (tgt := 20) hx hb dJ26_fill_2_7 (by decide) (fun c3 => ?_) (fun c3 => ?_)
      · have hf := hf.1 c3
        exact hret hf hI dJ26_fill_2_20 (Nat.le_refl _) (Nat.le_refl _)
      · have hf := hf.2 c3
        refine lv_aload_n hx hb dJ26_fill_2_10 rfl (lv_at hl 0 rfl) ?_
        refine lv_iload_n hx hb dJ26_fill_2_11 rfl (lv_at hl 2 rfl) ?_
        refine lv_iload_n hx hb dJ26_fill_2_12 rfl (lv_at hl 1 rfl) ?_
        refine hr_ist X hI 0 rfl hf dJ26_fill_2_13 (fun G4 H locs hf hI => ?_)
        refine lv_iinc (v := lx2 + 1) (lv' := [(2, .int (lx2 + 1)), (0, .ref la0), (1, .int p1), (3, .int lx3)]) hx hb dJ26_fill_2_14 hl (k := 2) rfl rfl (by decide) rfl (fun ls hl => ?_)
        refine lv_goto (tgt := 5) hx hb dJ26_fill_2_17 (by decide) ?_
        exact ih5 la0 (lx2 + 1) lx3 G4 hf H locs hI ls (lv_sub hl [1, 2, 0, 3] rfl)
  have hl : lv_has ls 4 [(0, va_rf q0_), (1, .int p1)] := by cases q0_ <;> exact hl
  unfold hJ26_fill_2 at hf
  obtain ⟨H, eH⟩ : ∃ H, H = s.heap := ⟨_, rfl⟩
  obtain ⟨locs, eL⟩ : ∃ locs : List Loc, locs = [] := ⟨_, rfl⟩
  have hI : HI D jC G A0 s.heap H locs := by rw [eH, eL]; exact hI
  rw [← eL]
  suffices h : W p l e (rhJ26_fill_2 fr lo) s m args below meth c H locs 0 0 Q (F0 m 0 ls []) by rw [eH] at h; exact h
  clear eH eL
  refine lv_iconst (v := 0) hx hb dJ26_fill_2_0 (by decide) ?_
  refine lv_istore_n (lv' := [(2, .int 0), (0, va_rf q0_), (1, .int p1)]) hx hb dJ26_fill_2_1 rfl hl (by decide) rfl (fun ls hl => ?_)
  refine h_aload_n (o := q0_) hx hb dJ26_fill_2_2 rfl (lv_at hl 1 rfl) ?_
  obtain ⟨a1, ea1, hf⟩ := hf
  revert hl hf
  subst ea1
  intro hl hf
  have hl : lv_has ls 4 [(2, .int 0), (0, .ref a1), (1, .int p1)] := hl
  refine hr_aln X hI hf dJ26_fill_2_3 (fun x2 hf => ?_)
  refine lv_istore_n (lv' := [(3, .int x2), (2, .int 0), (0, .ref a1), (1, .int p1)]) hx hb dJ26_fill_2_4 rfl hl (by decide) rfl (fun ls hl => ?_)
  obtain ⟨n, hf⟩ := hf
  exact L5 n a1 (0 : Int32) x2 G hf H locs hI ls (lv_sub hl [2, 3, 1, 0] rfl)
/-! java/util/AbstractSet.<init>()V -/
def hJ29_init (j : JX) (Λ : JLam) (a0 : Nat) (G : HG) (post : HG → Prop) : Prop :=
  hJ0_init j Λ a0 G fun G1 => post G1
abbrev rhJ29_init (fr lo : Nat) : Room := { frames := fr + 2, cells := 0, slots := 0, locals := lo + 60 }
theorem mhJ29_init (l : Launch) (Z : (Nat → Prop) → State → Heap → Prop) (D : va_G) (j : JX) (Λ : JLam) (fr lo : Nat) (E : JE l Z D j Λ fr lo) (a0 : Nat) (G : HG) (post : HG → Prop) (hf : hJ29_init j Λ a0 G post) : HMv l yJ29_init (ws_ yJ29_init cJ29_init 1 none) (rhJ29_init fr lo) D jC (jty j.1) Z G [.ref a0] post 0 0 := by
  refine h_openv E.1 (by decide) (by exact Nat.le_of_ble_eq_true rfl) (fun p e s m args below meth c ls A0 Q X hI hnd hnm hl hret => ?_)
  have X : XC p s m args meth c cJ29_init 1 RJ29 D jC (jty j.1) A0 Z := X
  have hx := X.1
  have hb := X.2.1
  have hown := X.2.2.2.1
  have hts := X.2.2.2.2.1
  have hl : lv_has ls 1 [(0, .ref a0)] := by exact hl
  unfold hJ29_init at hf
  obtain ⟨H, eH⟩ : ∃ H, H = s.heap := ⟨_, rfl⟩
  obtain ⟨locs, eL⟩ : ∃ locs : List Loc, locs = [] := ⟨_, rfl⟩
  have hI : HI D jC G A0 s.heap H locs := by rw [eH, eL]; exact hI
  rw [← eL]
  suffices h : W p l e (rhJ29_init fr lo) s m args below meth c H locs 0 0 Q (F0 m 0 ls []) by rw [eH] at h; exact h
  clear eH eL
  refine lv_aload_n hx hb dJ29_init_0 rfl (lv_at hl 0 rfl) ?_
  refine h_kv X hI (h_runI (As := []) X hI (mhJ0_init l Z D j Λ fr lo E a0 G _ hf H.size) (cwIn 0 hts q2224 q452 q170 q453 rfl rfl rfl (by decide +kernel) (by show fr + 1 + 1 ≤ fr + 2 ∧ 8 + (1 + 11) + (lo + 40) ≤ lo + 60; omega)) rfl hl.1 (Nat.le_of_ble_eq_true rfl) dJ29_init_1 ⟨Nat.le_refl _, Nat.le_refl _⟩ rfl) (fun G1 H locs hf hI => ?_)
  exact hret hf hI dJ29_init_4 (Nat.le_refl _) (Nat.le_refl _)
/-! java/util/AbstractMap.<init>()V -/
def hJ4_init (j : JX) (Λ : JLam) (a0 : Nat) (G : HG) (post : HG → Prop) : Prop :=
  post G
abbrev rhJ4_init (fr lo : Nat) : Room := { frames := fr + 1, cells := 0, slots := 0, locals := lo + 40 }
theorem mhJ4_init (l : Launch) (Z : (Nat → Prop) → State → Heap → Prop) (D : va_G) (j : JX) (Λ : JLam) (fr lo : Nat) (E : JE l Z D j Λ fr lo) (a0 : Nat) (G : HG) (post : HG → Prop) (hf : hJ4_init j Λ a0 G post) : HMv l yJ4_init (ws_ yJ4_init cJ4_init 1 none) (rhJ4_init fr lo) D jC (jty j.1) Z G [.ref a0] post 0 0 := by
  refine h_openv E.1 (by decide) (by exact Nat.le_of_ble_eq_true rfl) (fun p e s m args below meth c ls A0 Q X hI hnd hnm hl hret => ?_)
  have X : XC p s m args meth c cJ4_init 1 RJ4 D jC (jty j.1) A0 Z := X
  have hx := X.1
  have hb := X.2.1
  have hown := X.2.2.2.1
  have hts := X.2.2.2.2.1
  have hl : lv_has ls 1 [(0, .ref a0)] := by exact hl
  unfold hJ4_init at hf
  obtain ⟨H, eH⟩ : ∃ H, H = s.heap := ⟨_, rfl⟩
  obtain ⟨locs, eL⟩ : ∃ locs : List Loc, locs = [] := ⟨_, rfl⟩
  have hI : HI D jC G A0 s.heap H locs := by rw [eH, eL]; exact hI
  rw [← eL]
  suffices h : W p l e (rhJ4_init fr lo) s m args below meth c H locs 0 0 Q (F0 m 0 ls []) by rw [eH] at h; exact h
  clear eH eL
  refine lv_aload_n hx hb dJ4_init_0 rfl (lv_at hl 0 rfl) ?_
  refine W.objInit hx hb hown (hts _ q745) (hts _ q247) (hts _ q248) rfl (by rw [X.2.2.1]; exact hl.1) rfl dJ4_init_1 (by show 1 ≤ fr + 1; omega) (Nat.le_trans (m := 40) (Nat.le_of_ble_eq_true rfl) (by show 40 ≤ lo + 40; omega)) ?_
  show W p l e _ s m args below meth c H locs _ _ Q (F0 m 4 ls [])
  exact hret hf hI dJ4_init_4 (Nat.le_refl _) (Nat.le_refl _)
/-! java/util/HashMap.afterNodeAccess(Ljava/util/HashMap$Node;)V -/
def hJ5_afterNodeAccess (j : JX) (Λ : JLam) (a0 : Nat) (q1_ : Option Nat) (G : HG) (post : HG → Prop) : Prop :=
  post G
abbrev rhJ5_afterNodeAccess (fr lo : Nat) : Room := { frames := fr + 1, cells := 0, slots := 0, locals := lo + 40 }
theorem mhJ5_afterNodeAccess (l : Launch) (Z : (Nat → Prop) → State → Heap → Prop) (D : va_G) (j : JX) (Λ : JLam) (fr lo : Nat) (E : JE l Z D j Λ fr lo) (a0 : Nat) (q1_ : Option Nat) (G : HG) (post : HG → Prop) (hf : hJ5_afterNodeAccess j Λ a0 q1_ G post) : HMv l yJ5_afterNodeAccess (ws_ yJ5_afterNodeAccess cJ5_afterNodeAccess 2 none) (rhJ5_afterNodeAccess fr lo) D jC (jty j.1) Z G [.ref a0, va_rf q1_] post 0 0 := by
  refine h_openv E.1 (by decide) (by cases q1_ <;> exact Nat.le_of_ble_eq_true rfl) (fun p e s m args below meth c ls A0 Q X hI hnd hnm hl hret => ?_)
  have X : XC p s m args meth c cJ5_afterNodeAccess 2 RJ5 D jC (jty j.1) A0 Z := X
  have hx := X.1
  have hb := X.2.1
  have hown := X.2.2.2.1
  have hts := X.2.2.2.2.1
  have hl : lv_has ls 2 [(0, .ref a0), (1, va_rf q1_)] := by cases q1_ <;> exact hl
  unfold hJ5_afterNodeAccess at hf
  obtain ⟨H, eH⟩ : ∃ H, H = s.heap := ⟨_, rfl⟩
  obtain ⟨locs, eL⟩ : ∃ locs : List Loc, locs = [] := ⟨_, rfl⟩
  have hI : HI D jC G A0 s.heap H locs := by rw [eH, eL]; exact hI
  rw [← eL]
  suffices h : W p l e (rhJ5_afterNodeAccess fr lo) s m args below meth c H locs 0 0 Q (F0 m 0 ls []) by rw [eH] at h; exact h
  clear eH eL
  exact hret hf hI dJ5_afterNodeAccess_0 (Nat.le_refl _) (Nat.le_refl _)
/-! java/util/HashMap.afterNodeInsertion(Z)V -/
def hJ5_afterNodeInsertion (j : JX) (Λ : JLam) (a0 : Nat) (p1 : Int32) (G : HG) (post : HG → Prop) : Prop :=
  post G
abbrev rhJ5_afterNodeInsertion (fr lo : Nat) : Room := { frames := fr + 1, cells := 0, slots := 0, locals := lo + 40 }
theorem mhJ5_afterNodeInsertion (l : Launch) (Z : (Nat → Prop) → State → Heap → Prop) (D : va_G) (j : JX) (Λ : JLam) (fr lo : Nat) (E : JE l Z D j Λ fr lo) (a0 : Nat) (p1 : Int32) (G : HG) (post : HG → Prop) (hf : hJ5_afterNodeInsertion j Λ a0 p1 G post) : HMv l yJ5_afterNodeInsertion (ws_ yJ5_afterNodeInsertion cJ5_afterNodeInsertion 2 none) (rhJ5_afterNodeInsertion fr lo) D jC (jty j.1) Z G [.ref a0, .int p1] post 0 0 := by
  refine h_openv E.1 (by decide) (by exact Nat.le_of_ble_eq_true rfl) (fun p e s m args below meth c ls A0 Q X hI hnd hnm hl hret => ?_)
  have X : XC p s m args meth c cJ5_afterNodeInsertion 2 RJ5 D jC (jty j.1) A0 Z := X
  have hx := X.1
  have hb := X.2.1
  have hown := X.2.2.2.1
  have hts := X.2.2.2.2.1
  have hl : lv_has ls 2 [(0, .ref a0), (1, .int p1)] := by exact hl
  unfold hJ5_afterNodeInsertion at hf
  obtain ⟨H, eH⟩ : ∃ H, H = s.heap := ⟨_, rfl⟩
  obtain ⟨locs, eL⟩ : ∃ locs : List Loc, locs = [] := ⟨_, rfl⟩
  have hI : HI D jC G A0 s.heap H locs := by rw [eH, eL]; exact hI
  rw [← eL]
  suffices h : W p l e (rhJ5_afterNodeInsertion fr lo) s m args below meth c H locs 0 0 Q (F0 m 0 ls []) by rw [eH] at h; exact h
  clear eH eL
  exact hret hf hI dJ5_afterNodeInsertion_0 (Nat.le_refl _) (Nat.le_refl _)
/-! java/util/HashMap.size()I -/
def hJ5_size (j : JX) (Λ : JLam) (a0 : Nat) (G : HG) (post : Int32 → HG → Prop) : Prop :=
  gtI G a0 16 4 fun x1 => post x1 G
abbrev rhJ5_size (fr lo : Nat) : Room := { frames := fr + 1, cells := 0, slots := 0, locals := lo + 40 }
theorem mhJ5_size (l : Launch) (Z : (Nat → Prop) → State → Heap → Prop) (D : va_G) (j : JX) (Λ : JLam) (fr lo : Nat) (E : JE l Z D j Λ fr lo) (a0 : Nat) (G : HG) (post : Int32 → HG → Prop) (hf : hJ5_size j Λ a0 G post) : HMi l yJ5_size (ws_ yJ5_size cJ5_size 1 (some .int)) (rhJ5_size fr lo) D jC (jty j.1) Z G [.ref a0] post 0 0 := by
  refine h_openi E.1 (by decide) (by exact Nat.le_of_ble_eq_true rfl) (fun p e s m args below meth c ls A0 Q X hI hnd hnm hl hret => ?_)
  have X : XC p s m args meth c cJ5_size 1 RJ5 D jC (jty j.1) A0 Z := X
  have hx := X.1
  have hb := X.2.1
  have hown := X.2.2.2.1
  have hts := X.2.2.2.2.1
  have hl : lv_has ls 1 [(0, .ref a0)] := by exact hl
  unfold hJ5_size at hf
  obtain ⟨H, eH⟩ : ∃ H, H = s.heap := ⟨_, rfl⟩
  obtain ⟨locs, eL⟩ : ∃ locs : List Loc, locs = [] := ⟨_, rfl⟩
  have hI : HI D jC G A0 s.heap H locs := by rw [eH, eL]; exact hI
  rw [← eL]
  suffices h : W p l e (rhJ5_size fr lo) s m args below meth c H locs 0 0 Q (F0 m 0 ls []) by rw [eH] at h; exact h
  clear eH eL
  refine lv_aload_n hx hb dJ5_size_0 rfl (lv_at hl 0 rfl) ?_
  refine hr_gtI X hI (rfl : jC.1[16]? = some (RJ5, TJ5, 8)) in_J5 4 (Nat.le_of_ble_eq_true rfl) hf q748 (fun _ h => h) dJ5_size_1 (fun x1 hf => ?_)
  exact hret hf hI dJ5_size_4 (Nat.le_refl _) (Nat.le_refl _)
/-! java/util/HashSet.size()I -/
def hJ30_size (j : JX) (Λ : JLam) (a0 : Nat) (G : HG) (post : Int32 → HG → Prop) : Prop :=
  gtQ G a0 22 0 fun q1 => nnq q1 fun a2 => isO G a2 16 (hJ5_size j Λ a2 G fun x4 G3 => post x4 G3)
abbrev rhJ30_size (fr lo : Nat) : Room := { frames := fr + 2, cells := 0, slots := 0, locals := lo + 60 }
theorem mhJ30_size (l : Launch) (Z : (Nat → Prop) → State → Heap → Prop) (D : va_G) (j : JX) (Λ : JLam) (fr lo : Nat) (E : JE l Z D j Λ fr lo) (a0 : Nat) (G : HG) (post : Int32 → HG → Prop) (hf : hJ30_size j Λ a0 G post) : HMi l yJ30_size (ws_ yJ30_size cJ30_size 1 (some .int)) (rhJ30_size fr lo) D jC (jty j.1) Z G [.ref a0] post 0 0 := by
  refine h_openi E.1 (by decide) (by exact Nat.le_of_ble_eq_true rfl) (fun p e s m args below meth c ls A0 Q X hI hnd hnm hl hret => ?_)
  have X : XC p s m args meth c cJ30_size 1 RJ30 D jC (jty j.1) A0 Z := X
  have hx := X.1
  have hb := X.2.1
  have hown := X.2.2.2.1
  have hts := X.2.2.2.2.1
  have hl : lv_has ls 1 [(0, .ref a0)] := by exact hl
  unfold hJ30_size at hf
  obtain ⟨H, eH⟩ : ∃ H, H = s.heap := ⟨_, rfl⟩
  obtain ⟨locs, eL⟩ : ∃ locs : List Loc, locs = [] := ⟨_, rfl⟩
  have hI : HI D jC G A0 s.heap H locs := by rw [eH, eL]; exact hI
  rw [← eL]
  suffices h : W p l e (rhJ30_size fr lo) s m args below meth c H locs 0 0 Q (F0 m 0 ls []) by rw [eH] at h; exact h
  clear eH eL
  refine lv_aload_n hx hb dJ30_size_0 rfl (lv_at hl 0 rfl) ?_
  refine hr_gtQ X hI (rfl : jC.1[22]? = some (RJ30, TJ30, 1)) in_J30 0 (Nat.le_of_ble_eq_true rfl) hf q2227 (fun _ h => h) dJ30_size_1 (fun q1 hf => ?_)
  obtain ⟨a2, ea2, hf⟩ := hf
  revert hl hf
  subst ea2
  intro hl hf
  have hl : lv_has ls 1 [(0, .ref a0)] := hl
  obtain ⟨_, _, hO, hf⟩ := hf
  refine h_ki X hI (h_runV (As := []) X hI (h_recv X hI hO (show jC.1[16]? = some (RJ5, TJ5, 8) from rfl)) (mhJ5_size l Z D j Λ fr lo E a2 G _ hf H.size) (cwV 0 hts (lw_V q2259 q2260 q2261 q181 q2262) rfl rfl rfl (by decide +kernel) (by show fr + 1 + 1 ≤ fr + 2 ∧ 8 + (1 + 11) + (lo + 40) ≤ lo + 60; omega)) rfl hl.1 (Nat.le_of_ble_eq_true rfl) dJ30_size_4 ⟨Nat.le_refl _, Nat.le_refl _⟩ rfl) (fun x4 G3 H locs hf hI => ?_)
  clear hO
  exact hret hf hI dJ30_size_7 (Nat.le_refl _) (Nat.le_refl _)
/-! MergeJudge.in(JJJ)Z -/
def hX0_in (j : JX) (Λ : JLam) (p0 : Int64) (p2 : Int64) (p4 : Int64) (G : HG) (post : Int32 → HG → Prop) : Prop :=
  ((lg_cmp p0 p2) < 0 → (post (0 : Int32) G)) ∧ (¬ (lg_cmp p0 p2) < 0 → ((0 < (lg_cmp p0 p4) → (post (0 : Int32) G)) ∧ (¬ 0 < (lg_cmp p0 p4) → (post (1 : Int32) G))))
abbrev rhX0_in (fr lo : Nat) : Room := { frames := fr + 1, cells := 0, slots := 0, locals := lo + 40 }
theorem mhX0_in (l : Launch) (Z : (Nat → Prop) → State → Heap → Prop) (D : va_G) (j : JX) (Λ : JLam) (fr lo : Nat) (E : JE l Z D j Λ fr lo) (p0 : Int64) (p2 : Int64) (p4 : Int64) (G : HG) (post : Int32 → HG → Prop) (hf : hX0_in j Λ p0 p2 p4 G post) : HMi l yX0_in (ws_ yX0_in cX0_in 6 (some .boolean)) (rhX0_in fr lo) D jC (jty j.1) Z G [.long p0, .long p2, .long p4] post 0 0 := by
  refine h_openz E.1 (by decide) (by exact Nat.le_of_ble_eq_true rfl) (fun p e s m args below meth c ls A0 Q X hI hnd hnm hl hret => ?_)
  have X : XC p s m args meth c cX0_in 6 RX0 D jC (jty j.1) A0 Z := X
  have hx := X.1
  have hb := X.2.1
  have hown := X.2.2.2.1
  have hts := X.2.2.2.2.1
  have hl : lv_has ls 6 [(0, .long p0), (2, .long p2), (4, .long p4)] := by exact hl
  unfold hX0_in at hf
  obtain ⟨H, eH⟩ : ∃ H, H = s.heap := ⟨_, rfl⟩
  obtain ⟨locs, eL⟩ : ∃ locs : List Loc, locs = [] := ⟨_, rfl⟩
  have hI : HI D jC G A0 s.heap H locs := by rw [eH, eL]; exact hI
  rw [← eL]
  suffices h : W p l e (rhX0_in fr lo) s m args below meth c H locs 0 0 Q (F0 m 0 ls []) by rw [eH] at h; exact h
  clear eH eL
  refine lv_lload_n hx hb dX0_in_0 rfl (lv_at hl 0 rfl) ?_
  refine lv_lload_n hx hb dX0_in_1 rfl (lv_at hl 1 rfl) ?_
  refine W.lcmp hx hb dX0_in_2 ?_
  refine lv_if_lt (tgt := 17) hx hb dX0_in_3 (by decide) (fun c1 => ?_) (fun c1 => ?_)
  · have hf := hf.1 c1
    refine lv_iconst (v := 0) hx hb dX0_in_17 (by decide) ?_
    exact hret rfl hf hI dX0_in_18 (Nat.le_refl _) (Nat.le_refl _)
  · have hf := hf.2 c1
    refine lv_lload_n hx hb dX0_in_6 rfl (lv_at hl 0 rfl) ?_
    refine lv_lload hx hb dX0_in_7 (lv_at hl 2 rfl) ?_
    refine W.lcmp hx hb dX0_in_9 ?_
    refine lv_if_gt (tgt := 17) hx hb dX0_in_10 (by decide) (fun c2 => ?_) (fun c2 => ?_)
    · have hf := hf.1 c2
      refine lv_iconst (v := 0) hx hb dX0_in_17 (by decide) ?_
      exact hret rfl hf hI dX0_in_18 (Nat.le_refl _) (Nat.le_refl _)
    · have hf := hf.2 c2
      refine lv_iconst (v := 1) hx hb dX0_in_13 (by decide) ?_
      refine lv_goto (tgt := 18) hx hb dX0_in_14 (by decide) ?_
      exact hret rfl hf hI dX0_in_18 (Nat.le_refl _) (Nat.le_refl _)
/-! MergeJudge.isSlot(I)Z -/
def hX0_isSlot (j : JX) (Λ : JLam) (p0 : Int32) (G : HG) (post : Int32 → HG → Prop) : Prop :=
  hX0_in j Λ p0.toInt64 (0 : Int64) (3 : Int64) G fun x2 G1 => zB x2 ∧ post x2 G1
abbrev rhX0_isSlot (fr lo : Nat) : Room := { frames := fr + 2, cells := 0, slots := 0, locals := lo + 65 }
theorem mhX0_isSlot (l : Launch) (Z : (Nat → Prop) → State → Heap → Prop) (D : va_G) (j : JX) (Λ : JLam) (fr lo : Nat) (E : JE l Z D j Λ fr lo) (p0 : Int32) (G : HG) (post : Int32 → HG → Prop) (hf : hX0_isSlot j Λ p0 G post) : HMi l yX0_isSlot (ws_ yX0_isSlot cX0_isSlot 1 (some .boolean)) (rhX0_isSlot fr lo) D jC (jty j.1) Z G [.int p0] post 0 0 := by
  refine h_openz E.1 (by decide) (by exact Nat.le_of_ble_eq_true rfl) (fun p e s m args below meth c ls A0 Q X hI hnd hnm hl hret => ?_)
  have X : XC p s m args meth c cX0_isSlot 1 RX0 D jC (jty j.1) A0 Z := X
  have hx := X.1
  have hb := X.2.1
  have hown := X.2.2.2.1
  have hts := X.2.2.2.2.1
  have hl : lv_has ls 1 [(0, .int p0)] := by exact hl
  unfold hX0_isSlot at hf
  obtain ⟨H, eH⟩ : ∃ H, H = s.heap := ⟨_, rfl⟩
  obtain ⟨locs, eL⟩ : ∃ locs : List Loc, locs = [] := ⟨_, rfl⟩
  have hI : HI D jC G A0 s.heap H locs := by rw [eH, eL]; exact hI
  rw [← eL]
  suffices h : W p l e (rhX0_isSlot fr lo) s m args below meth c H locs 0 0 Q (F0 m 0 ls []) by rw [eH] at h; exact h
  clear eH eL
  refine lv_iload_n hx hb dX0_isSlot_0 rfl (lv_at hl 0 rfl) ?_
  refine lv_i2l hx hb dX0_isSlot_1 rfl ?_
  refine lv_lconst (v := 0) hx hb dX0_isSlot_2 (by decide) ?_
  refine lv_ldc2 (v := 3) hx hb hown (hts _ q225) dX0_isSlot_3 ?_
  refine h_ki X hI (h_runS (As := [.long p0.toInt64, .long 0, .long 3]) X hI (mhX0_in l Z D j Λ fr lo E p0.toInt64 (0 : Int64) (3 : Int64) G _ hf H.size) (va_cwS 3 hts (lw_S q226 q227 q167 q228) rfl rfl rfl (by decide +kernel) (by show fr + 1 + 1 ≤ fr + 2 ∧ 8 + (6 + 11) + (lo + 40) ≤ lo + 65; omega)) rfl hl.1 (Nat.le_of_ble_eq_true rfl) dX0_isSlot_6 ⟨Nat.le_refl _, Nat.le_refl _⟩ rfl) (fun x2 G1 H locs hf hI => ?_)
  obtain ⟨hz, hf⟩ := hf
  exact hret (zB_n hz) hf hI dX0_isSlot_9 (Nat.le_refl _) (Nat.le_refl _)
/-! MergeJudge$Slot.<init>()V -/
def hX1_init (j : JX) (Λ : JLam) (a0 : Nat) (G : HG) (post : HG → Prop) : Prop :=
  post G
abbrev rhX1_init (fr lo : Nat) : Room := { frames := fr + 1, cells := 0, slots := 0, locals := lo + 40 }
theorem mhX1_init (l : Launch) (Z : (Nat → Prop) → State → Heap → Prop) (D : va_G) (j : JX) (Λ : JLam) (fr lo : Nat) (E : JE l Z D j Λ fr lo) (a0 : Nat) (G : HG) (post : HG → Prop) (hf : hX1_init j Λ a0 G post) : HMv l yX1_init (ws_ yX1_init cX1_init 1 none) (rhX1_init fr lo) D jC (jty j.1) Z G [.ref a0] post 0 0 := by
  refine h_openv E.1 (by decide) (by exact Nat.le_of_ble_eq_true rfl) (fun p e s m args below meth c ls A0 Q X hI hnd hnm hl hret => ?_)
  have X : XC p s m args meth c cX1_init 1 RX1 D jC (jty j.1) A0 Z := X
  have hx := X.1
  have hb := X.2.1
  have hown := X.2.2.2.1
  have hts := X.2.2.2.2.1
  have hl : lv_has ls 1 [(0, .ref a0)] := by exact hl
  unfold hX1_init at hf
  obtain ⟨H, eH⟩ : ∃ H, H = s.heap := ⟨_, rfl⟩
  obtain ⟨locs, eL⟩ : ∃ locs : List Loc, locs = [] := ⟨_, rfl⟩
  have hI : HI D jC G A0 s.heap H locs := by rw [eH, eL]; exact hI
  rw [← eL]
  suffices h : W p l e (rhX1_init fr lo) s m args below meth c H locs 0 0 Q (F0 m 0 ls []) by rw [eH] at h; exact h
  clear eH eL
  refine lv_aload_n hx hb dX1_init_0 rfl (lv_at hl 0 rfl) ?_
  refine W.objInit hx hb hown (hts _ q431) (hts _ q247) (hts _ q248) rfl (by rw [X.2.2.1]; exact hl.1) rfl dX1_init_1 (by show 1 ≤ fr + 1; omega) (Nat.le_trans (m := 40) (Nat.le_of_ble_eq_true rfl) (by show 40 ≤ lo + 40; omega)) ?_
  show W p l e _ s m args below meth c H locs _ _ Q (F0 m 4 ls [])
  exact hret hf hI dX1_init_4 (Nat.le_refl _) (Nat.le_refl _)
/-! MergeJudge.clashOf(I)LMergeJudge$Merge; -/
def hX0_clashOf (j : JX) (Λ : JLam) (a0 : Nat) (p1 : Int32) (G : HG) (post : Option Nat → HG → Prop) : Prop :=
  (p1 = 0 → (post (some (j.2 0)) G)) ∧ (¬ p1 = 0 → ((p1 = 1 → (post (some (j.2 1)) G)) ∧ (¬ p1 = 1 → ((p1 = 2 → (post (some (j.2 2)) G)) ∧ (¬ p1 = 2 → (post (some (j.2 3)) G))))))
abbrev rhX0_clashOf (fr lo : Nat) : Room := { frames := fr + 1, cells := 0, slots := 0, locals := lo + 3200 }
theorem mhX0_clashOf (l : Launch) (Z : (Nat → Prop) → State → Heap → Prop) (D : va_G) (j : JX) (Λ : JLam) (fr lo : Nat) (E : JE l Z D j Λ fr lo) (a0 : Nat) (p1 : Int32) (G : HG) (post : Option Nat → HG → Prop) (hf : hX0_clashOf j Λ a0 p1 G post) : HMq l yX0_clashOf (ws_ yX0_clashOf cX0_clashOf 2 (some (.object "MergeJudge$Merge"))) (rhX0_clashOf fr lo) D jC (jty j.1) Z G [.ref a0, .int p1] post 0 0 := by
  refine h_openq (Or.inl ⟨_, rfl⟩) E.1 (by decide) (by exact Nat.le_of_ble_eq_true rfl) (fun p e s m args below meth c ls A0 Q X hI hnd hnm hl hret => ?_)
  have X : XC p s m args meth c cX0_clashOf 2 RX0 D jC (jty j.1) A0 Z := X
  have hx := X.1
  have hb := X.2.1
  have hown := X.2.2.2.1
  have hts := X.2.2.2.2.1
  have hl : lv_has ls 2 [(0, .ref a0), (1, .int p1)] := by exact hl
  unfold hX0_clashOf at hf
  obtain ⟨H, eH⟩ : ∃ H, H = s.heap := ⟨_, rfl⟩
  obtain ⟨locs, eL⟩ : ∃ locs : List Loc, locs = [] := ⟨_, rfl⟩
  have hI : HI D jC G A0 s.heap H locs := by rw [eH, eL]; exact hI
  rw [← eL]
  suffices h : W p l e (rhX0_clashOf fr lo) s m args below meth c H locs 0 0 Q (F0 m 0 ls []) by rw [eH] at h; exact h
  clear eH eL
  refine lv_iload_n hx hb dX0_clashOf_0 rfl (lv_at hl 1 rfl) ?_
  by_cases c1 : p1 = 0
  · refine x_swIn (tgt := 28) hx hb c1 dX0_clashOf_1 (by decide) (by decide) rfl (by decide) ?_
    have hf := hf.1 c1
    refine E.2.2.1 0 yX0_clashOf 28 66 rfl X hI hnd hl.1 (Nat.le_of_ble_eq_true rfl) dX0_clashOf_28 (by show 3200 ≤ lo + 3200; omega) ?_
    exact hret (v := (some (j.2 0))) hf hI dX0_clashOf_33 (Nat.le_refl _) (Nat.le_refl _)
  have hf := hf.2 c1
  by_cases c2 : p1 = 1
  · refine x_swIn (tgt := 34) hx hb c2 dX0_clashOf_1 (by decide) (by decide) rfl (by decide) ?_
    have hf := hf.1 c2
    refine E.2.2.1 1 yX0_clashOf 34 69 rfl X hI hnd hl.1 (Nat.le_of_ble_eq_true rfl) dX0_clashOf_34 (by show 3200 ≤ lo + 3200; omega) ?_
    exact hret (v := (some (j.2 1))) hf hI dX0_clashOf_39 (Nat.le_refl _) (Nat.le_refl _)
  have hf := hf.2 c2
  by_cases c3 : p1 = 2
  · refine x_swIn (tgt := 40) hx hb c3 dX0_clashOf_1 (by decide) (by decide) rfl (by decide) ?_
    have hf := hf.1 c3
    refine E.2.2.1 2 yX0_clashOf 40 70 rfl X hI hnd hl.1 (Nat.le_of_ble_eq_true rfl) dX0_clashOf_40 (by show 3200 ≤ lo + 3200; omega) ?_
    exact hret (v := (some (j.2 2))) hf hI dX0_clashOf_45 (Nat.le_refl _) (Nat.le_refl _)
  have hf := hf.2 c3
  refine lv_tableOut (tgt := 46) hx hb dX0_clashOf_1 (by have t0 := lv_neT c1 (show (0 : Int32).toInt = 0 from rfl); have t1 := lv_neT c2 (show (1 : Int32).toInt = 1 from rfl); have t2 := lv_neT c3 (show (2 : Int32).toInt = 2 from rfl); omega) (by decide) ?_
  refine E.2.2.1 3 yX0_clashOf 46 71 rfl X hI hnd hl.1 (Nat.le_of_ble_eq_true rfl) dX0_clashOf_46 (by show 3200 ≤ lo + 3200; omega) ?_
  exact hret (v := (some (j.2 3))) hf hI dX0_clashOf_51 (Nat.le_refl _) (Nat.le_refl _)
/-! MergeJudge$Side.<init>(LMergeJudge;)V -/
def hX3_init (j : JX) (Λ : JLam) (a0 : Nat) (p1 : Nat) (mc ms : Nat) (G : HG) (post : HG → Prop) : Prop :=
  ptV G a0 3 4 (.ref p1) fun G1 => 1 ≤ mc ∧ (64 : Int32).toNatClampNeg ≤ ms ∧ (¬ (64 : Int32) < 0 ∧ (64 : Int32).toNatClampNeg ≤ 65536 ∧ mkO G1 (.inl (j.1 0, (64 : Int32).toNatClampNeg, .inl (fun _ => 0))) fun a2 G3 => ptV G3 a0 3 0 (.ref a2) fun G4 => 1 ≤ mc - 1 ∧ (64 : Int32).toNatClampNeg ≤ ms - (64 : Int32).toNatClampNeg ∧ (¬ (64 : Int32) < 0 ∧ (64 : Int32).toNatClampNeg ≤ 65536 ∧ mkO G4 (.inl (j.1 0, (64 : Int32).toNatClampNeg, .inl (fun _ => 0))) fun a5 G6 => ptV G6 a0 3 1 (.ref a5) fun G7 => 1 ≤ mc - 1 - 1 ∧ (64 : Int32).toNatClampNeg ≤ ms - (64 : Int32).toNatClampNeg - (64 : Int32).toNatClampNeg ∧ (¬ (64 : Int32) < 0 ∧ (64 : Int32).toNatClampNeg ≤ 65536 ∧ mkO G7 (.inl (j.1 0, (64 : Int32).toNatClampNeg, .inl (fun _ => 0))) fun a8 G9 => ptV G9 a0 3 2 (.ref a8) fun G10 => post G10)))
abbrev rhX3_init (fr lo mc ms : Nat) : Room := { frames := fr + 1, cells := mc, slots := ms, locals := lo + 40 }
theorem mhX3_init (l : Launch) (Z : (Nat → Prop) → State → Heap → Prop) (D : va_G) (j : JX) (Λ : JLam) (fr lo : Nat) (E : JE l Z D j Λ fr lo) (a0 : Nat) (p1 : Nat) (mc ms : Nat) (G : HG) (post : HG → Prop) (hf : hX3_init j Λ a0 p1 mc ms G post) : HMv l yX3_init (ws_ yX3_init cX3_init 2 none) (rhX3_init fr lo mc ms) D jC (jty j.1) Z G [.ref a0, .ref p1] post mc ms := by
  obtain ⟨MC, eMC⟩ : ∃ MC, MC = mc := ⟨_, rfl⟩
  obtain ⟨MS, eMS⟩ : ∃ MS, MS = ms := ⟨_, rfl⟩
  suffices goal : HMv l yX3_init (ws_ yX3_init cX3_init 2 none) (rhX3_init fr lo MC MS) D jC (jty j.1) Z G [.ref a0, .ref p1] post MC MS by rw [eMC, eMS] at goal; exact goal
  have hm0_ : 0 + mc ≤ MC ∧ 0 + ms ≤ MS := by omega
  clear eMC eMS
  refine h_openv E.1 (by decide) (by exact Nat.le_of_ble_eq_true rfl) (fun p e s m args below meth c ls A0 Q X hI hnd hnm hl hret => ?_)
  have X : XC p s m args meth c cX3_init 2 RX3 D jC (jty j.1) A0 Z := X
  have hx := X.1
  have hb := X.2.1
  have hown := X.2.2.2.1
  have hts := X.2.2.2.2.1
  have hl : lv_has ls 2 [(0, .ref a0), (1, .ref p1)] := by exact hl
  unfold hX3_init at hf
  obtain ⟨H, eH⟩ : ∃ H, H = s.heap := ⟨_, rfl⟩
  obtain ⟨locs, eL⟩ : ∃ locs : List Loc, locs = [] := ⟨_, rfl⟩
  have hI : HI D jC G A0 s.heap H locs := by rw [eH, eL]; exact hI
  rw [← eL]
  obtain ⟨cells, eC⟩ : ∃ n : Nat, n = 0 := ⟨_, rfl⟩
  obtain ⟨slots, eS⟩ : ∃ n : Nat, n = 0 := ⟨_, rfl⟩
  have hm : cells + mc ≤ MC ∧ slots + ms ≤ MS := by rw [eC, eS]; exact hm0_
  suffices h : W p l e (rhX3_init fr lo MC MS) s m args below meth c H locs cells slots Q (F0 m 0 ls []) by rw [eH, eC, eS] at h; exact h
  clear eH eL eC eS
  refine lv_aload_n hx hb dX3_init_0 rfl (lv_at hl 0 rfl) ?_
  refine lv_aload_n hx hb dX3_init_1 rfl (lv_at hl 1 rfl) ?_
  refine hr_ptF X hI (rfl : jC.1[3]? = some (RX3, TX3, 5)) in_X3 4 (Nat.le_of_ble_eq_true rfl) tyX3 tyX3_ok nmX3 hf q568 (fun _ h => h) rfl hnm rfl rfl rfl dX3_init_2 (fun G1 H locs hf hI => ?_)
  refine lv_aload_n hx hb dX3_init_5 rfl (lv_at hl 0 rfl) ?_
  refine W.objInit hx hb hown (hts _ q559) (hts _ q247) (hts _ q248) rfl (by rw [X.2.2.1]; exact hl.1) rfl dX3_init_6 (by show 1 ≤ fr + 1; omega) (Nat.le_trans (m := 40) (Nat.le_of_ble_eq_true rfl) (by show 40 ≤ lo + 40; omega)) ?_
  show W p l e _ s m args below meth c H locs _ _ Q (F0 m 9 ls [])
  refine lv_aload_n hx hb dX3_init_9 rfl (lv_at hl 0 rfl) ?_
  refine lv_bipush (v := 64) hx hb dX3_init_10 (by decide) ?_
  obtain ⟨hb1, hb2, hf⟩ := hf
  refine hr_newai X hI 0 q323 rfl hf (hmA hm.1 hb1) (hmA hm.2 hb2) dX3_init_12 (fun a2 G3 H hf hI => ?_)
  have hm := And.intro (hmB hm.1 hb1) (hmB hm.2 hb2)
  clear hb1 hb2
  refine hr_ptF X hI (rfl : jC.1[3]? = some (RX3, TX3, 5)) in_X3 0 (Nat.le_of_ble_eq_true rfl) tyX3 tyX3_ok nmX3 hf q560 (fun _ h => h) rfl hnm rfl rfl rfl dX3_init_14 (fun G4 H locs hf hI => ?_)
  refine lv_aload_n hx hb dX3_init_17 rfl (lv_at hl 0 rfl) ?_
  refine lv_bipush (v := 64) hx hb dX3_init_18 (by decide) ?_
  obtain ⟨hb1, hb2, hf⟩ := hf
  refine hr_newai X hI 0 q323 rfl hf (hmA hm.1 hb1) (hmA hm.2 hb2) dX3_init_20 (fun a5 G6 H hf hI => ?_)
  have hm := And.intro (hmB hm.1 hb1) (hmB hm.2 hb2)
  clear hb1 hb2
  refine hr_ptF X hI (rfl : jC.1[3]? = some (RX3, TX3, 5)) in_X3 1 (Nat.le_of_ble_eq_true rfl) tyX3 tyX3_ok nmX3 hf q563 (fun _ h => h) rfl hnm rfl rfl rfl dX3_init_22 (fun G7 H locs hf hI => ?_)
  refine lv_aload_n hx hb dX3_init_25 rfl (lv_at hl 0 rfl) ?_
  refine lv_bipush (v := 64) hx hb dX3_init_26 (by decide) ?_
  obtain ⟨hb1, hb2, hf⟩ := hf
  refine hr_newai X hI 0 q323 rfl hf (hmA hm.1 hb1) (hmA hm.2 hb2) dX3_init_28 (fun a8 G9 H hf hI => ?_)
  have hm := And.intro (hmB hm.1 hb1) (hmB hm.2 hb2)
  clear hb1 hb2
  refine hr_ptF X hI (rfl : jC.1[3]? = some (RX3, TX3, 5)) in_X3 2 (Nat.le_of_ble_eq_true rfl) tyX3 tyX3_ok nmX3 hf q565 (fun _ h => h) rfl hnm rfl rfl rfl dX3_init_30 (fun G10 H locs hf hI => ?_)
  exact hret hf hI dX3_init_33 (hmC hm.1) (hmC hm.2)
/-! MergeJudge$Least.<init>(LMergeJudge;)V -/
def hX4_init (j : JX) (Λ : JLam) (a0 : Nat) (p1 : Nat) (G : HG) (post : HG → Prop) : Prop :=
  ptV G a0 4 5 (.ref p1) fun G1 => post G1
abbrev rhX4_init (fr lo : Nat) : Room := { frames := fr + 1, cells := 0, slots := 0, locals := lo + 40 }
theorem mhX4_init (l : Launch) (Z : (Nat → Prop) → State → Heap → Prop) (D : va_G) (j : JX) (Λ : JLam) (fr lo : Nat) (E : JE l Z D j Λ fr lo) (a0 : Nat) (p1 : Nat) (G : HG) (post : HG → Prop) (hf : hX4_init j Λ a0 p1 G post) : HMv l yX4_init (ws_ yX4_init cX4_init 2 none) (rhX4_init fr lo) D jC (jty j.1) Z G [.ref a0, .ref p1] post 0 0 := by
  refine h_openv E.1 (by decide) (by exact Nat.le_of_ble_eq_true rfl) (fun p e s m args below meth c ls A0 Q X hI hnd hnm hl hret => ?_)
  have X : XC p s m args meth c cX4_init 2 RX4 D jC (jty j.1) A0 Z := X
  have hx := X.1
  have hb := X.2.1
  have hown := X.2.2.2.1
  have hts := X.2.2.2.2.1
  have hl : lv_has ls 2 [(0, .ref a0), (1, .ref p1)] := by exact hl
  unfold hX4_init at hf
  obtain ⟨H, eH⟩ : ∃ H, H = s.heap := ⟨_, rfl⟩
  obtain ⟨locs, eL⟩ : ∃ locs : List Loc, locs = [] := ⟨_, rfl⟩
  have hI : HI D jC G A0 s.heap H locs := by rw [eH, eL]; exact hI
  rw [← eL]
  suffices h : W p l e (rhX4_init fr lo) s m args below meth c H locs 0 0 Q (F0 m 0 ls []) by rw [eH] at h; exact h
  clear eH eL
  refine lv_aload_n hx hb dX4_init_0 rfl (lv_at hl 0 rfl) ?_
  refine lv_aload_n hx hb dX4_init_1 rfl (lv_at hl 1 rfl) ?_
  refine hr_ptF X hI (rfl : jC.1[4]? = some (RX4, TX4, 6)) in_X4 5 (Nat.le_of_ble_eq_true rfl) tyX4 tyX4_ok nmX4 hf q593 (fun _ h => h) rfl hnm rfl rfl rfl dX4_init_2 (fun G1 H locs hf hI => ?_)
  refine lv_aload_n hx hb dX4_init_5 rfl (lv_at hl 0 rfl) ?_
  refine W.objInit hx hb hown (hts _ q586) (hts _ q247) (hts _ q248) rfl (by rw [X.2.2.1]; exact hl.1) rfl dX4_init_6 (by show 1 ≤ fr + 1; omega) (Nat.le_trans (m := 40) (Nat.le_of_ble_eq_true rfl) (by show 40 ≤ lo + 40; omega)) ?_
  show W p l e _ s m args below meth c H locs _ _ Q (F0 m 9 ls [])
  exact hret hf hI dX4_init_9 (Nat.le_refl _) (Nat.le_refl _)
/-! MergeJudge$Locks.<init>(LMergeJudge;)V -/
def hX5_init (j : JX) (Λ : JLam) (a0 : Nat) (p1 : Nat) (G : HG) (post : HG → Prop) : Prop :=
  ptV G a0 5 2 (.ref p1) fun G1 => post G1
abbrev rhX5_init (fr lo : Nat) : Room := { frames := fr + 1, cells := 0, slots := 0, locals := lo + 40 }
theorem mhX5_init (l : Launch) (Z : (Nat → Prop) → State → Heap → Prop) (D : va_G) (j : JX) (Λ : JLam) (fr lo : Nat) (E : JE l Z D j Λ fr lo) (a0 : Nat) (p1 : Nat) (G : HG) (post : HG → Prop) (hf : hX5_init j Λ a0 p1 G post) : HMv l yX5_init (ws_ yX5_init cX5_init 2 none) (rhX5_init fr lo) D jC (jty j.1) Z G [.ref a0, .ref p1] post 0 0 := by
  refine h_openv E.1 (by decide) (by exact Nat.le_of_ble_eq_true rfl) (fun p e s m args below meth c ls A0 Q X hI hnd hnm hl hret => ?_)
  have X : XC p s m args meth c cX5_init 2 RX5 D jC (jty j.1) A0 Z := X
  have hx := X.1
  have hb := X.2.1
  have hown := X.2.2.2.1
  have hts := X.2.2.2.2.1
  have hl : lv_has ls 2 [(0, .ref a0), (1, .ref p1)] := by exact hl
  unfold hX5_init at hf
  obtain ⟨H, eH⟩ : ∃ H, H = s.heap := ⟨_, rfl⟩
  obtain ⟨locs, eL⟩ : ∃ locs : List Loc, locs = [] := ⟨_, rfl⟩
  have hI : HI D jC G A0 s.heap H locs := by rw [eH, eL]; exact hI
  rw [← eL]
  suffices h : W p l e (rhX5_init fr lo) s m args below meth c H locs 0 0 Q (F0 m 0 ls []) by rw [eH] at h; exact h
  clear eH eL
  refine lv_aload_n hx hb dX5_init_0 rfl (lv_at hl 0 rfl) ?_
  refine lv_aload_n hx hb dX5_init_1 rfl (lv_at hl 1 rfl) ?_
  refine hr_ptF X hI (rfl : jC.1[5]? = some (RX5, TX5, 3)) in_X5 2 (Nat.le_of_ble_eq_true rfl) tyX5 tyX5_ok nmX5 hf q617 (fun _ h => h) rfl hnm rfl rfl rfl dX5_init_2 (fun G1 H locs hf hI => ?_)
  refine lv_aload_n hx hb dX5_init_5 rfl (lv_at hl 0 rfl) ?_
  refine W.objInit hx hb hown (hts _ q612) (hts _ q247) (hts _ q248) rfl (by rw [X.2.2.1]; exact hl.1) rfl dX5_init_6 (by show 1 ≤ fr + 1; omega) (Nat.le_trans (m := 40) (Nat.le_of_ble_eq_true rfl) (by show 40 ≤ lo + 40; omega)) ?_
  show W p l e _ s m args below meth c H locs _ _ Q (F0 m 9 ls [])
  exact hret hf hI dX5_init_9 (Nat.le_refl _) (Nat.le_refl _)
/-! MergeJudge$Merging.<init>(LMergeJudge$Merge;)V -/
def hX6_init (j : JX) (Λ : JLam) (a0 : Nat) (p1 : Nat) (G : HG) (post : HG → Prop) : Prop :=
  ptV G a0 6 0 (.ref p1) fun G1 => post G1
abbrev rhX6_init (fr lo : Nat) : Room := { frames := fr + 1, cells := 0, slots := 0, locals := lo + 40 }
theorem mhX6_init (l : Launch) (Z : (Nat → Prop) → State → Heap → Prop) (D : va_G) (j : JX) (Λ : JLam) (fr lo : Nat) (E : JE l Z D j Λ fr lo) (a0 : Nat) (p1 : Nat) (G : HG) (post : HG → Prop) (hf : hX6_init j Λ a0 p1 G post) : HMv l yX6_init (ws_ yX6_init cX6_init 2 none) (rhX6_init fr lo) D jC (jty j.1) Z G [.ref a0, .ref p1] post 0 0 := by
  refine h_openv E.1 (by decide) (by exact Nat.le_of_ble_eq_true rfl) (fun p e s m args below meth c ls A0 Q X hI hnd hnm hl hret => ?_)
  have X : XC p s m args meth c cX6_init 2 RX6 D jC (jty j.1) A0 Z := X
  have hx := X.1
  have hb := X.2.1
  have hown := X.2.2.2.1
  have hts := X.2.2.2.2.1
  have hl : lv_has ls 2 [(0, .ref a0), (1, .ref p1)] := by exact hl
  unfold hX6_init at hf
  obtain ⟨H, eH⟩ : ∃ H, H = s.heap := ⟨_, rfl⟩
  obtain ⟨locs, eL⟩ : ∃ locs : List Loc, locs = [] := ⟨_, rfl⟩
  have hI : HI D jC G A0 s.heap H locs := by rw [eH, eL]; exact hI
  rw [← eL]
  suffices h : W p l e (rhX6_init fr lo) s m args below meth c H locs 0 0 Q (F0 m 0 ls []) by rw [eH] at h; exact h
  clear eH eL
  refine lv_aload_n hx hb dX6_init_0 rfl (lv_at hl 0 rfl) ?_
  refine W.objInit hx hb hown (hts _ q629) (hts _ q247) (hts _ q248) rfl (by rw [X.2.2.1]; exact hl.1) rfl dX6_init_1 (by show 1 ≤ fr + 1; omega) (Nat.le_trans (m := 40) (Nat.le_of_ble_eq_true rfl) (by show 40 ≤ lo + 40; omega)) ?_
  show W p l e _ s m args below meth c H locs _ _ Q (F0 m 4 ls [])
  refine lv_aload_n hx hb dX6_init_4 rfl (lv_at hl 0 rfl) ?_
  refine lv_aload_n hx hb dX6_init_5 rfl (lv_at hl 1 rfl) ?_
  refine hr_ptF X hI (rfl : jC.1[6]? = some (RX6, TX6, 1)) in_X6 0 (Nat.le_of_ble_eq_true rfl) tyX6 tyX6_ok nmX6 hf q630 (fun _ h => h) rfl hnm rfl rfl rfl dX6_init_6 (fun G1 H locs hf hI => ?_)
  exact hret hf hI dX6_init_9 (Nat.le_refl _) (Nat.le_refl _)
/-! MergeJudge.lambda$clashOf$0(III)I -/
def hX0_lambda_clashOf_0 (j : JX) (Λ : JLam) (p0 : Int32) (p1 : Int32) (p2 : Int32) (G : HG) (post : Int32 → HG → Prop) : Prop :=
  post p1 G
abbrev rhX0_lambda_clashOf_0 (fr lo : Nat) : Room := { frames := fr + 1, cells := 0, slots := 0, locals := lo + 40 }
theorem mhX0_lambda_clashOf_0 (l : Launch) (Z : (Nat → Prop) → State → Heap → Prop) (D : va_G) (j : JX) (Λ : JLam) (fr lo : Nat) (E : JE l Z D j Λ fr lo) (p0 : Int32) (p1 : Int32) (p2 : Int32) (G : HG) (post : Int32 → HG → Prop) (hf : hX0_lambda_clashOf_0 j Λ p0 p1 p2 G post) : HMi l yX0_lambda_clashOf_0 (ws_ yX0_lambda_clashOf_0 cX0_lambda_clashOf_0 3 (some .int)) (rhX0_lambda_clashOf_0 fr lo) D jC (jty j.1) Z G [.int p0, .int p1, .int p2] post 0 0 := by
  refine h_openi E.1 (by decide) (by exact Nat.le_of_ble_eq_true rfl) (fun p e s m args below meth c ls A0 Q X hI hnd hnm hl hret => ?_)
  have X : XC p s m args meth c cX0_lambda_clashOf_0 3 RX0 D jC (jty j.1) A0 Z := X
  have hx := X.1
  have hb := X.2.1
  have hown := X.2.2.2.1
  have hts := X.2.2.2.2.1
  have hl : lv_has ls 3 [(0, .int p0), (1, .int p1), (2, .int p2)] := by exact hl
  unfold hX0_lambda_clashOf_0 at hf
  obtain ⟨H, eH⟩ : ∃ H, H = s.heap := ⟨_, rfl⟩
  obtain ⟨locs, eL⟩ : ∃ locs : List Loc, locs = [] := ⟨_, rfl⟩
  have hI : HI D jC G A0 s.heap H locs := by rw [eH, eL]; exact hI
  rw [← eL]
  suffices h : W p l e (rhX0_lambda_clashOf_0 fr lo) s m args below meth c H locs 0 0 Q (F0 m 0 ls []) by rw [eH] at h; exact h
  clear eH eL
  refine lv_iload_n hx hb dX0_lambda_clashOf_0_0 rfl (lv_at hl 1 rfl) ?_
  exact hret hf hI dX0_lambda_clashOf_0_1 (Nat.le_refl _) (Nat.le_refl _)
/-! MergeJudge.lambda$clashOf$1(III)I -/
def hX0_lambda_clashOf_1 (j : JX) (Λ : JLam) (p0 : Int32) (p1 : Int32) (p2 : Int32) (G : HG) (post : Int32 → HG → Prop) : Prop :=
  post p2 G
abbrev rhX0_lambda_clashOf_1 (fr lo : Nat) : Room := { frames := fr + 1, cells := 0, slots := 0, locals := lo + 40 }
theorem mhX0_lambda_clashOf_1 (l : Launch) (Z : (Nat → Prop) → State → Heap → Prop) (D : va_G) (j : JX) (Λ : JLam) (fr lo : Nat) (E : JE l Z D j Λ fr lo) (p0 : Int32) (p1 : Int32) (p2 : Int32) (G : HG) (post : Int32 → HG → Prop) (hf : hX0_lambda_clashOf_1 j Λ p0 p1 p2 G post) : HMi l yX0_lambda_clashOf_1 (ws_ yX0_lambda_clashOf_1 cX0_lambda_clashOf_1 3 (some .int)) (rhX0_lambda_clashOf_1 fr lo) D jC (jty j.1) Z G [.int p0, .int p1, .int p2] post 0 0 := by
  refine h_openi E.1 (by decide) (by exact Nat.le_of_ble_eq_true rfl) (fun p e s m args below meth c ls A0 Q X hI hnd hnm hl hret => ?_)
  have X : XC p s m args meth c cX0_lambda_clashOf_1 3 RX0 D jC (jty j.1) A0 Z := X
  have hx := X.1
  have hb := X.2.1
  have hown := X.2.2.2.1
  have hts := X.2.2.2.2.1
  have hl : lv_has ls 3 [(0, .int p0), (1, .int p1), (2, .int p2)] := by exact hl
  unfold hX0_lambda_clashOf_1 at hf
  obtain ⟨H, eH⟩ : ∃ H, H = s.heap := ⟨_, rfl⟩
  obtain ⟨locs, eL⟩ : ∃ locs : List Loc, locs = [] := ⟨_, rfl⟩
  have hI : HI D jC G A0 s.heap H locs := by rw [eH, eL]; exact hI
  rw [← eL]
  suffices h : W p l e (rhX0_lambda_clashOf_1 fr lo) s m args below meth c H locs 0 0 Q (F0 m 0 ls []) by rw [eH] at h; exact h
  clear eH eL
  refine lv_iload_n hx hb dX0_lambda_clashOf_1_0 rfl (lv_at hl 2 rfl) ?_
  exact hret hf hI dX0_lambda_clashOf_1_1 (Nat.le_refl _) (Nat.le_refl _)
/-! MergeJudge.larger(III)I -/
def hX0_larger (j : JX) (Λ : JLam) (p0 : Int32) (p1 : Int32) (p2 : Int32) (G : HG) (post : Int32 → HG → Prop) : Prop :=
  post (if p1 < p2 then p2 else p1) G
abbrev rhX0_larger (fr lo : Nat) : Room := { frames := fr + 1, cells := 0, slots := 0, locals := lo + 40 }
theorem mhX0_larger (l : Launch) (Z : (Nat → Prop) → State → Heap → Prop) (D : va_G) (j : JX) (Λ : JLam) (fr lo : Nat) (E : JE l Z D j Λ fr lo) (p0 : Int32) (p1 : Int32) (p2 : Int32) (G : HG) (post : Int32 → HG → Prop) (hf : hX0_larger j Λ p0 p1 p2 G post) : HMi l yX0_larger (ws_ yX0_larger cX0_larger 3 (some .int)) (rhX0_larger fr lo) D jC (jty j.1) Z G [.int p0, .int p1, .int p2] post 0 0 := by
  refine h_openi E.1 (by decide) (by exact Nat.le_of_ble_eq_true rfl) (fun p e s m args below meth c ls A0 Q X hI hnd hnm hl hret => ?_)
  have X : XC p s m args meth c cX0_larger 3 RX0 D jC (jty j.1) A0 Z := X
  have hx := X.1
  have hb := X.2.1
  have hown := X.2.2.2.1
  have hts := X.2.2.2.2.1
  have hl : lv_has ls 3 [(0, .int p0), (1, .int p1), (2, .int p2)] := by exact hl
  unfold hX0_larger at hf
  obtain ⟨H, eH⟩ : ∃ H, H = s.heap := ⟨_, rfl⟩
  obtain ⟨locs, eL⟩ : ∃ locs : List Loc, locs = [] := ⟨_, rfl⟩
  have hI : HI D jC G A0 s.heap H locs := by rw [eH, eL]; exact hI
  rw [← eL]
  suffices h : W p l e (rhX0_larger fr lo) s m args below meth c H locs 0 0 Q (F0 m 0 ls []) by rw [eH] at h; exact h
  clear eH eL
  refine lv_iload_n hx hb dX0_larger_0 rfl (lv_at hl 1 rfl) ?_
  refine lv_iload_n hx hb dX0_larger_1 rfl (lv_at hl 2 rfl) ?_
  refine x_mmax X hl.1 q545 q546 q173 q547 (by show 1 ≤ fr + 1 ∧ 21 ≤ lo + 40; omega) (Nat.le_of_ble_eq_true rfl) ⟨Nat.le_refl _, Nat.le_refl _⟩ dX0_larger_2 ?_
  exact hret hf hI dX0_larger_5 (Nat.le_refl _) (Nat.le_refl _)
/-! MergeJudge.lambda$clashOf$2(III)I -/
def hX0_lambda_clashOf_2 (j : JX) (Λ : JLam) (p0 : Int32) (p1 : Int32) (p2 : Int32) (G : HG) (post : Int32 → HG → Prop) : Prop :=
  post p0 G
abbrev rhX0_lambda_clashOf_2 (fr lo : Nat) : Room := { frames := fr + 1, cells := 0, slots := 0, locals := lo + 40 }
theorem mhX0_lambda_clashOf_2 (l : Launch) (Z : (Nat → Prop) → State → Heap → Prop) (D : va_G) (j : JX) (Λ : JLam) (fr lo : Nat) (E : JE l Z D j Λ fr lo) (p0 : Int32) (p1 : Int32) (p2 : Int32) (G : HG) (post : Int32 → HG → Prop) (hf : hX0_lambda_clashOf_2 j Λ p0 p1 p2 G post) : HMi l yX0_lambda_clashOf_2 (ws_ yX0_lambda_clashOf_2 cX0_lambda_clashOf_2 3 (some .int)) (rhX0_lambda_clashOf_2 fr lo) D jC (jty j.1) Z G [.int p0, .int p1, .int p2] post 0 0 := by
  refine h_openi E.1 (by decide) (by exact Nat.le_of_ble_eq_true rfl) (fun p e s m args below meth c ls A0 Q X hI hnd hnm hl hret => ?_)
  have X : XC p s m args meth c cX0_lambda_clashOf_2 3 RX0 D jC (jty j.1) A0 Z := X
  have hx := X.1
  have hb := X.2.1
  have hown := X.2.2.2.1
  have hts := X.2.2.2.2.1
  have hl : lv_has ls 3 [(0, .int p0), (1, .int p1), (2, .int p2)] := by exact hl
  unfold hX0_lambda_clashOf_2 at hf
  obtain ⟨H, eH⟩ : ∃ H, H = s.heap := ⟨_, rfl⟩
  obtain ⟨locs, eL⟩ : ∃ locs : List Loc, locs = [] := ⟨_, rfl⟩
  have hI : HI D jC G A0 s.heap H locs := by rw [eH, eL]; exact hI
  rw [← eL]
  suffices h : W p l e (rhX0_lambda_clashOf_2 fr lo) s m args below meth c H locs 0 0 Q (F0 m 0 ls []) by rw [eH] at h; exact h
  clear eH eL
  refine lv_iload_n hx hb dX0_lambda_clashOf_2_0 rfl (lv_at hl 0 rfl) ?_
  exact hret hf hI dX0_lambda_clashOf_2_1 (Nat.le_refl _) (Nat.le_refl _)
/-! MergeJudge.smaller(III)I -/
def hX0_smaller (j : JX) (Λ : JLam) (p0 : Int32) (p1 : Int32) (p2 : Int32) (G : HG) (post : Int32 → HG → Prop) : Prop :=
  post (if p2 < p1 then p2 else p1) G
abbrev rhX0_smaller (fr lo : Nat) : Room := { frames := fr + 1, cells := 0, slots := 0, locals := lo + 40 }
theorem mhX0_smaller (l : Launch) (Z : (Nat → Prop) → State → Heap → Prop) (D : va_G) (j : JX) (Λ : JLam) (fr lo : Nat) (E : JE l Z D j Λ fr lo) (p0 : Int32) (p1 : Int32) (p2 : Int32) (G : HG) (post : Int32 → HG → Prop) (hf : hX0_smaller j Λ p0 p1 p2 G post) : HMi l yX0_smaller (ws_ yX0_smaller cX0_smaller 3 (some .int)) (rhX0_smaller fr lo) D jC (jty j.1) Z G [.int p0, .int p1, .int p2] post 0 0 := by
  refine h_openi E.1 (by decide) (by exact Nat.le_of_ble_eq_true rfl) (fun p e s m args below meth c ls A0 Q X hI hnd hnm hl hret => ?_)
  have X : XC p s m args meth c cX0_smaller 3 RX0 D jC (jty j.1) A0 Z := X
  have hx := X.1
  have hb := X.2.1
  have hown := X.2.2.2.1
  have hts := X.2.2.2.2.1
  have hl : lv_has ls 3 [(0, .int p0), (1, .int p1), (2, .int p2)] := by exact hl
  unfold hX0_smaller at hf
  obtain ⟨H, eH⟩ : ∃ H, H = s.heap := ⟨_, rfl⟩
  obtain ⟨locs, eL⟩ : ∃ locs : List Loc, locs = [] := ⟨_, rfl⟩
  have hI : HI D jC G A0 s.heap H locs := by rw [eH, eL]; exact hI
  rw [← eL]
  suffices h : W p l e (rhX0_smaller fr lo) s m args below meth c H locs 0 0 Q (F0 m 0 ls []) by rw [eH] at h; exact h
  clear eH eL
  refine lv_iload_n hx hb dX0_smaller_0 rfl (lv_at hl 1 rfl) ?_
  refine lv_iload_n hx hb dX0_smaller_1 rfl (lv_at hl 2 rfl) ?_
  refine x_mmin X hl.1 q637 q638 q173 q639 (by show 1 ≤ fr + 1 ∧ 21 ≤ lo + 40; omega) (Nat.le_of_ble_eq_true rfl) ⟨Nat.le_refl _, Nat.le_refl _⟩ dX0_smaller_2 ?_
  exact hret hf hI dX0_smaller_5 (Nat.le_refl _) (Nat.le_refl _)
/-! MergeJudge.sums(III)I -/
def hX0_sums (j : JX) (Λ : JLam) (a0 : Nat) (p1 : Int32) (p2 : Int32) (p3 : Int32) (G : HG) (post : Int32 → HG → Prop) : Prop :=
  gtQ G a0 0 1 fun q1 => nnq q1 fun a2 => gtI G a2 2 4 fun x3 => post (if (0 : Int32) < (if ((p2 + p3) - p1) < x3 then ((p2 + p3) - p1) else x3) then (if ((p2 + p3) - p1) < x3 then ((p2 + p3) - p1) else x3) else (0 : Int32)) G
abbrev rhX0_sums (fr lo : Nat) : Room := { frames := fr + 1, cells := 0, slots := 0, locals := lo + 40 }
theorem mhX0_sums (l : Launch) (Z : (Nat → Prop) → State → Heap → Prop) (D : va_G) (j : JX) (Λ : JLam) (fr lo : Nat) (E : JE l Z D j Λ fr lo) (a0 : Nat) (p1 : Int32) (p2 : Int32) (p3 : Int32) (G : HG) (post : Int32 → HG → Prop) (hf : hX0_sums j Λ a0 p1 p2 p3 G post) : HMi l yX0_sums (ws_ yX0_sums cX0_sums 4 (some .int)) (rhX0_sums fr lo) D jC (jty j.1) Z G [.ref a0, .int p1, .int p2, .int p3] post 0 0 := by
  refine h_openi E.1 (by decide) (by exact Nat.le_of_ble_eq_true rfl) (fun p e s m args below meth c ls A0 Q X hI hnd hnm hl hret => ?_)
  have X : XC p s m args meth c cX0_sums 4 RX0 D jC (jty j.1) A0 Z := X
  have hx := X.1
  have hb := X.2.1
  have hown := X.2.2.2.1
  have hts := X.2.2.2.2.1
  have hl : lv_has ls 4 [(0, .ref a0), (1, .int p1), (2, .int p2), (3, .int p3)] := by exact hl
  unfold hX0_sums at hf
  obtain ⟨H, eH⟩ : ∃ H, H = s.heap := ⟨_, rfl⟩
  obtain ⟨locs, eL⟩ : ∃ locs : List Loc, locs = [] := ⟨_, rfl⟩
  have hI : HI D jC G A0 s.heap H locs := by rw [eH, eL]; exact hI
  rw [← eL]
  suffices h : W p l e (rhX0_sums fr lo) s m args below meth c H locs 0 0 Q (F0 m 0 ls []) by rw [eH] at h; exact h
  clear eH eL
  refine lv_iconst (v := 0) hx hb dX0_sums_0 (by decide) ?_
  refine lv_aload_n hx hb dX0_sums_1 rfl (lv_at hl 0 rfl) ?_
  refine hr_gtQ X hI (rfl : jC.1[0]? = some (RX0, TX0, 20)) in_X0 1 (Nat.le_of_ble_eq_true rfl) hf q653 (fun _ h => h) dX0_sums_2 (fun q1 hf => ?_)
  obtain ⟨a2, ea2, hf⟩ := hf
  revert hl hf
  subst ea2
  intro hl hf
  have hl : lv_has ls 4 [(0, .ref a0), (1, .int p1), (2, .int p2), (3, .int p3)] := hl
  refine hr_gtIN X hI (rfl : jC.1[2]? = some (RX2, TX2, 11)) in_X2 4 (Nat.le_of_ble_eq_true rfl) hf (E.nw X q490 rfl) (fun _ h => h) dX0_sums_5 (fun x3 hf => ?_)
  refine lv_iload_n hx hb dX0_sums_8 rfl (lv_at hl 2 rfl) ?_
  refine lv_iload_n hx hb dX0_sums_9 rfl (lv_at hl 3 rfl) ?_
  refine lv_iadd hx hb dX0_sums_10 ?_
  refine lv_iload_n hx hb dX0_sums_11 rfl (lv_at hl 1 rfl) ?_
  refine lv_isub hx hb dX0_sums_12 ?_
  refine x_mmin X hl.1 q637 q638 q173 q639 (by show 1 ≤ fr + 1 ∧ 21 ≤ lo + 40; omega) (Nat.le_of_ble_eq_true rfl) ⟨Nat.le_refl _, Nat.le_refl _⟩ dX0_sums_13 ?_
  refine x_mmax X hl.1 q545 q546 q173 q547 (by show 1 ≤ fr + 1 ∧ 21 ≤ lo + 40; omega) (Nat.le_of_ble_eq_true rfl) ⟨Nat.le_refl _, Nat.le_refl _⟩ dX0_sums_16 ?_
  exact hret hf hI dX0_sums_19 (Nat.le_refl _) (Nat.le_refl _)
/-! MergeJudge.late(III)I -/
def hX0_late (j : JX) (Λ : JLam) (a0 : Nat) (p1 : Int32) (p2 : Int32) (p3 : Int32) (G : HG) (post : Int32 → HG → Prop) : Prop :=
  (p2 = p1 → (post p3 G)) ∧ (¬ p2 = p1 → ((p3 = p1 → (post p2 G)) ∧ (¬ p3 = p1 → (gtQ G a0 0 4 fun q3 => nnq q3 fun a4 => Λ.1 a4 p1 p2 p3 G fun x6 G5 => post x6 G5))))
abbrev rhX0_late (fr lo : Nat) : Room := { frames := fr + 1, cells := 0, slots := 0, locals := lo + 40 }
theorem mhX0_late (l : Launch) (Z : (Nat → Prop) → State → Heap → Prop) (D : va_G) (j : JX) (Λ : JLam) (fr lo : Nat) (E : JE l Z D j Λ fr lo) (a0 : Nat) (p1 : Int32) (p2 : Int32) (p3 : Int32) (G : HG) (post : Int32 → HG → Prop) (hf : hX0_late j Λ a0 p1 p2 p3 G post) : HMi l yX0_late (ws_ yX0_late cX0_late 4 (some .int)) (rhX0_late fr lo) D jC (jty j.1) Z G [.ref a0, .int p1, .int p2, .int p3] post 0 0 := by
  refine h_openi E.1 (by decide) (by exact Nat.le_of_ble_eq_true rfl) (fun p e s m args below meth c ls A0 Q X hI hnd hnm hl hret => ?_)
  have X : XC p s m args meth c cX0_late 4 RX0 D jC (jty j.1) A0 Z := X
  have hx := X.1
  have hb := X.2.1
  have hown := X.2.2.2.1
  have hts := X.2.2.2.2.1
  have hl : lv_has ls 4 [(0, .ref a0), (1, .int p1), (2, .int p2), (3, .int p3)] := by exact hl
  unfold hX0_late at hf
  obtain ⟨H, eH⟩ : ∃ H, H = s.heap := ⟨_, rfl⟩
  obtain ⟨locs, eL⟩ : ∃ locs : List Loc, locs = [] := ⟨_, rfl⟩
  have hI : HI D jC G A0 s.heap H locs := by rw [eH, eL]; exact hI
  rw [← eL]
  suffices h : W p l e (rhX0_late fr lo) s m args below meth c H locs 0 0 Q (F0 m 0 ls []) by rw [eH] at h; exact h
  clear eH eL
  refine lv_iload_n hx hb dX0_late_0 rfl (lv_at hl 2 rfl) ?_
  refine lv_iload_n hx hb dX0_late_1 rfl (lv_at hl 1 rfl) ?_
  refine lv_icmp_ne (tgt := 9) hx hb dX0_late_2 (by decide) (fun c1 => ?_) (fun c1 => ?_)
  · have hf := hf.2 c1
    refine lv_iload_n hx hb dX0_late_9 rfl (lv_at hl 3 rfl) ?_
    refine lv_iload_n hx hb dX0_late_10 rfl (lv_at hl 1 rfl) ?_
    refine lv_icmp_ne (tgt := 18) hx hb dX0_late_11 (by decide) (fun c2 => ?_) (fun c2 => ?_)
    · have hf := hf.2 c2
      refine lv_aload_n hx hb dX0_late_18 rfl (lv_at hl 0 rfl) ?_
      refine hr_gtQ X hI (rfl : jC.1[0]? = some (RX0, TX0, 20)) in_X0 4 (Nat.le_of_ble_eq_true rfl) hf q656 (fun _ h => h) dX0_late_19 (fun q3 hf => ?_)
      refine lv_iload_n hx hb dX0_late_22 rfl (lv_at hl 1 rfl) ?_
      refine lv_iload_n hx hb dX0_late_23 rfl (lv_at hl 2 rfl) ?_
      refine lv_iload_n hx hb dX0_late_24 rfl (lv_at hl 3 rfl) ?_
      obtain ⟨a4, ea4, hf⟩ := hf
      revert hl hf
      subst ea4
      intro hl hf
      have hl : lv_has ls 4 [(0, .ref a0), (1, .int p1), (2, .int p2), (3, .int p3)] := hl
      refine hr_merge E X hI hf q647 hl.1 (Nat.le_of_ble_eq_true rfl) ⟨Nat.le_add_right _ _, Nat.le_add_right _ _⟩ ⟨Nat.le_refl _, Nat.le_refl _⟩ dX0_late_25 (fun x6 G5 H locs hf hI => ?_)
      exact hret hf hI dX0_late_30 (Nat.le_refl _) (Nat.le_refl _)
    · have hf := hf.1 c2
      refine lv_iload_n hx hb dX0_late_14 rfl (lv_at hl 2 rfl) ?_
      refine lv_goto (tgt := 30) hx hb dX0_late_15 (by decide) ?_
      exact hret hf hI dX0_late_30 (Nat.le_refl _) (Nat.le_refl _)
  · have hf := hf.1 c1
    refine lv_iload_n hx hb dX0_late_5 rfl (lv_at hl 3 rfl) ?_
    refine lv_goto (tgt := 30) hx hb dX0_late_6 (by decide) ?_
    exact hret hf hI dX0_late_30 (Nat.le_refl _) (Nat.le_refl _)
/-! MergeJudge.feed(IIIII)I -/
def hX0_feed_b45 (j : JX) (Λ : JLam) (a0 : Nat) (p1 : Int32) (p2 : Int32) (p3 : Int32) (p4 : Int32) (p5 : Int32) (post : Int32 → HG → Prop) (K45 : Nat → Int32 → Nat → Nat → HG → Prop) (la6 : Nat) (lx7 : Int32) (mc ms : Nat) (G : HG) : Prop :=
  ((20 : Int32) ≤ lx7 → (gtI G a0 0 6 fun x11 => ptV G a0 0 6 (.int (x11 + 20)) fun G12 => gtI G12 a0 0 6 fun x13 => post x13 G12)) ∧ (¬ (20 : Int32) ≤ lx7 → (gtQ G a0 0 5 fun q14 => gtI G a0 0 6 fun x15 => ldI G la6 (j.1 0) (lx7 / 4) fun x16 => nnq q14 fun a17 => stI G a17 (j.1 2) (x15 + lx7) (vp_nar .byte ((x16 >>> (((24 : Int32) - ((8 : Int32) * (lx7 - lx7 / 4 * 4))) &&& 31)).toInt8.toInt32)) fun G18 => K45 la6 (lx7 + 1) mc ms G18))
def hX0_feed_l45 (j : JX) (Λ : JLam) (a0 : Nat) (p1 : Int32) (p2 : Int32) (p3 : Int32) (p4 : Int32) (p5 : Int32) (post : Int32 → HG → Prop) : Nat → Nat → Int32 → Nat → Nat → HG → Prop
  | 0 => fun _ _ _ _ _ => False
  | n + 1 => fun la6 lx7 mc ms G => hX0_feed_b45 j Λ a0 p1 p2 p3 p4 p5 post (hX0_feed_l45 j Λ a0 p1 p2 p3 p4 p5 post n) la6 lx7 mc ms G
def hX0_feed (j : JX) (Λ : JLam) (a0 : Nat) (p1 : Int32) (p2 : Int32) (p3 : Int32) (p4 : Int32) (p5 : Int32) (mc ms : Nat) (G : HG) (post : Int32 → HG → Prop) : Prop :=
  gtI G a0 0 6 fun x1 => ((x1 + 20) ≤ (400 : Int32) → (1 ≤ mc ∧ (5 : Int32).toNatClampNeg ≤ ms ∧ (¬ (5 : Int32) < 0 ∧ (5 : Int32).toNatClampNeg ≤ 65536 ∧ mkO G (.inl (j.1 0, (5 : Int32).toNatClampNeg, .inl (fun _ => 0))) fun a3 G4 => stI G4 a3 (j.1 0) (0 : Int32) p1 fun G5 => stI G5 a3 (j.1 0) (1 : Int32) p2 fun G6 => stI G6 a3 (j.1 0) (2 : Int32) p3 fun G7 => stI G7 a3 (j.1 0) (3 : Int32) p4 fun G8 => stI G8 a3 (j.1 0) (4 : Int32) p5 fun G9 => ∃ n, hX0_feed_l45 j Λ a0 p1 p2 p3 p4 p5 post n a3 (0 : Int32) (mc - 1) (ms - (5 : Int32).toNatClampNeg) G9))) ∧ (¬ (x1 + 20) ≤ (400 : Int32) → (post ((-1) : Int32) G))
abbrev rhX0_feed (fr lo mc ms : Nat) : Room := { frames := fr + 1, cells := mc, slots := ms, locals := lo + 40 }
theorem mhX0_feed (l : Launch) (Z : (Nat → Prop) → State → Heap → Prop) (D : va_G) (j : JX) (Λ : JLam) (fr lo : Nat) (E : JE l Z D j Λ fr lo) (a0 : Nat) (p1 : Int32) (p2 : Int32) (p3 : Int32) (p4 : Int32) (p5 : Int32) (mc ms : Nat) (G : HG) (post : Int32 → HG → Prop) (hf : hX0_feed j Λ a0 p1 p2 p3 p4 p5 mc ms G post) : HMi l yX0_feed (ws_ yX0_feed cX0_feed 8 (some .int)) (rhX0_feed fr lo mc ms) D jC (jty j.1) Z G [.ref a0, .int p1, .int p2, .int p3, .int p4, .int p5] post mc ms := by
  obtain ⟨MC, eMC⟩ : ∃ MC, MC = mc := ⟨_, rfl⟩
  obtain ⟨MS, eMS⟩ : ∃ MS, MS = ms := ⟨_, rfl⟩
  suffices goal : HMi l yX0_feed (ws_ yX0_feed cX0_feed 8 (some .int)) (rhX0_feed fr lo MC MS) D jC (jty j.1) Z G [.ref a0, .int p1, .int p2, .int p3, .int p4, .int p5] post MC MS by rw [eMC, eMS] at goal; exact goal
  have hm0_ : 0 + mc ≤ MC ∧ 0 + ms ≤ MS := by omega
  clear eMC eMS
  refine h_openi E.1 (by decide) (by exact Nat.le_of_ble_eq_true rfl) (fun p e s m args below meth c ls A0 Q X hI hnd hnm hl hret => ?_)
  have X : XC p s m args meth c cX0_feed 8 RX0 D jC (jty j.1) A0 Z := X
  have hx := X.1
  have hb := X.2.1
  have hown := X.2.2.2.1
  have hts := X.2.2.2.2.1
  have L45 : ∀ (n : Nat) (la6 : Nat) (lx7 : Int32) (mc ms : Nat) (G : HG), hX0_feed_l45 j Λ a0 p1 p2 p3 p4 p5 post n la6 lx7 mc ms G → ∀ (cells slots : Nat), cells + mc ≤ MC ∧ slots + ms ≤ MS → ∀ (H : Heap) (locs : List Loc), HI D jC G A0 s.heap H locs → ∀ (ls : Array Slot), lv_has ls 8 [(0, .ref a0), (6, .ref la6), (7, .int lx7)] → W p l e (rhX0_feed fr lo MC MS) s m args below meth c H locs cells slots Q (F0 m 45 ls []) := by
    intro n45
    induction n45 with
    | zero => intro la6 lx7 mc ms G hf; exact hf.elim
    | succ n45 ih45 =>
      intro la6 lx7 mc ms G hf cells slots hm H locs hI ls hl
      have hf : hX0_feed_b45 j Λ a0 p1 p2 p3 p4 p5 post (hX0_feed_l45 j Λ a0 p1 p2 p3 p4 p5 post n45) la6 lx7 mc ms G := hf
      unfold hX0_feed_b45 at hf
      refine lv_iload hx hb dX0_feed_45 (lv_at hl 2 rfl) ?_
      refine lv_bipush (v := 20) hx hb dX0_feed_47 (by decide) ?_
      refine lv_icmp_ge (tgt := 89) hx hb dX0_feed_49 (by decide) (fun c10 => ?_) (fun c10 => ?_)
      · have hf := hf.1 c10
        refine lv_aload_n hx hb dX0_feed_89 rfl (lv_at hl 0 rfl) ?_
        refine lv_dup hx hb dX0_feed_90 rfl ?_
        refine hr_gtI X hI (rfl : jC.1[0]? = some (RX0, TX0, 20)) in_X0 6 (Nat.le_of_ble_eq_true rfl) hf q658 (fun _ h => h) dX0_feed_91 (fun x11 hf => ?_)
        refine lv_bipush (v := 20) hx hb dX0_feed_94 (by decide) ?_
        refine lv_iadd hx hb dX0_feed_96 ?_
        refine hr_pt X hI (rfl : jC.1[0]? = some (RX0, TX0, 20)) in_X0 6 (Nat.le_of_ble_eq_true rfl) tyX0 tyX0_ok nmX0 hf q658 (fun _ h => h) rfl rfl rfl dX0_feed_97 (fun G12 H locs hf hI => ?_)
        refine lv_aload_n hx hb dX0_feed_100 rfl (lv_at hl 0 rfl) ?_
        refine hr_gtI X hI (rfl : jC.1[0]? = some (RX0, TX0, 20)) in_X0 6 (Nat.le_of_ble_eq_true rfl) hf q658 (fun _ h => h) dX0_feed_101 (fun x13 hf => ?_)
        exact hret hf hI dX0_feed_104 (hmC hm.1) (hmC hm.2)
      · have hf := hf.2 c10
        refine lv_aload_n hx hb dX0_feed_52 rfl (lv_at hl 0 rfl) ?_
        refine hr_gtQ X hI (rfl : jC.1[0]? = some (RX0, TX0, 20)) in_X0 5 (Nat.le_of_ble_eq_true rfl) hf q657 (fun _ h => h) dX0_feed_53 (fun q14 hf => ?_)
        refine lv_aload_n hx hb dX0_feed_56 rfl (lv_at hl 0 rfl) ?_
        refine hr_gtI X hI (rfl : jC.1[0]? = some (RX0, TX0, 20)) in_X0 6 (Nat.le_of_ble_eq_true rfl) hf q658 (fun _ h => h) dX0_feed_57 (fun x15 hf => ?_)
        refine lv_iload hx hb dX0_feed_60 (lv_at hl 2 rfl) ?_
        refine lv_iadd hx hb dX0_feed_62 ?_
        refine lv_aload hx hb dX0_feed_63 (lv_at hl 1 rfl) ?_
        refine lv_iload hx hb dX0_feed_65 (lv_at hl 2 rfl) ?_
        refine lv_iconst (v := 4) hx hb dX0_feed_67 (by decide) ?_
        refine lv_idiv hx hb dX0_feed_68 (by decide) ?_
        refine hr_ild X hI 0 rfl hf dX0_feed_69 (fun x16 hf => ?_)
        refine lv_bipush (v := 24) hx hb dX0_feed_70 (by decide) ?_
        refine lv_bipush (v := 8) hx hb dX0_feed_72 (by decide) ?_
        refine lv_iload hx hb dX0_feed_74 (lv_at hl 2 rfl) ?_
        refine lv_iconst (v := 4) hx hb dX0_feed_76 (by decide) ?_
        refine lv_irem hx hb dX0_feed_77 (by decide) ?_
        refine lv_imul hx hb dX0_feed_78 ?_
        refine lv_isub hx hb dX0_feed_79 ?_
        refine lv_ishr hx hb dX0_feed_80 ?_
        refine lv_i2b hx hb dX0_feed_81 rfl ?_
        obtain ⟨a17, ea17, hf⟩ := hf
        revert hl hf
        subst ea17
        intro hl hf
        have hl : lv_has ls 8 [(0, .ref a0), (6, .ref la6), (7, .int lx7)] := hl
        refine hr_bst X hI 2 rfl hf dX0_feed_82 (fun G18 H locs hf hI => ?_)
        refine lv_iinc (v := lx7 + 1) (lv' := [(7, .int (lx7 + 1)), (0, .ref a0), (6, .ref la6)]) hx hb dX0_feed_83 hl (k := 2) rfl rfl (by decide) rfl (fun ls hl => ?_)
        refine lv_goto (tgt := 45) hx hb dX0_feed_86 (by decide) ?_
        exact ih45 la6 (lx7 + 1) mc ms G18 hf _ _ hm H locs hI ls (lv_sub hl [1, 2, 0] rfl)
  have hl : lv_has ls 8 [(0, .ref a0), (1, .int p1), (2, .int p2), (3, .int p3), (4, .int p4), (5, .int p5)] := by exact hl
  unfold hX0_feed at hf
  obtain ⟨H, eH⟩ : ∃ H, H = s.heap := ⟨_, rfl⟩
  obtain ⟨locs, eL⟩ : ∃ locs : List Loc, locs = [] := ⟨_, rfl⟩
  have hI : HI D jC G A0 s.heap H locs := by rw [eH, eL]; exact hI
  rw [← eL]
  obtain ⟨cells, eC⟩ : ∃ n : Nat, n = 0 := ⟨_, rfl⟩
  obtain ⟨slots, eS⟩ : ∃ n : Nat, n = 0 := ⟨_, rfl⟩
  have hm : cells + mc ≤ MC ∧ slots + ms ≤ MS := by rw [eC, eS]; exact hm0_
  suffices h : W p l e (rhX0_feed fr lo MC MS) s m args below meth c H locs cells slots Q (F0 m 0 ls []) by rw [eH, eC, eS] at h; exact h
  clear eH eL eC eS
  refine lv_aload_n hx hb dX0_feed_0 rfl (lv_at hl 0 rfl) ?_
  refine hr_gtI X hI (rfl : jC.1[0]? = some (RX0, TX0, 20)) in_X0 6 (Nat.le_of_ble_eq_true rfl) hf q658 (fun _ h => h) dX0_feed_1 (fun x1 hf => ?_)
  refine lv_bipush (v := 20) hx hb dX0_feed_4 (by decide) ?_
  refine lv_iadd hx hb dX0_feed_6 ?_
  refine lv_sipush (v := 400) hx hb dX0_feed_7 (by decide) ?_
  refine lv_icmp_le (tgt := 15) hx hb dX0_feed_10 (by decide) (fun c2 => ?_) (fun c2 => ?_)
  · have hf := hf.1 c2
    refine lv_iconst (v := 5) hx hb dX0_feed_15 (by decide) ?_
    obtain ⟨hb1, hb2, hf⟩ := hf
    refine hr_newai X hI 0 q323 rfl hf (hmA hm.1 hb1) (hmA hm.2 hb2) dX0_feed_16 (fun a3 G4 H hf hI => ?_)
    have hm := And.intro (hmB hm.1 hb1) (hmB hm.2 hb2)
    clear hb1 hb2
    refine lv_dup hx hb dX0_feed_18 rfl ?_
    refine lv_iconst (v := 0) hx hb dX0_feed_19 (by decide) ?_
    refine lv_iload_n hx hb dX0_feed_20 rfl (lv_at hl 1 rfl) ?_
    refine hr_ist X hI 0 rfl hf dX0_feed_21 (fun G5 H locs hf hI => ?_)
    refine lv_dup hx hb dX0_feed_22 rfl ?_
    refine lv_iconst (v := 1) hx hb dX0_feed_23 (by decide) ?_
    refine lv_iload_n hx hb dX0_feed_24 rfl (lv_at hl 2 rfl) ?_
    refine hr_ist X hI 0 rfl hf dX0_feed_25 (fun G6 H locs hf hI => ?_)
    refine lv_dup hx hb dX0_feed_26 rfl ?_
    refine lv_iconst (v := 2) hx hb dX0_feed_27 (by decide) ?_
    refine lv_iload_n hx hb dX0_feed_28 rfl (lv_at hl 3 rfl) ?_
    refine hr_ist X hI 0 rfl hf dX0_feed_29 (fun G7 H locs hf hI => ?_)
    refine lv_dup hx hb dX0_feed_30 rfl ?_
    refine lv_iconst (v := 3) hx hb dX0_feed_31 (by decide) ?_
    refine lv_iload hx hb dX0_feed_32 (lv_at hl 4 rfl) ?_
    refine hr_ist X hI 0 rfl hf dX0_feed_34 (fun G8 H locs hf hI => ?_)
    refine lv_dup hx hb dX0_feed_35 rfl ?_
    refine lv_iconst (v := 4) hx hb dX0_feed_36 (by decide) ?_
    refine lv_iload hx hb dX0_feed_37 (lv_at hl 5 rfl) ?_
    refine hr_ist X hI 0 rfl hf dX0_feed_39 (fun G9 H locs hf hI => ?_)
    refine lv_astore (lv' := [(6, .ref a3), (0, .ref a0), (1, .int p1), (2, .int p2), (3, .int p3), (4, .int p4), (5, .int p5)]) hx hb dX0_feed_40 hl (by decide) rfl (fun ls hl => ?_)
    refine lv_iconst (v := 0) hx hb dX0_feed_42 (by decide) ?_
    refine lv_istore (lv' := [(7, .int 0), (6, .ref a3), (0, .ref a0), (1, .int p1), (2, .int p2), (3, .int p3), (4, .int p4), (5, .int p5)]) hx hb dX0_feed_43 hl (by decide) rfl (fun ls hl => ?_)
    obtain ⟨n, hf⟩ := hf
    exact L45 n a3 (0 : Int32) (mc - 1) (ms - (5 : Int32).toNatClampNeg) G9 hf _ _ hm H locs hI ls (lv_sub hl [2, 1, 0] rfl)
  · have hf := hf.2 c2
    refine lv_iconst (v := -1) hx hb dX0_feed_13 (by decide) ?_
    exact hret hf hI dX0_feed_14 (hmC hm.1) (hmC hm.2)
